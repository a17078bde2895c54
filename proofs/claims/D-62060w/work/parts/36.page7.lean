/-! the page's tree: a node is put -/
set_option maxRecDepth 100000
def setX (T : TS) (f : Nat → List Int) (K : Nat) : TS := (T.1, T.2.1, T.2.2.1, T.2.2.2.1, T.2.2.2.2.1, T.2.2.2.2.2.1, T.2.2.2.2.2.2.1, T.2.2.2.2.2.2.2.1, f, K)
/-- a node that stands nowhere yet: an element, or a text with these letters -/
def DetN (h : HP) (pg : Nat) (φ : Nat → Nat) (T : TS) (a : Nat) (x c : Int) (X : List Int) : Prop :=
  (∀ i, i < tN T → φ i ≠ a) ∧ (x ≠ 1 → a ∈ pL h (pg + 5) ∧ pI h a 2 = x ∧ pI h a 3 = c ∧ pI h a 6 = 0 ∧ pL h (a + 1) = []) ∧ (x = 1 → a ∈ pL h (pg + 4) ∧ pB h (a + 1) = X) ∧ CntP h pg (va_up φ (tN T) a) (mkT T x c (0, 0, 0))
section PB
variable {h h' h1 : HP} {pg u a : Nat} {φ : Nat → Nat} {T : TS} {x c : Int} {X : List Int} {q : Nat × Nat × Nat}
theorem Det.n (D : Det h pg φ T a x c) (hx : x ≠ 1) : DetN h pg φ T a x c [] := ⟨D.2.1, fun _ => ⟨D.1, D.2.2.1⟩, fun z => (hx z).elim, D.2.2.2⟩
theorem kids_old {i : Nat} (hW : WF T) (hi : i ≠ q.2.2) (hw : q.2.2 < tN T) : kids (mkT T x c q) i = kids T i := by
  unfold kids
  rw [tO_mkT, tP_mkT]
  unfold insN
  have hsp : (tO T) = (tO T).take q.1 ++ (tO T).drop q.1 := (List.take_append_drop _ _).symm
  have hlt : ∀ j ∈ tO T, va_up (tP T) (tN T) q.2.2 j = tP T j := fun j hj => va_up_n _ _ _ _ (by have := hW.1.2.2.2.1 j hj; omega)
  conv => rhs; rw [hsp, List.filter_append]
  rw [List.filter_append, List.filter_cons, va_up_s, if_neg (by simp; intro _; exact fun z => hi z.symm)]
  congr 1
  · exact List.filter_congr (fun j hj => by rw [hlt j (List.mem_of_mem_take hj)])
  · exact List.filter_congr (fun j hj => by rw [hlt j (List.mem_of_mem_drop hj)])
theorem kids_new (hW : WF T) (hw : q.2.2 < tN T) : kids (mkT T x c q) (tN T) = [] := by
  rw [kids_old hW (by omega) hw]
  unfold kids
  rw [List.filter_eq_nil_iff]
  intro j hj
  simp only [Bool.and_eq_true, decide_eq_true_eq, not_and]
  intro _ z
  have := hW.par (hW.1.2.2.2.1 j hj)
  omega
theorem kids_put (hW : WF T) (hw : q.2.2 < tN T) : kids (mkT T x c q) q.2.2 = (kids T q.2.2).take (kx T q) ++ tN T :: (kids T q.2.2).drop (kx T q) := by
  have h1 := hW.1.1
  unfold kids kx
  rw [tO_mkT, tP_mkT]
  unfold insN
  have hsp : (tO T) = (tO T).take q.1 ++ (tO T).drop q.1 := (List.take_append_drop _ _).symm
  have hlt : ∀ j ∈ tO T, va_up (tP T) (tN T) q.2.2 j = tP T j := fun j hj => va_up_n _ _ _ _ (by have := hW.1.2.2.2.1 j hj; omega)
  conv => rhs; arg 1; arg 2; rw [hsp, List.filter_append]
  conv => rhs; arg 2; arg 2; arg 2; rw [hsp, List.filter_append]
  rw [List.take_left' rfl, List.drop_left' rfl, List.filter_append, List.filter_cons, va_up_s, if_pos (by simp; omega)]
  congr 1
  · exact List.filter_congr (fun j hj => by rw [hlt j (List.mem_of_mem_take hj)])
  · congr 1
    exact List.filter_congr (fun j hj => by rw [hlt j (List.mem_of_mem_drop hj)])
theorem kx_le (q : Nat × Nat × Nat) : kx T q ≤ (kids T q.2.2).length := by
  unfold kx kids
  conv => rhs; rw [← List.take_append_drop q.1 (tO T), List.filter_append, List.length_append]
  omega
theorem RepB.putG (H : RepB h pg φ T) (hW : WF T) (hw : q.2.2 < tN T) (hwm : tM T q.2.2 ≠ 1) (D : DetN h pg φ T a x c X) (K : Nat) (hR : RU h (u + 1)) : ∃ h', f_X2_put h (φ q.2.2) ((kx T q : Nat) : Int) a = some h' ∧ RepB h' pg (va_up φ (tN T) a) (setX (mkT T x c q) (va_up (tX T) (tN T) X) K) ∧ CntP h' pg (va_up φ (tN T) a) (setX (mkT T x c q) (va_up (tX T) (tN T) X) K) ∧ FP pg h h' ∧ RU h' u := by
  have hb := H.1
  have hN := hW.1.1
  have hE := H.elc hw hwm
  have hel := H.2.2.2.1 _ hw hwm
  have hkl := kids_len hW q.2.2
  have h24 := hW.1.2.1
  have hkx := kx_le (T := T) q
  obtain ⟨d1, d2, d3, d4⟩ := D
  have ha : (pK h a = 2 ∧ x ≠ 1 ∧ pK h (a + 1) = 20) ∨ (pK h a = 3 ∧ x = 1 ∧ pK h (a + 1) = 30) := by
    by_cases e : x = 1
    · have := hb.2.2.2.1.2.2.1 a (d3 e).1
      exact Or.inr ⟨this.1, e, this.2.2.1⟩
    · have := hb.2.2.2.1.2.1 a (d2 e).1
      exact Or.inl ⟨this.1, e, this.2.2.1⟩
  have hpa : pg ≠ a := kne h (by rw [hb.1.1]; omega)
  obtain ⟨h1, g1, g2, g3⟩ := lIns_eq (u := u) (a := φ q.2.2 + 1) (x := a) (k := kx T q) (by rw [hE.2.2.1]; decide) (by show pK h a = 2 ∨ pK h a = 3 ∨ pK h a = 7; omega) (by rw [hel.2.2.2, List.length_map]; omega) hE.2.2.2.2.2.2.2.2 (by rw [hel.2.2.2, List.length_map]; exact hkx) hR
  obtain ⟨k1, k2, k3, k4, k5, k6⟩ := g2.k
  have Hg := H.gr g2
  have hb4 := hb.2.1
  have e4 : pg + 4 ≠ φ q.2.2 + 1 := kne h (by rw [hE.2.2.1]; omega)
  have e5 : pg + 5 ≠ φ q.2.2 + 1 := kne h (by rw [hE.2.2.1]; omega)
  have e6 : pg + 6 ≠ φ q.2.2 + 1 := kne h (by rw [hE.2.2.1]; omega)
  have hSHp : SHp (wP (wL h1 (φ q.2.2 + 1) ((pL h (φ q.2.2 + 1)).take (kx T q) ++ a :: (pL h (φ q.2.2 + 1)).drop (kx T q))) a 0 (some (φ q.2.2))) pg := (Hg.1.aL (Ne.symm e4) (Ne.symm e5) _).aP (Or.inl ⟨rfl, Ne.symm hpa⟩) _
  have hup : ∀ i, i < tN T → va_up φ (tN T) a i = φ i := fun i hi => va_up_n _ _ _ _ (by omega)
  have hmap : ∀ l : List Nat, (∀ i ∈ l, i < tN T) → l.map (va_up φ (tN T) a) = l.map φ := fun l hl => map_up hl
  have hkid : ∀ i, ∀ j ∈ kids T i, j < tN T := fun i j hj => hW.1.2.2.2.1 j (mem_kids.mp hj).1
  have hL5 : pL (wP (wL h1 (φ q.2.2 + 1) ((pL h (φ q.2.2 + 1)).take (kx T q) ++ a :: (pL h (φ q.2.2 + 1)).drop (kx T q))) a 0 (some (φ q.2.2))) (pg + 5) = pL h (pg + 5) := by rw [pL_wP, pL_ne _ e5, k2]
  have hL4 : pL (wP (wL h1 (φ q.2.2 + 1) ((pL h (φ q.2.2 + 1)).take (kx T q) ++ a :: (pL h (φ q.2.2 + 1)).drop (kx T q))) a 0 (some (φ q.2.2))) (pg + 4) = pL h (pg + 4) := by rw [pL_wP, pL_ne _ e4, k2]
  have hC : RepC (wP (wL h1 (φ q.2.2 + 1) ((pL h (φ q.2.2 + 1)).take (kx T q) ++ a :: (pL h (φ q.2.2 + 1)).drop (kx T q))) a 0 (some (φ q.2.2))) pg (va_up φ (tN T) a) (setX (mkT T x c q) (va_up (tX T) (tN T) X) K) := by
    refine ⟨hSHp, by rw [hup 0 (by omega)]; exact H.2.1, ⟨fun i hi h0 hm => ?_, fun i hi hm => ?_, fun i j hi hj e => ?_⟩, fun i hi hm => ?_, fun i hi hm => ?_, fun i hi => ?_, ?_, ?_⟩
    · change va_up (tM T) (tN T) x i ≠ 1 at hm
      change i < tN T + 1 at hi
      rw [hL5]
      by_cases z : i = tN T
      · rw [z, va_up_s] at hm ⊢
        exact (d2 hm).1
      · rw [va_up_n _ _ _ _ z] at hm ⊢
        exact H.2.2.1.1 i (by omega) h0 hm
    · change va_up (tM T) (tN T) x i = 1 at hm
      change i < tN T + 1 at hi
      rw [hL4]
      by_cases z : i = tN T
      · rw [z, va_up_s] at hm ⊢
        exact (d3 hm).1
      · rw [va_up_n _ _ _ _ z] at hm ⊢
        exact H.2.2.1.2.1 i (by omega) hm
    · change i < tN T + 1 at hi
      change j < tN T + 1 at hj
      by_cases z : i = tN T
      · by_cases y : j = tN T
        · omega
        · rw [z, va_up_s, hup j (by omega)] at e
          exact (d1 j (by omega) e.symm).elim
      · by_cases y : j = tN T
        · rw [y, va_up_s, hup i (by omega)] at e
          exact (d1 i (by omega) e).elim
        · rw [hup i (by omega), hup j (by omega)] at e
          exact H.2.2.1.2.2 i j (by omega) (by omega) e
    · change va_up (tM T) (tN T) x i ≠ 1 at hm
      change i < tN T + 1 at hi
      show _ = va_up (tM T) (tN T) x i ∧ _ = va_up (tC T) (tN T) c i ∧ _ = (if i ∈ tS T then 1 else 0) ∧ _ = (kids (mkT T x c q) i).map _
      rw [pI_wP, pI_wL, k3, pL_wP]
      by_cases z : i = tN T
      · rw [z] at hm ⊢
        rw [va_up_s] at hm
        have hnS : tN T ∉ tS T := fun y => by have := (hW.stk _ y).1; omega
        obtain ⟨f1, f2, f3, f4, f5⟩ := d2 hm
        have hne : a + 1 ≠ φ q.2.2 + 1 := fun y => d1 _ hw (by omega)
        rw [va_up_s, va_up_s, va_up_s, if_neg hnS, kids_new hW hw, pL_ne _ hne, k2]
        exact ⟨f2, f3, f4, f5⟩
      · have hi' : i < tN T := by omega
        rw [va_up_n _ _ _ _ z] at hm
        rw [va_up_n _ _ _ _ z, va_up_n _ _ _ _ z, va_up_n _ _ _ _ z]
        obtain ⟨x1, x2, x3, x4⟩ := H.2.2.2.1 i hi' hm
        refine ⟨x1, x2, x3, ?_⟩
        by_cases y : i = q.2.2
        · rw [y, pL_wL, if_pos rfl, kids_put hW hw, hel.2.2.2, List.map_append, List.map_cons, va_up_s, hmap _ (fun j hj => hkid _ j (List.mem_of_mem_take hj)), hmap _ (fun j hj => hkid _ j (List.mem_of_mem_drop hj)), List.map_take, List.map_drop]
        · have hne : φ i + 1 ≠ φ q.2.2 + 1 := fun w => y (H.2.2.1.2.2 i _ hi' hw (by omega))
          rw [pL_ne _ hne, k2, kids_old hW y hw, hmap _ (hkid i)]
          exact x4
    · change va_up (tM T) (tN T) x i = 1 at hm
      change i < tN T + 1 at hi
      show pB h1 _ = va_up (tX T) (tN T) X i
      rw [k5]
      by_cases z : i = tN T
      · rw [z, va_up_s] at hm
        rw [z, va_up_s, va_up_s]
        exact (d3 hm).2
      · rw [va_up_n _ _ _ _ z] at hm
        rw [va_up_n _ _ _ _ z, va_up_n _ _ _ _ z]
        exact H.2.2.2.2.1 i (by omega) hm
    · change i < tN T + 1 at hi
      show _ = if i = 0 then none else some (va_up φ (tN T) a (va_up (tP T) (tN T) q.2.2 i))
      by_cases z : i = tN T
      · rw [z, va_up_s, va_up_s, pP_wP, if_pos ⟨rfl, rfl⟩, if_neg (by omega), hup _ hw]
      · have hi' : i < tN T := by omega
        rw [va_up_n _ _ _ _ z, va_up_n _ _ _ _ z, hup _ (hW.par hi'), pP_ne _ (Or.inl (d1 i hi')), pP_wL, k4]
        exact H.2.2.2.2.2.1 i hi'
    · show _ = (tS T).map _
      rw [pL_wP, pL_ne _ e6, k2, hmap _ (fun i hi => (hW.stk i hi).1)]
      exact H.2.2.2.2.2.2.1
    · show pI h1 pg 7 = 0
      rw [k3]
      exact H.2.2.2.2.2.2.2.2
  refine ⟨_, ?_, hC.b (fun i hi hm => ?_), ?_, ?_, g3⟩
  · unfold f_X2_put
    rw [gd_c hE.1, hE.2.1, obind_some, g1, obind_some, gd_c (by show pK h1 a = 2 ∨ pK h1 a = 3; rw [k1]; omega), bnd_eq]
  · change i ∈ tS T at hi
    have hi' := (hW.stk i hi).1
    change va_up (tM T) (tN T) x i = 99 ∨ i = 0 at hm
    rw [va_up_n _ _ _ _ (by omega)] at hm
    obtain ⟨l, l1, l2, l3⟩ := Hg.l i hi hm
    have hlk := (Hg.c.lls hi' (hW.stk i hi).2 l1).1
    refine ⟨l, ?_, ?_, l3⟩
    · rw [hup i hi', pP_ne _ (Or.inr (by omega))]; exact l1
    · show _ = (va_up (tL T) (tN T) [] i).map _
      rw [va_up_n _ _ _ _ (by omega), hmap _ (fun j hj => (hW.2.2.2.1 i j hj).1), pL_wP, pL_ne _ (kne h1 (by rw [hlk, k1, hE.2.2.1]; omega))]
      exact l2
  · refine d4.mono ⟨?_, ?_, hL4, hL5⟩ rfl rfl
    · show pI h1 pg 3 = _; rw [k3]
    · show pI h1 pg 4 = _; rw [k3]
  · exact FP.xP (FP.xL (FP.gr g2 (tk2 hE.2.2.1 (by unfold treeK; omega))) (tk2 (k := 20) (by rw [k1]; exact hE.2.2.1) (by unfold treeK; omega))) (by show treeK (pK h1 a); rw [k1]; unfold treeK; omega) (fun z => (hpa z.symm).elim) (fun z => by omega)
end PB
