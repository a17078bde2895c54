/-! the page's tree: entering, a new element -/
set_option maxRecDepth 100000
/-- an element that stands nowhere yet -/
def Det (h : HP) (pg : Nat) (φ : Nat → Nat) (T : TS) (a : Nat) (x c : Int) : Prop :=
  a ∈ pL h (pg + 5) ∧ (∀ i, i < tN T → φ i ≠ a) ∧ (pI h a 2 = x ∧ pI h a 3 = c ∧ pI h a 6 = 0 ∧ pL h (a + 1) = []) ∧ CntP h pg (va_up φ (tN T) a) (mkT T x c (0, 0, 0))
/-- the heap with a new element -/
def nE (h : HP) : HP := wP (wNew (wP (wNew (wNew h 2 17) 20 3) (pX h) 4 (some (pX h + 1))) 40 7) (pX h) 7 (some (pX h + 2))
theorem wI_id {h : HP} {a k : Nat} {v : Int} (q : pI h a k = v) : wI h a k v = h := by
  unfold wI
  have : va_up (h.2.2.1 a) k v = h.2.2.1 a := by rw [← q]; exact va_up_id _ _
  rw [this, va_up_id]
section PB
variable {h h' h1 : HP} {pg u : Nat} {φ : Nat → Nat} {T : TS}
theorem RepB.enter (H : RepB h pg φ T) (hS : ∀ i ∈ tS T, i < tN T ∧ tM T i ≠ 1) (hlen : (tS T).length ≤ 40) {i : Nat} (hi : i < tN T) (hm : tM T i ≠ 1) (hs : i ∉ tS T) (hL : tL T i = []) (hn : nmOK (tM T i)) (h0 : i = 0 → tM T i = 0) (hR : RU h (u + 2)) : ∃ h', f_X0_enter h pg (φ i) = some h' ∧ RepB h' pg φ (psh T i) ∧ FP pg h h' ∧ cntS pg h h' ∧ RU h' u := by
  have hb := H.1
  have hE := H.elc hi hm
  have hk6 : pK h (pg + 6) = 24 := hb.2.1.2.2.1
  have hst := H.2.2.2.2.2.2.1
  obtain ⟨h1, g1, g2, g3⟩ := lAdd_eq (u := u + 1) (a := pg + 6) (x := φ i) (by rw [hk6]; decide) (by rw [hE.1]; decide) (by rw [hst, List.length_map]; exact hlen) hb.2.2.1.2.2.1 hR
  obtain ⟨k1, k2, k3, k4, k5, k6⟩ := g2.k
  have Hg := H.gr g2
  have HC := Hg.c.push hi hs
  rw [k2] at HC
  have HL : LsC (wI (wL h1 (pg + 6) (pL h (pg + 6) ++ [φ i])) (φ i) 6 1) φ T := (Hg.l.wl Hg.c hS (a := pg + 6) (pL h (pg + 6) ++ [φ i]) (by rw [k1, hk6]; omega)).wi _ _ _
  obtain ⟨h', e1, e2, e3, e4, e5⟩ := HC.enter2 (u := u) HL hS hi hm hs hL hn g3 h0
  refine ⟨h', ?_, e2, ?_, ?_, e5⟩
  · unfold f_X0_enter f_X2_enter
    rw [gd_c (by exact hb.1.1), hb.1.2.2.2.2.1, obind_some, g1, obind_some, gd_c (by show pK h1 (φ i) = 2; rw [k1]; exact hE.1), gd_c (by show pK h1 (φ i) = 2; rw [k1]; exact hE.1), bnd_eq, gd_c (by show pK h1 (φ i) = 2; rw [k1]; exact hE.1), e1]
    rfl
  · exact ((FP.gr g2 (by rw [hk6]; unfold treeK; omega)).trans ((FP.aL (by rw [k1, hk6]; unfold treeK; omega) _).trans (FP.aI (by rw [pK_wL, k1, hE.1]; unfold treeK; omega) (fun q => by have q2 := hE.1; rw [q, hb.1.1] at q2; omega) 1))).trans e3
  · refine ((cntS.gr g2).trans (h' := wI (wL h1 (pg + 6) (pL h (pg + 6) ++ [φ i])) (φ i) 6 1) ⟨?_, ?_, pL_ne _ (by omega), pL_ne _ (by omega)⟩).trans e4
    · rw [pI_wI, if_neg (fun z => by omega)]; rfl
    · rw [pI_wI, if_neg (fun z => by omega)]; rfl
/-! the counts -/
theorem cnt_aux (m : Nat → Int) (h0 : m 0 ≠ 1) : ∀ n, 1 ≤ n → 1 + ((List.range n).filter (fun i => decide (m i = 1))).length + ((List.range n).filter (fun i => decide (i ≠ 0) && decide (m i ≠ 1))).length = n
  | 0, q => by omega
  | 1, _ => by
    have : (List.range 1) = [0] := rfl
    rw [this, List.filter_cons, List.filter_cons, List.filter_nil, List.filter_nil, if_neg (by simpa using h0), if_neg (by simp)]
    rfl
  | n + 2, _ => by
    have ih := cnt_aux m h0 (n + 1) (by omega)
    rw [List.range_succ, List.filter_append, List.filter_append, List.length_append, List.length_append]
    by_cases e : m (n + 1) = 1
    · have e1 : [n + 1].filter (fun i => decide (m i = 1)) = [n + 1] := by rw [List.filter_cons, if_pos (by simpa using e)]; rfl
      have e2 : [n + 1].filter (fun i => decide (i ≠ 0) && decide (m i ≠ 1)) = [] := by rw [List.filter_cons, if_neg (by simp [e])]; rfl
      rw [e1, e2]; simp only [List.length_cons, List.length_nil]; omega
    · have e1 : [n + 1].filter (fun i => decide (m i = 1)) = [] := by rw [List.filter_cons, if_neg (by simpa using e)]; rfl
      have e2 : [n + 1].filter (fun i => decide (i ≠ 0) && decide (m i ≠ 1)) = [n + 1] := by rw [List.filter_cons, if_pos (by simp [e])]; rfl
      rw [e1, e2]; simp only [List.length_cons, List.length_nil]; omega
theorem WF.cnt (hW : WF T) : 1 + (txsT T).length + (elsT T).length = tN T := cnt_aux (tM T) (by rw [hW.2.1.1]; omega) (tN T) hW.1.1
theorem CntP.full (C : CntP h pg φ T) (hk : pK h pg = 1) (hW : WF T) : f_X0_full h pg = some (if tN T = 24 then 1 else 0) := by
  have h1 := hW.cnt
  have h2 := hW.1.2.1
  unfold f_X0_full
  rw [gd_c hk, gd_c hk, C.1, C.2.2.2.1]
  by_cases e : tN T = 24
  · rw [if_pos e, if_eqp (by omega)]
  · rw [if_neg e, if_eqn (by omega) (by omega) (by omega) (by omega) (by omega)]
/-! a new element's cell -/
theorem nE_eq (hR : RU h 3) : f_X2_init (wNew h 2 17) (pX h) = some (nE h) ∧ rm1 h 17 := by
  obtain ⟨r1, r2⟩ := hR
  refine ⟨?_, by omega, by omega⟩
  have z7 : zix 7 = 7 := by decide
  unfold f_X2_init f_X1_init lNew
  rw [obind_some, bnd_eq, gd_c (show rm1 (wNew h 2 17) 3 from ⟨by rw [pX_wNew]; show pX h + 1 + 1 ≤ pO h + 600000; omega, by rw [pS_wNew]; omega⟩), bnd_eq, gd_c ⟨by rw [pK_wNew, if_pos rfl], by decide⟩, obind_some, wK_wNew, gd_c (by rw [pK_wNew, if_neg (by rw [pX_wNew]; omega), pK_wNew, if_pos rfl]), bnd_eq, bnd_eq, gd_c (show rmA _ 7 from ⟨by decide, by rw [z7]; omega, by rw [pX_wP, pX_wNew, pX_wNew]; show pX h + 1 + 1 + 1 ≤ pO h + 600000; omega, by rw [pS_wP, pS_wNew, pS_wNew, z7]; omega⟩), bnd_eq, z7, gd_c (by rw [pK_wNew, if_neg (by rw [pX_wP, pX_wNew, pX_wNew]; omega), pK_wP, pK_wNew, if_neg (by rw [pX_wNew]; omega), pK_wNew, if_pos rfl]), bnd_eq]
  rfl
theorem nE_ag (h : HP) : Agr h (nE h) := (((((Agr.refl h).new 2 17).new 20 3).wp (Nat.le_refl _) 4 _).new 40 7).wp (Nat.le_refl _) 7 _
theorem nE_X (h : HP) : pX (nE h) = pX h + 3 ∧ pS (nE h) = pS h + 27 ∧ pO (nE h) = pO h := ⟨rfl, rfl, rfl⟩
theorem nE_cell (h : HP) : ELc (nE h) (pX h) ∧ pP (nE h) (pX h) 5 = none := by
  have x1 : pX (wNew h 2 17) = pX h + 1 := rfl
  have x2 : pX (wP (wNew (wNew h 2 17) 20 3) (pX h) 4 (some (pX h + 1))) = pX h + 2 := rfl
  have k0 : pK (nE h) (pX h) = 2 := by
    unfold nE
    rw [pK_wP, pK_wNew, if_neg (by rw [x2]; omega), pK_wP, pK_wNew, if_neg (by rw [x1]; omega), pK_wNew, if_pos rfl]
  have k1 : pK (nE h) (pX h + 1) = 20 := by
    unfold nE
    rw [pK_wP, pK_wNew, if_neg (by rw [x2]; omega), pK_wP, pK_wNew, if_pos (by rw [x1])]
  have k2 : pK (nE h) (pX h + 2) = 40 := by
    unfold nE
    rw [pK_wP, pK_wNew, if_pos (by rw [x2])]
  have p5 : pP (nE h) (pX h) 5 = none := by
    unfold nE
    rw [pP_ne _ (Or.inr (by omega)), pP_wNew, if_neg (by rw [x2]; omega), pP_ne _ (Or.inr (by omega)), pP_wNew, if_neg (by rw [x1]; omega), pP_wNew, if_pos rfl]
  have p4 : pP (nE h) (pX h) 4 = some (pX h + 1) := by
    unfold nE
    rw [pP_ne _ (Or.inr (by omega)), pP_wNew, if_neg (by rw [x2]; omega), pP_wP, if_pos ⟨rfl, rfl⟩]
  have p7 : pP (nE h) (pX h) 7 = some (pX h + 2) := by
    unfold nE
    rw [pP_wP, if_pos ⟨rfl, rfl⟩]
  have n2 : pN (nE h) (pX h + 2) = 7 := by
    unfold nE
    rw [pN_wP, pN_wNew, if_pos (by rw [x2])]
  have c1 : pC (nE h) (pX h + 1) ≤ 60 := by
    unfold nE
    rw [pC_wP, pC_wNew, if_neg (by rw [x2]; omega), pC_wP, pC_wNew, if_pos (by rw [x1])]
    omega
  exact ⟨⟨k0, p4, k1, p7, k2, n2, (fun l hl => by rw [p5] at hl; cases hl), by rw [(nE_X h).1]; omega, c1⟩, p5⟩
theorem SHp.addE (H : SHp h pg) {a : Nat} (hE : ELc h a) (h5 : pP h a 5 = none) (hf : a ∉ (pg + 1) :: pL h (pg + 5)) (hl : (pL h (pg + 5)).length ≤ 22) : SHp (wL h (pg + 5) (pL h (pg + 5) ++ [a])) pg := by
  obtain ⟨a0, b, c, ⟨d1, d2, d3, d4, d5, d6, d7⟩, f, g⟩ := H
  have e4 : pL (wL h (pg + 5) (pL h (pg + 5) ++ [a])) (pg + 4) = pL h (pg + 4) := pL_ne _ (by omega)
  have e5 : pL (wL h (pg + 5) (pL h (pg + 5) ++ [a])) (pg + 5) = pL h (pg + 5) ++ [a] := by rw [pL_wL, if_pos rfl]
  refine ⟨a0, b, c, ?_, ?_, ?_⟩
  · rw [e4, e5]
    refine ⟨d1, fun x hx => ?_, d3, ?_, d5, by rw [List.length_append]; simp; omega, d7⟩
    · rcases List.mem_append.mp hx with z | z
      · exact d2 x z
      · simp at z; rw [z]; exact hE
    · have : (pg + 1) :: (pL h (pg + 5) ++ [a]) = ((pg + 1) :: pL h (pg + 5)) ++ [a] := rfl
      rw [this, List.nodup_append]
      exact ⟨d4, by simp, fun x hx y hy => by simp at hy; rw [hy]; exact fun z => hf (z ▸ hx)⟩
  · rw [e5]
    have hm : ∀ x ∈ (pg + 1) :: (pL h (pg + 5) ++ [a]), x = a ∨ x ∈ (pg + 1) :: pL h (pg + 5) := fun x hx => by
      rw [show (pg + 1) :: (pL h (pg + 5) ++ [a]) = ((pg + 1) :: pL h (pg + 5)) ++ [a] from rfl] at hx
      rcases List.mem_append.mp hx with z | z
      · exact Or.inr z
      · simp at z; exact Or.inl z
    intro x hx y hy l hl1 hl2
    change pP h x 5 = some l at hl1
    change pP h y 5 = some l at hl2
    rcases hm x hx with z | z
    · rw [z, h5] at hl1; cases hl1
    · rcases hm y hy with w | w
      · rw [w, h5] at hl2; cases hl2
      · exact f x z y w l hl1 hl2
  · rw [e4]; exact g
theorem RepC.addE (H : RepC h pg φ T) {a : Nat} (hE : ELc h a) (h5 : pP h a 5 = none) (hf : a ∉ (pg + 1) :: pL h (pg + 5)) (hl : (pL h (pg + 5)).length ≤ 22) : RepC (wL h (pg + 5) (pL h (pg + 5) ++ [a])) pg φ T := by
  have b := H.1.2.1
  have e4 : pL (wL h (pg + 5) (pL h (pg + 5) ++ [a])) (pg + 4) = pL h (pg + 4) := pL_ne _ (by omega)
  have e5 : pL (wL h (pg + 5) (pL h (pg + 5) ++ [a])) (pg + 5) = pL h (pg + 5) ++ [a] := by rw [pL_wL, if_pos rfl]
  refine ⟨H.1.addE hE h5 hf hl, H.2.1, ?_, fun i hi hm => ?_, H.2.2.2.2.1, H.2.2.2.2.2.1, ?_, H.2.2.2.2.2.2.2⟩
  · rw [e4, e5]
    exact ⟨fun i hi h0 hm => List.mem_append_left _ (H.2.2.1.1 i hi h0 hm), H.2.2.1.2⟩
  · have hk := (H.elc hi hm).2.2.1
    rw [pL_ne _ (kne h (by omega))]
    exact H.2.2.2.1 i hi hm
  · rw [pL_ne _ (by omega)]; exact H.2.2.2.2.2.2.1
theorem elsT_mk {x c : Int} {q : Nat × Nat × Nat} (hx : x ≠ 1) (h1 : 1 ≤ tN T) : elsT (mkT T x c q) = elsT T ++ [tN T] ∧ txsT (mkT T x c q) = txsT T := by
  unfold elsT txsT
  rw [tN_mkT, tM_mkT, List.range_succ, List.filter_append, List.filter_append]
  have hm : ∀ i ∈ List.range (tN T), va_up (tM T) (tN T) x i = tM T i := fun i hi => va_up_n _ _ _ _ (by have := List.mem_range.mp hi; omega)
  constructor
  · congr 1
    · exact List.filter_congr (fun i hi => by rw [hm i hi])
    · rw [List.filter_cons, va_up_s, if_pos (by simp [hx]; omega)]; rfl
  · rw [List.filter_congr (fun i hi => by rw [hm i hi]), List.filter_cons, va_up_s, if_neg (by simpa using hx)]
    simp
theorem els_lt {i : Nat} (hi : i ∈ elsT T) : i < tN T ∧ i ≠ 0 ∧ tM T i ≠ 1 := by
  unfold elsT at hi
  simp only [List.mem_filter, List.mem_range, Bool.and_eq_true, decide_eq_true_eq] at hi
  exact ⟨hi.1, hi.2.1, hi.2.2⟩
theorem txs_lt {i : Nat} (hi : i ∈ txsT T) : i < tN T ∧ tM T i = 1 := by
  unfold txsT at hi
  simp only [List.mem_filter, List.mem_range, decide_eq_true_eq] at hi
  exact hi
theorem map_up {l : List Nat} {n a : Nat} (hl : ∀ i ∈ l, i < n) : l.map (va_up φ n a) = l.map φ := List.map_congr_left (fun i hi => va_up_n _ _ _ _ (by have := hl i hi; omega))
theorem RepB.el46 (H : RepB h pg φ T) (hW : WF T) (hS : ∀ i ∈ tS T, i < tN T ∧ tM T i ≠ 1) {a : Nat} {x c : Int} (hx : nmOK x) (hx1 : x ≠ 1) (hlt : (elsT T).length < (pL h (pg + 5)).length) (ha : (pL h (pg + 5)).getD (elsT T).length 0 = a) (hf : ∀ i, i < tN T → φ i ≠ a) (C : CntP h pg φ T) : ∃ h', f_X0_element_46 h pg x c = some (h', some a) ∧ RepB h' pg φ T ∧ Det h' pg φ T a x c ∧ FP pg h h' ∧ ∀ u, RU h u → RU h' u := by
  have hb := H.1
  have hk5 : pK h (pg + 5) = 23 := hb.2.1.2.1
  have h23 := hb.2.2.2.1.2.2.2.2.2.1
  have hmem : a ∈ pL h (pg + 5) := by rw [← ha, gD hlt]; exact List.getElem_mem _
  have hE := hb.2.2.2.1.2.1 a hmem
  have hpa : pg ≠ a := kne h (by rw [hb.1.1, hE.1]; omega)
  unfold nmOK at hx
  have F0 : ∀ g, RepC g pg φ T → ∀ (k : Nat) (v : Int), RepC (wI g a k v) pg φ T := fun g Hg k v => Hg.wi v (fun i hi _ z => (hf i hi z).elim) (fun z => (hpa z.symm).elim)
  have C1 : RepC (wI h pg 4 (((elsT T).length : Int) + 1)) pg φ T := H.c.wi _ (fun i hi hm z => by have := (H.elc hi hm).1; rw [z, hb.1.1] at this; omega) (fun _ => by omega)
  have C2 := F0 _ (F0 _ C1 2 x) 3 c
  have C3 := C2.wlg (a := a + 1) [] (kne h (by have := hb.2.1; rw [hE.2.2.1]; omega)) (kne h (by have := hb.2.1; rw [hE.2.2.1]; omega)) (kne h (by have := hb.2.1; rw [hE.2.2.1]; omega)) (fun i hi hm z => hf i hi (by omega))
  have C4 := F0 _ C3 6 0
  have L4 : LsC (wI (wL (wI (wI (wI h pg 4 (((elsT T).length : Int) + 1)) a 2 x) a 3 c) (a + 1) []) a 6 0) φ T := ((((H.l.wi _ _ _).wi _ _ _).wi _ _ _).wl C2 hS (a := a + 1) [] (by show pK h (a + 1) ≠ 21; rw [hE.2.2.1]; omega)).wi _ _ _
  refine ⟨_, ?_, C4.b L4, ⟨?_, hf, ⟨?_, ?_, ?_, ?_⟩, ?_⟩, ?_, fun u q => q⟩
  · unfold f_X0_element_46 lGet f_X2_begin lClr
    rw [gd_c (by exact hb.1.1), gd_c (by exact hb.1.1), hb.1.2.2.2.1, obind_some, gd_c (by rw [hk5]; decide), C.1, gd_zin (by omega) (by omega) (by omega), zix_nat (by omega), ha, obind_some, gd_c (by exact hE.1), gd_c (by exact hb.1.1), gd_c (by exact hb.1.1), bnd_eq, gd_c (by exact hE.1), gd_c (by exact hE.1), gd_c (show zisC x from ⟨by rw [zti (by omega) (by omega)]; omega, by rw [zti (by omega) (by omega)]; omega⟩), bnd_eq, gd_c (by exact hE.1), bnd_eq, gd_c (by exact hE.1), pP_wI, pP_wI, pP_wI, hE.2.1, obind_some, gd_c (by show isL (pK h (a + 1)); rw [hE.2.2.1]; decide), obind_some, gd_c (by exact hE.1), bnd_eq, obind_some]
  · show a ∈ pL (wL h (a + 1) []) (pg + 5)
    rw [pL_ne _ (kne h (by rw [hE.2.2.1, hk5]; omega))]; exact hmem
  · rw [pI_wI, if_neg (fun z => by omega), pI_wL, pI_wI, if_neg (fun z => by omega), pI_wI, if_pos ⟨rfl, rfl⟩]
  · rw [pI_wI, if_neg (fun z => by omega), pI_wL, pI_wI, if_pos ⟨rfl, rfl⟩]
  · rw [pI_wI, if_pos ⟨rfl, rfl⟩]
  · rw [pL_wI, pL_wL, if_pos rfl]
  · obtain ⟨c1, c2, c3, c4, c5, c6⟩ := C
    have hN := hW.1.1
    obtain ⟨m1, m2⟩ := elsT_mk (T := T) (x := x) (c := c) (q := (0, 0, 0)) hx1 hN
    have hL5 : pL (wI (wL (wI (wI (wI h pg 4 (((elsT T).length : Int) + 1)) a 2 x) a 3 c) (a + 1) []) a 6 0) (pg + 5) = pL h (pg + 5) := by
      show pL (wL h (a + 1) []) (pg + 5) = _
      exact pL_ne _ (kne h (by rw [hE.2.2.1, hk5]; omega))
    have hL4 : pL (wI (wL (wI (wI (wI h pg 4 (((elsT T).length : Int) + 1)) a 2 x) a 3 c) (a + 1) []) a 6 0) (pg + 4) = pL h (pg + 4) := by
      show pL (wL h (a + 1) []) (pg + 4) = _
      exact pL_ne _ (kne h (by rw [hE.2.2.1, hb.2.1.1]; omega))
    unfold CntP
    rw [hL5, hL4, m1, m2, List.map_append, List.length_append]
    refine ⟨?_, by simp; omega, ?_, ?_, c5, ?_⟩
    · rw [pI_wI, if_neg (fun z => hpa z.1), pI_wL, pI_wI, if_neg (fun z => hpa z.1), pI_wI, if_neg (fun z => hpa z.1), pI_wI, if_pos ⟨rfl, rfl⟩]
      simp
    · rw [map_up (fun i hi => (els_lt hi).1), ← c3]
      have : (elsT T).length + [tN T].length = (elsT T).length + 1 := rfl
      rw [this, List.take_succ, List.getElem?_eq_getElem hlt]
      have : (pL h (pg + 5))[(elsT T).length] = a := by rw [← ha, gD hlt]
      rw [this]
      simp [va_up_s]
    · rw [pI_wI, if_neg (fun z => hpa z.1), pI_wL, pI_wI, if_neg (fun z => hpa z.1), pI_wI, if_neg (fun z => hpa z.1), pI_wI, if_neg (fun z => by omega)]
      exact c4
    · rw [map_up (fun i hi => (txs_lt hi).1)]; exact c6
  · have ta : treeK (pK h a) := tk2 hE.1 (by unfold treeK; omega)
    exact FP.xI (FP.xL (FP.xI (FP.xI (FP.xI (FP.refl _ _) (tk2 hb.1.1 (by unfold treeK; omega)) (fun _ => by omega)) (by exact ta) (fun z => (hpa z.symm).elim)) (by exact ta) (fun z => (hpa z.symm).elim)) (by exact tk2 hE.2.2.1 (by unfold treeK; omega))) (by exact ta) (fun z => (hpa z.symm).elim)
end PB
