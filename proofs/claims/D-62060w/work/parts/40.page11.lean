/-! the page's tree: texts -/
set_option maxRecDepth 100000
/-- the heap with a new text -/
def nT (h : HP) : HP := wP (wNew (wP (wGr (wNew (wNew h 3 4) 30 4) (pX h + 1) 16) (pX h) 2 (some (pX h + 1))) 41 4) (pX h) 3 (some (pX h + 3))
section PB
variable {h h' h1 : HP} {pg u a t : Nat} {φ : Nat → Nat} {T : TS} {x c : Int} {X : List Int} {q : Nat × Nat × Nat}
theorem LsC.agt (L : LsC h φ T) (H : RepC h pg φ T) (hS : ∀ i ∈ tS T, i < tN T ∧ tM T i ≠ 1) (A : AgT h t h') (ht : pK h (t + 1) = 30) : LsC h' φ T := by
  intro i hi hm
  obtain ⟨l, l1, l2, l3⟩ := L i hi hm
  have hl := H.lls (hS i hi).1 (hS i hi).2 l1
  have w := A.2.2 l hl.2.1
  refine ⟨l, ?_, by rw [w.2.2.2.2.1]; exact l2, by rw [(w.2.2.2.2.2 (kne h (by omega))).2]; exact l3⟩
  rw [(A.2.2 (φ i) (by have := (H.kd (hS i hi).1).2; omega)).2.2.2.1 5 (by omega)]
  exact l1
theorem RepC.agt (H : RepC h pg φ T) (A : AgT h t h') (ht : pK h (t + 1) = 30) (Hs : SHp h' pg) {f : Nat → List Int} {K : Nat} (hf : ∀ i, i < tN T → tM T i = 1 → pB h' (φ i + 1) = f i) : RepC h' pg φ (setX T f K) := by
  have hp := H.1.lt
  have v5 := A.2.2 (pg + 5) (by omega)
  have v4 := A.2.2 (pg + 4) (by omega)
  have v6 := A.2.2 (pg + 6) (by omega)
  refine ⟨Hs, H.2.1, ?_, fun i hi hm => ?_, hf, fun i hi => ?_, ?_, ?_⟩
  · rw [v5.2.2.2.2.1, v4.2.2.2.2.1]; exact H.2.2.1
  · have he := (H.elc hi hm).2.2.2.2.2.2.2.1
    have w0 := A.2.2 (φ i) (by omega)
    have w1 := A.2.2 (φ i + 1) (by omega)
    rw [w0.2.2.1, w0.2.2.1, w0.2.2.1, w1.2.2.2.2.1]
    exact H.2.2.2.1 i hi hm
  · rw [(A.2.2 (φ i) (by have := (H.kd hi).2; omega)).2.2.2.1 0 (by omega)]
    exact H.2.2.2.2.2.1 i hi
  · rw [v6.2.2.2.2.1]; exact H.2.2.2.2.2.2.1
  · rw [(A.2.2 pg (by omega)).2.2.1]; exact H.2.2.2.2.2.2.2
theorem cntS.agt (A : AgT h t h') (hp : pg + 21 ≤ pX h) : cntS pg h h' := ⟨(A.2.2 pg (by omega)).2.2.1 3, (A.2.2 pg (by omega)).2.2.1 4, (A.2.2 (pg + 4) (by omega)).2.2.2.2.1, (A.2.2 (pg + 5) (by omega)).2.2.2.2.1⟩
theorem RepB.addC1 (H : RepB h pg φ T) (hS : ∀ i ∈ tS T, i < tN T ∧ tM T i ≠ 1) {i : Nat} (hi : i < tN T) (hm : tM T i = 1) (hl : (tX T i).length ≤ 160) (hc : 0 ≤ c ∧ c < 256) (hR : RU h (u + 15)) : ∃ h', f_X6_add h (φ i) c = some h' ∧ RepB h' pg φ (addC T i c) ∧ cntS pg h h' ∧ FP pg h h' ∧ RU h' u := by
  have hX := H.2.2.2.2.1 i hi hm
  obtain ⟨h', r1, r2, r3, r4, r5, r6⟩ := X6_add (u := u) H.1 (H.2.2.1.2.1 i hi hm) (by rw [hX]; exact hl) hc hR
  have hk := (H.txc hi hm).2.2.1
  refine ⟨h', r1, ?_, cntS.agt r3 H.1.lt, r5, r6⟩
  refine RepC.b (RepC.agt H.c r3 hk r2 (f := va_up (tX T) i (tX T i ++ [c])) (K := tK T + 1) (fun j hj hmj => ?_)) (show LsC h' φ T from LsC.agt H.l H.c hS r3 hk)
  by_cases e : j = i
  · rw [e, va_up_s, r4, hX]
  · rw [va_up_n _ _ _ _ e, ((r3.2.2 (φ j + 1) (by have := (H.txc hj hmj).2.2.2.2.1; omega)).2.2.2.2.2 (fun z => e (H.2.2.1.2.2 j i hj hi (by omega)))).1]
    exact H.2.2.2.2.1 j hj hmj
/-! a new text's cell -/
theorem nT_eq (hR : RU h 4) : f_X6_init (wNew h 3 4) (pX h) = some (nT h) ∧ rm1 h 4 := by
  obtain ⟨r1, r2⟩ := hR
  refine ⟨?_, by omega, by omega⟩
  have z4 : zix 4 = 4 := by decide
  unfold f_X6_init f_X1_init sNew
  rw [obind_some, bnd_eq, gd_c (show rm1 (wNew h 3 4) 4 from ⟨by rw [pX_wNew]; show pX h + 1 + 1 ≤ pO h + 600000; omega, by rw [pS_wNew]; omega⟩), bnd_eq, gd_c ⟨by rw [pK_wNew, if_pos rfl], by decide, by rw [pX_wNew, pX_wNew]; show pX h + 1 + 1 + 1 ≤ pO h + 600000; omega, by rw [pS_wNew, pS_wNew]; omega⟩, obind_some, wK_wNew, gd_c (by rw [pK_wGr, pK_wNew, if_neg (by rw [pX_wNew]; omega), pK_wNew, if_pos rfl]), bnd_eq, bnd_eq, gd_c (show rmA _ 4 from ⟨by decide, by rw [z4]; omega, by rw [pX_wP, pX_wGr, pX_wNew, pX_wNew]; show pX h + 1 + 1 + 1 + 1 ≤ pO h + 600000; omega, by rw [pS_wP, pS_wGr, pS_wNew, pS_wNew, z4]; omega⟩), bnd_eq, z4, gd_c (by rw [pK_wNew, if_neg (by rw [pX_wP, pX_wGr, pX_wNew, pX_wNew]; omega), pK_wP, pK_wGr, pK_wNew, if_neg (by rw [pX_wNew]; omega), pK_wNew, if_pos rfl]), bnd_eq]
  rfl
theorem nT_ag (h : HP) : Agr h (nT h) := ((((((Agr.refl h).new 3 4).new 30 4).wg (by omega) 16).wp (Nat.le_refl _) 2 _).new 41 4).wp (Nat.le_refl _) 3 _
theorem nT_X (h : HP) : pX (nT h) = pX h + 4 ∧ pS (nT h) = pS h + 28 ∧ pO (nT h) = pO h := ⟨rfl, rfl, rfl⟩
theorem nT_cell (h : HP) : TXc (nT h) (pX h) ∧ pP (nT h) (pX h) 3 = some (pX h + 3) := by
  have x1 : pX (wNew h 3 4) = pX h + 1 := rfl
  have x2 : pX (wP (wGr (wNew (wNew h 3 4) 30 4) (pX h + 1) 16) (pX h) 2 (some (pX h + 1))) = pX h + 3 := rfl
  have k0 : pK (nT h) (pX h) = 3 := by
    unfold nT
    rw [pK_wP, pK_wNew, if_neg (by rw [x2]; omega), pK_wP, pK_wGr, pK_wNew, if_neg (by rw [x1]; omega), pK_wNew, if_pos rfl]
  have k1 : pK (nT h) (pX h + 1) = 30 := by
    unfold nT
    rw [pK_wP, pK_wNew, if_neg (by rw [x2]; omega), pK_wP, pK_wGr, pK_wNew, if_pos (by rw [x1])]
  have k3 : pK (nT h) (pX h + 3) = 41 := by
    unfold nT
    rw [pK_wP, pK_wNew, if_pos (by rw [x2])]
  have p3 : pP (nT h) (pX h) 3 = some (pX h + 3) := by
    unfold nT
    rw [pP_wP, if_pos ⟨rfl, rfl⟩]
  have p2 : pP (nT h) (pX h) 2 = some (pX h + 1) := by
    unfold nT
    rw [pP_ne _ (Or.inr (by omega)), pP_wNew, if_neg (by rw [x2]; omega), pP_wP, if_pos ⟨rfl, rfl⟩]
  have n3 : pN (nT h) (pX h + 3) = 4 := by
    unfold nT
    rw [pN_wP, pN_wNew, if_pos (by rw [x2])]
  have b1 : pB (nT h) (pX h + 1) = [] := by
    unfold nT
    rw [pB_wP, pB_wNew, if_neg (by rw [x2]; omega), pB_wP, pB_wGr, pB_wNew, if_pos (by rw [x1])]
  have c1 : pC (nT h) (pX h + 1) ≤ 400 := by
    unfold nT
    rw [pC_wP, pC_wNew, if_neg (by rw [x2]; omega), pC_wP, pC_wGr, if_pos rfl]
    omega
  exact ⟨⟨k0, p2, k1, ⟨pX h + 3, p3, k3, by rw [(nT_X h).1]; omega, by rw [n3]; omega, by rw [n3]; omega, by rw [b1, n3]; simp⟩, by rw [(nT_X h).1]; omega, c1⟩, p3⟩
theorem SHp.addT (H : SHp h pg) {a p : Nat} (hE : TXc h a) (h3 : pP h a 3 = some p) (hfp : ∀ x ∈ pL h (pg + 4), pP h x 3 ≠ some p) (hf : a ∉ pL h (pg + 4)) (hl : (pL h (pg + 4)).length ≤ 22) : SHp (wL h (pg + 4) (pL h (pg + 4) ++ [a])) pg := by
  obtain ⟨a0, b, c, ⟨d1, d2, d3, d4, d5, d6, d7⟩, f, g⟩ := H
  have e4 : pL (wL h (pg + 4) (pL h (pg + 4) ++ [a])) (pg + 5) = pL h (pg + 5) := pL_ne _ (by omega)
  have e5 : pL (wL h (pg + 4) (pL h (pg + 4) ++ [a])) (pg + 4) = pL h (pg + 4) ++ [a] := by rw [pL_wL, if_pos rfl]
  refine ⟨a0, b, c, ?_, ?_, ?_⟩
  · rw [e4, e5]
    refine ⟨d1, d2, fun x hx => ?_, d4, ?_, d6, by rw [List.length_append]; simp; omega⟩
    · rcases List.mem_append.mp hx with z | z
      · exact d3 x z
      · simp at z; rw [z]; exact hE
    · rw [List.nodup_append]
      exact ⟨d5, by simp, fun x hx y hy => by simp at hy; rw [hy]; exact fun z => hf (z ▸ hx)⟩
  · rw [e4]; exact f
  · rw [e5]
    intro x hx y hy l hl1 hl2
    change pP h x 3 = some l at hl1
    change pP h y 3 = some l at hl2
    rcases List.mem_append.mp hx with z | z
    · rcases List.mem_append.mp hy with w | w
      · exact g x z y w l hl1 hl2
      · simp at w
        rw [w, h3] at hl2; cases hl2
        exact (hfp x z hl1).elim
    · simp at z
      rcases List.mem_append.mp hy with w | w
      · rw [z, h3] at hl1; cases hl1
        exact (hfp y w hl2).elim
      · simp at w
        rw [z, w]
theorem RepC.addT (H : RepC h pg φ T) {a p : Nat} (hE : TXc h a) (h3 : pP h a 3 = some p) (hfp : ∀ x ∈ pL h (pg + 4), pP h x 3 ≠ some p) (hf : a ∉ pL h (pg + 4)) (hl : (pL h (pg + 4)).length ≤ 22) : RepC (wL h (pg + 4) (pL h (pg + 4) ++ [a])) pg φ T := by
  have b := H.1.2.1
  have e4 : pL (wL h (pg + 4) (pL h (pg + 4) ++ [a])) (pg + 5) = pL h (pg + 5) := pL_ne _ (by omega)
  have e5 : pL (wL h (pg + 4) (pL h (pg + 4) ++ [a])) (pg + 4) = pL h (pg + 4) ++ [a] := by rw [pL_wL, if_pos rfl]
  refine ⟨H.1.addT hE h3 hfp hf hl, H.2.1, ?_, fun i hi hm => ?_, H.2.2.2.2.1, H.2.2.2.2.2.1, ?_, H.2.2.2.2.2.2.2⟩
  · rw [e4, e5]
    exact ⟨H.2.2.1.1, fun i hi hm => List.mem_append_left _ (H.2.2.1.2.1 i hi hm), H.2.2.1.2.2⟩
  · have hk := (H.elc hi hm).2.2.1
    rw [pL_ne _ (kne h (by omega))]
    exact H.2.2.2.1 i hi hm
  · rw [pL_ne _ (by omega)]; exact H.2.2.2.2.2.2.1
theorem txsT_mk {c : Int} {q : Nat × Nat × Nat} : txsT (mkT T 1 c q) = txsT T ++ [tN T] ∧ elsT (mkT T 1 c q) = elsT T := by
  unfold elsT txsT
  rw [tN_mkT, tM_mkT, List.range_succ, List.filter_append, List.filter_append]
  have hm : ∀ i ∈ List.range (tN T), va_up (tM T) (tN T) 1 i = tM T i := fun i hi => va_up_n _ _ _ _ (by have := List.mem_range.mp hi; omega)
  constructor
  · congr 1
    · exact List.filter_congr (fun i hi => by rw [hm i hi])
    · rw [List.filter_cons, va_up_s, if_pos (by simp)]; rfl
  · rw [List.filter_congr (fun i hi => by rw [hm i hi]), List.filter_cons, va_up_s, if_neg (by simp)]
    simp
theorem SHp.aB0 (H : SHp h pg) (ht : t ∈ pL h (pg + 4)) : SHp (wB h (t + 1) []) pg := by
  have htx := H.2.2.2.1.2.2.1 t ht
  have hT : ∀ y ∈ pL h (pg + 4), TXc (wB h (t + 1) []) y := fun y hy => by
    obtain ⟨x1, x2, x3, ⟨q, q1, q2, q3, q4, q5, q6⟩, x5, x6⟩ := H.2.2.2.1.2.2.1 y hy
    refine ⟨x1, x2, x3, ⟨q, q1, q2, q3, q4, q5, ?_⟩, x5, x6⟩
    rw [pB_wB, pN_wB]
    split
    · simp
    · exact q6
  exact ⟨H.1, H.2.1, H.2.2.1, ⟨H.2.2.2.1.1, H.2.2.2.1.2.1, hT, H.2.2.2.1.2.2.2⟩, H.2.2.2.2⟩
theorem RepB.ch146 (H : RepB h pg φ T) (C : CntP h pg φ T) (hW : WF T) (hw : q.2.2 < tN T) (hwm : tM T q.2.2 ≠ 1) (h12 : pP h pg 12 = some (φ q.2.2)) (h13 : pI h pg 13 = ((kx T q : Nat) : Int)) (hlt : (txsT T).length < (pL h (pg + 4)).length) (ht : (pL h (pg + 4)).getD (txsT T).length 0 = t) (hf : ∀ i, i < tN T → φ i ≠ t) (hc : 0 ≤ c ∧ c < 256) (hR : RU h (u + 16)) : ∃ h', f_X0_character_146 h pg c = some h' ∧ OutP pg h u (some (addC (mkT T 1 0 q) (tN T) c)) h' := by
  have hb := H.1
  have hk4 : pK h (pg + 4) = 22 := hb.2.1.1
  have h23 := hb.2.2.2.1.2.2.2.2.2.2
  have hmem : t ∈ pL h (pg + 4) := by rw [← ht, gD hlt]; exact List.getElem_mem _
  have hTx := hb.2.2.2.1.2.2.1 t hmem
  have hpt : pg ≠ t := kne h (by rw [hb.1.1, hTx.1]; omega)
  have hpl := hb.lt
  have C1 : RepC (wI h pg 3 (((txsT T).length : Int) + 1)) pg φ T := H.c.wi _ (fun i hi hm z => by have := (H.elc hi hm).1; rw [z, hb.1.1] at this; omega) (fun _ => by omega)
  have C2 : RepC (wB (wI h pg 3 (((txsT T).length : Int) + 1)) (t + 1) []) pg φ T := by
    refine ⟨C1.1.aB0 hmem, C1.2.1, C1.2.2.1, C1.2.2.2.1, fun i hi hm => ?_, C1.2.2.2.2.2⟩
    rw [pB_wB, if_neg (fun z => hf i hi (by omega))]
    exact C1.2.2.2.2.1 i hi hm
  have L2 : LsC (wB (wI h pg 3 (((txsT T).length : Int) + 1)) (t + 1) []) φ T := H.l
  obtain ⟨h3, r1, r2, r3, r4, r5, r6⟩ := X6_add (h := wB (wI h pg 3 (((txsT T).length : Int) + 1)) (t + 1) []) (u := u + 1) C2.1 hmem (by rw [pB_wB, if_pos rfl]; simp) hc hR
  rw [pB_wB, if_pos rfl, List.nil_append] at r4
  have C3 : RepC h3 pg φ T := RepC.agt C2 r3 hTx.2.2.1 r2 (f := tX T) (K := tK T) (fun j hj hmj => by
    rw [((r3.2.2 (φ j + 1) (by have := (C2.txc hj hmj).2.2.2.2.1; omega)).2.2.2.2.2 (fun z => hf j hj (by omega))).1]
    exact C2.2.2.2.2.1 j hj hmj)
  have L3 : LsC h3 φ T := LsC.agt L2 C2 hW.stk r3 hTx.2.2.1
  have w0 := r3.2.2 pg (by show pg < pX h; omega)
  have w4 := r3.2.2 (pg + 4) (by show pg + 4 < pX h; omega)
  have w5 := r3.2.2 (pg + 5) (by show pg + 5 < pX h; omega)
  have hI : ∀ k, k ≠ 3 → pI h3 pg k = pI h pg k := fun k hk => by rw [w0.2.2.1 k, pI_wB, pI_wI, if_neg (fun z => hk z.2)]
  have D : DetN h3 pg φ T t 1 0 [c] := by
    refine ⟨hf, fun z => (z rfl).elim, fun _ => ⟨by rw [w4.2.2.2.2.1]; exact hmem, r4⟩, ?_⟩
    obtain ⟨c1, c2, c3, c4, c5, c6⟩ := C
    obtain ⟨m1, m2⟩ := txsT_mk (T := T) (c := 0) (q := (0, 0, 0))
    unfold CntP
    rw [w4.2.2.2.2.1, w5.2.2.2.2.1, m1, m2, List.map_append, List.length_append, hI 4 (by omega)]
    refine ⟨c1, c2, ?_, ?_, ?_, ?_⟩
    · rw [map_up (fun i hi => (els_lt hi).1)]; exact c3
    · rw [w0.2.2.1 3, pI_wB, pI_wI, if_pos ⟨rfl, rfl⟩]; simp
    · show _ ≤ (pL h (pg + 4)).length
      simp; omega
    · rw [map_up (fun i hi => (txs_lt hi).1), ← c6]
      have : (txsT T).length + [tN T].length = (txsT T).length + 1 := rfl
      show (pL h (pg + 4)).take _ = _
      rw [this, List.take_succ, List.getElem?_eq_getElem hlt]
      have : (pL h (pg + 4))[(txsT T).length] = t := by rw [← ht, gD hlt]
      rw [this]
      simp [va_up_s]
  obtain ⟨h4, s1, s2, s3, s4, s5⟩ := (C3.b L3).putG (q := q) hW hw hwm D (tK T + 1) r6
  have hT : setX (mkT T 1 0 q) (va_up (tX T) (tN T) [c]) (tK T + 1) = addC (mkT T 1 0 q) (tN T) c := by
    unfold addC setX
    rw [tX_mkT, va_up_s, va_up2]
    rfl
  rw [hT] at s2 s3
  have FB : FP pg h (wB (wI h pg 3 (((txsT T).length : Int) + 1)) (t + 1) []) := FP.xB (FP.xI (FP.refl _ _) (tk2 hb.1.1 (by unfold treeK; omega)) (fun _ => by omega)) (by exact tk2 hTx.2.2.1 (by unfold treeK; omega))
  refine ⟨h4, ?_, OutP.of s2 s3 ((FB.trans r5).trans s4) s5⟩
  have e12 : pP h3 pg 12 = some (φ q.2.2) := by rw [w0.2.2.2.1 12 (by omega)]; exact h12
  unfold f_X0_character_146 lGet sSet
  rw [gd_c hb.1.1, gd_c hb.1.1, hb.1.2.2.1, obind_some, gd_c (by rw [hk4]; decide), C.2.2.2.1, gd_zin (by omega) (by omega) (by omega), zix_nat (by omega), ht, obind_some, gd_c hTx.1, gd_c hb.1.1, gd_c hb.1.1, bnd_eq, gd_c (by exact hTx.1), pP_wI, hTx.2.1, obind_some, gd_c ⟨by show isS (pK h (t + 1)); rw [hTx.2.2.1]; decide, rfl⟩, obind_some, gd_c (by exact hTx.1), r1, obind_some, gd_c (by exact C3.1.1.1), gd_c (by exact C3.1.1.1), e12, obind_some, gd_c (by exact (C3.elc hw hwm).1), hI 13 (by omega), h13, s1]
  rfl
end PB
