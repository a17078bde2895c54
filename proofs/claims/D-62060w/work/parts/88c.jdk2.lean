set_option maxRecDepth 100000
/-- a list's cell and backing array, ready for new contents -/
def BK (r h r2 h2 : HP) (a b : Nat) : Prop :=
  (pX r2 = pX h2 ∧ pS r2 = pS h2 ∧ pO r2 = pO h2 ∧ pD r2 = pD h2 ∧ pM r2 = pM h2) ∧ (pD h2 = pD h ∧ pK h2 = pK h ∧ pN h2 = pN h ∧ pI h2 = pI h ∧ pP h2 = pP h ∧ pB h2 = pB h ∧ pL h2 = pL h) ∧ (∀ x, x ≠ a → pC h2 x = pC h x) ∧
  (∀ x, x ≠ a → pK r x ≠ 0 → ¬ ownB r h a x → pK r2 x = pK r x ∧ pN r2 x = pN r x ∧ pI r2 x = pI r x ∧ pP r2 x = pP r x) ∧ pK r2 a = pK r a ∧ pP r2 a 1 = some b ∧ pK r2 b = 50 ∧ pN r2 b = pC h2 a ∧ (10 ≤ pC h2 a ∧ pC h2 a ≤ 7302250) ∧ (ownB r h a b ∨ pK r b = 0) ∧ pI r2 a 2 = ((pL h a).length : Int) ∧ (∀ i, i < (pL h a).length → pP r2 b i = some ((pL h a).getD i 0)) ∧ b ≠ a
theorem BK.fin {r h r2 h2 r3 : HP} {a b : Nat} (hp : rep r h) (ha : isL (pK h a)) (B : BK r h r2 h2 a b) {l' : List Nat} (hl1 : l'.length ≤ pC h2 a) (hl2 : ∀ x ∈ l', isO (pK h x)) (e1 : pK r3 = pK r2) (e2 : pN r3 = pN r2) (e3 : ∀ x, x ≠ a → pI r3 x = pI r2 x) (e4 : pI r3 a 2 = (l'.length : Int)) (e5 : ∀ x, x ≠ b → pP r3 x = pP r2 x) (e6 : ∀ i, i < l'.length → pP r3 b i = some (l'.getD i 0)) (e7 : pX r3 = pX r2 ∧ pS r3 = pS r2 ∧ pO r3 = pO r2 ∧ pD r3 = pD r2 ∧ pM r3 = pM r2) : rep r3 (wL h2 a l') := by
  obtain ⟨b1, ⟨c1, c2, c3, c4, c5, c6, c7⟩, b3, b4, b5, b6, b7, b8, b9, b10, b11, b12, b13⟩ := B
  have hab : a ≠ b := Ne.symm b13
  refine rep.list hp ha ?_ c1 c2 c3 c4 c5 c6 (fun x hx => ?_) (fun x hx => b3 x hx) (fun x h1 h2 h3 => ?_) ?_ ?_ (fun q h1 h2 => ?_)
  · obtain ⟨x1, x2, x3, x4, x5⟩ := e7
    rw [x1, x2, x3, x4, x5]
    exact b1
  · rw [pL_wL, if_neg hx, c7]
  · obtain ⟨m1, m2, m3, m4⟩ := b4 x h1 h2 h3
    have hxb : x ≠ b := fun e => by
      subst e
      rcases b10 with q | q
      · exact h3 q
      · exact h2 q
    rw [e1, e2, e3 x h1, e5 x hxb]
    exact ⟨m1, m2, m3, m4⟩
  · rw [e1]; exact b5
  · refine ⟨?_, ?_, b9.2, fun x hx => ?_, Or.inr ⟨b9.1, b, ?_, ?_, ?_, fun i hi => ?_⟩⟩
    · rw [pL_wL, if_pos rfl]; exact e4
    · rw [pL_wL, if_pos rfl]; exact hl1
    · rw [pL_wL, if_pos rfl] at hx
      show isO (pK h2 x)
      rw [c2]
      exact hl2 x hx
    · rw [e5 a hab]; exact b6
    · rw [e1]; exact b7
    · rw [e2]; exact b8
    · rw [pL_wL, if_pos rfl] at hi ⊢
      exact e6 i hi
  · rw [e5 a hab, b6] at h2
    cases h2
    exact b10
theorem BK.of {r h : HP} {a : Nat} (hp : rep r h) (ha : isL (pK h a)) {b : Nat} (hb : pP r a 1 = some b) (h0 : 10 ≤ pC h a) (v : Int) : BK r h (wI r a 0 v) h a b := by
  have hLR := hp.2.2.2.2.1 a ha
  obtain ⟨l1, l2, l3, l4, l5⟩ := hLR
  rcases l5 with l5 | ⟨l5, c, l6, l7, l8, l9⟩
  · omega
  · rw [hb] at l6
    cases l6
    have ho : ownB r h a b := Or.inl ⟨ha, by omega, hb⟩
    have hne : b ≠ a := fun e => by have := (hp.2.2.2.2.2.2.1 a b ho).1; rw [e] at this; omega
    refine ⟨hp.1, ⟨rfl, rfl, rfl, rfl, rfl, rfl, rfl⟩, fun _ _ => rfl, fun x h1 h2 h3 => ⟨rfl, rfl, ?_, rfl⟩, rfl, hb, l7, l8, ⟨h0, l3⟩, Or.inl ho, ?_, l9, hne⟩
    · funext j; rw [pI_wI, if_neg (by omega)]
    · rw [pI_wI, if_neg (by omega)]; exact l1
theorem jp_grow {r h : HP} (hp : rep r h) (hw : wfX r) {a : Nat} (ha : isL (pK h a)) (he : (pL h a).length = pC h a) (hok : lOk h a) (v : Int) : ∃ r2, f_J2_grow (wI r a 0 v) a = some (r2, pX r) ∧ BK r h r2 (wGr h a (lcap (pC h a))) a (pX r) := by
  have hLR := hp.2.2.2.2.1 a ha
  obtain ⟨l1, l2, l3, l4, l5⟩ := hLR
  have hk := hp.kind (a := a) (by omega)
  obtain ⟨x1, x2, x3, x4, x5⟩ := hp.1
  obtain ⟨ok1, ok2, ok3⟩ := hok
  have hna : a ≠ pX r := fun e => by have := hw a (by omega); omega
  have hK0 : pK r (pX r) = 0 := by
    by_cases e : pK r (pX r) = 0
    · exact e
    · have := hw _ e; omega
  have hlr : isLr (pK (wI r a 0 v) a) := by rw [pK_wI, hk]; exact Or.inl ha
  have hI2 : pI (wI r a 0 v) a 2 = ((pL h a).length : Int) := by rw [pI_wI, if_neg (by omega)]; exact l1
  rcases l5 with ⟨l5, l6⟩ | ⟨l5, b, l6, l7, l8, l9⟩
  · -- the first ten places
    have hcap : lcap (pC h a) = 10 := by unfold lcap; rw [if_pos l5]
    have hD : pK r (pD h) = 59 ∧ pN r (pD h) = 0 := hp.2.2.2.2.2.2.2.2
    have hmax : zmax 10 (((pL h a).length : Int) + 1) = 10 := by
      rw [zmax_eq (by omega) (by omega) (by omega) (by omega), if_neg (by omega)]
    have hix : zix 10 = 10 := by decide
    have hrm : rmA (wI r a 0 v) 10 := by
      refine ⟨by decide, by rw [hix]; decide, ?_, ?_⟩
      · show pX r + 1 ≤ pO r + 600000
        rw [x1, x3]; exact ok2
      · show pS r + zix 10 ≤ _
        rw [hix, x2]; omega
    refine ⟨wP (wNew (wI r a 0 v) 50 10) a 1 (some (pX r)), ?_, ?_⟩
    · unfold f_J2_grow
      rw [gd_of hlr, gd_of (by rw [pK_wI, hk]; exact ha), hI2]
      unfold f_J2_grow_2
      rw [gd_of hlr, pP_wI, l6, obind_some, gd_of (by rw [pK_wI, hD.1]; exact Or.inr (Or.inr rfl)), bnd_eq, pN_wI, hD.2, if_neg (by decide), gd_of hlr, if_pos (by rw [pD_wI, x4]), bnd_eq, hmax, gd_of hrm, bnd_eq, hix, gd_of (by rw [pK_wNew, pX_wI, if_neg hna]; exact hlr), bnd_eq, obind_some]
      rfl
    · refine ⟨?_, ⟨rfl, rfl, rfl, rfl, rfl, rfl, rfl⟩, fun x hx => by rw [pC_wGr, if_neg hx], fun x h1 h2 h3 => ?_, ?_, ?_, ?_, ?_, ?_, Or.inr hK0, ?_, fun i hi => ?_, Ne.symm hna⟩
      · refine ⟨?_, ?_, x3, x4, x5⟩
        · show pX r + 1 = pX h + 1
          omega
        · show pS r + 10 = pS h + lcap (pC h a)
          omega
      · have e : x ≠ pX r := fun e => h2 (by rw [e]; exact hK0)
        refine ⟨?_, ?_, ?_, ?_⟩
        · rw [pK_wP, pK_wNew, pX_wI, if_neg e, pK_wI]
        · rw [pN_wP, pN_wNew, pX_wI, if_neg e, pN_wI]
        · funext j; rw [pI_wP, pI_wNew, pX_wI, if_neg e, pI_wI, if_neg (by omega)]
        · funext j; rw [pP_wP, if_neg (by omega), pP_wNew, pX_wI, if_neg e, pP_wI]
      · rw [pK_wP, pK_wNew, pX_wI, if_neg hna, pK_wI]
      · rw [pP_wP, if_pos ⟨rfl, rfl⟩]
      · rw [pK_wP, pK_wNew, pX_wI, if_pos rfl]
      · rw [pN_wP, pN_wNew, pX_wI, if_pos rfl, pC_wGr, if_pos rfl, hcap]
      · rw [pC_wGr, if_pos rfl, hcap]; decide
      · rw [pI_wP, pI_wNew, pX_wI, if_neg hna]; exact hI2
      · exfalso; omega
  · -- half as many again
    have hcap : lcap (pC h a) = pC h a + pC h a / 2 := by unfold lcap; rw [if_neg (by omega)]
    generalize hC : pC h a = C at *
    have hN : (pN r b : Int) = (C : Int) := by rw [l8]
    have hbX : b ≠ pX r := fun e => by rw [e] at l7; omega
    have ho : ownB r h a b := Or.inl ⟨ha, by omega, l6⟩
    have hba : b ≠ a := fun e => by have := (hp.2.2.2.2.2.2.1 a b ho).1; rw [e] at this; omega
    have hnl : f_J8_newLength (C : Int) (((pL h a).length : Int) + 1 - (C : Int)) (zshr (C : Int) 1) = some ((C + C / 2 : Nat) : Int) := by
      unfold f_J8_newLength
      rw [zshr_1 (by omega), zmax_eq (by omega) (by omega) (by omega) (by omega), bnd_eq]
      have e : (C : Int) + (if ((pL h a).length : Int) + 1 - (C : Int) < ((C / 2 : Nat) : Int) then ((C / 2 : Nat) : Int) else ((pL h a).length : Int) + 1 - (C : Int)) = ((C + C / 2 : Nat) : Int) := by
        split <;> omega
      rw [e, if_pos (by rw [zlt (by omega) (by omega) (by omega) (by omega)]; omega), if_neg (by rw [zlt (by omega) (by omega) (by omega) (by omega)]; omega)]
    have hix : zix ((C + C / 2 : Nat) : Int) = C + C / 2 := zix_nat (by omega)
    have hrm : rmA (wI r a 0 v) ((C + C / 2 : Nat) : Int) := by
      refine ⟨by rw [zti (by omega) (by omega)]; omega, by rw [hix]; omega, ?_, ?_⟩
      · show pX r + 1 ≤ pO r + 600000
        rw [x1, x3]; exact ok2
      · show pS r + zix _ ≤ _
        rw [hix, x2]; omega
    have hmin : zmin (C : Int) ((C + C / 2 : Nat) : Int) = (C : Int) := by
      rw [zmin_eq (by omega) (by omega) (by omega) (by omega), if_neg (by omega)]
    have hcp : cpOKP (wNew (wI r a 0 v) 50 (C + C / 2)) b 0 (pX r) 0 (C : Int) := by
      refine ⟨⟨?_, ?_⟩, by decide, by decide, by rw [zti (by omega) (by omega)]; omega, ?_, ?_⟩
      · rw [pK_wNew, pX_wI, if_neg hbX]; exact l7
      · rw [pK_wNew, pX_wI, if_pos rfl]
      · rw [pN_wNew, pX_wI, if_neg hbX, pN_wI, l8, zti (by omega) (by omega), zti (by omega) (by omega)]; omega
      · rw [pN_wNew, pX_wI, if_pos rfl, zti (by omega) (by omega), zti (by omega) (by omega)]; omega
    have e0 : zix 0 = 0 := by decide
    have eC : zix (C : Int) = C := zix_nat (by omega)
    refine ⟨wP (wCP (wNew (wI r a 0 v) 50 (C + C / 2)) b 0 (pX r) 0 (C : Int)) a 1 (some (pX r)), ?_, ?_⟩
    · unfold f_J2_grow
      rw [gd_of hlr, gd_of (by rw [pK_wI, hk]; exact ha), hI2]
      unfold f_J2_grow_2
      rw [gd_of hlr, pP_wI, l6, obind_some, gd_of (by rw [pK_wI, l7]; exact Or.inr (Or.inl rfl)), bnd_eq, pN_wI, hN, if_pos (by rw [zlt (by omega) (by omega) (by omega) (by omega)]; omega)]
      unfold f_J2_grow_2_20
      rw [hnl, obind_some, gd_of hlr, pP_wI, l6, obind_some]
      unfold f_J10_copyOf f_J10_copyOf_2 f_J10_copyOf_2_24
      rw [gd_of (by rw [pK_wI]; exact l7), if_pos rfl, bnd_eq, gd_of hrm, bnd_eq, hix, gd_of (by rw [pK_wNew, pX_wI, if_neg hbX, pK_wI, l7]; exact Or.inr (Or.inl rfl))]
      simp only [pN_wNew, pX_wI, hbX, if_false, pN_wI, hN, hmin]
      rw [gd_of hcp]
      simp only [bnd_eq, obind_some]
      rw [gd_of (by rw [pK_wCP, pK_wNew, pX_wI, if_neg hna]; exact hlr)]
      rfl
    · refine ⟨?_, ⟨rfl, rfl, rfl, rfl, rfl, rfl, rfl⟩, fun x hx => by rw [pC_wGr, if_neg hx], fun x h1 h2 h3 => ?_, ?_, ?_, ?_, ?_, ?_, Or.inr hK0, ?_, fun i hi => ?_, Ne.symm hna⟩
      · refine ⟨?_, ?_, x3, x4, x5⟩
        · show pX r + 1 = pX h + 1
          omega
        · show pS r + (C + C / 2) = pS h + lcap C
          omega
      · have e : x ≠ pX r := fun e => h2 (by rw [e]; exact hK0)
        refine ⟨?_, ?_, ?_, ?_⟩
        · rw [pK_wP, pK_wCP, pK_wNew, pX_wI, if_neg e, pK_wI]
        · rw [pN_wP, pN_wCP, pN_wNew, pX_wI, if_neg e, pN_wI]
        · funext j; rw [pI_wP, pI_wCP, pI_wNew, pX_wI, if_neg e, pI_wI, if_neg (by omega)]
        · funext j; rw [pP_wP, if_neg (by omega), pP_wCP, if_neg e, pP_wNew, pX_wI, if_neg e, pP_wI]
      · rw [pK_wP, pK_wCP, pK_wNew, pX_wI, if_neg hna, pK_wI]
      · rw [pP_wP, if_pos ⟨rfl, rfl⟩]
      · rw [pK_wP, pK_wCP, pK_wNew, pX_wI, if_pos rfl]
      · rw [pN_wP, pN_wCP, pN_wNew, pX_wI, if_pos rfl, pC_wGr, if_pos rfl, hcap]
      · rw [pC_wGr, if_pos rfl, hcap]; omega
      · rw [pI_wP, pI_wCP, pI_wNew, pX_wI, if_neg hna]; exact hI2
      · rw [pP_wP, if_neg (by omega), pP_wCP, if_pos rfl, e0, eC, pk_cpy_in (by omega) (by omega), pP_wNew, pX_wI, if_neg hbX, pP_wI, show 0 + (i - 0) = i by omega]
        exact l9 i hi
theorem lcap_gt {c : Nat} (h : c = 0 ∨ 10 ≤ c) : c < lcap c := by
  unfold lcap
  split <;> omega
theorem LR.cap {r h : HP} {a : Nat} (hl : LR r h a) : pC h a = 0 ∨ 10 ≤ pC h a := by
  rcases hl.2.2.2.2 with q | q
  · exact Or.inl q.1
  · exact Or.inr q.1
theorem isO_notL {x a : Nat} {h : HP} (hx : isO (pK h x)) (ha : isL (pK h a)) : x ≠ a := by
  intro e
  subst e
  omega
theorem rep.notown {r h : HP} (hp : rep r h) {a x : Nat} (hx : pK h x ≠ 0) : ¬ ownB r h a x := fun o => hx (hp.2.2.2.2.2.2.1 a x o).1
theorem isO_ne {k : Nat} (h : isO k) : k ≠ 0 := by omega
theorem isL_ne {k : Nat} (h : isL k) : k ≠ 0 := by omega
theorem getD_snocw {l : List Nat} {x i : Nat} (h : i < l.length) : (l ++ [x]).getD i 0 = l.getD i 0 := by
  rw [List.getD_eq_getElem?_getD, List.getD_eq_getElem?_getD, List.getElem?_append_left h]
theorem jp_addfin {r h r2 h2 : HP} (hp : rep r h) {a b x : Nat} (ha : isL (pK h a)) (hx : isO (pK h x)) (B : BK r h r2 h2 a b) (hlt : (pL h a).length < pC h2 a) (hlen : (pL h a).length ≤ 1000) : ∃ r', f_J2_add_2_11 r2 a x b ((pL h a).length : Int) = some r' ∧ rep r' (wL h2 a (pL h a ++ [x])) := by
  have B0 := B
  obtain ⟨b1, b2, b3, b4, b5, b6, b7, b8, b9, b10, b11, b12, b13⟩ := B
  have l4 := (hp.2.2.2.2.1 a ha).2.2.2.1
  have hk := hp.kind (isL_ne ha)
  have hkx := hp.kind (isO_ne hx)
  have hix : zix ((pL h a).length : Int) = (pL h a).length := zix_nat (by omega)
  have hkk : pK r2 x = pK r x := (b4 x (isO_notL hx ha) (by rw [hkx]; exact isO_ne hx) (hp.notown (isO_ne hx))).1
  have h46 : ¬ pK r2 b = 46 := by rw [b7]; decide
  refine ⟨wI (wP r2 b (pL h a).length (some x)) a 2 (((pL h a).length : Int) + 1), ?_, ?_⟩
  · unfold f_J2_add_2_11
    rw [gd_of b7, gd_of (by rw [zin_iff (by omega) (by omega), b8]; omega), gd_of (by right; exact ⟨by show isO (pK r2 x); rw [hkk, hkx]; exact hx, fun q => absurd q h46⟩), bnd_eq, hix, gd_of (by rw [pK_wP, b5, hk]; exact Or.inl ha), bnd_eq]
  · refine BK.fin hp ha B0 (by rw [List.length_append]; exact hlt) (fun z hz => ?_) rfl rfl (fun z hz => ?_) ?_ (fun z hz => ?_) (fun i hi => ?_) ⟨rfl, rfl, rfl, rfl, rfl⟩
    · rcases List.mem_append.mp hz with q | q
      · exact l4 z q
      · rw [List.mem_singleton.mp q]; exact hx
    · funext j; rw [pI_wI, if_neg (fun q => hz q.1), pI_wP]
    · rw [pI_wI, if_pos ⟨rfl, rfl⟩, List.length_append]; rfl
    · funext j; rw [pP_wI, pP_wP, if_neg (fun q => hz q.1)]
    · rw [pP_wI, pP_wP]
      rw [List.length_append] at hi
      have hi : i < (pL h a).length + 1 := hi
      by_cases e : i = (pL h a).length
      · rw [if_pos ⟨rfl, e⟩, e]; simp
      · have hi' : i < (pL h a).length := Nat.lt_of_le_of_ne (Nat.le_of_lt_succ hi) e
        rw [if_neg (fun q => e q.2), b12 i hi', getD_snocw hi']
theorem jp_lAdd {r h : HP} (hp : rep r h) (hw : wfX r) {a x : Nat} {y : HP × Int} (e : lAdd h a x = some y) : ∃ r', f_J2_add r a x = some (r', y.2) ∧ rep r' y.1 := by
  obtain ⟨⟨ha, hx, hok⟩, e⟩ := gd_inv e
  cases e
  have hLR := hp.2.2.2.2.1 a ha
  have hk := hp.kind (isL_ne ha)
  have hcap := hLR.cap
  obtain ⟨l1, l2, l3, l4, l5⟩ := hLR
  have hlr : isLr (pK (wI r a 0 (pI r a 0 + 1)) a) := by rw [pK_wI, hk]; exact Or.inl ha
  have hI2 : pI (wI r a 0 (pI r a 0 + 1)) a 2 = ((pL h a).length : Int) := by rw [pI_wI, if_neg (fun q => by cases q.2)]; exact l1
  have hN : ∃ c, pP r a 1 = some c ∧ isAr (pK r c) ∧ pN r c = pC h a := by
    rcases l5 with ⟨l5, l6⟩ | ⟨l5, b, l6, l7, l8, l9⟩
    · exact ⟨_, l6, by rw [hp.2.2.2.2.2.2.2.2.1]; exact Or.inr (Or.inr rfl), by rw [hp.2.2.2.2.2.2.2.2.2, l5]⟩
    · exact ⟨b, l6, by rw [l7]; exact Or.inr (Or.inl rfl), l8⟩
  obtain ⟨c, c1, c2, c3⟩ := hN
  by_cases he : (pL h a).length = pC h a
  · obtain ⟨r2, g1, g2⟩ := jp_grow hp hw ha he hok (pI r a 0 + 1)
    obtain ⟨r', f1, f2⟩ := jp_addfin hp ha hx g2 (by rw [pC_wGr, if_pos rfl, he]; exact lcap_gt hcap) hok.1
    refine ⟨r', ?_, ?_⟩
    · unfold f_J2_add f_J2_add_2
      rw [gd_of (by rw [hk]; exact Or.inl ha), gd_of (by rw [hk]; exact Or.inl ha), bnd_eq, gd_of hlr, gd_of hlr, pP_wI, c1, obind_some, gd_of (by rw [pK_wI, hk]; exact ha), gd_of (by rw [pK_wI]; exact c2), hI2, if_pos (by rw [pN_wI, c3, he]), gd_of (by rw [pK_wI, hk]; exact ha), g1, obind_some, f1, obind_some]
    · unfold lGrow
      rw [if_pos he]
      exact f2
  · have h10 : 10 ≤ pC h a := by
      rcases hcap with q | q
      · exact absurd (Nat.le_antisymm l2 (by rw [q]; exact Nat.zero_le _)) he
      · exact q
    obtain ⟨r', f1, f2⟩ := jp_addfin hp ha hx (BK.of hp ha c1 h10 (pI r a 0 + 1)) (Nat.lt_of_le_of_ne l2 he) hok.1
    refine ⟨r', ?_, ?_⟩
    · have hne : ¬ zI ((pL h a).length : Int) = zI (pC h a : Int) := by
        have h1 := hok.1
        rw [zeq (by omega) (by omega) (by omega) (by omega)]
        omega
      unfold f_J2_add f_J2_add_2
      rw [gd_of (by rw [hk]; exact Or.inl ha), gd_of (by rw [hk]; exact Or.inl ha), bnd_eq, gd_of hlr, gd_of hlr, pP_wI, c1, obind_some, gd_of (by rw [pK_wI, hk]; exact ha), gd_of (by rw [pK_wI]; exact c2), hI2, if_neg (by rw [pN_wI, c3]; exact hne), f1, obind_some]
    · unfold lGrow
      rw [if_neg he]
      exact f2
