set_option maxRecDepth 100000
theorem zI_p1 {i j : Int} (h : zI i = zI j) (k : Int) : zI (i + k) = zI (j + k) := by rw [← zI_add, h, zI_add]
theorem zI_m {i j : Int} (h : zI i = zI j) (k : Int) : zI (k - i) = zI (k - j) := by rw [← zI_sub, h, zI_sub]
theorem zix_c {i j : Int} (h : zI i = zI j) : zix i = zix j := by unfold zix; rw [h]
theorem ins_len {l : List Nat} {j x : Nat} (h : j ≤ l.length) : (l.take j ++ x :: l.drop j).length = l.length + 1 := by
  simp; omega
theorem ins_getD {l : List Nat} {j x k : Nat} (h : j ≤ l.length) (hk : k < l.length + 1) : (l.take j ++ x :: l.drop j).getD k 0 = if k < j then l.getD k 0 else if k = j then x else l.getD (k - 1) 0 := by
  rw [List.getD_eq_getElem?_getD, List.getElem?_append, List.length_take]
  by_cases h1 : k < j
  · rw [if_pos (by omega), if_pos h1, List.getElem?_take, if_pos h1, List.getD_eq_getElem?_getD]
  · rw [if_neg (by omega), if_neg h1]
    by_cases h2 : k = j
    · rw [if_pos h2, show k - min j l.length = 0 by omega]; rfl
    · rw [if_neg h2, show k - min j l.length = (k - 1 - j) + 1 by omega, List.getElem?_cons_succ, List.getElem?_drop, List.getD_eq_getElem?_getD, show j + (k - 1 - j) = k - 1 by omega]
theorem del_len {l : List Nat} {j : Nat} (h : j < l.length) : (l.take j ++ l.drop (j + 1)).length = l.length - 1 := by
  simp; omega
theorem del_getD {l : List Nat} {j k : Nat} (h : j < l.length) : (l.take j ++ l.drop (j + 1)).getD k 0 = if k < j then l.getD k 0 else l.getD (k + 1) 0 := by
  rw [List.getD_eq_getElem?_getD, List.getElem?_append, List.length_take]
  by_cases h1 : k < j
  · rw [if_pos (by omega), if_pos h1, List.getElem?_take, if_pos h1, List.getD_eq_getElem?_getD]
  · rw [if_neg (by omega), if_neg h1, List.getElem?_drop, List.getD_eq_getElem?_getD, show j + 1 + (k - min j l.length) = k + 1 by omega]
theorem mem_ins {l : List Nat} {j x z : Nat} (h : z ∈ l.take j ++ x :: l.drop j) : z = x ∨ z ∈ l := by
  rcases List.mem_append.mp h with q | q
  · exact Or.inr (List.mem_of_mem_take q)
  · rcases List.mem_cons.mp q with q | q
    · exact Or.inl q
    · exact Or.inr (List.mem_of_mem_drop q)
theorem mem_del {l : List Nat} {j z : Nat} (h : z ∈ l.take j ++ l.drop (j + 1)) : z ∈ l := by
  rcases List.mem_append.mp h with q | q
  · exact List.mem_of_mem_take q
  · exact List.mem_of_mem_drop q
theorem jp_insfin {r h r2 h2 : HP} (hp : rep r h) {a b x j : Nat} {i : Int} (ha : isL (pK h a)) (hx : isO (pK h x)) (B : BK r h r2 h2 a b) (hlt : (pL h a).length < pC h2 a) (hlen : (pL h a).length ≤ 1000) (hj : j ≤ (pL h a).length) (hi : zI i = zI (j : Int)) : ∃ r', f_J2_add_3_38 r2 a i x ((pL h a).length : Int) b = some r' ∧ rep r' (wL h2 a ((pL h a).take j ++ x :: (pL h a).drop j)) := by
  have B0 := B
  obtain ⟨b1, b2, b3, b4, b5, b6, b7, b8, b9, b10, b11, b12, b13⟩ := B
  have l4 := (hp.2.2.2.2.1 a ha).2.2.2.1
  have hk := hp.kind (isL_ne ha)
  have hkx := hp.kind (isO_ne hx)
  have hkk : pK r2 x = pK r x := (b4 x (isO_notL hx ha) (by rw [hkx]; exact isO_ne hx) (hp.notown (isO_ne hx))).1
  have h46 : ¬ pK r2 b = 46 := by rw [b7]; decide
  have z1 : zI (i + 1) = zI ((j + 1 : Nat) : Int) := (zI_p1 hi 1).trans rfl
  have z2 : zI (((pL h a).length : Int) - i) = zI (((pL h a).length - j : Nat) : Int) := by rw [zI_m hi]; congr 1; omega
  have i0 : zix i = j := (zix_c hi).trans (zix_nat (by omega))
  have i1 : zix (i + 1) = j + 1 := (zix_c z1).trans (zix_nat (by omega))
  have i2 : zix (((pL h a).length : Int) - i) = (pL h a).length - j := (zix_c z2).trans (zix_nat (by omega))
  have t0 : (zI i).toInt = (j : Int) := by rw [hi]; exact zti (by omega) (by omega)
  have t1 : (zI (i + 1)).toInt = ((j + 1 : Nat) : Int) := by rw [z1]; exact zti (by omega) (by omega)
  have t2 : (zI (((pL h a).length : Int) - i)).toInt = (((pL h a).length - j : Nat) : Int) := by rw [z2]; exact zti (by omega) (by omega)
  generalize hn : (pL h a).length = n at *
  have hcp : cpOKP r2 b i b (i + 1) ((n : Int) - i) := by
    refine ⟨⟨b7, b7⟩, ?_, ?_, ?_, ?_, ?_⟩
    · rw [t0]; omega
    · rw [t1]; omega
    · rw [t2]; omega
    · rw [t0, t2, b8]; omega
    · rw [t1, t2, b8]; omega
  refine ⟨wI (wP (wCP r2 b i b (i + 1) ((n : Int) - i)) b j (some x)) a 2 ((n : Int) + 1), ?_, ?_⟩
  · unfold f_J2_add_3_38
    rw [gd_of hcp, bnd_eq, gd_of (by rw [pK_wCP]; exact b7), gd_of (by unfold zin; rw [t0, pN_wCP, b8]; omega), gd_of (by right; exact ⟨by show isO (pK r2 x); rw [hkk, hkx]; exact hx, fun q => absurd q h46⟩), bnd_eq, i0, gd_of (by rw [pK_wP, pK_wCP, b5, hk]; exact Or.inl ha), bnd_eq]
  · refine BK.fin hp ha B0 (by rw [ins_len (by omega)]; omega) (fun z hz => ?_) rfl rfl (fun z hz => ?_) ?_ (fun z hz => ?_) (fun k hk' => ?_) ⟨rfl, rfl, rfl, rfl, rfl⟩
    · rcases mem_ins hz with q | q
      · rw [q]; exact hx
      · exact l4 z q
    · funext q; rw [pI_wI, if_neg (fun q => hz q.1), pI_wP, pI_wCP]
    · rw [pI_wI, if_pos ⟨rfl, rfl⟩, ins_len (by omega), hn]; rfl
    · funext q; rw [pP_wI, pP_wP, if_neg (fun q => hz q.1), pP_wCP, if_neg hz]
    · rw [ins_len (by omega), hn] at hk'
      rw [ins_getD (by omega) (by omega), pP_wI, pP_wP, pP_wCP, if_pos rfl, i0, i1, i2]
      by_cases h1 : k < j
      · rw [if_neg (by omega), pk_cpy_out (by omega), if_pos h1]
        exact b12 k (by omega)
      · by_cases h2 : k = j
        · rw [if_pos ⟨rfl, h2⟩, if_neg h1, if_pos h2]
        · rw [if_neg (fun q => h2 q.2), pk_cpy_in (by omega) (by omega), if_neg h1, if_neg h2, b12 _ (by omega), show j + (k - (j + 1)) = k - 1 by omega]
theorem jp_lIns {r h : HP} (hp : rep r h) (hw : wfX r) {a x : Nat} {i : Int} {y : HP} (e : lIns h a i x = some y) : ∃ r', f_J2_add_3 r a i x = some r' ∧ rep r' y := by
  obtain ⟨⟨ha, hx, hok, hi⟩, e⟩ := gd_inv e
  cases e
  have hLR := hp.2.2.2.2.1 a ha
  have hk := hp.kind (isL_ne ha)
  have hcap := hLR.cap
  obtain ⟨l1, l2, l3, l4, l5⟩ := hLR
  obtain ⟨j, j1, j2, j3⟩ := zin_ex hi (by have := hok.1; omega)
  have hlr : isLr (pK (wI r a 0 (pI r a 0 + 1)) a) := by rw [pK_wI, hk]; exact Or.inl ha
  have hI2 : pI (wI r a 0 (pI r a 0 + 1)) a 2 = ((pL h a).length : Int) := by rw [pI_wI, if_neg (fun q => by cases q.2)]; exact l1
  have hN : ∃ c, pP r a 1 = some c ∧ isAr (pK r c) ∧ pN r c = pC h a := by
    rcases l5 with ⟨l5, l6⟩ | ⟨l5, b, l6, l7, l8, l9⟩
    · exact ⟨_, l6, by rw [hp.2.2.2.2.2.2.2.2.1]; exact Or.inr (Or.inr rfl), by rw [hp.2.2.2.2.2.2.2.2.2, l5]⟩
    · exact ⟨b, l6, by rw [l7]; exact Or.inr (Or.inl rfl), l8⟩
  obtain ⟨c, c1, c2, c3⟩ := hN
  have hck : f_J2_rangeCheckForAdd r a i = some () := by
    unfold f_J2_rangeCheckForAdd
    have h1 := hok.1
    rw [gd_of (by rw [hk]; exact Or.inl ha), l1, j2, if_neg (by rw [zlt (by omega) (by omega) (by omega) (by omega)]; omega), if_neg (by rw [zlt (by omega) (by omega) (by omega) (by omega)]; omega)]
  rw [j3]
  by_cases he : (pL h a).length = pC h a
  · obtain ⟨r2, g1, g2⟩ := jp_grow hp hw ha he hok (pI r a 0 + 1)
    obtain ⟨r', f1, f2⟩ := jp_insfin hp ha hx g2 (by rw [pC_wGr, if_pos rfl, he]; exact lcap_gt hcap) hok.1 (by omega) j2
    refine ⟨r', ?_, ?_⟩
    · unfold f_J2_add_3
      rw [gd_of (by rw [hk]; exact ha), hck, obind_some, gd_of (by rw [hk]; exact Or.inl ha), gd_of (by rw [hk]; exact Or.inl ha), bnd_eq, gd_of hlr, bnd_eq, gd_of hlr, bnd_eq, pP_wI, c1, obind_some, gd_of (by rw [pK_wI]; exact c2), hI2, if_pos (by rw [pN_wI, c3, he]), gd_of (by rw [pK_wI, hk]; exact ha), g1, obind_some]
      exact f1
    · unfold lGrow
      rw [if_pos he]
      exact f2
  · have h10 : 10 ≤ pC h a := by
      rcases hcap with q | q
      · exact absurd (Nat.le_antisymm l2 (by rw [q]; exact Nat.zero_le _)) he
      · exact q
    obtain ⟨r', f1, f2⟩ := jp_insfin hp ha hx (BK.of hp ha c1 h10 (pI r a 0 + 1)) (Nat.lt_of_le_of_ne l2 he) hok.1 (by omega) j2
    refine ⟨r', ?_, ?_⟩
    · have hne : ¬ zI ((pL h a).length : Int) = zI (pC h a : Int) := by
        have h1 := hok.1
        rw [zeq (by omega) (by omega) (by omega) (by omega)]
        omega
      unfold f_J2_add_3
      rw [gd_of (by rw [hk]; exact ha), hck, obind_some, gd_of (by rw [hk]; exact Or.inl ha), gd_of (by rw [hk]; exact Or.inl ha), bnd_eq, gd_of hlr, bnd_eq, gd_of hlr, bnd_eq, pP_wI, c1, obind_some, gd_of (by rw [pK_wI]; exact c2), hI2, if_neg (by rw [pN_wI, c3]; exact hne)]
      exact f1
    · unfold lGrow
      rw [if_neg he]
      exact f2
theorem jp_lSet {r h : HP} (hp : rep r h) {a x : Nat} {i : Int} {y : HP × Nat} (e : lSet h a i x = some y) : ∃ r', f_J2_set r a i x = some (r', some y.2) ∧ rep r' y.1 := by
  obtain ⟨⟨ha, hx⟩, e⟩ := gd_inv e
  obtain ⟨hi, e⟩ := gd_inv e
  cases e
  have hLR := hp.2.2.2.2.1 a ha
  have hk := hp.kind (isL_ne ha)
  have hkx := hp.kind (isO_ne hx)
  have hlen : (pL h a).length < 2147483648 := by have := hLR.2.1; have := hLR.2.2.1; omega
  obtain ⟨j, j1, j2, j3⟩ := zin_ex hi hlen
  obtain ⟨b, c1, c2, c3, c4, c5⟩ := hLR.back (by omega)
  have hz : zin i (pN r b) := ⟨hi.1, by rw [c3]; have := hi.2; have := hLR.2.1; omega⟩
  have B := BK.of hp ha c1 c5 (pI r a 0)
  have h46 : ¬ pK r b = 46 := by rw [c2]; decide
  obtain ⟨l1, l2, l3, l4, l5⟩ := hLR
  refine ⟨wP r b j (some x), ?_, ?_⟩
  · unfold f_J2_set
    rw [gd_of (by rw [hk]; exact Or.inl ha), l1, jp_chk hi hlen, obind_some, gd_of (by rw [hk]; exact ha)]
    unfold f_J2_elementData
    rw [gd_of (by rw [hk]; exact Or.inl ha), c1, obind_some, gd_of c2, gd_of hz, obind_some, gd_of (by rw [hk]; exact Or.inl ha), obind_some, gd_of c2, gd_of hz, gd_of (by right; exact ⟨by show isO (pK r x); rw [hkx]; exact hx, fun q => absurd q h46⟩), bnd_eq, j3, c4 j j1]
  · rw [j3]
    refine BK.fin hp ha B (by rw [List.length_set]; exact l2) (fun z hz => ?_) rfl rfl (fun z hz => ?_) ?_ (fun z hz => ?_) (fun k hk' => ?_) ⟨rfl, rfl, rfl, rfl, rfl⟩
    · rcases List.mem_or_eq_of_mem_set hz with q | q
      · exact l4 z q
      · rw [q]; exact hx
    · funext q; rw [pI_wP, pI_wI, if_neg (fun q => hz q.1)]
    · rw [List.length_set]; exact l1
    · funext q; rw [pP_wP, if_neg (fun q => hz q.1), pP_wI]
    · rw [List.length_set] at hk'
      rw [pP_wP, List.getD_eq_getElem?_getD, List.getElem?_set]
      by_cases h2 : k = j
      · rw [if_pos ⟨rfl, h2⟩, if_pos h2.symm, if_pos (by omega)]; rfl
      · rw [if_neg (fun q => h2 q.2), if_neg (fun q => h2 q.symm), c4 k hk', List.getD_eq_getElem?_getD]
