/-! the reference: adoption, joined; end tags; characters -/
set_option maxRecDepth 100000
theorem getD_cut {A S C : List Nat} {bl k : Nat} : (A ++ C).getD k 0 = if k < A.length then (A ++ bl :: (S ++ C)).getD k 0 else (A ++ bl :: (S ++ C)).getD (k + (S.length + 1)) 0 := by
  simp only [List.getD, List.getElem?_append]
  by_cases h : k < A.length
  · simp [h]
  · rw [if_neg h, if_neg h, if_neg (by omega), show k + (S.length + 1) - A.length = (k - A.length + S.length) + 1 by omega, List.getElem?_cons_succ, List.getElem?_append, if_neg (by omega), show k - A.length + S.length - S.length = k - A.length by omega]
theorem getD_mv {A S C : List Nat} {bl k : Nat} (h : k < S.length + 1) : (A ++ bl :: (S ++ C)).getD (A.length + k) 0 = (bl :: S).getD k 0 := by
  have e : A ++ bl :: (S ++ C) = A ++ ((bl :: S) ++ C) := by simp
  rw [e]
  simp only [List.getD, List.getElem?_append]
  rw [if_neg (by omega), show A.length + k - A.length = k by omega, if_pos (by simp; exact h)]
theorem getD_put {X mv : List Nat} {a k : Nat} (ha : a ≤ X.length) : (X.take a ++ mv ++ X.drop a).getD k 0 = if a ≤ k ∧ k < a + mv.length then mv.getD (k - a) 0 else if k < a then X.getD k 0 else X.getD (k - mv.length) 0 := by
  simp only [List.getD, List.getElem?_append, List.length_append, List.length_take, Nat.min_eq_left ha]
  by_cases h1 : k < a
  · rw [if_pos (by omega), if_pos h1, if_neg (by omega), if_pos h1, List.getElem?_take, if_pos h1]
  · by_cases h2 : k < a + mv.length
    · rw [if_pos h2, if_neg h1, if_pos ⟨by omega, h2⟩]
    · rw [if_neg h2, if_neg (by omega), if_neg h1, List.getElem?_drop, show a + (k - (a + mv.length)) = k - mv.length by omega]
section MT
variable {M : MS} {T : TS} {e b id : Nat}
theorem m_adopt_eq (hR : RepM M T) (hW : WF T) (ha : AdOK T e b id) (hfb : ∀ j, e < j → j < b → isBlk (sNm T j) = false) : ∃ M', m_adopt M (e : Int) (id : Int) = some M' ∧ OutM M (tAdopt T e b id) M' := by
  have ha' := ha
  obtain ⟨g1, g2, g3, g4, g5, g6, g7⟩ := ha
  have hWb := hW.b
  have hw1 := hW.1.2.1
  have hlS := hWb.2.2.2.2.1
  have hSm := hWb.2.2.2.2.2.1
  have hblt : (tS T).getD b 0 < tN T := getD_lt hSm g3
  have hidn : id < tN T := by rw [← g4]; exact getD_lt hSm (by omega)
  have hOl := hW.1.2.2.1
  obtain ⟨A, S, C, hO, hA, hB, hS, hC⟩ := cutT hW.1.2.2.2.2.1.1 (hW.full hblt)
  obtain ⟨hno, hA0, hpl, k1, k2, k3, hw⟩ := ad_place hW ha' hO hS hC
  have hOl' := hOl
  rw [hO] at hOl'
  simp only [List.length_append, List.length_cons] at hOl'
  have hwd : WFo (A ++ C) (tP T) (tD T) := by
    have := hW.1.2.2.2.2.1
    rw [hO] at this
    exact this.del hA0 hS hC
  have hmAC : ∀ i, i < e → (tS T).getD i 0 ∈ A ++ C := fun i hi => by
    have hm := hW.full (getD_lt hSm (show i < (tS T).length by omega))
    rw [hO] at hm
    have := hno i (by omega)
    simp only [List.mem_append, List.mem_cons] at hm this ⊢
    rcases hm with z | z | z | z
    · exact Or.inl z
    · exact (this (Or.inl z)).elim
    · exact (this (Or.inr z)).elim
    · exact Or.inr z
  have hmO : ∀ i, i ∈ A ++ C → i < tN T := fun i hi => hW.1.2.2.2.1 i (by rw [hO]; rcases List.mem_append.mp hi with z | z <;> simp [z])
  have hmv : ∀ i ∈ (tS T).getD b 0 :: S, i < tN T := fun i hi => hW.1.2.2.2.1 i (by rw [hO]; rcases List.mem_cons.mp hi with z | z <;> simp [z])
  have hmvnd : ((tS T).getD b 0 :: S).Nodup := by
    have := hW.1.2.2.2.2.1.1
    rw [hO, List.nodup_append] at this
    have h2 := this.2.1
    have e2 : (tS T).getD b 0 :: (S ++ C) = ((tS T).getD b 0 :: S) ++ C := by simp
    rw [e2, List.nodup_append] at h2
    exact h2.1
  -- the reference's state by what it holds
  obtain ⟨h4, h5, h7, h13, h6, h8, h9, h10, h12, ⟨E, e1, e2, e3⟩, ⟨Ch, c1, c2, c3⟩⟩ := hR
  have hR : RepM M T := ⟨h4, h5, h7, h13, h6, h8, h9, h10, h12, ⟨E, e1, e2, e3⟩, ⟨Ch, c1, c2, c3⟩⟩
  -- the block is found
  have hfind : m_adopt M (e : Int) (id : Int) = m_adopt_33 M (e : Int) (id : Int) (b : Int) := by
    unfold m_adopt
    rw [bnd_eq]
    refine loopU (fun k => (k : Int)) (e + 1) b rfl (by omega) (fun k q1 q2 => ?_) ?_
    · have hs := getD_lt hSm (show k < (tS T).length by omega)
      have hbl := hfb k (by omega) q2
      simp only [m_adopt_4s]
      simp (disch := omega) only [if_ltp, if_ltn, if_eqp, if_eqn, if_T, if_F, gd_zin, gd_isB0, gd_isB1, zix_toNat, Int.toNat_natCast, tn_a1, tn_a, tn_s1, tn_s, tn_m1, tn_l0, tn_l1, bnd_eq, obind_some, mr_some, sI_s, sI_n, sI_2, sA_1, sA_s, sA_i, sA_n, h13, h12, m_named_eq hR hWb mk_b hs]
      have : [112, 100, 117, 108, 104, 116].contains (tM T ((tS T).getD k 0)) = false := hbl
      rw [this, zb_f]
      simp (disch := omega) only [if_ltp, if_ltn, if_eqp, if_eqn, if_T, if_F, gd_zin, gd_isB0, gd_isB1, zix_toNat, Int.toNat_natCast, tn_a1, tn_a, tn_s1, tn_s, tn_m1, tn_l0, tn_l1, bnd_eq, obind_some, mr_some, sI_s, sI_n, sI_2, sA_1, sA_s, sA_i, sA_n]
      rfl
    · have hs := getD_lt hSm g3
      simp only [m_adopt_4s]
      simp (disch := omega) only [if_ltp, if_ltn, if_eqp, if_eqn, if_T, if_F, gd_zin, gd_isB0, gd_isB1, zix_toNat, Int.toNat_natCast, tn_a1, tn_a, tn_s1, tn_s, tn_m1, tn_l0, tn_l1, bnd_eq, obind_some, mr_some, sI_s, sI_n, sI_2, sA_1, sA_s, sA_i, sA_n, h13, h12, m_named_eq hR hWb mk_b hs]
      have : [112, 100, 117, 108, 104, 116].contains (tM T ((tS T).getD b 0)) = true := g7
      rw [this, zb_t]
      simp (disch := omega) only [if_ltp, if_ltn, if_eqp, if_eqn, if_T, if_F, gd_zin, gd_isB0, gd_isB1, zix_toNat, Int.toNat_natCast, tn_a1, tn_a, tn_s1, tn_s, tn_m1, tn_l0, tn_l1, bnd_eq, obind_some, mr_some, sI_s, sI_n, sI_2, sA_1, sA_s, sA_i, sA_n]
  have hse := m_seat_eq hR hWb hblt
  have hbe := m_behind_eq hR hWb (p := seat T ((tS T).getD b 0)) (by rw [← hA, hO]; simp)
  have hd : ((A.length + 1 + S.length : Nat) : Int) - ((A.length : Nat) : Int) = ((S.length + 1 : Nat) : Int) := by omega
  have h33 : m_adopt_33 M (e : Int) (id : Int) (b : Int) = m_adopt_63 M (e : Int) (id : Int) (b : Int) ((tS T).getD b 0 : Nat) (A.length : Int) ((S.length + 1 : Nat) : Int) 0 := by
    unfold m_adopt_33
    rw [hB, ← hA] at hbe
    rw [← hA] at hse
    simp (disch := omega) only [if_ltp, if_ltn, if_eqp, if_eqn, if_T, if_F, gd_zin, gd_isB0, gd_isB1, zix_toNat, Int.toNat_natCast, tn_a1, tn_a, tn_s1, tn_s, tn_m1, tn_l0, tn_l1, bnd_eq, obind_some, mr_some, sI_s, sI_n, sI_2, sA_1, sA_s, sA_i, sA_n, h12, hse, hbe]
    rw [hd]
  -- without the block
  obtain ⟨M1, hM1⟩ : ∃ M1, M1 = sF M 11 (fun i => if i < S.length + 1 then M.2 6 (A.length + i) else M.2 11 i) := ⟨_, rfl⟩
  obtain ⟨M2, hM2⟩ : ∃ M2, M2 = sF (sI M1 5 ((A.length + C.length : Nat) : Int)) 6 (fun i => if A.length ≤ i ∧ i < A.length + C.length then M1.2 6 (i + (S.length + 1)) else M1.2 6 i) := ⟨_, rfl⟩
  have hM1' : ∀ k, k ≠ 11 → M1.2 k = M.2 k := fun k hk => by rw [hM1, sF_n _ _ _ _ hk]
  have hM11 : M1.1 = M.1 := by rw [hM1]; rfl
  have hM2' : ∀ k, k ≠ 11 → k ≠ 6 → M2.2 k = M.2 k := fun k q1 q2 => by rw [hM2, sF_n _ _ _ _ q2, sI_2, hM1' k q1]
  have hM21 : ∀ k, k ≠ 5 → M2.1 k = M.1 k := fun k hk => by rw [hM2, sF_1, sI_n _ _ _ _ hk, hM11]
  have hM2m : ∀ k, k < S.length + 1 → M2.2 11 k = ((((tS T).getD b 0 :: S).getD k 0 : Nat) : Int) := fun k hk => by
    rw [hM2, sF_n _ _ _ _ (by omega), sI_2, hM1, sF_s, if_pos hk, h6 _ (by omega), hO, getD_mv hk]
  have hR2 : RepM M2 (setO T (A ++ C) (tP T) (tD T)) := by
    refine ⟨?_, ?_, ?_, ?_, fun k hk => ?_, ?_, ?_, ?_, ?_, ⟨E, ?_, e2, ?_⟩, ⟨Ch, ?_, c2, ?_⟩⟩
    · rw [hM21 _ (by omega)]; exact h4
    · rw [hM2, sF_1, sI_s, tO_setO, List.length_append]
    · rw [hM21 _ (by omega)]; exact h7
    · rw [hM21 _ (by omega)]; exact h13
    · rw [tO_setO, List.length_append] at hk
      rw [tO_setO, getD_cut (S := S) (bl := (tS T).getD b 0), ← hO, hM2, sF_s, hM1' 6 (by omega)]
      by_cases q : k < A.length
      · rw [if_neg (by omega), if_pos q, h6 k (by omega)]
      · rw [if_pos (by omega), if_neg q, h6 _ (by omega)]
    · rw [hM2' _ (by omega) (by omega)]; exact h8
    · rw [hM2' _ (by omega) (by omega)]; exact h9
    · rw [hM2' _ (by omega) (by omega)]; exact h10
    · rw [hM2' _ (by omega) (by omega)]; exact h12
    · rw [hM21 _ (by omega)]; exact e1
    · rw [hM2' _ (by omega) (by omega), hM2' _ (by omega) (by omega)]; exact e3
    · rw [hM21 _ (by omega)]; exact c1
    · rw [hM2' _ (by omega) (by omega), hM2' _ (by omega) (by omega)]; exact c3
  have hWw : WFw (setO T (A ++ C) (tP T) (tD T)) := ⟨hw1, by rw [tO_setO, List.length_append]; show A.length + C.length ≤ tN T; omega, hmO, hWb.2.2.2.1, hlS, hSm, hWb.2.2.2.2.2.2.1, hWb.2.2.2.2.2.2.2.1, hwd.1⟩
  have hfp := m_findPlace_w hR2 hWw g1 (show e ≤ (tS T).length by omega) hmAC
  obtain ⟨A', C', f1, f2, f3, f4, f5, f6⟩ := hpl
  have hq1 : (plc (setO T (A ++ C) (tP T) (tD T)) e).1 ≤ A.length + C.length := by
    rw [← f2]
    have := congrArg List.length f1
    simp only [tO_setO, List.length_append] at this
    omega
  unfold tAdopt
  simp only []
  have hmveq : ((tO T).drop (seat T ((tS T).getD b 0))).take (behindA T (seat T ((tS T).getD b 0)) - seat T ((tS T).getD b 0)) = (tS T).getD b 0 :: S := by
    rw [hB, ← hA, hO, show A.length + 1 + S.length - A.length = S.length + 1 by omega]
    simp
  have hrest : (tO T).take (seat T ((tS T).getD b 0)) ++ (tO T).drop (seat T ((tS T).getD b 0) + (behindA T (seat T ((tS T).getD b 0)) - seat T ((tS T).getD b 0))) = A ++ C := by
    rw [hB, ← hA, hO, show A.length + (A.length + 1 + S.length - A.length) = A.length + (S.length + 1) by omega]
    simp
  rw [hmveq, hrest]
  generalize hq : plc (setO T (A ++ C) (tP T) (tD T)) e = q at *
  obtain ⟨a, dq, w⟩ := q
  simp only [tO_setO] at f1 f2 hfp hq1 ⊢
  generalize hbl : (tS T).getD b 0 = bl at *
  -- the block put back
  obtain ⟨M3, hM3⟩ : ∃ M3, M3 = sI (sI M2 20 (a : Int)) 21 (dq : Int) := ⟨_, rfl⟩
  have hM32 : M3.2 = M2.2 := by rw [hM3]; rfl
  obtain ⟨M4, hM4⟩ : ∃ M4, M4 = sI (sF M3 6 (fun i => if a + (S.length + 1) ≤ i ∧ i < A.length + C.length + (S.length + 1) then M3.2 6 (i - (S.length + 1)) else M3.2 6 i)) 5 ((tN T : Nat) : Int) := ⟨_, rfl⟩
  have hM4' : ∀ k, k ≠ 6 → M4.2 k = M2.2 k := fun k hk => by rw [hM4, sI_2, sF_n _ _ _ _ hk, hM32]
  obtain ⟨M5, hM5⟩ : ∃ M5, M5 = sF (sF M4 6 (fun i => if a ≤ i ∧ i < a + (S.length + 1) then (((bl :: S).getD (i - a) 0 : Nat) : Int) else M4.2 6 i)) 10 (fun i => if i ∈ bl :: S then M4.2 10 i + (if i = (bl :: S).getD 0 0 then (dq : Int) - (tD T bl : Int) else (dq : Int) - (tD T bl : Int) + 1) else M4.2 10 i) := ⟨_, rfl⟩
  obtain ⟨M6, hM6⟩ : ∃ M6, M6 = sF M5 12 (fun i => if e ≤ i ∧ i < e + ((tS T).length - b) then M5.2 12 (i + (b - e)) else M5.2 12 i) := ⟨_, rfl⟩
  have hM51 : M5.1 = M4.1 := by rw [hM5]; rfl
  have hM61 : M6.1 = M4.1 := by rw [hM6, sF_1, hM51]
  have hM41 : ∀ k, k ≠ 5 → k ≠ 20 → k ≠ 21 → M4.1 k = M.1 k := fun k q1 q2 q3 => by
    rw [hM4, sI_n _ _ _ _ q1, sF_1, hM3, sI_n _ _ _ _ q3, sI_n _ _ _ _ q2, hM21 k q1]
  have hM10 : M2.2 10 bl = (tD T bl : Int) := by rw [hM2' _ (by omega) (by omega)]; exact h10 bl hblt
  have hgoes : m_adopt M (e : Int) (id : Int) = m_adopt_312 M6 (e : Int) (id : Int) (b : Int) (bl : Int) (a : Int) := by
    rw [hfind, h33, ad63 _ _ _ _ _ _ (by omega), ← hM1, ad93 (ct := A.length + C.length) _ _ _ _ _ _ (by rw [hM11, h5, hOl]; omega) (by omega) (by omega), ← hM2]
    unfold m_adopt_140
    rw [hfp, ← hM3]
    simp (disch := omega) only [if_ltp, if_ltn, if_eqp, if_eqn, if_T, if_F, gd_zin, gd_isB0, gd_isB1, zix_toNat, Int.toNat_natCast, tn_a1, tn_a, tn_s1, tn_s, tn_m1, tn_l0, tn_l1, bnd_eq, obind_some, mr_some, sI_s, sI_n, sI_2, sA_1, sA_s, sA_i, sA_n]
    rw [hM32, hM10]
    have h20 : M3.1 20 = (a : Int) := by rw [hM3]; simp (disch := omega) only [if_ltp, if_ltn, if_eqp, if_eqn, if_T, if_F, gd_zin, gd_isB0, gd_isB1, zix_toNat, Int.toNat_natCast, tn_a1, tn_a, tn_s1, tn_s, tn_m1, tn_l0, tn_l1, bnd_eq, obind_some, mr_some, sI_s, sI_n, sI_2, sA_1, sA_s, sA_i, sA_n]
    have h21 : M3.1 21 = (dq : Int) := by rw [hM3]; simp (disch := omega) only [if_ltp, if_ltn, if_eqp, if_eqn, if_T, if_F, gd_zin, gd_isB0, gd_isB1, zix_toNat, Int.toNat_natCast, tn_a1, tn_a, tn_s1, tn_s, tn_m1, tn_l0, tn_l1, bnd_eq, obind_some, mr_some, sI_s, sI_n, sI_2, sA_1, sA_s, sA_i, sA_n]
    have h5' : M3.1 5 = ((A.length + C.length : Nat) : Int) := by rw [hM3]; simp (disch := omega) only [if_ltp, if_ltn, if_eqp, if_eqn, if_T, if_F, gd_zin, gd_isB0, gd_isB1, zix_toNat, Int.toNat_natCast, tn_a1, tn_a, tn_s1, tn_s, tn_m1, tn_l0, tn_l1, bnd_eq, obind_some, mr_some, sI_s, sI_n, sI_2, sA_1, sA_s, sA_i, sA_n]; exact hR2.2.1.trans (by rw [tO_setO, List.length_append])
    rw [h20, h21, h5', ad173 _ _ _ _ _ _ _ _ hq1 (by omega) (by omega)]
    unfold m_adopt_203
    rw [bnd_eq, sF_1, h5', show ((A.length + C.length : Nat) : Int) + ((S.length + 1 : Nat) : Int) = ((tN T : Nat) : Int) by omega, ← hM4]
    rw [ad217 _ _ _ _ _ _ _ (bl :: S) (by simp) hmvnd (fun k hk => by rw [hM4' 11 (by omega)]; exact hM2m k hk) (fun i hi => by have := hmv i hi; omega) (by omega) (by omega), ← hM5]
    rw [ad279 (ht := (tS T).length) _ _ _ _ _ g2 (by omega) (by rw [hM51, hM41 _ (by omega) (by omega) (by omega)]; exact h13) (by omega) (by omega), ← hM6]
  -- what is there now
  have n10 : M6.2 10 = fun i => if i ∈ bl :: S then M4.2 10 i + (if i = (bl :: S).getD 0 0 then (dq : Int) - (tD T bl : Int) else (dq : Int) - (tD T bl : Int) + 1) else M4.2 10 i := by rw [hM6, sF_n _ _ _ _ (by omega), hM5, sF_s]
  have n10bl : M6.2 10 bl = (dq : Int) := by
    rw [n10]
    simp only []
    rw [if_pos (by simp), hM4' 10 (by omega), hM10]
    have : bl = (bl :: S).getD 0 0 := rfl
    rw [if_pos this]
    omega
  have nO : ∀ k, k ≠ 6 → k ≠ 10 → k ≠ 11 → k ≠ 12 → M6.2 k = M.2 k := fun k q1 q2 q3 q4 => by
    rw [hM6, sF_n _ _ _ _ q4, hM5, sF_n _ _ _ _ q2, sF_n _ _ _ _ q1, hM4' k q1, hM2' k q3 q1]
  obtain ⟨M8, hM8⟩ : ∃ M8, M8 = sI (sI (sI M6 13 (((tS T).length - (b - e) : Nat) : Int)) 20 ((a + 1 : Nat) : Int)) 21 ((dq + 1 : Nat) : Int) := ⟨_, rfl⟩
  have hM82 : M8.2 = M6.2 := by rw [hM8]; rfl
  have h312 : m_adopt_312 M6 (e : Int) (id : Int) (b : Int) (bl : Int) (a : Int) = Option.bind (m_create M8 (tM T id) (tC T id)) (fun y21 => gd (zin 0 40) (bnd (sA y21.1 11 (zix 0) y21.2) (fun M22 => some M22))) := by
    unfold m_adopt_312
    have h13' : M6.1 13 = ((tS T).length : Int) := by rw [hM61, hM41 _ (by omega) (by omega) (by omega)]; exact h13
    rw [bnd_eq, bnd_eq, h13', show ((tS T).length : Int) - ((b : Int) - (e : Int)) = (((tS T).length - (b - e) : Nat) : Int) by omega]
    rw [gd_zin (by omega) (by omega) (by omega), bnd_eq, gd_zin (by omega) (by omega) (by omega), gd_zin (by omega) (by omega) (by omega)]
    rw [sI_2, sI_2, zix_nat (by omega), n10bl, show ((a : Int) + 1) = ((a + 1 : Nat) : Int) from rfl, show ((dq : Int) + 1) = ((dq + 1 : Nat) : Int) from rfl, ← hM8, hM82, zix_nat (by omega), nO 8 (by omega) (by omega) (by omega) (by omega), nO 9 (by omega) (by omega) (by omega) (by omega), h8 id hidn, h9 id hidn]
  have hR8 : RepM M8 (setS (setO (setO T (A ++ C) (tP T) (tD T)) ((A ++ C).take a ++ (bl :: S) ++ (A ++ C).drop a) (va_up (tP T) bl w) (fun i => if i = bl then dq else if i ∈ bl :: S then tD T i + dq + 1 - tD T bl else tD T i)) ((tS T).take e ++ (tS T).drop b)) := by
    have h81 : ∀ k, k ≠ 5 → k ≠ 13 → k ≠ 20 → k ≠ 21 → M8.1 k = M.1 k := fun k q1 q2 q3 q4 => by
      rw [hM8, sI_n _ _ _ _ q4, sI_n _ _ _ _ q3, sI_n _ _ _ _ q2, hM61, hM41 k q1 q3 q4]
    have haL : a ≤ (A ++ C).length := by rw [List.length_append]; exact hq1
    refine ⟨?_, ?_, ?_, ?_, fun k hk => ?_, ?_, ?_, fun i hi => ?_, fun k hk => ?_, ⟨E, ?_, e2, ?_⟩, ⟨Ch, ?_, c2, ?_⟩⟩
    · rw [h81 _ (by omega) (by omega) (by omega) (by omega)]; exact h4
    · rw [hM8, sI_n _ _ _ _ (by omega), sI_n _ _ _ _ (by omega), sI_n _ _ _ _ (by omega), hM61, hM4, sI_s, tO_setS, tO_setO]
      simp only [List.length_append, List.length_take, List.length_drop, List.length_cons]
      rw [List.length_append] at haL
      omega
    · rw [h81 _ (by omega) (by omega) (by omega) (by omega)]; exact h7
    · rw [hM8, sI_n _ _ _ _ (by omega), sI_n _ _ _ _ (by omega), sI_s, tS_setS, List.length_append, List.length_take, List.length_drop]
      omega
    · rw [tO_setS, tO_setO] at hk ⊢
      simp only [List.length_append, List.length_take, List.length_drop, List.length_cons] at hk
      rw [getD_put haL]
      rw [List.length_append] at haL
      have hM6' : M6.2 6 = fun i => if a ≤ i ∧ i < a + (S.length + 1) then (((bl :: S).getD (i - a) 0 : Nat) : Int) else M4.2 6 i := by rw [hM6, sF_n _ _ _ _ (by omega), hM5, sF_n _ _ _ _ (by omega), sF_s]
      have hM46 : M4.2 6 = fun i => if a + (S.length + 1) ≤ i ∧ i < A.length + C.length + (S.length + 1) then M2.2 6 (i - (S.length + 1)) else M2.2 6 i := by rw [hM4, sI_2, sF_s, hM32]
      rw [hM82, hM6']
      simp only []
      have hcl : (bl :: S).length = S.length + 1 := rfl
      rw [hcl]
      by_cases q1 : a ≤ k ∧ k < a + (S.length + 1)
      · rw [if_pos q1, if_pos q1]
      · rw [if_neg q1, if_neg q1, hM46]
        simp only []
        by_cases q2 : k < a
        · rw [if_neg (by omega), if_pos q2]
          exact hR2.2.2.2.2.1 k (by rw [tO_setO, List.length_append]; omega)
        · rw [if_pos (by omega), if_neg q2]
          exact hR2.2.2.2.2.1 (k - (S.length + 1)) (by rw [tO_setO, List.length_append]; omega)
    · rw [hM82, nO _ (by omega) (by omega) (by omega) (by omega)]; exact h8
    · rw [hM82, nO _ (by omega) (by omega) (by omega) (by omega)]; exact h9
    · rw [tD_setS, tD_setO, hM82, n10]
      simp only []
      have hi' : i < tN T := hi
      have h10i := h10 i hi'
      rw [hM4' 10 (by omega), hM2' 10 (by omega) (by omega), h10i]
      have hg0 : (bl :: S).getD 0 0 = bl := rfl
      rw [hg0]
      by_cases z : i = bl
      · rw [if_pos z, if_pos (by rw [z]; simp), if_pos z, z]
        omega
      · rw [if_neg z, if_neg z]
        by_cases y : i ∈ bl :: S
        · rw [if_pos y, if_pos y]
          have hy : i ∈ S := by
            rcases List.mem_cons.mp y with u | u
            · exact (z u).elim
            · exact u
          have := hS i hy
          omega
        · rw [if_neg y, if_neg y]
    · rw [tS_setS] at hk ⊢
      simp only [List.length_append, List.length_take, List.length_drop] at hk
      have hM512 : M5.2 12 = M.2 12 := by rw [hM5, sF_n _ _ _ _ (by omega), sF_n _ _ _ _ (by omega), hM4' _ (by omega), hM2' _ (by omega) (by omega)]
      rw [hM82, hM6, sF_s, hM512]
      by_cases z : k < e
      · rw [if_neg (by omega), h12 k (by omega)]
        simp only [List.getD, List.getElem?_append, List.length_take]
        rw [if_pos (by omega), List.getElem?_take, if_pos z]
      · rw [if_pos (by omega), h12 _ (by omega)]
        simp only [List.getD, List.getElem?_append, List.length_take]
        rw [if_neg (by omega), List.getElem?_drop, show b + (k - min e (tS T).length) = k + (b - e) by omega]
    · rw [h81 _ (by omega) (by omega) (by omega) (by omega)]; exact e1
    · rw [hM82, nO _ (by omega) (by omega) (by omega) (by omega), nO _ (by omega) (by omega) (by omega) (by omega)]; exact e3
    · rw [h81 _ (by omega) (by omega) (by omega) (by omega)]; exact c1
    · rw [hM82, nO _ (by omega) (by omega) (by omega) (by omega), nO _ (by omega) (by omega) (by omega) (by omega)]; exact c3
  have hfm8 : FM M M8 := by
    refine ⟨fun k hk => ?_, fun k hk => ?_⟩
    · have q : ∀ j, j ∈ [4, 5, 7, 13, 16, 17, 20, 21] → k ≠ j := fun j hj z => hk (z ▸ hj)
      rw [hM8, sI_n _ _ _ _ (q 21 (by simp)), sI_n _ _ _ _ (q 20 (by simp)), sI_n _ _ _ _ (q 13 (by simp)), hM61, hM41 k (q 5 (by simp)) (q 20 (by simp)) (q 21 (by simp))]
    · have q : ∀ j, j ∈ [6, 8, 9, 10, 11, 12, 14, 15, 18, 19] → k ≠ j := fun j hj z => hk (z ▸ hj)
      rw [hM82, nO k (q 6 (by simp)) (q 10 (by simp)) (q 11 (by simp)) (q 12 (by simp))]
  by_cases hn : tN T = 24
  · rw [mkN_none (by exact hn)]
    refine ⟨sA (sI M8 4 1) 11 0 0, ?_, (hfm8.sI (by simp) _).sA (by simp) _ _, ?_⟩
    · rw [hgoes, h312, m_create_none hR8 _ _ hn]
      simp (disch := omega) only [if_ltp, if_ltn, if_eqp, if_eqn, if_T, if_F, gd_zin, gd_isB0, gd_isB1, zix_toNat, Int.toNat_natCast, tn_a1, tn_a, tn_s1, tn_s, tn_m1, tn_l0, tn_l1, bnd_eq, obind_some, mr_some, sI_s, sI_n, sI_2, sA_1, sA_s, sA_i, sA_n]
    · show (sA _ _ _ _).1 4 = 1
      simp (disch := omega) only [if_ltp, if_ltn, if_eqp, if_eqn, if_T, if_F, gd_zin, gd_isB0, gd_isB1, zix_toNat, Int.toNat_natCast, tn_a1, tn_a, tn_s1, tn_s, tn_m1, tn_l0, tn_l1, bnd_eq, obind_some, mr_some, sI_s, sI_n, sI_2, sA_1, sA_s, sA_i, sA_n]
  · rw [mkN_some (by exact hn)]
    simp only []
    have hlen3 : (tO (setS (setO (setO T (A ++ C) (tP T) (tD T)) ((A ++ C).take a ++ (bl :: S) ++ (A ++ C).drop a) (va_up (tP T) bl w) (fun i => if i = bl then dq else if i ∈ bl :: S then tD T i + dq + 1 - tD T bl else tD T i)) ((tS T).take e ++ (tS T).drop b))).length = tN T := by
      rw [tO_setS, tO_setO]
      simp only [List.length_append, List.length_take, List.length_drop, List.length_cons]
      omega
    obtain ⟨M9, a1, a2, a3, a4⟩ := m_create_some hR8 ⟨hw1, hlen3⟩ (tM T id) (tC T id) (a + 1, dq + 1, bl) hn (by show a + 1 ≤ tN T; omega) (by rw [hM8]; simp (disch := omega) only [if_ltp, if_ltn, if_eqp, if_eqn, if_T, if_F, gd_zin, gd_isB0, gd_isB1, zix_toNat, Int.toNat_natCast, tn_a1, tn_a, tn_s1, tn_s, tn_m1, tn_l0, tn_l1, bnd_eq, obind_some, mr_some, sI_s, sI_n, sI_2, sA_1, sA_s, sA_i, sA_n]) (by rw [hM8]; simp (disch := omega) only [if_ltp, if_ltn, if_eqp, if_eqn, if_T, if_F, gd_zin, gd_isB0, gd_isB1, zix_toNat, Int.toNat_natCast, tn_a1, tn_a, tn_s1, tn_s, tn_m1, tn_l0, tn_l1, bnd_eq, obind_some, mr_some, sI_s, sI_n, sI_2, sA_1, sA_s, sA_i, sA_n]) (hW.2.2.2.2.2 _ (Nat.le_refl _)).1 (hW.2.2.2.2.2 _ (Nat.le_refl _)).2
    refine ⟨sA M9 11 0 (tN T : Int), ?_, (hfm8.trans a2).sA (by simp) _ _, ?_⟩
    · rw [hgoes, h312, a1]
      simp (disch := omega) only [if_ltp, if_ltn, if_eqp, if_eqn, if_T, if_F, gd_zin, gd_isB0, gd_isB1, zix_toNat, Int.toNat_natCast, tn_a1, tn_a, tn_s1, tn_s, tn_m1, tn_l0, tn_l1, bnd_eq, obind_some, mr_some, sI_s, sI_n, sI_2, sA_1, sA_s, sA_i, sA_n]
      rfl
    · exact a4.mv 0 _
theorem m_endOther_eq (hR : RepM M T) (hW : WF T) {x : Int} (hx : 97 ≤ x ∧ x ≤ 122) : ∃ M', m_endOther M x = some M' ∧ OutM M (if isFmt x && decide (lastB (fun k => decide (1 ≤ k) && decide (tM T ((tL T (ownr T)).getD (k - 1) 0) = x)) ((tL T (ownr T)).length + 1) ≠ 0) then tFmt T (lastB (fun k => decide (1 ≤ k) && decide (tM T ((tL T (ownr T)).getD (k - 1) 0) = x)) ((tL T (ownr T)).length + 1) - 1) else some (cls T (rch T x [112, 100, 117, 108, 104, 116, 114, 99]))) M' := by
  have hx' : nmOK x := by unfold nmOK; omega
  have hbit := m_bit_eq x (by omega) (by omega)
  have hWb := hW.b
  have hw1 := hW.1.2.1
  have hlS := hWb.2.2.2.2.1
  obtain ⟨E, hE⟩ := hR.ent
  obtain ⟨hl1, hl2, hl3⟩ := hR.ent' hE
  have h16 := hE.1
  have ho := hW.ownr_lt
  -- when the list has none
  have hnone : ∃ M', m_endOther_65 M x (-1) = some M' ∧ OutM M (some (cls T (rch T x [112, 100, 117, 108, 104, 116, 114, 99]))) M' := by
    obtain ⟨M1, p1, p2, p3⟩ := m_close_eq hR hW x hx' mk_a (fun M5 => some M5)
    refine ⟨M1, ?_, p1, p2⟩
    unfold m_endOther_65
    rw [if_ltp (by omega) (by omega) (by omega)]
    exact p3
  unfold m_endOther
  rw [m_listOwner_eq hR hWb, obind_some]
  cases hf : isFmt x with
  | false =>
    simp only [Bool.false_and, Bool.false_eq_true, if_false]
    obtain ⟨M', a1, a2⟩ := hnone
    refine ⟨M', ?_, a2⟩
    have hmk : ∀ (p q : Option ((Int × Int) ⊕ MS)), (if zI (zand (bitv x) 262402) = zI 0 then p else q) = p := fun p q => by rw [mk_f.at hx', isFmt_mk, hf]; rfl
    refine iter_mr (o := some M') ?_
    by_cases hz : E.length = 0
    · simp only [m_endOther_10s]
      rw [if_ltn (by rw [h16]; omega) (by rw [h16]; omega) (by omega), a1]
    · simp only [m_endOther_10s]
      rw [if_ltp (by rw [h16]; omega) (by omega) (by rw [h16]; omega), hbit, obind_some, hmk, a1]
  | true =>
    simp only [Bool.true_and, decide_eq_true_eq]
    have hmk : ∀ (p q : Option ((Int × Int) ⊕ MS)), (if zI (zand (bitv x) 262402) = zI 0 then p else q) = q := fun p q => by rw [mk_f.at hx', isFmt_mk, hf]; rfl
    -- the loop over the entries
    have hloop : ∃ at' : Int, m_endOther_10 M x ((ownr T : Nat) : Int) (-1) 0 = m_endOther_65 M x at' ∧ ((at' = -1 ∧ lastB (fun k => decide (1 ≤ k) && decide (tM T ((tL T (ownr T)).getD (k - 1) 0) = x)) ((tL T (ownr T)).length + 1) = 0) ∨ ∃ g : Nat, at' = (g : Int) ∧ g < E.length ∧ (E.getD g (0, 0)).2 = ownr T ∧ lastB (fun k => decide (1 ≤ k) && decide (tM T ((tL T (ownr T)).getD (k - 1) 0) = x)) ((tL T (ownr T)).length + 1) = cn (ownr T) E g + 1) := by
      have hit : ∀ n g (at' : Int), E.length - g = n → g ≤ E.length → ((at' = -1 ∧ lastB (fun k => decide (1 ≤ k) && decide (tM T ((tL T (ownr T)).getD (k - 1) 0) = x)) (cn (ownr T) E g + 1) = 0) ∨ ∃ g' : Nat, at' = (g' : Int) ∧ g' < g ∧ (E.getD g' (0, 0)).2 = ownr T ∧ lastB (fun k => decide (1 ≤ k) && decide (tM T ((tL T (ownr T)).getD (k - 1) 0) = x)) (cn (ownr T) E g + 1) = cn (ownr T) E g' + 1) → ∃ at2 : Int, iter (fun (z : Int × Int) => m_endOther_10s M x ((ownr T : Nat) : Int) z.1 z.2) (at', (g : Int)) = m_endOther_65 M x at2 ∧ ((at2 = -1 ∧ lastB (fun k => decide (1 ≤ k) && decide (tM T ((tL T (ownr T)).getD (k - 1) 0) = x)) ((tL T (ownr T)).length + 1) = 0) ∨ ∃ g : Nat, at2 = (g : Int) ∧ g < E.length ∧ (E.getD g (0, 0)).2 = ownr T ∧ lastB (fun k => decide (1 ≤ k) && decide (tM T ((tL T (ownr T)).getD (k - 1) 0) = x)) ((tL T (ownr T)).length + 1) = cn (ownr T) E g + 1) := by
        intro n
        induction n with
        | zero =>
          intro g at' hn hg hI
          have hge : g = E.length := by omega
          subst hge
          refine ⟨at', ?_, ?_⟩
          · refine iter_mr ?_
            simp only [m_endOther_10s]
            simp (disch := omega) only [if_ltp, if_ltn, if_eqp, if_eqn, if_T, if_F, gd_zin, gd_isB0, gd_isB1, zix_toNat, Int.toNat_natCast, tn_a1, tn_a, tn_s1, tn_s, tn_m1, tn_l0, tn_l1, bnd_eq, obind_some, mr_some, sI_s, sI_n, sI_2, sA_1, sA_s, sA_i, sA_n, h16]
          · rw [cn_all, hl3] at hI
            rcases hI with z | ⟨g', z1, z2, z3, z4⟩
            · exact Or.inl z
            · exact Or.inr ⟨g', z1, z2, z3, z4⟩
        | succ n ih =>
          intro g at' hn hg hI
          have hgl : g < E.length := by omega
          have hn1 : E.length - (g + 1) = n := by rw [← Nat.sub_sub, hn]; rfl
          have hEg := hE.2 g hgl
          have hmem : E.getD g (0, 0) ∈ E := by rw [gD hgl]; exact List.getElem_mem _
          have hlt := hl2 _ hmem
          have h8 : M.2 8 (E.getD g (0, 0)).1 = tM T (E.getD g (0, 0)).1 := hR.2.2.2.2.2.1 _ hlt.1
          have hnm := hW.nm hlt.1
          unfold nmOK at hnm
          by_cases hog : (E.getD g (0, 0)).2 = ownr T
          · obtain ⟨c1, c2⟩ := cn_at hgl hog
            rw [hl3] at c1 c2
            have hcs : cn (ownr T) E (g + 1) = cn (ownr T) E g + 1 := by rw [cn_s hgl, if_pos hog]
            have hls : lastB (fun k => decide (1 ≤ k) && decide (tM T ((tL T (ownr T)).getD (k - 1) 0) = x)) (cn (ownr T) E (g + 1) + 1) = if tM T (E.getD g (0, 0)).1 = x then cn (ownr T) E g + 1 else lastB (fun k => decide (1 ≤ k) && decide (tM T ((tL T (ownr T)).getD (k - 1) 0) = x)) (cn (ownr T) E g + 1) := by
              rw [hcs, lastB_s]
              simp only [Nat.add_sub_cancel]
              rw [c2]
              simp
            by_cases hxx : tM T (E.getD g (0, 0)).1 = x
            · obtain ⟨at2, i1, i2⟩ := ih (g + 1) (g : Int) hn1 hgl (Or.inr ⟨g, rfl, Nat.lt_succ_self g, hog, by rw [hls, if_pos hxx]⟩)
              refine ⟨at2, ?_, i2⟩
              rw [← i1]
              refine iter_in ?_
              simp only [m_endOther_10s, m_endOther_59]
              rw [hbit, obind_some, hmk]
              simp (disch := omega) only [if_ltp, if_ltn, if_eqp, if_eqn, if_T, if_F, gd_zin, gd_isB0, gd_isB1, zix_toNat, Int.toNat_natCast, tn_a1, tn_a, tn_s1, tn_s, tn_m1, tn_l0, tn_l1, bnd_eq, obind_some, mr_some, sI_s, sI_n, sI_2, sA_1, sA_s, sA_i, sA_n, h16, hEg.1, hEg.2, hog, h8]
              rfl
            · obtain ⟨at2, i1, i2⟩ := ih (g + 1) at' hn1 hgl (by
                rw [hls, if_neg hxx]
                rcases hI with z | ⟨g', z1, z2, z3, z4⟩
                · exact Or.inl z
                · exact Or.inr ⟨g', z1, Nat.lt_succ_of_lt z2, z3, z4⟩)
              refine ⟨at2, ?_, i2⟩
              rw [← i1]
              refine iter_in ?_
              simp only [m_endOther_10s, m_endOther_59]
              rw [hbit, obind_some, hmk]
              simp (disch := omega) only [if_ltp, if_ltn, if_eqp, if_eqn, if_T, if_F, gd_zin, gd_isB0, gd_isB1, zix_toNat, Int.toNat_natCast, tn_a1, tn_a, tn_s1, tn_s, tn_m1, tn_l0, tn_l1, bnd_eq, obind_some, mr_some, sI_s, sI_n, sI_2, sA_1, sA_s, sA_i, sA_n, h16, hEg.1, hEg.2, hog, h8]
              rfl
          · have hne : (((E.getD g (0, 0)).2 : Nat) : Int) ≠ ((ownr T : Nat) : Int) := by omega
            have hcs : cn (ownr T) E (g + 1) = cn (ownr T) E g := by rw [cn_s hgl, if_neg hog]
            obtain ⟨at2, i1, i2⟩ := ih (g + 1) at' hn1 hgl (by
              rw [hcs]
              rcases hI with z | ⟨g', z1, z2, z3, z4⟩
              · exact Or.inl z
              · exact Or.inr ⟨g', z1, Nat.lt_succ_of_lt z2, z3, z4⟩)
            refine ⟨at2, ?_, i2⟩
            rw [← i1]
            refine iter_in ?_
            simp only [m_endOther_10s, m_endOther_59]
            rw [hbit, obind_some, hmk]
            simp (disch := omega) only [if_ltp, if_ltn, if_eqp, if_eqn, if_T, if_F, gd_zin, gd_isB0, gd_isB1, zix_toNat, Int.toNat_natCast, tn_a1, tn_a, tn_s1, tn_s, tn_m1, tn_l0, tn_l1, bnd_eq, obind_some, mr_some, sI_s, sI_n, sI_2, sA_1, sA_s, sA_i, sA_n, h16, hEg.1, hEg.2]
            rfl
      exact hit E.length 0 (-1) (by omega) (by omega) (Or.inl ⟨rfl, by simp [cn, fl, lastB]⟩)
    obtain ⟨at2, l1, l2⟩ := hloop
    rw [l1]
    rcases l2 with ⟨z1, z2⟩ | ⟨g, z1, z2, z3, z4⟩
    · rw [z1, if_neg (by rw [z2]; simp)]
      exact hnone
    · rw [z1, z4, if_pos (by omega), Nat.add_sub_cancel]
      have hEg := hE.2 g z2
      have hmem : E.getD g (0, 0) ∈ E := by rw [gD z2]; exact List.getElem_mem _
      have hlt := hl2 _ hmem
      obtain ⟨c1, c2⟩ := cn_at z2 z3
      rw [hl3] at c1 c2
      -- the entry goes
      obtain ⟨M1, d1, d2, d3, d4, d5⟩ := m_dropEntry_eq hE (by omega) z2
      have hfl := fl_drop (E := E) z2 z3
      have hR1 : RepM M1 (setL T (va_up (tL T) (ownr T) ((tL T (ownr T)).take (cn (ownr T) E g) ++ (tL T (ownr T)).drop (cn (ownr T) E g + 1)))) := by
        refine hR.reent d4 d5 d3 (by simp; omega) (fun e he => ?_) (fun o' => ?_)
        · rcases List.mem_append.mp he with z | z
          · exact hl2 e (List.mem_of_mem_take z)
          · exact hl2 e (List.mem_of_mem_drop z)
        · rw [hfl o', hl3, hl3]
          by_cases q : o' = ownr T
          · rw [q, va_up_s, if_pos rfl]
          · rw [va_up_n _ _ _ _ q, if_neg q]
      have hW1 := hW.wdrop (ownr T) (cn (ownr T) E g)
      have hop := m_opened_eq hR hWb hlt.1
      unfold tFmt m_endOther_65
      simp only []
      rw [if_ltn (by omega) (by omega) (by omega), gd_zin (by omega) (by omega) (by omega), zix_nat (by omega), hEg.1, hop, obind_some, c2]
      by_cases hm : (E.getD g (0, 0)).1 ∈ tS T
      · have hix := List.idxOf_lt_length_of_mem hm
        rw [if_pos hm, if_pos hm]
        have hab := m_above_eq hR hWb mk_t hix
        have hab1 := m_above_eq hR1 hW1.b mk_b hix
        rw [if_ltn (by omega) (by omega) (by omega), hab, obind_some]
        have htb : (anyB (fun k => [116].contains (sNm T k)) ((tS T).idxOf (E.getD g (0, 0)).1 + 1) (tS T).length = false) ↔ lastB (fun j => decide ((tS T).idxOf (E.getD g (0, 0)).1 < j) && decide (sNm T j = 116)) (tS T).length = 0 := by
          rw [anyB_false]
          constructor
          · intro h
            cases hz : lastB (fun j => decide ((tS T).idxOf (E.getD g (0, 0)).1 < j) && decide (sNm T j = 116)) (tS T).length with
            | zero => rfl
            | succ m =>
              exfalso
              have h1 := lastB_at _ _ (by rw [hz]; omega)
              have h2 := lastB_lt (fun j => decide ((tS T).idxOf (E.getD g (0, 0)).1 < j) && decide (sNm T j = 116)) (tS T).length (by omega)
              rw [hz] at h1 h2
              simp only [Bool.and_eq_true, decide_eq_true_eq] at h1
              have h3 := h (m + 1) (by omega) h2
              rw [h1.2] at h3
              exact absurd h3 (by decide)
          · intro h k k1 k2
            have := lastB_max _ _ k (by rw [h]; omega) k2
            refine c1_ne fun q => ?_
            simp only [Bool.and_eq_false_iff, decide_eq_false_iff_not] at this
            rcases this with u | u
            · omega
            · exact u q
        by_cases ht : lastB (fun j => decide ((tS T).idxOf (E.getD g (0, 0)).1 < j) && decide (sNm T j = 116)) (tS T).length = 0
        · rw [htb.mpr ht, zb_f, if_eqp rfl, if_neg (by rw [ht]; simp), gd_zin (by omega) (by omega) (by omega), bnd_eq, d1, obind_some, hab1, obind_some]
          have hbb : anyB (fun k => [112, 100, 117, 108, 104, 116].contains (sNm (setL T (va_up (tL T) (ownr T) ((tL T (ownr T)).take (cn (ownr T) E g) ++ (tL T (ownr T)).drop (cn (ownr T) E g + 1)))) k)) ((tS T).idxOf (E.getD g (0, 0)).1 + 1) (tS T).length = false ↔ (List.range (tS T).length).filter (fun j => decide ((tS T).idxOf (E.getD g (0, 0)).1 < j) && isBlk (sNm T j)) = [] := by
            rw [anyB_false, List.filter_eq_nil_iff]
            constructor
            · intro h j hj
              have hj' := List.mem_range.mp hj
              by_cases q : (tS T).idxOf (E.getD g (0, 0)).1 < j
              · have := h j q hj'
                have h2 : isBlk (sNm T j) = false := this
                simp [h2]
              · rw [show decide ((tS T).idxOf (E.getD g (0, 0)).1 < j) = false from decide_eq_false q]; simp
            · intro h k k1 k2
              have h1 := h k (List.mem_range.mpr k2)
              rw [show decide ((tS T).idxOf (E.getD g (0, 0)).1 < k) = true from decide_eq_true (by omega), Bool.true_and] at h1
              exact Bool.eq_false_iff.mpr h1
          have hSS : tS (setL T (va_up (tL T) (ownr T) ((tL T (ownr T)).take (cn (ownr T) E g) ++ (tL T (ownr T)).drop (cn (ownr T) E g + 1)))) = tS T := rfl
          rw [hSS]
          by_cases hbs : (List.range (tS T).length).filter (fun j => decide ((tS T).idxOf (E.getD g (0, 0)).1 < j) && isBlk (sNm T j)) = []
          · rw [if_pos hbs, hbb.mpr hbs, zb_f, if_eqp rfl]
            refine ⟨sI M1 13 (((tS T).idxOf (E.getD g (0, 0)).1 : Nat) : Int), rfl, d2.sI (by simp) _, ?_⟩
            unfold cls
            have hi0 : (tS T).idxOf (E.getD g (0, 0)).1 ≠ 0 := fun q => by
              have hat : (tS T).getD ((tS T).idxOf (E.getD g (0, 0)).1) 0 = (E.getD g (0, 0)).1 := (idx_iff hW.2.2.1.2.1 hm hix).mpr rfl
              obtain ⟨r, hr⟩ := hW.2.2.1.1
              rw [q, hr] at hat
              have h0 : (E.getD g (0, 0)).1 = 0 := hat.symm
              have hml : (E.getD g (0, 0)).1 ∈ tL T (ownr T) := by rw [← c2, gD c1]; exact List.getElem_mem _
              have h1 := (hW.2.2.2.1 _ _ hml).2
              rw [h0, hW.2.1.1] at h1
              exact absurd h1 (by decide)
            rw [if_neg hi0]
            exact hR1.close (by rw [hSS]; omega)
          · rw [if_neg hbs]
            have hany : anyB (fun k => [112, 100, 117, 108, 104, 116].contains (sNm (setL T (va_up (tL T) (ownr T) ((tL T (ownr T)).take (cn (ownr T) E g) ++ (tL T (ownr T)).drop (cn (ownr T) E g + 1)))) k)) ((tS T).idxOf (E.getD g (0, 0)).1 + 1) (tS T).length = true := by
              cases hz : anyB (fun k => [112, 100, 117, 108, 104, 116].contains (sNm (setL T (va_up (tL T) (ownr T) ((tL T (ownr T)).take (cn (ownr T) E g) ++ (tL T (ownr T)).drop (cn (ownr T) E g + 1)))) k)) ((tS T).idxOf (E.getD g (0, 0)).1 + 1) (tS T).length with
              | true => rfl
              | false => exact absurd (hbb.mp hz) hbs
            rw [hany, zb_t, if_eqn (by omega) (by omega) (by omega) (by omega) (by omega)]
            have had := fmt_ad hW c1 (by rw [c2]; exact hm) (by rw [c2]; exact ht) (by rw [c2]; exact hbs)
            rw [c2] at had
            have hfh := filt_head hbs
            obtain ⟨M2, a1, a2, a3⟩ := m_adopt_eq hR1 hW1 (AdOK_setL had) (fun j j1 j2 => by
              have := hfh.2.2 j j2
              rw [show decide ((tS T).idxOf (E.getD g (0, 0)).1 < j) = true from decide_eq_true j1, Bool.true_and] at this
              exact this)
            refine ⟨M2, ?_, d2.trans a2, a3⟩
            rw [a1]; rfl
        · have hz : anyB (fun k => [116].contains (sNm T k)) ((tS T).idxOf (E.getD g (0, 0)).1 + 1) (tS T).length = true := by
            cases hz : anyB (fun k => [116].contains (sNm T k)) ((tS T).idxOf (E.getD g (0, 0)).1 + 1) (tS T).length with
            | true => rfl
            | false => exact absurd (htb.mp hz) ht
          rw [hz, zb_t, if_eqn (by omega) (by omega) (by omega) (by omega) (by omega), if_pos ht]
          exact ⟨M, rfl, FM.refl M, hR⟩
      · rw [if_neg hm, if_neg hm, if_ltp (by omega) (by omega) (by omega), d1, obind_some]
        exact ⟨M1, rfl, d2, hR1⟩
end MT
