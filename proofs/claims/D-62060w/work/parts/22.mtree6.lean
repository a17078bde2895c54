/-! the reference: adoption -/
set_option maxRecDepth 100000
section MT
variable {M : MS} {T : TS}
theorem ad63 (e id b bl p n : Nat) (hp : p + n ≤ 40) : m_adopt_63 M (e : Int) (id : Int) (b : Int) (bl : Int) (p : Int) (n : Int) 0 = m_adopt_93 (sF M 11 (fun i => if i < n then M.2 6 (p + i) else M.2 11 i)) (e : Int) (id : Int) (b : Int) (bl : Int) (p : Int) (n : Int) := by
  refine loopU (fun k => (sF M 11 (fun i => if i < k then M.2 6 (p + i) else M.2 11 i), (k : Int))) 0 n ?_ (Nat.zero_le _) (fun k k1 k2 => ?_) ?_
  · refine Prod.ext ?_ rfl
    simp only [Nat.not_lt_zero, if_false]
    exact (sF_id M 11).symm
  · simp only [m_adopt_63s]
    simp (disch := omega) only [if_ltp, if_ltn, if_eqp, if_eqn, if_T, if_F, gd_zin, gd_isB0, gd_isB1, zix_toNat, Int.toNat_natCast, tn_a1, tn_a, tn_s1, tn_s, tn_m1, tn_l0, tn_l1, bnd_eq, obind_some, mr_some, sI_s, sI_n, sI_2, sA_1, sA_s, sA_i, sA_n, sF_1, sF_n, sA_sF]
    congr 3
    congr 1
    funext i
    by_cases z : i = k
    · rw [z, va_up_s, if_pos (by omega)]
    · rw [va_up_n _ _ _ _ z]
      by_cases y : i < k
      · rw [if_pos y, if_pos (by omega)]
      · rw [if_neg y, if_neg (by omega)]
  · simp only [m_adopt_63s]
    simp (disch := omega) only [if_ltp, if_ltn, if_eqp, if_eqn, if_T, if_F, gd_zin, gd_isB0, gd_isB1, zix_toNat, Int.toNat_natCast, tn_a1, tn_a, tn_s1, tn_s, tn_m1, tn_l0, tn_l1, bnd_eq, obind_some, mr_some, sI_s, sI_n, sI_2, sA_1, sA_s, sA_i, sA_n]
theorem ad93 (e id b bl p n ct : Nat) (h5 : M.1 5 = ((ct + n : Nat) : Int)) (hp : p ≤ ct) (hc : ct + n ≤ 40) : m_adopt_93 M (e : Int) (id : Int) (b : Int) (bl : Int) (p : Int) (n : Int) = m_adopt_140 (sF (sI M 5 (ct : Int)) 6 (fun i => if p ≤ i ∧ i < ct then M.2 6 (i + n) else M.2 6 i)) (e : Int) (id : Int) (b : Int) (bl : Int) (n : Int) := by
  unfold m_adopt_93
  rw [bnd_eq, h5, show ((ct + n : Nat) : Int) - (n : Int) = (ct : Int) by omega]
  refine loopU (fun k => (sF (sI M 5 (ct : Int)) 6 (fun i => if p ≤ i ∧ i < k then M.2 6 (i + n) else M.2 6 i), (k : Int))) p ct ?_ hp (fun k k1 k2 => ?_) ?_
  · refine Prod.ext ?_ rfl
    have : (fun i => if p ≤ i ∧ i < p then M.2 6 (i + n) else M.2 6 i) = (sI M 5 (ct : Int)).2 6 := by
      funext i
      rw [if_neg (by omega)]; rfl
    rw [this]
    exact (sF_id _ 6).symm
  · simp only [m_adopt_108s]
    simp (disch := omega) only [if_ltp, if_ltn, if_eqp, if_eqn, if_T, if_F, gd_zin, gd_isB0, gd_isB1, zix_toNat, Int.toNat_natCast, tn_a1, tn_a, tn_s1, tn_s, tn_m1, tn_l0, tn_l1, bnd_eq, obind_some, mr_some, sI_s, sI_n, sI_2, sA_1, sA_s, sA_i, sA_n, sF_1, sF_s, sA_sF]
    congr 3
    congr 1
    funext i
    by_cases z : i = k
    · rw [z, va_up_s, if_neg (by omega), if_pos (by omega)]
    · rw [va_up_n _ _ _ _ z]
      by_cases y : p ≤ i ∧ i < k
      · rw [if_pos y, if_pos (by omega)]
      · rw [if_neg y, if_neg (by omega)]
  · simp only [m_adopt_108s]
    simp (disch := omega) only [if_ltp, if_ltn, if_eqp, if_eqn, if_T, if_F, gd_zin, gd_isB0, gd_isB1, zix_toNat, Int.toNat_natCast, tn_a1, tn_a, tn_s1, tn_s, tn_m1, tn_l0, tn_l1, bnd_eq, obind_some, mr_some, sI_s, sI_n, sI_2, sA_1, sA_s, sA_i, sA_n, sF_1]
theorem ad173 (e id b bl n a ct : Nat) (d : Int) (ha : a ≤ ct) (hn : 1 ≤ n) (hc : ct + n ≤ 40) : m_adopt_173 M (e : Int) (id : Int) (b : Int) (bl : Int) (n : Int) d (a : Int) ((ct : Int) - 1) = m_adopt_203 (sF M 6 (fun i => if a + n ≤ i ∧ i < ct + n then M.2 6 (i - n) else M.2 6 i)) (e : Int) (id : Int) (b : Int) (bl : Int) (n : Int) d (a : Int) := by
  refine loopU (fun j => (sF M 6 (fun i => if ct - j + n ≤ i ∧ i < ct + n then M.2 6 (i - n) else M.2 6 i), (ct : Int) - 1 - (j : Int))) 0 (ct - a) ?_ (Nat.zero_le _) (fun j j1 j2 => ?_) ?_
  · refine Prod.ext ?_ (by simp)
    have : (fun i => if ct - 0 + n ≤ i ∧ i < ct + n then M.2 6 (i - n) else M.2 6 i) = M.2 6 := by
      funext i
      rw [if_neg (by omega)]
    rw [this]
    exact (sF_id _ 6).symm
  · have hj : (ct : Int) - 1 - (j : Int) = ((ct - 1 - j : Nat) : Int) := by omega
    simp only [m_adopt_173s]
    rw [hj]
    simp (disch := omega) only [if_ltp, if_ltn, if_eqp, if_eqn, if_T, if_F, gd_zin, gd_isB0, gd_isB1, zix_toNat, Int.toNat_natCast, tn_a1, tn_a, tn_s1, tn_s, tn_m1, tn_l0, tn_l1, bnd_eq, obind_some, mr_some, sI_s, sI_n, sI_2, sA_1, sA_s, sA_i, sA_n, sF_1, sF_s, sA_sF]
    congr 3
    · congr 1
      funext i
      by_cases z : i = ct - 1 - j + n
      · rw [z, va_up_s, if_neg (by omega), if_pos (by omega), show ct - 1 - j + n - n = ct - 1 - j by omega]
      · rw [va_up_n _ _ _ _ z]
        by_cases y : ct - j + n ≤ i ∧ i < ct + n
        · rw [if_pos y, if_pos (by omega)]
        · rw [if_neg y, if_neg (by omega)]
    · omega
  · have hj : (ct : Int) - 1 - ((ct - a : Nat) : Int) = (a : Int) - 1 := by omega
    simp only [m_adopt_173s]
    rw [hj]
    simp (disch := omega) only [if_ltp, if_ltn, if_eqp, if_eqn, if_T, if_F, gd_zin, gd_isB0, gd_isB1, zix_toNat, Int.toNat_natCast, tn_a1, tn_a, tn_s1, tn_s, tn_m1, tn_l0, tn_l1, bnd_eq, obind_some, mr_some, sI_s, sI_n, sI_2, sA_1, sA_s, sA_i, sA_n]
    rw [show ct - (ct - a) = a by omega]
theorem ad217 (e id b bl n a : Nat) (d : Int) (mv : List Nat) (hl : mv.length = n) (hnd : mv.Nodup) (h11 : ∀ k, k < n → M.2 11 k = ((mv.getD k 0 : Nat) : Int)) (hm : ∀ i ∈ mv, i < 40) (hn : 1 ≤ n) (hc : a + n ≤ 40) : m_adopt_217 M (e : Int) (id : Int) (b : Int) (bl : Int) (n : Int) d (a : Int) 0 = m_adopt_276 (sF (sF M 6 (fun i => if a ≤ i ∧ i < a + n then ((mv.getD (i - a) 0 : Nat) : Int) else M.2 6 i)) 10 (fun i => if i ∈ mv then M.2 10 i + (if i = mv.getD 0 0 then d else d + 1) else M.2 10 i)) (e : Int) (id : Int) (b : Int) (bl : Int) (a : Int) := by
  refine loopU (fun k => (sF (sF M 6 (fun i => if a ≤ i ∧ i < a + k then ((mv.getD (i - a) 0 : Nat) : Int) else M.2 6 i)) 10 (fun i => if i ∈ mv.take k then M.2 10 i + (if i = mv.getD 0 0 then d else d + 1) else M.2 10 i), (k : Int))) 0 n ?_ (Nat.zero_le _) (fun k k1 k2 => ?_) ?_
  · refine Prod.ext ?_ rfl
    have e1 : (fun i => if a ≤ i ∧ i < a + 0 then ((mv.getD (i - a) 0 : Nat) : Int) else M.2 6 i) = M.2 6 := by
      funext i
      rw [if_neg (by omega)]
    have e2 : (fun i => if i ∈ mv.take 0 then M.2 10 i + (if i = mv.getD 0 0 then d else d + 1) else M.2 10 i) = M.2 10 := by
      funext i
      simp
    rw [e1, e2, sF_id, sF_id]
  · have hk : k < mv.length := by omega
    have hin : mv.getD k 0 ∈ mv := by rw [gD hk]; exact List.getElem_mem _
    have h40 := hm _ hin
    have hnt : mv.getD k 0 ∉ mv.take k := by
      intro q
      obtain ⟨j, hj, ej⟩ := List.getElem_of_mem q
      rw [List.length_take] at hj
      rw [List.getElem_take, gD hk] at ej
      have := (List.getElem_inj hnd).mp ej
      omega
    have h11k := h11 k k2
    have hz : k = 0 ↔ mv.getD k 0 = mv.getD 0 0 := by
      constructor
      · intro q; rw [q]
      · intro q
        rw [gD hk, gD (by omega)] at q
        exact (List.getElem_inj hnd).mp q
    have htk : mv.take (k + 1) = mv.take k ++ [mv.getD k 0] := by rw [List.take_succ, gD hk]; simp [hk]
    have hval : ∀ v : Int, v = (if mv.getD k 0 = mv.getD 0 0 then d else d + 1) → va_up (fun i => if i ∈ mv.take k then M.2 10 i + (if i = mv.getD 0 0 then d else d + 1) else M.2 10 i) (mv.getD k 0) (M.2 10 (mv.getD k 0) + v) = fun i => if i ∈ mv.take (k + 1) then M.2 10 i + (if i = mv.getD 0 0 then d else d + 1) else M.2 10 i := by
      intro v hv
      funext i
      rw [htk]
      by_cases z : i = mv.getD k 0
      · rw [z, va_up_s, if_pos (by simp), hv]
      · rw [va_up_n _ _ _ _ z]
        by_cases y : i ∈ mv.take k
        · rw [if_pos y, if_pos (show i ∈ mv.take k ++ [mv.getD k 0] from List.mem_append_left _ y)]
        · rw [if_neg y, if_neg (by
            intro q
            rcases List.mem_append.mp q with w | w
            · exact y w
            · exact z (List.mem_singleton.mp w))]
    have h6 : va_up (fun i => if a ≤ i ∧ i < a + k then ((mv.getD (i - a) 0 : Nat) : Int) else M.2 6 i) (a + k) ((mv.getD k 0 : Nat) : Int) = fun i => if a ≤ i ∧ i < a + (k + 1) then ((mv.getD (i - a) 0 : Nat) : Int) else M.2 6 i := by
      funext i
      by_cases z : i = a + k
      · rw [z, va_up_s, if_pos (by omega), show a + k - a = k by omega]
      · rw [va_up_n _ _ _ _ z]
        by_cases y : a ≤ i ∧ i < a + k
        · rw [if_pos y, if_pos (by omega)]
        · rw [if_neg y, if_neg (by omega)]
    have hA : ∀ (g h : Nat → Int) (v : Int), sA (sF (sF M 6 g) 10 h) 6 (a + k) v = sF (sF M 6 (va_up g (a + k) v)) 10 h := by
      intro g h v
      refine Prod.ext rfl ?_
      funext q
      simp only [sA, sF]
      by_cases q1 : q = 6
      · subst q1; simp [va_up]
      · by_cases q2 : q = 10
        · subst q2; simp [va_up]
        · simp [va_up, q1, q2]
    simp only [m_adopt_217s, m_adopt_268]
    simp (disch := omega) only [if_ltp, if_ltn, if_eqp, if_eqn, if_T, if_F, gd_zin, gd_isB0, gd_isB1, zix_toNat, Int.toNat_natCast, tn_a1, tn_a, tn_s1, tn_s, tn_m1, tn_l0, tn_l1, bnd_eq, obind_some, mr_some, sI_s, sI_n, sI_2, sA_1, sA_s, sA_i, sA_n, sF_n, sF_s, h11k, hA, sA_sF]
    rw [h6, if_neg hnt]
    by_cases z : k = 0
    · have z' : (k : Int) = 0 := by omega
      simp (disch := omega) only [if_ltp, if_ltn, if_eqp, if_eqn, if_T, if_F, gd_zin, gd_isB0, gd_isB1, zix_toNat, Int.toNat_natCast, tn_a1, tn_a, tn_s1, tn_s, tn_m1, tn_l0, tn_l1, bnd_eq, obind_some, mr_some, sI_s, sI_n, sI_2, sA_1, sA_s, sA_i, sA_n, sF_n, sF_s, h11k, sA_sF]
      rw [hval d (by rw [if_pos (hz.mp z)])]
      rfl
    · have z' : (k : Int) ≠ 0 := by omega
      simp (disch := omega) only [if_ltp, if_ltn, if_eqp, if_eqn, if_T, if_F, gd_zin, gd_isB0, gd_isB1, zix_toNat, Int.toNat_natCast, tn_a1, tn_a, tn_s1, tn_s, tn_m1, tn_l0, tn_l1, bnd_eq, obind_some, mr_some, sI_s, sI_n, sI_2, sA_1, sA_s, sA_i, sA_n, sF_n, sF_s, h11k, sA_sF]
      rw [hval (d + 1) (by rw [if_neg (fun q => z (hz.mpr q))])]
      rfl
  · simp only [m_adopt_217s]
    simp (disch := omega) only [if_ltp, if_ltn, if_eqp, if_eqn, if_T, if_F, gd_zin, gd_isB0, gd_isB1, zix_toNat, Int.toNat_natCast, tn_a1, tn_a, tn_s1, tn_s, tn_m1, tn_l0, tn_l1, bnd_eq, obind_some, mr_some, sI_s, sI_n, sI_2, sA_1, sA_s, sA_i, sA_n]
    rw [show mv.take n = mv from by rw [← hl, List.take_length]]
theorem ad279 (e id b bl a : Nat) (he : e < b) (hs : (b : Nat) ≤ 40) {ht : Nat} (h13 : M.1 13 = (ht : Int)) (hb : b ≤ ht) (hh : ht ≤ 40) : m_adopt_276 M (e : Int) (id : Int) (b : Int) (bl : Int) (a : Int) = m_adopt_312 (sF M 12 (fun i => if e ≤ i ∧ i < e + (ht - b) then M.2 12 (i + (b - e)) else M.2 12 i)) (e : Int) (id : Int) (b : Int) (bl : Int) (a : Int) := by
  refine loopU (fun k => (sF M 12 (fun i => if e ≤ i ∧ i < e + (k - b) then M.2 12 (i + (b - e)) else M.2 12 i), (k : Int))) b ht ?_ hb (fun k k1 k2 => ?_) ?_
  · refine Prod.ext ?_ rfl
    have e1 : (fun i => if e ≤ i ∧ i < e + (b - b) then M.2 12 (i + (b - e)) else M.2 12 i) = M.2 12 := by
      funext i
      rw [if_neg (by omega)]
    rw [e1, sF_id]
  · have hix : (e : Int) + (k : Int) - (b : Int) = ((e + k - b : Nat) : Int) := by omega
    simp only [m_adopt_279s]
    rw [hix]
    simp (disch := omega) only [if_ltp, if_ltn, if_eqp, if_eqn, if_T, if_F, gd_zin, gd_isB0, gd_isB1, zix_toNat, Int.toNat_natCast, tn_a1, tn_a, tn_s1, tn_s, tn_m1, tn_l0, tn_l1, bnd_eq, obind_some, mr_some, sI_s, sI_n, sI_2, sA_1, sA_s, sA_i, sA_n, sF_1, h13, sF_s, sA_sF]
    congr 3
    congr 1
    funext i
    by_cases z : i = e + k - b
    · rw [z, va_up_s, if_neg (by omega), if_pos (by omega), show e + k - b + (b - e) = k by omega]
    · rw [va_up_n _ _ _ _ z]
      by_cases y : e ≤ i ∧ i < e + (k - b)
      · rw [if_pos y, if_pos (by omega)]
      · rw [if_neg y, if_neg (by omega)]
  · simp only [m_adopt_279s]
    simp (disch := omega) only [if_ltp, if_ltn, if_eqp, if_eqn, if_T, if_F, gd_zin, gd_isB0, gd_isB1, zix_toNat, Int.toNat_natCast, tn_a1, tn_a, tn_s1, tn_s, tn_m1, tn_l0, tn_l1, bnd_eq, obind_some, mr_some, sI_s, sI_n, sI_2, sA_1, sA_s, sA_i, sA_n, sF_1, h13]
end MT
