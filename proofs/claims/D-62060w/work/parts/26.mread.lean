/-! the reference reads the text -/
set_option maxRecDepth 100000
def TxtM (M : MS) (w : List Int) : Prop := M.1 0 = (w.length : Int) ∧ (∀ k, k < w.length → M.2 1 k = w.getD k 0) ∧ w.length ≤ 160 ∧ ∀ c ∈ w, 32 ≤ c ∧ c ≤ 126
theorem TxtM.fm {M M' : MS} {w : List Int} (h : TxtM M w) (hf : FM M M') : TxtM M' w := ⟨by rw [hf.1 0 (by simp)]; exact h.1, by rw [hf.2 1 (by simp)]; exact h.2.1, h.2.2⟩
theorem tK_put {T T' : TS} {x c : Int} {q : Nat × Nat × Nat} (h : tPut T x c q = some T') : tK T' = tK T := by
  unfold tPut at h
  by_cases hn : tN T = 24
  · rw [mkN_none hn] at h; cases h
  · rw [mkN_some hn] at h
    simp only [] at h
    repeat' split at h
    all_goals (cases h; rfl)
theorem tK_cls (T : TS) (i : Nat) : tK (cls T i) = tK T := by unfold cls; split <;> rfl
theorem tK_start {T T' : TS} {x c : Int} (h : tStart x c T = some T') : tK T' = tK T := by
  unfold tStart at h
  split at h
  · split at h
    · cases h; rfl
    · simp only [] at h
      split at h
      · rw [tK_put h, tK_cls]
      · split at h
        · rw [tK_put h, tK_cls]
        · by_cases hn : tN (cls T (topm T 116 + 1)) = 24
          · rw [mkN_none hn] at h; cases h
          · rw [mkN_some hn] at h
            simp only [] at h
            rw [tK_put h, tK_psh, tK_mkT, tK_cls]
  · split at h
    · simp only [] at h
      rw [tK_put h]
      split
      · rw [tK_cls, tK_cls]
      · rw [tK_cls]
    · cases hr : tRenew T with
      | none => rw [hr] at h; cases h
      | some T1 =>
        rw [hr] at h
        rw [tK_put h, tK_renew hr]
theorem tK_adopt {T T' : TS} {e b id : Nat} (h : tAdopt T e b id = some T') : tK T' = tK T := by
  unfold tAdopt at h
  simp only [] at h
  by_cases hn : tN T = 24
  · rw [mkN_none (by exact hn)] at h; cases h
  · rw [mkN_some (by exact hn)] at h
    cases h; rfl
theorem tK_end {T T' : TS} {x : Int} (h : tEnd x T = some T') : tK T' = tK T := by
  unfold tEnd at h
  split at h
  · split at h
    · by_cases hn : tN T = 24
      · rw [mkN_none hn] at h; cases h
      · rw [mkN_some hn] at h; cases h; rfl
    · cases h; rw [tK_cls]
  · split at h
    · cases h; rw [tK_cls]
    · split at h
      · cases h; rw [tK_cls]
      · split at h
        · cases h; rw [tK_cls]
        · split at h
          · cases h; rw [tK_cls]
          · split at h
            · cases h; rw [tK_cls]
            · split at h
              · cases h; rfl
              · simp only [] at h
                split at h
                · unfold tFmt at h
                  simp only [] at h
                  split at h
                  · split at h
                    · cases h; rfl
                    · split at h
                      · cases h; rw [tK_cls]; rfl
                      · rw [tK_adopt h]; rfl
                  · cases h; rfl
                · cases h; rw [tK_cls]
theorem tK_char {T T' : TS} {c : Int} (h : tChar c T = some T') : tK T' ≤ tK T + 1 := by
  unfold tChar at h
  split at h
  · cases h; omega
  · cases hr : tRenew T with
    | none => rw [hr] at h; cases h
    | some T1 =>
      rw [hr] at h
      have hk := tK_renew hr
      simp only [] at h
      have hmk : (match mkN T1 1 0 (plc T1 (tS T1).length) with
          | none => none
          | some T2 => some (addC T2 (tN T1) c)) = some T' → tK T' ≤ tK T + 1 := fun e2 => by
        by_cases hn : tN T1 = 24
        · rw [mkN_none hn] at e2; cases e2
        · rw [mkN_some hn] at e2
          cases e2
          rw [tK_addC, tK_mkT, hk]; omega
      cases hp : prevSib T1 (plc T1 (tS T1).length) with
      | none =>
        rw [hp] at h
        exact hmk h
      | some i =>
        rw [hp] at h
        simp only [] at h
        split at h
        · cases h
          rw [tK_addC, hk]; omega
        · exact hmk h
theorem entC_ok (c : Int) : nmOK (entC c) := by
  unfold entC nmOK
  split
  · omega
  · split <;> omega
section MR
variable {M : MS} {T : TS} {w : List Int}
theorem m_peek_eq (hT : TxtM M w) {k : Nat} (hk : k ≤ 400) : m_peek M (k : Int) = some (if k < w.length then w.getD k 0 else -1) := by
  obtain ⟨t1, t2, t3, t4⟩ := hT
  unfold m_peek
  by_cases h : k < w.length
  · rw [if_pos h]
    simp (disch := omega) only [if_ltp, if_ltn, if_eqp, if_eqn, if_T, if_F, gd_zin, gd_isB0, gd_isB1, zix_toNat, Int.toNat_natCast, tn_a1, tn_a, tn_s1, tn_s, tn_m1, tn_l0, tn_l1, bnd_eq, obind_some, mr_some, sI_s, sI_n, sI_2, sA_1, sA_s, sA_i, sA_n, t1, t2]
  · rw [if_neg h]
    simp (disch := omega) only [if_ltp, if_ltn, if_eqp, if_eqn, if_T, if_F, gd_zin, gd_isB0, gd_isB1, zix_toNat, Int.toNat_natCast, tn_a1, tn_a, tn_s1, tn_s, tn_m1, tn_l0, tn_l1, bnd_eq, obind_some, mr_some, sI_s, sI_n, sI_2, sA_1, sA_s, sA_i, sA_n, t1]
theorem m_closed_eq (hT : TxtM M w) {k : Nat} (hk : k ≤ 400) : m_closed M (k : Int) = some (if ((w.drop k).takeWhile notGt).length = (w.drop k).length then -1 else ((k + ((w.drop k).takeWhile notGt).length : Nat) : Int)) := by
  obtain ⟨t1, t2, t3, t4⟩ := hT
  have hle := tw_le notGt (w.drop k)
  have hdl : (w.drop k).length = w.length - k := List.length_drop
  have hgd : ∀ j, (w.drop k).getD j 0 = w.getD (k + j) 0 := fun j => by simp [List.getD]
  have hstep : ∀ j, j < ((w.drop k).takeWhile notGt).length → m_closed_2s M ((k + j : Nat) : Int) = some (.inl ((k + j + 1 : Nat) : Int)) := fun j hj => by
    have h1 := tw_lt notGt (w.drop k) j 0 hj
    rw [hgd] at h1
    unfold notGt at h1
    have h2 : w.getD (k + j) 0 ≠ 62 := by simpa using h1
    have hm : w.getD (k + j) 0 ∈ w := by rw [gD (by omega)]; exact List.getElem_mem _
    have h3 := t4 _ hm
    simp only [m_closed_2s]
    simp (disch := omega) only [if_ltp, if_ltn, if_eqp, if_eqn, if_T, if_F, gd_zin, gd_isB0, gd_isB1, zix_toNat, Int.toNat_natCast, tn_a1, tn_a, tn_s1, tn_s, tn_m1, tn_l0, tn_l1, bnd_eq, obind_some, mr_some, sI_s, sI_n, sI_2, sA_1, sA_s, sA_i, sA_n, t1, t2]
    rfl
  unfold m_closed m_closed_2
  rw [show ((k : Nat) : Int) = ((k + 0 : Nat) : Int) from rfl, iter_to (fun j => ((k + j : Nat) : Int)) (b := ((w.drop k).takeWhile notGt).length) (Nat.zero_le _) (fun j _ h => hstep j h)]
  refine iter_out ?_
  by_cases h : ((w.drop k).takeWhile notGt).length = (w.drop k).length
  · rw [if_pos h]
    simp only [m_closed_2s]
    simp (disch := omega) only [if_ltp, if_ltn, if_eqp, if_eqn, if_T, if_F, gd_zin, gd_isB0, gd_isB1, zix_toNat, Int.toNat_natCast, tn_a1, tn_a, tn_s1, tn_s, tn_m1, tn_l0, tn_l1, bnd_eq, obind_some, mr_some, sI_s, sI_n, sI_2, sA_1, sA_s, sA_i, sA_n, t1]
  · rw [if_neg h]
    have h1 := tw_at notGt (w.drop k) 0 (by omega)
    rw [hgd] at h1
    have h2 : w.getD (k + ((w.drop k).takeWhile notGt).length) 0 = 62 := by
      have h1' : decide (w.getD (k + ((w.drop k).takeWhile notGt).length) 0 ≠ 62) = false := h1
      simpa using h1'
    simp only [m_closed_2s]
    simp (disch := omega) only [if_ltp, if_ltn, if_eqp, if_eqn, if_T, if_F, gd_zin, gd_isB0, gd_isB1, zix_toNat, Int.toNat_natCast, tn_a1, tn_a, tn_s1, tn_s, tn_m1, tn_l0, tn_l1, bnd_eq, obind_some, mr_some, sI_s, sI_n, sI_2, sA_1, sA_s, sA_i, sA_n, t1, t2]
theorem isSm_z (c : Int) : (decide (97 ≤ c) && decide (c ≤ 122)) = isSm c := rfl
theorem m_tag70_eq (hT : TxtM M w) {k : Nat} (d e en : Int) {n : Nat} (hn : k + n ≤ w.length) : m_tag_70 M d e en ((k + n : Nat) : Int) 0 (k : Int) = m_tag_113 M d e en ((k + n : Nat) : Int) (((w.drop k).take n).foldl capB 0) := by
  obtain ⟨t1, t2, t3, t4⟩ := hT
  refine loopU (fun q => (((w.drop k).take (q - k)).foldl capB 0, (q : Int))) k (k + n) (by simp) (by omega) (fun q q1 q2 => ?_) ?_
  · have hm : w.getD q 0 ∈ w := by rw [gD (by omega)]; exact List.getElem_mem _
    have h3 := t4 _ hm
    have htk : (w.drop k).take (q + 1 - k) = (w.drop k).take (q - k) ++ [w.getD q 0] := by
      rw [show q + 1 - k = (q - k) + 1 by omega, List.take_succ]
      have : (w.drop k)[q - k]? = some (w.getD q 0) := by
        rw [List.getElem?_drop, show k + (q - k) = q by omega, List.getElem?_eq_getElem (by omega), gD (by omega)]
      rw [this]; rfl
    rw [htk, List.foldl_append]
    simp only [m_tag_70s, m_tag_107, List.foldl_cons, List.foldl_nil]
    simp (disch := omega) only [if_ltp, if_ltn, if_eqp, if_eqn, if_T, if_F, gd_zin, gd_isB0, gd_isB1, zix_toNat, Int.toNat_natCast, tn_a1, tn_a, tn_s1, tn_s, tn_m1, tn_l0, tn_l1, bnd_eq, obind_some, mr_some, sI_s, sI_n, sI_2, sA_1, sA_s, sA_i, sA_n, t2, m_capital_eq]
    unfold capB isCap
    cases hb : (decide (65 ≤ w.getD q 0) && decide (w.getD q 0 ≤ 90)) with
    | true =>
      rw [zb_t]
      simp (disch := omega) only [if_ltp, if_ltn, if_eqp, if_eqn, if_T, if_F, gd_zin, gd_isB0, gd_isB1, zix_toNat, Int.toNat_natCast, tn_a1, tn_a, tn_s1, tn_s, tn_m1, tn_l0, tn_l1, bnd_eq, obind_some, mr_some, sI_s, sI_n, sI_2, sA_1, sA_s, sA_i, sA_n]
      rfl
    | false =>
      rw [zb_f]
      simp (disch := omega) only [if_ltp, if_ltn, if_eqp, if_eqn, if_T, if_F, gd_zin, gd_isB0, gd_isB1, zix_toNat, Int.toNat_natCast, tn_a1, tn_a, tn_s1, tn_s, tn_m1, tn_l0, tn_l1, bnd_eq, obind_some, mr_some, sI_s, sI_n, sI_2, sA_1, sA_s, sA_i, sA_n]
      rfl
  · simp only [m_tag_70s]
    simp (disch := omega) only [if_ltp, if_ltn, if_eqp, if_eqn, if_T, if_F, gd_zin, gd_isB0, gd_isB1, zix_toNat, Int.toNat_natCast, tn_a1, tn_a, tn_s1, tn_s, tn_m1, tn_l0, tn_l1, bnd_eq, obind_some, mr_some, sI_s, sI_n, sI_2, sA_1, sA_s, sA_i, sA_n]
    rw [show k + n - k = n by omega]
theorem m_read_br {k : Nat} (hT : TxtM M w) (hk : k ≤ 400) (h : M.1 4 = 1) : m_read_6 M (k : Int) = some M := by
  refine iter_out ?_
  obtain ⟨t1, t2, t3, t4⟩ := hT
  simp only [m_read_6s]
  by_cases z : k < w.length
  · simp (disch := omega) only [if_ltp, if_ltn, if_eqp, if_eqn, if_T, if_F, gd_zin, gd_isB0, gd_isB1, zix_toNat, Int.toNat_natCast, tn_a1, tn_a, tn_s1, tn_s, tn_m1, tn_l0, tn_l1, bnd_eq, obind_some, mr_some, sI_s, sI_n, sI_2, sA_1, sA_s, sA_i, sA_n, t1, h]
  · simp (disch := omega) only [if_ltp, if_ltn, if_eqp, if_eqn, if_T, if_F, gd_zin, gd_isB0, gd_isB1, zix_toNat, Int.toNat_natCast, tn_a1, tn_a, tn_s1, tn_s, tn_m1, tn_l0, tn_l1, bnd_eq, obind_some, mr_some, sI_s, sI_n, sI_2, sA_1, sA_s, sA_i, sA_n, t1]
theorem m_read_m1 : m_read_6 M (-1) = some M := by
  refine iter_out ?_
  simp only [m_read_6s]
  simp (disch := omega) only [if_ltp, if_ltn, if_eqp, if_eqn, if_T, if_F, gd_zin, gd_isB0, gd_isB1, zix_toNat, Int.toNat_natCast, tn_a1, tn_a, tn_s1, tn_s, tn_m1, tn_l0, tn_l1, bnd_eq, obind_some, mr_some, sI_s, sI_n, sI_2, sA_1, sA_s, sA_i, sA_n]
/-- going on behind an event -/
theorem m_read_go {n k' : Nat} {o : Option TS} {M1 : MS} (hT : TxtM M w) (hk : k' ≤ 400) (ho : OutM M o M1) (hw : ∀ T1, o = some T1 → WF T1 ∧ tK T1 ≤ k') (ih : ∀ (M : MS) (T : TS), RepM M T → WF T → tK T ≤ k' → TxtM M w → ∃ M', m_read_6 M (k' : Int) = some M' ∧ OutM M (rd n (w.drop k') T) M') : ∃ M', m_read_6 M1 (k' : Int) = some M' ∧ OutM M (o.bind (rd n (w.drop k'))) M' := by
  obtain ⟨f1, f2⟩ := ho
  cases o with
  | none =>
    have h4 : M1.1 4 = 1 := f2
    exact ⟨M1, m_read_br (hT.fm f1) hk h4, f1, h4⟩
  | some T1 =>
    have hR1 : RepM M1 T1 := f2
    obtain ⟨w1, w2⟩ := hw T1 rfl
    obtain ⟨M', a1, a2, a3⟩ := ih M1 T1 hR1 w1 w2 (hT.fm f1)
    exact ⟨M', a1, f1.trans a2, a3⟩
def GoR (w : List Int) (n k : Nat) : Prop := ∀ (M : MS) (T : TS), RepM M T → WF T → tK T ≤ k → TxtM M w → ∃ M', m_read_6 M (k : Int) = some M' ∧ OutM M (rd n (w.drop k) T) M'
theorem m_read_st (hR : RepM M T) (hT : TxtM M w) {k : Nat} (hk : k < w.length) {d : Int} (hp : m_peek M ((k + 1 : Nat) : Int) = some d) : m_read_6s M (k : Int) = if zI (w.getD k 0) = zI 60 then (if zI d = zI 47 then m_read_70 M (k : Int) d else if zI d = zI 33 then m_read_70 M (k : Int) d else if zI d = zI (-1) then m_read_70 M (k : Int) d else Option.bind (m_small d) (fun y4 => if zI y4 = zI 0 then m_read_80 M (k : Int) (w.getD k 0) d else m_read_70 M (k : Int) d)) else m_read_80 M (k : Int) (w.getD k 0) d := by
  obtain ⟨t1, t2, t3, t4⟩ := hT
  simp only [m_read_6s]
  rw [if_ltn (by omega) (by omega) (by omega), if_ltp (by rw [t1]; omega) (by omega) (by rw [t1]; omega), if_eqp hR.1, gd_zin (by omega) (by omega) (by omega), bnd_eq, zix_nat (by omega), t2 k hk, show ((k : Int) + 1) = ((k + 1 : Nat) : Int) from rfl, hp, obind_some]
theorem m_read_in {k : Nat} {s' : MS × Int} {M' : MS} (e1 : m_read_6s M (k : Int) = some (.inl s')) (e2 : m_read_6 s'.1 s'.2 = some M') : m_read_6 M (k : Int) = some M' := by
  show iter _ _ = _
  rw [iter_in e1]; exact e2
theorem getD_cons' {w : List Int} {j : Nat} (hj : j < w.length) : w.drop j = w.getD j 0 :: w.drop (j + 1) := by rw [List.drop_eq_getElem_cons hj, gD hj]
theorem TxtM.at (hT : TxtM M w) {j : Nat} (hj : j < w.length) : 32 ≤ w.getD j 0 ∧ w.getD j 0 ≤ 126 := hT.2.2.2 _ (by rw [gD hj]; exact List.getElem_mem _)
/-- one character -/
theorem rd_char {n k : Nat} (hR : RepM M T) (hW : WF T) (hK : tK T ≤ k) (hT : TxtM M w) (hk : k < w.length) (ih : GoR w n (k + 1)) {c : Int} (hc : nmOK c) (hst : ∀ M1, m_character M c = some M1 → m_read_6s M (k : Int) = some (.inl (M1, ((k + 1 : Nat) : Int)))) : ∃ M', m_read_6 M (k : Int) = some M' ∧ OutM M ((tChar c T).bind (rd n (w.drop (k + 1)))) M' := by
  have t3 := hT.2.2.1
  obtain ⟨M1, a1, a2⟩ := m_character_eq hR hW (by omega) hc
  obtain ⟨M', b1, b2⟩ := m_read_go (n := n) (k' := k + 1) hT (by omega) a2 (fun T1 e => ⟨hW.text e, by have := tK_char e; omega⟩) ih
  exact ⟨M', m_read_in (hst M1 a1) b1, b2⟩
/-- where a tag or a comment goes on -/
theorem m_tag44 (hT : TxtM M w) {k : Nat} (hk : k + 1 < w.length) (d e en : Int) : m_tag_44 M (k : Int) d e en = if ((w.drop (k + 2)).takeWhile notGt).length = (w.drop (k + 2)).length then some (M, -1) else m_tag_113 M d e en ((k + 2 + ((w.drop (k + 2)).takeWhile notGt).length : Nat) : Int) (((w.drop (k + 2)).takeWhile notGt).foldl capB 0) := by
  have t3 := hT.2.2.1
  have hcl := m_closed_eq hT (k := k + 2) (by omega)
  have htwl := tw_le notGt (w.drop (k + 2))
  have hdl2 : (w.drop (k + 2)).length = w.length - (k + 2) := List.length_drop
  unfold m_tag_44
  rw [show ((k : Int) + 2) = ((k + 2 : Nat) : Int) from rfl, hcl, obind_some]
  by_cases ha : ((w.drop (k + 2)).takeWhile notGt).length = (w.drop (k + 2)).length
  · rw [if_pos ha, if_pos ha, if_ltp (by omega) (by omega) (by omega)]
  · rw [if_neg ha, if_neg ha, if_ltn (by omega) (by omega) (by omega), bnd_eq, m_tag70_eq hT _ _ _ (by omega), take_tw]
theorem rd_less {n k : Nat} (hR : RepM M T) (hW : WF T) (hK : tK T ≤ k) (hT : TxtM M w) (hk : k < w.length) (h60 : w.getD k 0 = 60) (ih : ∀ k', k < k' → k' ≤ w.length → GoR w n k') : ∃ M', m_read_6 M (k : Int) = some M' ∧ OutM M (rd (n + 1) (w.drop k) T) M' := by
  have t3 := hT.2.2.1
  have hp1 := m_peek_eq hT (k := k + 1) (by omega)
  have hp2 := m_peek_eq hT (k := k + 2) (by omega)
  have hst := fun {d : Int} (hp : m_peek M ((k + 1 : Nat) : Int) = some d) => m_read_st hR hT hk hp
  rw [getD_cons' hk]
  unfold rd
  rw [if_pos h60]
  by_cases hk1 : k + 1 < w.length
  · have hd := hT.at hk1
    rw [if_pos hk1] at hp1
    have hst1 := hst hp1
    rw [h60, if_eqp rfl] at hst1
    rw [getD_cons' hk1]
    simp only []
    have h44 := m_tag44 hT hk1
    have htwl := tw_le notGt (w.drop (k + 2))
    have hdl2 : (w.drop (k + 2)).length = w.length - (k + 2) := List.length_drop
    have hsm : m_small (w.getD (k + 1) 0) = some (zb (isSm (w.getD (k + 1) 0))) := by rw [m_small_eq _ (by omega) (by omega), isSm_z]
    rw [hsm, obind_some] at hst1
    have hdd : ∀ j, (w.drop (k + 1 + 1)).drop (j + 1) = w.drop (k + 2 + j + 1) := fun j => by rw [List.drop_drop]; rfl
    rw [hdd]
    cases hs : isSm (w.getD (k + 1) 0) with
    | true =>
      have hs' : 97 ≤ w.getD (k + 1) 0 ∧ w.getD (k + 1) 0 ≤ 122 := by unfold isSm at hs; simpa using hs
      rw [hs, zb_t] at hst1
      rw [if_eqn (by omega) (by omega) (by omega) (by omega) (by omega), if_eqn (by omega) (by omega) (by omega) (by omega) (by omega), if_eqn (by omega) (by omega) (by omega) (by omega) (by omega), if_eqn (by omega) (by omega) (by omega) (by omega) (by omega)] at hst1
      have htag : m_tag M (k : Int) (w.getD (k + 1) 0) = m_tag_44 M (k : Int) (w.getD (k + 1) 0) (if k + 2 < w.length then w.getD (k + 2) 0 else -1) 0 := by
        unfold m_tag m_tag_26 m_tag_43
        rw [show ((k : Int) + 2) = ((k + 2 : Nat) : Int) from rfl, hp2, obind_some, if_eqn (by omega) (by omega) (by omega) (by omega) (by omega), if_eqn (by omega) (by omega) (by omega) (by omega) (by omega), if_eqn (by omega) (by omega) (by omega) (by omega) (by omega)]
      rw [m_read_70, htag, h44] at hst1
      simp only [if_true]
      have e12 : k + 1 + 1 = k + 2 := rfl
      rw [e12]
      by_cases ha : ((w.drop (k + 2)).takeWhile notGt).length = (w.drop (k + 2)).length
      · rw [if_pos ha]
        rw [if_pos ha, obind_some] at hst1
        exact ⟨M, m_read_in hst1 m_read_m1, FM.refl M, hR⟩
      · rw [if_neg ha]
        rw [if_neg ha] at hst1
        obtain ⟨M1, a1, a2⟩ := m_start_eq hR hW (x := w.getD (k + 1) 0) (c := ((w.drop (k + 2)).takeWhile notGt).foldl capB 0) hs'
        obtain ⟨M', b1, b2⟩ := m_read_go (n := n) (k' := k + 2 + ((w.drop (k + 2)).takeWhile notGt).length + 1) hT (by omega) a2 (fun T1 e => ⟨hW.start hs' e, by rw [tK_start e]; omega⟩) (ih _ (by omega) (by omega))
        refine ⟨M', m_read_in (s' := (M1, ((k + 2 + ((w.drop (k + 2)).takeWhile notGt).length + 1 : Nat) : Int))) ?_ b1, b2⟩
        rw [hst1]
        unfold m_tag_113 m_tag_140
        rw [hsm, hs, obind_some, zb_t, if_eqn (by omega) (by omega) (by omega) (by omega) (by omega), a1]
        rfl
    | false =>
      have hs' : ¬ (97 ≤ w.getD (k + 1) 0 ∧ w.getD (k + 1) 0 ≤ 122) := by
        intro q
        unfold isSm at hs
        rw [decide_eq_true q.1, decide_eq_true q.2] at hs
        cases hs
      rw [hs, zb_f, if_eqp (a := (0 : Int)) rfl] at hst1
      simp only [Bool.false_eq_true, if_false]
      by_cases h33 : w.getD (k + 1) 0 = 33
      · rw [if_pos h33]
        rw [h33] at hst1
        rw [if_eqn (by omega) (by omega) (by omega) (by omega) (by omega), if_eqp rfl] at hst1
        have htag : m_tag M (k : Int) 33 = m_tag_44 M (k : Int) 33 (if k + 2 < w.length then w.getD (k + 2) 0 else -1) 0 := by
          unfold m_tag m_tag_26 m_tag_43
          rw [show ((k : Int) + 2) = ((k + 2 : Nat) : Int) from rfl, hp2, obind_some, if_eqn (by omega) (by omega) (by omega) (by omega) (by omega), if_eqn (by omega) (by omega) (by omega) (by omega) (by omega), if_eqn (by omega) (by omega) (by omega) (by omega) (by omega)]
        rw [m_read_70, htag, h44] at hst1
        have e12 : k + 1 + 1 = k + 2 := rfl
        rw [e12]
        by_cases ha : ((w.drop (k + 2)).takeWhile notGt).length = (w.drop (k + 2)).length
        · rw [if_pos ha]
          rw [if_pos ha, obind_some] at hst1
          exact ⟨M, m_read_in hst1 m_read_m1, FM.refl M, hR⟩
        · rw [if_neg ha]
          rw [if_neg ha] at hst1
          obtain ⟨M', b1, b2⟩ := ih (k + 2 + ((w.drop (k + 2)).takeWhile notGt).length + 1) (by omega) (by omega) M T hR hW (by omega) hT
          refine ⟨M', m_read_in (s' := (M, ((k + 2 + ((w.drop (k + 2)).takeWhile notGt).length + 1 : Nat) : Int))) ?_ b1, b2⟩
          rw [hst1]
          unfold m_tag_113 m_tag_140
          rw [m_small_eq _ (by omega) (by omega), obind_some, show (decide ((97 : Int) ≤ 33) && decide ((33 : Int) ≤ 122)) = false by decide, zb_f, if_eqp rfl, if_eqp rfl]
          rfl
      · rw [if_neg h33]
        by_cases h47 : w.getD (k + 1) 0 = 47
        · rw [if_pos h47]
          rw [h47] at hst1
          rw [if_eqp rfl] at hst1
          by_cases hk2 : k + 2 < w.length
          · have he := hT.at hk2
            have hk2' : k + 1 + 1 < w.length := hk2
            rw [getD_cons' hk2']
            simp only []
            rw [← getD_cons' hk2']
            rw [if_pos hk2] at hp2
            have htag : m_tag M (k : Int) 47 = m_tag_44 M (k : Int) 47 (w.getD (k + 2) 0) (zb (isSm (w.getD (k + 2) 0))) := by
              unfold m_tag m_tag_26 m_tag_43
              rw [show ((k : Int) + 2) = ((k + 2 : Nat) : Int) from rfl, hp2, obind_some, if_eqn (by omega) (by omega) (by omega) (by omega) (by omega), if_eqp rfl, if_eqn (by omega) (by omega) (by omega) (by omega) (by omega), if_eqp rfl, m_small_eq _ (by omega) (by omega), obind_some, isSm_z]
              cases isSm (w.getD (k + 2) 0) with
              | true => rw [zb_t, if_eqn (by omega) (by omega) (by omega) (by omega) (by omega)]
              | false => rw [zb_f, if_eqp rfl]
            rw [m_read_70, htag, h44] at hst1
            have e12 : k + 1 + 1 = k + 2 := rfl
            rw [e12]
            by_cases ha : ((w.drop (k + 2)).takeWhile notGt).length = (w.drop (k + 2)).length
            · rw [if_pos ha]
              rw [if_pos ha, obind_some] at hst1
              exact ⟨M, m_read_in hst1 m_read_m1, FM.refl M, hR⟩
            · rw [if_neg ha]
              rw [if_neg ha] at hst1
              have h47s : m_small 47 = some 0 := by rw [m_small_eq _ (by omega) (by omega)]; rfl
              cases hse : isSm (w.getD (k + 2) 0) with
              | true =>
                simp only [if_true]
                have hse2 : 97 ≤ w.getD (k + 2) 0 ∧ w.getD (k + 2) 0 ≤ 122 := by unfold isSm at hse; simpa using hse
                obtain ⟨M1, a1, a2⟩ := m_end_eq hR hW (x := w.getD (k + 2) 0) hse2
                obtain ⟨M', b1, b2⟩ := m_read_go (n := n) (k' := k + 2 + ((w.drop (k + 2)).takeWhile notGt).length + 1) hT (by omega) a2 (fun T1 e => ⟨hW.wend e, by rw [tK_end e]; omega⟩) (ih _ (by omega) (by omega))
                refine ⟨M', m_read_in (s' := (M1, ((k + 2 + ((w.drop (k + 2)).takeWhile notGt).length + 1 : Nat) : Int))) ?_ b1, b2⟩
                rw [hst1, hse, zb_t]
                unfold m_tag_113 m_tag_140
                rw [h47s, obind_some, if_eqp rfl, if_eqn (by omega) (by omega) (by omega) (by omega) (by omega), a1]
                rfl
              | false =>
                simp only [Bool.false_eq_true, if_false]
                obtain ⟨M', b1, b2⟩ := ih (k + 2 + ((w.drop (k + 2)).takeWhile notGt).length + 1) (by omega) (by omega) M T hR hW (by omega) hT
                refine ⟨M', m_read_in (s' := (M, ((k + 2 + ((w.drop (k + 2)).takeWhile notGt).length + 1 : Nat) : Int))) ?_ b1, b2⟩
                rw [hst1, hse, zb_f]
                unfold m_tag_113 m_tag_140
                rw [h47s, obind_some, if_eqp rfl, if_eqp rfl]
                rfl
          · rw [List.drop_eq_nil_of_le (show w.length ≤ k + 1 + 1 by omega)]
            rw [if_neg hk2] at hp2
            refine ⟨M, m_read_in (s' := (M, -1)) ?_ m_read_m1, FM.refl M, hR⟩
            rw [hst1, m_read_70]
            unfold m_tag
            rw [show ((k : Int) + 2) = ((k + 2 : Nat) : Int) from rfl, hp2, obind_some, if_eqn (by omega) (by omega) (by omega) (by omega) (by omega), if_eqp rfl, if_eqp rfl]
            rfl
        · rw [if_neg h47, ← getD_cons' hk1]
          refine rd_char hR hW hK hT hk (ih (k + 1) (by omega) (by omega)) (by unfold nmOK; omega) (fun M1 a1 => ?_)
          rw [hst1, if_eqn h47 (by omega) (by omega) (by omega) (by omega), if_eqn h33 (by omega) (by omega) (by omega) (by omega), if_eqn (by omega) (by omega) (by omega) (by omega) (by omega)]
          unfold m_read_80 m_read_119
          rw [if_eqn (by omega) (by omega) (by omega) (by omega) (by omega), a1]
          rfl
  · rw [if_neg hk1] at hp1
    have hst1 := hst hp1
    rw [List.drop_eq_nil_of_le (show w.length ≤ k + 1 by omega)]
    refine ⟨M, m_read_in (s' := (M, -1)) ?_ m_read_m1, FM.refl M, hR⟩
    rw [hst1, h60, if_eqp rfl, if_eqn (by omega) (by omega) (by omega) (by omega) (by omega), if_eqn (by omega) (by omega) (by omega) (by omega) (by omega), if_eqp rfl, m_read_70]
    unfold m_tag
    rw [show ((k : Int) + 2) = ((k + 2 : Nat) : Int) from rfl, hp2, obind_some, if_eqp rfl]
    rfl
theorem rd_and {n k : Nat} (hR : RepM M T) (hW : WF T) (hK : tK T ≤ k) (hT : TxtM M w) (hk : k < w.length) (h38 : w.getD k 0 = 38) (ih : ∀ k', k < k' → k' ≤ w.length → GoR w n k') : ∃ M', m_read_6 M (k : Int) = some M' ∧ OutM M (rd (n + 1) (w.drop k) T) M' := by
  have t3 := hT.2.2.1
  have hp1 := m_peek_eq hT (k := k + 1) (by omega)
  have hp2 := m_peek_eq hT (k := k + 2) (by omega)
  have hst := fun {d : Int} (hp : m_peek M ((k + 1 : Nat) : Int) = some d) => m_read_st hR hT hk hp
  rw [getD_cons' hk]
  unfold rd
  rw [if_neg (by omega), if_pos h38]
  by_cases hk1 : k + 1 < w.length
  · have hd := hT.at hk1
    rw [if_pos hk1] at hp1
    have hst1 := hst hp1
    rw [h38, if_eqn (by omega) (by omega) (by omega) (by omega) (by omega)] at hst1
    rw [getD_cons' hk1]
    simp only []
    cases hs : isLga (w.getD (k + 1) 0) with
    | true =>
      simp only [if_true]
      have hs' : w.getD (k + 1) 0 = 108 ∨ w.getD (k + 1) 0 = 103 ∨ w.getD (k + 1) 0 = 97 := by unfold isLga at hs; simpa using hs
      have hst2 : m_read_6s M (k : Int) = m_read_109 M (k : Int) (w.getD (k + 1) 0) := by
        rw [hst1]
        unfold m_read_80
        rw [if_eqp rfl]
        rcases hs' with q | q | q
        · rw [q, if_eqp rfl]
        · rw [q, if_eqn (by omega) (by omega) (by omega) (by omega) (by omega), if_eqp rfl]
        · rw [q, if_eqn (by omega) (by omega) (by omega) (by omega) (by omega), if_eqn (by omega) (by omega) (by omega) (by omega) (by omega), if_eqp rfl]
      rw [m_read_109] at hst2
      by_cases hk2 : k + 2 < w.length
      · have he := hT.at hk2
        rw [if_pos hk2] at hp2
        have hk2' : k + 1 + 1 < w.length := hk2
        rw [getD_cons' hk2']
        simp only []
        have e12 : k + 1 + 1 = k + 2 := rfl
        rw [e12]
        by_cases h59 : w.getD (k + 2) 0 = 59
        · rw [if_pos h59]
          obtain ⟨M1, a1, a2⟩ := m_character_eq hR hW (c := entC (w.getD (k + 1) 0)) (by omega) (entC_ok _)
          obtain ⟨M', b1, b2⟩ := m_read_go (n := n) (k' := k + 3) hT (by omega) a2 (fun T1 e => ⟨hW.text e, by have := tK_char e; omega⟩) (ih (k + 3) (by omega) (by omega))
          refine ⟨M', m_read_in (s' := (M1, ((k + 3 : Nat) : Int))) ?_ b1, b2⟩
          rw [hst2]
          unfold m_entity m_entity_51
          rw [show ((k : Int) + 2) = ((k + 2 : Nat) : Int) from rfl, hp2, obind_some, if_eqn (by omega) (by omega) (by omega) (by omega) (by omega), if_eqn (by omega) (by omega) (by omega) (by omega) (by omega), if_eqp h59]
          unfold entC at a1
          rcases hs' with q | q | q
          · rw [q] at a1 ⊢
            rw [if_pos rfl] at a1
            rw [if_eqp rfl, a1]
            rfl
          · rw [q] at a1 ⊢
            rw [if_neg (by decide), if_pos rfl] at a1
            rw [if_eqn (by omega) (by omega) (by omega) (by omega) (by omega), if_eqp rfl, a1]
            rfl
          · rw [q] at a1 ⊢
            rw [if_neg (by decide), if_neg (by decide)] at a1
            rw [if_eqn (by omega) (by omega) (by omega) (by omega) (by omega), if_eqn (by omega) (by omega) (by omega) (by omega) (by omega), a1]
            rfl
        · rw [if_neg h59]
          have hdr : w.getD (k + 2) 0 :: w.drop (k + 2 + 1) = w.drop (k + 2) := (getD_cons' hk2).symm
          rw [hdr]
          obtain ⟨M1, a1, a2⟩ := m_character_eq hR hW (c := 38) (by omega) (by unfold nmOK; omega)
          have hent : m_entity M (k : Int) (w.getD (k + 1) 0) = if zI (M1.1 4) = zI 0 then Option.bind (m_character M1 (w.getD (k + 1) 0)) (fun y3 => m_entity_76 y3 (k : Int)) else m_entity_76 M1 (k : Int) := by
            unfold m_entity
            rw [show ((k : Int) + 2) = ((k + 2 : Nat) : Int) from rfl, hp2, obind_some, if_eqn (by omega) (by omega) (by omega) (by omega) (by omega), if_eqn (by omega) (by omega) (by omega) (by omega) (by omega), if_eqn h59 (by omega) (by omega) (by omega) (by omega), a1, obind_some]
          cases hcT : tChar 38 T with
          | none =>
            rw [hcT] at a2
            have h41 : M1.1 4 = 1 := a2.2
            refine ⟨M1, m_read_in (s' := (M1, ((k + 2 : Nat) : Int))) ?_ (m_read_br (hT.fm a2.1) (by omega) h41), a2.1, h41⟩
            rw [hst2, hent, if_eqn (by omega) (by omega) (by omega) (by omega) (by omega)]
            rfl
          | some T1 =>
            rw [hcT] at a2
            have hR1 : RepM M1 T1 := a2.2
            have h41 : M1.1 4 = 0 := hR1.1
            have hW1 := hW.text hcT
            have hK1 := tK_char hcT
            obtain ⟨M2, c1, c2⟩ := m_character_eq hR1 hW1 (c := w.getD (k + 1) 0) (by omega) (by unfold nmOK; omega)
            obtain ⟨M', b1, b2⟩ := m_read_go (n := n) (k' := k + 2) hT (by omega) (M1 := M2) ⟨a2.1.trans c2.1, c2.2⟩ (fun T2 e => ⟨hW1.text e, by have := tK_char e; omega⟩) (ih (k + 2) (by omega) (by omega))
            refine ⟨M', m_read_in (s' := (M2, ((k + 2 : Nat) : Int))) ?_ b1, b2⟩
            rw [hst2, hent, if_eqp h41, c1]
            rfl
      · rw [if_neg hk2] at hp2
        rw [List.drop_eq_nil_of_le (show w.length ≤ k + 1 + 1 by omega)]
        refine ⟨M, m_read_in (s' := (M, -1)) ?_ m_read_m1, FM.refl M, hR⟩
        rw [hst2]
        unfold m_entity
        rw [show ((k : Int) + 2) = ((k + 2 : Nat) : Int) from rfl, hp2, obind_some, if_eqn (by omega) (by omega) (by omega) (by omega) (by omega), if_eqp rfl]
        rfl
    | false =>
      simp only [Bool.false_eq_true, if_false]
      have hs' : w.getD (k + 1) 0 ≠ 108 ∧ w.getD (k + 1) 0 ≠ 103 ∧ w.getD (k + 1) 0 ≠ 97 := by
        unfold isLga at hs
        simp only [Bool.or_eq_false_iff, decide_eq_false_iff_not] at hs
        exact ⟨hs.1, hs.2.1, hs.2.2⟩
      obtain ⟨q1, q2, q3⟩ := hs'
      rw [← getD_cons' hk1]
      refine rd_char hR hW hK hT hk (ih (k + 1) (by omega) (by omega)) (by unfold nmOK; omega) (fun M1 a1 => ?_)
      rw [hst1]
      unfold m_read_80 m_read_119
      rw [if_eqp rfl, if_eqn q1 (by omega) (by omega) (by omega) (by omega), if_eqn q2 (by omega) (by omega) (by omega) (by omega), if_eqn q3 (by omega) (by omega) (by omega) (by omega), if_eqn (by omega) (by omega) (by omega) (by omega) (by omega), a1]
      rfl
  · rw [if_neg hk1] at hp1
    have hst1 := hst hp1
    rw [List.drop_eq_nil_of_le (show w.length ≤ k + 1 by omega)]
    refine ⟨M, m_read_in (s' := (M, -1)) ?_ m_read_m1, FM.refl M, hR⟩
    rw [hst1, h38, if_eqn (by omega) (by omega) (by omega) (by omega) (by omega)]
    unfold m_read_80
    rw [if_eqp rfl, if_eqn (by omega) (by omega) (by omega) (by omega) (by omega), if_eqn (by omega) (by omega) (by omega) (by omega) (by omega), if_eqn (by omega) (by omega) (by omega) (by omega) (by omega), if_eqp rfl, m_read_109]
    unfold m_entity
    rw [show ((k : Int) + 2) = ((k + 2 : Nat) : Int) from rfl, hp2, obind_some, if_eqp rfl]
    rfl
theorem m_read_6_eq : ∀ (n k : Nat) (M : MS) (T : TS), w.length - k ≤ n → k ≤ w.length → RepM M T → WF T → tK T ≤ k → TxtM M w → ∃ M', m_read_6 M (k : Int) = some M' ∧ OutM M (rd n (w.drop k) T) M' := by
  intro n
  induction n with
  | zero =>
    intro k M T hn hk hR hW hK hT
    refine ⟨M, iter_out ?_, FM.refl M, hR⟩
    simp only [m_read_6s]
    have := hT.2.2.1
    simp (disch := omega) only [if_ltp, if_ltn, if_eqp, if_eqn, if_T, if_F, gd_zin, gd_isB0, gd_isB1, zix_toNat, Int.toNat_natCast, tn_a1, tn_a, tn_s1, tn_s, tn_m1, tn_l0, tn_l1, bnd_eq, obind_some, mr_some, sI_s, sI_n, sI_2, sA_1, sA_s, sA_i, sA_n, hT.1]
  | succ n ih0 =>
    intro k M T hn hk hR hW hK hT
    have ih : ∀ k', k < k' → k' ≤ w.length → GoR w n k' := fun k' k1 k2 M T a b c d => ih0 k' M T (by omega) k2 a b c d
    have t3 := hT.2.2.1
    by_cases hkl : k < w.length
    · by_cases h60 : w.getD k 0 = 60
      · exact rd_less hR hW hK hT hkl h60 ih
      · by_cases h38 : w.getD k 0 = 38
        · exact rd_and hR hW hK hT hkl h38 ih
        · have hc := hT.at hkl
          have hp1 := m_peek_eq hT (k := k + 1) (by omega)
          have hst1 := m_read_st hR hT hkl hp1
          rw [getD_cons' hkl]
          unfold rd
          rw [if_neg h60, if_neg h38]
          refine rd_char hR hW hK hT hkl (ih (k + 1) (by omega) (by omega)) (by unfold nmOK; omega) (fun M1 a1 => ?_)
          rw [hst1, if_eqn h60 (by omega) (by omega) (by omega) (by omega)]
          unfold m_read_80 m_read_119
          rw [if_eqn h38 (by omega) (by omega) (by omega) (by omega), a1]
          rfl
    · rw [List.drop_eq_nil_of_le (by omega)]
      refine ⟨M, iter_out ?_, FM.refl M, hR⟩
      simp only [m_read_6s]
      simp (disch := omega) only [if_ltp, if_ltn, if_eqp, if_eqn, if_T, if_F, gd_zin, gd_isB0, gd_isB1, zix_toNat, Int.toNat_natCast, tn_a1, tn_a, tn_s1, tn_s, tn_m1, tn_l0, tn_l1, bnd_eq, obind_some, mr_some, sI_s, sI_n, sI_2, sA_1, sA_s, sA_i, sA_n, hT.1]
theorem m_reset_eq (M : MS) : ∃ M', m_reset M = some M' ∧ FM M M' ∧ RepM M' t0 := by
  refine ⟨_, by unfold m_reset; simp (disch := omega) only [if_ltp, if_ltn, if_eqp, if_eqn, if_T, if_F, gd_zin, gd_isB0, gd_isB1, zix_toNat, Int.toNat_natCast, tn_a1, tn_a, tn_s1, tn_s, tn_m1, tn_l0, tn_l1, bnd_eq, obind_some, mr_some, sI_s, sI_n, sI_2, sA_1, sA_s, sA_i, sA_n]; rfl, ?_, ?_⟩
  · exact ((((((((((((FM.refl M).sI (by simp) _).sI (by simp) _).sA (by simp) _ _).sI (by simp) _).sA (by simp) _ _).sA (by simp) _ _).sA (by simp) _ _).sA (by simp) _ _).sI (by simp) _).sI (by simp) _).sI (by simp) _)
  · refine ⟨?_, ?_, ?_, ?_, fun k hk => ?_, fun k hk => ?_, fun k hk => ?_, fun k hk => ?_, fun k hk => ?_, ⟨[], ?_, by decide, fun k hk => by simp at hk, fun e he => by simp at he, fun o => rfl⟩, ⟨[], ?_, rfl, fun k hk => by simp at hk, fun e he => by simp at he, fun o => rfl⟩⟩
    · simp (disch := omega) only [if_ltp, if_ltn, if_eqp, if_eqn, if_T, if_F, gd_zin, gd_isB0, gd_isB1, zix_toNat, Int.toNat_natCast, tn_a1, tn_a, tn_s1, tn_s, tn_m1, tn_l0, tn_l1, bnd_eq, obind_some, mr_some, sI_s, sI_n, sI_2, sA_1, sA_s, sA_i, sA_n]
    · simp (disch := omega) only [if_ltp, if_ltn, if_eqp, if_eqn, if_T, if_F, gd_zin, gd_isB0, gd_isB1, zix_toNat, Int.toNat_natCast, tn_a1, tn_a, tn_s1, tn_s, tn_m1, tn_l0, tn_l1, bnd_eq, obind_some, mr_some, sI_s, sI_n, sI_2, sA_1, sA_s, sA_i, sA_n]; rfl
    · simp (disch := omega) only [if_ltp, if_ltn, if_eqp, if_eqn, if_T, if_F, gd_zin, gd_isB0, gd_isB1, zix_toNat, Int.toNat_natCast, tn_a1, tn_a, tn_s1, tn_s, tn_m1, tn_l0, tn_l1, bnd_eq, obind_some, mr_some, sI_s, sI_n, sI_2, sA_1, sA_s, sA_i, sA_n]; rfl
    · simp (disch := omega) only [if_ltp, if_ltn, if_eqp, if_eqn, if_T, if_F, gd_zin, gd_isB0, gd_isB1, zix_toNat, Int.toNat_natCast, tn_a1, tn_a, tn_s1, tn_s, tn_m1, tn_l0, tn_l1, bnd_eq, obind_some, mr_some, sI_s, sI_n, sI_2, sA_1, sA_s, sA_i, sA_n]; rfl
    · have : k = 0 := by have : k < 1 := hk; omega
      subst this
      simp (disch := omega) only [if_ltp, if_ltn, if_eqp, if_eqn, if_T, if_F, gd_zin, gd_isB0, gd_isB1, zix_toNat, Int.toNat_natCast, tn_a1, tn_a, tn_s1, tn_s, tn_m1, tn_l0, tn_l1, bnd_eq, obind_some, mr_some, sI_s, sI_n, sI_2, sA_1, sA_s, sA_i, sA_n]
      rfl
    · have : k = 0 := by have : k < 1 := hk; omega
      subst this
      simp (disch := omega) only [if_ltp, if_ltn, if_eqp, if_eqn, if_T, if_F, gd_zin, gd_isB0, gd_isB1, zix_toNat, Int.toNat_natCast, tn_a1, tn_a, tn_s1, tn_s, tn_m1, tn_l0, tn_l1, bnd_eq, obind_some, mr_some, sI_s, sI_n, sI_2, sA_1, sA_s, sA_i, sA_n]
      rfl
    · have : k = 0 := by have : k < 1 := hk; omega
      subst this
      simp (disch := omega) only [if_ltp, if_ltn, if_eqp, if_eqn, if_T, if_F, gd_zin, gd_isB0, gd_isB1, zix_toNat, Int.toNat_natCast, tn_a1, tn_a, tn_s1, tn_s, tn_m1, tn_l0, tn_l1, bnd_eq, obind_some, mr_some, sI_s, sI_n, sI_2, sA_1, sA_s, sA_i, sA_n]
      rfl
    · have : k = 0 := by have : k < 1 := hk; omega
      subst this
      simp (disch := omega) only [if_ltp, if_ltn, if_eqp, if_eqn, if_T, if_F, gd_zin, gd_isB0, gd_isB1, zix_toNat, Int.toNat_natCast, tn_a1, tn_a, tn_s1, tn_s, tn_m1, tn_l0, tn_l1, bnd_eq, obind_some, mr_some, sI_s, sI_n, sI_2, sA_1, sA_s, sA_i, sA_n]
      rfl
    · have : k = 0 := by have : k < 1 := hk; omega
      subst this
      simp (disch := omega) only [if_ltp, if_ltn, if_eqp, if_eqn, if_T, if_F, gd_zin, gd_isB0, gd_isB1, zix_toNat, Int.toNat_natCast, tn_a1, tn_a, tn_s1, tn_s, tn_m1, tn_l0, tn_l1, bnd_eq, obind_some, mr_some, sI_s, sI_n, sI_2, sA_1, sA_s, sA_i, sA_n]
      rfl
    · simp (disch := omega) only [if_ltp, if_ltn, if_eqp, if_eqn, if_T, if_F, gd_zin, gd_isB0, gd_isB1, zix_toNat, Int.toNat_natCast, tn_a1, tn_a, tn_s1, tn_s, tn_m1, tn_l0, tn_l1, bnd_eq, obind_some, mr_some, sI_s, sI_n, sI_2, sA_1, sA_s, sA_i, sA_n]; rfl
    · simp (disch := omega) only [if_ltp, if_ltn, if_eqp, if_eqn, if_T, if_F, gd_zin, gd_isB0, gd_isB1, zix_toNat, Int.toNat_natCast, tn_a1, tn_a, tn_s1, tn_s, tn_m1, tn_l0, tn_l1, bnd_eq, obind_some, mr_some, sI_s, sI_n, sI_2, sA_1, sA_s, sA_i, sA_n]; rfl
theorem m_read_eq (hT : TxtM M w) : ∃ M', m_read M = some M' ∧ OutM M (w.foldl lx lx0).2.2.2 M' := by
  obtain ⟨M1, a1, a2, a3⟩ := m_reset_eq M
  obtain ⟨M', b1, b2, b3⟩ := m_read_6_eq w.length 0 M1 t0 (by omega) (by omega) a3 WF_t0 (by show 0 ≤ 0; omega) (hT.fm a2)
  refine ⟨M', by unfold m_read; rw [a1]; exact b1, a2.trans b2, ?_⟩
  rw [show lx0 = (0, 0, 0, some t0) from rfl, lx_rd w.length w (Nat.le_refl _)]
  exact b3
end MR
