/-! the reference's tree functions that change the tree -/
set_option maxRecDepth 100000
/-- all but the tree's own stays -/
def FM (M M' : MS) : Prop := (∀ k, k ∉ [4, 5, 7, 13, 16, 17, 20, 21] → M'.1 k = M.1 k) ∧ ∀ k, k ∉ [6, 8, 9, 10, 11, 12, 14, 15, 18, 19] → M'.2 k = M.2 k
theorem FM.refl (M : MS) : FM M M := ⟨fun _ _ => rfl, fun _ _ => rfl⟩
theorem FM.trans {M M' M'' : MS} (h : FM M M') (h' : FM M' M'') : FM M M'' := ⟨fun k hk => (h'.1 k hk).trans (h.1 k hk), fun k hk => (h'.2 k hk).trans (h.2 k hk)⟩
theorem FM.sI {M M' : MS} (h : FM M M') {k : Nat} (hk : k ∈ [4, 5, 7, 13, 16, 17, 20, 21]) (v : Int) : FM M (sI M' k v) := ⟨fun j hj => by rw [sI_n _ _ _ _ (fun e => hj (by rw [e]; exact hk))]; exact h.1 j hj, h.2⟩
theorem FM.sF {M M' : MS} (h : FM M M') {k : Nat} (hk : k ∈ [6, 8, 9, 10, 11, 12, 14, 15, 18, 19]) (g : Nat → Int) : FM M (sF M' k g) := ⟨h.1, fun j hj => by rw [sF_n _ _ _ _ (fun e => hj (by rw [e]; exact hk))]; exact h.2 j hj⟩
theorem FM.sA {M M' : MS} (h : FM M M') {k : Nat} (hk : k ∈ [6, 8, 9, 10, 11, 12, 14, 15, 18, 19]) (i : Nat) (v : Int) : FM M (sA M' k i v) := h.sF hk _
/-- what comes of a change: a tree, or the page breaks -/
def OutM (M : MS) (o : Option TS) (M' : MS) : Prop := FM M M' ∧ match o with
  | some T => RepM M' T
  | none => M'.1 4 = 1
section MT
variable {M : MS} {T : TS}
theorem RepM.place (hR : RepM M T) (a b : Int) : RepM (sI (sI M 20 a) 21 b) T := by
  obtain ⟨h4, h5, h7, h13, h6, h8, h9, h10, h12, ⟨E, e1, e2⟩, ⟨C, c1, c2⟩⟩ := hR
  refine ⟨?_, ?_, ?_, ?_, h6, h8, h9, h10, h12, ⟨E, ?_, e2⟩, ⟨C, ?_, c2⟩⟩ <;> simp (disch := omega) only [if_ltp, if_ltn, if_eqp, if_eqn, if_T, if_F, gd_zin, gd_isB0, gd_isB1, zix_toNat, Int.toNat_natCast, tn_a1, tn_a, tn_s1, tn_s, tn_m1, tn_l0, tn_l1, bnd_eq, obind_some, mr_some, sI_s, sI_n, sI_2, sA_1, sA_s, sA_i, sA_n] <;> assumption
theorem RepM.mv (hR : RepM M T) (i : Nat) (b : Int) : RepM (sA M 11 i b) T := by
  obtain ⟨h4, h5, h7, h13, h6, h8, h9, h10, h12, ⟨E, e1, e2⟩, ⟨C, c1, c2⟩⟩ := hR
  refine ⟨h4, h5, h7, h13, ?_, ?_, ?_, ?_, ?_, ⟨E, e1, ?_⟩, ⟨C, c1, ?_⟩⟩ <;> simp (disch := omega) only [if_ltp, if_ltn, if_eqp, if_eqn, if_T, if_F, gd_zin, gd_isB0, gd_isB1, zix_toNat, Int.toNat_natCast, tn_a1, tn_a, tn_s1, tn_s, tn_m1, tn_l0, tn_l1, bnd_eq, obind_some, mr_some, sI_s, sI_n, sI_2, sA_1, sA_s, sA_i, sA_n] <;> assumption
theorem plcIn_le (hW : WFb T) {i : Nat} (hi : i < tN T) : 1 ≤ (plcIn T i).1 ∧ (plcIn T i).1 ≤ tN T ∧ (plcIn T i).2.1 ≤ tN T := by
  have hs := seat_lt hW hi
  have h1 := behindA_le (T := T) (show seat T i < (tO T).length by rw [hW.2.1]; exact hs)
  have h2 := behindA_gt T (seat T i)
  have h3 := hW.2.2.2.2.2.2.2.1 i hi
  rw [hW.2.1] at h1
  unfold plcIn
  refine ⟨?_, ?_, ?_⟩ <;> simp only [] <;> omega
theorem plc_le (hW : WFb T) {n : Nat} (h1 : 1 ≤ n) (h2 : n ≤ (tS T).length) : (plc T n).1 ≤ tN T ∧ (plc T n).2.1 ≤ tN T := by
  have hi : (tS T).getD (n - 1) 0 < tN T := getD_lt hW.2.2.2.2.2.1 (by omega)
  have hp := plcIn_le hW hi
  unfold plc
  simp only []
  split
  · have ht : (tS T).getD (lastB (fun k => decide (1 ≤ k) && decide (sNm T k = 116)) n) 0 < tN T := getD_lt hW.2.2.2.2.2.1 (by have := lastB_lt (fun k => decide (1 ≤ k) && decide (sNm T k = 116)) n (by omega); omega)
    have hs := seat_lt hW ht
    have h3 := hW.2.2.2.2.2.2.2.1 _ ht
    constructor <;> simp only [] <;> omega
  · exact ⟨hp.2.1, hp.2.2⟩
theorem c1_ne {x y : Int} (h : x ≠ y) : [y].contains x = false := by simp [h]
theorem contains_tr (x : Int) : [116, 114].contains x = isTR x := by simp [isTR, List.contains_cons]
theorem m_findPlace_w (hR : RepM M T) (hW : WFw T) {n : Nat} (h1 : 1 ≤ n) (h2 : n ≤ (tS T).length) (hm : ∀ k, k < n → (tS T).getD k 0 ∈ tO T) : m_findPlace M (n : Int) = some (sI (sI M 20 ((plc T n).1 : Nat)) 21 ((plc T n).2.1 : Nat)) := by
  have hR' := hR
  have hW' := hW
  obtain ⟨-, -, -, h13, -, h8, -, h10, h12, -⟩ := hR
  obtain ⟨w1, w2, w3, w4, w5, w6, w7, -⟩ := hW
  have htop := getD_lt w6 (show n - 1 < (tS T).length by omega)
  unfold m_findPlace
  simp (disch := omega) only [if_ltp, if_ltn, if_eqp, if_eqn, if_T, if_F, gd_zin, gd_isB0, gd_isB1, zix_toNat, Int.toNat_natCast, tn_a1, tn_a, tn_s1, tn_s, tn_m1, tn_l0, tn_l1, bnd_eq, obind_some, mr_some, sI_s, sI_n, sI_2, sA_1, sA_s, sA_i, sA_n, h12]
  refine loopU (fun k => ((if lastB (fun k => decide (1 ≤ k) && decide (sNm T k = 116)) k = 0 then -1 else (((tS T).getD (lastB (fun k => decide (1 ≤ k) && decide (sNm T k = 116)) k) 0 : Nat) : Int)), (k : Int))) 1 n rfl h1 (fun k k1 k2 => ?_) ?_
  · have hs := getD_lt w6 (show k < (tS T).length by omega)
    simp only [m_findPlace_14s, m_findPlace_47]
    simp (disch := omega) only [if_ltp, if_ltn, if_eqp, if_eqn, if_T, if_F, gd_zin, gd_isB0, gd_isB1, zix_toNat, Int.toNat_natCast, tn_a1, tn_a, tn_s1, tn_s, tn_m1, tn_l0, tn_l1, bnd_eq, obind_some, mr_some, sI_s, sI_n, sI_2, sA_1, sA_s, sA_i, sA_n, h12, m_named_w hR' hW' mk_t hs]
    rw [lastB_s]
    by_cases e : sNm T k = 116
    · have e' : tM T ((tS T).getD k 0) = 116 := e
      rw [show [116].contains (tM T ((tS T).getD k 0)) = true by rw [e']; rfl, zb_t]
      simp (disch := omega) only [if_ltp, if_ltn, if_eqp, if_eqn, if_T, if_F, gd_zin, gd_isB0, gd_isB1, zix_toNat, Int.toNat_natCast, tn_a1, tn_a, tn_s1, tn_s, tn_m1, tn_l0, tn_l1, bnd_eq, obind_some, mr_some, sI_s, sI_n, sI_2, sA_1, sA_s, sA_i, sA_n]
      simp [e, k1, show k ≠ 0 by omega]
    · have e' : tM T ((tS T).getD k 0) ≠ 116 := e
      rw [show [116].contains (tM T ((tS T).getD k 0)) = false from c1_ne e', zb_f]
      simp (disch := omega) only [if_ltp, if_ltn, if_eqp, if_eqn, if_T, if_F, gd_zin, gd_isB0, gd_isB1, zix_toNat, Int.toNat_natCast, tn_a1, tn_a, tn_s1, tn_s, tn_m1, tn_l0, tn_l1, bnd_eq, obind_some, mr_some, sI_s, sI_n, sI_2, sA_1, sA_s, sA_i, sA_n]
      simp [e]
  · simp only [m_findPlace_14s, m_findPlace_54, m_findPlace_90]
    have hlt := lastB_lt (fun k => decide (1 ≤ k) && decide (sNm T k = 116)) n (by omega)
    have ht : (tS T).getD (lastB (fun k => decide (1 ≤ k) && decide (sNm T k = 116)) n) 0 < tN T := getD_lt w6 (by omega)
    simp (disch := omega) only [if_ltp, if_ltn, if_eqp, if_eqn, if_T, if_F, gd_zin, gd_isB0, gd_isB1, zix_toNat, Int.toNat_natCast, tn_a1, tn_a, tn_s1, tn_s, tn_m1, tn_l0, tn_l1, bnd_eq, obind_some, mr_some, sI_s, sI_n, sI_2, sA_1, sA_s, sA_i, sA_n, m_named_w hR' hW' mk_tr htop]
    rw [contains_tr]
    have hin := m_insideTop_w hR' hW' (hm (n - 1) (by omega))
    unfold plc
    simp only []
    cases hb : isTR (tM T ((tS T).getD (n - 1) 0)) with
    | false =>
      rw [zb_f]
      simp (disch := omega) only [if_ltp, if_ltn, if_eqp, if_eqn, if_T, if_F, gd_zin, gd_isB0, gd_isB1, zix_toNat, Int.toNat_natCast, tn_a1, tn_a, tn_s1, tn_s, tn_m1, tn_l0, tn_l1, bnd_eq, obind_some, mr_some, sI_s, sI_n, sI_2, sA_1, sA_s, sA_i, sA_n]
      rw [hin]
      rfl
    | true =>
      rw [zb_t]
      by_cases e : lastB (fun k => decide (1 ≤ k) && decide (sNm T k = 116)) n = 0
      · rw [if_pos e]
        simp (disch := omega) only [if_ltp, if_ltn, if_eqp, if_eqn, if_T, if_F, gd_zin, gd_isB0, gd_isB1, zix_toNat, Int.toNat_natCast, tn_a1, tn_a, tn_s1, tn_s, tn_m1, tn_l0, tn_l1, bnd_eq, obind_some, mr_some, sI_s, sI_n, sI_2, sA_1, sA_s, sA_i, sA_n]
        rw [hin]
        simp [e]
        rfl
      · rw [if_neg e]
        simp (disch := omega) only [if_ltp, if_ltn, if_eqp, if_eqn, if_T, if_F, gd_zin, gd_isB0, gd_isB1, zix_toNat, Int.toNat_natCast, tn_a1, tn_a, tn_s1, tn_s, tn_m1, tn_l0, tn_l1, bnd_eq, obind_some, mr_some, sI_s, sI_n, sI_2, sA_1, sA_s, sA_i, sA_n, m_seat_w hR' hW' (hm _ hlt), h10]
        simp [e]
theorem m_findPlace_eq (hR : RepM M T) (hW : WFb T) {n : Nat} (h1 : 1 ≤ n) (h2 : n ≤ (tS T).length) : m_findPlace M (n : Int) = some (sI (sI M 20 ((plc T n).1 : Nat)) 21 ((plc T n).2.1 : Nat)) := m_findPlace_w hR hW.w h1 h2 (fun k hk => hW.mem (getD_lt hW.2.2.2.2.2.1 (by omega)))
theorem getD_insN {l : List Nat} {k x j : Nat} (hk : k ≤ l.length) : (insN l k x).getD j 0 = if j < k then l.getD j 0 else if j = k then x else l.getD (j - 1) 0 := by
  unfold insN
  simp only [List.getD, List.getElem?_append, List.length_take, Nat.min_eq_left hk]
  by_cases h : j < k
  · simp [h, List.getElem?_take]
  · simp only [h, if_false]
    by_cases e : j = k
    · simp [e]
    · simp only [e, if_false]
      rw [show j - k = (j - 1 - k) + 1 by omega, List.getElem?_cons_succ, List.getElem?_drop, show k + (j - 1 - k) = j - 1 by omega]
theorem len_insN {l : List Nat} {k x : Nat} (hk : k ≤ l.length) : (insN l k x).length = l.length + 1 := by
  unfold insN
  simp
  omega
theorem m_create_none (hR : RepM M T) (x c : Int) (h : tN T = 24) : m_create M x c = some (sI M 4 1, 0) := by
  obtain ⟨-, -, h7, -⟩ := hR
  unfold m_create
  simp (disch := omega) only [if_ltp, if_ltn, if_eqp, if_eqn, if_T, if_F, gd_zin, gd_isB0, gd_isB1, zix_toNat, Int.toNat_natCast, tn_a1, tn_a, tn_s1, tn_s, tn_m1, tn_l0, tn_l1, bnd_eq, obind_some, mr_some, sI_s, sI_n, sI_2, sA_1, sA_s, sA_i, sA_n, h7]
def mkT (T : TS) (x c : Int) (q : Nat × Nat × Nat) : TS := (tN T + 1, insN (tO T) q.1 (tN T), va_up (tP T) (tN T) q.2.2, va_up (tD T) (tN T) q.2.1, va_up (tM T) (tN T) x, va_up (tC T) (tN T) c, tS T, va_up (tL T) (tN T) [], va_up (tX T) (tN T) [], tK T)
theorem mkN_some {T : TS} {x c : Int} {q : Nat × Nat × Nat} (h : tN T ≠ 24) : mkN T x c q = some (mkT T x c q) := if_neg h
theorem mkN_none {T : TS} {x c : Int} {q : Nat × Nat × Nat} (h : tN T = 24) : mkN T x c q = none := if_pos h
theorem m_create_some (hR : RepM M T) (hW : tN T ≤ 24 ∧ (tO T).length = tN T) (x c : Int) (q : Nat × Nat × Nat) (h : tN T ≠ 24) (hq1 : q.1 ≤ tN T) (h20 : M.1 20 = (q.1 : Int)) (h21 : M.1 21 = (q.2.1 : Int)) (hL : tL T (tN T) = []) (hX : tX T (tN T) = []) :
    ∃ M', m_create M x c = some (M', (tN T : Int)) ∧ FM M M' ∧ (M'.1 16 = M.1 16 ∧ M'.2 14 = M.2 14 ∧ M'.2 15 = M.2 15) ∧ RepM M' (mkT T x c q) := by
  obtain ⟨h4, h5, h7, h13, h6, h8, h9, h10, h12, ⟨E, e1, e2, e3, e4, e5⟩, ⟨C, c1, c2, c3, c4, c5⟩⟩ := hR
  obtain ⟨w1, w2⟩ := hW
  have hloop : m_create M x c = m_create_49 (sF M 6 (fun i => if q.1 < i ∧ i ≤ tN T then M.2 6 (i - 1) else M.2 6 i)) x c := by
    unfold m_create
    simp (disch := omega) only [if_ltp, if_ltn, if_eqp, if_eqn, if_T, if_F, gd_zin, gd_isB0, gd_isB1, zix_toNat, Int.toNat_natCast, tn_a1, tn_a, tn_s1, tn_s, tn_m1, tn_l0, tn_l1, bnd_eq, obind_some, mr_some, sI_s, sI_n, sI_2, sA_1, sA_s, sA_i, sA_n, h7, h5]
    refine loopU (fun j => (sF M 6 (fun i => if tN T - j < i ∧ i ≤ tN T then M.2 6 (i - 1) else M.2 6 i), ((tN T - j : Nat) : Int))) 0 (tN T - q.1) ?_ (Nat.zero_le _) (fun j j1 j2 => ?_) ?_
    · refine Prod.ext ?_ (by rw [w2]; rfl)
      rw [show (fun i => if tN T - 0 < i ∧ i ≤ tN T then M.2 6 (i - 1) else M.2 6 i) = M.2 6 by funext i; rw [if_neg (by omega)]]
      exact (sF_id M 6).symm
    · simp only [m_create_21s]
      simp (disch := omega) only [if_ltp, if_ltn, if_eqp, if_eqn, if_T, if_F, gd_zin, gd_isB0, gd_isB1, zix_toNat, Int.toNat_natCast, tn_a1, tn_a, tn_s1, tn_s, tn_m1, tn_l0, tn_l1, bnd_eq, obind_some, mr_some, sI_s, sI_n, sI_2, sA_1, sA_s, sA_i, sA_n, sF_1, sF_s, h20, sA_sF]
      congr 3
      · congr 1
        funext i
        simp only [va_up]
        by_cases z : i = tN T - j
        · rw [if_pos z, if_neg (by omega), if_pos (by omega), z]
        · rw [if_neg z]
          by_cases z2 : tN T - j < i ∧ i ≤ tN T
          · rw [if_pos z2, if_pos (by omega)]
          · rw [if_neg z2, if_neg (by omega)]
      · omega
    · simp only [m_create_21s]
      simp (disch := omega) only [if_ltp, if_ltn, if_eqp, if_eqn, if_T, if_F, gd_zin, gd_isB0, gd_isB1, zix_toNat, Int.toNat_natCast, tn_a1, tn_a, tn_s1, tn_s, tn_m1, tn_l0, tn_l1, bnd_eq, obind_some, mr_some, sI_s, sI_n, sI_2, sA_1, sA_s, sA_i, sA_n, sF_1, h20]
      rw [show tN T - (tN T - q.1) = q.1 by omega]
  refine ⟨sI (sA (sA (sA (sI (sF M 6 (va_up (fun i => if q.1 < i ∧ i ≤ tN T then M.2 6 (i - 1) else M.2 6 i) q.1 (tN T : Int))) 5 ((tN T : Int) + 1)) 8 (tN T) x) 9 (tN T) c) 10 (tN T) (q.2.1 : Int)) 7 ((tN T : Int) + 1), ?_, ?_, ?_, ?_⟩
  · rw [hloop]
    unfold m_create_49
    simp (disch := omega) only [if_ltp, if_ltn, if_eqp, if_eqn, if_T, if_F, gd_zin, gd_isB0, gd_isB1, zix_toNat, Int.toNat_natCast, tn_a1, tn_a, tn_s1, tn_s, tn_m1, tn_l0, tn_l1, bnd_eq, obind_some, mr_some, sI_s, sI_n, sI_2, sA_1, sA_s, sA_i, sA_n, sF_1, h20, h7, h5, h21, sA_sF, w2]
    simp
  · exact (((((FM.refl M).sF (by simp) _).sI (by simp) _).sA (by simp) _ _).sA (by simp) _ _ |>.sA (by simp) _ _).sI (by simp) _
  · refine ⟨?_, ?_, ?_⟩
    · simp (disch := omega) only [if_ltp, if_ltn, if_eqp, if_eqn, if_T, if_F, gd_zin, gd_isB0, gd_isB1, zix_toNat, Int.toNat_natCast, tn_a1, tn_a, tn_s1, tn_s, tn_m1, tn_l0, tn_l1, bnd_eq, obind_some, mr_some, sI_s, sI_n, sI_2, sA_1, sA_s, sA_i, sA_n, sF_1]
    · funext j
      simp (disch := omega) only [if_ltp, if_ltn, if_eqp, if_eqn, if_T, if_F, gd_zin, gd_isB0, gd_isB1, zix_toNat, Int.toNat_natCast, tn_a1, tn_a, tn_s1, tn_s, tn_m1, tn_l0, tn_l1, bnd_eq, obind_some, mr_some, sI_s, sI_n, sI_2, sA_1, sA_s, sA_i, sA_n, sF_n]
    · funext j
      simp (disch := omega) only [if_ltp, if_ltn, if_eqp, if_eqn, if_T, if_F, gd_zin, gd_isB0, gd_isB1, zix_toNat, Int.toNat_natCast, tn_a1, tn_a, tn_s1, tn_s, tn_m1, tn_l0, tn_l1, bnd_eq, obind_some, mr_some, sI_s, sI_n, sI_2, sA_1, sA_s, sA_i, sA_n, sF_n]
  · have hlen : (insN (tO T) q.1 (tN T)).length = tN T + 1 := by rw [len_insN (by omega), w2]
    have hd : ∀ e : Nat × Nat, e ∈ E → e.2 ≠ tN T := fun e he => by have := e4 e he; omega
    refine ⟨?_, ?_, ?_, ?_, ?_, ?_, ?_, ?_, ?_, ⟨E, ?_, ?_, ?_, ?_, ?_⟩, ⟨C, ?_, ?_, ?_, ?_, ?_⟩⟩
    · simp (disch := omega) only [if_ltp, if_ltn, if_eqp, if_eqn, if_T, if_F, gd_zin, gd_isB0, gd_isB1, zix_toNat, Int.toNat_natCast, tn_a1, tn_a, tn_s1, tn_s, tn_m1, tn_l0, tn_l1, bnd_eq, obind_some, mr_some, sI_s, sI_n, sI_2, sA_1, sA_s, sA_i, sA_n, sF_1]; exact h4
    · simp (disch := omega) only [if_ltp, if_ltn, if_eqp, if_eqn, if_T, if_F, gd_zin, gd_isB0, gd_isB1, zix_toNat, Int.toNat_natCast, tn_a1, tn_a, tn_s1, tn_s, tn_m1, tn_l0, tn_l1, bnd_eq, obind_some, mr_some, sI_s, sI_n, sI_2, sA_1, sA_s, sA_i, sA_n, sF_1]
      show _ = (((insN (tO T) q.1 (tN T)).length : Nat) : Int)
      rw [hlen]; rfl
    · simp (disch := omega) only [if_ltp, if_ltn, if_eqp, if_eqn, if_T, if_F, gd_zin, gd_isB0, gd_isB1, zix_toNat, Int.toNat_natCast, tn_a1, tn_a, tn_s1, tn_s, tn_m1, tn_l0, tn_l1, bnd_eq, obind_some, mr_some, sI_s, sI_n, sI_2, sA_1, sA_s, sA_i, sA_n]; rfl
    · simp (disch := omega) only [if_ltp, if_ltn, if_eqp, if_eqn, if_T, if_F, gd_zin, gd_isB0, gd_isB1, zix_toNat, Int.toNat_natCast, tn_a1, tn_a, tn_s1, tn_s, tn_m1, tn_l0, tn_l1, bnd_eq, obind_some, mr_some, sI_s, sI_n, sI_2, sA_1, sA_s, sA_i, sA_n, sF_1]; exact h13
    · intro k hk
      have hk' : k < tN T + 1 := by rw [← hlen]; exact hk
      simp (disch := omega) only [if_ltp, if_ltn, if_eqp, if_eqn, if_T, if_F, gd_zin, gd_isB0, gd_isB1, zix_toNat, Int.toNat_natCast, tn_a1, tn_a, tn_s1, tn_s, tn_m1, tn_l0, tn_l1, bnd_eq, obind_some, mr_some, sI_s, sI_n, sI_2, sA_1, sA_s, sA_i, sA_n, sF_s]
      show _ = (((insN (tO T) q.1 (tN T)).getD k 0 : Nat) : Int)
      rw [getD_insN (by omega)]
      simp only [va_up]
      by_cases z : k < q.1
      · rw [if_neg (by omega), if_neg (by omega), if_pos z, h6 k (by omega)]
      · rw [if_neg z]
        by_cases z2 : k = q.1
        · rw [if_pos z2, if_pos z2]
        · rw [if_neg z2, if_neg z2, if_pos (by omega), h6 (k - 1) (by omega)]
    · intro i hi
      simp (disch := omega) only [if_ltp, if_ltn, if_eqp, if_eqn, if_T, if_F, gd_zin, gd_isB0, gd_isB1, zix_toNat, Int.toNat_natCast, tn_a1, tn_a, tn_s1, tn_s, tn_m1, tn_l0, tn_l1, bnd_eq, obind_some, mr_some, sI_s, sI_n, sI_2, sA_1, sA_s, sA_i, sA_n]
      show _ = va_up (tM T) (tN T) x i
      by_cases z : i = tN T
      · rw [z, sA_s, va_up_s]
      · rw [sA_i _ _ _ _ _ z, va_up_n _ _ _ _ z]
        simp (disch := omega) only [if_ltp, if_ltn, if_eqp, if_eqn, if_T, if_F, gd_zin, gd_isB0, gd_isB1, zix_toNat, Int.toNat_natCast, tn_a1, tn_a, tn_s1, tn_s, tn_m1, tn_l0, tn_l1, bnd_eq, obind_some, mr_some, sI_s, sI_n, sI_2, sA_1, sA_s, sA_i, sA_n, sF_n]
        exact h8 i (by have : i < tN T + 1 := hi; omega)
    · intro i hi
      simp (disch := omega) only [if_ltp, if_ltn, if_eqp, if_eqn, if_T, if_F, gd_zin, gd_isB0, gd_isB1, zix_toNat, Int.toNat_natCast, tn_a1, tn_a, tn_s1, tn_s, tn_m1, tn_l0, tn_l1, bnd_eq, obind_some, mr_some, sI_s, sI_n, sI_2, sA_1, sA_s, sA_i, sA_n]
      show _ = va_up (tC T) (tN T) c i
      by_cases z : i = tN T
      · rw [z, sA_s, va_up_s]
      · rw [sA_i _ _ _ _ _ z, va_up_n _ _ _ _ z]
        simp (disch := omega) only [if_ltp, if_ltn, if_eqp, if_eqn, if_T, if_F, gd_zin, gd_isB0, gd_isB1, zix_toNat, Int.toNat_natCast, tn_a1, tn_a, tn_s1, tn_s, tn_m1, tn_l0, tn_l1, bnd_eq, obind_some, mr_some, sI_s, sI_n, sI_2, sA_1, sA_s, sA_i, sA_n, sF_n]
        exact h9 i (by have : i < tN T + 1 := hi; omega)
    · intro i hi
      simp (disch := omega) only [if_ltp, if_ltn, if_eqp, if_eqn, if_T, if_F, gd_zin, gd_isB0, gd_isB1, zix_toNat, Int.toNat_natCast, tn_a1, tn_a, tn_s1, tn_s, tn_m1, tn_l0, tn_l1, bnd_eq, obind_some, mr_some, sI_s, sI_n, sI_2, sA_1, sA_s, sA_i, sA_n]
      show _ = ((va_up (tD T) (tN T) q.2.1 i : Nat) : Int)
      by_cases z : i = tN T
      · rw [z, sA_s, va_up_s]
      · rw [sA_i _ _ _ _ _ z, va_up_n _ _ _ _ z]
        simp (disch := omega) only [if_ltp, if_ltn, if_eqp, if_eqn, if_T, if_F, gd_zin, gd_isB0, gd_isB1, zix_toNat, Int.toNat_natCast, tn_a1, tn_a, tn_s1, tn_s, tn_m1, tn_l0, tn_l1, bnd_eq, obind_some, mr_some, sI_s, sI_n, sI_2, sA_1, sA_s, sA_i, sA_n, sF_n]
        exact h10 i (by have : i < tN T + 1 := hi; omega)
    · intro k hk
      simp (disch := omega) only [if_ltp, if_ltn, if_eqp, if_eqn, if_T, if_F, gd_zin, gd_isB0, gd_isB1, zix_toNat, Int.toNat_natCast, tn_a1, tn_a, tn_s1, tn_s, tn_m1, tn_l0, tn_l1, bnd_eq, obind_some, mr_some, sI_s, sI_n, sI_2, sA_1, sA_s, sA_i, sA_n, sF_n]
      exact h12 k hk
    · simp (disch := omega) only [if_ltp, if_ltn, if_eqp, if_eqn, if_T, if_F, gd_zin, gd_isB0, gd_isB1, zix_toNat, Int.toNat_natCast, tn_a1, tn_a, tn_s1, tn_s, tn_m1, tn_l0, tn_l1, bnd_eq, obind_some, mr_some, sI_s, sI_n, sI_2, sA_1, sA_s, sA_i, sA_n, sF_1]; exact e1
    · exact Nat.lt_succ_of_lt e2
    · intro k hk
      simp (disch := omega) only [if_ltp, if_ltn, if_eqp, if_eqn, if_T, if_F, gd_zin, gd_isB0, gd_isB1, zix_toNat, Int.toNat_natCast, tn_a1, tn_a, tn_s1, tn_s, tn_m1, tn_l0, tn_l1, bnd_eq, obind_some, mr_some, sI_s, sI_n, sI_2, sA_1, sA_s, sA_i, sA_n, sF_n]
      exact e3 k hk
    · exact fun e he => ⟨Nat.lt_succ_of_lt (e4 e he).1, Nat.lt_succ_of_lt (e4 e he).2⟩
    · intro o
      rw [e5]
      show _ = va_up (tL T) (tN T) [] o
      by_cases z : o = tN T
      · rw [z, va_up_s, hL]
      · rw [va_up_n _ _ _ _ z]
    · simp (disch := omega) only [if_ltp, if_ltn, if_eqp, if_eqn, if_T, if_F, gd_zin, gd_isB0, gd_isB1, zix_toNat, Int.toNat_natCast, tn_a1, tn_a, tn_s1, tn_s, tn_m1, tn_l0, tn_l1, bnd_eq, obind_some, mr_some, sI_s, sI_n, sI_2, sA_1, sA_s, sA_i, sA_n, sF_1]; exact c1
    · exact c2
    · intro k hk
      simp (disch := omega) only [if_ltp, if_ltn, if_eqp, if_eqn, if_T, if_F, gd_zin, gd_isB0, gd_isB1, zix_toNat, Int.toNat_natCast, tn_a1, tn_a, tn_s1, tn_s, tn_m1, tn_l0, tn_l1, bnd_eq, obind_some, mr_some, sI_s, sI_n, sI_2, sA_1, sA_s, sA_i, sA_n, sF_n]
      exact c3 k hk
    · exact fun e he => Nat.lt_succ_of_lt (c4 e he)
    · intro o
      rw [c5]
      show _ = va_up (tX T) (tN T) [] o
      by_cases z : o = tN T
      · rw [z, va_up_s, hX]
      · rw [va_up_n _ _ _ _ z]
end MT
