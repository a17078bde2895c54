/-! the reference's tree functions over a plain tree -/
set_option maxRecDepth 100000
section MT
variable {M : MS} {T : TS}
def zb (b : Bool) : Int := if b then 1 else 0
theorem zb_t : zb true = 1 := rfl
theorem zb_f : zb false = 0 := rfl
theorem m_small_eq (x : Int) (h1 : -2147483648 ≤ x) (h2 : x < 2147483648) : m_small x = some (zb (decide (97 ≤ x) && decide (x ≤ 122))) := by
  unfold m_small
  by_cases a : x < 97
  · simp (disch := omega) only [if_ltp, if_ltn, if_eqp, if_eqn, if_T, if_F, gd_zin, gd_isB0, gd_isB1, zix_toNat, Int.toNat_natCast, tn_a1, tn_a, tn_s1, tn_s, tn_m1, tn_l0, tn_l1, bnd_eq, obind_some, mr_some, sI_s, sI_n, sI_2, sA_1, sA_s, sA_i, sA_n]
    rw [show decide (97 ≤ x) = false by simp; omega]
    rfl
  · by_cases b : 122 < x
    · simp (disch := omega) only [if_ltp, if_ltn, if_eqp, if_eqn, if_T, if_F, gd_zin, gd_isB0, gd_isB1, zix_toNat, Int.toNat_natCast, tn_a1, tn_a, tn_s1, tn_s, tn_m1, tn_l0, tn_l1, bnd_eq, obind_some, mr_some, sI_s, sI_n, sI_2, sA_1, sA_s, sA_i, sA_n]
      rw [show decide (x ≤ 122) = false by simp; omega]
      simp [zb]
    · simp (disch := omega) only [if_ltp, if_ltn, if_eqp, if_eqn, if_T, if_F, gd_zin, gd_isB0, gd_isB1, zix_toNat, Int.toNat_natCast, tn_a1, tn_a, tn_s1, tn_s, tn_m1, tn_l0, tn_l1, bnd_eq, obind_some, mr_some, sI_s, sI_n, sI_2, sA_1, sA_s, sA_i, sA_n]
      rw [show decide (x ≤ 122) = true by simp; omega, show decide (97 ≤ x) = true by simp; omega]
      rfl
theorem m_capital_eq (x : Int) (h1 : -2147483648 ≤ x) (h2 : x < 2147483648) : m_capital x = some (zb (decide (65 ≤ x) && decide (x ≤ 90))) := by
  unfold m_capital
  by_cases a : x < 65
  · simp (disch := omega) only [if_ltp, if_ltn, if_eqp, if_eqn, if_T, if_F, gd_zin, gd_isB0, gd_isB1, zix_toNat, Int.toNat_natCast, tn_a1, tn_a, tn_s1, tn_s, tn_m1, tn_l0, tn_l1, bnd_eq, obind_some, mr_some, sI_s, sI_n, sI_2, sA_1, sA_s, sA_i, sA_n]
    rw [show decide (65 ≤ x) = false by simp; omega]
    rfl
  · by_cases b : 90 < x
    · simp (disch := omega) only [if_ltp, if_ltn, if_eqp, if_eqn, if_T, if_F, gd_zin, gd_isB0, gd_isB1, zix_toNat, Int.toNat_natCast, tn_a1, tn_a, tn_s1, tn_s, tn_m1, tn_l0, tn_l1, bnd_eq, obind_some, mr_some, sI_s, sI_n, sI_2, sA_1, sA_s, sA_i, sA_n]
      rw [show decide (x ≤ 90) = false by simp; omega]
      simp [zb]
    · simp (disch := omega) only [if_ltp, if_ltn, if_eqp, if_eqn, if_T, if_F, gd_zin, gd_isB0, gd_isB1, zix_toNat, Int.toNat_natCast, tn_a1, tn_a, tn_s1, tn_s, tn_m1, tn_l0, tn_l1, bnd_eq, obind_some, mr_some, sI_s, sI_n, sI_2, sA_1, sA_s, sA_i, sA_n]
      rw [show decide (x ≤ 90) = true by simp; omega, show decide (65 ≤ x) = true by simp; omega]
      rfl
def bitv (x : Int) : Int := if 97 ≤ x ∧ x ≤ 122 then zshl 1 (x - 97) else 0
theorem m_bit_eq (x : Int) (h1 : -2147483648 ≤ x) (h2 : x < 2147483648) : m_bit x = some (bitv x) := by
  unfold m_bit
  rw [m_small_eq x h1 h2]
  unfold bitv
  by_cases a : 97 ≤ x ∧ x ≤ 122
  · rw [if_pos a, show (decide (97 ≤ x) && decide (x ≤ 122)) = true by simp; exact a, zb_t]
    simp (disch := omega) only [if_ltp, if_ltn, if_eqp, if_eqn, if_T, if_F, gd_zin, gd_isB0, gd_isB1, zix_toNat, Int.toNat_natCast, tn_a1, tn_a, tn_s1, tn_s, tn_m1, tn_l0, tn_l1, bnd_eq, obind_some, mr_some, sI_s, sI_n, sI_2, sA_1, sA_s, sA_i, sA_n]
  · rw [if_neg a, show (decide (97 ≤ x) && decide (x ≤ 122)) = false by simp; omega, zb_f]
    simp (disch := omega) only [if_ltp, if_ltn, if_eqp, if_eqn, if_T, if_F, gd_zin, gd_isB0, gd_isB1, zix_toNat, Int.toNat_natCast, tn_a1, tn_a, tn_s1, tn_s, tn_m1, tn_l0, tn_l1, bnd_eq, obind_some, mr_some, sI_s, sI_n, sI_2, sA_1, sA_s, sA_i, sA_n]
/-- a mask and its letters -/
def MK (mask : Int) (l : List Int) : Prop := ∀ n : Nat, n < 128 → (if zI (zand (bitv n) mask) = zI 0 then false else true) = l.contains (n : Int)
theorem mk_t : MK 524288 [116] := by unfold MK; decide +kernel
theorem mk_tr : MK 655360 [116, 114] := by unfold MK; decide +kernel
theorem mk_c : MK 4 [99] := by unfold MK; decide +kernel
theorem mk_uc : MK 1048580 [117, 99] := by unfold MK; decide +kernel
theorem mk_b : MK 1607816 [112, 100, 117, 108, 104, 116] := by unfold MK; decide +kernel
theorem mk_a : MK 1738892 [112, 100, 117, 108, 104, 116, 114, 99] := by unfold MK; decide +kernel
theorem mk_f : MK 262402 [98, 105, 115] := by unfold MK; decide +kernel
theorem MK.at {mask : Int} {l : List Int} (h : MK mask l) {x : Int} (hx : nmOK x) {α : Type} (a b : α) : (if zI (zand (bitv x) mask) = zI 0 then a else b) = if l.contains x then b else a := by
  have := h x.toNat (by unfold nmOK at hx; omega)
  rw [show ((x.toNat : Nat) : Int) = x by unfold nmOK at hx; omega] at this
  rw [← this]
  by_cases e : zI (zand (bitv x) mask) = zI 0 <;> simp [e]
theorem m_named_w (hR : RepM M T) (hW : WFw T) {mask : Int} {l : List Int} (hm : MK mask l) {i : Nat} (hi : i < tN T) : m_named M (i : Int) mask = some (zb (l.contains (tM T i))) := by
  obtain ⟨-, -, -, -, -, h8, -⟩ := hR
  obtain ⟨w1, -, -, -, -, -, w7, -⟩ := hW
  have hn := w7 i hi
  have hn' := hn
  unfold nmOK at hn'
  unfold m_named
  simp (disch := omega) only [if_ltp, if_ltn, if_eqp, if_eqn, if_T, if_F, gd_zin, gd_isB0, gd_isB1, zix_toNat, Int.toNat_natCast, tn_a1, tn_a, tn_s1, tn_s, tn_m1, tn_l0, tn_l1, bnd_eq, obind_some, mr_some, sI_s, sI_n, sI_2, sA_1, sA_s, sA_i, sA_n, h8]
  rw [m_bit_eq _ (by omega) (by omega), obind_some, hm.at hn]
  cases l.contains (tM T i) <;> rfl
theorem m_named_eq (hR : RepM M T) (hW : WFb T) {mask : Int} {l : List Int} (hm : MK mask l) {i : Nat} (hi : i < tN T) : m_named M (i : Int) mask = some (zb (l.contains (tM T i))) := m_named_w hR hW.w hm hi
theorem m_above_eq (hR : RepM M T) (hW : WFb T) {mask : Int} {l : List Int} (hm : MK mask l) {a : Nat} (ha : a < (tS T).length) : m_above M (a : Int) mask = some (zb (anyB (fun k => l.contains (sNm T k)) (a + 1) (tS T).length)) := by
  have hR' := hR
  obtain ⟨-, -, -, h13, -, h8, -, -, h12, -⟩ := hR
  have hW' := hW
  obtain ⟨w1, -, -, w4, w5, w6, w7, -⟩ := hW
  unfold m_above
  rw [bnd_eq]
  refine loopUs (fun k => (zb (anyB (fun k => l.contains (sNm T k)) (a + 1) k), (k : Int))) (a + 1) (tS T).length (by rw [anyB_lo _ _ _ (Nat.le_refl _)]; rfl) ha (fun k k1 k2 => ?_) ?_
  · have hs := getD_lt w6 k2
    simp only [m_above_7s, m_above_40, m_above_35]
    rw [anyB_s, show decide (a + 1 ≤ k) = true by simpa using k1, Bool.true_and]
    cases anyB (fun k => l.contains (sNm T k)) (a + 1) k with
    | true =>
      rw [zb_t, Bool.true_or, zb_t]
      simp (disch := omega) only [if_ltp, if_ltn, if_eqp, if_eqn, if_T, if_F, gd_zin, gd_isB0, gd_isB1, zix_toNat, Int.toNat_natCast, tn_a1, tn_a, tn_s1, tn_s, tn_m1, tn_l0, tn_l1, bnd_eq, obind_some, mr_some, sI_s, sI_n, sI_2, sA_1, sA_s, sA_i, sA_n, h13]
      rfl
    | false =>
      rw [zb_f, Bool.false_or]
      simp (disch := omega) only [if_ltp, if_ltn, if_eqp, if_eqn, if_T, if_F, gd_zin, gd_isB0, gd_isB1, zix_toNat, Int.toNat_natCast, tn_a1, tn_a, tn_s1, tn_s, tn_m1, tn_l0, tn_l1, bnd_eq, obind_some, mr_some, sI_s, sI_n, sI_2, sA_1, sA_s, sA_i, sA_n, h13, h12]
      rw [m_named_eq hR' hW' hm hs]
      unfold sNm
      cases l.contains (tM T ((tS T).getD k 0)) with
      | true =>
        rw [zb_t]
        simp (disch := omega) only [if_ltp, if_ltn, if_eqp, if_eqn, if_T, if_F, gd_zin, gd_isB0, gd_isB1, zix_toNat, Int.toNat_natCast, tn_a1, tn_a, tn_s1, tn_s, tn_m1, tn_l0, tn_l1, bnd_eq, obind_some, mr_some, sI_s, sI_n, sI_2, sA_1, sA_s, sA_i, sA_n]
        rfl
      | false =>
        rw [zb_f]
        simp (disch := omega) only [if_ltp, if_ltn, if_eqp, if_eqn, if_T, if_F, gd_zin, gd_isB0, gd_isB1, zix_toNat, Int.toNat_natCast, tn_a1, tn_a, tn_s1, tn_s, tn_m1, tn_l0, tn_l1, bnd_eq, obind_some, mr_some, sI_s, sI_n, sI_2, sA_1, sA_s, sA_i, sA_n]
        rfl
  · simp only [m_above_7s]
    cases anyB (fun k => l.contains (sNm T k)) (a + 1) (tS T).length with
    | true => rw [zb_t]; simp (disch := omega) only [if_ltp, if_ltn, if_eqp, if_eqn, if_T, if_F, gd_zin, gd_isB0, gd_isB1, zix_toNat, Int.toNat_natCast, tn_a1, tn_a, tn_s1, tn_s, tn_m1, tn_l0, tn_l1, bnd_eq, obind_some, mr_some, sI_s, sI_n, sI_2, sA_1, sA_s, sA_i, sA_n, h13]
    | false => rw [zb_f]; simp (disch := omega) only [if_ltp, if_ltn, if_eqp, if_eqn, if_T, if_F, gd_zin, gd_isB0, gd_isB1, zix_toNat, Int.toNat_natCast, tn_a1, tn_a, tn_s1, tn_s, tn_m1, tn_l0, tn_l1, bnd_eq, obind_some, mr_some, sI_s, sI_n, sI_2, sA_1, sA_s, sA_i, sA_n, h13]
theorem m_topmost_eq (hR : RepM M T) (hW : WFb T) (x : Int) (hx : nmOK x) : m_topmost M x = some (zlast (topm T x)) := by
  obtain ⟨-, -, -, h13, -, h8, -, -, h12, -⟩ := hR
  obtain ⟨w1, -, -, w4, w5, w6, w7, -⟩ := hW
  refine loopUs (fun k => (zlast (lastB (fun k => decide (1 ≤ k) && decide (sNm T k = x)) k), (k : Int))) 1 (tS T).length rfl w4 (fun k k1 k2 => ?_) ?_
  · have hs := getD_lt w6 k2
    have hn := w7 _ hs
    unfold nmOK at hn hx
    simp only [m_topmost_4s, m_topmost_32]
    simp (disch := omega) only [if_ltp, if_ltn, if_eqp, if_eqn, if_T, if_F, gd_zin, gd_isB0, gd_isB1, zix_toNat, Int.toNat_natCast, tn_a1, tn_a, tn_s1, tn_s, tn_m1, tn_l0, tn_l1, bnd_eq, obind_some, mr_some, sI_s, sI_n, sI_2, sA_1, sA_s, sA_i, sA_n, h13, h12, h8]
    rw [lastB_s]
    by_cases e : sNm T k = x
    · have e' : tM T ((tS T).getD k 0) = x := e
      simp (disch := omega) only [if_ltp, if_ltn, if_eqp, if_eqn, if_T, if_F, gd_zin, gd_isB0, gd_isB1, zix_toNat, Int.toNat_natCast, tn_a1, tn_a, tn_s1, tn_s, tn_m1, tn_l0, tn_l1, bnd_eq, obind_some, mr_some, sI_s, sI_n, sI_2, sA_1, sA_s, sA_i, sA_n]
      simp [e, k1, zlast_p (show k ≠ 0 by omega)]
    · have e' : tM T ((tS T).getD k 0) ≠ x := e
      simp (disch := omega) only [if_ltp, if_ltn, if_eqp, if_eqn, if_T, if_F, gd_zin, gd_isB0, gd_isB1, zix_toNat, Int.toNat_natCast, tn_a1, tn_a, tn_s1, tn_s, tn_m1, tn_l0, tn_l1, bnd_eq, obind_some, mr_some, sI_s, sI_n, sI_2, sA_1, sA_s, sA_i, sA_n]
      simp [e]
  · simp only [m_topmost_4s]
    simp (disch := omega) only [if_ltp, if_ltn, if_eqp, if_eqn, if_T, if_F, gd_zin, gd_isB0, gd_isB1, zix_toNat, Int.toNat_natCast, tn_a1, tn_a, tn_s1, tn_s, tn_m1, tn_l0, tn_l1, bnd_eq, obind_some, mr_some, sI_s, sI_n, sI_2, sA_1, sA_s, sA_i, sA_n, h13]
    rfl
theorem rch_eq (T : TS) (x : Int) (l : List Int) : rch T x l = if topm T x ≠ 0 ∧ anyB (fun k => decide (1 ≤ k) && l.contains (sNm T k)) (topm T x + 1) (tS T).length = false then topm T x else 0 := reachB_eq _ _ (by simp) _
theorem anyB_congr {p q : Nat → Bool} {a : Nat} : ∀ n, (∀ k, a ≤ k → k < n → p k = q k) → anyB p a n = anyB q a n
  | 0, _ => rfl
  | n + 1, h => by
    rw [anyB_s, anyB_s, anyB_congr n (fun k h1 h2 => h k h1 (by omega))]
    by_cases e : a ≤ n
    · rw [h n e (by omega)]
    · simp [e]
theorem topm_lt (hW : WFb T) (x : Int) : topm T x < (tS T).length := lastB_lt _ _ (by have := hW.2.2.2.1; omega)
theorem m_reach_eq (hR : RepM M T) (hW : WFb T) (x : Int) (hx : nmOK x) {mask : Int} {l : List Int} (hm : MK mask l) : m_reach M x mask = some (if rch T x l = 0 then 0 else 1) ∧ (rch T x l ≠ 0 → rch T x l = topm T x) := by
  have ht := topm_lt hW x
  have hl : (tS T).length ≤ 24 := Nat.le_trans hW.2.2.2.2.1 hW.1
  unfold m_reach
  rw [m_topmost_eq hR hW x hx, obind_some, rch_eq]
  by_cases e : topm T x = 0
  · rw [e, zlast_0]
    constructor
    · simp (disch := omega) only [if_ltp, if_ltn, if_eqp, if_eqn, if_T, if_F, gd_zin, gd_isB0, gd_isB1, zix_toNat, Int.toNat_natCast, tn_a1, tn_a, tn_s1, tn_s, tn_m1, tn_l0, tn_l1, bnd_eq, obind_some, mr_some, sI_s, sI_n, sI_2, sA_1, sA_s, sA_i, sA_n]
      simp
    · simp
  · rw [zlast_p e]
    have e2 : anyB (fun k => decide (1 ≤ k) && l.contains (sNm T k)) (topm T x + 1) (tS T).length = anyB (fun k => l.contains (sNm T k)) (topm T x + 1) (tS T).length := anyB_congr _ (fun k h1 _ => by rw [show decide (1 ≤ k) = true by simp; omega, Bool.true_and])
    rw [e2]
    constructor
    · simp (disch := omega) only [if_ltp, if_ltn, if_eqp, if_eqn, if_T, if_F, gd_zin, gd_isB0, gd_isB1, zix_toNat, Int.toNat_natCast, tn_a1, tn_a, tn_s1, tn_s, tn_m1, tn_l0, tn_l1, bnd_eq, obind_some, mr_some, sI_s, sI_n, sI_2, sA_1, sA_s, sA_i, sA_n, m_above_eq hR hW hm ht]
      cases anyB (fun k => l.contains (sNm T k)) (topm T x + 1) (tS T).length with
      | true => rw [zb_t]; simp (disch := omega) only [if_ltp, if_ltn, if_eqp, if_eqn, if_T, if_F, gd_zin, gd_isB0, gd_isB1, zix_toNat, Int.toNat_natCast, tn_a1, tn_a, tn_s1, tn_s, tn_m1, tn_l0, tn_l1, bnd_eq, obind_some, mr_some, sI_s, sI_n, sI_2, sA_1, sA_s, sA_i, sA_n]; simp
      | false => rw [zb_f]; simp (disch := omega) only [if_ltp, if_ltn, if_eqp, if_eqn, if_T, if_F, gd_zin, gd_isB0, gd_isB1, zix_toNat, Int.toNat_natCast, tn_a1, tn_a, tn_s1, tn_s, tn_m1, tn_l0, tn_l1, bnd_eq, obind_some, mr_some, sI_s, sI_n, sI_2, sA_1, sA_s, sA_i, sA_n]; simp [e]
    · intro q
      split
      · rfl
      · next h => rw [if_neg h] at q; exact absurd rfl q
theorem seat_ltw {i : Nat} (hi : i ∈ tO T) : seat T i < (tO T).length := List.idxOf_lt_length_of_mem hi
theorem seat_lt (hW : WFb T) {i : Nat} (hi : i < tN T) : seat T i < tN T := by
  have := seat_ltw (hW.mem hi)
  rw [hW.2.1] at this
  exact this
theorem seat_at (hW : WFb T) {i : Nat} (hi : i < tN T) : (tO T).getD (seat T i) 0 = i := by
  have := List.idxOf_lt_length_of_mem (hW.2.2.2.2.2.2.2.2.2.1 i hi)
  exact (idx_iff hW.2.2.2.2.2.2.2.2.1 (hW.2.2.2.2.2.2.2.2.2.1 i hi) this).mpr rfl
theorem m_seat_w (hR : RepM M T) (hW : WFw T) {i : Nat} (hm : i ∈ tO T) : m_seat M (i : Int) = some ((seat T i : Nat) : Int) := by
  have hs := seat_ltw hm
  obtain ⟨-, h5, -, -, h6, -⟩ := hR
  obtain ⟨w1, w2, w3, -, -, -, -, -, w9⟩ := hW
  have hi := w3 i hm
  refine loopUs (fun k => (if seat T i < k then ((seat T i : Nat) : Int) else 0, (k : Int))) 0 (tO T).length rfl (Nat.zero_le _) (fun k k1 k2 => ?_) ?_
  · have hlt := getD_lt w3 k2
    simp only [m_seat_4s, m_seat_27]
    simp (disch := omega) only [if_ltp, if_ltn, if_eqp, if_eqn, if_T, if_F, gd_zin, gd_isB0, gd_isB1, zix_toNat, Int.toNat_natCast, tn_a1, tn_a, tn_s1, tn_s, tn_m1, tn_l0, tn_l1, bnd_eq, obind_some, mr_some, sI_s, sI_n, sI_2, sA_1, sA_s, sA_i, sA_n, h5, h6]
    have hid := idx_iff w9 hm k2
    by_cases e : k = seat T i
    · have e' : (tO T).getD k 0 = i := hid.mpr e
      simp (disch := omega) only [if_ltp, if_ltn, if_eqp, if_eqn, if_T, if_F, gd_zin, gd_isB0, gd_isB1, zix_toNat, Int.toNat_natCast, tn_a1, tn_a, tn_s1, tn_s, tn_m1, tn_l0, tn_l1, bnd_eq, obind_some, mr_some, sI_s, sI_n, sI_2, sA_1, sA_s, sA_i, sA_n]
      simp [e]
    · have e' : (tO T).getD k 0 ≠ i := fun q => e (hid.mp q)
      simp (disch := omega) only [if_ltp, if_ltn, if_eqp, if_eqn, if_T, if_F, gd_zin, gd_isB0, gd_isB1, zix_toNat, Int.toNat_natCast, tn_a1, tn_a, tn_s1, tn_s, tn_m1, tn_l0, tn_l1, bnd_eq, obind_some, mr_some, sI_s, sI_n, sI_2, sA_1, sA_s, sA_i, sA_n]
      by_cases e3 : seat T i < k
      · simp [e3, show seat T i < k + 1 by omega]
      · simp [e3, show ¬ seat T i < k + 1 by omega]
  · simp only [m_seat_4s]
    simp (disch := omega) only [if_ltp, if_ltn, if_eqp, if_eqn, if_T, if_F, gd_zin, gd_isB0, gd_isB1, zix_toNat, Int.toNat_natCast, tn_a1, tn_a, tn_s1, tn_s, tn_m1, tn_l0, tn_l1, bnd_eq, obind_some, mr_some, sI_s, sI_n, sI_2, sA_1, sA_s, sA_i, sA_n, h5]
    rw [if_pos (by omega)]
theorem m_seat_eq (hR : RepM M T) (hW : WFb T) {i : Nat} (hi : i < tN T) : m_seat M (i : Int) = some ((seat T i : Nat) : Int) := m_seat_w hR hW.w (hW.mem hi)
theorem behindA_le {p : Nat} (hp : p < (tO T).length) : behindA T p ≤ (tO T).length := by
  unfold behindA
  have := tw_le (fun q => decide (tD T ((tO T).getD p 0) < tD T q)) ((tO T).drop (p + 1))
  rw [List.length_drop] at this
  omega
theorem behindA_gt (T : TS) (p : Nat) : p < behindA T p := by unfold behindA; omega
theorem behindA_in {p k : Nat} (h1 : p < k) (h2 : k < behindA T p) : tD T ((tO T).getD p 0) < tD T ((tO T).getD k 0) := by
  have := tw_lt (fun q => decide (tD T ((tO T).getD p 0) < tD T q)) ((tO T).drop (p + 1)) (k - (p + 1)) 0 (by unfold behindA at h2; omega)
  rw [getD_drop, show p + 1 + (k - (p + 1)) = k by omega] at this
  simpa using this
theorem behindA_at {p : Nat} (h : behindA T p < (tO T).length) : tD T ((tO T).getD (behindA T p) 0) ≤ tD T ((tO T).getD p 0) := by
  have := tw_at (fun q => decide (tD T ((tO T).getD p 0) < tD T q)) ((tO T).drop (p + 1)) 0 (by rw [List.length_drop]; unfold behindA at h; omega)
  rw [getD_drop] at this
  simpa [behindA] using this
theorem m_behind_w (hR : RepM M T) (hW : WFw T) {p : Nat} (hp : p < (tO T).length) : m_behind M (p : Int) = some ((behindA T p : Nat) : Int) := by
  have hb := behindA_le (T := T) hp
  have hb2 := behindA_gt T p
  obtain ⟨-, h5, -, -, h6, -, -, h10, -⟩ := hR
  obtain ⟨w1, w2, w3, -, -, -, -, w8, -⟩ := hW
  have hpl := getD_lt w3 hp
  unfold m_behind
  rw [bnd_eq]
  refine loopUs (fun k => (k : Int)) (p + 1) (behindA T p) rfl hb2 (fun k k1 k2 => ?_) ?_
  · have hlt := getD_lt w3 (show k < (tO T).length by omega)
    have hd := behindA_in (T := T) (show p < k by omega) k2
    have hd1 := w8 _ hlt
    have hd2 := w8 _ hpl
    simp only [m_behind_4s]
    simp (disch := omega) only [if_ltp, if_ltn, if_eqp, if_eqn, if_T, if_F, gd_zin, gd_isB0, gd_isB1, zix_toNat, Int.toNat_natCast, tn_a1, tn_a, tn_s1, tn_s, tn_m1, tn_l0, tn_l1, bnd_eq, obind_some, mr_some, sI_s, sI_n, sI_2, sA_1, sA_s, sA_i, sA_n, h5, h6, h10]
    rfl
  · simp only [m_behind_4s]
    by_cases e : behindA T p < (tO T).length
    · have hlt := getD_lt w3 e
      have hd := behindA_at e
      have hd1 := w8 _ hlt
      have hd2 := w8 _ hpl
      simp (disch := omega) only [if_ltp, if_ltn, if_eqp, if_eqn, if_T, if_F, gd_zin, gd_isB0, gd_isB1, zix_toNat, Int.toNat_natCast, tn_a1, tn_a, tn_s1, tn_s, tn_m1, tn_l0, tn_l1, bnd_eq, obind_some, mr_some, sI_s, sI_n, sI_2, sA_1, sA_s, sA_i, sA_n, h5, h6, h10]
    · simp (disch := omega) only [if_ltp, if_ltn, if_eqp, if_eqn, if_T, if_F, gd_zin, gd_isB0, gd_isB1, zix_toNat, Int.toNat_natCast, tn_a1, tn_a, tn_s1, tn_s, tn_m1, tn_l0, tn_l1, bnd_eq, obind_some, mr_some, sI_s, sI_n, sI_2, sA_1, sA_s, sA_i, sA_n, h5]
theorem m_behind_eq (hR : RepM M T) (hW : WFb T) {p : Nat} (hp : p < (tO T).length) : m_behind M (p : Int) = some ((behindA T p : Nat) : Int) := m_behind_w hR hW.w hp
theorem m_insideTop_w (hR : RepM M T) (hW : WFw T) {i : Nat} (hi : i ∈ tO T) : m_insideTop M (i : Int) = some (sI (sI M 20 ((plcIn T i).1 : Nat)) 21 ((plcIn T i).2.1 : Nat)) := by
  have hs := seat_ltw hi
  have hin := hW.2.2.1 i hi
  unfold m_insideTop
  rw [m_seat_w hR hW hi, obind_some, m_behind_w hR hW hs, obind_some]
  obtain ⟨-, h5, -, -, h6, -, -, h10, -⟩ := hR
  obtain ⟨w1, -⟩ := hW
  simp (disch := omega) only [if_ltp, if_ltn, if_eqp, if_eqn, if_T, if_F, gd_zin, gd_isB0, gd_isB1, zix_toNat, Int.toNat_natCast, tn_a1, tn_a, tn_s1, tn_s, tn_m1, tn_l0, tn_l1, bnd_eq, obind_some, mr_some, sI_s, sI_n, sI_2, sA_1, sA_s, sA_i, sA_n, h10]
  rfl
theorem m_insideTop_eq (hR : RepM M T) (hW : WFb T) {i : Nat} (hi : i < tN T) : m_insideTop M (i : Int) = some (sI (sI M 20 ((plcIn T i).1 : Nat)) 21 ((plcIn T i).2.1 : Nat)) := m_insideTop_w hR hW.w (hW.mem hi)
theorem m_opened_eq (hR : RepM M T) (hW : WFb T) {i : Nat} (hi : i < tN T) : m_opened M (i : Int) = some (if i ∈ tS T then ((tS T).idxOf i : Int) else -1) := by
  obtain ⟨-, -, -, h13, -, -, -, -, h12, -⟩ := hR
  obtain ⟨w1, w2, w3, w4, w5, w6, -, -, -, -, w11, -⟩ := hW
  refine loopUs (fun k => (if i ∈ tS T ∧ (tS T).idxOf i < k then ((tS T).idxOf i : Int) else -1, (k : Int))) 0 (tS T).length (by simp) (Nat.zero_le _) (fun k k1 k2 => ?_) ?_
  · have hlt := getD_lt w6 k2
    simp only [m_opened_4s, m_opened_27]
    simp (disch := omega) only [if_ltp, if_ltn, if_eqp, if_eqn, if_T, if_F, gd_zin, gd_isB0, gd_isB1, zix_toNat, Int.toNat_natCast, tn_a1, tn_a, tn_s1, tn_s, tn_m1, tn_l0, tn_l1, bnd_eq, obind_some, mr_some, sI_s, sI_n, sI_2, sA_1, sA_s, sA_i, sA_n, h13, h12]
    by_cases hm : i ∈ tS T
    · have hid := idx_iff w11 hm k2
      by_cases e : k = (tS T).idxOf i
      · have e' : (tS T).getD k 0 = i := hid.mpr e
        simp (disch := omega) only [if_ltp, if_ltn, if_eqp, if_eqn, if_T, if_F, gd_zin, gd_isB0, gd_isB1, zix_toNat, Int.toNat_natCast, tn_a1, tn_a, tn_s1, tn_s, tn_m1, tn_l0, tn_l1, bnd_eq, obind_some, mr_some, sI_s, sI_n, sI_2, sA_1, sA_s, sA_i, sA_n]
        simp [e, hm]
      · have e' : (tS T).getD k 0 ≠ i := fun q => e (hid.mp q)
        simp (disch := omega) only [if_ltp, if_ltn, if_eqp, if_eqn, if_T, if_F, gd_zin, gd_isB0, gd_isB1, zix_toNat, Int.toNat_natCast, tn_a1, tn_a, tn_s1, tn_s, tn_m1, tn_l0, tn_l1, bnd_eq, obind_some, mr_some, sI_s, sI_n, sI_2, sA_1, sA_s, sA_i, sA_n]
        by_cases e3 : (tS T).idxOf i < k
        · simp [hm, e3, show (tS T).idxOf i < k + 1 by omega]
        · simp [hm, e3, show ¬ (tS T).idxOf i < k + 1 by omega]
    · have e' : (tS T).getD k 0 ≠ i := fun q => hm (by rw [← q, gD k2]; exact List.getElem_mem k2)
      simp (disch := omega) only [if_ltp, if_ltn, if_eqp, if_eqn, if_T, if_F, gd_zin, gd_isB0, gd_isB1, zix_toNat, Int.toNat_natCast, tn_a1, tn_a, tn_s1, tn_s, tn_m1, tn_l0, tn_l1, bnd_eq, obind_some, mr_some, sI_s, sI_n, sI_2, sA_1, sA_s, sA_i, sA_n]
      simp [hm]
  · simp only [m_opened_4s]
    simp (disch := omega) only [if_ltp, if_ltn, if_eqp, if_eqn, if_T, if_F, gd_zin, gd_isB0, gd_isB1, zix_toNat, Int.toNat_natCast, tn_a1, tn_a, tn_s1, tn_s, tn_m1, tn_l0, tn_l1, bnd_eq, obind_some, mr_some, sI_s, sI_n, sI_2, sA_1, sA_s, sA_i, sA_n, h13]
    by_cases hm : i ∈ tS T
    · have := List.idxOf_lt_length_of_mem hm
      simp [hm, this]
    · simp [hm]
theorem m_listOwner_eq (hR : RepM M T) (hW : WFb T) : m_listOwner M = some ((ownr T : Nat) : Int) := by
  unfold m_listOwner
  have ht := topm_lt hW 99
  rw [m_topmost_eq hR hW 99 (by unfold nmOK; omega), obind_some]
  obtain ⟨-, -, -, h13, -, -, -, -, h12, -⟩ := hR
  obtain ⟨w1, w2, w3, w4, w5, w6, -, -, -, -, -, w12, -⟩ := hW
  unfold ownr
  by_cases e : topm T 99 = 0
  · rw [e, zlast_0, w12]
    simp (disch := omega) only [if_ltp, if_ltn, if_eqp, if_eqn, if_T, if_F, gd_zin, gd_isB0, gd_isB1, zix_toNat, Int.toNat_natCast, tn_a1, tn_a, tn_s1, tn_s, tn_m1, tn_l0, tn_l1, bnd_eq, obind_some, mr_some, sI_s, sI_n, sI_2, sA_1, sA_s, sA_i, sA_n]
    rfl
  · rw [zlast_p e]
    simp (disch := omega) only [if_ltp, if_ltn, if_eqp, if_eqn, if_T, if_F, gd_zin, gd_isB0, gd_isB1, zix_toNat, Int.toNat_natCast, tn_a1, tn_a, tn_s1, tn_s, tn_m1, tn_l0, tn_l1, bnd_eq, obind_some, mr_some, sI_s, sI_n, sI_2, sA_1, sA_s, sA_i, sA_n, h12]
end MT
