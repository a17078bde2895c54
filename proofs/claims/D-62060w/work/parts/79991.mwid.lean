/-! the reference: which nodes have boxes; left edges and widths -/
set_option maxRecDepth 100000
theorem zdiv_nn {a b : Int} (h1 : 0 ≤ a) (h2 : a < 2147483648) (h3 : 0 < b) (h4 : b < 2147483648) : zdiv a b = a / b := by
  unfold zdiv
  rw [Int32.toInt_div, zI_toInt (by omega) h2, zI_toInt (by omega) h4, Int.tdiv_eq_ediv_of_nonneg h1]
  have h5 : 0 ≤ a / b := Int.ediv_nonneg h1 (by omega)
  have h6 : a / b ≤ a := Int.ediv_le_self _ h1
  rw [Int.bmod_eq_of_le] <;> omega
/-- what the first n nodes have -/
def HM (M : MS) (T : TS) (rs : List RL) (Wd Lf : Nat → Int) (n : Nat) : Prop := ∀ m, m < n → M.2 40 m = (if hdP T rs m then 1 else 0) ∧ M.2 41 m = (if bxP T rs m then 1 else 0) ∧ (0 < m → M.2 42 m = ((hoP T rs m : Nat) : Int)) ∧ (bxP T rs m = true → M.2 43 m = Lf m ∧ M.2 44 m = Wd m)
def FW (n : Nat) (M M' : MS) : Prop := M'.1 = M.1 ∧ (∀ k, k < 40 ∨ 44 < k → M'.2 k = M.2 k) ∧ ∀ k m, m ≠ n → M'.2 k m = M.2 k m
section MW
variable {M M' M1 : MS} {T : TS} {rs : List RL} {C : List (Int × Nat)} {n p k q h : Nat} {Wd Lf tl tp : Nat → Int} {v : Int}
theorem FW.refl (n : Nat) (M : MS) : FW n M M := ⟨rfl, fun _ _ => rfl, fun _ _ _ => rfl⟩
theorem FW.wsA (A : FW n M M1) {k : Nat} (hk : 40 ≤ k ∧ k ≤ 44) (v : Int) : FW n M (sA M1 k n v) := by
  refine ⟨A.1, fun j hj => by rw [sA_f _ _ _ _ _ (by omega)]; exact A.2.1 j hj, fun j m hm => ?_⟩
  by_cases z : j = k
  · rw [z, sA_i _ _ _ _ _ hm]; exact A.2.2 k m hm
  · rw [sA_n _ _ _ _ _ _ z]; exact A.2.2 j m hm
theorem FW.m (A : FW n M M') : FLm M M' := ⟨fun k _ => by rw [A.1], fun k hk => A.2.1 k (by omega)⟩
theorem HM.fw (H : HM M T rs Wd Lf n) (A : FW n M M') : HM M' T rs Wd Lf n := fun m hm => by
  have := H m hm
  rw [A.2.2 40 m (by omega), A.2.2 41 m (by omega), A.2.2 42 m (by omega), A.2.2 43 m (by omega), A.2.2 44 m (by omega)]
  exact this
/-- the cells of a row -/
theorem within_no (hL : LM M T rs C) (hW : WF T) (hrs : ∀ r ∈ rs, okRV r) (hh : h < tN T) (hr : nmQ T h = 114) : ∀ (a s k : Nat), h < a → a < behindA T h → k + (a - h) ≤ 40 → s ≤ 1 → m_within_46 M (h : Int) (s : Int) (a : Int) (k : Int) = some 0 := by
  intro a
  have h24 := hW.1.2.1
  have hbl := beh_le hW hh
  induction a using Nat.strongRecOn with
  | ind a ih =>
    intro s k h1 h2 h3 h4
    have han : a < tN T := by omega
    have hua := up_in hW hh h1 h2
    have hu := (up_d hW han (by omega)).1
    have hv := (vl_rng hW hrs han).2.2.2.2.2.2
    have e120 : (120 : Int) + (a : Int) = ((40 * 3 + a : Nat) : Int) := by omega
    have hstep : ∀ s' : Nat, s' ≤ 1 → (s' = 1 → s = 1 ∧ vlP T rs 3 a = 105) → iter (fun (z : Int × Int × Int) => m_within_46s M (h : Int) z.1 z.2.1 z.2.2) ((s' : Int), ((upP T a : Nat) : Int), ((k + 1 : Nat) : Int)) = some 0 := fun s' hs1 hs => by
      by_cases e : upP T a = h
      · have hk := up_kid hW han (by omega)
        rw [e] at hk
        have h99 := hk.1.2.2 hr
        have hx := (val_ok hW hrs 3 _ (ioP T a) (io_lt hW han) rfl).2 rfl (by unfold nmQ at h99; rw [h99]; rfl)
        have hs0 : s' = 0 := by
          by_cases z : s' = 1
          · exact (hx (hs z).2).elim
          · omega
        refine iter_out ?_
        simp only []
        unfold m_within_46s
        rw [e, hs0]
        by_cases z : k + 1 < 40
        · rw [if_ltp (by omega) (by omega) (by omega), if_ltn (by omega) (by omega) (by omega)]
          exact gd_isB0
        · rw [if_ltn (by omega) (by omega) (by omega)]
          exact gd_isB0
      · exact ih (upP T a) hu s' (k + 1) (by omega) (by omega) (by omega) hs1
    unfold m_within_46
    have hin : ∃ s' : Nat, s' ≤ 1 ∧ (s' = 1 → s = 1 ∧ vlP T rs 3 a = 105) ∧ m_within_46s M (h : Int) (s : Int) (a : Int) (k : Int) = some (.inl ((s' : Int), ((upP T a : Nat) : Int), ((k + 1 : Nat) : Int))) := by
      unfold m_within_46s m_within_82 m_within_83
      rw [if_ltp (by omega) (by omega) (by omega), if_ltp (by omega) (by omega) (by omega), gd_zin (by omega) (by omega) (by omega), gd_zin (by omega) (by omega) (by omega), zix_nat (by omega), hL.up hW han (by omega), bnd_eq, bnd_eq]
      by_cases z : s = 0
      · rw [if_eqp (by omega)]
        exact ⟨0, by omega, fun y => by omega, by simp⟩
      · rw [if_eqn (by omega) (by omega) (by omega) (by omega) (by omega), e120, gd_zin (by omega) (by omega) (by omega), zix_nat (by omega), hL.v hW han (by omega)]
        by_cases y : vlP T rs 3 a = 105
        · rw [if_eqp y]
          exact ⟨1, by omega, fun _ => ⟨by omega, y⟩, by simp⟩
        · rw [if_eqn y (by omega) (by omega) (by omega) (by omega)]
          exact ⟨0, by omega, fun z => by omega, by simp⟩
    obtain ⟨s', s1, s2, s3⟩ := hin
    rw [iter_in (by exact s3)]
    exact hstep s' s1 s2
theorem bx_kid (hW : WF T) (hn : n < tN T) (h0 : 0 < n) (hu : bxP T rs (upP T n) = true) : bxP T rs n = (decide (nmQ T n ≠ 1) && decide (vlP T rs 3 n = 98)) := by
  have hh := (bx_d hu).2.1
  have h2 := hd_up (rs := rs) hW hn h0
  rw [hh] at h2
  unfold bxP
  rw [h2]
  by_cases z1 : nmQ T n = 1
  · simp [z1]
  · by_cases z2 : vlP T rs 3 n = 98
    · simp [z1, z2]
    · simp [z1, z2]
theorem m_within_eq (hL : LM M T rs C) (hW : WF T) (hrs : ∀ r ∈ rs, okRV r) (hh : h < tN T) (hr : nmQ T h = 114) (hb : bxP T rs h = true) (h1 : h < q) (h2 : q < behindA T h) : m_within M (q : Int) (h : Int) = some (if decide (upP T q = h) && bxP T rs q then 1 else 0) := by
  have h24 := hW.1.2.1
  have hbl := beh_le hW hh
  have hq : q < tN T := by omega
  have hin := io_lt hW hq
  have hnr := nm_rng hW hq
  have hua := up_in hW hh h1 h2
  have hu := (up_d hW hq (by omega)).1
  have hv := (vl_rng hW hrs hq).2.2.2.2.2.2
  have e120 : (120 : Int) + (q : Int) = ((40 * 3 + q : Nat) : Int) := by omega
  have base : ∀ s : Nat, s ≤ 1 → (s = 1 ↔ (nmQ T q ≠ 1 ∧ vlP T rs 3 q = 98)) → m_within_34 M (q : Int) (h : Int) (s : Int) = some (if decide (upP T q = h) && bxP T rs q then 1 else 0) := fun s hs1 hs => by
    unfold m_within_34
    rw [gd_zin (by omega) (by omega) (by omega), zix_nat (by omega), hL.up hW hq (by omega), bnd_eq]
    by_cases e : upP T q = h
    · have hbq := bx_kid hW hq (by omega) (by rw [e]; exact hb)
      unfold m_within_46
      refine iter_out ?_
      simp only []
      unfold m_within_46s
      rw [e, if_ltp (by omega) (by omega) (by omega), if_ltn (by omega) (by omega) (by omega), hbq]
      by_cases z : s = 1
      · have := hs.mp z
        rw [z, decide_eq_true (show h = h from rfl), decide_eq_true this.1, decide_eq_true this.2]
        exact gd_isB1
      · have z0 : s = 0 := by omega
        have : ¬ (nmQ T q ≠ 1 ∧ vlP T rs 3 q = 98) := fun y => z (hs.mpr y)
        rw [z0]
        have hf : (decide (nmQ T q ≠ 1) && decide (vlP T rs 3 q = 98)) = false := by
          cases y : (decide (nmQ T q ≠ 1) && decide (vlP T rs 3 q = 98)) with
          | false => rfl
          | true => exact (this (by simpa using y)).elim
        rw [hf, Bool.and_false, if_neg (by simp)]
        exact gd_isB0
    · have := within_no hL hW hrs hh hr (upP T q) s 0 (by omega) (by omega) (by omega) hs1
      rw [decide_eq_false e, Bool.false_and, if_neg (by simp)]
      exact this
  unfold m_within m_within_33
  rw [gd_zin (by omega) (by omega) (by omega), zix_nat (by omega), hL.o hW hq, gd_zin (by omega) (by omega) (by omega), zix_nat (by omega), hL.nm hW hq]
  by_cases z1 : nmQ T q = 1
  · rw [if_eqp z1]
    exact base 0 (by omega) ⟨fun y => by omega, fun y => (y.1 z1).elim⟩
  · rw [if_eqn z1 (by omega) (by omega) (by omega) (by omega), e120, gd_zin (by omega) (by omega) (by omega), zix_nat (by omega), hL.v hW hq (by omega)]
    by_cases z2 : vlP T rs 3 q = 98
    · rw [if_eqp z2]
      exact base 1 (by omega) ⟨fun _ => ⟨z1, z2⟩, fun _ => rfl⟩
    · rw [if_eqn z2 (by omega) (by omega) (by omega) (by omega)]
      exact base 0 (by omega) ⟨fun y => by omega, fun y => (z2 y.2).elim⟩
theorem cl_s (h q : Nat) (hq : h < q) : clP T rs h (q + 1) = clP T rs h q + (if decide (upP T q = h) && bxP T rs q then 1 else 0) := by
  unfold clP
  rw [List.range_succ, List.filter_append, List.length_append]
  congr 1
  cases z : (decide (upP T q = h) && bxP T rs q) with
  | true => rw [if_pos rfl, List.filter_cons_of_pos (by simp [z, hq])]; rfl
  | false => rw [if_neg (by simp), List.filter_cons_of_neg (by simp [z])]; rfl
theorem cl_0 (h : Nat) : clP T rs h (h + 1) = 0 := by
  unfold clP
  rw [List.length_eq_zero_iff, List.filter_eq_nil_iff]
  intro a ha z
  have := List.mem_range.mp ha
  simp at z
  omega
theorem cl_end (hW : WF T) (h : Nat) (hh : h < tN T) : clP T rs h (behindA T h) = clP T rs h (tN T) := by
  have hb := beh_le hW hh
  have hg := behindA_gt T h
  obtain ⟨d, e⟩ : ∃ d, tN T = behindA T h + d := ⟨tN T - behindA T h, by omega⟩
  rw [e]
  have key : ∀ d', d' ≤ d → clP T rs h (behindA T h) = clP T rs h (behindA T h + d') := by
    intro d'
    induction d' with
    | zero => intro _; rfl
    | succ d' ih =>
      intro hd
      rw [show behindA T h + (d' + 1) = (behindA T h + d') + 1 by omega, cl_s h _ (by omega), ← ih (by omega)]
      have hne : upP T (behindA T h + d') ≠ h := fun z => by
        have := up_beh hW (q := behindA T h + d') (by omega) (by omega)
        rw [z] at this
        omega
      rw [decide_eq_false hne, Bool.false_and, if_neg (by simp)]
      rfl
  exact key d (Nat.le_refl _)
/-- a box's left edge and width, when room and from are known -/
theorem widths_311 (hL : LM M T rs C) (hW : WF T) (hrs : ∀ r ∈ rs, okRV r) (hn : n < tN T) {fr av : Int} (hav : 0 ≤ av ∧ av ≤ 99) : m_widths_311 M (n : Int) fr av = some (sA (sA M 43 n (fr + vlP T rs 4 n)) 44 n (if vlP T rs 6 n = -1 then max 0 (av - 2 * vlP T rs 4 n - 2 * vlP T rs 5 n) else vlP T rs 6 n)) := by
  have h24 := hW.1.2.1
  have hv := vl_rng hW hrs hn
  have e1 : (160 : Int) + (n : Int) = ((40 * 4 + n : Nat) : Int) := by omega
  have e2 : (200 : Int) + (n : Int) = ((40 * 5 + n : Nat) : Int) := by omega
  have e3 : (240 : Int) + (n : Int) = ((40 * 6 + n : Nat) : Int) := by omega
  unfold m_widths_311
  rw [e1, e2, e3, gd_zin (by omega) (by omega) (by omega), zix_nat (by omega), hL.v hW hn (by omega), bnd_eq, gd_zin (by omega) (by omega) (by omega), zix_nat (by omega), hL.v hW hn (by omega), bnd_eq, gd_zin (by omega) (by omega) (by omega), zix_nat (by omega), hL.v hW hn (by omega), bnd_eq, gd_zin (by omega) (by omega) (by omega), zix_nat (by omega), bnd_eq]
  unfold m_widths_395
  by_cases z : vlP T rs 6 n = -1
  · rw [if_eqp z, if_pos z]
    by_cases y : av - 2 * vlP T rs 4 n - 2 * vlP T rs 5 n < 0
    · rw [if_ltp y (by omega) (by omega), gd_zin (by omega) (by omega) (by omega), zix_nat (by omega), bnd_eq, Int.max_eq_left (by omega)]
    · rw [if_ltn (by omega) (by omega) (by omega), gd_zin (by omega) (by omega) (by omega), zix_nat (by omega), bnd_eq, Int.max_eq_right (by omega)]
  · rw [if_eqn z (by omega) (by omega) (by omega) (by omega), if_neg z, gd_zin (by omega) (by omega) (by omega), zix_nat (by omega), bnd_eq]
theorem widths_247 (hL : LM M T rs C) (hW : WF T) (hok : ∀ r ∈ rs, okR2 r) (hrs : ∀ r ∈ rs, okRV r) (hn : n < tN T) (h0 : 0 < n) (hb : bxP T rs n = true) (hr : nmQ T (hoP T rs n) = 114) {fr w : Int} (hw : 0 ≤ w ∧ w ≤ 99) : m_widths_247 M (n : Int) ((hoP T rs n : Nat) : Int) fr w 0 0 (((hoP T rs n : Nat) : Int) + 1) = m_widths_311 M (n : Int) (fr + (clP T rs (hoP T rs n) n : Int) * (w / (clP T rs (hoP T rs n) (tN T) : Int))) (w / (clP T rs (hoP T rs n) (tN T) : Int)) := by
  have h24 := hW.1.2.1
  obtain ⟨o1, o2, o3⟩ := ho_in hW hok n hn h0
  obtain ⟨u1, u2, u3⟩ := ho_row hW hok hrs n hn h0 (bx_d hb).2.1 hr
  have hh : hoP T rs n < tN T := by omega
  have hbl := beh_le hW hh
  generalize hH : hoP T rs n = H at *
  have hbeh := m_behind_eq hL.1 hW.b (p := H) (by rw [hW.1.2.2.1]; exact hh)
  unfold m_widths_247
  refine loopU (fun q => ((clP T rs H q : Int), (clP T rs H (min q n) : Int), ((q : Nat) : Int))) (H + 1) (behindA T H) ?_ (by omega) (fun q q1 q2 => ?_) ?_
  · rw [cl_0, Nat.min_eq_left (by omega), cl_0]
    simp
  · show m_widths_247s M _ _ fr w _ _ (q : Int) = _
    unfold m_widths_247s m_widths_288 m_widths_285 m_widths_288
    rw [hbeh, obind_some, if_ltp (by omega) (by omega) (by omega), m_within_eq hL hW hrs hh hr o2 (by omega) q2, obind_some, cl_s H q (by omega)]
    cases z : (decide (upP T q = H) && bxP T rs q) with
    | true =>
      rw [if_pos rfl, if_pos rfl, if_eqn (by omega) (by omega) (by omega) (by omega) (by omega)]
      by_cases y : q < n
      · rw [if_ltp (by omega) (by omega) (by omega), bnd_eq, Nat.min_eq_left (by omega), Nat.min_eq_left (by omega), cl_s H q (by omega), z, if_pos rfl]
        simp
      · rw [if_ltn (by omega) (by omega) (by omega), bnd_eq, Nat.min_eq_right (by omega), Nat.min_eq_right (by omega)]
        simp
    | false =>
      rw [if_neg (show ¬ (false = true) by simp), if_neg (show ¬ (false = true) by simp), if_eqp rfl]
      by_cases y : q < n
      · rw [Nat.min_eq_left (by omega), Nat.min_eq_left (by omega), cl_s H q (by omega), z, if_neg (by simp)]
        simp
      · rw [Nat.min_eq_right (by omega), Nat.min_eq_right (by omega)]
        simp
  · show m_widths_247s M _ _ fr w _ _ ((behindA T H : Nat) : Int) = _
    unfold m_widths_247s
    rw [hbeh, obind_some, if_ltn (by omega) (by omega) (by omega), Nat.min_eq_right (by omega), cl_end hW H hh]
    have hpos : 0 < clP T rs H (tN T) := by
      have g1 := cl_s (T := T) (rs := rs) H n o1
      rw [u1, u2] at g1
      have g2 := cl_le (T := T) (rs := rs) (h := H) (a := n + 1) (b := tN T) (by omega)
      simp at g1
      omega
    have hle : clP T rs H (tN T) ≤ tN T := by
      unfold clP
      exact Nat.le_trans (List.length_filter_le _ _) (by simp)
    congr 1
    unfold m_widths_294
    have hd := div_b hw.1 (clP T rs H (tN T))
    have hne : ¬ zI (clP T rs H (tN T) : Int) = zI 0 := fun z => by
      have := (zI_eq (by omega) (by omega) (by omega) (by omega)).mp z
      omega
    rw [gd_c hne, zdiv_nn hw.1 (by omega) (by omega) (by omega), bnd_eq, bnd_eq]
end MW
