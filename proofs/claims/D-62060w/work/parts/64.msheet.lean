/-! the reference reads the sheet -/
set_option maxRecDepth 100000
def StyM (M : MS) (w : List Int) : Prop := M.1 2 = (w.length : Int) ∧ (∀ k, k < w.length → M.2 3 k = w.getD k 0) ∧ w.length ≤ 120 ∧ ∀ c ∈ w, 32 ≤ c ∧ c ≤ 126
/-- what the reading of the sheet leaves -/
def FS (M M' : MS) : Prop := (∀ k, k ≠ 22 → M'.1 k = M.1 k) ∧ ∀ k, k < 23 ∨ 30 < k → M'.2 k = M.2 k
def cC (l : List Int) : Nat := (l.filter isCap).length
def cS (l : List Int) : Nat := (l.filter isSm).length
def nmP (x : Int) : Int := if x = 42 then 0 else x
section MSH
variable {M M' M'' : MS} {w : List Int} {to : Nat}
theorem FS.refl (M : MS) : FS M M := ⟨fun _ _ => rfl, fun _ _ => rfl⟩
theorem FS.trans (h : FS M M') (h' : FS M' M'') : FS M M'' := ⟨fun k hk => (h'.1 k hk).trans (h.1 k hk), fun k hk => (h'.2 k hk).trans (h.2 k hk)⟩
theorem FS.sA (h : FS M M') {k : Nat} (hk : 23 ≤ k ∧ k ≤ 30) (i : Nat) (v : Int) : FS M (sA M' k i v) := ⟨h.1, fun j hj => by rw [sA_f _ _ _ _ _ (by omega)]; exact h.2 j hj⟩
theorem FS.s22 (h : FS M M') (v : Int) : FS M (sI M' 22 v) := ⟨fun j hj => by rw [sI_n _ _ _ _ hj]; exact h.1 j hj, h.2⟩
theorem StyM.fs (h : StyM M w) (hf : FS M M') : StyM M' w := ⟨by rw [hf.1 2 (by omega)]; exact h.1, by rw [hf.2 3 (by omega)]; exact h.2.1, h.2.2⟩
theorem StyM.at (h : StyM M w) {k : Nat} (hk : k < w.length) : 32 ≤ w.getD k 0 ∧ w.getD k 0 ≤ 126 := h.2.2.2 _ (by rw [gD hk]; exact List.getElem_mem _)
theorem m_nextSign_eq (h : StyM M w) {k : Nat} (hk : k ≤ w.length) {c : Int} (hc : 0 ≤ c ∧ c < 128) : m_nextSign M (k : Int) c = some (if ((w.drop k).takeWhile (fun x => decide (x ≠ c))).length = (w.drop k).length then -1 else ((k + ((w.drop k).takeWhile (fun x => decide (x ≠ c))).length : Nat) : Int)) := by
  have hl := h.2.2.1
  have hle := tw_le (fun x => decide (x ≠ c)) (w.drop k)
  have hdl : (w.drop k).length = w.length - k := List.length_drop
  unfold m_nextSign m_nextSign_2
  refine loopUs (fun j => ((j : Nat) : Int)) k (k + ((w.drop k).takeWhile (fun x => decide (x ≠ c))).length) rfl (by omega) (fun j j1 j2 => ?_) ?_
  · have h1 := tw_lt (fun x => decide (x ≠ c)) (w.drop k) (j - k) 0 (by omega)
    rw [getD_dr, show k + (j - k) = j by omega] at h1
    simp only [decide_eq_true_eq] at h1
    have hr := h.at (k := j) (by omega)
    simp only [m_nextSign_2s]
    rw [h.1, if_ltp (by omega) (by omega) (by omega), gd_zin (by omega) (by omega) (by omega), zix_nat (by omega), h.2.1 j (by omega), if_eqn h1 (by omega) (by omega) (by omega) (by omega)]
    rfl
  · simp only [m_nextSign_2s]
    rw [h.1]
    by_cases e : ((w.drop k).takeWhile (fun x => decide (x ≠ c))).length = (w.drop k).length
    · rw [if_pos e, if_ltn (by omega) (by omega) (by omega)]
    · have h1 := tw_at (fun x => decide (x ≠ c)) (w.drop k) 0 (by omega)
      rw [getD_dr] at h1
      simp only [decide_eq_false_iff_not, Decidable.not_not] at h1
      rw [if_neg e, if_ltp (by omega) (by omega) (by omega), gd_zin (by omega) (by omega) (by omega), zix_nat (by omega), h.2.1 _ (by omega), if_eqp h1]
theorem take_at {k : Nat} (hk : k < to) : (w.take to).getD k 0 = w.getD k 0 := by simp [List.getD, List.getElem?_take, hk]
theorem m_blanks_eq (h : StyM M w) (ht : to ≤ w.length) {k : Nat} (hk : k ≤ to) : m_blanks M (k : Int) (to : Int) = some ((k + (((w.take to).drop k).takeWhile isB).length : Nat) : Int) := by
  have hl := h.2.2.1
  have hle := tw_le isB ((w.take to).drop k)
  have hdl : ((w.take to).drop k).length = to - k := by rw [List.length_drop, List.length_take]; omega
  unfold m_blanks m_blanks_2
  refine loopUs (fun j => ((j : Nat) : Int)) k (k + (((w.take to).drop k).takeWhile isB).length) rfl (by omega) (fun j j1 j2 => ?_) ?_
  · have h1 := tw_lt isB ((w.take to).drop k) (j - k) 0 (by omega)
    rw [getD_dr, show k + (j - k) = j by omega, take_at (by omega)] at h1
    unfold isB at h1
    simp only [decide_eq_true_eq] at h1
    simp only [m_blanks_2s]
    rw [if_ltp (by omega) (by omega) (by omega), gd_zin (by omega) (by omega) (by omega), zix_nat (by omega), h.2.1 j (by omega), if_eqp h1]
    rfl
  · simp only [m_blanks_2s]
    by_cases e : k + (((w.take to).drop k).takeWhile isB).length = to
    · rw [if_ltn (by omega) (by omega) (by omega)]
    · have h1 := tw_at isB ((w.take to).drop k) 0 (by omega)
      rw [getD_dr, take_at (by omega)] at h1
      have hr := h.at (k := k + (((w.take to).drop k).takeWhile isB).length) (by omega)
      unfold isB at h1
      simp only [decide_eq_false_iff_not] at h1
      unfold isB at e hle hr ⊢
      rw [if_ltp (by omega) (by omega) (by omega), gd_zin (by omega) (by omega) (by omega), zix_nat (by omega), h.2.1 _ (by omega), if_eqn h1 (by omega) (by omega) (by omega) (by omega)]
theorem m_cap_eq (c : Int) (h1 : 0 ≤ c) (h2 : c < 128) : m_capital c = some (zb (isCap c)) := by
  unfold m_capital isCap
  by_cases e1 : c < 65
  · rw [if_ltp e1 (by omega) (by omega), decide_eq_false (by omega)]; rfl
  · rw [if_ltn (by omega) (by omega) (by omega), decide_eq_true (by omega), Bool.true_and]
    by_cases e2 : 90 < c
    · rw [if_ltp e2 (by omega) (by omega), decide_eq_false (by omega)]; rfl
    · rw [if_ltn (by omega) (by omega) (by omega), decide_eq_true (by omega)]; rfl
theorem m_sm_eq (c : Int) (h1 : 0 ≤ c) (h2 : c < 128) : m_small c = some (zb (isSm c)) := by
  unfold m_small isSm
  by_cases e1 : c < 97
  · rw [if_ltp e1 (by omega) (by omega), decide_eq_false (by omega)]; rfl
  · rw [if_ltn (by omega) (by omega) (by omega), decide_eq_true (by omega), Bool.true_and]
    by_cases e2 : 122 < c
    · rw [if_ltp e2 (by omega) (by omega), decide_eq_false (by omega)]; rfl
    · rw [if_ltn (by omega) (by omega) (by omega), decide_eq_true (by omega)]; rfl
/-- the capitals of a part -/
theorem ms184 (h : StyM M w) (ht : to ≤ w.length) {k r n : Nat} (hk : k ≤ to) (hr : r < 12) (hn : n < 4) (x7 : Int) : ∃ M', m_selector_184 M (to : Int) (r : Int) (n : Int) (k : Int) x7 = m_selector_254 M' (to : Int) (r : Int) (n : Int) ((k + (((w.take to).drop k).takeWhile isCap).length : Nat) : Int) x7 ∧ FS M M' ∧ M'.1 = M.1 ∧ (∀ f i, (f ≠ 24 ∨ i ≠ 4 * r + n) → (f ≠ 27 ∨ i ≠ r) → M'.2 f i = M.2 f i) ∧ M'.2 24 (4 * r + n) = (((w.take to).drop k).takeWhile isCap).foldl capB (M.2 24 (4 * r + n)) ∧ M'.2 27 r = M.2 27 r + (((w.take to).drop k).takeWhile isCap).length := by
  have hl := h.2.2.1
  have hle := tw_le isCap ((w.take to).drop k)
  have hdl : ((w.take to).drop k).length = to - k := by rw [List.length_drop, List.length_take]; omega
  have hz4 : zix (4 * (r : Int) + (n : Int)) = 4 * r + n := by rw [zix_toNat (by omega) (by omega)]; omega
  -- by induction over the capitals that are left
  have key : ∀ (d : Nat) (j : Nat) (M : MS), StyM M w → k ≤ j → j + d = k + (((w.take to).drop k).takeWhile isCap).length → ∃ M', iter (fun (z : MS × Int) => m_selector_184s z.1 (to : Int) (r : Int) (n : Int) z.2 x7) (M, (j : Int)) = m_selector_254 M' (to : Int) (r : Int) (n : Int) ((k + (((w.take to).drop k).takeWhile isCap).length : Nat) : Int) x7 ∧ FS M M' ∧ M'.1 = M.1 ∧ (∀ f i, (f ≠ 24 ∨ i ≠ 4 * r + n) → (f ≠ 27 ∨ i ≠ r) → M'.2 f i = M.2 f i) ∧ M'.2 24 (4 * r + n) = ((((w.take to).drop k).takeWhile isCap).drop (j - k)).foldl capB (M.2 24 (4 * r + n)) ∧ M'.2 27 r = M.2 27 r + d := by
    intro d
    induction d with
    | zero =>
      intro j M h hj hd
      refine ⟨M, iter_mr ?_, FS.refl M, rfl, fun _ _ _ _ => rfl, ?_, by simp⟩
      · simp only [m_selector_184s]
        rw [show k + (((w.take to).drop k).takeWhile isCap).length = j by omega]
        by_cases e : j = to
        · rw [if_ltn (by omega) (by omega) (by omega)]
        · have h1 := tw_at isCap ((w.take to).drop k) 0 (by omega)
          rw [getD_dr, show k + (((w.take to).drop k).takeWhile isCap).length = j by omega, take_at (by omega)] at h1
          have hr' := h.at (k := j) (by omega)
          rw [if_ltp (by omega) (by omega) (by omega), gd_zin (by omega) (by omega) (by omega), zix_nat (by omega), h.2.1 j (by omega), m_cap_eq _ (by omega) (by omega), obind_some, h1, zb_f, if_eqp rfl]
      · rw [List.drop_eq_nil_of_le (by omega)]; rfl
    | succ d ih =>
      intro j M h hj hd
      have h1 := tw_lt isCap ((w.take to).drop k) (j - k) 0 (by omega)
      rw [getD_dr, show k + (j - k) = j by omega, take_at (by omega)] at h1
      have hr' := h.at (k := j) (by omega)
      have hdrop : (((w.take to).drop k).takeWhile isCap).drop (j - k) = w.getD j 0 :: (((w.take to).drop k).takeWhile isCap).drop (j + 1 - k) := by
        have hlt : j - k < (((w.take to).drop k).takeWhile isCap).length := by omega
        rw [List.drop_eq_getElem_cons hlt, show j - k + 1 = j + 1 - k by omega]
        congr 1
        have e1 := List.takeWhile_append_dropWhile (p := isCap) (l := (w.take to).drop k)
        have e2 : ((w.take to).drop k).getD (j - k) 0 = (((w.take to).drop k).takeWhile isCap)[j - k] := by
          conv => lhs; rw [← e1]
          rw [gD (by rw [List.length_append]; omega), List.getElem_append_left (by omega)]
        rw [← e2, getD_dr, show k + (j - k) = j by omega, take_at (by omega)]
      have F1 : FS M (sA (sA M 24 (4 * r + n) (zor (M.2 24 (4 * r + n)) (zshl 1 (w.getD j 0 - 65)))) 27 r (M.2 27 r + 1)) := ((FS.refl M).sA (by omega) _ _).sA (by omega) _ _
      obtain ⟨M', a1, a2, a3, a4, a5, a6⟩ := ih (j + 1) _ (h.fs F1) (by omega) (by omega)
      refine ⟨M', ?_, F1.trans a2, a3, fun f i q1 q2 => ?_, ?_, ?_⟩
      · have hst : m_selector_184s M (to : Int) (r : Int) (n : Int) (j : Int) x7 = some (.inl (sA (sA M 24 (4 * r + n) (zor (M.2 24 (4 * r + n)) (zshl 1 (w.getD j 0 - 65)))) 27 r (M.2 27 r + 1), ((j + 1 : Nat) : Int))) := by
          unfold m_selector_184s
          rw [if_ltp (by omega) (by omega) (by omega), gd_zin (by omega) (by omega) (by omega), zix_nat (by omega), h.2.1 j (by omega), m_cap_eq _ (by omega) (by omega), obind_some, h1, zb_t, if_eqn (by omega) (by omega) (by omega) (by omega) (by omega), gd_zin (by omega) (by omega) (by omega), gd_zin (by omega) (by omega) (by omega), gd_zin (by omega) (by omega) (by omega), hz4, bnd_eq, gd_zin (by omega) (by omega) (by omega), gd_zin (by omega) (by omega) (by omega), bnd_eq, zix_nat (by omega), sA_n _ _ _ _ _ _ (by omega)]
          rfl
        rw [iter_in hst]
        exact a1
      · rw [a4 f i q1 q2]
        by_cases z : f = 27
        · rw [z, sA_i _ _ _ _ _ (by omega), sA_n _ _ _ _ _ _ (by omega)]
        · rw [sA_n _ _ _ _ _ _ z]
          by_cases z2 : f = 24
          · rw [z2, sA_i _ _ _ _ _ (by omega)]
          · rw [sA_n _ _ _ _ _ _ z2]
      · rw [a5, hdrop, List.foldl_cons, sA_n _ _ _ _ _ _ (by omega), sA_s]
        have : capB (M.2 24 (4 * r + n)) (w.getD j 0) = zor (M.2 24 (4 * r + n)) (zshl 1 (w.getD j 0 - 65)) := by unfold capB; rw [if_pos h1]
        rw [this]
      · rw [a6, sA_s]; omega
  obtain ⟨M', a1, a2, a3, a4, a5, a6⟩ := key (((w.take to).drop k).takeWhile isCap).length k M h (Nat.le_refl _) rfl
  refine ⟨M', a1, a2, a3, a4, ?_, a6⟩
  rw [Nat.sub_self, List.drop_zero] at a5
  exact a5
end MSH
