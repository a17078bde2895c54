/-! the reference reads a selector, as a whole -/
set_option maxRecDepth 100000
theorem filt_tw (f : Int → Bool) : ∀ l : List Int, (l.filter f).length = (l.takeWhile f).length + ((l.dropWhile f).filter f).length
  | [] => rfl
  | c :: l => by
    rw [List.takeWhile_cons, List.dropWhile_cons]
    by_cases e : f c = true
    · rw [if_pos e, if_pos e, List.filter_cons, if_pos e, List.length_cons, List.length_cons, filt_tw f l]; omega
    · rw [if_neg e, if_neg e]; simp
theorem filt_dw (f g : Int → Bool) (hd : ∀ c, g c = true → f c = false) : ∀ l : List Int, ((l.dropWhile g).filter f).length = (l.filter f).length
  | [] => rfl
  | c :: l => by
    rw [List.dropWhile_cons]
    by_cases e : g c = true
    · rw [if_pos e, filt_dw f g hd l, List.filter_cons, if_neg (by rw [hd c e]; simp)]
    · rw [if_neg e]
theorem cap_not_sm (c : Int) (h : isCap c = true) : isSm c = false := by
  unfold isCap at h; unfold isSm
  simp only [Bool.and_eq_true, decide_eq_true_eq] at h
  rw [decide_eq_false (by omega)]; rfl
theorem sm_not_cap (c : Int) (h : isSm c = true) : isCap c = false := by
  unfold isSm at h; unfold isCap
  simp only [Bool.and_eq_true, decide_eq_true_eq] at h
  rw [decide_eq_false (show ¬ c ≤ 90 by omega), Bool.and_false]
theorem cC_bl (l : List Int) : cC (bl l) = cC l := filt_dw isCap isB (fun c h => by
  unfold isB at h; simp at h; rw [h]; rfl) l
theorem cS_bl (l : List Int) : cS (bl l) = cS l := filt_dw isSm isB (fun c h => by
  unfold isB at h; simp at h; rw [h]; rfl) l
theorem cC_pt (l : List Int) : cC l = capN l + cC (ptE l) := by
  have hR : cC l = cC (ptR l) := by
    cases l with
    | nil => rfl
    | cons c r =>
      unfold ptR
      simp only []
      split
      · next e =>
        unfold cC
        rw [List.filter_cons, if_neg]
        rw [Bool.or_eq_true, decide_eq_true_eq] at e
        rcases e with z | z
        · rw [sm_not_cap c z]; simp
        · rw [z]; decide
      · rfl
  rw [hR]
  exact filt_tw isCap (ptR l)
theorem cS_pt (l : List Int) : cS l = smN l + cS (ptE l) := by
  have hE : cS (ptE l) = cS (ptR l) := filt_dw isSm isCap cap_not_sm (ptR l)
  rw [hE]
  cases l with
  | nil => rfl
  | cons c r =>
    unfold ptR smN cS
    simp only []
    rw [List.filter_cons]
    cases hs : isSm c with
    | true => simp only [Bool.true_or, if_true, List.length_cons]; omega
    | false =>
      simp only [Bool.false_or, Bool.false_eq_true, if_false, decide_eq_true_eq]
      split
      · omega
      · rw [List.filter_cons, hs]; simp
theorem cC_cons {c : Int} {l : List Int} (h : c = 62) : cC (c :: l) = cC l ∧ cS (c :: l) = cS l := by
  subst h
  unfold cC cS
  rw [List.filter_cons, List.filter_cons]
  exact ⟨rfl, rfl⟩
/-- the parts of a rule, from a place on -/
def PtM (M : MS) (i : Nat) (ps : List PT) : Prop := ∀ j, j < ps.length → M.2 23 (i + j) = nmP (ps.getD j (0, 0, 0)).1 ∧ M.2 24 (i + j) = (ps.getD j (0, 0, 0)).2.1 ∧ M.2 25 (i + j) = (ps.getD j (0, 0, 0)).2.2
section MSH
variable {M M' M'' : MS} {w : List Int} {to : Nat}
theorem selM (ht : to ≤ w.length) {r : Nat} (hr : r < 12) : ∀ (m n k : Nat) (d : Int) (M : MS), StyM M w → m + n = 4 → k ≤ to → (d = 0 ∨ d = 1) → ∃ M' b, m_selector_33 M (to : Int) (r : Int) (n : Int) d (k : Int) = some (M', b) ∧ FS M M' ∧ M'.1 = M.1 ∧ (∀ f i, (f ≠ 23 ∧ f ≠ 24 ∧ f ≠ 25 ∨ i < 4 * r + n ∨ 4 * r + 4 ≤ i) → (f ≠ 26 ∧ f ≠ 27 ∧ f ≠ 28 ∨ i ≠ r) → M'.2 f i = M.2 f i) ∧ (match selR m d ((w.take to).drop k) with
    | none => b = 0
    | some ps => b = 1 ∧ PtM M' (4 * r + n) ps ∧ M'.2 26 r = ((n + ps.length : Nat) : Int) ∧ M'.2 27 r = M.2 27 r + cC ((w.take to).drop k) ∧ M'.2 28 r = M.2 28 r + cS ((w.take to).drop k)) := by
  intro m
  induction m with
  | zero =>
    intro n k d M h hmn hk hd
    refine ⟨M, 0, iter_out ?_, FS.refl M, rfl, fun _ _ _ _ => rfl, rfl⟩
    simp only [m_selector_33s]
    rw [if_ltp (by omega) (by omega) (by omega), if_eqp (by omega)]
  | succ m ih =>
    intro n k d M h hmn hk hd
    have hl := h.2.2.1
    obtain ⟨N, a1, a2, a3, a4, a5, a6, a7, a8, a9⟩ := ms33 h ht hk hr (n := n) (by omega) hd
    have hN := h.fs a2
    have htl : (w.take to).length = to := by rw [List.length_take]; omega
    have hdl : ((w.take to).drop k).length = to - k := by rw [List.length_drop, htl]
    have hE := ptE_len ((w.take to).drop k)
    have hPd := ptP_drop (w.take to) k
    have hPle : ptP (w.take to) k ≤ to := by unfold ptP; omega
    have hPge : k ≤ ptP (w.take to) k := by unfold ptP; omega
    have hPl : ((w.take to).drop (ptP (w.take to) k)).length = (ptE ((w.take to).drop k)).length := by rw [hPd]
    have hcC := cC_pt ((w.take to).drop k)
    have hcS := cS_pt ((w.take to).drop k)
    rw [selR]
    unfold m_selector_33
    by_cases e1 : (ptE ((w.take to).drop k)).length = ((w.take to).drop k).length
    · rw [if_pos e1]
      have : ptP (w.take to) k = k := by unfold ptP; omega
      refine ⟨N, 0, iter_out ?_, a2, a3, fun f i p1 p2 => a4 f i (by omega) (by omega), rfl⟩
      show m_selector_33s M (to : Int) (r : Int) (n : Int) d (k : Int) = _
      rw [a1, this]
      unfold m_selector_254
      rw [if_eqp rfl]
    · rw [if_neg e1]
      have hne : ptP (w.take to) k ≠ k := by unfold ptP; omega
      have F2 : FS N (sA N 26 r ((n : Int) + 1)) := (FS.refl N).sA (by omega) _ _
      have hN2 := hN.fs F2
      have hb := m_blanks_eq (to := to) hN2 ht hPle
      have hbl : bl (ptE ((w.take to).drop k)) = (w.take to).drop (ptP (w.take to) k + (((w.take to).drop (ptP (w.take to) k)).takeWhile isB).length) := by rw [drop_tw', hPd]; rfl
      have hjle : ptP (w.take to) k + (((w.take to).drop (ptP (w.take to) k)).takeWhile isB).length ≤ to := by
        have := tw_le isB ((w.take to).drop (ptP (w.take to) k))
        rw [List.length_drop, htl] at this
        omega
      have hcb := cC_bl (ptE ((w.take to).drop k))
      have hsb := cS_bl (ptE ((w.take to).drop k))
      rw [hbl] at hcb hsb ⊢
      have hpre : m_selector_33s M (to : Int) (r : Int) (n : Int) d (k : Int) = (if zI ((ptP (w.take to) k + (((w.take to).drop (ptP (w.take to) k)).takeWhile isB).length : Nat) : Int) = zI (to : Int) then some (.inr (sA N 26 r ((n : Int) + 1), 1)) else gd (zin ((ptP (w.take to) k + (((w.take to).drop (ptP (w.take to) k)).takeWhile isB).length : Nat) : Int) 120) (if zI ((sA N 26 r ((n : Int) + 1)).2 3 (zix ((ptP (w.take to) k + (((w.take to).drop (ptP (w.take to) k)).takeWhile isB).length : Nat) : Int))) = zI 62 then m_selector_308 (sA N 26 r ((n : Int) + 1)) (to : Int) (r : Int) ((n : Int) + 1) ((ptP (w.take to) k : Nat) : Int) ((ptP (w.take to) k + (((w.take to).drop (ptP (w.take to) k)).takeWhile isB).length : Nat) : Int) 1 else m_selector_308 (sA N 26 r ((n : Int) + 1)) (to : Int) (r : Int) ((n : Int) + 1) ((ptP (w.take to) k : Nat) : Int) ((ptP (w.take to) k + (((w.take to).drop (ptP (w.take to) k)).takeWhile isB).length : Nat) : Int) 0)) := by
        rw [a1]
        unfold m_selector_254
        rw [if_eqn (by omega) (by omega) (by omega) (by omega) (by omega), gd_zin (by omega) (by omega) (by omega), bnd_eq, zix_nat (by omega), hb, obind_some]
      have b23 : ∀ f, f = 23 ∨ f = 24 ∨ f = 25 → ∀ i, (sA N 26 r ((n : Int) + 1)).2 f i = N.2 f i := fun f hf i => by rw [sA_n _ _ _ _ _ _ (by omega)]
      have frN : ∀ f i, (f ≠ 23 ∧ f ≠ 24 ∧ f ≠ 25 ∨ i ≠ 4 * r + n) → (f ≠ 26 ∧ f ≠ 27 ∧ f ≠ 28 ∨ i ≠ r) → (sA N 26 r ((n : Int) + 1)).2 f i = M.2 f i := fun f i p1 p2 => by
        by_cases z : f = 26
        · rw [z, sA_i _ _ _ _ _ (by omega)]; exact a4 26 i (by omega) (by omega)
        · rw [sA_n _ _ _ _ _ _ z]; exact a4 f i p1 (by omega)
      have b27 : (sA N 26 r ((n : Int) + 1)).2 27 r = M.2 27 r + capN ((w.take to).drop k) := by rw [sA_n _ _ _ _ _ _ (by omega), a8]
      have b28 : (sA N 26 r ((n : Int) + 1)).2 28 r = M.2 28 r + smN ((w.take to).drop k) := by rw [sA_n _ _ _ _ _ _ (by omega), a9]
      have b26 : (sA N 26 r ((n : Int) + 1)).2 26 r = (n : Int) + 1 := by rw [sA_s]
      have hb1 : (sA N 26 r ((n : Int) + 1)).1 = M.1 := a3
      have hF : FS M (sA N 26 r ((n : Int) + 1)) := a2.trans F2
      have p0 : (sA N 26 r ((n : Int) + 1)).2 23 (4 * r + n) = nmP (ptL ((w.take to).drop k)) ∧ (sA N 26 r ((n : Int) + 1)).2 24 (4 * r + n) = ptC ((w.take to).drop k) ∧ (sA N 26 r ((n : Int) + 1)).2 25 (4 * r + n) = d := ⟨by rw [b23 23 (by omega), a5], by rw [b23 24 (by omega), a6], by rw [b23 25 (by omega), a7]⟩
      generalize sA N 26 r ((n : Int) + 1) = Q at *
      generalize hj : ptP (w.take to) k + (((w.take to).drop (ptP (w.take to) k)).takeWhile isB).length = j at *
      -- the rest of the parts
      have rest : ∀ (k' : Nat) (d' : Int), (d' = 0 ∨ d' = 1) → k' ≤ to → m_selector_33s M (to : Int) (r : Int) (n : Int) d (k : Int) = some (.inl (Q, ((n + 1 : Nat) : Int), d', ((k' : Nat) : Int))) → cC ((w.take to).drop k') = cC ((w.take to).drop j) → cS ((w.take to).drop k') = cS ((w.take to).drop j) → ∃ M' b, iter (fun (z : MS × Int × Int × Int) => m_selector_33s z.1 (to : Int) (r : Int) z.2.1 z.2.2.1 z.2.2.2) (M, (n : Int), d, (k : Int)) = some (M', b) ∧ FS M M' ∧ M'.1 = M.1 ∧ (∀ f i, (f ≠ 23 ∧ f ≠ 24 ∧ f ≠ 25 ∨ i < 4 * r + n ∨ 4 * r + 4 ≤ i) → (f ≠ 26 ∧ f ≠ 27 ∧ f ≠ 28 ∨ i ≠ r) → M'.2 f i = M.2 f i) ∧ (match (selR m d' ((w.take to).drop k')).map (fun r => (ptL ((w.take to).drop k), ptC ((w.take to).drop k), d) :: r) with
          | none => b = 0
          | some ps => b = 1 ∧ PtM M' (4 * r + n) ps ∧ M'.2 26 r = ((n + ps.length : Nat) : Int) ∧ M'.2 27 r = M.2 27 r + cC ((w.take to).drop k) ∧ M'.2 28 r = M.2 28 r + cS ((w.take to).drop k)) := fun k' d' hd' hk' hst hq1 hq2 => by
        obtain ⟨M', b', c1, c2, c3, c4, c5⟩ := ih (n + 1) k' d' Q hN2 (by omega) hk' hd'
        refine ⟨M', b', ?_, hF.trans c2, c3.trans hb1, fun f i p1 p2 => (c4 f i (by omega) p2).trans (frN f i (by omega) p2), ?_⟩
        · rw [iter_in hst]; exact c1
        · cases hsel : selR m d' ((w.take to).drop k') with
          | none => rw [hsel] at c5; exact c5
          | some ps =>
            rw [hsel] at c5
            obtain ⟨y1, y2, y3, y4, y5⟩ := c5
            refine ⟨y1, fun i hi => ?_, ?_, ?_, ?_⟩
            · cases i with
              | zero =>
                show M'.2 23 (4 * r + n) = nmP (ptL ((w.take to).drop k)) ∧ M'.2 24 (4 * r + n) = ptC ((w.take to).drop k) ∧ M'.2 25 (4 * r + n) = d
                rw [c4 23 _ (by omega) (by omega), c4 24 _ (by omega) (by omega), c4 25 _ (by omega) (by omega)]
                exact p0
              | succ i =>
                have := y2 i (by simpa using hi)
                rw [show 4 * r + (n + 1) + i = 4 * r + n + (i + 1) by omega] at this
                exact this
            · rw [y3]; simp; omega
            · rw [y4, b27, hcC, hq1, hcb]; simp; omega
            · rw [y5, b28, hcS, hq2, hsb]; simp; omega
      by_cases e2 : j = to
      · have hlz : ((w.take to).drop j).length = 0 := by rw [List.length_drop, htl]; omega
        rw [if_pos hlz]
        rw [if_eqp (by omega)] at hpre
        have hnil : (w.take to).drop j = [] := List.eq_nil_of_length_eq_zero hlz
        refine ⟨Q, 1, iter_out hpre, hF, hb1, fun f i p1 p2 => frN f i (by omega) p2, rfl, fun i hi => ?_, ?_, ?_, ?_⟩
        · have : i = 0 := by simpa using hi
          rw [this]; exact p0
        · rw [b26]; simp
        · rw [b27, hcC, ← hcb, hnil]; simp [cC]
        · rw [b28, hcS, ← hsb, hnil]; simp [cS]
      · have hjl : j < to := by omega
        have hc := h.at (k := j) (by omega)
        have hdr := drop_c (t := w.take to) (i := j) (by omega)
        rw [take_at hjl] at hdr
        have hhead : ((w.take to).drop j).headD 0 = w.getD j 0 := by rw [hdr]; rfl
        rw [if_neg (by rw [List.length_drop, htl]; omega), hhead]
        rw [if_eqn (by omega) (by omega) (by omega) (by omega) (by omega), gd_zin (by omega) (by omega) (by omega), zix_nat (by omega), hN2.2.1 j (by omega)] at hpre
        by_cases e3 : w.getD j 0 = 62
        · rw [if_pos e3]
          rw [if_eqp e3] at hpre
          have hb2 := m_blanks_eq (to := to) hN2 ht (k := j + 1) (by omega)
          unfold m_selector_308 m_selector_324 m_selector_343 at hpre
          rw [if_eqn (by omega) (by omega) (by omega) (by omega) (by omega), if_eqn (by omega) (by omega) (by omega) (by omega) (by omega), show (j : Int) + 1 = ((j + 1 : Nat) : Int) by omega, hb2, obind_some] at hpre
          have htail : bl (((w.take to).drop j).tail) = (w.take to).drop (j + 1 + (((w.take to).drop (j + 1)).takeWhile isB).length) := by rw [drop_tw', hdr]; rfl
          have hle2 : j + 1 + (((w.take to).drop (j + 1)).takeWhile isB).length ≤ to := by
            have := tw_le isB ((w.take to).drop (j + 1))
            rw [List.length_drop, htl] at this
            omega
          have hcc := cC_cons (c := w.getD j 0) (l := (w.take to).drop (j + 1)) e3
          rw [← hdr] at hcc
          rw [htail]
          refine rest _ 1 (Or.inr rfl) hle2 ?_ ?_ ?_
          · rw [hpre, show (n : Int) + 1 = ((n + 1 : Nat) : Int) by omega]
          · rw [← htail, cC_bl, hcc.1, hdr]; rfl
          · rw [← htail, cS_bl, hcc.2, hdr]; rfl
        · rw [if_neg e3]
          rw [if_eqn e3 (by omega) (by omega) (by omega) (by omega)] at hpre
          unfold m_selector_308 m_selector_324 m_selector_343 at hpre
          rw [if_eqp (show (0 : Int) = 0 from rfl)] at hpre
          have hlj : ((w.take to).drop j).length = (ptE ((w.take to).drop k)).length ↔ j = ptP (w.take to) k := by rw [← hPl, List.length_drop, List.length_drop, htl]; omega
          by_cases e4 : j = ptP (w.take to) k
          · rw [if_pos (hlj.mpr e4)]
            rw [if_eqp (by omega)] at hpre
            exact ⟨Q, 0, iter_out hpre, hF, hb1, fun f i p1 p2 => frN f i (by omega) p2, rfl⟩
          · rw [if_neg (fun z => e4 (hlj.mp z))]
            rw [if_eqn (by omega) (by omega) (by omega) (by omega) (by omega), if_eqp (show (0 : Int) = 0 from rfl)] at hpre
            refine rest j 0 (Or.inl rfl) hjle ?_ rfl rfl
            rw [hpre, show (n : Int) + 1 = ((n + 1 : Nat) : Int) by omega]
end MSH
