/-! the reference reads a selector -/
set_option maxRecDepth 100000
def capN (l : List Int) : Nat := ((ptR l).takeWhile isCap).length
def smN (l : List Int) : Nat := match l with
  | [] => 0
  | c :: _ => if isSm c then 1 else 0
section MSH
variable {M M' M'' : MS} {w : List Int} {to : Nat}
theorem ms33 (h : StyM M w) (ht : to ≤ w.length) {k r n : Nat} (hk : k ≤ to) (hr : r < 12) (hn : n < 4) {d : Int} (hd : d = 0 ∨ d = 1) : ∃ M', m_selector_33s M (to : Int) (r : Int) (n : Int) d (k : Int) = m_selector_254 M' (to : Int) (r : Int) (n : Int) ((ptP (w.take to) k : Nat) : Int) (k : Int) ∧ FS M M' ∧ M'.1 = M.1 ∧ (∀ f i, (f ≠ 23 ∧ f ≠ 24 ∧ f ≠ 25 ∨ i ≠ 4 * r + n) → (f ≠ 27 ∧ f ≠ 28 ∨ i ≠ r) → M'.2 f i = M.2 f i) ∧ M'.2 23 (4 * r + n) = nmP (ptL ((w.take to).drop k)) ∧ M'.2 24 (4 * r + n) = ptC ((w.take to).drop k) ∧ M'.2 25 (4 * r + n) = d ∧ M'.2 27 r = M.2 27 r + capN ((w.take to).drop k) ∧ M'.2 28 r = M.2 28 r + smN ((w.take to).drop k) := by
  have hl := h.2.2.1
  have hz4 : zix (4 * (r : Int) + (n : Int)) = 4 * r + n := by rw [zix_toNat (by omega) (by omega)]; omega
  have hdl : ((w.take to).drop k).length = to - k := by rw [List.length_drop, List.length_take]; omega
  have F7 : FS M (sA (sA (sA M 23 (4 * r + n) 0) 24 (4 * r + n) 0) 25 (4 * r + n) d) := (((FS.refl M).sA (by omega) _ _).sA (by omega) _ _).sA (by omega) _ _
  have h7 := h.fs F7
  have hpre : m_selector_33s M (to : Int) (r : Int) (n : Int) d (k : Int) = (if zI (k : Int) < zI (to : Int) then gd (zin (k : Int) 120) (Option.bind (m_small ((sA (sA (sA M 23 (4 * r + n) 0) 24 (4 * r + n) 0) 25 (4 * r + n) d).2 3 (zix (k : Int)))) (fun y8 => if zI y8 = zI 0 then gd (zin (k : Int) 120) (if zI ((sA (sA (sA M 23 (4 * r + n) 0) 24 (4 * r + n) 0) 25 (4 * r + n) d).2 3 (zix (k : Int))) = zI 42 then m_selector_119 (sA (sA (sA M 23 (4 * r + n) 0) 24 (4 * r + n) 0) 25 (4 * r + n) d) (to : Int) (r : Int) (n : Int) (k : Int) (k : Int) else m_selector_184 (sA (sA (sA M 23 (4 * r + n) 0) 24 (4 * r + n) 0) 25 (4 * r + n) d) (to : Int) (r : Int) (n : Int) (k : Int) (k : Int)) else m_selector_119 (sA (sA (sA M 23 (4 * r + n) 0) 24 (4 * r + n) 0) 25 (4 * r + n) d) (to : Int) (r : Int) (n : Int) (k : Int) (k : Int))) else m_selector_184 (sA (sA (sA M 23 (4 * r + n) 0) 24 (4 * r + n) 0) 25 (4 * r + n) d) (to : Int) (r : Int) (n : Int) (k : Int) (k : Int)) := by
    unfold m_selector_33s
    rw [if_ltp (by omega) (by omega) (by omega), if_eqn (by omega) (by omega) (by omega) (by omega) (by omega), gd_zin (by omega) (by omega) (by omega), bnd_eq, gd_zin (by omega) (by omega) (by omega), bnd_eq, gd_zin (by omega) (by omega) (by omega), gd_c (by rcases hd with z | z <;> rw [z] <;> decide), bnd_eq, hz4]
  have m23 : (sA (sA (sA M 23 (4 * r + n) 0) 24 (4 * r + n) 0) 25 (4 * r + n) d).2 23 (4 * r + n) = 0 := by rw [sA_n _ _ _ _ _ _ (by omega), sA_n _ _ _ _ _ _ (by omega), sA_s]
  have m24 : (sA (sA (sA M 23 (4 * r + n) 0) 24 (4 * r + n) 0) 25 (4 * r + n) d).2 24 (4 * r + n) = 0 := by rw [sA_n _ _ _ _ _ _ (by omega), sA_s]
  have m25 : (sA (sA (sA M 23 (4 * r + n) 0) 24 (4 * r + n) 0) 25 (4 * r + n) d).2 25 (4 * r + n) = d := by rw [sA_s]
  have mo : ∀ f i, (f ≠ 23 ∧ f ≠ 24 ∧ f ≠ 25 ∨ i ≠ 4 * r + n) → (sA (sA (sA M 23 (4 * r + n) 0) 24 (4 * r + n) 0) 25 (4 * r + n) d).2 f i = M.2 f i := fun f i q => by
    by_cases z5 : f = 25
    · rw [z5, sA_i _ _ _ _ _ (by omega), sA_n _ _ _ _ _ _ (by omega), sA_n _ _ _ _ _ _ (by omega)]
    · rw [sA_n _ _ _ _ _ _ z5]
      by_cases z4 : f = 24
      · rw [z4, sA_i _ _ _ _ _ (by omega), sA_n _ _ _ _ _ _ (by omega)]
      · rw [sA_n _ _ _ _ _ _ z4]
        by_cases z3 : f = 23
        · rw [z3, sA_i _ _ _ _ _ (by omega)]
        · rw [sA_n _ _ _ _ _ _ z3]
  have m1 : (sA (sA (sA M 23 (4 * r + n) 0) 24 (4 * r + n) 0) 25 (4 * r + n) d).1 = M.1 := rfl
  rw [hpre]
  generalize sA (sA (sA M 23 (4 * r + n) 0) 24 (4 * r + n) 0) 25 (4 * r + n) d = N at *
  -- no letter
  have noL : ptR ((w.take to).drop k) = (w.take to).drop k → ptL ((w.take to).drop k) = 0 → smN ((w.take to).drop k) = 0 → ∃ M', m_selector_184 N (to : Int) (r : Int) (n : Int) (k : Int) (k : Int) = m_selector_254 M' (to : Int) (r : Int) (n : Int) ((ptP (w.take to) k : Nat) : Int) (k : Int) ∧ FS M M' ∧ M'.1 = M.1 ∧ (∀ f i, (f ≠ 23 ∧ f ≠ 24 ∧ f ≠ 25 ∨ i ≠ 4 * r + n) → (f ≠ 27 ∧ f ≠ 28 ∨ i ≠ r) → M'.2 f i = M.2 f i) ∧ M'.2 23 (4 * r + n) = nmP (ptL ((w.take to).drop k)) ∧ M'.2 24 (4 * r + n) = ptC ((w.take to).drop k) ∧ M'.2 25 (4 * r + n) = d ∧ M'.2 27 r = M.2 27 r + capN ((w.take to).drop k) ∧ M'.2 28 r = M.2 28 r + smN ((w.take to).drop k) := fun q1 q2 q3 => by
    obtain ⟨M', a1, a2, a3, a4, a5, a6⟩ := ms184 h7 ht hk hr hn (k : Int)
    refine ⟨M', ?_, F7.trans a2, a3.trans m1, fun f i p1 p2 => (a4 f i (by omega) (by omega)).trans (mo f i p1), ?_, ?_, ?_, ?_, ?_⟩
    · rw [a1]
      congr 2
      unfold ptP ptE
      rw [q1, len_dw]
      have := tw_le isCap ((w.take to).drop k)
      omega
    · rw [a4 23 _ (by omega) (by omega), m23, q2]; rfl
    · rw [a5, m24]; unfold ptC; rw [q1]
    · rw [a4 25 _ (by omega) (by omega), m25]
    · rw [a6, mo 27 r (by omega)]; unfold capN; rw [q1]
    · rw [a4 28 r (by omega) (by omega), mo 28 r (by omega), q3]; simp
  -- a letter
  have yesL : k < to → (isSm (w.getD k 0) || decide (w.getD k 0 = 42)) = true → ∃ M', m_selector_119 N (to : Int) (r : Int) (n : Int) (k : Int) (k : Int) = m_selector_254 M' (to : Int) (r : Int) (n : Int) ((ptP (w.take to) k : Nat) : Int) (k : Int) ∧ FS M M' ∧ M'.1 = M.1 ∧ (∀ f i, (f ≠ 23 ∧ f ≠ 24 ∧ f ≠ 25 ∨ i ≠ 4 * r + n) → (f ≠ 27 ∧ f ≠ 28 ∨ i ≠ r) → M'.2 f i = M.2 f i) ∧ M'.2 23 (4 * r + n) = nmP (ptL ((w.take to).drop k)) ∧ M'.2 24 (4 * r + n) = ptC ((w.take to).drop k) ∧ M'.2 25 (4 * r + n) = d ∧ M'.2 27 r = M.2 27 r + capN ((w.take to).drop k) ∧ M'.2 28 r = M.2 28 r + smN ((w.take to).drop k) := fun hlt hq => by
    have hc := h.at (k := k) (by omega)
    have hdr := drop_c (t := w.take to) (i := k) (by rw [List.length_take]; omega)
    rw [take_at hlt] at hdr
    have e1 : ptL ((w.take to).drop k) = w.getD k 0 := by rw [hdr]; unfold ptL; simp only []; rw [if_pos hq]
    have e2 : ptR ((w.take to).drop k) = (w.take to).drop (k + 1) := by rw [hdr]; unfold ptR; simp only []; rw [if_pos hq]
    have e3 : smN ((w.take to).drop k) = if isSm (w.getD k 0) then 1 else 0 := by rw [hdr]; rfl
    have F8 : FS N (sA (sA N 23 (4 * r + n) (nmP (w.getD k 0))) 28 r (N.2 28 r + (if isSm (w.getD k 0) then 1 else 0))) := ((FS.refl N).sA (by omega) _ _).sA (by omega) _ _
    obtain ⟨M', a1, a2, a3, a4, a5, a6⟩ := ms184 (k := k + 1) (h7.fs F8) ht (by omega) hr hn (k : Int)
    have hpr : m_selector_119 N (to : Int) (r : Int) (n : Int) (k : Int) (k : Int) = m_selector_184 (sA (sA N 23 (4 * r + n) (nmP (w.getD k 0))) 28 r (N.2 28 r + (if isSm (w.getD k 0) then 1 else 0))) (to : Int) (r : Int) (n : Int) ((k + 1 : Nat) : Int) (k : Int) := by
      have p153 : ∀ v : Int, v = nmP (w.getD k 0) → m_selector_153 N (to : Int) (r : Int) (n : Int) (k : Int) (k : Int) v (4 * (r : Int) + (n : Int)) = m_selector_184 (sA (sA N 23 (4 * r + n) (nmP (w.getD k 0))) 28 r (N.2 28 r + (if isSm (w.getD k 0) then 1 else 0))) (to : Int) (r : Int) (n : Int) ((k + 1 : Nat) : Int) (k : Int) := fun v hv => by
        unfold m_selector_153 m_selector_179
        rw [gd_zin (by omega) (by omega) (by omega), bnd_eq, hz4, gd_zin (by omega) (by omega) (by omega), gd_zin (by omega) (by omega) (by omega), zix_nat (by omega), zix_nat (by omega), sA_n _ _ _ _ _ _ (by omega), h7.2.1 k (by omega), m_sm_eq _ (by omega) (by omega), obind_some, sA_n _ _ _ _ _ _ (by omega), hv]
        cases hs : isSm (w.getD k 0) with
        | true => rw [zb_t, if_eqn (by omega) (by omega) (by omega) (by omega) (by omega), gd_zin (by omega) (by omega) (by omega), bnd_eq]; rfl
        | false => rw [zb_f, if_eqp rfl, gd_zin (by omega) (by omega) (by omega), bnd_eq]; rfl
      unfold m_selector_119
      rw [gd_zin (by omega) (by omega) (by omega), zix_nat (by omega), h7.2.1 k (by omega), m_sm_eq _ (by omega) (by omega), obind_some]
      cases hs : isSm (w.getD k 0) with
      | true =>
        rw [zb_t, if_eqn (by omega) (by omega) (by omega) (by omega) (by omega), gd_zin (by omega) (by omega) (by omega)]
        have := p153 (w.getD k 0) (by unfold nmP; rw [if_neg (fun z => by rw [z] at hs; cases hs)])
        rw [hs] at this
        exact this
      | false =>
        have h42 : w.getD k 0 = 42 := by rw [hs] at hq; simpa using hq
        rw [zb_f, if_eqp rfl]
        have := p153 0 (by unfold nmP; rw [if_pos h42])
        rw [hs] at this
        exact this
    refine ⟨M', ?_, (F7.trans F8).trans a2, a3.trans m1, fun f i p1 p2 => ?_, ?_, ?_, ?_, ?_, ?_⟩
    · rw [hpr, a1]
      congr 2
      unfold ptP ptE
      rw [e2, len_dw]
      have := tw_le isCap ((w.take to).drop (k + 1))
      have hd2 : ((w.take to).drop (k + 1)).length = to - (k + 1) := by rw [List.length_drop, List.length_take]; omega
      omega
    · rw [a4 f i (by omega) (by omega)]
      by_cases z8 : f = 28
      · rw [z8, sA_i _ _ _ _ _ (by omega), sA_n _ _ _ _ _ _ (by omega)]; exact mo 28 i (by omega)
      · rw [sA_n _ _ _ _ _ _ z8]
        by_cases z3 : f = 23
        · rw [z3, sA_i _ _ _ _ _ (by omega)]; exact mo 23 i (by omega)
        · rw [sA_n _ _ _ _ _ _ z3]; exact mo f i p1
    · rw [a4 23 _ (by omega) (by omega), sA_n _ _ _ _ _ _ (by omega), sA_s, e1]
    · rw [a5, sA_n _ _ _ _ _ _ (by omega), sA_n _ _ _ _ _ _ (by omega), m24]; unfold ptC; rw [e2]
    · rw [a4 25 _ (by omega) (by omega), sA_n _ _ _ _ _ _ (by omega), sA_n _ _ _ _ _ _ (by omega), m25]
    · rw [a6, sA_n _ _ _ _ _ _ (by omega), sA_n _ _ _ _ _ _ (by omega), mo 27 r (by omega)]; unfold capN; rw [e2]
    · rw [a4 28 r (by omega) (by omega), sA_s, mo 28 r (by omega), e3]
      cases isSm (w.getD k 0) <;> simp
  by_cases e : k = to
  · have hnil : (w.take to).drop k = [] := List.drop_eq_nil_of_le (by rw [List.length_take]; omega)
    rw [if_ltn (by omega) (by omega) (by omega)]
    exact noL (by rw [hnil]; rfl) (by rw [hnil]; rfl) (by rw [hnil]; rfl)
  · have hlt : k < to := by omega
    have hc := h.at (k := k) (by omega)
    have hdr := drop_c (t := w.take to) (i := k) (by rw [List.length_take]; omega)
    rw [take_at hlt] at hdr
    rw [if_ltp (by omega) (by omega) (by omega), gd_zin (by omega) (by omega) (by omega), zix_nat (by omega), h7.2.1 k (by omega), m_sm_eq _ (by omega) (by omega), obind_some]
    cases hs : isSm (w.getD k 0) with
    | true =>
      rw [zb_t, if_eqn (by omega) (by omega) (by omega) (by omega) (by omega)]
      exact yesL hlt (by rw [hs]; rfl)
    | false =>
      rw [zb_f, if_eqp rfl, gd_zin (by omega) (by omega) (by omega)]
      by_cases h42 : w.getD k 0 = 42
      · rw [if_eqp h42]
        exact yesL hlt (by rw [h42]; rfl)
      · rw [if_eqn h42 (by omega) (by omega) (by omega) (by omega)]
        have hno : ¬ (isSm (w.getD k 0) || decide (w.getD k 0 = 42)) = true := by rw [hs, decide_eq_false h42]; simp
        exact noL (by rw [hdr]; unfold ptR; simp only []; rw [if_neg hno]) (by rw [hdr]; unfold ptL; simp only []; rw [if_neg hno]) (by rw [hdr]; unfold smN; simp only []; rw [hs]; rfl)
end MSH
