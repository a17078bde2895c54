/-! the page: which rules fit, what they give -/
set_option maxRecDepth 100000
section PV
variable {h h' : HP} {pg a : Nat} {φ : Nat → Nat} {T : TS} {rs : List RL}
theorem pf_one (H : RepB h pg φ T) (hW : WF T) {i : Nat} (hi : i < tN T) (hm : tM T i ≠ 1) {p : PT} (ha : pK h a = 6) (h0 : pI h a 0 = p.1) (h1 : pI h a 1 = p.2.1) (hp : 0 ≤ p.1 ∧ p.1 < 128) : f_X7_fits h a (φ i) = some (zb (ptFit T p i)) := by
  have hE := H.elc hi hm
  have hn := hW.nm hi
  unfold nmOK at hn
  obtain ⟨e1, e2, -⟩ := H.2.2.2.1 i hi hm
  have hz := zand_le p.2.1 (zxor (tC T i) (-1))
  have e34 : f_X7_fits_34 h a (φ i) = some (zb (decide (zand p.2.1 (zxor (tC T i) (-1)) = 0))) := by
    unfold f_X7_fits_34
    rw [gd_c ha, gd_c hE.1, h1, e2]
    by_cases z : zand p.2.1 (zxor (tC T i) (-1)) = 0
    · rw [if_eqp z, decide_eq_true z]; rfl
    · rw [if_eqn z hz.1 hz.2 (by omega) (by omega), decide_eq_false z]; rfl
  unfold f_X7_fits ptFit
  rw [gd_c hE.1, e1]
  by_cases z0 : tM T i = 0
  · rw [if_eqp z0, decide_eq_false (show ¬ tM T i ≠ 0 from fun q => q z0)]; rfl
  · rw [if_eqn z0 (by omega) (by omega) (by omega) (by omega), decide_eq_true (show tM T i ≠ 0 from z0), Bool.true_and, gd_c ha, h0]
    by_cases y0 : p.1 = 0
    · rw [if_eqp y0, e34, decide_eq_true y0, Bool.true_or, Bool.true_or, Bool.true_and]
    · rw [if_eqn y0 (by omega) (by omega) (by omega) (by omega), gd_c ha, decide_eq_false y0, Bool.false_or]
      by_cases y1 : p.1 = 42
      · rw [if_eqp y1, e34, decide_eq_true y1, Bool.true_or, Bool.true_and]
      · rw [if_eqn y1 (by omega) (by omega) (by omega) (by omega), gd_c ha, gd_c hE.1, decide_eq_false y1, Bool.false_or]
        by_cases y2 : p.1 = tM T i
        · rw [if_eqp y2, e34, decide_eq_true y2, Bool.true_and]
        · rw [if_eqn y2 (by omega) (by omega) (by omega) (by omega), decide_eq_false y2, Bool.false_and]; rfl
theorem fits_p (H : RepB h pg φ T) (hW : WF T) : ∀ (l : List PT) (N a i : Nat), l ≠ [] → l.length ≤ N → PartR h l (some a) → (∀ p ∈ l, (0 ≤ p.1 ∧ p.1 < 128) ∧ (p.2.2 = 0 ∨ p.2.2 = 1)) → i < tN T → tM T i ≠ 1 → f_X0_fits N h a (φ i) = some (zb (fitR T l i)) := by
  intro l
  induction l with
  | nil => intro N a i h; exact (h rfl).elim
  | cons p r ih =>
    intro N a i _ hN hP hc hi hm
    obtain ⟨N, rfl⟩ : ∃ n, N = n + 1 := ⟨N - 1, by simp at hN; omega⟩
    obtain ⟨a', e, k1, k2, k3, k4, k5, k6⟩ := hP
    cases e
    have hcp := hc p (by simp)
    have hone := pf_one H hW hi hm (p := p) k1 k3 k4 hcp.1
    have hE := H.elc hi hm
    show f_X0_fits_b (F_fits N) h a (φ i) = _
    unfold f_X0_fits_b
    rw [gd_c k1, hone, obind_some]
    cases r with
    | nil =>
      have h3 : pP h a 3 = none := k6
      rw [fitR]
      cases hf : ptFit T p i with
      | false => rw [zb_f, if_eqp rfl]
      | true => rw [zb_t, if_eqn (by omega) (by omega) (by omega) (by omega) (by omega), gd_c k1, h3]; rfl
    | cons q r =>
      have k6' := k6
      obtain ⟨b, h3, -⟩ := k6
      rw [fitR]
      cases hf : ptFit T p i with
      | false => rw [zb_f, if_eqp rfl, Bool.false_and]; rfl
      | true =>
        rw [zb_t, if_eqn (by omega) (by omega) (by omega) (by omega) (by omega), gd_c k1, h3, nl_some, gd_c hE.1, bnd_eq, Bool.true_and]
        have hrec : ∀ j, j < tN T → tM T j ≠ 1 → f_X0_fits N h b (φ j) = some (zb (fitR T (q :: r) j)) := fun j hj hmj => ih N b j (by simp) (by simp at hN ⊢; omega) (by rw [← h3]; exact k6') (fun y hy => hc y (by simp at hy ⊢; exact Or.inr hy)) hj hmj
        -- up the ancestors
        have walk : ∀ (L : List Nat) (j : Nat), j < tN T → ancs T j = L → f_X0_fits_24 (F_fits N) h a (pP h (φ j) 0) = some (zb ((if p.2.2 = 0 then L else L.take 1).any (fitR T (q :: r)))) := by
          intro L
          induction L with
          | nil =>
            intro j hj hL
            have hj0 : j = 0 := by
              by_cases z : j = 0
              · exact z
              · rw [ancs_s hW hj z] at hL; cases hL
            rw [H.2.2.2.2.2.1 j hj, if_pos hj0]
            refine iter_out ?_
            simp only [f_X0_fits_24s]
            rw [nl_none]
            have : (if p.2.2 = 0 then ([] : List Nat) else List.take 1 []).any (fitR T (q :: r)) = false := by split <;> rfl
            rw [this]
            rfl
          | cons m L ihL =>
            intro j hj hL
            have hj0 : j ≠ 0 := fun z => by rw [z, ancs_0 T hW] at hL; cases hL
            rw [ancs_s hW hj hj0] at hL
            have hm1 : tP T j = m := by cases hL; rfl
            have hL2 : ancs T m = L := by cases hL; rfl
            have hmn : m < tN T := by rw [← hm1]; exact hW.par hj
            have hmm : tM T m ≠ 1 := by rw [← hm1]; exact nk1 (hW.2.1.2 j hj hj0).2.1
            have hEm := H.elc hmn hmm
            rw [H.2.2.2.2.2.1 j hj, if_neg hj0, hm1]
            have hst : f_X0_fits_24s (F_fits N) h a (some (φ m)) = if fitR T (q :: r) m = true then some (.inr 1) else if p.2.2 = 0 then some (.inl (pP h (φ m) 0)) else some (.inl none) := by
              unfold f_X0_fits_24s f_X0_fits_56
              have hr : F_fits N h b (φ m) = some (zb (fitR T (q :: r) m)) := hrec m hmn hmm
              rw [nl_some, gd_c k1, h3, obind_some, hr, obind_some]
              cases hfr : fitR T (q :: r) m with
              | true => rw [zb_t, if_eqn (by omega) (by omega) (by omega) (by omega) (by omega), if_pos rfl]
              | false =>
                rw [zb_f, if_eqp rfl, gd_c k1, k5, if_neg (show ¬ (false = true) by simp)]
                rcases hcp.2 with z | z
                · rw [if_eqp z, gd_c hEm.1, if_pos z]
                · rw [if_eqn (by omega) (by omega) (by omega) (by omega) (by omega), if_neg (by omega)]
            unfold f_X0_fits_24 at ihL ⊢
            cases hfr : fitR T (q :: r) m with
            | true =>
              rw [hfr, if_pos rfl] at hst
              rw [iter_out hst]
              split
              · rw [List.any_cons, hfr]; rfl
              · simp [hfr, zb]
            | false =>
              rw [hfr, if_neg (by simp)] at hst
              by_cases z : p.2.2 = 0
              · rw [if_pos z] at hst ⊢
                rw [iter_in hst, List.any_cons, hfr, Bool.false_or]
                have := ihL m hmn hL2
                rw [if_pos z] at this
                exact this
              · rw [if_neg z] at hst ⊢
                rw [iter_in hst]
                have : (List.take 1 (m :: L)).any (fitR T (q :: r)) = false := by simp [hfr]
                rw [this]
                refine iter_out ?_
                simp only [f_X0_fits_24s]
                rw [nl_none]; rfl
        exact walk (ancs T i) i hi rfl
end PV
