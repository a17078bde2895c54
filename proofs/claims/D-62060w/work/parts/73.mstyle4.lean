/-! the reference: a declaration -/
set_option maxRecDepth 100000
section MY
variable {M M' M'' : MS} {T : TS} {w e : List Int}
theorem m_prop_eq (c : Int) (h1 : 0 ≤ c) (h2 : c < 128) : m_propertyIndex c = some (ixT 7 c) := by
  have hs : sT 7 = [99, 98, 115, 100, 109, 112, 119] := rfl
  unfold m_propertyIndex
  by_cases c1 : c = 99
  · rw [if_eqp c1, c1]; rfl
  rw [if_eqn c1 (by omega) (by omega) (by omega) (by omega)]
  by_cases c2 : c = 98
  · rw [if_eqp c2, c2]; rfl
  rw [if_eqn c2 (by omega) (by omega) (by omega) (by omega)]
  by_cases c3 : c = 115
  · rw [if_eqp c3, c3]; rfl
  rw [if_eqn c3 (by omega) (by omega) (by omega) (by omega)]
  by_cases c4 : c = 100
  · rw [if_eqp c4, c4]; rfl
  rw [if_eqn c4 (by omega) (by omega) (by omega) (by omega)]
  by_cases c5 : c = 109
  · rw [if_eqp c5, c5]; rfl
  rw [if_eqn c5 (by omega) (by omega) (by omega) (by omega)]
  by_cases c6 : c = 112
  · rw [if_eqp c6, c6]; rfl
  rw [if_eqn c6 (by omega) (by omega) (by omega) (by omega)]
  by_cases c7 : c = 119
  · rw [if_eqp c7, c7]; rfl
  rw [if_eqn c7 (by omega) (by omega) (by omega) (by omega)]
  have hneg : ixT 7 c < 0 := by
    rw [ixT_neg, hs]
    simp [c1, c2, c3, c4, c5, c6, c7]
  have := ix7_rng c
  congr 1
  omega
theorem m_digit_eq (c : Int) (h1 : 0 ≤ c) (h2 : c < 128) : m_digit c = some (zb (decide (48 ≤ c ∧ c ≤ 57))) := by
  unfold m_digit
  by_cases e1 : c < 48
  · rw [if_ltp e1 (by omega) (by omega), decide_eq_false (by omega)]; rfl
  · rw [if_ltn (by omega) (by omega) (by omega)]
    by_cases e2 : 57 < c
    · rw [if_ltp e2 (by omega) (by omega), decide_eq_false (by omega)]; rfl
    · rw [if_ltn (by omega) (by omega) (by omega), decide_eq_true (by omega)]; rfl
/-- a word in the reference's array -/
def WdM (M : MS) (e : List Int) : Prop := (∀ k, k < e.length → M.2 31 k = e.getD k 0) ∧ e.length ≤ 120 ∧ ∀ c ∈ e, 32 ≤ c ∧ c ≤ 126
def idxE (e : List Int) : Int := match e with
  | [] => -1
  | p :: _ => ixT 7 p
theorem m_declared_eq (h : WdM M e) : m_declared M (idxE e) ((e.length : Nat) : Int) = some (match decE e with
    | none => -1
    | some q => q.2) ∧ ∀ q, decE e = some q → idxE e = ((q.1 : Nat) : Int) := by
  obtain ⟨h1, h2, h3⟩ := h
  have z1 : zix 1 = 1 := by decide
  have z2 : zix 2 = 2 := by decide
  have z3 : zix 3 = 3 := by decide
  unfold m_declared
  rw [gd_zin (by omega) (by omega) (by omega), bnd_eq, z2]
  match e, h1, h2, h3 with
  | [], _, _, _ => exact ⟨by rw [show idxE [] = -1 from rfl, if_ltp (by omega) (by omega) (by omega)]; rfl, fun q hq => by cases hq⟩
  | [p], _, _, _ =>
    have hr := ix7_rng p
    refine ⟨?_, fun q hq => by cases hq⟩
    rw [show idxE [p] = ixT 7 p from rfl]
    by_cases x : ixT 7 p < 0
    · rw [if_ltp x (by omega) (by omega)]; rfl
    · rw [if_ltn (by omega) (by omega) (by omega), if_ltp (by simp) (by simp) (by simp)]; rfl
  | p :: q :: v, h1, h2, h3 =>
    have hr := ix7_rng p
    have hp := h3 p (by simp)
    have hq := h3 q (by simp)
    have hlen : (((p :: q :: v).length : Nat) : Int) = (v.length : Int) + 2 := by simp; omega
    have hl2 : v.length ≤ 118 := by simp at h2; omega
    rw [show idxE (p :: q :: v) = ixT 7 p from rfl, hlen]
    have hidx : ∀ y, decE (p :: q :: v) = some y → ixT 7 p = ((y.1 : Nat) : Int) := fun y hy => by
      unfold decE at hy
      simp only [] at hy
      split at hy
      · cases hy
      · next hh =>
        cases hv : decV (ixT 7 p) v with
        | none => rw [hv] at hy; cases hy
        | some u =>
          rw [hv] at hy
          cases hy
          show ixT 7 p = (((ixT 7 p).toNat : Nat) : Int)
          have : ¬ ixT 7 p < 0 := fun z => hh (Or.inr z)
          omega
    refine ⟨?_, hidx⟩
    have hdec : (match decE (p :: q :: v) with
        | none => -1
        | some y => y.2) = if q ≠ 58 ∨ ixT 7 p < 0 then -1 else (decV (ixT 7 p) v).getD (-1) := by
      unfold decE
      simp only []
      by_cases hc : q ≠ 58 ∨ ixT 7 p < 0
      · rw [if_pos hc, if_pos hc]
      · rw [if_neg hc, if_neg hc]
        cases decV (ixT 7 p) v <;> rfl
    rw [hdec]
    have g1 : M.2 31 1 = q := h1 1 (by simp)
    by_cases x : ixT 7 p < 0
    · rw [if_ltp x (by omega) (by omega), if_pos (Or.inr x)]
    rw [if_ltn (by omega) (by omega) (by omega)]
    by_cases x1 : v.length < 1
    · have hv : v = [] := List.eq_nil_of_length_eq_zero (by omega)
      rw [if_ltp (by omega) (by omega) (by omega), hv]
      have : decV (ixT 7 p) [] = none := by unfold decV; split <;> rfl
      rw [this]
      split <;> rfl
    rw [if_ltn (by omega) (by omega) (by omega)]
    by_cases x2 : 2 < v.length
    · rw [if_ltp (by omega) (by omega) (by omega)]
      have : decV (ixT 7 p) v = none := by
        unfold decV
        match v, x2 with
        | [], z => simp at z
        | [_], z => simp at z
        | [_, _], z => simp at z
        | _ :: _ :: _ :: _, _ => split <;> rfl
      rw [this]
      split <;> rfl
    rw [if_ltn (by omega) (by omega) (by omega), gd_zin (by omega) (by omega) (by omega), z1, g1]
    by_cases x3 : q = 58
    · rw [if_eqp x3, if_neg (show ¬ (q ≠ 58 ∨ ixT 7 p < 0) from fun z => by rcases z with z | z; exact z x3; exact x z)]
      unfold m_declared_62
      match v, h1, h3, x1, x2 with
      | [], _, _, x1, _ => exact absurd x1 (by simp)
      | [c1], h1, h3, _, _ =>
        have hc1 := h3 c1 (by simp)
        have g2 : M.2 31 2 = c1 := h1 2 (by simp)
        have hl1 : (([c1] : List Int).length : Int) + 2 = 3 := rfl
        rw [g2, hl1]
        unfold decV
        by_cases x4 : ixT 7 p = 3
        · rw [if_eqp x4, if_eqp rfl, if_pos x4]
          simp only []
          by_cases y1 : c1 = 98
          · rw [if_eqp y1, if_pos (by omega)]; rfl
          · rw [if_eqn y1 (by omega) (by omega) (by omega) (by omega)]
            by_cases y2 : c1 = 105
            · rw [if_eqp y2, if_pos (by omega)]; rfl
            · rw [if_eqn y2 (by omega) (by omega) (by omega) (by omega)]
              by_cases y3 : c1 = 110
              · rw [if_eqp y3, if_pos (by omega)]; rfl
              · rw [if_eqn y3 (by omega) (by omega) (by omega) (by omega), if_neg (by omega)]; rfl
        · rw [if_eqn x4 (by omega) (by omega) (by omega) (by omega), if_neg x4, m_digit_eq c1 (by omega) (by omega), obind_some]
          simp only []
          have e88 : m_declared_88 M (ixT 7 p) 3 c1 = some (c1 - 48) := by
            unfold m_declared_88
            rw [if_eqp rfl]
          by_cases x6 : 48 ≤ c1 ∧ c1 ≤ 57
          · rw [decide_eq_true x6, zb_t, if_eqn (by omega) (by omega) (by omega) (by omega) (by omega), e88]
            by_cases y1 : ixT 7 p = 2
            · rw [if_eqp y1]
              by_cases y2 : c1 = 48
              · rw [if_eqp y2, if_neg (fun z => z.2.2 ⟨y1, y2⟩)]; rfl
              · rw [if_eqn y2 (by omega) (by omega) (by omega) (by omega), if_pos ⟨x6.1, x6.2, fun z => y2 z.2⟩]; rfl
            · rw [if_eqn y1 (by omega) (by omega) (by omega) (by omega), if_pos ⟨x6.1, x6.2, fun z => y1 z.1⟩]; rfl
          · rw [decide_eq_false x6, zb_f, if_eqp rfl, if_neg (fun z => x6 ⟨z.1, z.2.1⟩)]; rfl
      | [c1, c2], h1, h3, _, _ =>
        have hc1 := h3 c1 (by simp)
        have hc2 := h3 c2 (by simp)
        have g2 : M.2 31 2 = c1 := h1 2 (by simp)
        have g3 : M.2 31 3 = c2 := h1 3 (by simp)
        have hl1 : (([c1, c2] : List Int).length : Int) + 2 = 4 := rfl
        rw [g2, hl1]
        unfold decV
        by_cases x4 : ixT 7 p = 3
        · rw [if_eqp x4, if_eqn (by omega) (by omega) (by omega) (by omega) (by omega), if_pos x4]
          rfl
        · rw [if_eqn x4 (by omega) (by omega) (by omega) (by omega), if_neg x4, m_digit_eq c1 (by omega) (by omega), obind_some]
          simp only []
          have e88 : m_declared_88 M (ixT 7 p) 4 c1 = some (if 4 ≤ ixT 7 p ∧ 48 ≤ c2 ∧ c2 ≤ 57 then 10 * (c1 - 48) + (c2 - 48) else -1) := by
            unfold m_declared_88
            rw [if_eqn (by omega) (by omega) (by omega) (by omega) (by omega)]
            by_cases y4 : ixT 7 p < 4
            · rw [if_ltp y4 (by omega) (by omega), if_neg (fun z => by omega)]
            · rw [if_ltn (by omega) (by omega) (by omega), gd_zin (by omega) (by omega) (by omega), z3, g3, m_digit_eq _ (by omega) (by omega), obind_some]
              by_cases y5 : 48 ≤ c2 ∧ c2 ≤ 57
              · rw [decide_eq_true y5, zb_t, if_eqn (by omega) (by omega) (by omega) (by omega) (by omega), gd_zin (by omega) (by omega) (by omega), if_pos ⟨by omega, y5⟩]
                congr 1; omega
              · rw [decide_eq_false y5, zb_f, if_eqp rfl, if_neg (fun z => y5 z.2)]
          by_cases x6 : 48 ≤ c1 ∧ c1 ≤ 57
          · have hin : (if 4 ≤ ixT 7 p ∧ (48 ≤ c1 ∧ c1 ≤ 57) ∧ 48 ≤ c2 ∧ c2 ≤ 57 then some (10 * (c1 - 48) + (c2 - 48)) else none).getD (-1) = if 4 ≤ ixT 7 p ∧ 48 ≤ c2 ∧ c2 ≤ 57 then 10 * (c1 - 48) + (c2 - 48) else -1 := by
              by_cases y : 4 ≤ ixT 7 p ∧ 48 ≤ c2 ∧ c2 ≤ 57
              · rw [if_pos y, if_pos ⟨y.1, x6, y.2⟩]; rfl
              · rw [if_neg y, if_neg (fun z => y ⟨z.1, z.2.2⟩)]; rfl
            rw [decide_eq_true x6, zb_t, if_eqn (by omega) (by omega) (by omega) (by omega) (by omega), e88, hin]
            by_cases y1 : ixT 7 p = 2
            · rw [if_eqp y1]
              by_cases y2 : c1 = 48
              · rw [if_eqp y2, if_neg (fun z => by omega)]
              · rw [if_eqn y2 (by omega) (by omega) (by omega) (by omega)]
            · rw [if_eqn y1 (by omega) (by omega) (by omega) (by omega)]
          · rw [decide_eq_false x6, zb_f, if_eqp rfl, if_neg (fun z => x6 z.2.1)]; rfl
      | _ :: _ :: _ :: _, _, _, _, x2 => exact absurd x2 (by simp)
    · rw [if_eqn x3 (by omega) (by omega) (by omega) (by omega), if_pos (Or.inl x3)]
end MY
