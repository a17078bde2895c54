/-! the page reads a declaration -/
set_option maxRecDepth 100000
section PS
variable {h h' h1 : HP} {pg x u a : Nat} {t e : List Int} {r : RL} {c : Int}
/-- what a declaration does to a rule's cells -/
def dcW (h : HP) (a : Nat) (o : Option (Nat × Int × Bool)) : HP := match o with
  | none => h
  | some (k, v, s) => wI h (if s then a + 2 else a + 1) k v
def RlK (h : HP) (a : Nat) : Prop := pK h a = 7 ∧ pP h a 2 = some (a + 1) ∧ pP h a 3 = some (a + 2) ∧ pK h (a + 1) = 43 ∧ pK h (a + 2) = 44 ∧ pN h (a + 1) = 7 ∧ pN h (a + 2) = 7
theorem set_p (R : RlK h a) {k : Nat} (hk : k < 7) (v : Int) (s : Bool) : f_X8_set h a (k : Int) v (zb s) = some (wI h (if s then a + 2 else a + 1) k v) := by
  obtain ⟨r1, r2, r3, r4, r5, r6, r7⟩ := R
  unfold f_X8_set
  cases s with
  | false => rw [zb_f, if_eqp rfl, gd_c r1, r2, obind_some, gd_c (by rw [r4]; decide), gd_zin (by omega) (by omega) (by omega), bnd_eq, zix_nat (by omega)]; rfl
  | true => rw [zb_t, if_eqn (by omega) (by omega) (by omega) (by omega) (by omega), gd_c r1, r3, obind_some, gd_c (by rw [r5]; decide), gd_zin (by omega) (by omega) (by omega), bnd_eq, zix_nat (by omega)]; rfl
theorem ix7_rng (p : Int) : -1 ≤ ixT 7 p ∧ ixT 7 p ≤ 6 := by
  have h1 : (sT 7).length = 7 := rfl
  have hle := tw_le (fun x => decide (x ≠ p)) (sT 7)
  unfold ixT
  split <;> omega
theorem bin_ix (c : Int) : ixT 8 c < 0 ↔ ¬ (c = 98 ∨ c = 105 ∨ c = 110) := by
  rw [ixT_neg]
  have : (sT 8).contains c = (decide (c = 98) || (decide (c = 105) || decide (c = 110))) := by
    show [98, 105, 110].contains c = _
    simp [List.contains_cons]
  rw [this]
  simp
/-- the value's loop -/
theorem dc105 (hk : isS (pK h x)) (ht : pB h x = t) (hT : okT t) (R : RlK h a) {k : Nat} (hk7 : k < 7) (s : Bool) {v : List Int} (hv : v.length = 1 ∨ v.length = 2 ∧ 4 ≤ k) (hvt : ∀ j, j < v.length → t.getD (2 + j) 0 = v.getD j 0) (hlen : 2 + v.length ≤ t.length) : f_X0_declare_99 h a x (zb s) ((v.length : Nat) : Int) (k : Int) = some (dcW h a ((decV (k : Int) v).map (fun y => (k, y, s)))) := by
  have hl := hT.1
  have fin : ∀ y : Int, f_X0_declare_197 h a (zb s) (k : Int) y = some (dcW h a (some (k, y, s))) := fun y => by
    unfold f_X0_declare_197
    rw [gd_c R.1, set_p R hk7, obind_some]
    rfl
  have at2 : ∀ j, j < v.length → sAt h x ((2 + j : Nat) : Int) = some (v.getD j 0) := fun j hj => by
    unfold sAt
    rw [gd_c hk, ht, gd_zin (by omega) (by omega) (by omega), zix_nat (by omega), hvt j hj]
  have rng : ∀ j, j < v.length → 32 ≤ v.getD j 0 ∧ v.getD j 0 ≤ 126 := fun j hj => by rw [← hvt j hj]; exact hT.at (by omega)
  -- one step of the loop
  have stepN : ∀ (j : Nat) (w : Int), j < v.length → k ≠ 3 → f_X0_declare_105s h a x (zb s) ((v.length : Nat) : Int) (k : Int) w ((2 + j : Nat) : Int) = if 48 ≤ v.getD j 0 ∧ v.getD j 0 ≤ 57 then some (.inl (10 * w + v.getD j 0 - 48, ((2 + j + 1 : Nat) : Int))) else some (.inr h) := fun j w hj h3 => by
    have hr := rng j hj
    unfold f_X0_declare_105s f_X0_declare_156 f_X0_declare_178
    rw [if_ltp (by omega) (by omega) (by omega), at2 j hj, obind_some, if_eqn (by omega) (by omega) (by omega) (by omega) (by omega)]
    by_cases e1 : v.getD j 0 < 48
    · rw [if_ltp e1 (by omega) (by omega), if_neg (by omega)]
    · rw [if_ltn (by omega) (by omega) (by omega)]
      by_cases e2 : 57 < v.getD j 0
      · rw [if_ltp e2 (by omega) (by omega), if_neg (by omega)]
      · rw [if_ltn (by omega) (by omega) (by omega), if_eqn (by omega) (by omega) (by omega) (by omega) (by omega), if_pos (by omega)]
        rfl
  have endN : ∀ w : Int, 0 ≤ w → w ≤ 200 → f_X0_declare_105s h a x (zb s) ((v.length : Nat) : Int) (k : Int) w ((2 + v.length : Nat) : Int) = mr (if k = 2 ∧ w = 0 then some h else some (dcW h a (some (k, w, s)))) := fun w hw1 hw2 => by
    unfold f_X0_declare_105s f_X0_declare_186
    rw [if_ltn (by omega) (by omega) (by omega)]
    congr 1
    by_cases e2 : k = 2
    · rw [if_eqp (by omega)]
      by_cases ew : w = 0
      · rw [if_ltn (by omega) (by omega) (by omega), if_pos ⟨e2, ew⟩]
      · rw [if_ltp (by omega) (by omega) (by omega), if_neg (fun z => ew z.2), fin]
    · rw [if_eqn (by omega) (by omega) (by omega) (by omega) (by omega), if_neg (fun z => e2 z.1), fin]
  unfold f_X0_declare_99
  show iter _ _ = _
  by_cases h3 : k = 3
  · obtain ⟨c1, hc1⟩ : ∃ c1, v = [c1] := by
      rcases hv with z | z
      · match v, z with
        | [c1], _ => exact ⟨c1, rfl⟩
      · omega
    have hr := rng 0 (by rw [hc1]; simp)
    have h2 := at2 0 (by rw [hc1]; simp)
    rw [hc1] at hr h2 ⊢
    have hix := idxOf_eq (h := h) (n := 8) (by omega) (c := c1) (by have := hr.1; simp at this; omega) (by have := hr.2; simp at this; omega)
    have hrg := ixT_rng 8 (by omega) c1
    have hneg := bin_ix c1
    have hst : f_X0_declare_105s h a x (zb s) (([c1].length : Nat) : Int) (k : Int) 0 2 = if c1 = 98 ∨ c1 = 105 ∨ c1 = 110 then some (.inl (c1, 3)) else some (.inr h) := by
      unfold f_X0_declare_105s f_X0_declare_156 f_X0_declare_178
      have h2' : sAt h x 2 = some c1 := h2
      rw [if_ltp (by simp) (by simp) (by simp), h2', obind_some, if_eqp (by omega), gd_c (by omega), hix, obind_some]
      by_cases e1 : c1 = 98 ∨ c1 = 105 ∨ c1 = 110
      · have : ¬ ixT 8 c1 < 0 := fun z => (hneg.mp z) e1
        rw [if_ltn (by omega) (by omega) (by omega), if_pos e1, if_eqp (by omega)]
        rfl
      · rw [if_ltp (hneg.mpr e1) (by omega) (by omega), if_neg e1]
    unfold decV
    rw [if_pos (by omega)]
    simp only []
    by_cases e1 : c1 = 98 ∨ c1 = 105 ∨ c1 = 110
    · rw [if_pos e1] at hst ⊢
      rw [iter_in hst]
      rw [iter_mr (o := some (dcW h a (some (k, c1, s)))) (by
        have := endN c1 (by omega) (by omega)
        rw [hc1] at this
        rw [if_neg (fun z => by omega)] at this
        exact this)]
      rfl
    · rw [if_neg e1] at hst ⊢
      exact iter_out hst
  · unfold decV
    rw [if_neg (by omega)]
    rcases hv with hv | hv
    · obtain ⟨c1, hc1⟩ : ∃ c1, v = [c1] := by
        match v, hv with
        | [c1], _ => exact ⟨c1, rfl⟩
      have s0 := stepN 0 0 (by rw [hc1]; simp) h3
      rw [hc1] at s0 endN ⊢
      simp only [List.getD_cons_zero] at s0
      simp only []
      by_cases e1 : 48 ≤ c1 ∧ c1 ≤ 57
      · rw [if_pos e1] at s0
        rw [iter_in s0]
        have e2 := endN (10 * 0 + c1 - 48) (by omega) (by omega)
        refine (iter_mr e2).trans ?_
        by_cases e3 : k = 2 ∧ c1 = 48
        · rw [if_pos ⟨e3.1, by omega⟩, if_neg (fun z => z.2.2 ⟨by omega, e3.2⟩)]
          rfl
        · rw [if_neg (fun z => e3 ⟨z.1, by omega⟩), if_pos ⟨e1.1, e1.2, fun z => e3 ⟨by omega, z.2⟩⟩]
          show _ = some (dcW h a (some (k, c1 - 48, s)))
          rw [show 10 * 0 + c1 - 48 = c1 - 48 by omega]
      · rw [if_neg e1] at s0
        rw [if_neg (fun z => e1 ⟨z.1, z.2.1⟩)]
        exact iter_out s0
    · obtain ⟨c1, c2, hc1⟩ : ∃ c1 c2, v = [c1, c2] := by
        match v, hv.1 with
        | [c1, c2], _ => exact ⟨c1, c2, rfl⟩
      have hk4 := hv.2
      have s0 := stepN 0 0 (by rw [hc1]; simp) h3
      have s1 := stepN 1
      rw [hc1] at s0 s1 endN ⊢
      simp only [List.getD_cons_zero] at s0
      simp only []
      by_cases e1 : 48 ≤ c1 ∧ c1 ≤ 57
      · rw [if_pos e1] at s0
        rw [iter_in s0]
        have s1' := s1 (10 * 0 + c1 - 48) (by simp) h3
        have hg1 : ([c1, c2] : List Int).getD 1 0 = c2 := rfl
        rw [hg1] at s1'
        by_cases e2 : 48 ≤ c2 ∧ c2 ≤ 57
        · rw [if_pos e2] at s1'
          show iter _ _ = _
          rw [iter_in s1']
          have e3 := endN (10 * (10 * 0 + c1 - 48) + c2 - 48) (by omega) (by omega)
          refine (iter_mr e3).trans ?_
          rw [if_neg (fun z => by omega), if_pos ⟨by omega, e1, e2⟩]
          show _ = some (dcW h a (some (k, 10 * (c1 - 48) + (c2 - 48), s)))
          rw [show 10 * (10 * 0 + c1 - 48) + c2 - 48 = 10 * (c1 - 48) + (c2 - 48) by omega]
        · rw [if_neg e2] at s1'
          rw [if_neg (fun z => e2 z.2.2)]
          show iter _ _ = _
          exact iter_out s1'
      · rw [if_neg e1] at s0
        rw [if_neg (fun z => e1 z.2.1)]
        exact iter_out s0
end PS
