/-! the reference finds out which rules fit -/
set_option maxRecDepth 100000
theorem zand_le (a b : Int) : -2147483648 ≤ zand a b ∧ zand a b < 2147483648 := by
  unfold zand
  exact ⟨by have := Int32.le_toInt (zI a &&& zI b); simpa using this, by have := Int32.toInt_lt (zI a &&& zI b); simpa using this⟩
theorem zfit (p c : Int) (hp : -2147483648 ≤ p ∧ p < 2147483648) : zand p (zxor c (-1)) = 0 ↔ zand c p = p := by
  have h1 : zI (-1 : Int) = -1 := by decide
  have key : ∀ x y : Int32, x &&& (y ^^^ -1) = 0 ↔ y &&& x = x := by
    intro x y
    have e : (y ^^^ -1) = ~~~ y := by
      apply Int32.toBitVec_inj.mp
      simp only [Int32.toBitVec_xor, Int32.toBitVec_not]
      have : (-1 : Int32).toBitVec = BitVec.allOnes 32 := by decide
      rw [this, BitVec.xor_allOnes]
    rw [e]
    constructor
    · intro h
      apply Int32.toBitVec_inj.mp
      have h' := congrArg Int32.toBitVec h
      simp only [Int32.toBitVec_and, Int32.toBitVec_not, Int32.toBitVec_zero] at h' ⊢
      apply BitVec.eq_of_getLsbD_eq
      intro i hi
      have hb := congrArg (fun z => z.getLsbD i) h'
      simp only [BitVec.getLsbD_and, BitVec.getLsbD_not, BitVec.getLsbD_zero, hi, decide_true, Bool.true_and] at hb ⊢
      cases hx : x.toBitVec.getLsbD i <;> cases hy : y.toBitVec.getLsbD i <;> simp_all
    · intro h
      apply Int32.toBitVec_inj.mp
      have h' := congrArg Int32.toBitVec h
      simp only [Int32.toBitVec_and, Int32.toBitVec_not, Int32.toBitVec_zero] at h' ⊢
      apply BitVec.eq_of_getLsbD_eq
      intro i hi
      have hb := congrArg (fun z => z.getLsbD i) h'
      simp only [BitVec.getLsbD_and, BitVec.getLsbD_not, BitVec.getLsbD_zero, hi, decide_true, Bool.true_and] at hb ⊢
      cases hx : x.toBitVec.getLsbD i <;> cases hy : y.toBitVec.getLsbD i <;> simp_all
  unfold zand zxor
  rw [zI_of, h1]
  have k := key (zI p) (zI c)
  constructor
  · intro h
    have h0 : zI p &&& (zI c ^^^ -1) = 0 := by
      apply Int32.toInt_inj.mp
      rw [h]; rfl
    rw [k.mp h0, zti hp.1 hp.2]
  · intro h
    have h0 : zI c &&& zI p = zI p := by
      apply Int32.toInt_inj.mp
      rw [h, zti hp.1 hp.2]
    rw [k.mpr h0]; rfl
theorem capB_rng (l : List Int) : ∀ a : Int, (-2147483648 ≤ a ∧ a < 2147483648) → -2147483648 ≤ l.foldl capB a ∧ l.foldl capB a < 2147483648 := by
  induction l with
  | nil => intro a h; exact h
  | cons c l ih =>
    intro a h
    rw [List.foldl_cons]
    refine ih _ ?_
    unfold capB
    split
    · unfold zor
      exact ⟨by have := Int32.le_toInt (zI a ||| zI (zshl 1 (c - 65))); simpa using this, by have := Int32.toInt_lt (zI a ||| zI (zshl 1 (c - 65))); simpa using this⟩
    · exact h
theorem ptC_rng (l : List Int) : -2147483648 ≤ ptC l ∧ ptC l < 2147483648 := capB_rng _ 0 (by omega)
