/-! the reference: a run is laid out -/
set_option maxRecDepth 100000
theorem iter_cg {S R : Type} {f : S → Option (S ⊕ R)} {s s' : S} (h : f s = f s') : iter f s = iter f s' := by
  cases hs : f s with
  | none =>
    have a1 : iter f s = none := iter_mr (o := none) hs
    have a2 : iter f s' = none := iter_mr (o := none) (h ▸ hs)
    rw [a1, a2]
  | some r =>
    cases r with
    | inl t => rw [iter_in hs]; exact (iter_in (h ▸ hs)).symm
    | inr r => rw [iter_out hs]; exact (iter_out (h ▸ hs)).symm
def MR (M0 : MS) (n : Nat) (L : List RK) (q : Nat → Nat) (X frm : Int) : LST → MS → Prop
  | (i, f, u, _, t, l, cx, cy), M => FLn M0 M ∧ (M.1 53 = frm + t ∧ M.1 55 = (if u < 0 then 0 else u) ∧ M.1 56 = hgh L f 0 (i - f) ∧ M.1 57 = (if u < 0 then 0 else 1) ∧ M.1 39 = M0.1 39 + l) ∧ (∃ lf : Nat, M.1 54 = (lf : Int) ∧ lf ≤ f ∧ ∀ k, lf ≤ k → k < f → rkk L k = 0) ∧ (u < 0 → ∀ k, f ≤ k → k < i → rkk L k ≠ 2) ∧ (∀ j, j < i → rkk L j = 2 → M.2 47 (q j) = 1 ∧ M.2 48 (q j) = X + cx j ∧ M.2 50 (q j) = (n : Int)) ∧ (∀ j, j < f → rkk L j = 2 → M.2 49 (q j) = frm + cy j) ∧ ∀ x, (∀ j, j < i → rkk L j = 2 → q j ≠ x) → M.2 47 x = M0.2 47 x ∧ M.2 48 x = M0.2 48 x ∧ M.2 49 x = M0.2 49 x ∧ M.2 50 x = M0.2 50 x
def GR (u g gm : Int) : Prop := 0 ≤ gm ∧ gm ≤ 9 ∧ (¬ u < 0 → gm = if g < 0 then 0 else g)
section ML
variable {M M' M0 M1 : MS} {L : List RK} {q : Nat → Nat} {i j n f : Nat} {bd g gm u t l W frm : Int} {cx cy : Nat → Int}
theorem hgh_no {m : Int} : ∀ d, (∀ k, f ≤ k → k < f + d → rkk L k ≠ 2) → hgh L f m d = m
  | 0, _ => rfl
  | d + 1, h => by
    rw [hgh_e, if_neg (h (f + d) (by omega) (by omega))]
    exact hgh_no d (fun k k1 k2 => h k k1 (by omega))
theorem hgh_app : ∀ d e (m : Int), hgh L f m (d + e) = hgh L (f + d) (hgh L f m d) e
  | d, 0, m => rfl
  | d, e + 1, m => by
    rw [← Nat.add_assoc, hgh_e, hgh_e, hgh_app d e m, Nat.add_assoc f d e]
theorem hgh_max {m : Int} : ∀ d, 0 ≤ m → hgh L f m d = max m (hgh L f 0 d)
  | 0, h => by unfold hgh; omega
  | d + 1, h => by
    rw [hgh_e, hgh_e, hgh_max d h]
    split <;> omega
/-- a part that begins nothing new, before the word's end -/
theorem lay_ink (hO : OKL L) (R : RnM M L q) (hj : j < L.length) (k2 : rkk L j = 2) : m_lay_18s M (n : Int) (i : Int) gm (j : Int) = some (.inl (M, (i : Int), gm, ((j + 1 : Nat) : Int))) := by
  have h183 := hO.1
  obtain ⟨r1, r2, r3⟩ := R
  obtain ⟨j1, j2, j3, j4⟩ := (r2 j hj).2 (by omega)
  have zl : zix (j : Int) = j := zix_nat (by omega)
  unfold m_lay_18s m_lay_50 m_lay_51 m_lay_88 m_lay_89 m_lay_134 m_lay_152
  rw [r1, if_ltn (by omega) (by omega) (by omega), if_ltp (by omega) (by omega) (by omega), gd_zin (by omega) (by omega) (by omega), zl, j1, if_ltn (by omega) (by omega) (by omega)]
  rw [if_ltp (by omega) (by omega) (by omega), if_eqp rfl, gd_zin (by omega) (by omega) (by omega), gd_zin (by omega) (by omega) (by omega), zix_nat (by omega), if_eqn (fun z => by have := j4.mp z; omega) (by omega) (by omega) (by omega) (by omega)]
  rw [if_eqn (by omega) (by omega) (by omega) (by omega) (by omega), if_eqp rfl, if_eqp rfl, if_eqp rfl, if_eqp rfl]
  rfl
/-- a break -/
theorem lay_brk (hO : OKL L) (R : RnM M L q) (hi : i < L.length) (k0 : rkk L i = 0) {x3 : Int} (h3 : x3 ≤ i) (h3' : -1 ≤ x3) : m_lay_18s M (n : Int) x3 gm (i : Int) = m_lay_110 M (n : Int) x3 gm (i : Int) 1 0 := by
  have h183 := hO.1
  obtain ⟨r1, r2, r3⟩ := R
  have hj := (r2 i hi).1 k0
  have zl : zix (i : Int) = i := zix_nat (by omega)
  unfold m_lay_18s m_lay_51 m_lay_88 m_lay_89
  rw [r1, if_ltn (by omega) (by omega) (by omega), if_ltp (by omega) (by omega) (by omega), gd_zin (by omega) (by omega) (by omega), zl, if_ltp hj.2 (by omega) (by omega)]
  rw [if_ltp (by omega) (by omega) (by omega), if_eqn (by omega) (by omega) (by omega) (by omega) (by omega)]
  rw [if_eqn (by omega) (by omega) (by omega) (by omega) (by omega), if_eqn (by omega) (by omega) (by omega) (by omega) (by omega)]
theorem lay_bln (hO : OKL L) (R : RnM M L q) (hi : i < L.length) (k1 : rkk L i = 1) {x3 : Int} (h3 : x3 ≤ i) (h3' : -1 ≤ x3) : m_lay_18s M (n : Int) x3 gm (i : Int) = m_lay_110 M (n : Int) x3 gm (i : Int) 0 1 := by
  have h183 := hO.1
  obtain ⟨r1, r2, r3⟩ := R
  obtain ⟨j1, j2, j3, j4⟩ := (r2 i hi).2 (by omega)
  have zl : zix (i : Int) = i := zix_nat (by omega)
  unfold m_lay_18s m_lay_50 m_lay_51 m_lay_88 m_lay_89
  rw [r1, if_ltn (by omega) (by omega) (by omega), if_ltp (by omega) (by omega) (by omega), gd_zin (by omega) (by omega) (by omega), zl, j1, if_ltn (by omega) (by omega) (by omega)]
  rw [if_ltp (by omega) (by omega) (by omega), if_eqp rfl, gd_zin (by omega) (by omega) (by omega), gd_zin (by omega) (by omega) (by omega), zix_nat (by omega), if_eqp (j4.mpr k1)]
  rw [if_eqn (by omega) (by omega) (by omega) (by omega) (by omega), if_eqp rfl, if_eqn (by omega) (by omega) (by omega) (by omega) (by omega)]
theorem lay_end (hO : OKL L) (R : RnM M L q) (hi : i = L.length) {x3 : Int} (h3 : x3 ≤ i) (h3' : -1 ≤ x3) : m_lay_18s M (n : Int) x3 gm (i : Int) = m_lay_110 M (n : Int) x3 gm (i : Int) 0 0 := by
  have h183 := hO.1
  obtain ⟨r1, r2, r3⟩ := R
  unfold m_lay_18s m_lay_50 m_lay_51 m_lay_88 m_lay_89
  rw [r1, if_ltn (by omega) (by omega) (by omega), if_ltn (by omega) (by omega) (by omega)]
  rw [if_ltn (by omega) (by omega) (by omega), if_eqp (by omega)]
theorem lay110_w {x3 x5 x6 x7 : Int} (h : x3 < x5) (h1 : -1 ≤ x3) (h2 : x5 ≤ 1000) : m_lay_110 M (n : Int) x3 gm x5 x6 x7 = Option.bind (m_putWord M (n : Int) x3 x5 gm) (fun y => m_lay_129 y (n : Int) 0 x5 x6 x7) := by
  unfold m_lay_110
  rw [if_ltp h (by omega) (by omega)]
theorem lay110_n {x5 x6 x7 : Int} (h1 : -1 ≤ x5) (h2 : x5 ≤ 1000) : m_lay_110 M (n : Int) x5 gm x5 x6 x7 = m_lay_129 M (n : Int) gm x5 x6 x7 := by
  unfold m_lay_110
  rw [if_ltn (by omega) (by omega) (by omega)]
/-- a word's end is a part's beginning -/
theorem lay_word (hO : OKL L) (R : RnM M L q) (hij : i < j) (hj : j ≤ L.length) (hk : j = L.length ∨ rkk L j ≠ 2) (hM : m_putWord M (n : Int) (i : Int) (j : Int) gm = some M1) (R1 : RnM M1 L q) : m_lay_18s M (n : Int) (i : Int) gm (j : Int) = m_lay_18s M1 (n : Int) (j : Int) 0 (j : Int) := by
  have h183 := hO.1
  by_cases z : j = L.length
  · rw [lay_end hO R z (by omega) (by omega), lay_end hO R1 z (by omega) (by omega), lay110_w (by omega) (by omega) (by omega), hM, obind_some, lay110_n (by omega) (by omega)]
  · have hat := hO.at (i := j) (by omega)
    have hk' : rkk L j ≠ 2 := by rcases hk with y | y; exact (z y).elim; exact y
    by_cases k0 : rkk L j = 0
    · rw [lay_brk hO R (by omega) k0 (by omega) (by omega), lay_brk hO R1 (by omega) k0 (by omega) (by omega), lay110_w (by omega) (by omega) (by omega), hM, obind_some, lay110_n (by omega) (by omega)]
    · have k1 : rkk L j = 1 := by omega
      rw [lay_bln hO R (by omega) k1 (by omega) (by omega), lay_bln hO R1 (by omega) k1 (by omega) (by omega), lay110_w (by omega) (by omega) (by omega), hM, obind_some, lay110_n (by omega) (by omega)]
end ML
