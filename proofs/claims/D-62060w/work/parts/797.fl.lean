/-! a run's lines, as a plain thing -/
set_option maxRecDepth 100000
/-- a part of a run: 0 a break, 1 a blank, 2 a letter; its size -/
abbrev RK : Type := Nat × Int
def rkk (L : List RK) (i : Nat) : Nat := (L.getD i (0, 0)).1
def rsz (L : List RK) (i : Nat) : Int := (L.getD i (0, 0)).2
def OKL (L : List RK) : Prop := L.length ≤ 183 ∧ ∀ p ∈ L, p.1 ≤ 2 ∧ 1 ≤ p.2 ∧ p.2 ≤ 9
def wEnd (L : List RK) (i : Nat) : Nat := i + ((L.drop i).takeWhile (fun p => decide (p.1 = 2))).length
def sumS (L : List RK) (a : Nat) : Nat → Int
  | 0 => 0
  | n + 1 => sumS L a n + rsz L (a + n)
/-- the height of a line: at least m -/
def hgh (L : List RK) (a : Nat) (m : Int) : Nat → Int
  | 0 => m
  | n + 1 => if rkk L (a + n) = 2 then max (hgh L a m n) (rsz L (a + n)) else hgh L a m n
/-- where, where the line begins, how wide it is (-1: nothing), the gap, the top, how many lines, places -/
abbrev LST : Type := Nat × Nat × Int × Int × Int × Int × (Nat → Int) × (Nat → Int)
def lnY (L : List RK) (f t : Nat) (m top : Int) (cy : Nat → Int) (k : Nat) : Int := if f ≤ k ∧ k < t then top + hgh L f m (t - f) - rsz L k else cy k
def wdX (L : List RK) (i j : Nat) (u : Int) (cx : Nat → Int) (k : Nat) : Int := if i ≤ k ∧ k < j then u + sumS L i (k - i) else cx k
def lstep (W : Int) (L : List RK) : LST → LST
  | (i, f, u, g, t, l, cx, cy) =>
    if rkk L i = 0 then (i + 1, i + 1, -1, -1, t + hgh L f (if u < 0 then rsz L i else 0) (i - f), l + 1, cx, lnY L f i (if u < 0 then rsz L i else 0) t cy)
    else if rkk L i = 1 then (i + 1, f, u, if g < 0 then rsz L i else g, t, l, cx, cy)
    else if ¬ u < 0 ∧ W < u + g + sumS L i (wEnd L i - i) then (wEnd L i, i, sumS L i (wEnd L i - i), -1, t + hgh L f 0 (i - f), l + 1, wdX L i (wEnd L i) 0 cx, lnY L f i 0 t cy)
    else (wEnd L i, f, (if u < 0 then 0 else u + g) + sumS L i (wEnd L i - i), -1, t, l, wdX L i (wEnd L i) (if u < 0 then 0 else u + g) cx, cy)
def lrun (W : Int) (L : List RK) : Nat → LST → LST
  | 0, S => S
  | n + 1, S => if S.1 < L.length then lrun W L n (lstep W L S) else S
def lfin (L : List RK) : LST → Int × Int × (Nat → Int) × (Nat → Int)
  | (_, f, u, _, t, l, cx, cy) => if u < 0 then (t, l, cx, cy) else (t + hgh L f 0 (L.length - f), l + 1, cx, lnY L f L.length 0 t cy)
def LST0 : LST := (0, 0, -1, -1, 0, 0, fun _ => 0, fun _ => 0)
/-- top, lines, places -/
def FL (W : Int) (L : List RK) : Int × Int × (Nat → Int) × (Nat → Int) := lfin L (lrun W L L.length LST0)
/-- what holds on the way -/
def LB (L : List RK) : LST → Prop
  | (i, f, u, g, t, l, cx, cy) => i ≤ L.length ∧ f ≤ i ∧ -1 ≤ u ∧ -1 ≤ g ∧ g ≤ 9 ∧ (g < 0 → u ≤ 9 * (i : Int)) ∧ (u + g ≤ 9 * (i : Int)) ∧ 0 ≤ t ∧ t ≤ 9 * (f : Int) ∧ 0 ≤ l ∧ l ≤ f ∧ (¬ u < 0 → f < i) ∧ (¬ u < 0 → g < 0 → i = L.length ∨ rkk L i ≠ 2) ∧ (∀ k, 0 ≤ cx k ∧ cx k ≤ 1700) ∧ (∀ k, rkk L k = 2 → 0 ≤ cy k ∧ cy k ≤ 1700) ∧ g ≠ 0
section FL
variable {L : List RK} {W : Int} {i j f : Nat}
theorem OKL.at (h : OKL L) (hi : i < L.length) : rkk L i ≤ 2 ∧ 1 ≤ rsz L i ∧ rsz L i ≤ 9 := by
  unfold rkk rsz
  rw [gD hi]
  exact h.2 _ (List.getElem_mem hi)
theorem wEnd_le (h : i ≤ L.length) : wEnd L i ≤ L.length := by
  unfold wEnd
  have : ((L.drop i).takeWhile (fun p => decide (p.1 = 2))).length ≤ (L.drop i).length := by
    have := List.takeWhile_append_dropWhile (p := fun p : RK => decide (p.1 = 2)) (l := L.drop i)
    have h2 := congrArg List.length this
    rw [List.length_append] at h2; omega
  rw [List.length_drop] at this; omega
theorem wEnd_gt (hi : i < L.length) (hk : rkk L i = 2) : i < wEnd L i := by
  unfold wEnd
  rw [List.drop_eq_getElem_cons hi, List.takeWhile_cons, if_pos (by unfold rkk at hk; rw [gD hi] at hk; simpa using hk)]
  simp
theorem drop_gD {α : Type} (l : List α) (i k : Nat) (d : α) : (l.drop i).getD k d = l.getD (i + k) d := by simp [List.getD]
theorem wEnd_in (h1 : i ≤ j) (h2 : j < wEnd L i) : j < L.length ∧ rkk L j = 2 := by
  unfold wEnd at h2
  have hle := tw_le (fun p : RK => decide (p.1 = 2)) (L.drop i)
  rw [List.length_drop] at hle
  have := tw_lt (fun p : RK => decide (p.1 = 2)) (L.drop i) (j - i) (0, 0) (by omega)
  rw [drop_gD, show i + (j - i) = j by omega] at this
  exact ⟨by omega, by unfold rkk; simpa using this⟩
theorem wEnd_at (hi : i ≤ L.length) (hj : wEnd L i < L.length) : rkk L (wEnd L i) ≠ 2 := by
  unfold wEnd at hj ⊢
  have := tw_at (fun p : RK => decide (p.1 = 2)) (L.drop i) (0, 0) (by rw [List.length_drop]; omega)
  rw [drop_gD] at this
  unfold rkk
  simpa using this
theorem sumS_b (h : OKL L) : ∀ n, i + n ≤ L.length → (n : Int) ≤ sumS L i n ∧ sumS L i n ≤ 9 * n
  | 0, _ => by unfold sumS; omega
  | n + 1, hn => by
    have := sumS_b h n (by omega)
    have h2 := h.at (i := i + n) (by omega)
    unfold sumS
    omega
theorem hgh_b (h : OKL L) {m : Int} (hm : 0 ≤ m ∧ m ≤ 9) : ∀ n, f + n ≤ L.length → 0 ≤ hgh L f m n ∧ hgh L f m n ≤ 9 ∧ m ≤ hgh L f m n ∧ ∀ k, f ≤ k → k < f + n → rkk L k = 2 → rsz L k ≤ hgh L f m n
  | 0, _ => by unfold hgh; exact ⟨hm.1, hm.2, Int.le_refl _, fun k h1 h2 => by omega⟩
  | n + 1, hn => by
    obtain ⟨a1, a2, a3, a4⟩ := hgh_b h hm n (by omega)
    have h2 := h.at (i := f + n) (by omega)
    unfold hgh
    split
    · refine ⟨by omega, by omega, by omega, fun k k1 k2 k3 => ?_⟩
      by_cases z : k = f + n
      · rw [z]; omega
      · have := a4 k k1 (by omega) k3; omega
    · next q =>
      refine ⟨a1, a2, a3, fun k k1 k2 k3 => ?_⟩
      by_cases z : k = f + n
      · rw [z] at k3; exact (q k3).elim
      · exact a4 k k1 (by omega) k3
theorem hgh_e (L : List RK) (f : Nat) (m : Int) (n : Nat) : hgh L f m (n + 1) = if rkk L (f + n) = 2 then max (hgh L f m n) (rsz L (f + n)) else hgh L f m n := rfl
theorem LB0 (L : List RK) : LB L LST0 := by
  unfold LB LST0
  refine ⟨by omega, by omega, by omega, by omega, by omega, by omega, by omega, by omega, by omega, by omega, by omega, by omega, by omega, fun k => ⟨Int.le_refl _, (by decide : (0 : Int) ≤ 1700)⟩, fun k _ => ⟨Int.le_refl _, (by decide : (0 : Int) ≤ 1700)⟩, by omega⟩
theorem lnY_b (h : OKL L) {t : Nat} {m top : Int} {cy : Nat → Int} (hm : 0 ≤ m ∧ m ≤ 9) (hf : f ≤ t) (ht : t ≤ L.length) (h0 : 0 ≤ top) (h1 : top ≤ 9 * (f : Int)) (hc : ∀ k, rkk L k = 2 → 0 ≤ cy k ∧ cy k ≤ 1700) (k : Nat) (h2 : rkk L k = 2) : 0 ≤ lnY L f t m top cy k ∧ lnY L f t m top cy k ≤ 1700 := by
  unfold lnY
  split
  · next q =>
    obtain ⟨a1, a2, a3, a4⟩ := hgh_b (f := f) h hm (t - f) (by omega)
    have h3 := h.at (i := k) (by omega)
    have h4 := h.1
    have := a4 k q.1 (by omega) h2
    omega
  · exact hc k h2
theorem wdX_b (h : OKL L) {u : Int} {cx : Nat → Int} (hj : j ≤ L.length) (h0 : 0 ≤ u) (h1 : u + 9 * ((j : Int) - i) ≤ 1700) (hc : ∀ k, 0 ≤ cx k ∧ cx k ≤ 1700) (k : Nat) : 0 ≤ wdX L i j u cx k ∧ wdX L i j u cx k ≤ 1700 := by
  unfold wdX
  split
  · next q =>
    have := sumS_b (i := i) h (k - i) (by omega)
    omega
  · exact hc k
theorem LB.step (h : OKL L) {S : LST} (hB : LB L S) (hi : S.1 < L.length) : LB L (lstep W L S) ∧ S.1 < (lstep W L S).1 := by
  obtain ⟨i, f, u, g, t, l, cx, cy⟩ := S
  obtain ⟨b1, b2, b3, b4, b5, b6, b7, b8, b9, b10, b11, b12, b13, b14, b15, b16⟩ := hB
  simp only [] at hi
  have hat := h.at hi
  have h183 := h.1
  unfold lstep
  simp only []
  split
  · next k0 =>
    have hm : 0 ≤ (if u < 0 then rsz L i else 0) ∧ (if u < 0 then rsz L i else 0) ≤ 9 := by split <;> omega
    have hh := hgh_b (f := f) h hm (i - f) (by omega)
    refine ⟨⟨by omega, by omega, by omega, by omega, by omega, by omega, by omega, by omega, by omega, by omega, by omega, by omega, by omega, b14, fun k hk => lnY_b h hm b2 b1 b8 b9 b15 k hk, by omega⟩, by omega⟩
  · split
    · next k0 k1 =>
      refine ⟨⟨by omega, by omega, by omega, ?_, ?_, ?_, ?_, by omega, by omega, by omega, by omega, fun z => by have := b12 z; omega, ?_, b14, b15, ?_⟩, by omega⟩ <;> split <;> omega
    · next k0 k1 =>
      have k2 : rkk L i = 2 := by omega
      have hw1 := wEnd_gt hi k2
      have hw2 := wEnd_le (L := L) (i := i) (by omega)
      have hs := sumS_b (i := i) h (wEnd L i - i) (by omega)
      have hat2 : wEnd L i = L.length ∨ rkk L (wEnd L i) ≠ 2 := by
        by_cases z : wEnd L i < L.length
        · exact Or.inr (wEnd_at (by omega) z)
        · exact Or.inl (by omega)
      split
      · next q =>
        have hf := b12 q.1
        have hh := hgh_b (f := f) (m := 0) h (by omega) (i - f) (by omega)
        refine ⟨⟨hw2, by omega, by omega, by omega, by omega, by omega, by omega, by omega, by omega, by omega, by omega, fun _ => hw1, fun _ _ => hat2, fun k => wdX_b h hw2 (by omega) (by omega) b14 k, fun k hk => lnY_b h (by omega) b2 b1 b8 b9 b15 k hk, by omega⟩, hw1⟩
      · next q =>
        have hu0 : 0 ≤ (if u < 0 then 0 else u + g) ∧ (if u < 0 then 0 else u + g) ≤ 9 * (i : Int) := by
          split
          · omega
          · next z =>
            have : ¬ g < 0 := fun y => by rcases b13 z y with w | w; omega; exact w k2
            omega
        refine ⟨⟨hw2, by omega, by omega, by omega, by omega, by omega, by omega, by omega, by omega, by omega, by omega, fun _ => by omega, fun _ _ => hat2, fun k => wdX_b h hw2 hu0.1 (by omega) b14 k, b15, by omega⟩, hw1⟩
theorem LB.run (h : OKL L) : ∀ (n : Nat) (S : LST), LB L S → L.length ≤ S.1 + n → LB L (lrun W L n S) ∧ (lrun W L n S).1 = L.length
  | 0, S, hB, hn => by
    unfold lrun
    obtain ⟨i, f, u, g, t, l, cx, cy⟩ := S
    exact ⟨hB, by have := hB.1; simp only [] at hn ⊢; omega⟩
  | n + 1, S, hB, hn => by
    unfold lrun
    split
    · next q =>
      have := hB.step (W := W) h q
      exact LB.run h n _ this.1 (by omega)
    · obtain ⟨i, f, u, g, t, l, cx, cy⟩ := S
      exact ⟨hB, by have := hB.1; simp only [] at *; omega⟩
theorem FL_b (h : OKL L) : 0 ≤ (FL W L).1 ∧ (FL W L).1 ≤ 9 * (L.length : Int) ∧ 0 ≤ (FL W L).2.1 ∧ (FL W L).2.1 ≤ L.length ∧ (∀ k, 0 ≤ (FL W L).2.2.1 k ∧ (FL W L).2.2.1 k ≤ 1700) ∧ ∀ k, rkk L k = 2 → 0 ≤ (FL W L).2.2.2 k ∧ (FL W L).2.2.2 k ≤ 1700 := by
  obtain ⟨hB, hi⟩ := LB.run (W := W) h L.length LST0 (LB0 L) (by omega)
  unfold FL
  generalize lrun W L L.length LST0 = S at *
  obtain ⟨i, f, u, g, t, l, cx, cy⟩ := S
  obtain ⟨b1, b2, b3, b4, b5, b6, b7, b8, b9, b10, b11, b12, b13, b14, b15, b16⟩ := hB
  simp only [] at hi
  unfold lfin
  simp only []
  split
  · exact ⟨b8, (by omega : t ≤ 9 * (L.length : Int)), b10, (by omega : l ≤ (L.length : Int)), b14, b15⟩
  · next z =>
    have hf := b12 z
    have hh := hgh_b (f := f) (m := 0) h (by omega) (L.length - f) (by omega)
    exact ⟨(by omega : 0 ≤ t + hgh L f 0 (L.length - f)), (by omega : t + hgh L f 0 (L.length - f) ≤ 9 * (L.length : Int)), (by omega : 0 ≤ l + 1), (by omega : l + 1 ≤ (L.length : Int)), b14, fun k hk => lnY_b h (by omega) (by omega) (Nat.le_refl _) b8 b9 b15 k hk⟩
/-- whether a run has lines -/
def hasL (L : List RK) : Bool := L.any (fun p => decide (p.1 ≠ 1))
theorem hasL_f : hasL L = false ↔ ∀ k, k < L.length → rkk L k = 1 := by
  unfold hasL
  rw [List.any_eq_false]
  constructor
  · intro q k hk
    have := q _ (List.getElem_mem hk)
    unfold rkk
    rw [gD hk]
    simpa using this
  · intro q p hp
    obtain ⟨k, hk, e⟩ := List.getElem_of_mem hp
    have := q k hk
    unfold rkk at this
    rw [gD hk, e] at this
    simp [this]
def LN (L : List RK) : LST → Prop
  | (i, _, u, _, t, l, _, _) => (l = 0 → t = 0) ∧ ((l = 0 ∧ u < 0) ↔ ∀ k, k < i → rkk L k = 1)
theorem LN.step (h : OKL L) {S : LST} (hB : LB L S) (hN : LN L S) (hi : S.1 < L.length) : LN L (lstep W L S) := by
  obtain ⟨i, f, u, g, t, l, cx, cy⟩ := S
  obtain ⟨b1, b2, b3, b4, b5, b6, b7, b8, b9, b10, b11, b12, b13, b14, b15, b16⟩ := hB
  obtain ⟨n1, n2⟩ := hN
  simp only [] at hi
  have hat := h.at hi
  unfold lstep
  simp only []
  split
  · next k0 =>
    refine ⟨fun z => by omega, fun z => by omega, fun z => ?_⟩
    have := z i (by omega)
    omega
  · split
    · next k0 k1 =>
      refine ⟨n1, ?_⟩
      rw [n2]
      constructor
      · intro q k hk
        by_cases z : k = i
        · rw [z]; exact k1
        · exact q k (by omega)
      · intro q k hk; exact q k (by omega)
    · next k0 k1 =>
      have k2 : rkk L i = 2 := by omega
      have hw1 := wEnd_gt hi k2
      have hw2 := wEnd_le (L := L) (i := i) (by omega)
      have hs := sumS_b (i := i) h (wEnd L i - i) (by omega)
      split
      · next q =>
        refine ⟨fun z => by omega, fun z => by omega, fun z => ?_⟩
        have := z i (by omega)
        omega
      · next q =>
        refine ⟨n1, fun z => ?_, fun z => ?_⟩
        · have hu0 : 0 ≤ (if u < 0 then 0 else u + g) := by
            split
            · omega
            · next z =>
              have : ¬ g < 0 := fun y => by rcases b13 z y with w | w; omega; exact w k2
              omega
          omega
        · have := z i (by omega)
          omega
theorem LN.run (h : OKL L) : ∀ (n : Nat) (S : LST), LB L S → LN L S → LN L (lrun W L n S)
  | 0, S, hB, hN => hN
  | n + 1, S, hB, hN => by
    unfold lrun
    split
    · next q => exact LN.run h n _ (hB.step (W := W) h q).1 (hN.step h hB q)
    · exact hN
theorem FL_l (h : OKL L) : ((FL W L).2.1 = 0 ↔ hasL L = false) ∧ ((FL W L).2.1 = 0 → (FL W L).1 = 0) := by
  obtain ⟨hB, hi⟩ := LB.run (W := W) h L.length LST0 (LB0 L) (by omega)
  have hN := LN.run (W := W) h L.length LST0 (LB0 L) (by
    unfold LN LST0
    exact ⟨fun _ => rfl, fun _ k hk => by omega, fun _ => ⟨rfl, by omega⟩⟩)
  rw [hasL_f]
  unfold FL
  generalize lrun W L L.length LST0 = S at *
  obtain ⟨i, f, u, g, t, l, cx, cy⟩ := S
  obtain ⟨b1, b2, b3, b4, b5, b6, b7, b8, b9, b10, b11, b12, b13, b14, b15, b16⟩ := hB
  obtain ⟨n1, n2⟩ := hN
  simp only [] at hi
  rw [hi] at n2
  unfold lfin
  simp only []
  split
  · next z =>
    refine ⟨?_, n1⟩
    rw [← n2]
    exact ⟨fun y => ⟨y, z⟩, fun y => y.1⟩
  · next z =>
    have e : ¬ (l + 1 = 0) := by omega
    refine ⟨⟨fun y => (e y).elim, fun y => ?_⟩, fun y => (e y).elim⟩
    exact (z (n2.mpr y).2).elim
end FL
