/-! the page: characters are painted -/
set_option maxRecDepth 100000
def bitB (a s i j : Int) : Bool := decide (zI (zand (zshr a ((2 * (zdiv (2 * j) s)) + (zdiv (2 * i) s))) 1) = zI 1)
/-- whether a character makes a pixel -/
def inkB (a X Y s x y : Int) : Bool := decide ((0 ≤ x - X ∧ x - X < s) ∧ 0 ≤ y - Y ∧ y - Y < s) && bitB a s (x - X) (y - Y)
section PC
variable {h h' h1 h2 : HP} {pg r : Nat} {φ : Nat → Nat} {T : TS} {rs : List RL} {n p k q j x y u X Y : Nat} {Wd Lf tl tp : Nat → Int} {v a : Int}
theorem if_bit {α : Type} {s i j : Int} {d : Decidable (zI (zand (zshr a ((2 * (zdiv (2 * j) s)) + (zdiv (2 * i) s))) 1) = zI 1)} {x y : α} : (@ite α (zI (zand (zshr a ((2 * (zdiv (2 * j) s)) + (zdiv (2 * i) s))) 1) = zI 1) d x y) = if bitB a s i j then x else y := by
  unfold bitB
  by_cases z : zI (zand (zshr a ((2 * (zdiv (2 * j) s)) + (zdiv (2 * i) s))) 1) = zI 1
  · rw [if_pos z, if_pos (by simpa using z)]
  · rw [if_neg z, if_neg (by simpa using z)]
/-- a row of a character -/
theorem gl_row (G : PG h pg φ T rs v) (hW : WF T) (hrs : ∀ r ∈ rs, okRV r) (hv : 1 ≤ v ∧ v ≤ 64) (hu : u < tN T) (hm : nmQ T u ≠ 1) (hj : Y + j < 64) (hX : X < 65536) : ∃ h', f_X0_glyph_31 h pg a (X : Int) (Y : Int) (φ (ioP T u)) (vlP T rs 2 u) (j : Int) 0 = some (.inl (h', ((j + 1 : Nat) : Int))) ∧ AgP pg h h' ∧ ∀ x' y', x' < 64 → y' < 64 → pxl h' pg x' y' = if y' = Y + j ∧ X ≤ x' ∧ ((x' : Int) < X + vlP T rs 2 u ∧ (x' : Int) < v) ∧ bitB a (vlP T rs 2 u) ((x' : Int) - X) j = true then vlP T rs 0 u else pxl h pg x' y' := by
  have z0 : zix 0 = 0 := by decide
  have hvr := vl_rng hW hrs hu
  have hne0 : ¬ zI (vlP T rs 2 u) = zI 0 := fun z => by
    have := (zI_eq (by omega) (by omega) (by omega) (by omega)).mp z
    omega
  unfold f_X0_glyph_31
  obtain ⟨z, hI, hz⟩ := loopX (f := fun (z : HP × Int) => f_X0_glyph_31s z.1 pg a (X : Int) (Y : Int) (φ (ioP T u)) (vlP T rs 2 u) (j : Int) z.2) (fun k z => z.2 = (k : Int) ∧ AgP pg h z.1 ∧ ∀ x' y', x' < 64 → y' < 64 → pxl z.1 pg x' y' = if y' = Y + j ∧ X ≤ x' ∧ x' < X + k ∧ bitB a (vlP T rs 2 u) ((x' : Int) - X) j = true then vlP T rs 0 u else pxl h pg x' y') (a := 0) (b := min (vlP T rs 2 u).toNat (v.toNat - X)) (s0 := (h, 0)) (by omega) ⟨rfl, AgP.refl pg h, fun x' y' _ _ => by rw [if_neg (fun w => by omega)]⟩ (fun k z k1 k2 hz => by
    obtain ⟨g, w⟩ := z
    obtain ⟨i1, i2, i3⟩ := hz
    have i1 : w = (k : Int) := i1
    subst i1
    have Gg := G.agp hW i2
    obtain ⟨c1, c2, c3, c4⟩ := Gg.1.el hW hu hm
    have e64 : (64 * ((Y : Int) + (j : Int)) + (X : Int) + (k : Int)) = ((64 * (Y + j) + X + k : Nat) : Int) := by omega
    show ∃ s', f_X0_glyph_31s g pg a (X : Int) (Y : Int) (φ (ioP T u)) (vlP T rs 2 u) (j : Int) (k : Int) = some (.inl s') ∧ _
    unfold f_X0_glyph_31s f_X0_glyph_99
    rw [if_ltp (by omega) (by omega) (by omega), gd_c Gg.1.1.1.1.1, Gg.2.2.2, if_ltp (by omega) (by omega) (by omega), gd_c hne0, gd_c hne0, if_bit]
    cases hbit : bitB a (vlP T rs 2 u) (k : Int) (j : Int) with
    | true =>
      rw [if_pos (show true = true from rfl), gd_c Gg.1.1.1.1.1, gd_c c1.1, c1.2.2.2.1, obind_some, gd_c (by rw [c1.2.2.2.2.1]; decide), gd_zin (by omega) (by rw [c1.2.2.2.2.2.1]; omega) (by rw [c1.2.2.2.2.2.1]; omega), Gg.2.1.1, obind_some, gd_c Gg.2.1.2.1, e64, gd_zin (by omega) (by rw [Gg.2.1.2.2]; omega) (by rw [Gg.2.1.2.2]; omega), zix_nat (by omega), z0, c2 0 (by omega), zi2b_s (c := vlP T rs 0 u) (by omega) (by omega), zi2b_s (c := vlP T rs 0 u) (by omega) (by omega), bnd_eq]
      refine ⟨_, rfl, by show (k : Int) + 1 = _; omega, i2.w _ _, fun x' y' hx' hy' => ?_⟩
      rw [px_w, i3 x' y' hx' hy']
      by_cases t1 : 64 * y' + x' = 64 * (Y + j) + X + k
      · have t2 : y' = Y + j ∧ x' = X + k := by omega
        rw [if_pos t1, if_pos ⟨t2.1, by omega, by omega, by rw [t2.2, show ((X + k : Nat) : Int) - X = (k : Int) by omega]; exact hbit⟩]
      · rw [if_neg t1]
        by_cases t2 : y' = Y + j ∧ X ≤ x' ∧ x' < X + k ∧ bitB a (vlP T rs 2 u) ((x' : Int) - X) j = true
        · rw [if_pos t2, if_pos ⟨t2.1, t2.2.1, by omega, t2.2.2.2⟩]
        · rw [if_neg t2, if_neg (fun w => t2 ⟨w.1, w.2.1, by have : x' ≠ X + k := fun s => t1 (by have := w.1; omega)
                                                             have := w.2.2.1; omega, w.2.2.2⟩)]
    | false =>
      rw [if_neg (show ¬ (false = true) by simp)]
      refine ⟨_, rfl, by show (k : Int) + 1 = _; omega, i2, fun x' y' hx' hy' => ?_⟩
      rw [i3 x' y' hx' hy']
      by_cases t2 : y' = Y + j ∧ X ≤ x' ∧ x' < X + k ∧ bitB a (vlP T rs 2 u) ((x' : Int) - X) j = true
      · rw [if_pos t2, if_pos ⟨t2.1, t2.2.1, by omega, t2.2.2.2⟩]
      · rw [if_neg t2, if_neg (fun w => t2 ⟨w.1, w.2.1, by
          have : x' ≠ X + k := fun s => by
            have hb := w.2.2.2
            rw [s, show ((X + k : Nat) : Int) - X = (k : Int) by omega, hbit] at hb
            cases hb
          have := w.2.2.1
          omega, w.2.2.2⟩)])
  obtain ⟨g, w⟩ := z
  obtain ⟨i1, i2, i3⟩ := hI
  have i1 : w = ((min (vlP T rs 2 u).toNat (v.toNat - X) : Nat) : Int) := i1
  subst i1
  have Gg := G.agp hW i2
  refine ⟨g, ?_, i2, fun x' y' hx' hy' => ?_⟩
  · rw [hz]
    refine iter_out ?_
    simp only []
    unfold f_X0_glyph_31s f_X0_glyph_105
    rw [gd_c Gg.1.1.1.1.1, Gg.2.2.2]
    by_cases t : ((min (vlP T rs 2 u).toNat (v.toNat - X) : Nat) : Int) < vlP T rs 2 u
    · rw [if_ltp t (by omega) (by omega), if_ltn (by omega) (by omega) (by omega)]; rfl
    · rw [if_ltn (by omega) (by omega) (by omega)]; rfl
  · rw [i3 x' y' hx' hy']
    by_cases t : y' = Y + j ∧ X ≤ x' ∧ x' < X + min (vlP T rs 2 u).toNat (v.toNat - X) ∧ bitB a (vlP T rs 2 u) ((x' : Int) - X) j = true
    · rw [if_pos t, if_pos ⟨t.1, t.2.1, by have := t.2.2.1; omega, t.2.2.2⟩]
    · rw [if_neg t, if_neg (fun w => t ⟨w.1, w.2.1, by have := w.2.2.1; omega, w.2.2.2⟩)]
theorem glyph_p (G : PG h pg φ T rs v) (hW : WF T) (hrs : ∀ r ∈ rs, okRV r) (hv : 1 ≤ v ∧ v ≤ 64) (hu : u < tN T) (hm : nmQ T u ≠ 1) (hX : X < 65536) (hY : Y < 65536) : ∃ h', f_X0_glyph h pg a (X : Int) (Y : Int) (φ (ioP T u)) = some h' ∧ AgP pg h h' ∧ ∀ x y : Nat, (x : Int) < v → y < 64 → pxl h' pg x y = if inkB a X Y (vlP T rs 2 u) x y then vlP T rs 0 u else pxl h pg x y := by
  have z2 : zix 2 = 2 := by decide
  have hvr := vl_rng hW hrs hu
  obtain ⟨c1, c2, c3, c4⟩ := G.1.el hW hu hm
  unfold f_X0_glyph
  rw [gd_c c1.1, c1.2.2.2.1, obind_some, gd_c (by rw [c1.2.2.2.2.1]; decide), gd_zin (by omega) (by rw [c1.2.2.2.2.2.1]; omega) (by rw [c1.2.2.2.2.2.1]; omega), z2, c2 2 (by omega), bnd_eq]
  unfold f_X0_glyph_12
  obtain ⟨z, hI, hz⟩ := loopX (f := fun (z : HP × Int) => f_X0_glyph_12s z.1 pg a (X : Int) (Y : Int) (φ (ioP T u)) (vlP T rs 2 u) z.2) (fun k z => z.2 = (k : Int) ∧ AgP pg h z.1 ∧ ∀ x' y', x' < 64 → y' < 64 → pxl z.1 pg x' y' = if (Y ≤ y' ∧ y' < Y + k) ∧ X ≤ x' ∧ ((x' : Int) < X + vlP T rs 2 u ∧ (x' : Int) < v) ∧ bitB a (vlP T rs 2 u) ((x' : Int) - X) ((y' : Int) - Y) = true then vlP T rs 0 u else pxl h pg x' y') (a := 0) (b := min (vlP T rs 2 u).toNat (64 - Y)) (s0 := (h, 0)) (by omega) ⟨rfl, AgP.refl pg h, fun x' y' _ _ => by rw [if_neg (fun w => by omega)]⟩ (fun k z k1 k2 hz => by
    obtain ⟨g, w⟩ := z
    obtain ⟨i1, i2, i3⟩ := hz
    have i1 : w = (k : Int) := i1
    subst i1
    have Gg := G.agp hW i2
    obtain ⟨g', r1, r2, r3⟩ := gl_row (a := a) (X := X) (Y := Y) (j := k) Gg hW hrs hv hu hm (by omega) hX
    show ∃ s', f_X0_glyph_12s g pg a (X : Int) (Y : Int) (φ (ioP T u)) (vlP T rs 2 u) (k : Int) = some (.inl s') ∧ _
    unfold f_X0_glyph_12s
    rw [if_ltp (by omega) (by omega) (by omega), if_ltp (by omega) (by omega) (by omega), r1]
    refine ⟨_, rfl, rfl, i2.trans r2, fun x' y' hx' hy' => ?_⟩
    rw [r3 x' y' hx' hy', i3 x' y' hx' hy']
    by_cases t1 : y' = Y + k ∧ X ≤ x' ∧ ((x' : Int) < X + vlP T rs 2 u ∧ (x' : Int) < v) ∧ bitB a (vlP T rs 2 u) ((x' : Int) - X) k = true
    · rw [if_pos t1, if_pos ⟨by omega, t1.2.1, t1.2.2.1, by rw [t1.1, show ((Y + k : Nat) : Int) - Y = (k : Int) by omega]; exact t1.2.2.2⟩]
    · rw [if_neg t1]
      by_cases t2 : (Y ≤ y' ∧ y' < Y + k) ∧ X ≤ x' ∧ ((x' : Int) < X + vlP T rs 2 u ∧ (x' : Int) < v) ∧ bitB a (vlP T rs 2 u) ((x' : Int) - X) ((y' : Int) - Y) = true
      · rw [if_pos t2, if_pos ⟨by omega, t2.2⟩]
      · rw [if_neg t2, if_neg (fun w => t2 ⟨by
          have : y' ≠ Y + k := fun s => t1 ⟨s, w.2.1, w.2.2.1, by
            have hb := w.2.2.2
            rw [s, show ((Y + k : Nat) : Int) - Y = (k : Int) by omega] at hb
            exact hb⟩
          have := w.1
          omega, w.2⟩)])
  obtain ⟨g, w⟩ := z
  obtain ⟨i1, i2, i3⟩ := hI
  have i1 : w = ((min (vlP T rs 2 u).toNat (64 - Y) : Nat) : Int) := i1
  subst i1
  refine ⟨g, ?_, i2, fun x y hx hy => ?_⟩
  · rw [hz]
    refine iter_out ?_
    simp only []
    unfold f_X0_glyph_12s
    by_cases t : ((min (vlP T rs 2 u).toNat (64 - Y) : Nat) : Int) < vlP T rs 2 u
    · rw [if_ltp t (by omega) (by omega), if_ltn (by omega) (by omega) (by omega)]
    · rw [if_ltn (by omega) (by omega) (by omega)]
  · rw [i3 x y (by omega) hy]
    unfold inkB
    cases hbit : bitB a (vlP T rs 2 u) ((x : Int) - X) ((y : Int) - Y) with
    | false =>
      rw [if_neg (fun w => by cases w.2.2.2), Bool.and_false, if_neg (show ¬ (false = true) by simp)]
    | true =>
      rw [Bool.and_true]
      by_cases t : (0 ≤ (x : Int) - X ∧ (x : Int) - X < vlP T rs 2 u) ∧ 0 ≤ (y : Int) - Y ∧ (y : Int) - Y < vlP T rs 2 u
      · rw [decide_eq_true t, if_pos (show true = true from rfl), if_pos ⟨by omega, by omega, by omega, rfl⟩]
      · rw [decide_eq_false t, if_neg (show ¬ (false = true) by simp), if_neg (fun w => t (by have := w.1; have := w.2.1; have := w.2.2.1; omega))]
end PC
