/-! the page: grounds are painted -/
set_option maxRecDepth 100000
/-- only the picture changes -/
def AgP (pg : Nat) (h h' : HP) : Prop := AgI h h' (fun b _ => b = pg + 20)
/-- what the painting stands on -/
def PG (h : HP) (pg : Nat) (φ : Nat → Nat) (T : TS) (rs : List RL) (v : Int) : Prop := PE h pg φ T rs ∧ (pP h pg 19 = some (pg + 20) ∧ pK h (pg + 20) = 45 ∧ pN h (pg + 20) = 4096) ∧ (pP h pg 15 = some (pg + 16) ∧ pK h (pg + 16) = 26 ∧ pL h (pg + 16) = (tO T).map φ) ∧ pI h pg 17 = v
def pxl (h : HP) (pg x y : Nat) : Int := pI h (pg + 20) (64 * y + x)
section PC
variable {h h' h1 h2 : HP} {pg r : Nat} {φ : Nat → Nat} {T : TS} {rs : List RL} {n p k q j x y : Nat} {Wd Lf tl tp : Nat → Int} {v : Int}
theorem AgP.refl (pg : Nat) (h : HP) : AgP pg h h := AgI.refl h _
theorem AgP.trans (A : AgP pg h h1) (B : AgP pg h1 h') : AgP pg h h' := AgI.trans A B
theorem AgP.w (A : AgP pg h h1) (i : Nat) (v : Int) : AgP pg h (wI h1 (pg + 20) i v) := AgI.wi A rfl v
theorem AgP.i (A : AgP pg h h') {b : Nat} (hb : b ≠ pg + 20) (j : Nat) : pI h' b j = pI h b j := A.2.2.2.2.2.2.2.2.2 b j hb
theorem PG.agp (G : PG h pg φ T rs v) (hW : WF T) (A : AgP pg h h') : PG h' pg φ T rs v := by
  obtain ⟨⟨p1, p2, p3⟩, g1, g2, g3⟩ := G
  have hlt := p1.1.lt
  have A' := A
  obtain ⟨a1, a2, a3, a4, a5, a6, a7, a8, a9, a10⟩ := A
  have hq : AgQ pg h h' := AgI.q A' (fun b j hb => by have hb : b = pg + 20 := hb; rw [hb, g1.2.1]; unfold qP; omega)
  refine ⟨⟨p1.agw hW.stk (hq.w p1.1.1.1 (by omega)), fun n hn hm => ?_, by rw [a1, a2, a3]; exact p3⟩, by rw [a1, a2, a3]; exact g1, by rw [a1, a3, a4]; exact g2, by rw [A'.i (by omega)]; exact g3⟩
  have hE := p1.elc (io_lt hW hn) hm
  obtain ⟨e1, e2⟩ := p2 n hn hm
  refine ⟨fun k hk => ?_, ?_⟩
  · rw [A'.i (kne h (by rw [hE.2.2.2.2.1, g1.2.1]; omega))]; exact e1 k hk
  · rw [A'.i (kne h (by rw [hE.1, g1.2.1]; omega))]; exact e2
theorem PG.el (G : PG h pg φ T rs v) (hW : WF T) (hn : n < tN T) (hm : nmQ T n ≠ 1) : φ (ioP T n) ≠ pg + 20 ∧ φ (ioP T n) + 2 ≠ pg + 20 := by
  have hE := G.1.1.elc (io_lt hW hn) hm
  exact ⟨kne h (by rw [hE.1, G.2.1.2.1]; omega), kne h (by rw [hE.2.2.2.2.1, G.2.1.2.1]; omega)⟩
theorem px_w (h : HP) (pg i : Nat) (c : Int) (x y : Nat) : pxl (wI h (pg + 20) i c) pg x y = if 64 * y + x = i then c else pxl h pg x y := by
  unfold pxl
  rw [pI_wI]
  by_cases z : 64 * y + x = i
  · rw [if_pos ⟨rfl, z⟩, if_pos z]
  · rw [if_neg (fun w => z w.2), if_neg z]
/-- a row of a ground -/
theorem gr_row (G : PG h pg φ T rs v) (hW : WF T) (hrs : ∀ r ∈ rs, okRV r) (hv : 1 ≤ v ∧ v ≤ 64) (hn : n < tN T) (hm : nmQ T n ≠ 1) (hy : y < 64) (x0 : Nat) (hx0 : x0 < 100000) {X1 : Int} (hX : pI h (φ (ioP T n)) 9 + pI h (φ (ioP T n)) 11 = X1) (hX1 : 0 ≤ X1 ∧ X1 < 100000) : ∃ h', f_X0_ground_39 h pg (φ (ioP T n)) (y : Int) (x0 : Int) = some (.inl (h', ((y + 1 : Nat) : Int))) ∧ AgP pg h h' ∧ ∀ x' y', x' < 64 → y' < 64 → pxl h' pg x' y' = if y' = y ∧ x0 ≤ x' ∧ (x' : Int) < X1 ∧ (x' : Int) < v then vlP T rs 1 n else pxl h pg x' y' := by
  have z1 : zix 1 = 1 := by decide
  have hvr := (vl_rng hW hrs hn).2.1
  unfold f_X0_ground_39
  obtain ⟨z, hI, hz⟩ := loopX (f := fun (z : HP × Int) => f_X0_ground_39s z.1 pg (φ (ioP T n)) (y : Int) z.2) (fun k z => z.2 = (k : Int) ∧ AgP pg h z.1 ∧ ∀ x' y', x' < 64 → y' < 64 → pxl z.1 pg x' y' = if y' = y ∧ x0 ≤ x' ∧ x' < k then vlP T rs 1 n else pxl h pg x' y') (a := x0) (b := max x0 (min X1.toNat v.toNat)) (s0 := (h, (x0 : Int))) (by omega) ⟨rfl, AgP.refl pg h, fun x' y' _ _ => by rw [if_neg (fun w => by omega)]⟩ (fun k z k1 k2 hz => by
    obtain ⟨g, w⟩ := z
    obtain ⟨i1, i2, i3⟩ := hz
    have i1 : w = (k : Int) := i1
    subst i1
    have Gg := G.agp hW i2
    obtain ⟨c1, c2, c3, c4⟩ := Gg.1.el hW hn hm
    have hne := G.el hW hn hm
    have h911 : pI g (φ (ioP T n)) 9 + pI g (φ (ioP T n)) 11 = X1 := by rw [i2.i hne.1, i2.i hne.1]; exact hX
    have e64 : (64 * (y : Int) + (k : Int)) = ((64 * y + k : Nat) : Int) := by omega
    show ∃ s', f_X0_ground_39s g pg (φ (ioP T n)) (y : Int) (k : Int) = some (.inl s') ∧ _
    unfold f_X0_ground_39s
    rw [gd_c c1.1, gd_c c1.1, h911, if_ltp (by omega) (by omega) (by omega), gd_c Gg.1.1.1.1.1, Gg.2.2.2, if_ltp (by omega) (by omega) (by omega), gd_c Gg.1.1.1.1.1, gd_c c1.1, c1.2.2.2.1, obind_some, gd_c (by rw [c1.2.2.2.2.1]; decide), gd_zin (by omega) (by rw [c1.2.2.2.2.2.1]; omega) (by rw [c1.2.2.2.2.2.1]; omega), Gg.2.1.1, obind_some, gd_c Gg.2.1.2.1, e64, gd_zin (by omega) (by rw [Gg.2.1.2.2]; omega) (by rw [Gg.2.1.2.2]; omega), zix_nat (by omega), z1, c2 1 (by omega), zi2b_s (c := vlP T rs 1 n) (by omega) (by omega), zi2b_s (c := vlP T rs 1 n) (by omega) (by omega), bnd_eq]
    refine ⟨_, rfl, by show (k : Int) + 1 = _; omega, i2.w _ _, fun x' y' hx' hy' => ?_⟩
    rw [px_w, i3 x' y' hx' hy']
    by_cases t1 : 64 * y' + x' = 64 * y + k
    · rw [if_pos t1, if_pos (by omega)]
    · rw [if_neg t1]
      by_cases t2 : y' = y ∧ x0 ≤ x' ∧ x' < k
      · rw [if_pos t2, if_pos (by omega)]
      · rw [if_neg t2, if_neg (fun w => t2 (by have : x' ≠ k := fun u => t1 (by omega)
                                               omega))])
  obtain ⟨g, w⟩ := z
  obtain ⟨i1, i2, i3⟩ := hI
  have i1 : w = ((max x0 (min X1.toNat v.toNat) : Nat) : Int) := i1
  subst i1
  have Gg := G.agp hW i2
  obtain ⟨c1, c2, c3, c4⟩ := Gg.1.el hW hn hm
  have hne := G.el hW hn hm
  have h911 : pI g (φ (ioP T n)) 9 + pI g (φ (ioP T n)) 11 = X1 := by rw [i2.i hne.1, i2.i hne.1]; exact hX
  refine ⟨g, ?_, i2, fun x' y' hx' hy' => ?_⟩
  · rw [hz]
    refine iter_out ?_
    simp only []
    unfold f_X0_ground_39s f_X0_ground_84
    rw [gd_c c1.1, gd_c c1.1, h911, gd_c Gg.1.1.1.1.1, Gg.2.2.2]
    by_cases t : ((max x0 (min X1.toNat v.toNat) : Nat) : Int) < X1
    · rw [if_ltp t (by omega) (by omega), if_ltn (by omega) (by omega) (by omega)]; rfl
    · rw [if_ltn (by omega) (by omega) (by omega)]; rfl
  · rw [i3 x' y' hx' hy']
    by_cases t : y' = y ∧ x0 ≤ x' ∧ x' < max x0 (min X1.toNat v.toNat)
    · rw [if_pos t, if_pos (by omega)]
    · rw [if_neg t, if_neg (fun w => t (by omega))]
/-- the ground of a box -/
def gdS (T : TS) (rs : List RL) (Wd Lf tl tp : Nat → Int) (n : Nat) (x y : Nat) (s : Int) : Int := if bxP T rs n = true ∧ (Lf n ≤ (x : Int) ∧ (x : Int) < Lf n + (Wd n + 2 * vlP T rs 5 n)) ∧ (tp n ≤ (y : Int) ∧ (y : Int) < tp n + tl n) ∧ vlP T rs 1 n ≠ 0 then vlP T rs 1 n else s
theorem ground_p (G : PG h pg φ T rs v) (hW : WF T) (hrs : ∀ r ∈ rs, okRV r) (hv : 1 ≤ v ∧ v ≤ 64) (hn : n < tN T) (hb : bxP T rs n = true) (hB : BoxC h φ T rs Wd Lf tl tp n) (b1 : 0 ≤ Lf n ∧ Lf n ≤ 20000) (b2 : 0 ≤ Wd n ∧ Wd n ≤ 99) (b3 : 0 ≤ tl n ∧ tl n ≤ 20000) (b4 : 0 ≤ tp n ∧ tp n ≤ 20000) : ∃ h', f_X0_ground h pg (φ (ioP T n)) = some h' ∧ AgP pg h h' ∧ ∀ x y : Nat, (x : Int) < v → y < 64 → pxl h' pg x y = gdS T rs Wd Lf tl tp n x y (pxl h pg x y) := by
  have hm := (bx_d hb).1
  have z1 : zix 1 = 1 := by decide
  have hvr := vl_rng hW hrs hn
  obtain ⟨c1, c2, c3, c4⟩ := G.1.el hW hn hm
  have hne := G.el hW hn hm
  unfold f_X0_ground
  rw [gd_c c1.1, c1.2.2.2.1, obind_some, gd_c (by rw [c1.2.2.2.2.1]; decide), gd_zin (by omega) (by rw [c1.2.2.2.2.2.1]; omega) (by rw [c1.2.2.2.2.2.1]; omega), z1, c2 1 (by omega)]
  by_cases z0 : vlP T rs 1 n = 0
  · rw [if_eqp z0]
    refine ⟨h, rfl, AgP.refl pg h, fun x y _ _ => ?_⟩
    unfold gdS
    rw [if_neg (fun w => w.2.2.2 z0)]
  · rw [if_eqn z0 (by omega) (by omega) (by omega) (by omega), gd_c c1.1, bnd_eq, hB.2.1]
    obtain ⟨t0, ht0⟩ : ∃ t0 : Nat, tp n = (t0 : Int) := ⟨(tp n).toNat, by omega⟩
    obtain ⟨l0, hl0⟩ : ∃ l0 : Nat, Lf n = (l0 : Int) := ⟨(Lf n).toNat, by omega⟩
    unfold f_X0_ground_15
    obtain ⟨z, hI, hz⟩ := loopX (f := fun (z : HP × Int) => f_X0_ground_15s z.1 pg (φ (ioP T n)) z.2) (fun k z => z.2 = (k : Int) ∧ AgP pg h z.1 ∧ ∀ x' y', x' < 64 → y' < 64 → pxl z.1 pg x' y' = if (t0 ≤ y' ∧ y' < k) ∧ l0 ≤ x' ∧ (x' : Int) < Lf n + (Wd n + 2 * vlP T rs 5 n) ∧ (x' : Int) < v then vlP T rs 1 n else pxl h pg x' y') (a := t0) (b := max t0 (min (tp n + tl n).toNat 64)) (s0 := (h, tp n)) (by omega) ⟨ht0, AgP.refl pg h, fun x' y' _ _ => by rw [if_neg (fun w => by omega)]⟩ (fun k z k1 k2 hz => by
      obtain ⟨g, w⟩ := z
      obtain ⟨i1, i2, i3⟩ := hz
      have i1 : w = (k : Int) := i1
      subst i1
      have Gg := G.agp hW i2
      have d1 := (Gg.1.el hW hn hm).1
      obtain ⟨B1, B2, B3, B4⟩ := hB
      have g9 : pI g (φ (ioP T n)) 9 = Lf n := by rw [i2.i hne.1]; exact B1
      have g10 : pI g (φ (ioP T n)) 10 = tp n := by rw [i2.i hne.1]; exact B2
      have g11 : pI g (φ (ioP T n)) 11 = Wd n + 2 * vlP T rs 5 n := by rw [i2.i hne.1]; exact B3
      have g12 : pI g (φ (ioP T n)) 12 = tl n := by rw [i2.i hne.1]; exact B4
      obtain ⟨g', r1, r2, r3⟩ := gr_row Gg hW hrs hv hn hm (y := k) (by omega) l0 (by omega) (X1 := Lf n + (Wd n + 2 * vlP T rs 5 n)) (by rw [g9, g11]) (by omega)
      show ∃ s', f_X0_ground_15s g pg (φ (ioP T n)) (k : Int) = some (.inl s') ∧ _
      unfold f_X0_ground_15s
      rw [gd_c d1.1, gd_c d1.1, g10, g12, if_ltp (by omega) (by omega) (by omega), if_ltp (by omega) (by omega) (by omega), gd_c d1.1, bnd_eq, g9, hl0, r1]
      refine ⟨_, rfl, rfl, i2.trans r2, fun x' y' hx' hy' => ?_⟩
      rw [r3 x' y' hx' hy', i3 x' y' hx' hy']
      by_cases t1 : y' = k ∧ l0 ≤ x' ∧ (x' : Int) < Lf n + (Wd n + 2 * vlP T rs 5 n) ∧ (x' : Int) < v
      · rw [if_pos t1, if_pos (by omega)]
      · rw [if_neg t1]
        by_cases t2 : (t0 ≤ y' ∧ y' < k) ∧ l0 ≤ x' ∧ (x' : Int) < Lf n + (Wd n + 2 * vlP T rs 5 n) ∧ (x' : Int) < v
        · rw [if_pos t2, if_pos (by omega)]
        · rw [if_neg t2, if_neg (fun w => by omega)])
    obtain ⟨g, w⟩ := z
    obtain ⟨i1, i2, i3⟩ := hI
    have i1 : w = ((max t0 (min (tp n + tl n).toNat 64) : Nat) : Int) := i1
    subst i1
    have Gg := G.agp hW i2
    have d1 := (Gg.1.el hW hn hm).1
    obtain ⟨B1, B2, B3, B4⟩ := hB
    have g10 : pI g (φ (ioP T n)) 10 = tp n := by rw [i2.i hne.1]; exact B2
    have g12 : pI g (φ (ioP T n)) 12 = tl n := by rw [i2.i hne.1]; exact B4
    refine ⟨g, ?_, i2, fun x y hx hy => ?_⟩
    · rw [hz]
      refine iter_out ?_
      simp only []
      unfold f_X0_ground_15s
      rw [gd_c d1.1, gd_c d1.1, g10, g12]
      by_cases t : ((max t0 (min (tp n + tl n).toNat 64) : Nat) : Int) < tp n + tl n
      · rw [if_ltp t (by omega) (by omega), if_ltn (by omega) (by omega) (by omega)]
      · rw [if_ltn (by omega) (by omega) (by omega)]
    · rw [i3 x y (by omega) hy]
      unfold gdS
      by_cases t : (t0 ≤ y ∧ y < max t0 (min (tp n + tl n).toNat 64)) ∧ l0 ≤ x ∧ (x : Int) < Lf n + (Wd n + 2 * vlP T rs 5 n) ∧ (x : Int) < v
      · rw [if_pos t, if_pos ⟨hb, by omega, by omega, z0⟩]
      · rw [if_neg t, if_neg (fun w => t (by have := w.2; omega))]
end PC
