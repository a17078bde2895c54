/-! the page: the picture -/
set_option maxRecDepth 100000
def chB (T : TS) (rs : List RL) (p k : Nat) : Bool := !hdP T rs p && (decide (nmQ T p = 1) && decide ((txP T p).getD k 0 ≠ 32))
def plV (T : TS) (rs : List RL) (PX PY : Nat → Nat → Int) (p k : Nat) : Int := if chB T rs p k then PX p k + 65536 * PY p k else -1
/-- the grounds of the first boxes -/
def grd (T : TS) (rs : List RL) (Wd Lf tl tp : Nat → Int) (x y : Nat) : Nat → Int
  | 0 => 0
  | n + 1 => gdS T rs Wd Lf tl tp n x y (grd T rs Wd Lf tl tp x y n)
/-- the first characters of a text -/
def gly (T : TS) (rs : List RL) (PX PY : Nat → Nat → Int) (p x y : Nat) (s : Int) : Nat → Int
  | 0 => s
  | k + 1 => if chB T rs p k && inkB ((txP T p).getD k 0) (PX p k) (PY p k) (vlP T rs 2 (upP T p)) x y then vlP T rs 0 (upP T p) else gly T rs PX PY p x y s k
def pic (T : TS) (rs : List RL) (Wd Lf tl tp : Nat → Int) (PX PY : Nat → Nat → Int) (x y : Nat) : Nat → Int
  | 0 => grd T rs Wd Lf tl tp x y (tN T)
  | p + 1 => if nmQ T p = 1 then gly T rs PX PY p x y (pic T rs Wd Lf tl tp PX PY x y p) (txP T p).length else pic T rs Wd Lf tl tp PX PY x y p
section PC
variable {h h' h1 h2 : HP} {pg r : Nat} {φ : Nat → Nat} {T : TS} {rs : List RL} {n p k q j x y u X Y : Nat} {Wd Lf tl tp : Nat → Int} {PX PY : Nat → Nat → Int} {v a : Int}
theorem chB_iff : chB T rs p k = true ↔ chA T rs p k := by
  unfold chB chA
  simp
theorem fill3_p (hk : pK h (pg + 20) = 45) (hl : pN h (pg + 20) = 4096) : ∃ h', f_J10_fill_3 h (pg + 20) 0 = some h' ∧ AgP pg h h' ∧ ∀ i, i < 4096 → pI h' (pg + 20) i = 0 := by
  have hz : zi2b 0 = 0 := by decide
  unfold f_J10_fill_3
  rw [gd_c (by rw [hk]; decide), bnd_eq, hl]
  unfold f_J10_fill_3_5
  exact loopI (f := fun (z : HP × Int) => f_J10_fill_3_5s z.1 (pg + 20) 0 z.2 ((4096 : Nat) : Int)) (P := fun h' => AgP pg h h' ∧ ∀ i, i < 4096 → pI h' (pg + 20) i = 0) (fun k z => z.2 = (k : Int) ∧ AgP pg h z.1 ∧ ∀ i, i < k → pI z.1 (pg + 20) i = 0) (a := 0) (b := 4096) (s0 := (h, 0)) (by omega) ⟨rfl, AgP.refl pg h, fun i hi => by omega⟩ (fun k z _ k2 hz' => by
    obtain ⟨g, w⟩ := z
    obtain ⟨i1, i2, i3⟩ := hz'
    have i1 : w = (k : Int) := i1
    subst i1
    have kg : pK g (pg + 20) = 45 := by rw [i2.1]; exact hk
    have ng : pN g (pg + 20) = 4096 := by rw [i2.2.1]; exact hl
    show ∃ s', f_J10_fill_3_5s g (pg + 20) 0 (k : Int) ((4096 : Nat) : Int) = some (.inl s') ∧ _
    unfold f_J10_fill_3_5s
    rw [if_ltp (by omega) (by omega) (by omega), gd_c kg, gd_zin (by omega) (by rw [ng]; omega) (by rw [ng]; omega), zix_nat (by omega), hz, bnd_eq]
    refine ⟨_, rfl, by show (k : Int) + 1 = _; omega, i2.w _ _, fun i hi => ?_⟩
    rw [pI_wI]
    by_cases t : i = k
    · rw [if_pos ⟨rfl, t⟩]
    · rw [if_neg (fun u => t u.2)]; exact i3 i (by omega)) (fun z hz' => by
    obtain ⟨g, w⟩ := z
    obtain ⟨i1, i2, i3⟩ := hz'
    have i1 : w = ((4096 : Nat) : Int) := i1
    subst i1
    show ∃ r, f_J10_fill_3_5s g (pg + 20) 0 ((4096 : Nat) : Int) ((4096 : Nat) : Int) = some (.inr r) ∧ _
    unfold f_J10_fill_3_5s
    rw [if_ltn (by omega) (by omega) (by omega)]
    exact ⟨g, rfl, i2, i3⟩)
theorem PG.ord (G : PG h pg φ T rs v) (hW : WF T) : lLen h (pg + 16) = some ((tN T : Nat) : Int) ∧ ∀ i, i < tN T → lGet h (pg + 16) (i : Int) = some (φ (ioP T i)) ∧ isN (pK h (φ (ioP T i))) := by
  have h24 := hW.1.2.1
  have hl := hW.1.2.2.1
  obtain ⟨g1, g2, g3⟩ := G.2.2.1
  refine ⟨?_, fun i hi => ⟨?_, (G.1.1.c.kd (io_lt hW hi)).1⟩⟩
  · unfold lLen
    rw [gd_c (by rw [g2]; decide), g3, List.length_map, hl]
  · unfold lGet
    rw [gd_c (by rw [g2]; decide), g3, List.length_map, gd_zin (by omega) (by omega) (by omega), zix_nat (by omega), getD_map (by omega)]
    rfl
theorem BoxC.agp (B : BoxC h φ T rs Wd Lf tl tp n) (G : PG h pg φ T rs v) (hW : WF T) (hn : n < tN T) (hm : nmQ T n ≠ 1) (A : AgP pg h h') : BoxC h' φ T rs Wd Lf tl tp n := by
  have hne := (G.el hW hn hm).1
  unfold BoxC
  rw [A.i hne, A.i hne, A.i hne, A.i hne]
  exact B
theorem plA_agp (A : AgP pg h h') (p : Nat) : plA h' φ T p = plA h φ T p := by
  unfold plA
  rw [A.2.2.1]
/-- the grounds -/
theorem paint_10 (G : PG h pg φ T rs v) (hW : WF T) (hrs : ∀ r ∈ rs, okRV r) (hv : 1 ≤ v ∧ v ≤ 64) (hB : ∀ n, n < tN T → bxP T rs n = true → BoxC h φ T rs Wd Lf tl tp n) (hbd : ∀ n, n < tN T → (0 ≤ Lf n ∧ Lf n ≤ 20000) ∧ (0 ≤ Wd n ∧ Wd n ≤ 99) ∧ (0 ≤ tl n ∧ tl n ≤ 20000) ∧ 0 ≤ tp n ∧ tp n ≤ 20000) (h0 : ∀ i, i < 4096 → pI h (pg + 20) i = 0) : ∃ h', f_X0_paint_10 h pg 0 = f_X0_paint_64 h' pg ∧ AgP pg h h' ∧ ∀ x y : Nat, (x : Int) < v → y < 64 → pxl h' pg x y = grd T rs Wd Lf tl tp x y (tN T) := by
  have h24 := hW.1.2.1
  unfold f_X0_paint_10
  obtain ⟨z, hI, hz⟩ := loopX (f := fun (z : HP × Int) => f_X0_paint_10s z.1 pg z.2) (fun n z => z.2 = (n : Int) ∧ AgP pg h z.1 ∧ ∀ x y : Nat, (x : Int) < v → y < 64 → pxl z.1 pg x y = grd T rs Wd Lf tl tp x y n) (a := 0) (b := tN T) (s0 := (h, 0)) (by omega) ⟨rfl, AgP.refl pg h, fun x y hx hy => by
      unfold pxl
      rw [h0 _ (by omega)]; rfl⟩ (fun n z _ n2 hz => by
    obtain ⟨g, w⟩ := z
    obtain ⟨i1, i2, i3⟩ := hz
    have i1 : w = (n : Int) := i1
    subst i1
    have Gg := G.agp hW i2
    obtain ⟨l1, l2⟩ := Gg.ord hW
    have hk1 := Gg.1.1.1.1.1
    show ∃ s', f_X0_paint_10s g pg (n : Int) = some (.inl s') ∧ _
    unfold f_X0_paint_10s f_X0_paint_58
    rw [gd_c hk1, Gg.2.2.1.1, obind_some, l1, obind_some, if_ltp (by omega) (by omega) (by omega), gd_c hk1, obind_some, (l2 n n2).1, obind_some, gd_c (l2 n n2).2, gd_c (l2 n n2).2]
    by_cases hm : nmQ T n = 1
    · have hX := Gg.1.1.txc (io_lt hW n2) hm
      have hk2 : kis g (φ (ioP T n)) 2 = 0 := by unfold kis; rw [if_neg (by rw [hX.1]; omega)]
      rw [hk2, if_eqp rfl]
      refine ⟨_, rfl, by show (n : Int) + 1 = _; omega, i2, fun x y hx hy => ?_⟩
      rw [i3 x y hx hy]
      show _ = gdS T rs Wd Lf tl tp n x y _
      unfold gdS
      rw [if_neg (fun u => (bx_d u.1).1 hm)]
    · have hE := Gg.1.1.elc (io_lt hW n2) hm
      have hk2 : kis g (φ (ioP T n)) 2 = 1 := by unfold kis; rw [if_pos hE.1]
      rw [hk2, if_eqn (by omega) (by omega) (by omega) (by omega) (by omega), gd_c hE.1, gd_c hE.1, box_p Gg.1 hW hrs n2 hm, obind_some]
      cases hb : bxP T rs n with
      | false =>
        rw [if_neg (show ¬ (false = true) by simp), if_eqp rfl]
        refine ⟨_, rfl, by show (n : Int) + 1 = _; omega, i2, fun x y hx hy => ?_⟩
        rw [i3 x y hx hy]
        show _ = gdS T rs Wd Lf tl tp n x y _
        unfold gdS
        rw [if_neg (fun u => by have := u.1; rw [hb] at this; cases this)]
      | true =>
        obtain ⟨b1, b2, b3, b4⟩ := hbd n n2
        obtain ⟨g', r1, r2, r3⟩ := ground_p Gg hW hrs hv n2 hb ((hB n n2 hb).agp G hW n2 hm i2) b1 b2 b3 b4
        rw [if_pos (show true = true from rfl), if_eqn (by omega) (by omega) (by omega) (by omega) (by omega), gd_c hE.1, gd_c hk1, r1, obind_some]
        refine ⟨_, rfl, by show (n : Int) + 1 = _; omega, i2.trans r2, fun x y hx hy => ?_⟩
        rw [r3 x y hx hy, i3 x y hx hy]
        rfl)
  obtain ⟨g, w⟩ := z
  obtain ⟨i1, i2, i3⟩ := hI
  have i1 : w = (tN T : Int) := i1
  subst i1
  have Gg := G.agp hW i2
  obtain ⟨l1, l2⟩ := Gg.ord hW
  have hk1 := Gg.1.1.1.1.1
  refine ⟨g, ?_, i2, i3⟩
  rw [hz]
  refine iter_mr ?_
  simp only []
  unfold f_X0_paint_10s
  rw [gd_c hk1, Gg.2.2.1.1, obind_some, l1, obind_some, if_ltn (by omega) (by omega) (by omega)]
/-- the characters of a text -/
theorem paint_104 (G : PG h pg φ T rs v) (hW : WF T) (hrs : ∀ r ∈ rs, okRV r) (hX : txOK T) (hv : 1 ≤ v ∧ v ≤ 64) (hp : p < tN T) (hm : nmQ T p = 1) (hP : ∀ k, k < (txP T p).length → pI h (plA h φ T p) k = plV T rs PX PY p k) (hR : ∀ k, k < (txP T p).length → chB T rs p k = true → (0 ≤ PX p k ∧ PX p k < 65536) ∧ 0 ≤ PY p k ∧ PY p k < 32768) (x1 : Int) : ∃ h', f_X0_paint_104 h pg x1 (φ (ioP T p)) 0 = some (.inl (h', x1 + 1)) ∧ AgP pg h h' ∧ ∀ x y : Nat, (x : Int) < v → y < 64 → pxl h' pg x y = gly T rs PX PY p x y (pxl h pg x y) (txP T p).length := by
  have h0 : 0 < p := by
    rcases Nat.eq_zero_or_pos p with z | z
    · rw [z, nm_0 hW] at hm; omega
    · exact z
  have hu := (up_d hW hp h0).1
  have hmu := up_el hW hp h0
  obtain ⟨t1, t2, t3, t4, t5, t6, t7⟩ := G.1.tx hW hp hm
  have hne : plA h φ T p ≠ pg + 20 := kne h (by rw [t3, G.2.1.2.1]; omega)
  unfold f_X0_paint_104
  obtain ⟨z, hI, hz⟩ := loopX (f := fun (z : HP × Int) => f_X0_paint_104s z.1 pg x1 (φ (ioP T p)) z.2) (fun k z => z.2 = (k : Int) ∧ AgP pg h z.1 ∧ ∀ x y : Nat, (x : Int) < v → y < 64 → pxl z.1 pg x y = gly T rs PX PY p x y (pxl h pg x y) k) (a := 0) (b := (txP T p).length) (s0 := (h, 0)) (by omega) ⟨rfl, AgP.refl pg h, fun x y _ _ => rfl⟩ (fun k z _ k2 hz => by
    obtain ⟨g, w⟩ := z
    obtain ⟨i1, i2, i3⟩ := hz
    have i1 : w = (k : Int) := i1
    subst i1
    have i2 : AgP pg h g := i2
    have Gg := G.agp hW i2
    obtain ⟨s1, s2, s3, s4, s5, s6, s7⟩ := Gg.1.tx hW hp hm
    have hx := hX p k hp k2
    have hval : pI g (plA g φ T p) k = plV T rs PX PY p k := by rw [plA_agp i2, i2.i hne]; exact hP k k2
    have hlen : sLen g (φ (ioP T p) + 1) = some (((txP T p).length : Nat) : Int) := by
      unfold sLen
      rw [gd_c (by rw [s1.2.2.1]; decide), s6]
    have hat : sAt g (φ (ioP T p) + 1) (k : Int) = some ((txP T p).getD k 0) := by
      unfold sAt
      rw [gd_c (by rw [s1.2.2.1]; decide), s6, gd_zin (by omega) (by omega) (by omega), zix_nat (by omega)]
    show ∃ s', f_X0_paint_104s g pg x1 (φ (ioP T p)) (k : Int) = some (.inl s') ∧ _
    unfold f_X0_paint_104s f_X0_paint_165
    rw [gd_c s1.1, s1.2.1, obind_some, hlen, obind_some, if_ltp (by omega) (by omega) (by omega), gd_c s1.1, s2, obind_some, gd_c (by rw [s3]; decide), gd_zin (by omega) (by omega) (by omega), zix_nat (by omega), hval]
    cases hc : chB T rs p k with
    | false =>
      have e1 : plV T rs PX PY p k = -1 := by unfold plV; rw [hc]; rfl
      rw [e1, if_eqp rfl]
      refine ⟨_, rfl, by show (k : Int) + 1 = _; omega, i2, fun x y hx hy => ?_⟩
      rw [i3 x y hx hy]
      show _ = if chB T rs p k && _ then _ else _
      rw [hc, Bool.false_and, if_neg (show ¬ (false = true) by simp)]
    | true =>
      obtain ⟨r1, r2⟩ := hR k k2 hc
      obtain ⟨X, eX⟩ : ∃ X : Nat, PX p k = (X : Int) := ⟨(PX p k).toNat, by omega⟩
      obtain ⟨Y, eY⟩ : ∃ Y : Nat, PY p k = (Y : Int) := ⟨(PY p k).toNat, by omega⟩
      have e1 : plV T rs PX PY p k = (X : Int) + 65536 * (Y : Int) := by unfold plV; rw [hc, eX, eY]; rfl
      rw [e1, if_eqn (by omega) (by omega) (by omega) (by omega) (by omega), gd_c s1.1, obind_some, hat, obind_some, gd_c s1.1, obind_some, gd_c (by rw [s3]; decide), gd_zin (by omega) (by omega) (by omega), gd_c s1.1, obind_some, gd_c (by rw [s3]; decide), gd_zin (by omega) (by omega) (by omega), gd_c s1.1, s7, obind_some, gd_c Gg.1.1.1.1.1, hval, e1, zand_16 (by omega) (by omega), zshr_16 (by omega) (by omega)]
      obtain ⟨g', q1, q2, q3⟩ := glyph_p (a := (txP T p).getD k 0) (X := X) (Y := Y) Gg hW hrs hv (u := upP T p) (by omega) hmu (by omega) (by omega)
      rw [q1, obind_some]
      refine ⟨_, rfl, by show (k : Int) + 1 = _; omega, i2.trans q2, fun x y hx hy => ?_⟩
      rw [q3 x y hx hy, i3 x y hx hy]
      show _ = if chB T rs p k && _ then _ else _
      rw [hc, Bool.true_and, eX, eY])
  obtain ⟨g, w⟩ := z
  obtain ⟨i1, i2, i3⟩ := hI
  have i1 : w = (((txP T p).length : Nat) : Int) := i1
  subst i1
  have Gg := G.agp hW i2
  obtain ⟨s1, s2, s3, s4, s5, s6, s7⟩ := Gg.1.tx hW hp hm
  refine ⟨g, ?_, i2, i3⟩
  rw [hz]
  refine iter_out ?_
  simp only []
  unfold f_X0_paint_104s f_X0_paint_171 sLen
  rw [gd_c s1.1, s1.2.1, obind_some, gd_c (by rw [s1.2.2.1]; decide), obind_some, s6, if_ltn (by omega) (by omega) (by omega)]
  rfl
/-- the picture -/
theorem paint_p (G : PG h pg φ T rs v) (hW : WF T) (hrs : ∀ r ∈ rs, okRV r) (hX : txOK T) (hv : 1 ≤ v ∧ v ≤ 64) (hB : ∀ n, n < tN T → bxP T rs n = true → BoxC h φ T rs Wd Lf tl tp n) (hbd : ∀ n, n < tN T → (0 ≤ Lf n ∧ Lf n ≤ 20000) ∧ (0 ≤ Wd n ∧ Wd n ≤ 99) ∧ (0 ≤ tl n ∧ tl n ≤ 20000) ∧ 0 ≤ tp n ∧ tp n ≤ 20000) (hP : ∀ p k, p < tN T → nmQ T p = 1 → k < (txP T p).length → pI h (plA h φ T p) k = plV T rs PX PY p k) (hR : ∀ p k, p < tN T → k < (txP T p).length → chB T rs p k = true → (0 ≤ PX p k ∧ PX p k < 65536) ∧ 0 ≤ PY p k ∧ PY p k < 32768) : ∃ h', f_X0_paint h pg = some h' ∧ AgP pg h h' ∧ ∀ x y : Nat, (x : Int) < v → y < 64 → pxl h' pg x y = pic T rs Wd Lf tl tp PX PY x y (tN T) := by
  have h24 := hW.1.2.1
  obtain ⟨h1, f1, f2, f3⟩ := fill3_p (pg := pg) G.2.1.2.1 G.2.1.2.2
  have G1 := G.agp hW f2
  obtain ⟨h2, p1, p2, p3⟩ := paint_10 G1 hW hrs hv (fun n hn hb => (hB n hn hb).agp G hW hn (bx_d hb).1 f2) hbd f3
  have G2 := G1.agp hW p2
  have A2 := f2.trans p2
  unfold f_X0_paint
  rw [gd_c G.1.1.1.1.1, G.2.1.1, obind_some, f1, obind_some, p1]
  unfold f_X0_paint_64 f_X0_paint_66
  obtain ⟨h3, e1, e2, e3⟩ := loopI (f := fun (z : HP × Int) => f_X0_paint_66s z.1 pg z.2) (P := fun h' => AgP pg h2 h' ∧ ∀ x y : Nat, (x : Int) < v → y < 64 → pxl h' pg x y = pic T rs Wd Lf tl tp PX PY x y (tN T)) (fun n z => z.2 = (n : Int) ∧ AgP pg h2 z.1 ∧ ∀ x y : Nat, (x : Int) < v → y < 64 → pxl z.1 pg x y = pic T rs Wd Lf tl tp PX PY x y n) (a := 0) (b := tN T) (s0 := (h2, 0)) (by omega) ⟨rfl, AgP.refl pg h2, fun x y hx hy => p3 x y hx hy⟩ (fun n z _ n2 hz => by
    obtain ⟨g, w⟩ := z
    obtain ⟨i1, i2, i3⟩ := hz
    have i1 : w = (n : Int) := i1
    subst i1
    have Gg := G2.agp hW i2
    obtain ⟨l1, l2⟩ := Gg.ord hW
    have hk1 := Gg.1.1.1.1.1
    show ∃ s', f_X0_paint_66s g pg (n : Int) = some (.inl s') ∧ _
    unfold f_X0_paint_66s f_X0_paint_171
    rw [gd_c hk1, Gg.2.2.1.1, obind_some, l1, obind_some, if_ltp (by omega) (by omega) (by omega), gd_c hk1, obind_some, (l2 n n2).1, obind_some, gd_c (l2 n n2).2, gd_c (l2 n n2).2]
    by_cases hm : nmQ T n = 1
    · have hXg := Gg.1.1.txc (io_lt hW n2) hm
      have hk3 : kis g (φ (ioP T n)) 3 = 1 := by unfold kis; rw [if_pos hXg.1]
      have hA := A2.trans i2
      have hne : plA h φ T n ≠ pg + 20 := kne h (by rw [(G.1.tx hW n2 hm).2.2.1, G.2.1.2.1]; omega)
      obtain ⟨g', q1, q2, q3⟩ := paint_104 (PX := PX) (PY := PY) Gg hW hrs hX hv n2 hm (fun k hk => by rw [plA_agp hA, hA.i hne]; exact hP n k n2 hm hk) (fun k hk hc => hR n k n2 hk hc) (n : Int)
      rw [hk3, if_eqn (by omega) (by omega) (by omega) (by omega) (by omega), gd_c hXg.1, q1]
      refine ⟨_, rfl, by show (n : Int) + 1 = _; omega, i2.trans q2, fun x y hx hy => ?_⟩
      rw [q3 x y hx hy, i3 x y hx hy]
      show _ = if nmQ T n = 1 then _ else _
      rw [if_pos hm]
    · have hE := Gg.1.1.elc (io_lt hW n2) hm
      have hk3 : kis g (φ (ioP T n)) 3 = 0 := by unfold kis; rw [if_neg (by rw [hE.1]; omega)]
      rw [hk3, if_eqp rfl]
      refine ⟨_, rfl, by show (n : Int) + 1 = _; omega, i2, fun x y hx hy => ?_⟩
      rw [i3 x y hx hy]
      show _ = if nmQ T n = 1 then _ else _
      rw [if_neg hm]) (fun z hz => by
    obtain ⟨g, w⟩ := z
    obtain ⟨i1, i2, i3⟩ := hz
    have i1 : w = (tN T : Int) := i1
    subst i1
    have Gg := G2.agp hW i2
    obtain ⟨l1, l2⟩ := Gg.ord hW
    have hk1 := Gg.1.1.1.1.1
    show ∃ r, f_X0_paint_66s g pg ((tN T : Nat) : Int) = some (.inr r) ∧ _
    unfold f_X0_paint_66s
    rw [gd_c hk1, Gg.2.2.1.1, obind_some, l1, obind_some, if_ltn (by omega) (by omega) (by omega)]
    exact ⟨g, rfl, i2, i3⟩)
  exact ⟨h3, e1, A2.trans e2, e3⟩
end PC
