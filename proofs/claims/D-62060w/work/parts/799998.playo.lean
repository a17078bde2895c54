/-! the page: the layout, whole -/
set_option maxRecDepth 100000
/-- the page's cells for layouts; no run is under way -/
def RcP (h : HP) (pg : Nat) : Prop := (pP h pg 18 = some (pg + 17) ∧ pP h pg 19 = some (pg + 20) ∧ pK h (pg + 20) = 45 ∧ pN h (pg + 20) = 4096) ∧ (pK h (pg + 17) = 5 ∧ pP h (pg + 17) 0 = some (pg + 18) ∧ pK h (pg + 18) = 46 ∧ pN h (pg + 18) = 184 ∧ pP h (pg + 17) 1 = some (pg + 19) ∧ pK h (pg + 19) = 42 ∧ pN h (pg + 19) = 184) ∧ pI h (pg + 17) 2 = 0
/-- a layout stands in the page -/
def LaidP (h : HP) (pg : Nat) (φ : Nat → Nat) (T : TS) (rs : List RL) (Wd Lf tl tp : Nat → Int) (PX PY : Nat → Nat → Int) (v : Int) : Prop := (∀ n, n < tN T → bxP T rs n = true → BoxC h φ T rs Wd Lf tl tp n) ∧ (∀ p k, p < tN T → nmQ T p = 1 → k < (txP T p).length → pI h (plA h φ T p) k = plV T rs PX PY p k) ∧ pI h (pg + 17) 3 = lpP T rs Wd tl (tN T) ∧ pI h pg 17 = v ∧ ∀ x y : Nat, (x : Int) < v → y < 64 → pxl h pg x y = pic T rs Wd Lf tl tp PX PY x y (tN T)
section PC
variable {h h' h1 h2 : HP} {pg r : Nat} {φ : Nat → Nat} {T : TS} {rs : List RL} {n p k q j x y u X Y a : Nat} {Wd Lf tl tp : Nat → Int} {PX PY : Nat → Nat → Int} {v : Int}
theorem RcP.agq (R : RcP h pg) (A : AgQ pg h h') (hp : pg + 21 ≤ pX h) (hk : pK h pg = 1) (h2 : pI h' (pg + 17) 2 = pI h (pg + 17) 2) : RcP h' pg := by
  obtain ⟨⟨a1, a2, a3, a4⟩, ⟨b1, b2, b3, b4, b5, b6, b7⟩, c⟩ := R
  refine ⟨⟨?_, ?_, ?_, ?_⟩, ⟨?_, ?_, ?_, ?_, ?_, ?_, ?_⟩, by rw [h2]; exact c⟩
  · rw [A.p (by omega) (by omega)]; exact a1
  · rw [A.p (by omega) (by omega)]; exact a2
  · rw [A.k (by omega)]; exact a3
  · rw [A.n (by omega)]; exact a4
  · rw [A.k (by omega)]; exact b1
  · rw [A.p (by omega) (by omega)]; exact b2
  · rw [A.k (by omega)]; exact b3
  · rw [A.n (by omega)]; exact b4
  · rw [A.p (by omega) (by omega)]; exact b5
  · rw [A.k (by omega)]; exact b6
  · rw [A.n (by omega)]; exact b7
theorem fill2_p (hk : pK h a = 41) (hl : pN h a ≤ 1000) : ∃ h', f_J10_fill_2 h a (-1) = some h' ∧ AgI h h' (fun b _ => b = a) ∧ ∀ i, i < pN h a → pI h' a i = -1 := by
  unfold f_J10_fill_2
  rw [gd_c (by rw [hk]; decide), bnd_eq]
  unfold f_J10_fill_2_5
  exact loopI (f := fun (z : HP × Int) => f_J10_fill_2_5s z.1 a (-1) z.2 ((pN h a : Nat) : Int)) (P := fun h' => AgI h h' (fun b _ => b = a) ∧ ∀ i, i < pN h a → pI h' a i = -1) (fun k z => z.2 = (k : Int) ∧ AgI h z.1 (fun b _ => b = a) ∧ ∀ i, i < k → pI z.1 a i = -1) (a := 0) (b := pN h a) (s0 := (h, 0)) (by omega) ⟨rfl, AgI.refl h _, fun i hi => by omega⟩ (fun k z _ k2 hz' => by
    obtain ⟨g, w⟩ := z
    obtain ⟨i1, i2, i3⟩ := hz'
    have i1 : w = (k : Int) := i1
    subst i1
    have i2 : AgI h g (fun b _ => b = a) := i2
    have kg : pK g a = 41 := by rw [i2.1]; exact hk
    have ng : pN g a = pN h a := by rw [i2.2.1]
    show ∃ s', f_J10_fill_2_5s g a (-1) (k : Int) ((pN h a : Nat) : Int) = some (.inl s') ∧ _
    unfold f_J10_fill_2_5s
    rw [if_ltp (by omega) (by omega) (by omega), gd_c (by rw [kg]; decide), gd_zin (by omega) (by rw [ng]; omega) (by rw [ng]; omega), zix_nat (by omega), bnd_eq]
    refine ⟨_, rfl, by show (k : Int) + 1 = _; omega, i2.wi (b := a) (j := k) rfl _, fun i hi => ?_⟩
    rw [pI_wI]
    by_cases t : i = k
    · rw [if_pos ⟨rfl, t⟩]
    · rw [if_neg (fun u => t u.2)]; exact i3 i (by omega)) (fun z hz' => by
    obtain ⟨g, w⟩ := z
    obtain ⟨i1, i2, i3⟩ := hz'
    have i1 : w = ((pN h a : Nat) : Int) := i1
    subst i1
    show ∃ r, f_J10_fill_2_5s g a (-1) ((pN h a : Nat) : Int) ((pN h a : Nat) : Int) = some (.inr r) ∧ _
    unfold f_J10_fill_2_5s
    rw [if_ltn (by omega) (by omega) (by omega)]
    exact ⟨g, rfl, i2, i3⟩)
/-- nothing is placed -/
theorem layout_26 (H : PE h pg φ T rs) (hW : WF T) (hO : pP h pg 15 = some (pg + 16) ∧ pK h (pg + 16) = 26 ∧ pL h (pg + 16) = (tO T).map φ) (v : Int) : ∃ h', f_X0_layout_26 h pg v 0 = f_X0_layout_73 h' pg v ∧ AgL h h' ∧ (∀ b j, pK h b ≠ 41 → pI h' b j = pI h b j) ∧ ∀ p k, p < tN T → nmQ T p = 1 → k < (txP T p).length → pI h' (plA h φ T p) k = -1 := by
  have h24 := hW.1.2.1
  have hl := hW.1.2.2.1
  unfold f_X0_layout_26
  have hord : ∀ g, AgL h g → pP g pg 15 = some (pg + 16) ∧ lLen g (pg + 16) = some ((tN T : Nat) : Int) ∧ ∀ i, i < tN T → lGet g (pg + 16) (i : Int) = some (φ (ioP T i)) ∧ isN (pK g (φ (ioP T i))) := fun g A => by
    have Hg := H.agl hW A
    have k26 : pK g (pg + 16) = 26 := by rw [A.1.1]; exact hO.2.1
    have l26 : pL g (pg + 16) = (tO T).map φ := by rw [A.1.2.2.1]; exact hO.2.2
    refine ⟨by rw [A.2.1 _ _ (by rw [H.1.1.1.1]; omega)]; exact hO.1, ?_, fun i hi => ⟨?_, (Hg.1.c.kd (io_lt hW hi)).1⟩⟩
    · unfold lLen
      rw [gd_c (by rw [k26]; decide), l26, List.length_map, hl]
    · unfold lGet
      rw [gd_c (by rw [k26]; decide), l26, List.length_map, gd_zin (by omega) (by omega) (by omega), zix_nat (by omega), getD_map (by omega)]
      rfl
  obtain ⟨z, hI, hz⟩ := loopX (f := fun (z : HP × Int) => f_X0_layout_26s z.1 pg v z.2) (fun n z => z.2 = (n : Int) ∧ AgL h z.1 ∧ (∀ b j, pK h b ≠ 41 → pI z.1 b j = pI h b j) ∧ ∀ p k, p < n → nmQ T p = 1 → k < (txP T p).length → pI z.1 (plA h φ T p) k = -1) (a := 0) (b := tN T) (s0 := (h, 0)) (by omega) ⟨rfl, AgL.refl h, fun _ _ _ => rfl, fun p k hp => by omega⟩ (fun n z _ n2 hz => by
    obtain ⟨g, w⟩ := z
    obtain ⟨i1, i2, i3, i4⟩ := hz
    have i1 : w = (n : Int) := i1
    subst i1
    have i2 : AgL h g := i2
    have Hg := H.agl hW i2
    obtain ⟨o1, l1, l2⟩ := hord g i2
    have hk1 := Hg.1.1.1.1
    show ∃ s', f_X0_layout_26s g pg v (n : Int) = some (.inl s') ∧ _
    unfold f_X0_layout_26s f_X0_layout_67
    rw [gd_c hk1, o1, obind_some, l1, obind_some, if_ltp (by omega) (by omega) (by omega), gd_c hk1, obind_some, (l2 n n2).1, obind_some, gd_c (l2 n n2).2, gd_c (l2 n n2).2]
    by_cases hm : nmQ T n = 1
    · obtain ⟨t1, t2, t3, t4, t5, t6, t7⟩ := Hg.tx hW n2 hm
      have hk3 : kis g (φ (ioP T n)) 3 = 1 := by unfold kis; rw [if_pos t1.1]
      have hpa := plA_agl H hW i2 n2 hm
      obtain ⟨g', q1, q2, q3⟩ := fill2_p t3 t5
      rw [hk3, if_eqn (by omega) (by omega) (by omega) (by omega) (by omega), gd_c t1.1, gd_c t1.1, t2, obind_some, q1, obind_some]
      have Ag : AgL g g' := q2.l (fun b j hb => by have hb : b = plA g φ T n := hb; rw [hb]; unfold lP; rw [t3]; omega)
      refine ⟨_, rfl, by show (n : Int) + 1 = _; omega, i2.trans Ag, fun b j hb => ?_, fun p k hp hmp hk => ?_⟩
      · have hne : b ≠ plA g φ T n := fun z => hb (by rw [z, ← i2.1.1]; exact t3)
        rw [q2.2.2.2.2.2.2.2.2.2 b j hne]
        exact i3 b j hb
      · by_cases z : p = n
        · rw [z, ← hpa]
          exact q3 k (by rw [z] at hk; omega)
        · have hne : plA h φ T p ≠ plA g φ T n := by rw [hpa]; exact plA_ne H hW (by omega) hmp n2 hm z
          rw [q2.2.2.2.2.2.2.2.2.2 _ _ hne]
          exact i4 p k (by omega) hmp hk
    · have hE := Hg.1.elc (io_lt hW n2) hm
      have hk3 : kis g (φ (ioP T n)) 3 = 0 := by unfold kis; rw [if_neg (by rw [hE.1]; omega)]
      rw [hk3, if_eqp rfl]
      refine ⟨_, rfl, by show (n : Int) + 1 = _; omega, i2, i3, fun p k hp hmp hk => ?_⟩
      exact i4 p k (by have : p ≠ n := fun z => by rw [z] at hmp; exact hm hmp
                       omega) hmp hk)
  obtain ⟨g, w⟩ := z
  obtain ⟨i1, i2, i3, i4⟩ := hI
  have i1 : w = (tN T : Int) := i1
  subst i1
  have i2 : AgL h g := i2
  obtain ⟨o1, l1, l2⟩ := hord g i2
  have hk1 := (H.agl hW i2).1.1.1.1
  refine ⟨g, ?_, i2, i3, i4⟩
  rw [hz]
  refine iter_mr ?_
  simp only []
  unfold f_X0_layout_26s
  rw [gd_c hk1, o1, obind_some, l1, obind_some, if_ltn (by omega) (by omega) (by omega)]
/-- where a character may stand -/
theorem cov_b (hW : WF T) (hok : ∀ r ∈ rs, okR2 r) (hrs : ∀ r ∈ rs, okRV r) (hIS : isP T (tN T) ≤ 183) (Q : LQ T rs v Wd Lf tl tp) (hv : 1 ≤ v ∧ v ≤ 64) (hc : Cov T rs Wd tl n q j p k) (hi : (txP T p).getD k 0 ≠ 32) : (0 ≤ Lf n + vlP T rs 5 n + (flF T rs Wd tl n q).2.2.1 j ∧ Lf n + vlP T rs 5 n + (flF T rs Wd tl n q).2.2.1 j < 65536) ∧ 0 ≤ tp n + vlP T rs 5 n + flE T rs Wd tl n q + (flF T rs Wd tl n q).2.2.2 j ∧ tp n + vlP T rs 5 n + flE T rs Wd tl n q + (flF T rs Wd tl n q).2.2.2 j < 32768 := by
  have h24 := hW.1.2.1
  obtain ⟨c1, c2, c3, c4, c5⟩ := hc
  obtain ⟨e1, e2⟩ := ev_lt c3
  have hbl := beh_le hW c1
  have hO := run_ok (Wd := Wd) (tl := tl) hW hrs hIS e1 (by omega)
  obtain ⟨f1, f2, f3, f4, f5, f6⟩ := FL_b (W := Wd n) hO
  have hl := (wd_b hW hok hrs Q hv n c1).2
  have ht := tp_b hW hok hrs hIS Q n c1
  have bt := bB_top hW hIS (s := n) (by omega)
  have h5 := (vl_rng hW hrs c1).2.2.2.2.1
  have hs := (hs_small hW hok hrs hIS Q c1 e1 e2).1
  have hx := f5 j
  have hy := f6 j (by
    show rkk ((hsP T rs Wd tl n q).2.2.2.1.map (rkP T rs)) j = 2
    rw [(rk_at c4).1, c5]; exact if_neg hi)
  have e3 : (flF T rs Wd tl n q).2.2.1 j = (FL (Wd n) (rkL T rs (hsP T rs Wd tl n q))).2.2.1 j := rfl
  have e4 : (flF T rs Wd tl n q).2.2.2 j = (FL (Wd n) (rkL T rs (hsP T rs Wd tl n q))).2.2.2 j := rfl
  have e5 : flE T rs Wd tl n q = (hsP T rs Wd tl n q).1 + (hsP T rs Wd tl n q).2.1 := rfl
  rw [e3, e4, e5]
  omega
theorem layout_p (H : RepB h pg φ T) (hW : WF T) (h12 : rs.length ≤ 12) (hok : ∀ r ∈ rs, okR2 r) (hrs : ∀ r ∈ rs, okRV r) (hX : txOK T) (hIS : isP T (tN T) ≤ 183) (Q : LQ T rs v Wd Lf tl tp) (hv : 1 ≤ v ∧ v ≤ 64) (hO : OrdC h pg) (hC : ShC h pg) (hRs : RulesR h rs (pL h (pg + 9))) (hF : pI h pg 16 = 0 ∨ (pI h pg 16 = 1 ∧ VS h pg φ T rs (tN T))) (hR : RU h (u + 24)) (hRc : RcP h pg) (hXY : ∀ p k, p < tN T → k < (txP T p).length → chA T rs p k → ∃ n q j, Cov T rs Wd tl n q j p k ∧ PX p k = Lf n + vlP T rs 5 n + (flF T rs Wd tl n q).2.2.1 j ∧ PY p k = tp n + vlP T rs 5 n + flE T rs Wd tl n q + (flF T rs Wd tl n q).2.2.2 j) : ∃ h', f_X0_layout h pg v = some (h', tl 0) ∧ AgQ pg h h' ∧ OrdC h' pg ∧ VS h' pg φ T rs (tN T) ∧ RU h' u ∧ pI h' pg 16 = 1 ∧ (∀ j, j ≠ 16 → j ≠ 17 → pI h' pg j = pI h pg j) ∧ RcP h' pg ∧ LaidP h' pg φ T rs Wd Lf tl tp PX PY v := by
  have h24 := hW.1.2.1
  have h1N := hW.1.1
  have hl := hW.1.2.2.1
  have hk1 := H.1.1.1
  have hlt := H.1.lt
  have h21 := H.1.2.1.2.2.2.2
  obtain ⟨h1, r1, r2, r3, r4, r5, r6, r7, r8, r9⟩ := refresh_p H hW h12 hok hO hC hRs hF hR
  have H1 : RepB h1 pg φ T := H.agw hW.stk (r2.w hk1 (by omega))
  have R1 : RcP h1 pg := hRc.agq r2 (by omega) hk1 (r9 _ (by omega) hRc.2.1.1 _)
  have P1 : PE h1 pg φ T rs := ⟨H1, fun n hn hm => (r4.2 n (by omega)).2 hm, R1.2.1⟩
  have hL1 : pL h1 (pg + 16) = (tO T).map φ := by rw [r4.1, List.take_of_length_le (by omega)]
  obtain ⟨h2, s1, s2, s3, s4⟩ := layout_26 P1 hW ⟨r3.1, r3.2.1, hL1⟩ v
  have P2 := P1.agl hW s2
  -- the root
  have hb0 := bx_0 hW hok
  have hbe0 := beh_0 hW
  have hio0 := io_0 hW
  have hm0 : nmQ T 0 ≠ 1 := by rw [nm_0 hW]; omega
  have hv4 : vlP T rs 4 0 = 0 := by unfold vlP; rw [hio0, val_root hW hok]; rfl
  have hv5 : vlP T rs 5 0 = 0 := by unfold vlP; rw [hio0, val_root hW hok]; rfl
  have hv6 : vlP T rs 6 0 = -1 := by unfold vlP; rw [hio0, val_root hW hok]; rfl
  have hk17 := P2.2.2.1
  have A3 : AgL h2 (wI h2 (pg + 17) 3 0) := (AgL.refl h2).aI (by unfold lP; rw [hk17]; omega) _
  have hI3 : ∀ b j, ¬ (b = pg + 17 ∧ j = 3) → pI (wI h2 (pg + 17) 3 0) b j = pI h2 b j := fun b j hb => by rw [pI_wI, if_neg hb]
  have h33 : pI (wI h2 (pg + 17) 3 0) (pg + 17) 3 = 0 := by rw [pI_wI, if_pos ⟨rfl, rfl⟩]
  have hgo : f_X0_layout_73 h2 pg v = Option.bind (f_X0_lay 60 (wI h2 (pg + 17) 3 0) (pg + 1) 0 0 v (pg + 17)) (fun y5 => gd (pK y5 pg = 1) (bnd (wI y5 pg 17 v) (fun h6 => gd (pK h6 pg = 1) (Option.bind (f_X0_paint h6 pg) (fun y7 => gd (pK y7 pg = 1) (Option.bind (pP y7 pg 0) (fun a8 => gd (pK y7 a8 = 2) (some (y7, pI y7 a8 12)))))))) ) := by
    unfold f_X0_layout_73
    have k2 : pK h2 pg = 1 := P2.1.1.1.1
    have p18 : pP h2 pg 18 = some (pg + 17) := by rw [s2.2.1 _ _ (by rw [H1.1.1.1]; omega)]; exact R1.1.1
    have p0 : pP (wI h2 (pg + 17) 3 0) pg 0 = some (pg + 1) := P2.1.1.1.2.1
    have p18' : pP (wI h2 (pg + 17) 3 0) pg 18 = some (pg + 17) := p18
    rw [gd_c k2, p18, obind_some, gd_c hk17, bnd_eq, gd_c (by exact k2), gd_c (by exact k2), p0, obind_some, p18', obind_some]
  generalize wI h2 (pg + 17) 3 0 = h3 at A3 hI3 h33 hgo
  have P3 := P2.agl hW A3
  have A13 := s2.trans A3
  have hφ0 : φ (ioP T 0) = pg + 1 := by rw [hio0]; exact P3.1.2.1
  obtain ⟨h4, l1, l2, l3, l4, l5, l6, l7⟩ := (lay_all (pg := pg) (φ := φ) hW hok hrs hX hIS Q hv 60).1 h3 0 0 v h1N hb0 (by rw [hbe0]; omega) P3 (by
    rw [hI3 _ _ (by omega), s3 _ _ (by rw [R1.2.1.1]; omega)]; exact R1.2.2) (fun p k p1 p2 p3 p4 => by
    rw [hbe0] at p2
    rw [plA_agl P1 hW A13 p2 p3, hI3 _ _ (fun z => by have := (P1.tx hW p2 p3).2.2.1; rw [z.1, R1.2.1.1] at this; omega)]
    exact s4 p k p2 p3 p4) (by rw [hv4, Q.1.2.1]; rfl) (by
    rw [if_pos hv6, hv4, hv5, Q.1.1]; omega) (by omega)
  rw [hφ0, Q.1.2.2] at l1
  rw [hbe0] at l5 l6 l7
  have A14 := A13.trans l3.1
  -- the width is noted
  have k4 : pK h4 pg = 1 := l2.1.1.1.1
  have hI5 : ∀ b j, ¬ (b = pg ∧ j = 17) → pI (wI h4 pg 17 v) b j = pI h4 b j := fun b j hb => by rw [pI_wI, if_neg hb]
  have h517 : pI (wI h4 pg 17 v) pg 17 = v := by rw [pI_wI, if_pos ⟨rfl, rfl⟩]
  have A45 : AgQ pg h4 (wI h4 pg 17 v) := (AgQ.refl pg h4).aI (by unfold qP; omega) v
  have hneel : ∀ n, n < tN T → nmQ T n ≠ 1 → φ (ioP T n) ≠ pg ∧ φ (ioP T n) + 2 ≠ pg := fun n hn hm => by
    have hE := (l2.el hW hn hm).1
    exact ⟨kne h4 (by rw [hE.1, k4]; omega), kne h4 (by rw [hE.2.2.2.2.1, k4]; omega)⟩
  have P5 : PE (wI h4 pg 17 v) pg φ T rs := by
    refine ⟨l2.1.agw hW.stk (A45.w k4 (by rw [A14.1.2.2.2.2.2.1]; have := r2.1; omega)), fun n hn hm => ?_, l2.2.2⟩
    obtain ⟨q1, q2⟩ := hneel n hn hm
    obtain ⟨e1, e2⟩ := l2.2.1 n hn hm
    exact ⟨fun k hk => by rw [hI5 _ _ (fun z => q2 z.1)]; exact e1 k hk, by rw [hI5 _ _ (fun z => q1 z.1)]; exact e2⟩
  have G5 : PG (wI h4 pg 17 v) pg φ T rs v := by
    refine ⟨P5, ⟨?_, ?_, ?_⟩, ⟨?_, ?_, ?_⟩, h517⟩
    · show pP h4 pg 19 = _
      rw [A14.2.1 _ _ (by rw [H1.1.1.1]; omega)]; exact R1.1.2.1
    · show pK h4 (pg + 20) = _
      rw [A14.1.1]; exact R1.1.2.2.1
    · show pN h4 (pg + 20) = _
      rw [A14.1.2.1]; exact R1.1.2.2.2
    · show pP h4 pg 15 = _
      rw [A14.2.1 _ _ (by rw [H1.1.1.1]; omega)]; exact r3.1
    · show pK h4 (pg + 16) = _
      rw [A14.1.1]; exact r3.2.1
    · show pL h4 (pg + 16) = _
      rw [A14.1.2.2.1]; exact hL1
  have hplA5 : ∀ p, plA (wI h4 pg 17 v) φ T p = plA h4 φ T p := fun p => rfl
  have hpl5 : ∀ p k, p < tN T → nmQ T p = 1 → pI (wI h4 pg 17 v) (plA h4 φ T p) k = pI h4 (plA h4 φ T p) k := fun p k hp hm => hI5 _ _ (fun z => by have := (l2.tx hW hp hm).2.2.1; rw [z.1, k4] at this; omega)
  have hBox5 : ∀ n, n < tN T → bxP T rs n = true → BoxC (wI h4 pg 17 v) φ T rs Wd Lf tl tp n := fun n hn hb => by
    obtain ⟨q1, q2⟩ := hneel n hn (bx_d hb).1
    unfold BoxC
    rw [hI5 _ _ (fun z => q1 z.1), hI5 _ _ (fun z => q1 z.1), hI5 _ _ (fun z => q1 z.1), hI5 _ _ (fun z => q1 z.1)]
    exact l6 n (by omega) hn hb
  have hr5 : ∀ j, pI (wI h4 pg 17 v) (pg + 17) j = pI h4 (pg + 17) j := fun j => hI5 _ _ (fun z => by omega)
  have hpg5 : ∀ j, j ≠ 17 → pI (wI h4 pg 17 v) pg j = pI h1 pg j := fun j hj => by
    rw [hI5 _ _ (fun z => hj z.2), A14.2.2 _ _ (fun z => by unfold lP at z; rw [H1.1.1.1] at z; omega)]
  have hno5 : ∀ n, n < tN T → pI (wI h4 pg 17 v) (φ (ioP T n)) 1 = pI h1 (φ (ioP T n)) 1 := fun n hn => by
    have hkd := (P1.1.c.kd (io_lt hW hn)).1
    rw [hI5 _ _ (fun z => by omega), A14.2.2 _ _ (fun z => by unfold lP at z; omega)]
  have AQ5 : AgQ pg h (wI h4 pg 17 v) := (r2.trans (AgL.agq A14 pg)).trans A45
  have hXS : pX (wI h4 pg 17 v) = pX h1 ∧ pS (wI h4 pg 17 v) = pS h1 ∧ pO (wI h4 pg 17 v) = pO h1 := ⟨A14.1.2.2.2.2.2.1, A14.1.2.2.2.2.2.2.1, A14.1.2.2.2.2.2.2.2⟩
  generalize hh5 : wI h4 pg 17 v = h5 at *
  -- places
  have hPv : ∀ p k, p < tN T → nmQ T p = 1 → k < (txP T p).length → pI h5 (plA h5 φ T p) k = plV T rs PX PY p k := fun p k hp hm hk => by
    have h0 : 0 < p := by
      rcases Nat.eq_zero_or_pos p with z | z
      · rw [z, nm_0 hW] at hm; omega
      · exact z
    rw [hplA5, hpl5 p k hp hm]
    have hp := l7 p k h0 hp hm hk
    unfold plV
    cases hc : chB T rs p k with
    | false =>
      rw [if_neg (show ¬ (false = true) by simp)]
      refine hp.1 ?_
      have hn : ¬ chA T rs p k := fun z => by rw [chB_iff.mpr z] at hc; cases hc
      cases hd : hdP T rs p with
      | true => exact Or.inl rfl
      | false =>
        right
        by_cases z : (txP T p).getD k 0 = 32
        · exact z
        · exact (hn ⟨hd, hm, z⟩).elim
    | true =>
      rw [if_pos (show true = true from rfl)]
      have ha := chB_iff.mp hc
      obtain ⟨n, q, j, e1, e2⟩ := hp.2 ha.1 ha.2.2
      obtain ⟨n', q', j', d1, d2, d3⟩ := hXY p k (by omega) hk ha
      obtain ⟨u1, u2, u3⟩ := e1.uniq d1
      subst u1 u2 u3
      rw [e2, d2, d3]
  have hRg : ∀ p k, p < tN T → k < (txP T p).length → chB T rs p k = true → (0 ≤ PX p k ∧ PX p k < 65536) ∧ 0 ≤ PY p k ∧ PY p k < 32768 := fun p k hp hk hc => by
    have ha := chB_iff.mp hc
    obtain ⟨n', q', j', d1, d2, d3⟩ := hXY p k hp hk ha
    rw [d2, d3]
    exact cov_b hW hok hrs hIS Q hv d1 ha.2.2
  obtain ⟨h6, p1, p2, p3⟩ := paint_p (PX := PX) (PY := PY) G5 hW hrs hX hv hBox5 (fun n hn => by
    have w := wd_b hW hok hrs Q hv n hn
    have t := tl_small hW hok hrs hIS Q hn
    have t2 := tp_b hW hok hrs hIS Q n hn
    have bt := bB_top hW hIS (s := n) (by omega)
    refine ⟨⟨w.2.1, by omega⟩, w.1, ⟨t.1, by omega⟩, t2.1, by omega⟩) hPv hRg
  have G6 := G5.agp hW p2
  have hk45 := G5.2.1.2.1
  have k5 : pK h5 pg = 1 := P5.1.1.1.1
  have A56 : AgQ pg h5 h6 := AgI.q p2 (fun b j hb => by have hb : b = pg + 20 := hb; rw [hb, hk45]; unfold qP; omega)
  have hne20 : ∀ n, n < tN T → φ (ioP T n) ≠ pg + 20 := fun n hn => kne h5 (by rw [hk45]; rcases (P5.1.c.kd (io_lt hW hn)).1 with z | z <;> rw [z] <;> omega)
  have AQ6 := AQ5.trans A56
  have B6 : ∀ n, n < tN T → bxP T rs n = true → BoxC h6 φ T rs Wd Lf tl tp n := fun n hn hb => (hBox5 n hn hb).agp G5 hW hn (bx_d hb).1 p2
  have e61 : pP h6 pg 0 = some (pg + 1) := G6.1.1.1.1.2.1
  have hb12 := (B6 0 h1N hb0).2.2.2
  rw [hφ0] at hb12
  have k61 : pK h6 (pg + 1) = 2 := by
    have := (G6.1.el hW h1N hm0).1.1
    rw [hφ0] at this
    exact this
  refine ⟨h6, ?_, AQ6, ⟨?_, ?_, ?_, ?_⟩, ⟨?_, fun k hk => ⟨?_, fun hm => ?_⟩⟩, ?_, ?_, fun j j1 j2 => ?_, ?_, B6, fun p k hp hm hk => ?_, ?_, ?_, p3⟩
  · unfold f_X0_layout
    have hlay : f_X0_lay 60 h3 (pg + 1) 0 0 v (pg + 17) = some h4 := l1
    rw [if_ltn (by omega) (by omega) (by omega), if_ltn (by omega) (by omega) (by omega), gd_c hk1, H.2.2.2.2.2.2.2.2, if_eqp rfl, gd_c hk1, r1, obind_some, s1, hgo, hlay, obind_some, gd_c k4, bnd_eq, hh5, gd_c k5, p1, obind_some, gd_c G6.1.1.1.1.1, e61, obind_some, gd_c k61, hb12]
  · exact G6.2.2.1.1
  · exact G6.2.2.1.2.1
  · rw [p2.2.2.2.2.2.1, ← hh5]
    show pC h4 (pg + 16) ≤ 60
    rw [A14.1.2.2.2.2.1]; exact r3.2.2.1
  · rw [G6.2.2.1.2.2, List.length_map]; omega
  · rw [G6.2.2.1.2.2, List.take_of_length_le (by omega)]
  · show pI h6 (φ (ioP T k)) 1 = _
    rw [p2.i (hne20 k hk), hno5 k hk]
    exact (r4.2 k hk).1
  · exact G6.1.2.1 k hk hm
  · unfold RU at r5 ⊢
    rw [p2.2.2.2.2.2.2.1, p2.2.2.2.2.2.2.2.1, p2.2.2.2.2.2.2.2.2.1, hXS.1, hXS.2.1, hXS.2.2]
    exact r5
  · rw [p2.i (by omega), hpg5 16 (by omega)]; exact r6
  · rw [p2.i (by omega), hpg5 j j2]; exact r7 j j1
  · refine ⟨⟨?_, G6.2.1.1, G6.2.1.2.1, G6.2.1.2.2⟩, G6.1.2.2, ?_⟩
    · rw [p2.2.2.1, ← hh5]
      show pP h4 pg 18 = _
      rw [A14.2.1 _ _ (by rw [H1.1.1.1]; omega)]; exact R1.1.1
    · rw [p2.i (by omega), hr5]; exact l4
  · have hne : plA h5 φ T p ≠ pg + 20 := kne h5 (by rw [(P5.tx hW hp hm).2.2.1, hk45]; omega)
    rw [plA_agp p2, p2.i hne]
    exact hPv p k hp hm hk
  · rw [p2.i (by omega), hr5, l5, h33]
    show 0 + (lpP T rs Wd tl (tN T) - 0) = _
    omega
  · rw [p2.i (by omega)]; exact h517
theorem layout_no (hv : v < 1 ∨ 64 < v ∨ (pK h pg = 1 ∧ pI h pg 7 = 1)) (h1 : -2147483648 ≤ v) (h2 : v < 2147483648) : f_X0_layout h pg v = some (h, -1) := by
  unfold f_X0_layout
  by_cases z1 : v < 1
  · rw [if_ltp z1 (by omega) (by omega)]
  · rw [if_ltn (by omega) (by omega) (by omega)]
    by_cases z2 : 64 < v
    · rw [if_ltp z2 (by omega) (by omega)]
    · rw [if_ltn (by omega) (by omega) (by omega)]
      have hb : pK h pg = 1 ∧ pI h pg 7 = 1 := by omega
      rw [gd_c hb.1, hb.2, if_eqn (by omega) (by omega) (by omega) (by omega) (by omega)]
end PC
