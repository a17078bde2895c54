/-! the page: the boxes of a row -/
set_option maxRecDepth 100000
section PK
variable {h h' h0 h1 h2 : HP} {pg r : Nat} {φ : Nat → Nat} {T : TS} {rs : List RL} {R : List IT} {n p k q j x N e a : Nat} {Wd Lf tl tp : Nat → Int} {v : Int} {s : HS}
theorem kids_24 (hW : WF T) (i : Nat) : (kids T i).length ≤ 24 := by
  have := List.length_filter_le (fun j => decide (j ≠ 0) && decide (tP T j = i)) (tO T)
  have h24 := hW.1.2.1
  unfold kids
  rw [hW.1.2.2.1] at this
  omega
/-- an element's children -/
theorem PE.wkids (H : PE h pg φ T rs) (hW : WF T) (hx : x < tN T) (hm : nmQ T x ≠ 1) : lLen h (φ (ioP T x) + 1) = some ((kids T (ioP T x)).length : Int) ∧ ∀ i, i < (kids T (ioP T x)).length → lGet h (φ (ioP T x) + 1) (i : Int) = some (φ ((kids T (ioP T x)).getD i 0)) ∧ isN (pK h (φ ((kids T (ioP T x)).getD i 0))) := by
  have hl := kids_24 hW (ioP T x)
  have ge := (H.el hW hx hm).1
  have gl := (H.1.2.2.2.1 _ (io_lt hW hx) hm).2.2.2
  refine ⟨?_, fun i hi => ⟨?_, ?_⟩⟩
  · unfold lLen
    rw [gd_c (by rw [ge.2.2.1]; decide), gl, List.length_map]
  · unfold lGet
    rw [gd_c (by rw [ge.2.2.1]; decide), gl, List.length_map, gd_zin (by omega) (by omega) (by omega), zix_nat (by omega), getD_map (by omega)]
  · have hmem : (kids T (ioP T x)).getD i 0 ∈ kids T (ioP T x) := by rw [gD hi]; exact List.getElem_mem _
    unfold kids at hmem
    rw [List.mem_filter] at hmem
    exact (H.1.c.kd (hW.1.2.2.2.1 _ hmem.1)).1
/-- child i of e, in the row of its children -/
theorem kw_i (hW : WF T) (he : e < tN T) {i : Nat} (hi : i < (kids T (ioP T e)).length) (hK : KW T ((kids T (ioP T e)).drop i) a (behindA T e)) : ioP T a = (kids T (ioP T e)).getD i 0 ∧ a < tN T ∧ upP T a = e ∧ a < behindA T a ∧ behindA T a ≤ behindA T e ∧ KW T ((kids T (ioP T e)).drop (i + 1)) (behindA T a) (behindA T e) := by
  have hdr : (kids T (ioP T e)).drop i = (kids T (ioP T e)).getD i 0 :: (kids T (ioP T e)).drop (i + 1) := by rw [gD hi, List.getElem_cons_drop]
  rw [hdr] at hK
  obtain ⟨k1, k2, k3, k4, k5⟩ := hK
  have hmem : (kids T (ioP T e)).getD i 0 ∈ kids T (ioP T e) := by rw [gD hi]; exact List.getElem_mem _
  have hm2 := hmem
  unfold kids at hm2
  rw [List.mem_filter] at hm2
  have hpar : (kids T (ioP T e)).getD i 0 ≠ 0 ∧ tP T ((kids T (ioP T e)).getD i 0) = ioP T e := by simpa [kids] using hm2.2
  have hioa : ioP T a = (kids T (ioP T e)).getD i 0 := by rw [← k2]; exact (io_seat hW k1).1
  have han : a < tN T := by rw [← k2]; exact (io_seat hW k1).2
  refine ⟨hioa, han, ?_, k3, k4, k5⟩
  unfold upP
  rw [hioa, hpar.2]
  exact seat_io hW he
theorem row_kid (hW : WF T) (hok : ∀ r ∈ rs, okR2 r) (hrs : ∀ r ∈ rs, okRV r) (hn : n < tN T) (hb : bxP T rs n = true) (hr : nmQ T n = 114) (ha : a < tN T) (hna : n < a) (hu : upP T a = n) : nmQ T a = 99 ∧ hoP T rs a = n ∧ (bxP T rs a = false → hdP T rs a = true) := by
  have h99 := (up_kid hW ha (by omega)).1.2.2 (by rw [hu]; exact hr)
  have hho : hoP T rs a = n := by rw [ho_s hW hok ha (by omega), hu, if_pos hb]
  refine ⟨h99, hho, fun hbf => ?_⟩
  cases hd : hdP T rs a with
  | true => rfl
  | false =>
    have := (ho_row hW hok hrs a ha (by omega) hd (by rw [hho]; exact hr)).2.1
    rw [hbf] at this; cases this
/-- how many there are -/
theorem side_cnt (hW : WF T) (hok : ∀ r ∈ rs, okR2 r) (hrs : ∀ r ∈ rs, okRV r) (rc : RC_lay) (hn : n < tN T) (hb : bxP T rs n = true) (hr : nmQ T n = 114) (H : PE h pg φ T rs) : ∀ (d i a : Nat), i + d = (kids T (ioP T n)).length → n < a → KW T ((kids T (ioP T n)).drop i) a (behindA T n) → f_X0_side_4 rc h (φ (ioP T n)) (pg + 17) (clP T rs n a : Int) (i : Int) = f_X0_side_61 rc h (φ (ioP T n)) (pg + 17) (clP T rs n (behindA T n) : Int) := by
  have hl := kids_24 hW (ioP T n)
  obtain ⟨l1, l2⟩ := H.wkids hW hn (bx_d hb).1
  have e1 := (H.el hW hn (bx_d hb).1).1
  intro d
  induction d with
  | zero =>
    intro i a hi ha hK
    have : (kids T (ioP T n)).drop i = [] := by rw [List.drop_eq_nil_iff]; omega
    rw [this] at hK
    have hK : a = behindA T n := hK
    unfold f_X0_side_4
    refine iter_mr ?_
    simp only []
    unfold f_X0_side_4s
    rw [gd_c e1.1, e1.2.1, obind_some, l1, obind_some, if_ltn (by omega) (by omega) (by omega), hK]
  | succ d ih =>
    intro i a hi ha hK
    have hil : i < (kids T (ioP T n)).length := by omega
    obtain ⟨k1, k2, k3, k4, k5, k6⟩ := kw_i hW hn hil hK
    obtain ⟨r1, r2, r3⟩ := row_kid hW hok hrs hn hb hr k2 ha k3
    have hm : nmQ T a ≠ 1 := by omega
    have ea := (H.el hW k2 hm).1
    have hk2 : kis h (φ (ioP T a)) 2 = 1 := by unfold kis; rw [if_pos ea.1]
    have hst : f_X0_side_4s rc h (φ (ioP T n)) (pg + 17) (clP T rs n a : Int) (i : Int) = some (.inl ((clP T rs n (behindA T a) : Int), ((i + 1 : Nat) : Int))) := by
      unfold f_X0_side_4s f_X0_side_52 f_X0_side_53
      rw [gd_c e1.1, e1.2.1, obind_some, l1, obind_some, if_ltp (by omega) (by omega) (by omega), gd_c e1.1, obind_some, (l2 i hil).1, obind_some, gd_c (l2 i hil).2, gd_c (l2 i hil).2, ← k1, hk2, if_eqn (by omega) (by omega) (by omega) (by omega) (by omega), gd_c ea.1, gd_c ea.1, box_p H hW hrs k2 hm, obind_some, cl_blk hW k2 k3 ha]
      cases bxP T rs a with
      | false =>
        rw [if_neg (show ¬ (false = true) by simp), if_eqp rfl, bnd_eq, if_neg (show ¬ (false = true) by simp)]
        simp
      | true =>
        rw [if_pos (show true = true from rfl), if_eqn (by omega) (by omega) (by omega) (by omega) (by omega), bnd_eq, if_pos (show true = true from rfl)]
        simp
    have := ih (i + 1) (behindA T a) (by omega) (by omega) k6
    unfold f_X0_side_4 at this ⊢
    rw [iter_in hst, ← this]
/-- they are laid out -/
theorem side_lay (hW : WF T) (hok : ∀ r ∈ rs, okR2 r) (hrs : ∀ r ∈ rs, okRV r) (hX : txOK T) (hIS : isP T (tN T) ≤ 183) (Q : LQ T rs v Wd Lf tl tp) (hv : 1 ≤ v ∧ v ≤ 64) (hL : LayS pg φ T rs Wd Lf tl tp N) (hn : n < tN T) (hb : bxP T rs n = true) (hr : nmQ T n = 114) (hN : 2 * (behindA T n - n) ≤ N + 2) : ∀ (d i a : Nat) (h : HP), i + d = (kids T (ioP T n)).length → n < a → KW T ((kids T (ioP T n)).drop i) a (behindA T n) → PInv h pg φ T rs Wd Lf tl tp n a (hsP T rs Wd tl n a) → ∃ h', f_X0_side_72 (F_lay N) h (φ (ioP T n)) (pg + 17) (clP T rs n (behindA T n) : Int) (clP T rs n a : Int) (tp n + vlP T rs 5 n) (i : Int) = some h' ∧ PInv h' pg φ T rs Wd Lf tl tp n (behindA T n) (hsP T rs Wd tl n (behindA T n)) ∧ PFr h h' φ T n ∧ pI h' (pg + 17) 3 = pI h (pg + 17) 3 + (lpP T rs Wd tl (behindA T n) - lpP T rs Wd tl a) := by
  have hl := kids_24 hW (ioP T n)
  have h24 := hW.1.2.1
  have hbl := beh_le hW hn
  have hmn := (bx_d hb).1
  have hrw : rwP T n = true := by unfold rwP; simp [hr]
  have z4 : zix 4 = 4 := by decide
  intro d
  induction d with
  | zero =>
    intro i a h hi ha hK I
    have : (kids T (ioP T n)).drop i = [] := by rw [List.drop_eq_nil_iff]; omega
    rw [this] at hK
    have hK : a = behindA T n := hK
    obtain ⟨l1, l2⟩ := I.1.wkids hW hn hmn
    have e1 := (I.1.el hW hn hmn).1
    refine ⟨h, ?_, by rw [← hK]; exact I, PFr.refl h φ T n, by rw [hK]; omega⟩
    unfold f_X0_side_72
    refine iter_out ?_
    simp only []
    unfold f_X0_side_72s
    rw [gd_c e1.1, e1.2.1, obind_some, l1, obind_some, if_ltn (by omega) (by omega) (by omega)]
  | succ d ih =>
    intro i a h hi ha hK I
    have hil : i < (kids T (ioP T n)).length := by omega
    obtain ⟨k1, k2, k3, k4, k5, k6⟩ := kw_i hW hn hil hK
    obtain ⟨r1, r2, r3⟩ := row_kid hW hok hrs hn hb hr k2 ha k3
    have hab : a < behindA T n := by omega
    have hm : nmQ T a ≠ 1 := by omega
    obtain ⟨l1, l2⟩ := I.1.wkids hW hn hmn
    have e1 := (I.1.el hW hn hmn).1
    obtain ⟨ea, ea2, ea3, ea4⟩ := I.1.el hW k2 hm
    have hk2 : kis h (φ (ioP T a)) 2 = 1 := by unfold kis; rw [if_pos ea.1]
    have hstep : ∃ h1, f_X0_side_72s (F_lay N) h (φ (ioP T n)) (pg + 17) (clP T rs n (behindA T n) : Int) (clP T rs n a : Int) (tp n + vlP T rs 5 n) (i : Int) = some (.inl (h1, (clP T rs n (behindA T a) : Int), ((i + 1 : Nat) : Int))) ∧ PInv h1 pg φ T rs Wd Lf tl tp n (behindA T a) (hsP T rs Wd tl n (behindA T a)) ∧ PFr h h1 φ T n ∧ pI h1 (pg + 17) 3 = pI h (pg + 17) 3 + (lpP T rs Wd tl (behindA T a) - lpP T rs Wd tl a) := by
      unfold f_X0_side_72s f_X0_side_191
      rw [gd_c e1.1, e1.2.1, obind_some, l1, obind_some, if_ltp (by omega) (by omega) (by omega), gd_c e1.1, obind_some, (l2 i hil).1, obind_some, gd_c (l2 i hil).2, gd_c (l2 i hil).2, ← k1, hk2, if_eqn (by omega) (by omega) (by omega) (by omega) (by omega), gd_c ea.1, gd_c ea.1, box_p I.1 hW hrs k2 hm, obind_some, cl_blk hW k2 k3 ha]
      cases hba : bxP T rs a with
      | false =>
        obtain ⟨a1, a2, a3⟩ := inv_hid hW hn ha hab (r3 hba) I
        rw [if_neg (show ¬ (false = true) by simp), if_eqp rfl, if_neg (show ¬ (false = true) by simp)]
        refine ⟨h, ?_, a1, PFr.refl h φ T n, by rw [a3]; omega⟩
        simp
      | true =>
        rw [if_pos (show true = true from rfl), if_eqn (by omega) (by omega) (by omega) (by omega) (by omega), if_pos (show true = true from rfl), gd_c ea.1, gd_c ea.1, ea.2.2.2.1, obind_some, gd_c (by rw [ea.2.2.2.2.1]; decide), gd_zin (by omega) (by rw [ea.2.2.2.2.2.1]; omega) (by rw [ea.2.2.2.2.2.1]; omega), z4, ea2 4 (by omega), bnd_eq]
        have hcl : clP T rs n (behindA T n) = clP T rs n (tN T) := cl_end hW n hn
        have hle : clP T rs n (tN T) ≤ tN T := by
          unfold clP
          exact Nat.le_trans (List.length_filter_le _ _) (by simp)
        have hpos : 0 < clP T rs n (tN T) := by
          have g1 := cl_blk (rs := rs) hW k2 k3 ha
          rw [hba, if_pos (show true = true from rfl)] at g1
          have g2 := cl_le (T := T) (rs := rs) (h := n) (a := behindA T a) (b := tN T) (by omega)
          omega
        have hne : ¬ zI (clP T rs n (behindA T n) : Int) = zI 0 := fun z => by
          have := (zI_eq (by omega) (by omega) (by omega) (by omega)).mp z
          omega
        have hw := (wd_b hW hok hrs Q hv n hn).1
        have hd := div_b hw.1 (clP T rs n (tN T))
        obtain ⟨s1, s2⟩ := hs_small hW hok hrs hIS Q hn ha (Nat.le_of_lt hab)
        have htl := tl_small hW hok hrs hIS Q k2
        have htp := tp_b hW hok hrs hIS Q a k2
        have htpn := tp_b hW hok hrs hIS Q n hn
        have bt := bB_top hW hIS (s := a) (by omega)
        have btn := bB_top hW hIS (s := n) (by omega)
        have hm4 := (vl_rng hW hrs k2).2.2.2.1
        have hm5 := (vl_rng hW hrs hn).2.2.2.2.1
        have hrn0 := row_at (Wd := Wd) (tl := tl) hW hok hrs hn hr ha (by omega)
        have I0 := I
        obtain ⟨i1, ⟨⟨i2, i3, i4⟩, i5, i6, i7, i8⟩, i9, i10, i11, i12⟩ := I
        rw [hrw, if_pos (show true = true from rfl)] at i7 i8
        obtain ⟨Q1, Q2, Q3⟩ := Q.2.1 a k2 (by omega)
        have hrt : rtE T rs Wd tl a = vlP T rs 4 a := by unfold rtE tpS; rw [r2, hrw, if_pos (show true = true from rfl)]
        have htop : tp n + vlP T rs 5 n + vlP T rs 4 a = tp a := by rw [Q3, r2, hrt]
        have hzd : zdiv (pI h (φ (ioP T n)) 14) (clP T rs n (behindA T n) : Int) = Wd n / (clP T rs n (tN T) : Int) := by
          rw [i6, hcl, zdiv_nn hw.1 (by omega) (by omega) (by omega)]
        obtain ⟨h2, m1, m2, m3, m4, m5, m6, m7⟩ := hL h a (pI h (φ (ioP T n)) 13 + (clP T rs n a : Int) * (Wd n / (clP T rs n (tN T) : Int))) (Wd n / (clP T rs n (tN T) : Int)) k2 hba (by omega) i1 (by rw [i9.1, hrn0.1]; rfl) (fun p k p1 p2 p3 p4 => i12 p k (by omega) (by omega) p3 p4) (by
          rw [i5, Q2]; unfold lfE; rw [r2, hrw, if_pos (show true = true from rfl)]) (by
          rw [Q1]; unfold wdE avE; rw [r2, hrw, if_pos (show true = true from rfl)]) (by omega)
        have e2 := (m2.el hW hn hmn).1
        have ea' := (m2.el hW k2 hm).1
        have hbc := m6 a (Nat.le_refl _) k4 hba
        have hn12 : ∀ j, pI h2 (φ (ioP T n)) j = pI h (φ (ioP T n)) j := fun j => m3.2.1 n j hn hmn (by omega)
        rw [gd_c e1.1, gd_c e1.1, gd_c hne, gd_c e1.1, gd_c hne, hzd, htop, m1, obind_some, gd_c e2.1, gd_c ea'.1, gd_c ea'.1, gd_c e2.1, bnd_eq, hn12, i7, hbc.2.1, hbc.2.2.2]
        have hhs : hsP T rs Wd tl n (behindA T a) = bxS (rwP T n) (vlP T rs 4 a) (tl a) (hsP T rs Wd tl n a) := by
          rw [hs_blk hW hok hn ha hab hba, hs_s ha, hst_bx r2 hba, flP_nil hrn0.1]
        have hzm : zmax (tp n + vlP T rs 5 n + (hsP T rs Wd tl n a).2.2.1) (tp a + tl a + vlP T rs 4 a) = tp n + vlP T rs 5 n + max (hsP T rs Wd tl n a).2.2.1 (2 * vlP T rs 4 a + tl a) := by
          rw [zmax_eq (by omega) (by omega) (by omega) (by omega)]
          omega
        rw [hzm]
        have A3 : AgL h2 (wI h2 (φ (ioP T n)) 15 (tp n + vlP T rs 5 n + max (hsP T rs Wd tl n a).2.2.1 (2 * vlP T rs 4 a + tl a))) := (AgL.refl h2).aI (by unfold lP; rw [e2.1]; omega) _
        have hI3 : ∀ b j, ¬ (b = φ (ioP T n) ∧ j = 15) → pI (wI h2 (φ (ioP T n)) 15 (tp n + vlP T rs 5 n + max (hsP T rs Wd tl n a).2.2.1 (2 * vlP T rs 4 a + tl a))) b j = pI h2 b j := fun b j hbj => by rw [pI_wI, if_neg hbj]
        have h15 : pI (wI h2 (φ (ioP T n)) 15 (tp n + vlP T rs 5 n + max (hsP T rs Wd tl n a).2.2.1 (2 * vlP T rs 4 a + tl a))) (φ (ioP T n)) 15 = tp n + vlP T rs 5 n + max (hsP T rs Wd tl n a).2.2.1 (2 * vlP T rs 4 a + tl a) := by rw [pI_wI, if_pos ⟨rfl, rfl⟩]
        generalize wI h2 (φ (ioP T n)) 15 (tp n + vlP T rs 5 n + max (hsP T rs Wd tl n a).2.2.1 (2 * vlP T rs 4 a + tl a)) = h3 at A3 hI3 h15 ⊢
        have P3 := m2.agl hW A3
        have hr3 : ∀ j, pI h3 (pg + 17) j = pI h2 (pg + 17) j := fun j => hI3 _ _ (fun z => by have := m2.2.2.1; rw [z.1, e2.1] at this; omega)
        have hel3 : ∀ y j, y < tN T → nmQ T y ≠ 1 → y ≠ n → pI h3 (φ (ioP T y)) j = pI h2 (φ (ioP T y)) j := fun y j hy hmy hyn => hI3 _ _ (fun z => m2.ne hW hy hn hyn z.1)
        have htx3 : ∀ p k, p < tN T → nmQ T p = 1 → pI h3 (plA h2 φ T p) k = pI h2 (plA h2 φ T p) k := fun p k hp hmp => hI3 _ _ (fun z => by have := (m2.tx hW hp hmp).2.2.1; rw [z.1, e2.1] at this; omega)
        have hpA32 : ∀ p, p < tN T → nmQ T p = 1 → plA h3 φ T p = plA h2 φ T p := fun p hp hmp => plA_agl m2 hW A3 hp hmp
        have hpA21 : ∀ p, p < tN T → nmQ T p = 1 → plA h2 φ T p = plA h φ T p := fun p hp hmp => plA_agl i1 hW m3.1 hp hmp
        have F23 : PFr h2 h3 φ T n := ⟨A3, fun y j hy hmy ho => hel3 y j hy hmy (by have := behindA_gt T n; omega), fun p k hp hmp _ => htx3 p k hp hmp⟩
        refine ⟨h3, ?_, ⟨P3, ⟨⟨?_, ?_, ?_⟩, ?_, ?_, ?_, ?_⟩, ?_, fun y g1 g2 g3 => ?_, fun p k p1 p2 p3 p4 _ => ?_, fun p k p1 p2 p3 p4 => ?_⟩, ?_, ?_⟩
        · simp
        · rw [hI3 _ _ (by omega), hn12]; exact i2
        · rw [hI3 _ _ (by omega), hn12]; exact i3
        · rw [hI3 _ _ (by omega), hn12]; exact i4
        · rw [hI3 _ _ (by omega), hn12]; exact i5
        · rw [hI3 _ _ (by omega), hn12]; exact i6
        · rw [hhs, hrw, if_pos (show true = true from rfl), h15]; rfl
        · rw [hrw, if_pos (show true = true from rfl), hI3 _ _ (by omega), hn12]; exact i8
        · rw [hhs]
          refine ⟨?_, fun j hj => absurd hj (by show ¬ j < ([] : List IT).length; simp)⟩
          rw [hr3, m4]; rfl
        · have hyn : y < tN T := by omega
          have hmy := (bx_d g3).1
          unfold BoxC
          rw [hel3 y 9 hyn hmy (by omega), hel3 y 10 hyn hmy (by omega), hel3 y 11 hyn hmy (by omega), hel3 y 12 hyn hmy (by omega)]
          by_cases z : y < a
          · rw [m3.2.1 y 9 hyn hmy (Or.inl z), m3.2.1 y 10 hyn hmy (Or.inl z), m3.2.1 y 11 hyn hmy (Or.inl z), m3.2.1 y 12 hyn hmy (Or.inl z)]
            exact i10 y g1 z g3
          · exact m6 y (by omega) g2 g3
        · have hpn : p < tN T := by omega
          rw [hpA32 p hpn p3, htx3 p k hpn p3]
          by_cases z : p < a
          · rw [hpA21 p hpn p3, m3.2.2 p k hpn p3 (Or.inl z)]
            exact i11 p k p1 z p3 p4 (by rw [hrn0.1]; simp)
          · have : p ≠ a := fun y => by rw [y] at p3; exact hm p3
            exact m7 p k (by omega) p2 p3 p4
        · have hpn : p < tN T := by omega
          rw [hpA32 p hpn p3, htx3 p k hpn p3, hpA21 p hpn p3, m3.2.2 p k hpn p3 (Or.inr p1)]
          exact i12 p k (by omega) p2 p3 p4
        · exact ((PFr.refl h φ T n).tin I0.1 hW m3 (by omega) (by omega)).tin I0.1 hW F23 (Nat.le_refl _) (Nat.le_refl _)
        · rw [hr3, m5]
    obtain ⟨h1, s1, s2, s3, s4⟩ := hstep
    obtain ⟨h', e1', e2', e3', e4'⟩ := ih (i + 1) (behindA T a) h1 (by omega) (by omega) k6 s2
    refine ⟨h', ?_, e2', s3.tin I.1 hW e3' (Nat.le_refl _) (Nat.le_refl _), by rw [e4', s4]; omega⟩
    unfold f_X0_side_72 at e1' ⊢
    rw [iter_in s1, ← e1']
theorem sid_step (hW : WF T) (hok : ∀ r ∈ rs, okR2 r) (hrs : ∀ r ∈ rs, okRV r) (hX : txOK T) (hIS : isP T (tN T) ≤ 183) (Q : LQ T rs v Wd Lf tl tp) (hv : 1 ≤ v ∧ v ≤ 64) (hL : LayS pg φ T rs Wd Lf tl tp N) : SidS pg φ T rs Wd Lf tl tp (N + 1) := by
  intro h n hn hb hrw hN I
  have hr := rw_nm hrw
  have hkw := kw_all hW (io_lt hW hn)
  rw [seat_io hW hn] at hkw
  have e0 : (F_lay (N + 1)).2.1 h (φ (ioP T n)) (pg + 17) = f_X0_side_4 (F_lay N) h (φ (ioP T n)) (pg + 17) 0 0 := rfl
  have h1 := side_cnt hW hok hrs (F_lay N) hn hb hr I.1 (kids T (ioP T n)).length 0 (n + 1) (by omega) (by omega) (by rw [List.drop_zero]; exact hkw)
  rw [cl_0] at h1
  have h1 : f_X0_side_4 (F_lay N) h (φ (ioP T n)) (pg + 17) 0 0 = _ := h1
  obtain ⟨h', s1, s2, s3, s4⟩ := side_lay hW hok hrs hX hIS Q hv hL hn hb hr (by omega) (kids T (ioP T n)).length 0 (n + 1) h (by omega) (by omega) (by rw [List.drop_zero]; exact hkw) I
  rw [cl_0] at s1
  refine ⟨h', ?_, s2, s3, s4⟩
  rw [e0, h1]
  unfold f_X0_side_61
  have e1 := (I.1.el hW hn (bx_d hb).1).1
  have h15 := I.2.1.2.2.2.1
  rw [hrw, if_pos (show true = true from rfl), hs_0] at h15
  have h15 : pI h (φ (ioP T n)) 15 = tp n + vlP T rs 5 n + 0 := h15
  rw [gd_c e1.1, bnd_eq, h15, Int.add_zero]
  exact s1
end PK
