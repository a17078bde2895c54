/-! the page: children, one behind the other -/
set_option maxRecDepth 100000
section PK
variable {h h' h1 h2 : HP} {pg r : Nat} {φ : Nat → Nat} {T : TS} {rs : List RL} {R : List IT} {n p k q j x N e : Nat} {Wd Lf tl tp : Nat → Int} {v : Int} {s : HS}
/-- a hidden block is passed by -/
theorem inv_hid (hW : WF T) (hn : n < tN T) (h1x : n < x) (h2x : x < behindA T n) (hd : hdP T rs x = true) (I : PInv h pg φ T rs Wd Lf tl tp n x (hsP T rs Wd tl n x)) : PInv h pg φ T rs Wd Lf tl tp n (behindA T x) (hsP T rs Wd tl n (behindA T x)) ∧ hsP T rs Wd tl n (behindA T x) = hsP T rs Wd tl n x ∧ lpP T rs Wd tl (behindA T x) = lpP T rs Wd tl x := by
  have hbl := beh_le hW hn
  have hxn : x < tN T := by omega
  have hbg := behindA_gt T x
  have hbin := beh_in hW hn h1x h2x
  have hall : ∀ y, x ≤ y → y < behindA T x → hdP T rs y = true := fun y y1 y2 => by
    by_cases z : y = x
    · rw [z]; exact hd
    · exact hd_in hW hxn hd y y (Nat.le_refl _) (by omega) y2
  have hnb : ∀ y, x ≤ y → y < behindA T x → bxP T rs y = false := fun y y1 y2 => by
    cases z : bxP T rs y with
    | false => rfl
    | true => have := (bx_d z).2.1; rw [hall y y1 y2] at this; cases this
  have e1 : hsP T rs Wd tl n (behindA T x) = hsP T rs Wd tl n x := hs_skip h1x (Nat.le_of_lt hbg) (fun y y1 y2 => Or.inr (hall y y1 y2))
  refine ⟨?_, e1, lp_skip (Nat.le_of_lt hbg) hnb⟩
  rw [e1]
  obtain ⟨i1, i2, i9, i10, i11, i12⟩ := I
  refine ⟨i1, i2, i9, fun y y1 y2 y3 => ?_, fun p k p1 p2 p3 p4 p5 => ?_, fun p k p1 p2 p3 p4 => i12 p k (by omega) p2 p3 p4⟩
  · by_cases z : y < x
    · exact i10 y y1 z y3
    · rw [hnb y (by omega) y2] at y3; cases y3
  · by_cases z : p < x
    · exact i11 p k p1 z p3 p4 p5
    · rw [i12 p k (by omega) (by omega) p3 p4]
      exact ⟨fun _ => rfl, fun y _ => by rw [hall p (by omega) p2] at y; cases y⟩
/-- a child -/
theorem kid_p (hW : WF T) (hok : ∀ r ∈ rs, okR2 r) (hrs : ∀ r ∈ rs, okRV r) (hX : txOK T) (hIS : isP T (tN T) ≤ 183) (Q : LQ T rs v Wd Lf tl tp) (hv : 1 ≤ v ∧ v ≤ 64) (hL : LayS pg φ T rs Wd Lf tl tp N) (hG : GatS pg φ T rs Wd Lf tl tp N) (hn : n < tN T) (hb : bxP T rs n = true) (hrw : rwP T n = false) (h1x : n < x) (h2x : x < behindA T n) (hho : hoP T rs x = n) (hup : hdP T rs (upP T x) = false) (hN : 2 * (behindA T x - x) ≤ N) (I : PInv h pg φ T rs Wd Lf tl tp n x (hsP T rs Wd tl n x)) {β : Type} (K : HP → Option β) : ∃ h', kidK (F_lay N) K h (φ (ioP T n)) (φ (ioP T x)) (pg + 17) = K h' ∧ PInv h' pg φ T rs Wd Lf tl tp n (behindA T x) (hsP T rs Wd tl n (behindA T x)) ∧ PFr h h' φ T n ∧ pI h' (pg + 17) 3 = pI h (pg + 17) 3 + ((hsP T rs Wd tl n (behindA T x)).2.2.2.2 - (hsP T rs Wd tl n x).2.2.2.2) + (lpP T rs Wd tl (behindA T x) - lpP T rs Wd tl x) := by
  have hbl := beh_le hW hn
  have hxn : x < tN T := by omega
  have hrl := run_len (T := T) (rs := rs) (Wd := Wd) (tl := tl) (n := n) (x - (n + 1))
  rw [show n + 1 + (x - (n + 1)) = x by omega] at hrl
  have hl3 : isP T (x + 1) = isP T x + (itQ T x).length := rfl
  have hl4 := isP_le (T := T) (a := x + 1) (b := tN T) (by omega)
  have single : nmQ T x = 1 ∨ nmQ T x = 107 → behindA T x = x + 1 := fun z => by
    have := behind_no hW (i := ioP T x) (io_lt hW hxn) (by unfold noKid; unfold nmQ at z; omega)
    rw [seat_io hW hxn] at this
    exact this
  have addc : ∀ h', bxP T rs x = false → hdP T rs x = false → nmQ T x = 1 ∨ nmQ T x = 107 → AgN h h' (pg + 17) → RunP h' (pg + 17) φ T rs ((hsP T rs Wd tl n x).2.2.2.1 ++ itQ T x) → PInv h' pg φ T rs Wd Lf tl tp n (behindA T x) (hsP T rs Wd tl n (behindA T x)) ∧ PFr h h' φ T n ∧ pI h' (pg + 17) 3 = pI h (pg + 17) 3 + ((hsP T rs Wd tl n (behindA T x)).2.2.2.2 - (hsP T rs Wd tl n x).2.2.2.2) + (lpP T rs Wd tl (behindA T x) - lpP T rs Wd tl x) := fun h' b1 b2 b3 A R' => by
    obtain ⟨a1, a2, a3⟩ := inv_add hW hn hb hrw h1x h2x b1 I A R'
    have e1 : hsP T rs Wd tl n (x + 1) = adS (hsP T rs Wd tl n x) (itQ T x) := by rw [hs_s h1x, hst_ad hho b1 b2]
    rw [single b3, e1]
    refine ⟨a1, a2, ?_⟩
    have e2 : lpP T rs Wd tl (x + 1) = lpP T rs Wd tl x := lp_skip (by omega) (fun y y1 y2 => by rw [show y = x by omega]; exact b1)
    rw [a3, e2]
    show _ = pI h (pg + 17) 3 + ((hsP T rs Wd tl n x).2.2.2.2 - (hsP T rs Wd tl n x).2.2.2.2) + _
    omega
  unfold kidK
  by_cases hm : nmQ T x = 1
  · have hd : hdP T rs x = false := by
      rw [hd_up hW hxn (by omega), hup, decide_eq_false (by simp [hm])]; rfl
    have hbf : bxP T rs x = false := by unfold bxP; simp [hm]
    obtain ⟨h', g1, g2, g3⟩ := inside_tx I.1 hW I.2.2.1 hxn hm (by omega)
    rw [g1, obind_some]
    exact ⟨h', rfl, addc h' hbf hd (Or.inl hm) g3 g2⟩
  · obtain ⟨t1, t2, t3⟩ := inside_el (R := (hsP T rs Wd tl n x).2.2.2.1) I.1 hW hrs hxn hm
    have ex := (I.1.el hW hxn hm).1
    cases hd : hdP T rs x with
    | true =>
      rw [t1 hd, obind_some]
      obtain ⟨a1, a2, a3⟩ := inv_hid hW hn h1x h2x hd I
      refine ⟨h, rfl, a1, PFr.refl h φ T n, ?_⟩
      rw [a2, a3]; omega
    | false =>
      cases hbx : bxP T rs x with
      | true =>
        rw [t2 hd (Or.inl hbx), obind_some]
        simp only [nl]
        rw [gd_c ex.1, box_p I.1 hW hrs hxn hm, obind_some, hbx, if_pos (show true = true from rfl), if_eqn (by omega) (by omega) (by omega) (by omega) (by omega)]
        exact kid_box hW hok hrs hX hIS Q hv hL hn hb hrw h1x h2x hho hbx hN I K
      | false =>
        by_cases h107 : nmQ T x = 107
        · obtain ⟨h', g1, g2, g3⟩ := t3 I.2.2.1 (by omega) hd hbx h107
          rw [g1, obind_some]
          exact ⟨h', rfl, addc h' hbx hd (Or.inr h107) g3 g2⟩
        · rw [t2 hd (Or.inr h107), obind_some]
          simp only [nl]
          rw [gd_c ex.1, box_p I.1 hW hrs hxn hm, obind_some, hbx, if_neg (show ¬ (false = true) by simp), if_eqp rfl]
          have hit : itQ T x = [] := by unfold itQ; rw [if_neg hm, if_neg h107]
          have e1 : hsP T rs Wd tl n (x + 1) = hsP T rs Wd tl n x := by rw [hs_s h1x, hst_ad hho hbx hd, hit, adS_nil]
          have e2 : lpP T rs Wd tl (x + 1) = lpP T rs Wd tl x := lp_skip (by omega) (fun y y1 y2 => by rw [show y = x by omega]; exact hbx)
          have I2 : PInv h pg φ T rs Wd Lf tl tp n (x + 1) (hsP T rs Wd tl n (x + 1)) := by
            rw [e1]
            obtain ⟨i1, i2, i9, i10, i11, i12⟩ := I
            refine ⟨i1, i2, i9, fun y y1 y2 y3 => ?_, fun p k p1 p2 p3 p4 p5 => ?_, fun p k p1 p2 p3 p4 => i12 p k (by omega) p2 p3 p4⟩
            · exact i10 y y1 (by have : y ≠ x := fun z => by rw [z, hbx] at y3; cases y3
                                 omega) y3
            · exact i11 p k p1 (by have : p ≠ x := fun z => by rw [z] at p3; exact hm p3
                                   omega) p3 p4 p5
          obtain ⟨h', g1, g2, g3, g4⟩ := hG h n x hn hb hrw h1x h2x hho hd hbx hm h107 hN I2
          rw [g1, obind_some]
          refine ⟨h', rfl, g2, g3, ?_⟩
          rw [g4, e1, e2]
/-- all children of e from one on -/
theorem kids_p (hW : WF T) (hok : ∀ r ∈ rs, okR2 r) (hrs : ∀ r ∈ rs, okRV r) (hX : txOK T) (hIS : isP T (tN T) ≤ 183) (Q : LQ T rs v Wd Lf tl tp) (hv : 1 ≤ v ∧ v ≤ 64) (hL : LayS pg φ T rs Wd Lf tl tp N) (hG : GatS pg φ T rs Wd Lf tl tp N) (hn : n < tN T) (hb : bxP T rs n = true) (hrw : rwP T n = false) (he : n ≤ e) (he2 : e < behindA T n) (hd : hdP T rs e = false) (hho : ∀ x, x < tN T → 0 < x → upP T x = e → hoP T rs x = n) (hN : 2 * (behindA T e - e) ≤ N + 1) {f : HP × Int → Option ((HP × Int) ⊕ HP)} (hf : ∀ g i, PE g pg φ T rs → i < (kids T (ioP T e)).length → f (g, (i : Int)) = kidK (F_lay N) (fun g' => some (.inl (g', (i : Int) + 1))) g (φ (ioP T n)) (φ ((kids T (ioP T e)).getD i 0)) (pg + 17)) : ∀ (d i a : Nat) (h : HP), i + d = (kids T (ioP T e)).length → e < a → KW T ((kids T (ioP T e)).drop i) a (behindA T e) → PInv h pg φ T rs Wd Lf tl tp n a (hsP T rs Wd tl n a) → ∃ h', iter f (h, (i : Int)) = iter f (h', ((kids T (ioP T e)).length : Int)) ∧ PInv h' pg φ T rs Wd Lf tl tp n (behindA T e) (hsP T rs Wd tl n (behindA T e)) ∧ PFr h h' φ T n ∧ pI h' (pg + 17) 3 = pI h (pg + 17) 3 + ((hsP T rs Wd tl n (behindA T e)).2.2.2.2 - (hsP T rs Wd tl n a).2.2.2.2) + (lpP T rs Wd tl (behindA T e) - lpP T rs Wd tl a) := by
  have hbl := beh_le hW hn
  have hbe : behindA T e ≤ behindA T n := by
    by_cases z : n = e
    · rw [z]; exact Nat.le_refl _
    · exact beh_in hW hn (by omega) he2
  intro d
  induction d with
  | zero =>
    intro i a h hi ha hK I
    have : (kids T (ioP T e)).drop i = [] := by rw [List.drop_eq_nil_iff]; omega
    rw [this] at hK
    have hK : a = behindA T e := hK
    rw [show i = (kids T (ioP T e)).length by omega]
    refine ⟨h, rfl, by rw [← hK]; exact I, PFr.refl h φ T n, ?_⟩
    rw [hK]; omega
  | succ d ih =>
    intro i a h hi ha hK I
    have hil : i < (kids T (ioP T e)).length := by omega
    have hdr : (kids T (ioP T e)).drop i = (kids T (ioP T e)).getD i 0 :: (kids T (ioP T e)).drop (i + 1) := by rw [gD hil, List.getElem_cons_drop]
    rw [hdr] at hK
    obtain ⟨k1, k2, k3, k4, k5⟩ := hK
    have hmem : (kids T (ioP T e)).getD i 0 ∈ kids T (ioP T e) := by rw [gD hil]; exact List.getElem_mem _
    have hm2 := hmem
    unfold kids at hm2
    rw [List.mem_filter] at hm2
    have hpar : (kids T (ioP T e)).getD i 0 ≠ 0 ∧ tP T ((kids T (ioP T e)).getD i 0) = ioP T e := by simpa [kids] using hm2.2
    have hioa : ioP T a = (kids T (ioP T e)).getD i 0 := by rw [← k2]; exact (io_seat hW k1).1
    have han : a < tN T := by rw [← k2]; exact (io_seat hW k1).2
    have hupa : upP T a = e := by
      unfold upP
      rw [hioa, hpar.2]
      exact seat_io hW (by omega)
    obtain ⟨h1, g1, g2, g3, g4⟩ := kid_p hW hok hrs hX hIS Q hv hL hG hn hb hrw (x := a) (by omega) (by omega) (hho a han (by omega) hupa) (by rw [hupa]; exact hd) (by omega) I (fun g' => (some (.inl (g', (i : Int) + 1)) : Option ((HP × Int) ⊕ HP)))
    have hst : f (h, (i : Int)) = some (.inl (h1, (i : Int) + 1)) := by
      rw [hf h i I.1 hil, ← hioa, g1]
    obtain ⟨h', e1, e2, e3, e4⟩ := ih (i + 1) (behindA T a) h1 (by omega) (by omega) k5 g2
    refine ⟨h', ?_, e2, g3.tin I.1 hW e3 (Nat.le_refl _) (Nat.le_refl _), ?_⟩
    · rw [iter_in hst, ← e1]; rfl
    · rw [e4, g4]; omega
/-- what is in e, which is no box -/
theorem gat_step (hW : WF T) (hok : ∀ r ∈ rs, okR2 r) (hrs : ∀ r ∈ rs, okRV r) (hX : txOK T) (hIS : isP T (tN T) ≤ 183) (Q : LQ T rs v Wd Lf tl tp) (hv : 1 ≤ v ∧ v ≤ 64) (hL : LayS pg φ T rs Wd Lf tl tp N) (hG : GatS pg φ T rs Wd Lf tl tp N) : GatS pg φ T rs Wd Lf tl tp (N + 1) := by
  intro h n x hn hb hrw h1x h2x hho hd hbx hm h107 hN I
  have hbl := beh_le hW hn
  have h24 := hW.1.2.1
  have hxn : x < tN T := by omega
  have hix := io_lt hW hxn
  have hkl : ∀ i, (kids T i).length ≤ 24 := fun i => by
    have := List.length_filter_le (fun j => decide (j ≠ 0) && decide (tP T j = i)) (tO T)
    unfold kids
    rw [hW.1.2.2.1] at this
    omega
  have hl := hkl (ioP T x)
  have e0 : (F_lay (N + 1)).2.2 h (φ (ioP T n)) (φ (ioP T x)) (pg + 17) = f_X0_gather_2 (F_lay N) h (φ (ioP T n)) (φ (ioP T x)) (pg + 17) 0 := rfl
  have hlst : ∀ g, PE g pg φ T rs → lLen g (φ (ioP T x) + 1) = some ((kids T (ioP T x)).length : Int) ∧ ∀ i, i < (kids T (ioP T x)).length → lGet g (φ (ioP T x) + 1) (i : Int) = some (φ ((kids T (ioP T x)).getD i 0)) ∧ isN (pK g (φ ((kids T (ioP T x)).getD i 0))) := fun g G => by
    have ge := (G.el hW hxn hm).1
    have gl := (G.1.2.2.2.1 _ hix hm).2.2.2
    refine ⟨?_, fun i hi => ⟨?_, ?_⟩⟩
    · unfold lLen
      rw [gd_c (by rw [ge.2.2.1]; decide), gl, List.length_map]
    · unfold lGet
      rw [gd_c (by rw [ge.2.2.1]; decide), gl, List.length_map, gd_zin (by omega) (by omega) (by omega), zix_nat (by omega), getD_map (by omega)]
    · have hmem : (kids T (ioP T x)).getD i 0 ∈ kids T (ioP T x) := by rw [gD hi]; exact List.getElem_mem _
      unfold kids at hmem
      rw [List.mem_filter] at hmem
      exact (G.1.c.kd (hW.1.2.2.2.1 _ hmem.1)).1
  rw [e0]
  unfold f_X0_gather_2
  have hkw := kw_all hW hix
  rw [seat_io hW hxn] at hkw
  obtain ⟨h', g1, g2, g3, g4⟩ := kids_p (f := fun (z : HP × Int) => f_X0_gather_2s (F_lay N) z.1 (φ (ioP T n)) (φ (ioP T x)) (pg + 17) z.2) hW hok hrs hX hIS Q hv hL hG hn hb hrw (Nat.le_of_lt h1x) h2x hd (fun y y1 y2 y3 => by
    rw [ho_s hW hok y1 y2, y3, hbx, if_neg (show ¬ (false = true) by simp)]; exact hho) (by omega) (fun g i G hi => by
    obtain ⟨l1, l2⟩ := hlst g G
    have ge := (G.el hW hxn hm).1
    show f_X0_gather_2s (F_lay N) g (φ (ioP T n)) (φ (ioP T x)) (pg + 17) (i : Int) = _
    unfold f_X0_gather_2s
    rw [gd_c ge.1, ge.2.1, obind_some, l1, obind_some, if_ltp (by omega) (by omega) (by omega), gd_c ge.1, obind_some, (l2 i hi).1, obind_some, gd_c (l2 i hi).2]
    rfl) (kids T (ioP T x)).length 0 (x + 1) h (by omega) (by omega) (by rw [List.drop_zero]; exact hkw) I
  refine ⟨h', ?_, g2, g3, g4⟩
  rw [show ((0 : Int)) = ((0 : Nat) : Int) from rfl, g1]
  refine iter_out ?_
  obtain ⟨l1, l2⟩ := hlst h' g2.1
  have ge := (g2.1.el hW hxn hm).1
  simp only []
  unfold f_X0_gather_2s
  rw [gd_c ge.1, ge.2.1, obind_some, l1, obind_some, if_ltn (by omega) (by omega) (by omega)]
end PK
