/-! the page: a child is laid out -/
set_option maxRecDepth 100000
def LayS (pg : Nat) (φ : Nat → Nat) (T : TS) (rs : List RL) (Wd Lf tl tp : Nat → Int) (N : Nat) : Prop := ∀ (h : HP) (n : Nat) (fr av : Int), n < tN T → bxP T rs n = true → 2 * (behindA T n - n) ≤ N → PE h pg φ T rs → pI h (pg + 17) 2 = 0 → (∀ p k, n < p → p < behindA T n → nmQ T p = 1 → k < (txP T p).length → pI h (plA h φ T p) k = -1) → fr + vlP T rs 4 n = Lf n → (if vlP T rs 6 n = -1 then max 0 (av - 2 * vlP T rs 4 n - 2 * vlP T rs 5 n) else vlP T rs 6 n) = Wd n → (0 ≤ av ∧ av ≤ 99) → ∃ h', (F_lay N).1 h (φ (ioP T n)) fr (tp n) av (pg + 17) = some h' ∧ PE h' pg φ T rs ∧ PFr h h' φ T n ∧ pI h' (pg + 17) 2 = 0 ∧ pI h' (pg + 17) 3 = pI h (pg + 17) 3 + (lpP T rs Wd tl (behindA T n) - lpP T rs Wd tl n) ∧ (∀ x, n ≤ x → x < behindA T n → bxP T rs x = true → BoxC h' φ T rs Wd Lf tl tp x) ∧ ∀ p k, n < p → p < behindA T n → nmQ T p = 1 → k < (txP T p).length → PlR T rs Wd Lf tl tp p k (pI h' (plA h' φ T p) k)
def GatS (pg : Nat) (φ : Nat → Nat) (T : TS) (rs : List RL) (Wd Lf tl tp : Nat → Int) (N : Nat) : Prop := ∀ (h : HP) (n x : Nat), n < tN T → bxP T rs n = true → rwP T n = false → n < x → x < behindA T n → hoP T rs x = n → hdP T rs x = false → bxP T rs x = false → nmQ T x ≠ 1 → nmQ T x ≠ 107 → 2 * (behindA T x - x) ≤ N → PInv h pg φ T rs Wd Lf tl tp n (x + 1) (hsP T rs Wd tl n (x + 1)) → ∃ h', (F_lay N).2.2 h (φ (ioP T n)) (φ (ioP T x)) (pg + 17) = some h' ∧ PInv h' pg φ T rs Wd Lf tl tp n (behindA T x) (hsP T rs Wd tl n (behindA T x)) ∧ PFr h h' φ T n ∧ pI h' (pg + 17) 3 = pI h (pg + 17) 3 + ((hsP T rs Wd tl n (behindA T x)).2.2.2.2 - (hsP T rs Wd tl n (x + 1)).2.2.2.2) + (lpP T rs Wd tl (behindA T x) - lpP T rs Wd tl (x + 1))
noncomputable def kidK {β : Type} (rc : RC_lay) (K : HP → Option β) (h : HP) (x0 y4 x4 : Nat) : Option β :=
  Option.bind (f_X0_inside h y4 x4) (fun y5 =>
  nl y5.2 (K y5.1) (fun a6 =>
  gd (pK y5.1 a6 = 2) (Option.bind (f_X2_box y5.1 a6) (fun y7 =>
  if zI y7 = zI 0 then
  Option.bind (rc.2.2 y5.1 x0 a6 x4) (fun y8 =>
  K y8)
  else
  Option.bind (f_X0_flush y5.1 x0 x4) (fun y9 =>
  gd (pK y9 x0 = 2) (gd (pK y9 x0 = 2) (gd (pK y9 x0 = 2) (gd (pK y9 a6 = 2) (Option.bind (pP y9 a6 7) (fun a10 =>
  gd (isI (pK y9 a10)) (gd (zin 4 (pN y9 a10)) (gd (pK y9 x0 = 2) (Option.bind (rc.1 y9 a6 (pI y9 x0 13) ((pI y9 x0 15) + (zmax (pI y9 x0 16) (pI y9 a10 (zix 4)))) (pI y9 x0 14) x4) (fun y11 =>
  gd (pK y11 x0 = 2) (Option.bind (f_X2_goOn y11 x0 a6) (fun y12 =>
  K y12))))))))))))))))
section PK
variable {h h' h1 h2 : HP} {pg r : Nat} {φ : Nat → Nat} {T : TS} {rs : List RL} {R : List IT} {n p k q j x N : Nat} {Wd Lf tl tp : Nat → Int} {v : Int} {s : HS}
theorem PFr.refl (h : HP) (φ : Nat → Nat) (T : TS) (n : Nat) : PFr h h φ T n := ⟨AgL.refl h, fun _ _ _ _ _ => rfl, fun _ _ _ _ _ => rfl⟩
theorem PFr.tin (H : PE h pg φ T rs) (hW : WF T) (A : PFr h h1 φ T n) (B : PFr h1 h2 φ T x) (h1x : n ≤ x) (h2x : behindA T x ≤ behindA T n) : PFr h h2 φ T n := by
  refine ⟨A.1.trans B.1, fun y j hy hm ho => ?_, fun p k hp hm ho => ?_⟩
  · rw [B.2.1 y j hy hm (by omega)]; exact A.2.1 y j hy hm ho
  · have e := plA_agl H hW A.1 hp hm
    have := B.2.2 p k hp hm (by omega)
    rw [e] at this
    rw [this]; exact A.2.2 p k hp hm ho
theorem lp_skip {a b : Nat} (hab : a ≤ b) (hb : ∀ y, a ≤ y → y < b → bxP T rs y = false) : lpP T rs Wd tl b = lpP T rs Wd tl a := by
  obtain ⟨d, rfl⟩ : ∃ d, b = a + d := ⟨b - a, by omega⟩
  clear hab
  induction d with
  | zero => rfl
  | succ d ih =>
    show lpP T rs Wd tl (a + d) + (if bxP T rs (a + d) then _ else 0) = _
    rw [hb (a + d) (by omega) (by omega), if_neg (show ¬ (false = true) by simp), ih (fun y h1 h2 => hb y h1 (by omega))]
    omega
theorem AgN.fr (A : AgN h h' (pg + 17)) (H : PE h pg φ T rs) (hW : WF T) (n : Nat) : PFr h h' φ T n ∧ (∀ y j, y < tN T → nmQ T y ≠ 1 → pI h' (φ (ioP T y)) j = pI h (φ (ioP T y)) j) ∧ (∀ p k, p < tN T → nmQ T p = 1 → pI h' (plA h φ T p) k = pI h (plA h φ T p) k) ∧ pI h' (pg + 17) 3 = pI h (pg + 17) 3 := by
  obtain ⟨q1, q2, q3, q4, q5, q6, q7⟩ := H.2.2
  have a1 : ∀ y j, y < tN T → nmQ T y ≠ 1 → pI h' (φ (ioP T y)) j = pI h (φ (ioP T y)) j := fun y j hy hm => by
    have hk := (H.el hW hy hm).1.1
    exact A.2 _ _ (kne h (by rw [hk, show pg + 17 + 2 = pg + 19 by omega, q6]; omega)) (fun z => by rw [z.1, q1] at hk; omega)
  have a2 : ∀ p k, p < tN T → nmQ T p = 1 → pI h' (plA h φ T p) k = pI h (plA h φ T p) k := fun p k hp hm => by
    have hk := (H.tx hW hp hm).2.2.1
    exact A.2 _ _ (kne h (by rw [hk, show pg + 17 + 2 = pg + 19 by omega, q6]; omega)) (fun z => by rw [z.1, q1] at hk; omega)
  exact ⟨⟨A.1, fun y j hy hm _ => a1 y j hy hm, fun p k hp hm _ => a2 p k hp hm⟩, a1, a2, A.2 _ _ (by omega) (fun z => by omega)⟩
/-- a text or a break is gathered -/
theorem inv_add (hW : WF T) (hn : n < tN T) (hb : bxP T rs n = true) (hrw : rwP T n = false) (h1x : n < x) (h2x : x < behindA T n) (hx : bxP T rs x = false) (I : PInv h pg φ T rs Wd Lf tl tp n x s) (A : AgN h h' (pg + 17)) (hR : RunP h' (pg + 17) φ T rs (s.2.2.2.1 ++ itQ T x)) : PInv h' pg φ T rs Wd Lf tl tp n (x + 1) (adS s (itQ T x)) ∧ PFr h h' φ T n ∧ pI h' (pg + 17) 3 = pI h (pg + 17) 3 := by
  have hbl := beh_le hW hn
  obtain ⟨i1, ⟨⟨i2, i3, i4⟩, i5, i6, i7, i8⟩, i9, i10, i11, i12⟩ := I
  obtain ⟨f1, f2, f3, f4⟩ := A.fr i1 hW n
  have hm := (bx_d hb).1
  rw [hrw, if_neg (show ¬ (false = true) by simp)] at i7 i8
  refine ⟨⟨i1.agl hW A.1, ⟨⟨?_, ?_, ?_⟩, ?_, ?_, ?_, ?_⟩, hR, fun y y1 y2 y3 => ?_, fun p k p1 p2 p3 p4 p5 => ?_, fun p k p1 p2 p3 p4 => ?_⟩, f1, f4⟩
  · rw [f2 n 9 hn hm]; exact i2
  · rw [f2 n 10 hn hm]; exact i3
  · rw [f2 n 11 hn hm]; exact i4
  · rw [f2 n 13 hn hm]; exact i5
  · rw [f2 n 14 hn hm]; exact i6
  · rw [f2 n 15 hn hm, hrw, if_neg (show ¬ (false = true) by simp)]; exact i7
  · rw [f2 n 16 hn hm, hrw, if_neg (show ¬ (false = true) by simp)]; exact i8
  · have hyx : y ≠ x := fun z => by rw [z, hx] at y3; cases y3
    unfold BoxC
    rw [f2 y 9 (by omega) (bx_d y3).1, f2 y 10 (by omega) (bx_d y3).1, f2 y 11 (by omega) (bx_d y3).1, f2 y 12 (by omega) (bx_d y3).1]
    exact i10 y y1 (by omega) y3
  · have p5' : (p, some k) ∉ s.2.2.2.1 ∧ (p, some k) ∉ itQ T x := by
      have : (p, some k) ∉ s.2.2.2.1 ++ itQ T x := p5
      rw [List.mem_append] at this
      exact ⟨fun z => this (Or.inl z), fun z => this (Or.inr z)⟩
    have hpx : p ≠ x := fun z => p5'.2 (by
      rw [z] at p3 p4 ⊢
      unfold itQ
      rw [if_pos p3, List.mem_map]
      exact ⟨k, List.mem_range.mpr p4, rfl⟩)
    rw [plA_agl i1 hW A.1 (by omega) p3, f3 p k (by omega) p3]
    exact i11 p k p1 (by omega) p3 p4 p5'.1
  · rw [plA_agl i1 hW A.1 (by omega) p3, f3 p k (by omega) p3]
    exact i12 p k (by omega) p2 p3 p4
theorem adS_nil (s : HS) : adS s [] = s := by
  obtain ⟨a, b, c, d, e⟩ := s
  show (a, b, c, d ++ [], e) = _
  rw [List.append_nil]
/-- the block of a box that n holds leaves n alone -/
theorem hs_blk (hW : WF T) (hok : ∀ r ∈ rs, okR2 r) (hn : n < tN T) (h1x : n < x) (h2x : x < behindA T n) (hb : bxP T rs x = true) : hsP T rs Wd tl n (behindA T x) = hsP T rs Wd tl n (x + 1) := by
  have hbl := beh_le hW hn
  refine hs_skip (by omega) (behindA_gt T x) (fun y h1 h2 => Or.inl (fun z => ?_))
  have := ho_near hW hok hb (by omega) y (by omega) h2
  omega
/-- a box is set -/
theorem kid_box (hW : WF T) (hok : ∀ r ∈ rs, okR2 r) (hrs : ∀ r ∈ rs, okRV r) (hX : txOK T) (hIS : isP T (tN T) ≤ 183) (Q : LQ T rs v Wd Lf tl tp) (hv : 1 ≤ v ∧ v ≤ 64) (hL : LayS pg φ T rs Wd Lf tl tp N) (hn : n < tN T) (hb : bxP T rs n = true) (hrw : rwP T n = false) (h1x : n < x) (h2x : x < behindA T n) (hho : hoP T rs x = n) (hbx : bxP T rs x = true) (hN : 2 * (behindA T x - x) ≤ N) (I : PInv h pg φ T rs Wd Lf tl tp n x (hsP T rs Wd tl n x)) {β : Type} (K : HP → Option β) : ∃ h', Option.bind (f_X0_flush h (φ (ioP T n)) (pg + 17)) (fun y9 =>
  gd (pK y9 (φ (ioP T n)) = 2) (gd (pK y9 (φ (ioP T n)) = 2) (gd (pK y9 (φ (ioP T n)) = 2) (gd (pK y9 (φ (ioP T x)) = 2) (Option.bind (pP y9 (φ (ioP T x)) 7) (fun a10 =>
  gd (isI (pK y9 a10)) (gd (zin 4 (pN y9 a10)) (gd (pK y9 (φ (ioP T n)) = 2) (Option.bind ((F_lay N).1 y9 (φ (ioP T x)) (pI y9 (φ (ioP T n)) 13) ((pI y9 (φ (ioP T n)) 15) + (zmax (pI y9 (φ (ioP T n)) 16) (pI y9 a10 (zix 4)))) (pI y9 (φ (ioP T n)) 14) (pg + 17)) (fun y11 =>
  gd (pK y11 (φ (ioP T n)) = 2) (Option.bind (f_X2_goOn y11 (φ (ioP T n)) (φ (ioP T x))) (fun y12 =>
  K y12)))))))))))) = K h' ∧ PInv h' pg φ T rs Wd Lf tl tp n (behindA T x) (hsP T rs Wd tl n (behindA T x)) ∧ PFr h h' φ T n ∧ pI h' (pg + 17) 3 = pI h (pg + 17) 3 + ((hsP T rs Wd tl n (behindA T x)).2.2.2.2 - (hsP T rs Wd tl n x).2.2.2.2) + (lpP T rs Wd tl (behindA T x) - lpP T rs Wd tl x) := by
  have hbl := beh_le hW hn
  have hxn : x < tN T := by omega
  have hbin := beh_in hW hn h1x h2x
  have hbg := behindA_gt T x
  have hmn := (bx_d hb).1
  have hmx := (bx_d hbx).1
  have hE : EvQ T rs n x := Or.inr ⟨h1x, h2x, hho, hbx⟩
  have I0 := I
  obtain ⟨h1, f1, I1, f3, f4⟩ := pflush hW hok hrs hX hIS Q hv hn hb hrw hE I
  obtain ⟨s1, s2⟩ := hs_small hW hok hrs hIS Q hn h1x (Nat.le_of_lt h2x)
  obtain ⟨i1, ⟨⟨i2, i3, i4⟩, i5, i6, i7, i8⟩, i9, i10, i11, i12⟩ := I1
  rw [hrw, if_neg (show ¬ (false = true) by simp)] at i7 i8
  have e1n := (i1.el hW hn hmn).1
  obtain ⟨x1, x2, x3, x4⟩ := i1.el hW hxn hmx
  have hm4 := (vl_rng hW hrs hxn).2.2.2.1
  have hm5 := (vl_rng hW hrs hn).2.2.2.2.1
  obtain ⟨Q1, Q2, Q3⟩ := Q.2.1 x hxn (by omega)
  have hrt : rtE T rs Wd tl x = (flP T rs (Wd n) (hsP T rs Wd tl n x)).1 + max (flP T rs (Wd n) (hsP T rs Wd tl n x)).2.1 (vlP T rs 4 x) := by
    unfold rtE tpS
    rw [hho, hrw, if_neg (show ¬ (false = true) by simp)]
  have z4 : zix 4 = 4 := by decide
  have htop : pI h1 (φ (ioP T n)) 15 + zmax (pI h1 (φ (ioP T n)) 16) (pI h1 (φ (ioP T x) + 2) (zix 4)) = tp x := by
    rw [z4, x2 4 (by omega), i7, i8, zmax_eq (by omega) (by omega) (by omega) (by omega), Q3, hho, hrt]
    omega
  have hw := (wd_b hW hok hrs Q hv n hn).1
  obtain ⟨h2, l1, l2, l3, l4, l5, l6, l7⟩ := hL h1 x (pI h1 (φ (ioP T n)) 13) (pI h1 (φ (ioP T n)) 14) hxn hbx hN i1 i9.1 (fun p k p1 p2 p3 p4 => i12 p k (by omega) (by omega) p3 p4) (by
    rw [i5, Q2]; unfold lfE; rw [hho, hrw, if_neg (show ¬ (false = true) by simp)]; omega) (by
    rw [i6, Q1]; unfold wdE avE; rw [hho, hrw, if_neg (show ¬ (false = true) by simp)]) (by rw [i6]; exact hw)
  have e2n := (l2.el hW hn hmn).1
  obtain ⟨y1, y2, y3, y4⟩ := l2.el hW hxn hmx
  have hne : φ (ioP T x) ≠ φ (ioP T n) := l2.ne hW hxn hn (by omega)
  have hne2 : φ (ioP T x) + 2 ≠ φ (ioP T n) := kne h2 (by rw [e2n.1, y1.2.2.2.2.1]; omega)
  have hbc := l6 x (Nat.le_refl _) hbg hbx
  have hgo : f_X2_goOn h2 (φ (ioP T n)) (φ (ioP T x)) = some (wI (wI h2 (φ (ioP T n)) 15 (tp x + tl x)) (φ (ioP T n)) 16 (vlP T rs 4 x)) := by
    unfold f_X2_goOn
    have e4 : pI (wI h2 (φ (ioP T n)) 15 (tp x + tl x)) (φ (ioP T x) + 2) 4 = vlP T rs 4 x := by
      rw [pI_wI, if_neg (fun z => hne2 z.1)]; exact y2 4 (by omega)
    rw [gd_c y1.1, gd_c y1.1, gd_c e2n.1, bnd_eq, hbc.2.1, hbc.2.2.2, gd_c (by exact y1.1), show pP (wI h2 (φ (ioP T n)) 15 (tp x + tl x)) (φ (ioP T x)) 7 = some (φ (ioP T x) + 2) from y1.2.2.2.1, obind_some, gd_c (by show isI (pK h2 (φ (ioP T x) + 2)); rw [y1.2.2.2.2.1]; decide), gd_zin (by omega) (by show (4 : Int) < ((pN h2 (φ (ioP T x) + 2) : Nat) : Int); rw [y1.2.2.2.2.2.1]; omega) (by show pN h2 (φ (ioP T x) + 2) < _; rw [y1.2.2.2.2.2.1]; omega), gd_c (by exact e2n.1), z4, e4, bnd_eq]
  have A3 : AgL h2 (wI (wI h2 (φ (ioP T n)) 15 (tp x + tl x)) (φ (ioP T n)) 16 (vlP T rs 4 x)) := ((AgL.refl h2).aI (by unfold lP; rw [e2n.1]; omega) _).aI (by unfold lP; rw [e2n.1]; omega) _
  have hI3 : ∀ b j, ¬ (b = φ (ioP T n) ∧ (j = 15 ∨ j = 16)) → pI (wI (wI h2 (φ (ioP T n)) 15 (tp x + tl x)) (φ (ioP T n)) 16 (vlP T rs 4 x)) b j = pI h2 b j := fun b j hbj => by
    rw [pI_wI, if_neg (fun z => hbj ⟨z.1, Or.inr z.2⟩), pI_wI, if_neg (fun z => hbj ⟨z.1, Or.inl z.2⟩)]
  have hhs : hsP T rs Wd tl n (behindA T x) = bxS (rwP T n) (vlP T rs 4 x) (tl x) (flP T rs (Wd n) (hsP T rs Wd tl n x)) := by
    rw [hs_blk hW hok hn h1x h2x hbx, hs_s h1x, hst_bx hho hbx]
  generalize hh3 : wI (wI h2 (φ (ioP T n)) 15 (tp x + tl x)) (φ (ioP T n)) 16 (vlP T rs 4 x) = h3 at A3 hI3 hgo
  have P3 := l2.agl hW A3
  have hn12 : ∀ j, pI h2 (φ (ioP T n)) j = pI h1 (φ (ioP T n)) j := fun j => l3.2.1 n j hn hmn (by omega)
  have hr3 : ∀ j, pI h3 (pg + 17) j = pI h2 (pg + 17) j := fun j => hI3 _ _ (fun z => by have := l2.2.2.1; rw [z.1, e2n.1] at this; omega)
  have hel3 : ∀ y j, y < tN T → nmQ T y ≠ 1 → y ≠ n → pI h3 (φ (ioP T y)) j = pI h2 (φ (ioP T y)) j := fun y j hy hm hyn => hI3 _ _ (fun z => l2.ne hW hy hn hyn z.1)
  have htx3 : ∀ p k, p < tN T → nmQ T p = 1 → pI h3 (plA h2 φ T p) k = pI h2 (plA h2 φ T p) k := fun p k hp hm => hI3 _ _ (fun z => by have := (l2.tx hW hp hm).2.2.1; rw [z.1, e2n.1] at this; omega)
  have hpA32 : ∀ p, p < tN T → nmQ T p = 1 → plA h3 φ T p = plA h2 φ T p := fun p hp hm => plA_agl l2 hW A3 hp hm
  have hpA21 : ∀ p, p < tN T → nmQ T p = 1 → plA h2 φ T p = plA h1 φ T p := fun p hp hm => plA_agl i1 hW l3.1 hp hm
  have F23 : PFr h2 h3 φ T n := ⟨A3, fun y j hy hm ho => hel3 y j hy hm (by have := behindA_gt T n; omega), fun p k hp hm _ => htx3 p k hp hm⟩
  refine ⟨h3, ?_, ⟨P3, ⟨⟨?_, ?_, ?_⟩, ?_, ?_, ?_, ?_⟩, ?_, fun y g1 g2 g3 => ?_, fun p k p1 p2 p3 p4 _ => ?_, fun p k p1 p2 p3 p4 => ?_⟩, ?_, ?_⟩
  · rw [f1, obind_some, gd_c e1n.1, gd_c e1n.1, gd_c e1n.1, gd_c x1.1, x1.2.2.2.1, obind_some, gd_c (by rw [x1.2.2.2.2.1]; decide), gd_zin (by omega) (by rw [x1.2.2.2.2.2.1]; omega) (by rw [x1.2.2.2.2.2.1]; omega), gd_c e1n.1, htop, l1, obind_some, gd_c e2n.1, hgo, obind_some]
  · rw [hI3 _ _ (by omega), hn12]; exact i2
  · rw [hI3 _ _ (by omega), hn12]; exact i3
  · rw [hI3 _ _ (by omega), hn12]; exact i4
  · rw [hI3 _ _ (by omega), hn12]; exact i5
  · rw [hI3 _ _ (by omega), hn12]; exact i6
  · rw [hhs, hrw, if_neg (show ¬ (false = true) by simp), ← hh3, pI_wI, if_neg (fun z => by omega), pI_wI, if_pos ⟨rfl, rfl⟩, Q3, hho, hrt]
    show _ = tp n + vlP T rs 5 n + (tpS false (vlP T rs 4 x) (flP T rs (Wd n) (hsP T rs Wd tl n x)) + tl x)
    unfold tpS
    rw [if_neg (show ¬ (false = true) by simp)]
    omega
  · rw [hhs, hrw, if_neg (show ¬ (false = true) by simp), ← hh3, pI_wI, if_pos ⟨rfl, rfl⟩]
    rfl
  · rw [hhs]
    refine ⟨?_, fun j hj => absurd hj (by show ¬ j < ([] : List IT).length; simp)⟩
    rw [hr3, l4]; rfl
  · have hyn : y < tN T := by omega
    have hm := (bx_d g3).1
    unfold BoxC
    rw [hel3 y 9 hyn hm (by omega), hel3 y 10 hyn hm (by omega), hel3 y 11 hyn hm (by omega), hel3 y 12 hyn hm (by omega)]
    by_cases z : y < x
    · rw [l3.2.1 y 9 hyn hm (Or.inl z), l3.2.1 y 10 hyn hm (Or.inl z), l3.2.1 y 11 hyn hm (Or.inl z), l3.2.1 y 12 hyn hm (Or.inl z)]
      exact i10 y g1 z g3
    · exact l6 y (by omega) g2 g3
  · have hpn : p < tN T := by omega
    rw [hpA32 p hpn p3, htx3 p k hpn p3]
    by_cases z : p < x
    · rw [hpA21 p hpn p3, l3.2.2 p k hpn p3 (Or.inl z)]
      exact i11 p k p1 z p3 p4 (by show (p, some k) ∉ ([] : List IT); simp)
    · have : p ≠ x := fun y => by rw [y] at p3; exact hmx p3
      exact l7 p k (by omega) p2 p3 p4
  · have hpn : p < tN T := by omega
    rw [hpA32 p hpn p3, htx3 p k hpn p3, hpA21 p hpn p3, l3.2.2 p k hpn p3 (Or.inr p1)]
    exact i12 p k (by omega) p2 p3 p4
  · exact (f3.tin I0.1 hW l3 (by omega) hbin).tin I0.1 hW F23 (Nat.le_refl _) (Nat.le_refl _)
  · rw [hr3, l5, f4, hhs]
    show _ = pI h (pg + 17) 3 + ((hsP T rs Wd tl n x).2.2.2.2 + (flF T rs Wd tl n x).2.1 - (hsP T rs Wd tl n x).2.2.2.2) + _
    omega
end PK
