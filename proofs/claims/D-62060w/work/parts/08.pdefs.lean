set_option maxRecDepth 100000
noncomputable def f_X1_init (h : HP) (x0 : Nat) : Option (Unit) :=
  some ()
noncomputable def f_J0_init (h : HP) (x0 : Nat) : Option (Unit) :=
  some ()
noncomputable def f_J1_init (h : HP) (x0 : Nat) : Option (HP) :=
  Option.bind (f_J0_init h x0) (fun y1 =>
  gd (isLr (pK h x0)) (bnd (wI h x0 0 0) (fun h2 =>
  some h2)))
noncomputable def f_J2_init (h : HP) (x0 : Nat) : Option (HP) :=
  Option.bind (f_J1_init h x0) (fun y1 =>
  gd (isLr (pK y1 x0)) (bnd (wP y1 x0 1 (some (pD y1))) (fun h2 =>
  some h2)))
noncomputable def f_X2_init (h : HP) (x0 : Nat) : Option (HP) :=
  Option.bind (f_X1_init h x0) (fun y1 =>
  bnd (pX h) (fun a2 =>
  gd (rm1 h 3) (bnd (wNew h 90 3) (fun h3 =>
  Option.bind (lNew h3 a2 20) (fun y4 =>
  gd (pK y4 x0 = 2) (bnd (wP y4 x0 4 (some a2)) (fun h5 =>
  bnd (pX h5) (fun a6 =>
  gd (rmA h5 7) (bnd (wNew h5 40 (zix 7)) (fun h7 =>
  gd (pK h7 x0 = 2) (bnd (wP h7 x0 7 (some a6)) (fun h8 =>
  some h8))))))))))))
noncomputable def f_J4_init (h : HP) (x0 : Nat) (x1 : Int) : Option (HP) :=
  if zI 1 = zI 0 then
  none
  else
  bnd (pX h) (fun a1 =>
  gd (rmA h x1) (bnd (wNew h 51 (zix x1)) (fun h2 =>
  gd (isSr (pK h2 x0)) (bnd (wP h2 x0 0 (some a1)) (fun h3 =>
  gd (isSr (pK h3 x0)) (bnd (wI h3 x0 1 0) (fun h4 =>
  some h4)))))))
noncomputable def f_J5_init (h : HP) (x0 : Nat) : Option (HP) :=
  Option.bind (f_J4_init h x0 16) (fun y1 =>
  some y1)
noncomputable def f_X3_init (h : HP) (x0 : Nat) : Option (HP) :=
  bnd (pX h) (fun a1 =>
  gd (rm1 h 3) (bnd (wNew h 90 3) (fun h2 =>
  Option.bind (lNew h2 a1 27) (fun y3 =>
  gd (pK y3 x0 = 4) (bnd (wP y3 x0 0 (some a1)) (fun h4 =>
  bnd (pX h4) (fun a5 =>
  gd (rm1 h4 4) (bnd (wNew h4 91 4) (fun h6 =>
  Option.bind (sNew h6 a5 31) (fun y7 =>
  gd (pK y7 x0 = 4) (bnd (wP y7 x0 1 (some a5)) (fun h8 =>
  bnd (pX h8) (fun a9 =>
  gd (rm1 h8 4) (bnd (wNew h8 91 4) (fun h10 =>
  Option.bind (sNew h10 a9 32) (fun y11 =>
  gd (pK y11 x0 = 4) (bnd (wP y11 x0 2 (some a9)) (fun h12 =>
  bnd (pX h12) (fun a13 =>
  gd (rm1 h12 4) (bnd (wNew h12 91 4) (fun h14 =>
  Option.bind (sNew h14 a13 33) (fun y15 =>
  gd (pK y15 x0 = 4) (bnd (wP y15 x0 3 (some a13)) (fun h16 =>
  some h16))))))))))))))))))))))))
noncomputable def f_X4_init (h : HP) (x0 : Nat) : Option (HP) :=
  bnd (pX h) (fun a1 =>
  gd (rmA h 184) (bnd (wNew h 46 (zix 184)) (fun h2 =>
  gd (pK h2 x0 = 5) (bnd (wP h2 x0 0 (some a1)) (fun h3 =>
  bnd (pX h3) (fun a4 =>
  gd (rmA h3 184) (bnd (wNew h3 42 (zix 184)) (fun h5 =>
  gd (pK h5 x0 = 5) (bnd (wP h5 x0 1 (some a4)) (fun h6 =>
  some h6))))))))))
noncomputable def f_J2_clear_27s (h : HP) (x1 : Option Nat) (x2 : Int) (x3 : Int) : Option ((HP × Int) ⊕ (HP)) :=
  if zI x3 < zI x2 then
  Option.bind x1 (fun a1 =>
  gd (pK h a1 = 50) (gd (zin x3 (pN h a1)) (gd (okR h a1 none) (bnd (wP h a1 (zix x3) none) (fun h2 =>
  some (.inl (h2, x3 + 1)))))))
  else
  some (.inr h)
noncomputable def f_J2_clear_27 (h : HP) (x1 : Option Nat) (x2 : Int) (x3 : Int) : Option (HP) :=
  iter (fun (z : HP × Int) => f_J2_clear_27s z.1 x1 x2 z.2) (h, x3)
noncomputable def f_J2_clear (h : HP) (x0 : Nat) : Option (HP) :=
  gd (isLr (pK h x0)) (gd (isLr (pK h x0)) (bnd (wI h x0 0 ((pI h x0 0) + 1)) (fun h1 =>
  gd (isLr (pK h1 x0)) (bnd (pP h1 x0 1) (fun y2 =>
  gd (isLr (pK h1 x0)) (bnd (pI h1 x0 2) (fun y3 =>
  gd (isLr (pK h1 x0)) (bnd (wI h1 x0 2 0) (fun h4 =>
  f_J2_clear_27 h4 y2 y3 0)))))))))
noncomputable def f_X2_begin (h : HP) (x0 : Nat) (x1 : Int) (x2 : Int) : Option (HP) :=
  gd (pK h x0 = 2) (gd (zisC x1) (bnd (wI h x0 2 x1) (fun h1 =>
  gd (pK h1 x0 = 2) (bnd (wI h1 x0 3 x2) (fun h2 =>
  gd (pK h2 x0 = 2) (Option.bind (pP h2 x0 4) (fun a3 =>
  Option.bind (lClr h2 a3) (fun y4 =>
  gd (pK y4 x0 = 2) (bnd (wI y4 x0 6 0) (fun h5 =>
  some h5))))))))))
noncomputable def f_J8_newLength (x0 : Int) (x1 : Int) (x2 : Int) : Option (Int) :=
  bnd (x0 + (zmax x1 x2)) (fun y1 =>
  if zI 0 < zI y1 then
  if zI 2147483639 < zI y1 then
  none
  else
  some y1
  else
  none)
noncomputable def f_J10_copyOf_2_24 (h : HP) (x0 : Nat) (x1 : Int) (t0 : Nat) : Option (HP × Nat) :=
  gd (isAr (pK h x0)) (gd (cpOKP h x0 0 t0 0 (zmin (pN h x0 : Int) x1)) (bnd (wCP h x0 0 t0 0 (zmin (pN h x0 : Int) x1)) (fun h1 =>
  some (h1, t0))))
noncomputable def f_J10_copyOf_2 (h : HP) (x0 : Nat) (x1 : Int) (x2 : Nat) : Option (HP × Nat) :=
  if some x2 = some (pM h) then
  bnd (pX h) (fun a1 =>
  gd (rmA h x1) (bnd (wNew h 50 (zix x1)) (fun h2 =>
  f_J10_copyOf_2_24 h2 x0 x1 a1)))
  else
  none
noncomputable def f_J10_copyOf (h : HP) (x0 : Nat) (x1 : Int) : Option (HP × Nat) :=
  gd (pK h x0 = 50) (Option.bind (f_J10_copyOf_2 h x0 x1 (pM h)) (fun y1 =>
  some (y1.1, y1.2)))
noncomputable def f_J2_grow_2_20 (h : HP) (x0 : Nat) (x1 : Int) (x2 : Int) : Option (HP × Nat) :=
  Option.bind (f_J8_newLength x2 (x1 - x2) (zshr x2 1)) (fun y1 =>
  gd (isLr (pK h x0)) (Option.bind (pP h x0 1) (fun a2 =>
  Option.bind (f_J10_copyOf h a2 y1) (fun y3 =>
  gd (isLr (pK y3.1 x0)) (bnd (wP y3.1 x0 1 (some y3.2)) (fun h4 =>
  some (h4, y3.2)))))))
noncomputable def f_J2_grow_2 (h : HP) (x0 : Nat) (x1 : Int) : Option (HP × Nat) :=
  gd (isLr (pK h x0)) (Option.bind (pP h x0 1) (fun a1 =>
  gd (isAr (pK h a1)) (bnd (pN h a1 : Int) (fun y2 =>
  if zI 0 < zI y2 then
  f_J2_grow_2_20 h x0 x1 y2
  else
  gd (isLr (pK h x0)) (if pP h x0 1 = some (pD h) then
  bnd (pX h) (fun a3 =>
  gd (rmA h (zmax 10 x1)) (bnd (wNew h 50 (zix (zmax 10 x1))) (fun h4 =>
  gd (isLr (pK h4 x0)) (bnd (wP h4 x0 1 (some a3)) (fun h5 =>
  some (h5, a3))))))
  else
  f_J2_grow_2_20 h x0 x1 y2)))))
noncomputable def f_J2_grow (h : HP) (x0 : Nat) : Option (HP × Nat) :=
  gd (isLr (pK h x0)) (gd (isL (pK h x0)) (Option.bind (f_J2_grow_2 h x0 ((pI h x0 2) + 1)) (fun y1 =>
  some (y1.1, y1.2))))
noncomputable def f_J2_add_2_11 (h : HP) (x0 : Nat) (x1 : Nat) (x2 : Nat) (x3 : Int) : Option (HP) :=
  gd (pK h x2 = 50) (gd (zin x3 (pN h x2)) (gd (okR h x2 (some x1)) (bnd (wP h x2 (zix x3) (some x1)) (fun h1 =>
  gd (isLr (pK h1 x0)) (bnd (wI h1 x0 2 (x3 + 1)) (fun h2 =>
  some h2))))))
noncomputable def f_J2_add_2 (h : HP) (x0 : Nat) (x1 : Nat) (x2 : Nat) (x3 : Int) : Option (HP) :=
  gd (isAr (pK h x2)) (if zI x3 = zI (pN h x2 : Int) then
  gd (isL (pK h x0)) (Option.bind (f_J2_grow h x0) (fun y1 =>
  f_J2_add_2_11 y1.1 x0 x1 y1.2 x3))
  else
  f_J2_add_2_11 h x0 x1 x2 x3)
noncomputable def f_J2_add (h : HP) (x0 : Nat) (x1 : Nat) : Option (HP × Int) :=
  gd (isLr (pK h x0)) (gd (isLr (pK h x0)) (bnd (wI h x0 0 ((pI h x0 0) + 1)) (fun h1 =>
  gd (isLr (pK h1 x0)) (gd (isLr (pK h1 x0)) (Option.bind (pP h1 x0 1) (fun a2 =>
  gd (isL (pK h1 x0)) (Option.bind (f_J2_add_2 h1 x0 x1 a2 (pI h1 x0 2)) (fun y3 =>
  some (y3, 1)))))))))
noncomputable def f_X2_enter_40 (h : HP) (x0 : Nat) : Option (HP) :=
  gd (pK h x0 = 2) (Option.bind (pP h x0 5) (fun a1 =>
  Option.bind (lClr h a1) (fun y2 =>
  some y2)))
noncomputable def f_X2_enter_22 (h : HP) (x0 : Nat) : Option (HP) :=
  gd (pK h x0 = 2) (nl (pP h x0 5) (bnd (pX h) (fun a2 =>
  gd (rm1 h 3) (bnd (wNew h 90 3) (fun h3 =>
  Option.bind (lNew h3 a2 21) (fun y4 =>
  gd (pK y4 x0 = 2) (bnd (wP y4 x0 5 (some a2)) (fun h5 =>
  f_X2_enter_40 h5 x0))))))) (fun a1 =>
  f_X2_enter_40 h x0))
noncomputable def f_X2_enter (h : HP) (x0 : Nat) : Option (HP) :=
  gd (pK h x0 = 2) (bnd (wI h x0 6 1) (fun h1 =>
  gd (pK h1 x0 = 2) (if zI (pI h1 x0 2) = zI 99 then
  f_X2_enter_22 h1 x0
  else
  gd (pK h1 x0 = 2) (if zI (pI h1 x0 2) = zI 0 then
  f_X2_enter_22 h1 x0
  else
  some h1))))
noncomputable def f_X0_enter (h : HP) (x0 : Nat) (x1 : Nat) : Option (HP) :=
  gd (pK h x0 = 1) (Option.bind (pP h x0 5) (fun a1 =>
  Option.bind (lAdd h a1 x1) (fun y2 =>
  gd (pK y2.1 x1 = 2) (Option.bind (f_X2_enter y2.1 x1) (fun y3 =>
  some y3)))))
noncomputable def f_X0_begin (h : HP) (x0 : Nat) : Option (HP) :=
  gd (pK h x0 = 1) (Option.bind (pP h x0 0) (fun a1 =>
  gd (pK h a1 = 2) (Option.bind (f_X2_begin h a1 0 0) (fun y2 =>
  gd (pK y2 x0 = 1) (Option.bind (pP y2 x0 5) (fun a3 =>
  Option.bind (lClr y2 a3) (fun y4 =>
  gd (pK y4 x0 = 1) (Option.bind (pP y4 x0 0) (fun a5 =>
  gd (pK y4 x0 = 1) (Option.bind (f_X0_enter y4 x0 a5) (fun y6 =>
  some y6)))))))))))
noncomputable def f_X0_init (h : HP) (x0 : Nat) : Option (HP) :=
  bnd (pX h) (fun a1 =>
  gd (rm1 h 17) (bnd (wNew h 2 17) (fun h2 =>
  Option.bind (f_X2_init h2 a1) (fun y3 =>
  gd (pK y3 x0 = 1) (bnd (wP y3 x0 0 (some a1)) (fun h4 =>
  bnd (pX h4) (fun a5 =>
  gd (rm1 h4 3) (bnd (wNew h4 90 3) (fun h6 =>
  Option.bind (lNew h6 a5 22) (fun y7 =>
  gd (pK y7 x0 = 1) (bnd (wP y7 x0 1 (some a5)) (fun h8 =>
  bnd (pX h8) (fun a9 =>
  gd (rm1 h8 3) (bnd (wNew h8 90 3) (fun h10 =>
  Option.bind (lNew h10 a9 23) (fun y11 =>
  gd (pK y11 x0 = 1) (bnd (wP y11 x0 2 (some a9)) (fun h12 =>
  bnd (pX h12) (fun a13 =>
  gd (rm1 h12 3) (bnd (wNew h12 90 3) (fun h14 =>
  Option.bind (lNew h14 a13 24) (fun y15 =>
  gd (pK y15 x0 = 1) (bnd (wP y15 x0 5 (some a13)) (fun h16 =>
  bnd (pX h16) (fun a17 =>
  gd (rm1 h16 3) (bnd (wNew h16 90 3) (fun h18 =>
  Option.bind (lNew h18 a17 25) (fun y19 =>
  gd (pK y19 x0 = 1) (bnd (wP y19 x0 6 (some a17)) (fun h20 =>
  gd (pK h20 x0 = 1) (bnd (wI h20 x0 8 0) (fun h21 =>
  bnd (pX h21) (fun a22 =>
  gd (rm1 h21 6) (bnd (wNew h21 4 6) (fun h23 =>
  Option.bind (f_X3_init h23 a22) (fun y24 =>
  gd (pK y24 x0 = 1) (bnd (wP y24 x0 14 (some a22)) (fun h25 =>
  bnd (pX h25) (fun a26 =>
  gd (rm1 h25 3) (bnd (wNew h25 90 3) (fun h27 =>
  Option.bind (lNew h27 a26 26) (fun y28 =>
  gd (pK y28 x0 = 1) (bnd (wP y28 x0 15 (some a26)) (fun h29 =>
  bnd (pX h29) (fun a30 =>
  gd (rm1 h29 4) (bnd (wNew h29 5 4) (fun h31 =>
  Option.bind (f_X4_init h31 a30) (fun y32 =>
  gd (pK y32 x0 = 1) (bnd (wP y32 x0 18 (some a30)) (fun h33 =>
  bnd (pX h33) (fun a34 =>
  gd (rmA h33 4096) (bnd (wNew h33 45 (zix 4096)) (fun h35 =>
  gd (pK h35 x0 = 1) (bnd (wP h35 x0 19 (some a34)) (fun h36 =>
  gd (pK h36 x0 = 1) (Option.bind (f_X0_begin h36 x0) (fun y37 =>
  some y37)))))))))))))))))))))))))))))))))))))))))))))))))))))))))
noncomputable def f_J4_newCapacity (h : HP) (x0 : Nat) (x1 : Int) : Option (Int) :=
  gd (isSr (pK h x0)) (Option.bind (pP h x0 0) (fun a1 =>
  gd (isAr (pK h a1)) (bnd (pN h a1 : Int) (fun y2 =>
  gd (isSr (pK h x0)) (bnd (zshl x1 (pI h x0 1)) (fun y3 =>
  bnd (y3 - y2) (fun y4 =>
  gd (isSr (pK h x0)) (Option.bind (f_J8_newLength y2 y4 (y2 + (zshl 2 (pI h x0 1)))) (fun y5 =>
  if zI y5 = zI 2147483647 then
  none
  else
  gd (isSr (pK h x0)) (some (zshr y5 (pI h x0 1))))))))))))
noncomputable def f_J10_copyOf_3 (h : HP) (x0 : Nat) (x1 : Int) : Option (HP × Nat) :=
  gd (isAr (pK h x0)) (if zI x1 = zI (pN h x0 : Int) then
  none
  else
  bnd (pX h) (fun a1 =>
  gd (rmA h x1) (bnd (wNew h 51 (zix x1)) (fun h2 =>
  gd (isAr (pK h2 x0)) (gd (cpOKY h2 x0 0 a1 0 (zmin (pN h2 x0 : Int) x1)) (bnd (wCI h2 x0 0 a1 0 (zmin (pN h2 x0 : Int) x1)) (fun h3 =>
  some (h3, a1))))))))
noncomputable def f_J4_ensureCapacityInternal (h : HP) (x0 : Nat) (x1 : Int) : Option (HP) :=
  gd (isSr (pK h x0)) (Option.bind (pP h x0 0) (fun a1 =>
  gd (isAr (pK h a1)) (gd (isSr (pK h x0)) (bnd (zshr (pN h a1 : Int) (pI h x0 1)) (fun y2 =>
  if zI 0 < zI (x1 - y2) then
  gd (isSr (pK h x0)) (gd (isS (pK h x0)) (Option.bind (f_J4_newCapacity h x0 x1) (fun y3 =>
  gd (isSr (pK h x0)) (Option.bind (pP h x0 0) (fun a4 =>
  Option.bind (f_J10_copyOf_3 h a4 (zshl y3 (pI h x0 1))) (fun y5 =>
  gd (isSr (pK y5.1 x0)) (bnd (wP y5.1 x0 0 (some y5.2)) (fun h6 =>
  some h6))))))))
  else
  some h)))))
noncomputable def f_J4_setLength_76 (h : HP) (x0 : Nat) (x1 : Int) : Option (HP) :=
  gd (isSr (pK h x0)) (bnd (wI h x0 3 x1) (fun h1 =>
  some h1))
noncomputable def f_J4_setLength (h : HP) (x0 : Nat) (x1 : Int) : Option (HP) :=
  if zI x1 < zI 0 then
  none
  else
  gd (isS (pK h x0)) (Option.bind (f_J4_ensureCapacityInternal h x0 x1) (fun y1 =>
  gd (isSr (pK y1 x0)) (if zI (pI y1 x0 3) < zI x1 then
  none
  else
  gd (isSr (pK y1 x0)) (if zI x1 < zI (pI y1 x0 3) then
  gd (isSr (pK y1 x0)) (bnd (wI y1 x0 2 1) (fun h2 =>
  f_J4_setLength_76 h2 x0 x1))
  else
  f_J4_setLength_76 y1 x0 x1))))
noncomputable def f_J5_setLength (h : HP) (x0 : Nat) (x1 : Int) : Option (HP) :=
  Option.bind (f_J4_setLength h x0 x1) (fun y1 =>
  gd (isS (pK h x0)) (some y1))
noncomputable def f_X3_next (h : HP) (x0 : Nat) : Option (HP) :=
  gd (pK h x0 = 4) (Option.bind (pP h x0 1) (fun a1 =>
  Option.bind (sSet h a1 0) (fun y2 =>
  gd (pK y2 x0 = 4) (Option.bind (pP y2 x0 2) (fun a3 =>
  Option.bind (sSet y2 a3 0) (fun y4 =>
  gd (pK y4 x0 = 4) (bnd (wI y4 x0 4 0) (fun h5 =>
  some h5))))))))
noncomputable def f_X3_clear (h : HP) (x0 : Nat) : Option (HP) :=
  gd (pK h x0 = 4) (Option.bind (pP h x0 0) (fun a1 =>
  Option.bind (lClr h a1) (fun y2 =>
  gd (pK y2 x0 = 4) (Option.bind (f_X3_next y2 x0) (fun y3 =>
  gd (pK y3 x0 = 4) (bnd (wI y3 x0 5 0) (fun h4 =>
  some h4)))))))
noncomputable def f_X0_changed (h : HP) (x0 : Nat) : Option (HP) :=
  gd (pK h x0 = 1) (bnd (wI h x0 16 0) (fun h1 =>
  gd (pK h1 x0 = 1) (bnd (wI h1 x0 17 0) (fun h2 =>
  some h2))))
noncomputable def f_X0_clear (h : HP) (x0 : Nat) : Option (HP) :=
  gd (pK h x0 = 1) (Option.bind (f_X0_begin h x0) (fun y1 =>
  gd (pK y1 x0 = 1) (bnd (wI y1 x0 3 0) (fun h2 =>
  gd (pK h2 x0 = 1) (bnd (wI h2 x0 4 0) (fun h3 =>
  gd (pK h3 x0 = 1) (bnd (wI h3 x0 7 0) (fun h4 =>
  gd (pK h4 x0 = 1) (bnd (wI h4 x0 8 0) (fun h5 =>
  gd (pK h5 x0 = 1) (bnd (wI h5 x0 9 0) (fun h6 =>
  gd (pK h6 x0 = 1) (Option.bind (pP h6 x0 14) (fun a7 =>
  gd (pK h6 a7 = 4) (Option.bind (f_X3_clear h6 a7) (fun y8 =>
  gd (pK y8 x0 = 1) (Option.bind (f_X0_changed y8 x0) (fun y9 =>
  some y9))))))))))))))))))
noncomputable def f_J2_size (h : HP) (x0 : Nat) : Option (Int) :=
  gd (isLr (pK h x0)) (some (pI h x0 2))
noncomputable def f_J12_checkIndex (x0 : Int) (x1 : Int) : Option (Int) :=
  if zI x0 < zI 0 then
  none
  else
  if zI x0 < zI x1 then
  some x0
  else
  none
noncomputable def f_J11_checkIndex (x0 : Int) (x1 : Int) : Option (Int) :=
  Option.bind (f_J12_checkIndex x0 x1) (fun y1 =>
  some y1)
noncomputable def f_J2_elementData (h : HP) (x0 : Nat) (x1 : Int) : Option (Option Nat) :=
  gd (isLr (pK h x0)) (Option.bind (pP h x0 1) (fun a1 =>
  gd (pK h a1 = 50) (gd (zin x1 (pN h a1)) (some (pP h a1 (zix x1))))))
noncomputable def f_J2_get (h : HP) (x0 : Nat) (x1 : Int) : Option (Option Nat) :=
  gd (isLr (pK h x0)) (Option.bind (f_J11_checkIndex x1 (pI h x0 2)) (fun y1 =>
  gd (isL (pK h x0)) (Option.bind (f_J2_elementData h x0 x1) (fun y2 =>
  some y2))))
noncomputable def f_X0_top (h : HP) (x0 : Nat) : Option (Nat) :=
  gd (pK h x0 = 1) (gd (pK h x0 = 1) (Option.bind (pP h x0 5) (fun a1 =>
  Option.bind (lLen h a1) (fun y2 =>
  Option.bind (lGet h a1 (y2 - 1)) (fun y3 =>
  gd (pK h y3 = 2) (some y3))))))
noncomputable def f_X2_is (h : HP) (x0 : Nat) (x1 : Int) : Option (Int) :=
  gd (pK h x0 = 2) (if zI (pI h x0 2) = zI x1 then
  some 1
  else
  some 0)
noncomputable def f_J6_isLatin1 (h : HP) (x0 : Nat) : Option (Int) :=
  if zI 1 = zI 0 then
  some 0
  else
  gd (x0 < 11) (if zI 0 = zI 0 then
  some 1
  else
  some 0)
noncomputable def f_J6_coder (h : HP) (x0 : Nat) : Option (Int) :=
  if zI 1 = zI 0 then
  gd (zisY 1) (some 1)
  else
  gd (x0 < 11) (gd (zisY 0) (some 0))
noncomputable def f_J6_length (h : HP) (x0 : Nat) : Option (Int) :=
  gd (x0 < 11) (gd (x0 < 11) (gd (x0 < 11) (Option.bind (f_J6_coder h x0) (fun y1 =>
  some (zshr ((sT x0).length : Int) y1)))))
noncomputable def f_J13_canEncode (x0 : Int) : Option (Int) :=
  if zI x0 < zI 0 then
  some 0
  else
  if zI 255 < zI x0 then
  some 0
  else
  some 1
noncomputable def f_J13_indexOfChar_7s (h : HP) (x0 : Nat) (x3 : Int) (x4 : Int) (x5 : Int) : Option ((Int) ⊕ (Int)) :=
  if zI x5 < zI x3 then
  gd (x0 < 11 ∧ zin x5 (sT x0).length) (if zI ((sT x0).getD (zix x5) 0) = zI x4 then
  some (.inr x5)
  else
  some (.inl (x5 + 1)))
  else
  some (.inr (-1))
noncomputable def f_J13_indexOfChar_7 (h : HP) (x0 : Nat) (x3 : Int) (x4 : Int) (x5 : Int) : Option (Int) :=
  iter (fun (z : Int) => f_J13_indexOfChar_7s h x0 x3 x4 z) (x5)
noncomputable def f_J13_indexOfChar (h : HP) (x0 : Nat) (x1 : Int) (x2 : Int) (x3 : Int) : Option (Int) :=
  bnd (zi2b x1) (fun y1 =>
  f_J13_indexOfChar_7 h x0 x3 y1 x2)
noncomputable def f_J13_indexOf (h : HP) (x0 : Nat) (x1 : Int) (x2 : Int) (x3 : Int) : Option (Int) :=
  Option.bind (f_J13_canEncode x1) (fun y1 =>
  if zI y1 = zI 0 then
  some (-1)
  else
  bnd (zmax x2 0) (fun y2 =>
  gd (x0 < 11) (bnd (zmin x3 ((sT x0).length : Int)) (fun y3 =>
  if zI y2 < zI y3 then
  Option.bind (f_J13_indexOfChar h x0 x1 y2 y3) (fun y4 =>
  some y4)
  else
  some (-1)))))
noncomputable def f_J6_indexOf_2 (h : HP) (x0 : Nat) (x1 : Int) (x2 : Int) : Option (Int) :=
  gd (x0 < 11) (Option.bind (f_J6_isLatin1 h x0) (fun y1 =>
  if zI y1 = zI 0 then
  none
  else
  gd (x0 < 11) (gd (x0 < 11) (Option.bind (f_J6_length h x0) (fun y2 =>
  Option.bind (f_J13_indexOf h x0 x1 x2 y2) (fun y3 =>
  some y3))))))
noncomputable def f_J6_indexOf (h : HP) (x0 : Nat) (x1 : Int) : Option (Int) :=
  gd (x0 < 11) (Option.bind (f_J6_indexOf_2 h x0 x1 0) (fun y1 =>
  some y1))
noncomputable def f_X0_reach_10s (h : HP) (x0 : Nat) (x1 : Int) (x2 : Nat) (x3 : Int) : Option ((Int) ⊕ (Int)) :=
  if zI 0 < zI x3 then
  gd (pK h x0 = 1) (Option.bind (pP h x0 5) (fun a1 =>
  Option.bind (lGet h a1 x3) (fun y2 =>
  gd (pK h y2 = 2) (gd (pK h y2 = 2) (Option.bind (f_X2_is h y2 x1) (fun y3 =>
  if zI y3 = zI 0 then
  gd (pK h y2 = 2) (gd (x2 < 11) (Option.bind (f_J6_indexOf h x2 (pI h y2 2)) (fun y4 =>
  if zI y4 < zI 0 then
  some (.inl (x3 + (-1)))
  else
  some (.inr 0))))
  else
  some (.inr x3)))))))
  else
  some (.inr 0)
noncomputable def f_X0_reach_10 (h : HP) (x0 : Nat) (x1 : Int) (x2 : Nat) (x3 : Int) : Option (Int) :=
  iter (fun (z : Int) => f_X0_reach_10s h x0 x1 x2 z) (x3)
noncomputable def f_X0_reach (h : HP) (x0 : Nat) (x1 : Int) (x2 : Nat) : Option (Int) :=
  gd (pK h x0 = 1) (Option.bind (pP h x0 5) (fun a1 =>
  Option.bind (lLen h a1) (fun y2 =>
  bnd (y2 - 1) (fun y3 =>
  f_X0_reach_10 h x0 x1 x2 y3))))
noncomputable def f_X0_list (h : HP) (x0 : Nat) : Option (Option Nat) :=
  gd (pK h x0 = 1) (gd (pK h x0 = 1) (Option.bind (f_X0_reach h x0 99 0) (fun y1 =>
  Option.bind (pP h x0 5) (fun a2 =>
  Option.bind (lGet h a2 y1) (fun y3 =>
  gd (pK h y3 = 2) (gd (pK h y3 = 2) (some (pP h y3 5))))))))
noncomputable def f_X0_full (h : HP) (x0 : Nat) : Option (Int) :=
  gd (pK h x0 = 1) (gd (pK h x0 = 1) (if zI ((1 + (pI h x0 3)) + (pI h x0 4)) = zI 24 then
  some 1
  else
  some 0))
noncomputable def f_X0_element_46 (h : HP) (x0 : Nat) (x1 : Int) (x2 : Int) : Option (HP × Option Nat) :=
  gd (pK h x0 = 1) (gd (pK h x0 = 1) (Option.bind (pP h x0 2) (fun a1 =>
  Option.bind (lGet h a1 (pI h x0 4)) (fun y2 =>
  gd (pK h y2 = 2) (gd (pK h x0 = 1) (gd (pK h x0 = 1) (bnd (wI h x0 4 ((pI h x0 4) + 1)) (fun h3 =>
  gd (pK h3 y2 = 2) (Option.bind (f_X2_begin h3 y2 x1 x2) (fun y4 =>
  some (y4, some y2)))))))))))
noncomputable def f_X0_element (h : HP) (x0 : Nat) (x1 : Int) (x2 : Int) : Option (HP × Option Nat) :=
  gd (pK h x0 = 1) (Option.bind (f_X0_full h x0) (fun y1 =>
  gd (pK h x0 = 1) (gd (zisB y1) (bnd (wI h x0 7 y1) (fun h2 =>
  gd (pK h2 x0 = 1) (if zI (pI h2 x0 7) = zI 0 then
  gd (pK h2 x0 = 1) (gd (pK h2 x0 = 1) (Option.bind (pP h2 x0 2) (fun a3 =>
  Option.bind (lLen h2 a3) (fun y4 =>
  if zI (pI h2 x0 4) = zI y4 then
  gd (pK h2 x0 = 1) (bnd (pX h2) (fun a5 =>
  gd (rm1 h2 17) (bnd (wNew h2 2 17) (fun h6 =>
  Option.bind (f_X2_init h6 a5) (fun y7 =>
  Option.bind (pP h2 x0 2) (fun a8 =>
  Option.bind (lAdd y7 a8 a5) (fun y9 =>
  f_X0_element_46 y9.1 x0 x1 x2)))))))
  else
  f_X0_element_46 h2 x0 x1 x2))))
  else
  some (h2, none)))))))
noncomputable def f_X2_index_2s (h : HP) (x0 : Nat) (x1 : Nat) (x2 : Int) : Option ((Int) ⊕ (Int)) :=
  gd (pK h x0 = 2) (Option.bind (pP h x0 4) (fun a1 =>
  Option.bind (lLen h a1) (fun y2 =>
  if zI x2 < zI y2 then
  gd (pK h x0 = 2) (Option.bind (pP h x0 4) (fun a3 =>
  Option.bind (lGet h a3 x2) (fun y4 =>
  if some y4 = some x1 then
  some (.inr x2)
  else
  some (.inl (x2 + 1)))))
  else
  some (.inr x2))))
noncomputable def f_X2_index_2 (h : HP) (x0 : Nat) (x1 : Nat) (x2 : Int) : Option (Int) :=
  iter (fun (z : Int) => f_X2_index_2s h x0 x1 z) (x2)
noncomputable def f_X2_index (h : HP) (x0 : Nat) (x1 : Nat) : Option (Int) :=
  f_X2_index_2 h x0 x1 0
noncomputable def f_X0_locate_23 (h : HP) (x0 : Nat) : Option (HP) :=
  gd (pK h x0 = 1) (gd (pK h x0 = 1) (Option.bind (f_X0_reach h x0 116 0) (fun y1 =>
  Option.bind (pP h x0 5) (fun a2 =>
  Option.bind (lGet h a2 y1) (fun y3 =>
  gd (pK h y3 = 2) (gd (pK h y3 = 2) (gd (pK h x0 = 1) (bnd (wP h x0 12 (pP h y3 0)) (fun h4 =>
  gd (pK h4 x0 = 1) (Option.bind (pP h4 x0 12) (fun a5 =>
  gd (pK h4 a5 = 2) (Option.bind (f_X2_index h4 a5 y3) (fun y6 =>
  gd (pK h4 x0 = 1) (bnd (wI h4 x0 13 y6) (fun h7 =>
  some h7)))))))))))))))
noncomputable def f_X0_locate (h : HP) (x0 : Nat) : Option (HP) :=
  gd (pK h x0 = 1) (Option.bind (f_X0_top h x0) (fun y1 =>
  gd (pK h y1 = 2) (Option.bind (f_X2_is h y1 116) (fun y2 =>
  if zI y2 = zI 0 then
  gd (pK h y1 = 2) (Option.bind (f_X2_is h y1 114) (fun y3 =>
  if zI y3 = zI 0 then
  gd (pK h x0 = 1) (bnd (wP h x0 12 (some y1)) (fun h4 =>
  gd (pK h4 y1 = 2) (Option.bind (pP h4 y1 4) (fun a5 =>
  Option.bind (lLen h4 a5) (fun y6 =>
  gd (pK h4 x0 = 1) (bnd (wI h4 x0 13 y6) (fun h7 =>
  some h7)))))))
  else
  f_X0_locate_23 h x0))
  else
  f_X0_locate_23 h x0))))
noncomputable def f_J2_rangeCheckForAdd (h : HP) (x0 : Nat) (x1 : Int) : Option (Unit) :=
  gd (isLr (pK h x0)) (if zI (pI h x0 2) < zI x1 then
  none
  else
  if zI x1 < zI 0 then
  none
  else
  some ())
noncomputable def f_J2_add_3_38 (h : HP) (x0 : Nat) (x1 : Int) (x2 : Nat) (x3 : Int) (x4 : Nat) : Option (HP) :=
  gd (cpOKP h x4 x1 x4 (x1 + 1) (x3 - x1)) (bnd (wCP h x4 x1 x4 (x1 + 1) (x3 - x1)) (fun h1 =>
  gd (pK h1 x4 = 50) (gd (zin x1 (pN h1 x4)) (gd (okR h1 x4 (some x2)) (bnd (wP h1 x4 (zix x1) (some x2)) (fun h2 =>
  gd (isLr (pK h2 x0)) (bnd (wI h2 x0 2 (x3 + 1)) (fun h3 =>
  some h3))))))))
noncomputable def f_J2_add_3 (h : HP) (x0 : Nat) (x1 : Int) (x2 : Nat) : Option (HP) :=
  gd (isL (pK h x0)) (Option.bind (f_J2_rangeCheckForAdd h x0 x1) (fun y1 =>
  gd (isLr (pK h x0)) (gd (isLr (pK h x0)) (bnd (wI h x0 0 ((pI h x0 0) + 1)) (fun h2 =>
  gd (isLr (pK h2 x0)) (bnd (pI h2 x0 2) (fun y3 =>
  gd (isLr (pK h2 x0)) (bnd (pP h2 x0 1) (fun y4 =>
  Option.bind y4 (fun a5 =>
  gd (isAr (pK h2 a5)) (if zI y3 = zI (pN h2 a5 : Int) then
  gd (isL (pK h2 x0)) (Option.bind (f_J2_grow h2 x0) (fun y6 =>
  f_J2_add_3_38 y6.1 x0 x1 x2 y3 y6.2))
  else
  f_J2_add_3_38 h2 x0 x1 x2 y3 a5)))))))))))
noncomputable def f_X2_put (h : HP) (x0 : Nat) (x1 : Int) (x2 : Nat) : Option (HP) :=
  gd (pK h x0 = 2) (Option.bind (pP h x0 4) (fun a1 =>
  Option.bind (lIns h a1 x1 x2) (fun y2 =>
  gd (isN (pK y2 x2)) (bnd (wP y2 x2 0 (some x0)) (fun h3 =>
  some h3)))))
noncomputable def f_X0_insert (h : HP) (x0 : Nat) (x1 : Nat) : Option (HP) :=
  gd (pK h x0 = 1) (Option.bind (f_X0_locate h x0) (fun y1 =>
  gd (pK y1 x0 = 1) (gd (pK y1 x0 = 1) (Option.bind (pP y1 x0 12) (fun a2 =>
  gd (pK y1 a2 = 2) (Option.bind (f_X2_put y1 a2 (pI y1 x0 13) x1) (fun y3 =>
  some y3)))))))
noncomputable def f_J2_set (h : HP) (x0 : Nat) (x1 : Int) (x2 : Nat) : Option (HP × Option Nat) :=
  gd (isLr (pK h x0)) (Option.bind (f_J11_checkIndex x1 (pI h x0 2)) (fun y1 =>
  gd (isL (pK h x0)) (Option.bind (f_J2_elementData h x0 x1) (fun y2 =>
  gd (isLr (pK h x0)) (Option.bind (pP h x0 1) (fun a3 =>
  gd (pK h a3 = 50) (gd (zin x1 (pN h a3)) (gd (okR h a3 (some x2)) (bnd (wP h a3 (zix x1) (some x2)) (fun h4 =>
  some (h4, y2)))))))))))
noncomputable def f_X0_renew_104 (h : HP) (x0 : Nat) (x1 : Nat) (x3 : Int) : Option ((HP × Int) ⊕ (HP)) :=
  some (.inl (h, x3 + 1))
noncomputable def f_X0_renew_38s (h : HP) (x0 : Nat) (x1 : Nat) (x3 : Int) : Option ((HP × Int) ⊕ (HP)) :=
  Option.bind (lLen h x1) (fun y1 =>
  if zI x3 < zI y1 then
  gd (pK h x0 = 1) (if zI (pI h x0 7) = zI 0 then
  Option.bind (lGet h x1 x3) (fun y2 =>
  gd (pK h y2 = 2) (gd (pK h y2 = 2) (gd (pK h y2 = 2) (gd (pK h x0 = 1) (Option.bind (f_X0_element h x0 (pI h y2 2) (pI h y2 3)) (fun y3 =>
  nl y3.2 (f_X0_renew_104 y3.1 x0 x1 x3) (fun a4 =>
  gd (pK y3.1 x0 = 1) (Option.bind (f_X0_insert y3.1 x0 a4) (fun y5 =>
  gd (pK y5 x0 = 1) (Option.bind (f_X0_enter y5 x0 a4) (fun y6 =>
  Option.bind (lSet y6 x1 x3 a4) (fun y7 =>
  f_X0_renew_104 y7.1 x0 x1 x3))))))))))))
  else
  some (.inr h))
  else
  some (.inr h))
noncomputable def f_X0_renew_38 (h : HP) (x0 : Nat) (x1 : Nat) (x3 : Int) : Option (HP) :=
  iter (fun (z : HP × Int) => f_X0_renew_38s z.1 x0 x1 z.2) (h, x3)
noncomputable def f_X0_renew_36 (h : HP) (x0 : Nat) (x1 : Nat) (x2 : Int) : Option (HP) :=
  f_X0_renew_38 h x0 x1 x2
noncomputable def f_X0_renew_10s (h : HP) (x0 : Nat) (x1 : Nat) (x2 : Int) : Option ((Int) ⊕ (HP)) :=
  if zI 0 < zI x2 then
  Option.bind (lGet h x1 (x2 - 1)) (fun y1 =>
  gd (pK h y1 = 2) (gd (pK h y1 = 2) (if zI (pI h y1 6) = zI 0 then
  some (.inl (x2 + (-1)))
  else
  mr (f_X0_renew_36 h x0 x1 x2))))
  else
  mr (f_X0_renew_36 h x0 x1 x2)
noncomputable def f_X0_renew_10 (h : HP) (x0 : Nat) (x1 : Nat) (x2 : Int) : Option (HP) :=
  iter (fun (z : Int) => f_X0_renew_10s h x0 x1 z) (x2)
noncomputable def f_X0_renew (h : HP) (x0 : Nat) : Option (HP) :=
  gd (pK h x0 = 1) (Option.bind (f_X0_list h x0) (fun y1 =>
  Option.bind y1 (fun a2 =>
  Option.bind (lLen h a2) (fun y3 =>
  f_X0_renew_10 h x0 a2 y3))))
noncomputable def f_J4_isLatin1 (h : HP) (x0 : Nat) : Option (Int) :=
  if zI 1 = zI 0 then
  some 0
  else
  gd (isSr (pK h x0)) (if zI (pI h x0 1) = zI 0 then
  some 1
  else
  some 0)
noncomputable def f_J13_canEncode_2 (x0 : Int) : Option (Int) :=
  if zI 255 < zI x0 then
  some 0
  else
  some 1
noncomputable def f_J4_append (h : HP) (x0 : Nat) (x1 : Int) : Option (HP × Nat) :=
  gd (isSr (pK h x0)) (gd (isS (pK h x0)) (Option.bind (f_J4_ensureCapacityInternal h x0 ((pI h x0 3) + 1)) (fun y1 =>
  gd (isS (pK y1 x0)) (Option.bind (f_J4_isLatin1 y1 x0) (fun y2 =>
  if zI y2 = zI 0 then
  none
  else
  Option.bind (f_J13_canEncode_2 x1) (fun y3 =>
  if zI y3 = zI 0 then
  none
  else
  gd (isSr (pK y1 x0)) (gd (isSr (pK y1 x0)) (bnd (pI y1 x0 3) (fun y4 =>
  gd (isSr (pK y1 x0)) (bnd (wI y1 x0 3 (y4 + 1)) (fun h5 =>
  Option.bind (pP y1 x0 0) (fun a6 =>
  gd (pK h5 a6 = 51) (gd (zin y4 (pN h5 a6)) (bnd (wI h5 a6 (zix y4) (zi2b (zi2b x1))) (fun h7 =>
  some (h7, x0))))))))))))))))
noncomputable def f_J5_append (h : HP) (x0 : Nat) (x1 : Int) : Option (HP × Nat) :=
  Option.bind (f_J4_append h x0 x1) (fun y1 =>
  gd (isS (pK h x0)) (some (y1.1, x0)))
noncomputable def f_J4_length (h : HP) (x0 : Nat) : Option (Int) :=
  gd (isSr (pK h x0)) (some (pI h x0 3))
noncomputable def f_J5_length (h : HP) (x0 : Nat) : Option (Int) :=
  Option.bind (f_J4_length h x0) (fun y1 =>
  gd (isS (pK h x0)) (some y1))
noncomputable def f_J10_copyOf_4 (h : HP) (x0 : Nat) (x1 : Int) : Option (HP × Nat) :=
  gd (isAp (pK h x0)) (if zI x1 = zI (pN h x0 : Int) then
  none
  else
  bnd (pX h) (fun a1 =>
  gd (rmA h x1) (gd (isI (pK h x0)) (bnd (wNew h (pK h x0) (zix x1)) (fun h2 =>
  gd (isAp (pK h2 x0)) (gd (cpOKI h2 x0 0 a1 0 (zmin (pN h2 x0 : Int) x1)) (bnd (wCI h2 x0 0 a1 0 (zmin (pN h2 x0 : Int) x1)) (fun h3 =>
  some (h3, a1)))))))))
noncomputable def f_X6_add (h : HP) (x0 : Nat) (x1 : Int) : Option (HP) :=
  gd (pK h x0 = 3) (Option.bind (pP h x0 2) (fun a1 =>
  Option.bind (sApp h a1 x1) (fun y2 =>
  gd (pK y2 x0 = 3) (Option.bind (pP y2 x0 3) (fun a3 =>
  gd (isAp (pK y2 a3)) (gd (pK y2 x0 = 3) (Option.bind (pP y2 x0 2) (fun a4 =>
  Option.bind (sLen y2 a4) (fun y5 =>
  if zI (pN y2 a3 : Int) < zI y5 then
  gd (pK y2 x0 = 3) (gd (pK y2 x0 = 3) (Option.bind (pP y2 x0 3) (fun a6 =>
  gd (isAp (pK y2 a6)) (Option.bind (f_J10_copyOf_4 y2 a6 (2 * (pN y2 a6 : Int))) (fun y7 =>
  gd (pK y7.1 x0 = 3) (bnd (wP y7.1 x0 3 (some y7.2)) (fun h8 =>
  some h8)))))))
  else
  some y2)))))))))
noncomputable def f_X6_init (h : HP) (x0 : Nat) : Option (HP) :=
  Option.bind (f_X1_init h x0) (fun y1 =>
  bnd (pX h) (fun a2 =>
  gd (rm1 h 4) (bnd (wNew h 91 4) (fun h3 =>
  Option.bind (sNew h3 a2 30) (fun y4 =>
  gd (pK y4 x0 = 3) (bnd (wP y4 x0 2 (some a2)) (fun h5 =>
  bnd (pX h5) (fun a6 =>
  gd (rmA h5 4) (bnd (wNew h5 41 (zix 4)) (fun h7 =>
  gd (pK h7 x0 = 3) (bnd (wP h7 x0 3 (some a6)) (fun h8 =>
  some h8))))))))))))
noncomputable def f_X0_character_146 (h : HP) (x0 : Nat) (x1 : Int) : Option (HP) :=
  gd (pK h x0 = 1) (gd (pK h x0 = 1) (Option.bind (pP h x0 1) (fun a1 =>
  Option.bind (lGet h a1 (pI h x0 3)) (fun y2 =>
  gd (pK h y2 = 3) (gd (pK h x0 = 1) (gd (pK h x0 = 1) (bnd (wI h x0 3 ((pI h x0 3) + 1)) (fun h3 =>
  gd (pK h3 y2 = 3) (Option.bind (pP h3 y2 2) (fun a4 =>
  Option.bind (sSet h3 a4 0) (fun y5 =>
  gd (pK y5 y2 = 3) (Option.bind (f_X6_add y5 y2 x1) (fun y6 =>
  gd (pK y6 x0 = 1) (gd (pK y6 x0 = 1) (Option.bind (pP y6 x0 12) (fun a7 =>
  gd (pK y6 a7 = 2) (Option.bind (f_X2_put y6 a7 (pI y6 x0 13) y2) (fun y8 =>
  some y8))))))))))))))))))
noncomputable def f_X0_character_83 (h : HP) (x0 : Nat) (x1 : Int) (t0 : Option Nat) : Option (HP) :=
  gd (okC h t0 0) (if zI (kiso h t0 3) = zI 0 then
  gd (pK h x0 = 1) (Option.bind (f_X0_full h x0) (fun y1 =>
  if zI y1 = zI 0 then
  gd (pK h x0 = 1) (gd (pK h x0 = 1) (Option.bind (pP h x0 1) (fun a2 =>
  Option.bind (lLen h a2) (fun y3 =>
  if zI (pI h x0 3) = zI y3 then
  gd (pK h x0 = 1) (bnd (pX h) (fun a4 =>
  gd (rm1 h 4) (bnd (wNew h 3 4) (fun h5 =>
  Option.bind (f_X6_init h5 a4) (fun y6 =>
  Option.bind (pP h x0 1) (fun a7 =>
  Option.bind (lAdd y6 a7 a4) (fun y8 =>
  f_X0_character_146 y8.1 x0 x1)))))))
  else
  f_X0_character_146 h x0 x1))))
  else
  gd (pK h x0 = 1) (bnd (wI h x0 7 1) (fun h9 =>
  some h9))))
  else
  gd (okC h t0 3) (Option.bind t0 (fun a10 =>
  gd (pK h a10 = 3) (Option.bind (f_X6_add h a10 x1) (fun y11 =>
  some y11)))))
noncomputable def f_X0_character_37 (h : HP) (x0 : Nat) (x1 : Int) : Option (HP) :=
  gd (pK h x0 = 1) (Option.bind (f_X0_renew h x0) (fun y1 =>
  gd (pK y1 x0 = 1) (if zI (pI y1 x0 7) = zI 0 then
  gd (pK y1 x0 = 1) (Option.bind (f_X0_locate y1 x0) (fun y2 =>
  gd (pK y2 x0 = 1) (if zI 0 < zI (pI y2 x0 13) then
  gd (pK y2 x0 = 1) (Option.bind (pP y2 x0 12) (fun a3 =>
  gd (pK y2 a3 = 2) (gd (pK y2 x0 = 1) (Option.bind (pP y2 a3 4) (fun a4 =>
  Option.bind (lGet y2 a4 ((pI y2 x0 13) - 1)) (fun y5 =>
  gd (isN (pK y2 y5)) (f_X0_character_83 y2 x0 x1 (some y5))))))))
  else
  f_X0_character_83 y2 x0 x1 none)))
  else
  some y1)))
noncomputable def f_X0_character (h : HP) (x0 : Nat) (x1 : Int) : Option (HP) :=
  gd (pK h x0 = 1) (Option.bind (f_X0_top h x0) (fun y1 =>
  gd (pK h x0 = 1) (if zI (pI h x0 7) = zI 0 then
  if zI x1 = zI 32 then
  gd (pK h y1 = 2) (Option.bind (f_X2_is h y1 116) (fun y2 =>
  if zI y2 = zI 0 then
  gd (pK h y1 = 2) (Option.bind (f_X2_is h y1 114) (fun y3 =>
  if zI y3 = zI 0 then
  f_X0_character_37 h x0 x1
  else
  some h))
  else
  some h))
  else
  f_X0_character_37 h x0 x1
  else
  some h)))
noncomputable def f_X0_plain_28 (h : HP) (x0 : Nat) (x1 : Int) (t0 : Int) (t1 : Nat) : Option (HP) :=
  gd (pK h t1 = 1) (gd (zst t0) (bnd (wI h t1 8 t0) (fun h1 =>
  gd (pK h1 x0 = 1) (gd (zst (pI h1 x0 8)) (gd (zst (pI h1 x0 8)) (if (pI h1 x0 8) = 0 then
  gd (pK h1 x0 = 1) (Option.bind (f_X0_character h1 x0 x1) (fun y2 =>
  some y2))
  else
  some h1))))))
noncomputable def f_X0_plain (h : HP) (x0 : Nat) (x1 : Int) : Option (HP) :=
  if zI x1 = zI 60 then
  f_X0_plain_28 h x0 x1 1 x0
  else
  if zI x1 = zI 38 then
  f_X0_plain_28 h x0 x1 6 x0
  else
  f_X0_plain_28 h x0 x1 0 x0
noncomputable def f_X0_small (h : HP) (x0 : Int) : Option (Int) :=
  if zI x0 < zI 97 then
  some 0
  else
  if zI 122 < zI x0 then
  some 0
  else
  some 1
noncomputable def f_X0_less_55 (h : HP) (t0 : Int) (t1 : Nat) : Option (HP) :=
  gd (pK h t1 = 1) (gd (zst t0) (bnd (wI h t1 8 t0) (fun h1 =>
  some h1)))
noncomputable def f_X0_less_39 (h : HP) (x0 : Nat) (x1 : Int) : Option (HP) :=
  if zI x1 = zI 33 then
  f_X0_less_55 h 5 x0
  else
  f_X0_less_55 h 2 x0
noncomputable def f_X0_less (h : HP) (x0 : Nat) (x1 : Int) : Option (HP) :=
  gd (pK h x0 = 1) (gd (zisC x1) (bnd (wI h x0 10 x1) (fun h1 =>
  gd (pK h1 x0 = 1) (bnd (wI h1 x0 11 0) (fun h2 =>
  Option.bind (f_X0_small h2 x1) (fun y3 =>
  if zI y3 = zI 0 then
  if zI x1 = zI 33 then
  f_X0_less_39 h2 x0 x1
  else
  if zI x1 = zI 47 then
  f_X0_less_39 h2 x0 x1
  else
  gd (pK h2 x0 = 1) (Option.bind (f_X0_character h2 x0 60) (fun y4 =>
  gd (pK y4 x0 = 1) (Option.bind (f_X0_plain y4 x0 x1) (fun y5 =>
  some y5))))
  else
  gd (pK h2 x0 = 1) (bnd (wI h2 x0 8 3) (fun h6 =>
  some h6))))))))
noncomputable def f_X0_capital (h : HP) (x0 : Int) : Option (Int) :=
  if zI x0 < zI 65 then
  some 0
  else
  if zI 90 < zI x0 then
  some 0
  else
  some 1
noncomputable def f_J2_fastRemove_34 (h : HP) (x0 : Nat) (x1 : Nat) (x3 : Int) : Option (HP) :=
  gd (isLr (pK h x0)) (bnd (wI h x0 2 x3) (fun h1 =>
  gd (pK h1 x1 = 50) (gd (zin x3 (pN h1 x1)) (gd (okR h1 x1 none) (bnd (wP h1 x1 (zix x3) none) (fun h2 =>
  some h2))))))
noncomputable def f_J2_fastRemove (h : HP) (x0 : Nat) (x1 : Nat) (x2 : Int) : Option (HP) :=
  gd (isLr (pK h x0)) (gd (isLr (pK h x0)) (bnd (wI h x0 0 ((pI h x0 0) + 1)) (fun h1 =>
  gd (isLr (pK h1 x0)) (bnd ((pI h1 x0 2) - 1) (fun y2 =>
  if zI x2 < zI y2 then
  gd (cpOKP h1 x1 (x2 + 1) x1 x2 (y2 - x2)) (bnd (wCP h1 x1 (x2 + 1) x1 x2 (y2 - x2)) (fun h3 =>
  f_J2_fastRemove_34 h3 x0 x1 y2))
  else
  f_J2_fastRemove_34 h1 x0 x1 y2)))))
noncomputable def f_J2_remove (h : HP) (x0 : Nat) (x1 : Int) : Option (HP × Option Nat) :=
  gd (isLr (pK h x0)) (Option.bind (f_J11_checkIndex x1 (pI h x0 2)) (fun y1 =>
  gd (isLr (pK h x0)) (bnd (pP h x0 1) (fun y2 =>
  Option.bind y2 (fun a3 =>
  gd (pK h a3 = 50) (gd (zin x1 (pN h a3)) (bnd (pP h a3 (zix x1)) (fun y4 =>
  gd (isL (pK h x0)) (Option.bind (f_J2_fastRemove h x0 a3 x1) (fun y5 =>
  some (y5, y4)))))))))))
noncomputable def f_X0_closeTo_0s (h : HP) (x0 : Nat) (x1 : Int) : Option ((HP) ⊕ (HP)) :=
  if zI 0 < zI x1 then
  gd (pK h x0 = 1) (Option.bind (pP h x0 5) (fun a1 =>
  Option.bind (lLen h a1) (fun y2 =>
  if zI x1 < zI y2 then
  gd (pK h x0 = 1) (gd (pK h x0 = 1) (Option.bind (pP h x0 5) (fun a3 =>
  Option.bind (lLen h a3) (fun y4 =>
  Option.bind (lDel h a3 (y4 - 1)) (fun y5 =>
  gd (pK y5.1 y5.2 = 2) (gd (pK y5.1 y5.2 = 2) (bnd (wI y5.1 y5.2 6 0) (fun h6 =>
  some (.inl (h6))))))))))
  else
  some (.inr h))))
  else
  some (.inr h)
noncomputable def f_X0_closeTo_0 (h : HP) (x0 : Nat) (x1 : Int) : Option (HP) :=
  iter (fun (z : HP) => f_X0_closeTo_0s z x0 x1) (h)
noncomputable def f_X0_closeTo (h : HP) (x0 : Nat) (x1 : Int) : Option (HP) :=
  f_X0_closeTo_0 h x0 x1
noncomputable def f_X2_block (h : HP) (x0 : Nat) : Option (Int) :=
  gd (pK h x0 = 2) (gd (9 < 11) (Option.bind (f_J6_indexOf h 9 (pI h x0 2)) (fun y1 =>
  if zI y1 < zI 0 then
  some 0
  else
  some 1)))
noncomputable def f_X0_move_213 (h : HP) (x4 : Nat) (x5 : Nat) : Option (HP) :=
  gd (pK h x5 = 2) (Option.bind (pP h x5 4) (fun a1 =>
  Option.bind (lClr h a1) (fun y2 =>
  gd (pK y2 x5 = 2) (Option.bind (f_X2_put y2 x5 0 x4) (fun y3 =>
  some y3)))))
noncomputable def f_X0_move_174s (h : HP) (x4 : Nat) (x5 : Nat) (x6 : Int) : Option ((HP × Int) ⊕ (HP)) :=
  gd (pK h x5 = 2) (Option.bind (pP h x5 4) (fun a1 =>
  Option.bind (lLen h a1) (fun y2 =>
  if zI x6 < zI y2 then
  gd (pK h x5 = 2) (Option.bind (pP h x5 4) (fun a3 =>
  Option.bind (lGet h a3 x6) (fun y4 =>
  gd (isN (pK h y4)) (gd (pK h x4 = 2) (Option.bind (f_X2_put h x4 x6 y4) (fun y5 =>
  some (.inl (y5, x6 + 1))))))))
  else
  mr (f_X0_move_213 h x4 x5))))
noncomputable def f_X0_move_174 (h : HP) (x4 : Nat) (x5 : Nat) (x6 : Int) : Option (HP) :=
  iter (fun (z : HP × Int) => f_X0_move_174s z.1 x4 x5 z.2) (h, x6)
noncomputable def f_X0_move_171 (h : HP) (x4 : Nat) (x5 : Nat) : Option (HP) :=
  f_X0_move_174 h x4 x5 0
noncomputable def f_X0_move_117s (h : HP) (x0 : Nat) (x4 : Nat) (x5 : Nat) (x6 : Int) : Option ((HP × Int) ⊕ (HP)) :=
  gd (pK h x0 = 1) (Option.bind (pP h x0 6) (fun a1 =>
  Option.bind (lLen h a1) (fun y2 =>
  if zI x6 < zI y2 then
  gd (pK h x0 = 1) (gd (pK h x0 = 1) (Option.bind (pP h x0 6) (fun a3 =>
  Option.bind (lGet h a3 x6) (fun y4 =>
  gd (pK h y4 = 2) (Option.bind (pP h x0 5) (fun a5 =>
  Option.bind (lAdd h a5 y4) (fun y6 =>
  gd (pK y6.1 x0 = 1) (Option.bind (pP y6.1 x0 6) (fun a7 =>
  Option.bind (lGet y6.1 a7 x6) (fun y8 =>
  gd (pK y6.1 y8 = 2) (gd (pK y6.1 y8 = 2) (bnd (wI y6.1 y8 6 1) (fun h9 =>
  some (.inl (h9, x6 + 1)))))))))))))))
  else
  mr (f_X0_move_171 h x4 x5))))
noncomputable def f_X0_move_117 (h : HP) (x0 : Nat) (x4 : Nat) (x5 : Nat) (x6 : Int) : Option (HP) :=
  iter (fun (z : HP × Int) => f_X0_move_117s z.1 x0 x4 x5 z.2) (h, x6)
noncomputable def f_X0_move_81 (h : HP) (x0 : Nat) (x2 : Int) (x4 : Nat) (x5 : Nat) : Option (HP) :=
  gd (pK h x0 = 1) (Option.bind (f_X0_closeTo h x0 x2) (fun y1 =>
  gd (pK y1 x5 = 2) (Option.bind (pP y1 x5 0) (fun a2 =>
  gd (pK y1 a2 = 2) (gd (pK y1 x5 = 2) (Option.bind (pP y1 x5 0) (fun a3 =>
  gd (pK y1 a3 = 2) (Option.bind (f_X2_index y1 a3 x5) (fun y4 =>
  Option.bind (pP y1 a2 4) (fun a5 =>
  Option.bind (lDel y1 a5 y4) (fun y6 =>
  gd (pK y6.1 x0 = 1) (Option.bind (f_X0_insert y6.1 x0 x5) (fun y7 =>
  f_X0_move_117 y7 x0 x4 x5 0)))))))))))))
noncomputable def f_X0_move_43s (h : HP) (x0 : Nat) (x2 : Int) (x4 : Nat) (x5 : Nat) (x6 : Int) : Option ((HP × Int) ⊕ (HP)) :=
  gd (pK h x0 = 1) (Option.bind (pP h x0 5) (fun a1 =>
  Option.bind (lLen h a1) (fun y2 =>
  if zI x6 < zI y2 then
  gd (pK h x0 = 1) (gd (pK h x0 = 1) (Option.bind (pP h x0 5) (fun a3 =>
  Option.bind (lGet h a3 x6) (fun y4 =>
  gd (pK h y4 = 2) (Option.bind (pP h x0 6) (fun a5 =>
  Option.bind (lAdd h a5 y4) (fun y6 =>
  some (.inl (y6.1, x6 + 1)))))))))
  else
  mr (f_X0_move_81 h x0 x2 x4 x5))))
noncomputable def f_X0_move_43 (h : HP) (x0 : Nat) (x2 : Int) (x4 : Nat) (x5 : Nat) (x6 : Int) : Option (HP) :=
  iter (fun (z : HP × Int) => f_X0_move_43s z.1 x0 x2 x4 x5 z.2) (h, x6)
noncomputable def f_X0_move (h : HP) (x0 : Nat) (x1 : Nat) (x2 : Int) (x3 : Int) : Option (HP) :=
  gd (pK h x1 = 2) (gd (pK h x1 = 2) (gd (pK h x0 = 1) (Option.bind (f_X0_element h x0 (pI h x1 2) (pI h x1 3)) (fun y1 =>
  nl y1.2 (some y1.1) (fun a2 =>
  gd (pK y1.1 x0 = 1) (Option.bind (pP y1.1 x0 5) (fun a3 =>
  Option.bind (lGet y1.1 a3 x3) (fun y4 =>
  gd (pK y1.1 y4 = 2) (gd (pK y1.1 x0 = 1) (Option.bind (pP y1.1 x0 6) (fun a5 =>
  Option.bind (lClr y1.1 a5) (fun y6 =>
  f_X0_move_43 y6 x0 x2 a2 y4 x3))))))))))))
noncomputable def f_X0_adopt_168 (h : HP) (x0 : Nat) (x2 : Nat) (x3 : Int) (x4 : Nat) (x5 : Int) (x6 : Int) (x7 : Int) : Option (HP × Int) :=
  if zI x7 = zI 0 then
  Option.bind (lDel h x2 x3) (fun y1 =>
  if zI x6 = zI 0 then
  gd (pK y1.1 x0 = 1) (Option.bind (f_X0_closeTo y1.1 x0 x5) (fun y2 =>
  some (y2, 1)))
  else
  gd (pK y1.1 x0 = 1) (Option.bind (f_X0_move y1.1 x0 x4 x5 x6) (fun y3 =>
  some (y3, 1))))
  else
  some (h, 1)
noncomputable def f_X0_adopt_160 (h : HP) (x0 : Nat) (x2 : Nat) (x3 : Int) (x4 : Nat) (x5 : Int) (x6 : Int) (x8 : Int) (t0 : Int) : Option ((Int × Int × Int × Int) ⊕ (HP × Int)) :=
  some (.inl (x5, x6, t0, x8 + 1))
noncomputable def f_X0_adopt_159 (h : HP) (x0 : Nat) (x2 : Nat) (x3 : Int) (x4 : Nat) (x5 : Int) (x6 : Int) (x8 : Int) : Option ((Int × Int × Int × Int) ⊕ (HP × Int)) :=
  f_X0_adopt_160 h x0 x2 x3 x4 x5 x6 x8 0
noncomputable def f_X0_adopt_155 (h : HP) (x0 : Nat) (x2 : Nat) (x3 : Int) (x4 : Nat) (x5 : Int) (x6 : Int) (x8 : Int) : Option ((Int × Int × Int × Int) ⊕ (HP × Int)) :=
  f_X0_adopt_160 h x0 x2 x3 x4 x5 x6 x8 1
noncomputable def f_X0_adopt_135 (h : HP) (x0 : Nat) (x2 : Nat) (x3 : Int) (x4 : Nat) (x5 : Int) (x6 : Int) (x7 : Int) (x8 : Int) (x9 : Nat) : Option ((Int × Int × Int × Int) ⊕ (HP × Int)) :=
  if zI x7 = zI 0 then
  if zI 0 < zI x5 then
  gd (pK h x9 = 2) (Option.bind (f_X2_is h x9 116) (fun y1 =>
  if zI y1 = zI 0 then
  f_X0_adopt_159 h x0 x2 x3 x4 x5 x6 x8
  else
  f_X0_adopt_155 h x0 x2 x3 x4 x5 x6 x8))
  else
  f_X0_adopt_159 h x0 x2 x3 x4 x5 x6 x8
  else
  f_X0_adopt_155 h x0 x2 x3 x4 x5 x6 x8
noncomputable def f_X0_adopt_65s (h : HP) (x0 : Nat) (x2 : Nat) (x3 : Int) (x4 : Nat) (x5 : Int) (x6 : Int) (x7 : Int) (x8 : Int) : Option ((Int × Int × Int × Int) ⊕ (HP × Int)) :=
  gd (pK h x0 = 1) (Option.bind (pP h x0 5) (fun a1 =>
  Option.bind (lLen h a1) (fun y2 =>
  if zI x8 < zI y2 then
  gd (pK h x4 = 2) (if zI (pI h x4 6) = zI 0 then
  mr (f_X0_adopt_168 h x0 x2 x3 x4 x5 x6 x7)
  else
  gd (pK h x0 = 1) (Option.bind (pP h x0 5) (fun a3 =>
  Option.bind (lGet h a3 x8) (fun y4 =>
  gd (pK h y4 = 2) (if some y4 = some x4 then
  f_X0_adopt_135 h x0 x2 x3 x4 x8 x6 x7 x8 y4
  else
  if zI 0 < zI x5 then
  if zI x6 = zI 0 then
  gd (pK h y4 = 2) (Option.bind (f_X2_block h y4) (fun y5 =>
  if zI y5 = zI 0 then
  f_X0_adopt_135 h x0 x2 x3 x4 x5 x6 x7 x8 y4
  else
  f_X0_adopt_135 h x0 x2 x3 x4 x5 x8 x7 x8 y4))
  else
  f_X0_adopt_135 h x0 x2 x3 x4 x5 x6 x7 x8 y4
  else
  f_X0_adopt_135 h x0 x2 x3 x4 x5 x6 x7 x8 y4)))))
  else
  mr (f_X0_adopt_168 h x0 x2 x3 x4 x5 x6 x7))))
noncomputable def f_X0_adopt_65 (h : HP) (x0 : Nat) (x2 : Nat) (x3 : Int) (x4 : Nat) (x5 : Int) (x6 : Int) (x7 : Int) (x8 : Int) : Option (HP × Int) :=
  iter (fun (z : Int × Int × Int × Int) => f_X0_adopt_65s h x0 x2 x3 x4 z.1 z.2.1 z.2.2.1 z.2.2.2) (x5, x6, x7, x8)
noncomputable def f_X0_adopt_37 (h : HP) (x0 : Nat) (x2 : Nat) (x3 : Int) : Option (HP × Int) :=
  if zI x3 < zI 0 then
  some (h, 0)
  else
  Option.bind (lGet h x2 x3) (fun y1 =>
  gd (pK h y1 = 2) (f_X0_adopt_65 h x0 x2 x3 y1 0 0 0 1))
noncomputable def f_X0_adopt_12s (h : HP) (x0 : Nat) (x1 : Int) (x2 : Nat) (x3 : Int) : Option ((Int) ⊕ (HP × Int)) :=
  if zI x3 < zI 0 then
  mr (f_X0_adopt_37 h x0 x2 x3)
  else
  Option.bind (lGet h x2 x3) (fun y1 =>
  gd (pK h y1 = 2) (gd (pK h y1 = 2) (Option.bind (f_X2_is h y1 x1) (fun y2 =>
  if zI y2 = zI 0 then
  some (.inl (x3 + (-1)))
  else
  mr (f_X0_adopt_37 h x0 x2 x3)))))
noncomputable def f_X0_adopt_12 (h : HP) (x0 : Nat) (x1 : Int) (x2 : Nat) (x3 : Int) : Option (HP × Int) :=
  iter (fun (z : Int) => f_X0_adopt_12s h x0 x1 x2 z) (x3)
noncomputable def f_X0_adopt (h : HP) (x0 : Nat) (x1 : Int) : Option (HP × Int) :=
  gd (pK h x0 = 1) (Option.bind (f_X0_list h x0) (fun y1 =>
  Option.bind y1 (fun a2 =>
  Option.bind (lLen h a2) (fun y3 =>
  bnd (y3 - 1) (fun y4 =>
  f_X0_adopt_12 h x0 x1 a2 y4)))))
noncomputable def f_X0_end_122 (h : HP) (x0 : Nat) (t0 : Option Nat) : Option (HP) :=
  nl t0 (some h) (fun a1 =>
  gd (pK h x0 = 1) (Option.bind (f_X0_insert h x0 a1) (fun y2 =>
  some y2)))
noncomputable def f_X0_end_234 (h : HP) (x0 : Nat) (x1 : Int) : Option (HP) :=
  gd (pK h x0 = 1) (Option.bind (f_X0_reach h x0 x1 5) (fun y1 =>
  gd (pK h x0 = 1) (Option.bind (f_X0_closeTo h x0 y1) (fun y2 =>
  some y2))))
noncomputable def f_X0_end (h : HP) (x0 : Nat) (x1 : Int) : Option (HP) :=
  if zI x1 = zI 99 then
  gd (pK h x0 = 1) (Option.bind (f_X0_reach h x0 99 3) (fun y1 =>
  gd (pK h x0 = 1) (Option.bind (f_X0_closeTo h x0 y1) (fun y2 =>
  some y2))))
  else
  if zI x1 = zI 100 then
  gd (pK h x0 = 1) (Option.bind (f_X0_reach h x0 x1 1) (fun y3 =>
  gd (pK h x0 = 1) (Option.bind (f_X0_closeTo h x0 y3) (fun y4 =>
  some y4))))
  else
  if zI x1 = zI 104 then
  some h
  else
  if zI x1 = zI 107 then
  some h
  else
  if zI x1 = zI 108 then
  gd (pK h x0 = 1) (Option.bind (f_X0_reach h x0 108 2) (fun y5 =>
  gd (pK h x0 = 1) (Option.bind (f_X0_closeTo h x0 y5) (fun y6 =>
  some y6))))
  else
  if zI x1 = zI 112 then
  gd (pK h x0 = 1) (Option.bind (f_X0_reach h x0 112 1) (fun y7 =>
  gd (pK h x0 = 1) (Option.bind (f_X0_closeTo h x0 y7) (fun y8 =>
  if zI 0 < zI y7 then
  f_X0_end_122 y8 x0 none
  else
  gd (pK y8 x0 = 1) (Option.bind (f_X0_element y8 x0 112 0) (fun y9 =>
  f_X0_end_122 y9.1 x0 y9.2))))))
  else
  if zI x1 = zI 114 then
  gd (pK h x0 = 1) (Option.bind (f_X0_reach h x0 114 3) (fun y10 =>
  gd (pK h x0 = 1) (Option.bind (f_X0_closeTo h x0 y10) (fun y11 =>
  some y11))))
  else
  if zI x1 = zI 116 then
  gd (pK h x0 = 1) (Option.bind (f_X0_reach h x0 116 0) (fun y12 =>
  gd (pK h x0 = 1) (Option.bind (f_X0_closeTo h x0 y12) (fun y13 =>
  some y13))))
  else
  if zI x1 = zI 117 then
  gd (pK h x0 = 1) (Option.bind (f_X0_reach h x0 x1 1) (fun y14 =>
  gd (pK h x0 = 1) (Option.bind (f_X0_closeTo h x0 y14) (fun y15 =>
  some y15))))
  else
  gd (4 < 11) (Option.bind (f_J6_indexOf h 4 x1) (fun y16 =>
  if zI y16 < zI 0 then
  f_X0_end_234 h x0 x1
  else
  gd (pK h x0 = 1) (Option.bind (f_X0_adopt h x0 x1) (fun y17 =>
  if zI y17.2 = zI 0 then
  f_X0_end_234 y17.1 x0 x1
  else
  some y17.1))))
noncomputable def f_X0_ready_52 (h : HP) (x0 : Nat) (x1 : Int) (x3 : Int) : Option (HP × Int) :=
  if zI x1 = zI 114 then
  some (h, 1)
  else
  if zI 0 < zI x3 then
  some (h, 1)
  else
  gd (pK h x0 = 1) (Option.bind (f_X0_element h x0 114 0) (fun y1 =>
  nl y1.2 (some (y1.1, 0)) (fun a2 =>
  gd (pK y1.1 x0 = 1) (Option.bind (f_X0_top y1.1 x0) (fun y3 =>
  gd (pK y1.1 x0 = 1) (Option.bind (f_X0_top y1.1 x0) (fun y4 =>
  gd (pK y1.1 y4 = 2) (Option.bind (pP y1.1 y4 4) (fun a5 =>
  Option.bind (lLen y1.1 a5) (fun y6 =>
  gd (pK y1.1 y3 = 2) (Option.bind (f_X2_put y1.1 y3 y6 a2) (fun y7 =>
  gd (pK y7 x0 = 1) (Option.bind (f_X0_enter y7 x0 a2) (fun y8 =>
  some (y8, 1)))))))))))))))
noncomputable def f_X0_ready_35 (h : HP) (x0 : Nat) (x1 : Int) (x2 : Int) (x3 : Int) : Option (HP × Int) :=
  gd (pK h x0 = 1) (Option.bind (f_X0_closeTo h x0 (x2 + 1)) (fun y1 =>
  f_X0_ready_52 y1 x0 x1 x3))
noncomputable def f_X0_ready (h : HP) (x0 : Nat) (x1 : Int) : Option (HP × Int) :=
  gd (pK h x0 = 1) (Option.bind (f_X0_reach h x0 116 0) (fun y1 =>
  if zI y1 = zI 0 then
  some (h, 0)
  else
  gd (pK h x0 = 1) (Option.bind (f_X0_reach h x0 114 3) (fun y2 =>
  if zI x1 = zI 114 then
  f_X0_ready_35 h x0 x1 y1 y2
  else
  if zI y2 = zI 0 then
  f_X0_ready_35 h x0 x1 y1 y2
  else
  gd (pK h x0 = 1) (Option.bind (f_X0_closeTo h x0 (y2 + 1)) (fun y3 =>
  f_X0_ready_52 y3 x0 x1 y2))))))
noncomputable def f_X2_formatting (h : HP) (x0 : Nat) : Option (Int) :=
  gd (pK h x0 = 2) (gd (10 < 11) (Option.bind (f_J6_indexOf h 10 (pI h x0 2)) (fun y1 =>
  if zI y1 < zI 0 then
  some 0
  else
  some 1)))
noncomputable def f_X0_start_204 (h : HP) (x4 : Nat) (x5 : Nat) : Option (HP) :=
  Option.bind (lAdd h x5 x4) (fun y1 =>
  some y1.1)
noncomputable def f_X0_start_155 (h : HP) (x0 : Nat) (x1 : Int) (x4 : Nat) : Option (HP) :=
  if zI x1 = zI 104 then
  some h
  else
  if zI x1 = zI 107 then
  some h
  else
  gd (pK h x0 = 1) (Option.bind (f_X0_enter h x0 x4) (fun y1 =>
  gd (pK y1 x4 = 2) (Option.bind (f_X2_formatting y1 x4) (fun y2 =>
  if zI y2 = zI 0 then
  some y1
  else
  gd (pK y1 x0 = 1) (Option.bind (f_X0_list y1 x0) (fun y3 =>
  Option.bind y3 (fun a4 =>
  Option.bind (lLen y1 a4) (fun y5 =>
  if zI y5 = zI 4 then
  Option.bind (lDel y1 a4 0) (fun y6 =>
  f_X0_start_204 y6.1 x4 a4)
  else
  f_X0_start_204 y1 x4 a4))))))))
noncomputable def f_X0_start_115 (h : HP) (x0 : Nat) (x1 : Int) (x3 : Int) (t0 : Option Nat) : Option (HP) :=
  nl t0 (some h) (fun a1 =>
  if zI x3 = zI 0 then
  gd (pK h x0 = 1) (Option.bind (f_X0_insert h x0 a1) (fun y2 =>
  f_X0_start_155 y2 x0 x1 a1))
  else
  gd (pK h x0 = 1) (Option.bind (f_X0_top h x0) (fun y3 =>
  gd (pK h x0 = 1) (Option.bind (f_X0_top h x0) (fun y4 =>
  gd (pK h y4 = 2) (Option.bind (pP h y4 4) (fun a5 =>
  Option.bind (lLen h a5) (fun y6 =>
  gd (pK h y3 = 2) (Option.bind (f_X2_put h y3 y6 a1) (fun y7 =>
  f_X0_start_155 y7 x0 x1 a1))))))))))
noncomputable def f_X0_start_95 (h : HP) (x0 : Nat) (x1 : Int) (x3 : Int) : Option (HP) :=
  gd (pK h x0 = 1) (if zI (pI h x0 7) = zI 0 then
  gd (pK h x0 = 1) (gd (pK h x0 = 1) (Option.bind (f_X0_element h x0 x1 (pI h x0 11)) (fun y1 =>
  f_X0_start_115 y1.1 x0 x1 x3 y1.2)))
  else
  f_X0_start_115 h x0 x1 x3 none)
noncomputable def f_X0_start_83 (h : HP) (x0 : Nat) (x1 : Int) (x2 : Int) (x3 : Int) : Option (HP) :=
  if zI x2 = zI 0 then
  if zI x3 = zI 0 then
  gd (pK h x0 = 1) (Option.bind (f_X0_renew h x0) (fun y1 =>
  f_X0_start_95 y1 x0 x1 x3))
  else
  f_X0_start_95 h x0 x1 x3
  else
  f_X0_start_95 h x0 x1 x3
noncomputable def f_X0_start_70 (h : HP) (x0 : Nat) (x1 : Int) (x2 : Int) (x3 : Int) : Option (HP) :=
  if zI x3 = zI 0 then
  f_X0_start_83 h x0 x1 x2 x3
  else
  gd (pK h x0 = 1) (Option.bind (f_X0_ready h x0 x1) (fun y1 =>
  if zI y1.2 = zI 0 then
  some y1.1
  else
  f_X0_start_83 y1.1 x0 x1 x2 x3))
noncomputable def f_X0_start_51 (h : HP) (x0 : Nat) (x1 : Int) (x2 : Int) (x3 : Int) : Option (HP) :=
  if zI x1 = zI 108 then
  gd (pK h x0 = 1) (Option.bind (f_X0_reach h x0 108 2) (fun y1 =>
  gd (pK h x0 = 1) (Option.bind (f_X0_closeTo h x0 y1) (fun y2 =>
  f_X0_start_70 y2 x0 x1 x2 x3))))
  else
  f_X0_start_70 h x0 x1 x2 x3
noncomputable def f_X0_start_33 (h : HP) (x0 : Nat) (x1 : Int) (x2 : Int) (t0 : Int) : Option (HP) :=
  if zI x2 = zI 0 then
  f_X0_start_51 h x0 x1 x2 t0
  else
  gd (pK h x0 = 1) (Option.bind (f_X0_reach h x0 112 1) (fun y1 =>
  gd (pK h x0 = 1) (Option.bind (f_X0_closeTo h x0 y1) (fun y2 =>
  f_X0_start_51 y2 x0 x1 x2 t0))))
noncomputable def f_X0_start_28 (h : HP) (x0 : Nat) (x1 : Int) (x2 : Int) : Option (HP) :=
  f_X0_start_33 h x0 x1 x2 1
noncomputable def f_X0_start_15 (h : HP) (x0 : Nat) (x1 : Int) (t0 : Int) : Option (HP) :=
  if zI x1 = zI 114 then
  f_X0_start_28 h x0 x1 t0
  else
  if zI x1 = zI 99 then
  f_X0_start_28 h x0 x1 t0
  else
  f_X0_start_33 h x0 x1 t0 0
noncomputable def f_X0_start (h : HP) (x0 : Nat) (x1 : Int) : Option (HP) :=
  gd (6 < 11) (Option.bind (f_J6_indexOf h 6 x1) (fun y1 =>
  if zI y1 < zI 0 then
  f_X0_start_15 h x0 x1 0
  else
  f_X0_start_15 h x0 x1 1))
noncomputable def f_X0_inTag_44 (h : HP) (x0 : Nat) (t0 : Int) : Option (HP) :=
  gd (pK h x0 = 1) (bnd (wI h x0 8 0) (fun h1 =>
  if zI t0 = zI 0 then
  gd (pK h1 x0 = 1) (gd (pK h1 x0 = 1) (Option.bind (f_X0_start h1 x0 (pI h1 x0 10)) (fun y2 =>
  some y2)))
  else
  gd (pK h1 x0 = 1) (gd (pK h1 x0 = 1) (Option.bind (f_X0_end h1 x0 (pI h1 x0 10)) (fun y3 =>
  some y3)))))
noncomputable def f_X0_inTag_22 (h : HP) (x0 : Nat) (x1 : Int) : Option (HP) :=
  if zI x1 = zI 62 then
  gd (pK h x0 = 1) (gd (zst (pI h x0 8)) (gd (zst (pI h x0 8)) (if (pI h x0 8) = 4 then
  f_X0_inTag_44 h x0 1
  else
  f_X0_inTag_44 h x0 0)))
  else
  some h
noncomputable def f_X0_inTag (h : HP) (x0 : Nat) (x1 : Int) : Option (HP) :=
  Option.bind (f_X0_capital h x1) (fun y1 =>
  if zI y1 = zI 0 then
  f_X0_inTag_22 h x0 x1
  else
  gd (pK h x0 = 1) (gd (pK h x0 = 1) (bnd (wI h x0 11 (zor (pI h x0 11) (zshl 1 (x1 - 65)))) (fun h2 =>
  f_X0_inTag_22 h2 x0 x1))))
noncomputable def f_X0_and_18 (h : HP) (x0 : Nat) (x1 : Int) : Option (HP) :=
  gd (pK h x0 = 1) (gd (zisC x1) (bnd (wI h x0 10 x1) (fun h1 =>
  gd (pK h1 x0 = 1) (bnd (wI h1 x0 8 7) (fun h2 =>
  some h2)))))
noncomputable def f_X0_and (h : HP) (x0 : Nat) (x1 : Int) : Option (HP) :=
  if zI x1 = zI 108 then
  f_X0_and_18 h x0 x1
  else
  if zI x1 = zI 103 then
  f_X0_and_18 h x0 x1
  else
  if zI x1 = zI 97 then
  f_X0_and_18 h x0 x1
  else
  gd (pK h x0 = 1) (Option.bind (f_X0_character h x0 38) (fun y1 =>
  gd (pK y1 x0 = 1) (Option.bind (f_X0_plain y1 x0 x1) (fun y2 =>
  some y2))))
noncomputable def f_X0_html_265 (h : HP) (x0 : Nat) : Option (HP × Int) :=
  gd (pK h x0 = 1) (if zI (pI h x0 7) = zI 0 then
  some (h, 1)
  else
  some (h, 0))
noncomputable def f_X0_html_151 (h : HP) (x0 : Nat) (t0 : Int) (t1 : Nat) : Option (HP × Int) :=
  gd (pK h t1 = 1) (gd (zst t0) (bnd (wI h t1 8 t0) (fun h1 =>
  f_X0_html_265 h1 x0)))
noncomputable def f_X0_html_182 (h : HP) (x0 : Nat) (t0 : Int) (t1 : Nat) : Option (HP × Int) :=
  gd (pK h t1 = 1) (gd (zst t0) (bnd (wI h t1 8 t0) (fun h1 =>
  f_X0_html_265 h1 x0)))
noncomputable def f_X0_html_240 (h : HP) (x0 : Nat) (t0 : Int) (t1 : Nat) : Option (HP × Int) :=
  gd (pK h t1 = 1) (Option.bind (f_X0_character h t1 t0) (fun y1 =>
  f_X0_html_265 y1 x0))
noncomputable def f_X0_html (h : HP) (x0 : Nat) (x1 : Int) : Option (HP × Int) :=
  if zI x1 < zI 32 then
  some (h, 0)
  else
  if zI 126 < zI x1 then
  some (h, 0)
  else
  gd (pK h x0 = 1) (if zI (pI h x0 9) = zI 160 then
  some (h, 0)
  else
  gd (pK h x0 = 1) (if zI (pI h x0 7) = zI 0 then
  gd (pK h x0 = 1) (gd (pK h x0 = 1) (bnd (wI h x0 9 ((pI h x0 9) + 1)) (fun h1 =>
  gd (pK h1 x0 = 1) (Option.bind (f_X0_changed h1 x0) (fun y2 =>
  gd (pK y2 x0 = 1) (gd (zst (pI y2 x0 8)) (gd (zst (pI y2 x0 8)) (if zI (pI y2 x0 8) = zI 0 then
  gd (pK y2 x0 = 1) (Option.bind (f_X0_plain y2 x0 x1) (fun y3 =>
  f_X0_html_265 y3 x0))
  else
  if zI (pI y2 x0 8) = zI 1 then
  gd (pK y2 x0 = 1) (Option.bind (f_X0_less y2 x0 x1) (fun y4 =>
  f_X0_html_265 y4 x0))
  else
  if zI (pI y2 x0 8) = zI 2 then
  gd (pK y2 x0 = 1) (gd (zisC x1) (bnd (wI y2 x0 10 x1) (fun h5 =>
  gd (pK h5 x0 = 1) (bnd (wI h5 x0 11 0) (fun h6 =>
  Option.bind (f_X0_small h6 x1) (fun y7 =>
  if zI y7 = zI 0 then
  if zI x1 = zI 62 then
  f_X0_html_151 h6 x0 0 x0
  else
  f_X0_html_151 h6 x0 5 x0
  else
  f_X0_html_151 h6 x0 4 x0))))))
  else
  if zI (pI y2 x0 8) = zI 3 then
  gd (pK y2 x0 = 1) (Option.bind (f_X0_inTag y2 x0 x1) (fun y8 =>
  f_X0_html_265 y8 x0))
  else
  if zI (pI y2 x0 8) = zI 4 then
  gd (pK y2 x0 = 1) (Option.bind (f_X0_inTag y2 x0 x1) (fun y9 =>
  f_X0_html_265 y9 x0))
  else
  if zI (pI y2 x0 8) = zI 5 then
  if zI x1 = zI 62 then
  f_X0_html_182 y2 x0 0 x0
  else
  gd (pK y2 x0 = 1) (gd (zst (pI y2 x0 8)) (f_X0_html_182 y2 x0 (pI y2 x0 8) x0))
  else
  if zI (pI y2 x0 8) = zI 6 then
  gd (pK y2 x0 = 1) (Option.bind (f_X0_and y2 x0 x1) (fun y10 =>
  f_X0_html_265 y10 x0))
  else
  gd (pK y2 x0 = 1) (bnd (wI y2 x0 8 0) (fun h11 =>
  if zI x1 = zI 59 then
  gd (pK h11 x0 = 1) (if zI (pI h11 x0 10) = zI 108 then
  f_X0_html_240 h11 x0 60 x0
  else
  gd (pK h11 x0 = 1) (if zI (pI h11 x0 10) = zI 103 then
  f_X0_html_240 h11 x0 62 x0
  else
  f_X0_html_240 h11 x0 38 x0))
  else
  gd (pK h11 x0 = 1) (Option.bind (f_X0_character h11 x0 38) (fun y12 =>
  gd (pK y12 x0 = 1) (gd (pK y12 x0 = 1) (Option.bind (f_X0_character y12 x0 (pI y12 x0 10)) (fun y13 =>
  gd (pK y13 x0 = 1) (Option.bind (f_X0_plain y13 x0 x1) (fun y14 =>
  f_X0_html_265 y14 x0)))))))))))))))))
  else
  some (h, 0)))
noncomputable def f_J6_checkIndex (h : HP) (x0 : Int) (x1 : Int) : Option (Unit) :=
  Option.bind (f_J12_checkIndex x0 x1) (fun y1 =>
  some ())
noncomputable def f_J4_charAt (h : HP) (x0 : Nat) (x1 : Int) : Option (Int) :=
  gd (isSr (pK h x0)) (bnd (pI h x0 1) (fun y1 =>
  gd (isSr (pK h x0)) (bnd (pP h x0 0) (fun y2 =>
  gd (isSr (pK h x0)) (Option.bind y2 (fun a3 =>
  gd (isAr (pK h a3)) (bnd (zmin (pI h x0 3) (zshr (pN h a3 : Int) y1)) (fun y4 =>
  Option.bind (f_J6_checkIndex h x1 y4) (fun y5 =>
  if zI y1 = zI 0 then
  gd (pK h a3 = 51) (gd (zin x1 (pN h a3)) (gd (zisC (zi2c (zand (pI h a3 (zix x1)) 255))) (some (zi2c (zand (pI h a3 (zix x1)) 255)))))
  else
  none)))))))))
noncomputable def f_J5_charAt (h : HP) (x0 : Nat) (x1 : Int) : Option (Int) :=
  Option.bind (f_J4_charAt h x0 x1) (fun y1 =>
  gd (isS (pK h x0)) (gd (zisC y1) (some y1)))
noncomputable def f_X0_afterBlanks_2s (h : HP) (x0 : Nat) (x2 : Int) : Option ((Int) ⊕ (Int)) :=
  Option.bind (sLen h x0) (fun y1 =>
  if zI x2 < zI y1 then
  Option.bind (sAt h x0 x2) (fun y2 =>
  if zI y2 = zI 32 then
  some (.inl (x2 + 1))
  else
  some (.inr x2))
  else
  some (.inr x2))
noncomputable def f_X0_afterBlanks_2 (h : HP) (x0 : Nat) (x2 : Int) : Option (Int) :=
  iter (fun (z : Int) => f_X0_afterBlanks_2s h x0 z) (x2)
noncomputable def f_X0_afterBlanks (h : HP) (x0 : Nat) (x1 : Int) : Option (Int) :=
  f_X0_afterBlanks_2 h x0 x1
noncomputable def f_J15_init (h : HP) (x0 : Nat) : Option (Unit) :=
  some ()
noncomputable def f_X7_init (h : HP) (x0 : Nat) (x1 : Int) (x2 : Int) (x3 : Int) (x4 : Option Nat) : Option (HP) :=
  Option.bind (f_J15_init h x0) (fun y1 =>
  gd (pK h x0 = 6) (gd (zisC x1) (bnd (wI h x0 0 x1) (fun h2 =>
  gd (pK h2 x0 = 6) (bnd (wI h2 x0 1 x2) (fun h3 =>
  gd (pK h3 x0 = 6) (gd (zisB x3) (bnd (wI h3 x0 2 x3) (fun h4 =>
  gd (pK h4 x0 = 6) (bnd (wP h4 x0 3 x4) (fun h5 =>
  some h5)))))))))))
noncomputable def f_X0_read_193 (h : HP) (x0 : Nat) (x1 : Nat) (x2 : Int) (x4 : Int) (t0 : Int) : Option ((HP × (Option Nat) × Int × Int × Int) ⊕ (HP × Option Nat)) :=
  some (.inl (h, some x1, x2, t0, x4 + 1))
noncomputable def f_X0_read_176 (h : HP) (x0 : Nat) (x1 : Nat) (x2 : Int) (x4 : Int) (x8 : Int) : Option ((HP × (Option Nat) × Int × Int × Int) ⊕ (HP × Option Nat)) :=
  if zI x2 = zI 0 then
  f_X0_read_193 h x0 x1 x2 x4 x8
  else
  Option.bind (f_X0_afterBlanks h x0 (x8 + 1)) (fun y1 =>
  f_X0_read_193 h x0 x1 x2 x4 y1)
noncomputable def f_X0_read_163 (h : HP) (x0 : Nat) (x1 : Nat) (x3 : Int) (x4 : Int) (x8 : Int) (t0 : Int) : Option ((HP × (Option Nat) × Int × Int × Int) ⊕ (HP × Option Nat)) :=
  if zI t0 = zI 0 then
  if zI x8 = zI x3 then
  some (.inr (h, none))
  else
  f_X0_read_176 h x0 x1 t0 x4 x8
  else
  f_X0_read_176 h x0 x1 t0 x4 x8
noncomputable def f_X0_read_107 (h : HP) (x0 : Nat) (x1 : Option Nat) (x2 : Int) (x3 : Int) (x4 : Int) (x5 : Int) (x6 : Int) (x7 : Int) : Option ((HP × (Option Nat) × Int × Int × Int) ⊕ (HP × Option Nat)) :=
  if zI x3 = zI x5 then
  some (.inr (h, none))
  else
  bnd (pX h) (fun a1 =>
  gd (rm1 h 4) (bnd (wNew h 6 4) (fun h2 =>
  Option.bind (f_X7_init h2 a1 x6 x7 x2 x1) (fun y3 =>
  Option.bind (f_X0_afterBlanks y3 x0 x3) (fun y4 =>
  Option.bind (sLen y3 x0) (fun y5 =>
  if zI y4 = zI y5 then
  some (.inr (y3, some a1))
  else
  Option.bind (sAt y3 x0 y4) (fun y6 =>
  if zI y6 = zI 62 then
  f_X0_read_163 y3 x0 a1 x3 x4 y4 1
  else
  f_X0_read_163 y3 x0 a1 x3 x4 y4 0)))))))
noncomputable def f_X0_read_67s (h : HP) (x0 : Nat) (x1 : Option Nat) (x2 : Int) (x3 : Int) (x4 : Int) (x5 : Int) (x6 : Int) (x7 : Int) : Option ((Int × Int) ⊕ ((HP × (Option Nat) × Int × Int × Int) ⊕ (HP × Option Nat))) :=
  Option.bind (sLen h x0) (fun y1 =>
  if zI x3 < zI y1 then
  Option.bind (sAt h x0 x3) (fun y2 =>
  Option.bind (f_X0_capital h y2) (fun y3 =>
  if zI y3 = zI 0 then
  mr (f_X0_read_107 h x0 x1 x2 x3 x4 x5 x6 x7)
  else
  Option.bind (sAt h x0 x3) (fun y4 =>
  bnd (zor x7 (zshl 1 (y4 - 65))) (fun y5 =>
  some (.inl (x3 + 1, y5))))))
  else
  mr (f_X0_read_107 h x0 x1 x2 x3 x4 x5 x6 x7))
noncomputable def f_X0_read_67 (h : HP) (x0 : Nat) (x1 : Option Nat) (x2 : Int) (x3 : Int) (x4 : Int) (x5 : Int) (x6 : Int) (x7 : Int) : Option ((HP × (Option Nat) × Int × Int × Int) ⊕ (HP × Option Nat)) :=
  iter (fun (z : Int × Int) => f_X0_read_67s h x0 x1 x2 z.1 x4 x5 x6 z.2) (x3, x7)
noncomputable def f_X0_read_64 (h : HP) (x0 : Nat) (x1 : Option Nat) (x2 : Int) (x3 : Int) (x4 : Int) (x5 : Int) (x6 : Int) : Option ((HP × (Option Nat) × Int × Int × Int) ⊕ (HP × Option Nat)) :=
  f_X0_read_67 h x0 x1 x2 x3 x4 x5 x6 0
noncomputable def f_X0_read_54 (h : HP) (x0 : Nat) (x1 : Option Nat) (x2 : Int) (x3 : Int) (x4 : Int) (x5 : Int) : Option ((HP × (Option Nat) × Int × Int × Int) ⊕ (HP × Option Nat)) :=
  Option.bind (sAt h x0 x3) (fun y1 =>
  f_X0_read_64 h x0 x1 x2 (x3 + 1) x4 x5 y1)
noncomputable def f_X0_read_13s (h : HP) (x0 : Nat) (x1 : Option Nat) (x2 : Int) (x3 : Int) (x4 : Int) : Option ((HP × (Option Nat) × Int × Int × Int) ⊕ (HP × Option Nat)) :=
  if zI x4 < zI 4 then
  Option.bind (sLen h x0) (fun y1 =>
  if zI x3 < zI y1 then
  Option.bind (sAt h x0 x3) (fun y2 =>
  Option.bind (f_X0_small h y2) (fun y3 =>
  if zI y3 = zI 0 then
  Option.bind (sAt h x0 x3) (fun y4 =>
  if zI y4 = zI 42 then
  f_X0_read_54 h x0 x1 x2 x3 x4 x3
  else
  f_X0_read_64 h x0 x1 x2 x3 x4 x3 0)
  else
  f_X0_read_54 h x0 x1 x2 x3 x4 x3))
  else
  f_X0_read_64 h x0 x1 x2 x3 x4 x3 0)
  else
  some (.inr (h, none))
noncomputable def f_X0_read_13 (h : HP) (x0 : Nat) (x1 : Option Nat) (x2 : Int) (x3 : Int) (x4 : Int) : Option (HP × Option Nat) :=
  iter (fun (z : HP × (Option Nat) × Int × Int × Int) => f_X0_read_13s z.1 x0 z.2.1 z.2.2.1 z.2.2.2.1 z.2.2.2.2) (h, x1, x2, x3, x4)
noncomputable def f_X0_read (h : HP) (x0 : Nat) : Option (HP × Option Nat) :=
  Option.bind (f_X0_afterBlanks h x0 0) (fun y1 =>
  f_X0_read_13 h x0 none 0 y1 0)
noncomputable def f_X8_init_32s (h : HP) (x0 : Nat) (x3 : Int) : Option ((HP × Int) ⊕ (HP)) :=
  if zI x3 < zI 7 then
  gd (pK h x0 = 7) (Option.bind (pP h x0 2) (fun a1 =>
  gd (isI (pK h a1)) (gd (zin x3 (pN h a1)) (bnd (wI h a1 (zix x3) (-2)) (fun h2 =>
  gd (pK h2 x0 = 7) (Option.bind (pP h2 x0 3) (fun a3 =>
  gd (isI (pK h2 a3)) (gd (zin x3 (pN h2 a3)) (bnd (wI h2 a3 (zix x3) (-2)) (fun h4 =>
  some (.inl (h4, x3 + 1))))))))))))
  else
  some (.inr h)
noncomputable def f_X8_init_32 (h : HP) (x0 : Nat) (x3 : Int) : Option (HP) :=
  iter (fun (z : HP × Int) => f_X8_init_32s z.1 x0 z.2) (h, x3)
noncomputable def f_X8_init (h : HP) (x0 : Nat) (x1 : Nat) (x2 : Int) : Option (HP) :=
  bnd (pX h) (fun a1 =>
  gd (rmA h 7) (bnd (wNew h 43 (zix 7)) (fun h2 =>
  gd (pK h2 x0 = 7) (bnd (wP h2 x0 2 (some a1)) (fun h3 =>
  bnd (pX h3) (fun a4 =>
  gd (rmA h3 7) (bnd (wNew h3 44 (zix 7)) (fun h5 =>
  gd (pK h5 x0 = 7) (bnd (wP h5 x0 3 (some a4)) (fun h6 =>
  gd (pK h6 x0 = 7) (bnd (wP h6 x0 0 (some x1)) (fun h7 =>
  gd (pK h7 x0 = 7) (bnd (wI h7 x0 1 x2) (fun h8 =>
  f_X8_init_32 h8 x0 0))))))))))))))
noncomputable def f_X8_set (h : HP) (x0 : Nat) (x1 : Int) (x2 : Int) (x3 : Int) : Option (HP) :=
  if zI x3 = zI 0 then
  gd (pK h x0 = 7) (Option.bind (pP h x0 2) (fun a1 =>
  gd (isI (pK h a1)) (gd (zin x1 (pN h a1)) (bnd (wI h a1 (zix x1) x2) (fun h2 =>
  some h2)))))
  else
  gd (pK h x0 = 7) (Option.bind (pP h x0 3) (fun a3 =>
  gd (isI (pK h a3)) (gd (zin x1 (pN h a3)) (bnd (wI h a3 (zix x1) x2) (fun h4 =>
  some h4)))))
noncomputable def f_X0_declare_178 (h : HP) (x0 : Nat) (x1 : Nat) (x2 : Int) (x3 : Int) (x4 : Int) (x6 : Int) (t0 : Int) : Option ((Int × Int) ⊕ (HP)) :=
  some (.inl (t0, x6 + 1))
noncomputable def f_X0_declare_156 (h : HP) (x0 : Nat) (x1 : Nat) (x2 : Int) (x3 : Int) (x4 : Int) (x5 : Int) (x6 : Int) (x7 : Int) : Option ((Int × Int) ⊕ (HP)) :=
  if zI x4 = zI 3 then
  f_X0_declare_178 h x0 x1 x2 x3 x4 x6 x7
  else
  f_X0_declare_178 h x0 x1 x2 x3 x4 x6 (((10 * x5) + x7) - 48)
noncomputable def f_X0_declare_197 (h : HP) (x0 : Nat) (x2 : Int) (x4 : Int) (x5 : Int) : Option (HP) :=
  gd (pK h x0 = 7) (Option.bind (f_X8_set h x0 x4 x5 x2) (fun y1 =>
  some y1))
noncomputable def f_X0_declare_186 (h : HP) (x0 : Nat) (x2 : Int) (x4 : Int) (x5 : Int) : Option (HP) :=
  if zI x4 = zI 2 then
  if zI 0 < zI x5 then
  f_X0_declare_197 h x0 x2 x4 x5
  else
  some h
  else
  f_X0_declare_197 h x0 x2 x4 x5
noncomputable def f_X0_declare_105s (h : HP) (x0 : Nat) (x1 : Nat) (x2 : Int) (x3 : Int) (x4 : Int) (x5 : Int) (x6 : Int) : Option ((Int × Int) ⊕ (HP)) :=
  if zI x6 < zI (2 + x3) then
  Option.bind (sAt h x1 x6) (fun y1 =>
  if zI x4 = zI 3 then
  gd (8 < 11) (Option.bind (f_J6_indexOf h 8 y1) (fun y2 =>
  if zI y2 < zI 0 then
  some (.inr h)
  else
  f_X0_declare_156 h x0 x1 x2 x3 x4 x5 x6 y1))
  else
  if zI y1 < zI 48 then
  some (.inr h)
  else
  if zI 57 < zI y1 then
  some (.inr h)
  else
  f_X0_declare_156 h x0 x1 x2 x3 x4 x5 x6 y1)
  else
  mr (f_X0_declare_186 h x0 x2 x4 x5)
noncomputable def f_X0_declare_105 (h : HP) (x0 : Nat) (x1 : Nat) (x2 : Int) (x3 : Int) (x4 : Int) (x5 : Int) (x6 : Int) : Option (HP) :=
  iter (fun (z : Int × Int) => f_X0_declare_105s h x0 x1 x2 x3 x4 z.1 z.2) (x5, x6)
noncomputable def f_X0_declare_99 (h : HP) (x0 : Nat) (x1 : Nat) (x2 : Int) (x3 : Int) (x4 : Int) : Option (HP) :=
  f_X0_declare_105 h x0 x1 x2 x3 x4 0 2
noncomputable def f_X0_declare_80 (h : HP) (x0 : Nat) (x1 : Nat) (x2 : Int) (x3 : Int) (t0 : Int) : Option (HP) :=
  if zI t0 < zI 0 then
  some h
  else
  if zI x3 = zI 2 then
  if zI t0 < zI 4 then
  some h
  else
  f_X0_declare_99 h x0 x1 x2 x3 t0
  else
  f_X0_declare_99 h x0 x1 x2 x3 t0
noncomputable def f_X0_declare_65 (h : HP) (x0 : Nat) (x1 : Nat) (x2 : Int) (x3 : Int) : Option (HP) :=
  f_X0_declare_80 h x0 x1 x2 x3 (-1)
noncomputable def f_X0_declare_43 (h : HP) (x0 : Nat) (x1 : Nat) (x2 : Int) (t0 : Int) (t1 : Int) : Option (HP) :=
  bnd (t1 - t0) (fun y1 =>
  if zI y1 < zI 1 then
  f_X0_declare_65 h x0 x1 x2 y1
  else
  if zI 2 < zI y1 then
  f_X0_declare_65 h x0 x1 x2 y1
  else
  Option.bind (sAt h x1 1) (fun y2 =>
  if zI y2 = zI 58 then
  Option.bind (sAt h x1 0) (fun y3 =>
  gd (7 < 11) (Option.bind (f_J6_indexOf h 7 y3) (fun y4 =>
  f_X0_declare_80 h x0 x1 x2 y1 y4)))
  else
  f_X0_declare_65 h x0 x1 x2 y1))
noncomputable def f_X0_declare_27 (h : HP) (x0 : Nat) (x1 : Nat) (t0 : Int) : Option (HP) :=
  Option.bind (sLen h x1) (fun y1 =>
  if zI t0 = zI 0 then
  f_X0_declare_43 h x0 x1 t0 0 (y1 - 2)
  else
  f_X0_declare_43 h x0 x1 t0 1 (y1 - 2))
noncomputable def f_X0_declare_26 (h : HP) (x0 : Nat) (x1 : Nat) : Option (HP) :=
  f_X0_declare_27 h x0 x1 0
noncomputable def f_X0_declare (h : HP) (x0 : Nat) (x1 : Nat) : Option (HP) :=
  Option.bind (sLen h x1) (fun y1 =>
  if zI 0 < zI y1 then
  Option.bind (sLen h x1) (fun y2 =>
  Option.bind (sAt h x1 (y2 - 1)) (fun y3 =>
  if zI y3 = zI 33 then
  f_X0_declare_27 h x0 x1 1
  else
  f_X0_declare_26 h x0 x1))
  else
  f_X0_declare_26 h x0 x1)
noncomputable def f_X3_rule_77 (h : HP) (x0 : Nat) (x1 : Nat) (x3 : Int) (t0 : Int) (t1 : Int) : Option ((Int × Int) ⊕ (HP)) :=
  bnd (t1 + t0) (fun y1 =>
  some (.inl (y1, x3 + 1)))
noncomputable def f_X3_rule_198 (h : HP) (x0 : Nat) (x3 : Nat) (x4 : Int) : Option ((HP × Int) ⊕ (HP)) :=
  some (.inl (h, x4 + 1))
noncomputable def f_X3_rule_153 (h : HP) (x0 : Nat) (x3 : Nat) (x4 : Int) (t0 : Int) : Option ((HP × Int) ⊕ (HP)) :=
  if zI t0 = zI 59 then
  gd (pK h x0 = 4) (Option.bind (pP h x0 3) (fun a1 =>
  Option.bind (f_X0_declare h x3 a1) (fun y2 =>
  gd (pK y2 x0 = 4) (Option.bind (pP y2 x0 3) (fun a3 =>
  Option.bind (sSet y2 a3 0) (fun y4 =>
  f_X3_rule_198 y4 x0 x3 x4))))))
  else
  if zI t0 = zI 32 then
  f_X3_rule_198 h x0 x3 x4
  else
  gd (pK h x0 = 4) (Option.bind (pP h x0 3) (fun a5 =>
  Option.bind (sApp h a5 t0) (fun y6 =>
  f_X3_rule_198 y6 x0 x3 x4)))
noncomputable def f_X3_rule_115s (h : HP) (x0 : Nat) (x3 : Nat) (x4 : Int) : Option ((HP × Int) ⊕ (HP)) :=
  gd (pK h x0 = 4) (Option.bind (pP h x0 2) (fun a1 =>
  Option.bind (sLen h a1) (fun y2 =>
  if zI y2 < zI x4 then
  some (.inr h)
  else
  gd (pK h x0 = 4) (Option.bind (pP h x0 2) (fun a3 =>
  Option.bind (sLen h a3) (fun y4 =>
  if zI x4 < zI y4 then
  gd (pK h x0 = 4) (Option.bind (pP h x0 2) (fun a5 =>
  Option.bind (sAt h a5 x4) (fun y6 =>
  f_X3_rule_153 h x0 x3 x4 y6)))
  else
  f_X3_rule_153 h x0 x3 x4 59))))))
noncomputable def f_X3_rule_115 (h : HP) (x0 : Nat) (x3 : Nat) (x4 : Int) : Option (HP) :=
  iter (fun (z : HP × Int) => f_X3_rule_115s z.1 x0 x3 z.2) (h, x4)
noncomputable def f_X3_rule_85 (h : HP) (x0 : Nat) (x1 : Nat) (x2 : Int) : Option (HP) :=
  bnd (pX h) (fun a1 =>
  gd (rm1 h 4) (bnd (wNew h 7 4) (fun h2 =>
  Option.bind (f_X8_init h2 a1 x1 x2) (fun y3 =>
  gd (pK y3 x0 = 4) (Option.bind (pP y3 x0 0) (fun a4 =>
  Option.bind (lAdd y3 a4 a1) (fun y5 =>
  gd (pK y5.1 x0 = 4) (Option.bind (pP y5.1 x0 3) (fun a6 =>
  Option.bind (sSet y5.1 a6 0) (fun y7 =>
  f_X3_rule_115 y7 x0 a1 0))))))))))
noncomputable def f_X3_rule_29s (h : HP) (x0 : Nat) (x1 : Nat) (x2 : Int) (x3 : Int) : Option ((Int × Int) ⊕ (HP)) :=
  gd (pK h x0 = 4) (Option.bind (pP h x0 1) (fun a1 =>
  Option.bind (sLen h a1) (fun y2 =>
  if zI x3 < zI y2 then
  gd (pK h x0 = 4) (Option.bind (pP h x0 1) (fun a3 =>
  Option.bind (sAt h a3 x3) (fun y4 =>
  Option.bind (f_X0_capital h y4) (fun y5 =>
  if zI y5 = zI 0 then
  Option.bind (f_X0_small h y4) (fun y6 =>
  if zI y6 = zI 0 then
  f_X3_rule_77 h x0 x1 x3 0 x2
  else
  f_X3_rule_77 h x0 x1 x3 1 x2)
  else
  f_X3_rule_77 h x0 x1 x3 8 x2))))
  else
  mr (f_X3_rule_85 h x0 x1 x2))))
noncomputable def f_X3_rule_29 (h : HP) (x0 : Nat) (x1 : Nat) (x2 : Int) (x3 : Int) : Option (HP) :=
  iter (fun (z : Int × Int) => f_X3_rule_29s h x0 x1 z.1 z.2) (x2, x3)
noncomputable def f_X3_rule (h : HP) (x0 : Nat) : Option (HP) :=
  gd (pK h x0 = 4) (Option.bind (pP h x0 1) (fun a1 =>
  Option.bind (f_X0_read h a1) (fun y2 =>
  nl y2.2 (some y2.1) (fun a3 =>
  gd (pK y2.1 x0 = 4) (Option.bind (pP y2.1 x0 0) (fun a4 =>
  Option.bind (lLen y2.1 a4) (fun y5 =>
  if zI y5 = zI 12 then
  some y2.1
  else
  f_X3_rule_29 y2.1 x0 a3 0 0)))))))
noncomputable def f_X3_type_78 (h : HP) (x0 : Nat) (x1 : Int) : Option (HP × Int) :=
  gd (pK h x0 = 4) (if zI (pI h x0 4) = zI 0 then
  gd (pK h x0 = 4) (Option.bind (pP h x0 1) (fun a1 =>
  Option.bind (sApp h a1 x1) (fun y2 =>
  some (y2, 1))))
  else
  gd (pK h x0 = 4) (Option.bind (pP h x0 2) (fun a3 =>
  Option.bind (sApp h a3 x1) (fun y4 =>
  some (y4, 1)))))
noncomputable def f_X3_type_54 (h : HP) (x0 : Nat) (x1 : Int) : Option (HP × Int) :=
  gd (pK h x0 = 4) (if zI (pI h x0 4) = zI 0 then
  f_X3_type_78 h x0 x1
  else
  if zI x1 = zI 125 then
  gd (pK h x0 = 4) (Option.bind (f_X3_rule h x0) (fun y1 =>
  gd (pK y1 x0 = 4) (Option.bind (f_X3_next y1 x0) (fun y2 =>
  some (y2, 1)))))
  else
  f_X3_type_78 h x0 x1)
noncomputable def f_X3_type (h : HP) (x0 : Nat) (x1 : Int) : Option (HP × Int) :=
  if zI x1 < zI 32 then
  some (h, 0)
  else
  if zI 126 < zI x1 then
  some (h, 0)
  else
  gd (pK h x0 = 4) (if zI (pI h x0 5) = zI 120 then
  some (h, 0)
  else
  gd (pK h x0 = 4) (gd (pK h x0 = 4) (bnd (wI h x0 5 ((pI h x0 5) + 1)) (fun h1 =>
  gd (pK h1 x0 = 4) (if zI (pI h1 x0 4) = zI 0 then
  if zI x1 = zI 123 then
  gd (pK h1 x0 = 4) (bnd (wI h1 x0 4 1) (fun h2 =>
  some (h2, 1)))
  else
  f_X3_type_54 h1 x0 x1
  else
  f_X3_type_54 h1 x0 x1)))))
noncomputable def f_X0_css (h : HP) (x0 : Nat) (x1 : Int) : Option (HP × Int) :=
  gd (pK h x0 = 1) (Option.bind (pP h x0 14) (fun a1 =>
  gd (pK h a1 = 4) (Option.bind (f_X3_type h a1 x1) (fun y2 =>
  if zI y2.2 = zI 0 then
  gd (zisB y2.2) (some (y2.1, y2.2))
  else
  gd (pK y2.1 x0 = 1) (Option.bind (f_X0_changed y2.1 x0) (fun y3 =>
  gd (zisB y2.2) (some (y3, y2.2))))))))
noncomputable def f_X7_fits_34 (h : HP) (x0 : Nat) (x1 : Nat) : Option (Int) :=
  gd (pK h x0 = 6) (gd (pK h x1 = 2) (if zI (zand (pI h x0 1) (zxor (pI h x1 3) (-1))) = zI 0 then
  some 1
  else
  some 0))
noncomputable def f_X7_fits (h : HP) (x0 : Nat) (x1 : Nat) : Option (Int) :=
  gd (pK h x1 = 2) (if zI (pI h x1 2) = zI 0 then
  some 0
  else
  gd (pK h x0 = 6) (if zI (pI h x0 0) = zI 0 then
  f_X7_fits_34 h x0 x1
  else
  gd (pK h x0 = 6) (if zI (pI h x0 0) = zI 42 then
  f_X7_fits_34 h x0 x1
  else
  gd (pK h x0 = 6) (gd (pK h x1 = 2) (if zI (pI h x0 0) = zI (pI h x1 2) then
  f_X7_fits_34 h x0 x1
  else
  some 0)))))
abbrev RC_fits : Type := (HP → Nat → Nat → Option (Int))
noncomputable def f_X0_fits_56 (rc : RC_fits) (h : HP) (x0 : Nat) (t0 : Option Nat) : Option (((Option Nat)) ⊕ (Int)) :=
  some (.inl (t0))
noncomputable def f_X0_fits_24s (rc : RC_fits) (h : HP) (x0 : Nat) (x2 : Option Nat) : Option (((Option Nat)) ⊕ (Int)) :=
  nl x2 (some (.inr 0)) (fun a1 =>
  gd (pK h x0 = 6) (Option.bind (pP h x0 3) (fun a2 =>
  Option.bind (rc h a2 a1) (fun y3 =>
  if zI y3 = zI 0 then
  gd (pK h x0 = 6) (if zI (pI h x0 2) = zI 0 then
  gd (pK h a1 = 2) (f_X0_fits_56 rc h x0 (pP h a1 0))
  else
  f_X0_fits_56 rc h x0 none)
  else
  some (.inr 1)))))
noncomputable def f_X0_fits_24 (rc : RC_fits) (h : HP) (x0 : Nat) (x2 : Option Nat) : Option (Int) :=
  iter (fun (z : (Option Nat)) => f_X0_fits_24s rc h x0 z) (x2)
noncomputable def f_X0_fits_b (rc : RC_fits) (h : HP) (x0 : Nat) (x1 : Nat) : Option (Int) :=
  gd (pK h x0 = 6) (Option.bind (f_X7_fits h x0 x1) (fun y1 =>
  if zI y1 = zI 0 then
  some 0
  else
  gd (pK h x0 = 6) (nl (pP h x0 3) (some 1) (fun a2 =>
  gd (pK h x1 = 2) (bnd (pP h x1 0) (fun y3 =>
  f_X0_fits_24 rc h x0 y3))))))
noncomputable def F_fits : Nat → RC_fits
  | 0 => fun h a0 a1 => none
  | N + 1 => fun h a0 a1 => f_X0_fits_b (F_fits N) h a0 a1
noncomputable def f_X0_fits (N : Nat) : HP → Nat → Nat → Option (Int) := F_fits N
noncomputable def f_X0_given_186 (h : HP) (x0 : Nat) (x1 : Int) (x2 : Nat) (x3 : Int) (x4 : Int) (x5 : Int) (x6 : Int) (x7 : Int) : Option ((Int × Int × Int × Int × Int) ⊕ (Int)) :=
  some (.inl (x3, x4, x5, x6, x7 + 1))
noncomputable def f_X0_given_184 (h : HP) (x0 : Nat) (x1 : Int) (x2 : Nat) (x3 : Int) (x4 : Int) (x5 : Int) (x7 : Int) (t0 : Int) : Option ((Int × Int × Int × Int × Int) ⊕ (Int)) :=
  f_X0_given_186 h x0 x1 x2 x3 x4 x5 t0 x7
noncomputable def f_X0_given_167 (h : HP) (x0 : Nat) (x1 : Int) (x2 : Nat) (x3 : Int) (x5 : Int) (x6 : Int) (x7 : Int) (x8 : Nat) (x10 : Int) (t0 : Int) : Option ((Int × Int × Int × Int × Int) ⊕ (Int)) :=
  if zI x10 = zI 0 then
  f_X0_given_184 h x0 x1 x2 x3 t0 x5 x7 x6
  else
  gd (pK h x8 = 7) (f_X0_given_184 h x0 x1 x2 x3 t0 x5 x7 (pI h x8 1))
noncomputable def f_X0_given_148 (h : HP) (x0 : Nat) (x1 : Int) (x2 : Nat) (x3 : Int) (x4 : Int) (x6 : Int) (x7 : Int) (x8 : Nat) (x10 : Int) (t0 : Int) : Option ((Int × Int × Int × Int × Int) ⊕ (Int)) :=
  if zI x10 = zI 0 then
  f_X0_given_167 h x0 x1 x2 x3 t0 x6 x7 x8 x10 x4
  else
  gd (pK h x8 = 7) (Option.bind (pP h x8 3) (fun a1 =>
  gd (isI (pK h a1)) (gd (zin x1 (pN h a1)) (f_X0_given_167 h x0 x1 x2 x3 t0 x6 x7 x8 x10 (pI h a1 (zix x1))))))
noncomputable def f_X0_given_132 (h : HP) (x0 : Nat) (x1 : Int) (x2 : Nat) (x4 : Int) (x5 : Int) (x6 : Int) (x7 : Int) (x8 : Nat) (x9 : Int) (x10 : Int) (t0 : Int) : Option ((Int × Int × Int × Int × Int) ⊕ (Int)) :=
  if zI x9 = zI 0 then
  f_X0_given_148 h x0 x1 x2 t0 x4 x6 x7 x8 x10 x5
  else
  gd (pK h x8 = 7) (f_X0_given_148 h x0 x1 x2 t0 x4 x6 x7 x8 x10 (pI h x8 1))
noncomputable def f_X0_given_104 (h : HP) (x0 : Nat) (x1 : Int) (x2 : Nat) (x3 : Int) (x4 : Int) (x5 : Int) (x6 : Int) (x7 : Int) (x8 : Nat) (x9 : Int) (x10 : Int) : Option ((Int × Int × Int × Int × Int) ⊕ (Int)) :=
  gd (pK h x8 = 7) (Option.bind (pP h x8 0) (fun a1 =>
  Option.bind (f_X0_fits 8 h a1 x0) (fun y2 =>
  if zI y2 = zI 0 then
  f_X0_given_186 h x0 x1 x2 x3 x4 x5 x6 x7
  else
  if zI x9 = zI 0 then
  f_X0_given_132 h x0 x1 x2 x4 x5 x6 x7 x8 x9 x10 x3
  else
  gd (pK h x8 = 7) (Option.bind (pP h x8 2) (fun a3 =>
  gd (isI (pK h a3)) (gd (zin x1 (pN h a3)) (f_X0_given_132 h x0 x1 x2 x4 x5 x6 x7 x8 x9 x10 (pI h a3 (zix x1)))))))))
noncomputable def f_X0_given_92 (h : HP) (x0 : Nat) (x1 : Int) (x2 : Nat) (x3 : Int) (x4 : Int) (x5 : Int) (x6 : Int) (x7 : Int) (x8 : Nat) (x9 : Int) (t0 : Int) : Option ((Int × Int × Int × Int × Int) ⊕ (Int)) :=
  if zI x9 = zI 0 then
  if zI t0 = zI 0 then
  f_X0_given_186 h x0 x1 x2 x3 x4 x5 x6 x7
  else
  f_X0_given_104 h x0 x1 x2 x3 x4 x5 x6 x7 x8 x9 t0
  else
  f_X0_given_104 h x0 x1 x2 x3 x4 x5 x6 x7 x8 x9 t0
noncomputable def f_X0_given_91 (h : HP) (x0 : Nat) (x1 : Int) (x2 : Nat) (x3 : Int) (x4 : Int) (x5 : Int) (x6 : Int) (x7 : Int) (x8 : Nat) (x9 : Int) : Option ((Int × Int × Int × Int × Int) ⊕ (Int)) :=
  f_X0_given_92 h x0 x1 x2 x3 x4 x5 x6 x7 x8 x9 0
noncomputable def f_X0_given_63 (h : HP) (x0 : Nat) (x1 : Int) (x2 : Nat) (x3 : Int) (x4 : Int) (x5 : Int) (x6 : Int) (x7 : Int) (x8 : Nat) (t0 : Int) : Option ((Int × Int × Int × Int × Int) ⊕ (Int)) :=
  gd (pK h x8 = 7) (Option.bind (pP h x8 3) (fun a1 =>
  gd (isI (pK h a1)) (gd (zin x1 (pN h a1)) (if zI (pI h a1 (zix x1)) = zI (-2) then
  f_X0_given_91 h x0 x1 x2 x3 x4 x5 x6 x7 x8 t0
  else
  gd (pK h x8 = 7) (if zI (pI h x8 1) < zI x6 then
  f_X0_given_91 h x0 x1 x2 x3 x4 x5 x6 x7 x8 t0
  else
  f_X0_given_92 h x0 x1 x2 x3 x4 x5 x6 x7 x8 t0 1)))))
noncomputable def f_X0_given_62 (h : HP) (x0 : Nat) (x1 : Int) (x2 : Nat) (x3 : Int) (x4 : Int) (x5 : Int) (x6 : Int) (x7 : Int) (x8 : Nat) : Option ((Int × Int × Int × Int × Int) ⊕ (Int)) :=
  f_X0_given_63 h x0 x1 x2 x3 x4 x5 x6 x7 x8 0
noncomputable def f_X0_given_192 (h : HP) (x3 : Int) (x4 : Int) : Option (Int) :=
  if zI x4 = zI (-2) then
  some x3
  else
  some x4
noncomputable def f_X0_given_16s (h : HP) (x0 : Nat) (x1 : Int) (x2 : Nat) (x3 : Int) (x4 : Int) (x5 : Int) (x6 : Int) (x7 : Int) : Option ((Int × Int × Int × Int × Int) ⊕ (Int)) :=
  Option.bind (lLen h x2) (fun y1 =>
  if zI x7 < zI y1 then
  Option.bind (lGet h x2 x7) (fun y2 =>
  gd (pK h y2 = 7) (gd (pK h y2 = 7) (Option.bind (pP h y2 2) (fun a3 =>
  gd (isI (pK h a3)) (gd (zin x1 (pN h a3)) (if zI (pI h a3 (zix x1)) = zI (-2) then
  f_X0_given_62 h x0 x1 x2 x3 x4 x5 x6 x7 y2
  else
  gd (pK h y2 = 7) (if zI (pI h y2 1) < zI x5 then
  f_X0_given_62 h x0 x1 x2 x3 x4 x5 x6 x7 y2
  else
  f_X0_given_63 h x0 x1 x2 x3 x4 x5 x6 x7 y2 1)))))))
  else
  mr (f_X0_given_192 h x3 x4))
noncomputable def f_X0_given_16 (h : HP) (x0 : Nat) (x1 : Int) (x2 : Nat) (x3 : Int) (x4 : Int) (x5 : Int) (x6 : Int) (x7 : Int) : Option (Int) :=
  iter (fun (z : Int × Int × Int × Int × Int) => f_X0_given_16s h x0 x1 x2 z.1 z.2.1 z.2.2.1 z.2.2.2.1 z.2.2.2.2) (x3, x4, x5, x6, x7)
noncomputable def f_X0_given (h : HP) (x0 : Nat) (x1 : Int) (x2 : Nat) : Option (Int) :=
  f_X0_given_16 h x0 x1 x2 (-2) (-2) (-1) (-1) 0
noncomputable def f_X0_initial_115 (h : HP) : Option (Int) :=
  some 98
noncomputable def f_X0_initial_32 (h : HP) (x0 : Nat) (x1 : Int) (t0 : Int) : Option (Int) :=
  if zI x1 = zI 0 then
  gd (pK h x0 = 2) (nl (pP h x0 0) (some 1) (fun a1 =>
  gd (pK h x0 = 2) (Option.bind (pP h x0 0) (fun a2 =>
  gd (pK h a2 = 2) (Option.bind (pP h a2 7) (fun a3 =>
  gd (isI (pK h a3)) (gd (zin x1 (pN h a3)) (some (pI h a3 (zix x1))))))))))
  else
  if zI x1 = zI 2 then
  gd (pK h x0 = 2) (nl (pP h x0 0) (some 1) (fun a4 =>
  gd (pK h x0 = 2) (Option.bind (pP h x0 0) (fun a5 =>
  gd (pK h a5 = 2) (Option.bind (pP h a5 7) (fun a6 =>
  gd (isI (pK h a6)) (gd (zin x1 (pN h a6)) (some (pI h a6 (zix x1))))))))))
  else
  if zI x1 = zI 3 then
  gd (pK h x0 = 2) (nl (pP h x0 0) (f_X0_initial_115 h) (fun a7 =>
  if zI t0 = zI 0 then
  gd (pK h x0 = 2) (Option.bind (f_X2_block h x0) (fun y8 =>
  if zI y8 = zI 0 then
  some 105
  else
  f_X0_initial_115 h))
  else
  f_X0_initial_115 h))
  else
  if zI x1 = zI 6 then
  some (-1)
  else
  some 0
noncomputable def f_X0_initial_27 (h : HP) (x0 : Nat) (x1 : Int) : Option (Int) :=
  f_X0_initial_32 h x0 x1 1
noncomputable def f_X0_initial (h : HP) (x0 : Nat) (x1 : Int) : Option (Int) :=
  gd (pK h x0 = 2) (Option.bind (f_X2_is h x0 116) (fun y1 =>
  if zI y1 = zI 0 then
  gd (pK h x0 = 2) (Option.bind (f_X2_is h x0 114) (fun y2 =>
  if zI y2 = zI 0 then
  gd (pK h x0 = 2) (Option.bind (f_X2_is h x0 99) (fun y3 =>
  if zI y3 = zI 0 then
  f_X0_initial_32 h x0 x1 0
  else
  f_X0_initial_27 h x0 x1))
  else
  f_X0_initial_27 h x0 x1))
  else
  f_X0_initial_27 h x0 x1))
noncomputable def f_X0_evaluate_35 (h : HP) (x0 : Nat) (x1 : Nat) (x2 : Int) (t0 : Int) (t1 : Int) (t2 : Option Nat) : Option ((HP × Int) ⊕ (HP)) :=
  Option.bind t2 (fun a1 =>
  gd (isI (pK h a1)) (gd (zin t1 (pN h a1)) (bnd (wI h a1 (zix t1) t0) (fun h2 =>
  some (.inl (h2, x2 + 1))))))
noncomputable def f_X0_evaluate_122 (h : HP) (t0 : Int) (t1 : Nat) : Option (HP) :=
  gd (pK h t1 = 2) (gd (zisB t0) (bnd (wI h t1 8 t0) (fun h1 =>
  some h1)))
noncomputable def f_X0_evaluate_121 (h : HP) (t0 : Nat) : Option (HP) :=
  f_X0_evaluate_122 h 0 t0
noncomputable def f_X0_evaluate_106 (h : HP) (x0 : Nat) (t0 : Nat) : Option (HP) :=
  gd (pK h x0 = 2) (Option.bind (pP h x0 7) (fun a1 =>
  gd (isI (pK h a1)) (gd (zin 3 (pN h a1)) (if zI (pI h a1 (zix 3)) = zI 110 then
  f_X0_evaluate_121 h t0
  else
  f_X0_evaluate_122 h 1 t0))))
noncomputable def f_X0_evaluate_88 (h : HP) (x0 : Nat) : Option (HP) :=
  gd (pK h x0 = 2) (nl (pP h x0 0) (f_X0_evaluate_106 h x0 x0) (fun a1 =>
  gd (pK h x0 = 2) (Option.bind (pP h x0 0) (fun a2 =>
  gd (pK h a2 = 2) (if zI (pI h a2 8) = zI 0 then
  f_X0_evaluate_121 h x0
  else
  f_X0_evaluate_106 h x0 x0)))))
noncomputable def f_X0_evaluate_69 (h : HP) (x0 : Nat) : Option (HP) :=
  gd (pK h x0 = 2) (Option.bind (pP h x0 7) (fun a1 =>
  gd (isI (pK h a1)) (gd (zin 3 (pN h a1)) (if zI (pI h a1 (zix 3)) = zI 105 then
  gd (pK h x0 = 2) (Option.bind (pP h x0 7) (fun a2 =>
  gd (isI (pK h a2)) (gd (zin 3 (pN h a2)) (bnd (wI h a2 (zix 3) 98) (fun h3 =>
  f_X0_evaluate_88 h3 x0)))))
  else
  f_X0_evaluate_88 h x0))))
noncomputable def f_X0_evaluate_42 (h : HP) (x0 : Nat) : Option (HP) :=
  gd (pK h x0 = 2) (Option.bind (f_X2_is h x0 116) (fun y1 =>
  if zI y1 = zI 0 then
  gd (pK h x0 = 2) (Option.bind (f_X2_is h x0 114) (fun y2 =>
  if zI y2 = zI 0 then
  gd (pK h x0 = 2) (Option.bind (f_X2_is h x0 99) (fun y3 =>
  if zI y3 = zI 0 then
  f_X0_evaluate_88 h x0
  else
  f_X0_evaluate_69 h x0))
  else
  f_X0_evaluate_69 h x0))
  else
  f_X0_evaluate_69 h x0))
noncomputable def f_X0_evaluate_2s (h : HP) (x0 : Nat) (x1 : Nat) (x2 : Int) : Option ((HP × Int) ⊕ (HP)) :=
  if zI x2 < zI 7 then
  Option.bind (f_X0_given h x0 x2 x1) (fun y1 =>
  gd (pK h x0 = 2) (if zI y1 = zI (-2) then
  Option.bind (f_X0_initial h x0 x2) (fun y2 =>
  f_X0_evaluate_35 h x0 x1 x2 y2 x2 (pP h x0 7))
  else
  f_X0_evaluate_35 h x0 x1 x2 y1 x2 (pP h x0 7)))
  else
  mr (f_X0_evaluate_42 h x0)
noncomputable def f_X0_evaluate_2 (h : HP) (x0 : Nat) (x1 : Nat) (x2 : Int) : Option (HP) :=
  iter (fun (z : HP × Int) => f_X0_evaluate_2s z.1 x0 x1 z.2) (h, x2)
noncomputable def f_X0_evaluate (h : HP) (x0 : Nat) (x1 : Nat) : Option (HP) :=
  f_X0_evaluate_2 h x0 x1 0
abbrev RC_visit : Type := (HP → Nat → Nat → Nat → Option (HP))
noncomputable def f_X0_visit_44s (rc : RC_visit) (h : HP) (x1 : Nat) (x2 : Nat) (x3 : Nat) (x4 : Int) : Option ((HP × Int) ⊕ (HP)) :=
  gd (pK h x3 = 2) (Option.bind (pP h x3 4) (fun a1 =>
  Option.bind (lLen h a1) (fun y2 =>
  if zI x4 < zI y2 then
  gd (pK h x3 = 2) (Option.bind (pP h x3 4) (fun a3 =>
  Option.bind (lGet h a3 x4) (fun y4 =>
  gd (isN (pK h y4)) (Option.bind (rc h y4 x1 x2) (fun y5 =>
  some (.inl (y5, x4 + 1)))))))
  else
  some (.inr h))))
noncomputable def f_X0_visit_44 (rc : RC_visit) (h : HP) (x1 : Nat) (x2 : Nat) (x3 : Nat) (x4 : Int) : Option (HP) :=
  iter (fun (z : HP × Int) => f_X0_visit_44s rc z.1 x1 x2 x3 z.2) (h, x4)
noncomputable def f_X0_visit_b (rc : RC_visit) (h : HP) (x0 : Nat) (x1 : Nat) (x2 : Nat) : Option (HP) :=
  Option.bind (lLen h x1) (fun y1 =>
  gd (isN (pK h x0)) (bnd (wI h x0 1 y1) (fun h2 =>
  Option.bind (lAdd h2 x1 x0) (fun y3 =>
  gd (isN (pK y3.1 x0)) (if zI (kis y3.1 x0 2) = zI 0 then
  some y3.1
  else
  Option.bind (lLen y3.1 x1) (fun y4 =>
  if zI 24 < zI y4 then
  some y3.1
  else
  gd (pK y3.1 x0 = 2) (Option.bind (f_X0_evaluate y3.1 x0 x2) (fun y5 =>
  f_X0_visit_44 rc y5 x1 x2 x0 0))))))))
noncomputable def F_visit : Nat → RC_visit
  | 0 => fun h a0 a1 a2 => none
  | N + 1 => fun h a0 a1 a2 => f_X0_visit_b (F_visit N) h a0 a1 a2
noncomputable def f_X0_visit (N : Nat) : HP → Nat → Nat → Nat → Option (HP) := F_visit N
noncomputable def f_X0_refresh_40 (h : HP) (x0 : Nat) : Option (HP) :=
  gd (pK h x0 = 1) (bnd (wI h x0 16 1) (fun h1 =>
  some h1))
noncomputable def f_X0_refresh (h : HP) (x0 : Nat) : Option (HP) :=
  gd (pK h x0 = 1) (if zI (pI h x0 16) = zI 0 then
  gd (pK h x0 = 1) (Option.bind (pP h x0 15) (fun a1 =>
  Option.bind (lClr h a1) (fun y2 =>
  gd (pK y2 x0 = 1) (if zI (pI y2 x0 7) = zI 0 then
  gd (pK y2 x0 = 1) (gd (pK y2 x0 = 1) (gd (pK y2 x0 = 1) (Option.bind (pP y2 x0 14) (fun a3 =>
  gd (pK y2 a3 = 4) (Option.bind (pP y2 x0 0) (fun a4 =>
  Option.bind (pP y2 x0 15) (fun a5 =>
  Option.bind (pP y2 a3 0) (fun a6 =>
  Option.bind (f_X0_visit 30 y2 a4 a5 a6) (fun y7 =>
  f_X0_refresh_40 y7 x0)))))))))
  else
  f_X0_refresh_40 y2 x0))))
  else
  some h)
noncomputable def f_J10_fill_2_5s (h : HP) (x0 : Nat) (x1 : Int) (x2 : Int) (x3 : Int) : Option ((HP × Int) ⊕ (HP)) :=
  if zI x2 < zI x3 then
  gd (isI (pK h x0)) (gd (zin x2 (pN h x0)) (bnd (wI h x0 (zix x2) x1) (fun h1 =>
  some (.inl (h1, x2 + 1)))))
  else
  some (.inr h)
noncomputable def f_J10_fill_2_5 (h : HP) (x0 : Nat) (x1 : Int) (x2 : Int) (x3 : Int) : Option (HP) :=
  iter (fun (z : HP × Int) => f_J10_fill_2_5s z.1 x0 x1 z.2 x3) (h, x2)
noncomputable def f_J10_fill_2 (h : HP) (x0 : Nat) (x1 : Int) : Option (HP) :=
  gd (isAp (pK h x0)) (bnd (pN h x0 : Int) (fun y1 =>
  f_J10_fill_2_5 h x0 x1 0 y1))
noncomputable def f_X4_add (h : HP) (x0 : Nat) (x1 : Option Nat) (x2 : Int) : Option (HP) :=
  gd (pK h x0 = 5) (if zI (pI h x0 2) = zI 184 then
  some h
  else
  gd (pK h x0 = 5) (gd (pK h x0 = 5) (Option.bind (pP h x0 0) (fun a1 =>
  gd (pK h a1 = 46) (gd (zin (pI h x0 2) (pN h a1)) (gd (okR h a1 x1) (bnd (wP h a1 (zix (pI h x0 2)) x1) (fun h2 =>
  gd (pK h2 x0 = 5) (gd (pK h2 x0 = 5) (Option.bind (pP h2 x0 1) (fun a3 =>
  gd (isI (pK h2 a3)) (gd (zin (pI h2 x0 2) (pN h2 a3)) (bnd (wI h2 a3 (zix (pI h2 x0 2)) x2) (fun h4 =>
  gd (pK h4 x0 = 5) (gd (pK h4 x0 = 5) (bnd (wI h4 x0 2 ((pI h4 x0 2) + 1)) (fun h5 =>
  some h5)))))))))))))))))
noncomputable def f_X2_box (h : HP) (x0 : Nat) : Option (Int) :=
  gd (pK h x0 = 2) (if zI (pI h x0 8) = zI 0 then
  some 0
  else
  gd (pK h x0 = 2) (Option.bind (pP h x0 7) (fun a1 =>
  gd (isI (pK h a1)) (gd (zin 3 (pN h a1)) (if zI (pI h a1 (zix 3)) = zI 98 then
  some 1
  else
  some 0)))))
noncomputable def f_X0_inside_14s (h : HP) (x1 : Nat) (x2 : Nat) (x3 : Int) : Option ((HP × Int) ⊕ (HP × Option Nat)) :=
  gd (pK h x2 = 3) (Option.bind (pP h x2 2) (fun a1 =>
  Option.bind (sLen h a1) (fun y2 =>
  if zI x3 < zI y2 then
  gd (pK h x1 = 5) (Option.bind (f_X4_add h x1 (some x2) x3) (fun y3 =>
  some (.inl (y3, x3 + 1))))
  else
  some (.inr (h, none)))))
noncomputable def f_X0_inside_14 (h : HP) (x1 : Nat) (x2 : Nat) (x3 : Int) : Option (HP × Option Nat) :=
  iter (fun (z : HP × Int) => f_X0_inside_14s z.1 x1 x2 z.2) (h, x3)
noncomputable def f_X0_inside (h : HP) (x0 : Nat) (x1 : Nat) : Option (HP × Option Nat) :=
  gd (isN (pK h x0)) (if zI (kis h x0 3) = zI 0 then
  gd (pK h x0 = 2) (gd (pK h x0 = 2) (if zI (pI h x0 8) = zI 0 then
  some (h, none)
  else
  gd (pK h x0 = 2) (Option.bind (f_X2_box h x0) (fun y1 =>
  if zI y1 = zI 0 then
  gd (pK h x0 = 2) (Option.bind (f_X2_is h x0 107) (fun y2 =>
  if zI y2 = zI 0 then
  some (h, some x0)
  else
  gd (pK h x0 = 2) (Option.bind (pP h x0 7) (fun a3 =>
  gd (isI (pK h a3)) (gd (zin 2 (pN h a3)) (gd (pK h x1 = 5) (Option.bind (f_X4_add h x1 none (pI h a3 (zix 2))) (fun y4 =>
  some (y4, none)))))))))
  else
  some (h, some x0)))))
  else
  gd (pK h x0 = 3) (f_X0_inside_14 h x1 x0 0))
noncomputable def f_X4_size (h : HP) (x0 : Nat) (x1 : Int) : Option (Int) :=
  gd (pK h x0 = 5) (Option.bind (pP h x0 0) (fun a1 =>
  gd (pK h a1 = 46) (gd (zin x1 (pN h a1)) (nl (pP h a1 (zix x1)) (gd (pK h x0 = 5) (Option.bind (pP h x0 1) (fun a3 =>
  gd (isI (pK h a3)) (gd (zin x1 (pN h a3)) (some (pI h a3 (zix x1))))))) (fun a2 =>
  gd (pK h x0 = 5) (Option.bind (pP h x0 0) (fun a4 =>
  gd (pK h a4 = 46) (gd (zin x1 (pN h a4)) (Option.bind (pP h a4 (zix x1)) (fun a5 =>
  gd (pK h a5 = 3) (Option.bind (pP h a5 0) (fun a6 =>
  gd (pK h a6 = 2) (Option.bind (pP h a6 7) (fun a7 =>
  gd (isI (pK h a7)) (gd (zin 2 (pN h a7)) (some (pI h a7 (zix 2))))))))))))))))))
noncomputable def f_X4_blank (h : HP) (x0 : Nat) (x1 : Int) : Option (Int) :=
  gd (pK h x0 = 5) (Option.bind (pP h x0 0) (fun a1 =>
  gd (pK h a1 = 46) (gd (zin x1 (pN h a1)) (Option.bind (pP h a1 (zix x1)) (fun a2 =>
  gd (pK h a2 = 3) (gd (pK h x0 = 5) (Option.bind (pP h x0 1) (fun a3 =>
  gd (isI (pK h a3)) (gd (zin x1 (pN h a3)) (Option.bind (pP h a2 2) (fun a4 =>
  Option.bind (sAt h a4 (pI h a3 (zix x1))) (fun y5 =>
  if zI y5 = zI 32 then
  some 1
  else
  some 0))))))))))))
noncomputable def f_X4_placed (h : HP) (x0 : Nat) (x1 : Int) : Option (Int) :=
  gd (pK h x0 = 5) (Option.bind (pP h x0 0) (fun a1 =>
  gd (pK h a1 = 46) (gd (zin x1 (pN h a1)) (Option.bind (pP h a1 (zix x1)) (fun a2 =>
  gd (pK h a2 = 3) (gd (pK h x0 = 5) (Option.bind (pP h x0 1) (fun a3 =>
  gd (isI (pK h a3)) (gd (zin x1 (pN h a3)) (Option.bind (pP h a2 3) (fun a4 =>
  gd (isI (pK h a4)) (gd (zin (pI h a3 (zix x1)) (pN h a4)) (some (pI h a4 (zix (pI h a3 (zix x1)))))))))))))))))
noncomputable def f_X4_put (h : HP) (x0 : Nat) (x1 : Int) (x2 : Int) : Option (HP) :=
  gd (pK h x0 = 5) (Option.bind (pP h x0 0) (fun a1 =>
  gd (pK h a1 = 46) (gd (zin x1 (pN h a1)) (Option.bind (pP h a1 (zix x1)) (fun a2 =>
  gd (pK h a2 = 3) (gd (pK h x0 = 5) (Option.bind (pP h x0 1) (fun a3 =>
  gd (isI (pK h a3)) (gd (zin x1 (pN h a3)) (Option.bind (pP h a2 3) (fun a4 =>
  gd (isI (pK h a4)) (gd (zin (pI h a3 (zix x1)) (pN h a4)) (bnd (wI h a4 (zix (pI h a3 (zix x1))) x2) (fun h5 =>
  some h5))))))))))))))
noncomputable def f_X0_line_35 (h : HP) (x0 : Nat) (x1 : Nat) (x2 : Int) (x3 : Int) (x5 : Int) (x6 : Int) : Option ((Int × Int) ⊕ (HP)) :=
  some (.inl (x5, x6 + 1))
noncomputable def f_X0_line_113 (h : HP) (x0 : Nat) (x1 : Nat) (x3 : Int) (x5 : Int) (x6 : Int) : Option ((HP × Int) ⊕ (HP)) :=
  some (.inl (h, x6 + 1))
noncomputable def f_X0_line_119 (h : HP) (x0 : Nat) (x1 : Nat) (x5 : Int) : Option (HP) :=
  gd (pK h x0 = 2) (gd (pK h x0 = 2) (bnd (wI h x0 15 ((pI h x0 15) + x5)) (fun h1 =>
  gd (pK h1 x1 = 5) (gd (pK h1 x1 = 5) (bnd (wI h1 x1 3 ((pI h1 x1 3) + 1)) (fun h2 =>
  some h2))))))
noncomputable def f_X0_line_62s (h : HP) (x0 : Nat) (x1 : Nat) (x3 : Int) (x5 : Int) (x6 : Int) : Option ((HP × Int) ⊕ (HP)) :=
  if zI x6 < zI x3 then
  gd (pK h x1 = 5) (Option.bind (f_X4_blank h x1 x6) (fun y1 =>
  if zI y1 = zI 0 then
  gd (pK h x0 = 2) (gd (pK h x1 = 5) (Option.bind (f_X4_placed h x1 x6) (fun y2 =>
  gd (pK h x0 = 2) (gd (pK h x1 = 5) (Option.bind (f_X4_size h x1 x6) (fun y3 =>
  gd (pK h x1 = 5) (Option.bind (f_X4_put h x1 x6 (((pI h x0 13) + y2) + (65536 * (((pI h x0 15) + x5) - y3)))) (fun y4 =>
  f_X0_line_113 y4 x0 x1 x3 x5 x6))))))))
  else
  f_X0_line_113 h x0 x1 x3 x5 x6))
  else
  mr (f_X0_line_119 h x0 x1 x5)
noncomputable def f_X0_line_62 (h : HP) (x0 : Nat) (x1 : Nat) (x3 : Int) (x5 : Int) (x6 : Int) : Option (HP) :=
  iter (fun (z : HP × Int) => f_X0_line_62s z.1 x0 x1 x3 x5 z.2) (h, x6)
noncomputable def f_X0_line_41 (h : HP) (x0 : Nat) (x1 : Nat) (x2 : Int) (x3 : Int) (x5 : Int) : Option (HP) :=
  gd (pK h x0 = 2) (gd (pK h x0 = 2) (gd (pK h x0 = 2) (bnd (wI h x0 15 ((pI h x0 15) + (pI h x0 16))) (fun h1 =>
  gd (pK h1 x0 = 2) (bnd (wI h1 x0 16 0) (fun h2 =>
  f_X0_line_62 h2 x0 x1 x3 x5 x2))))))
noncomputable def f_X0_line_7s (h : HP) (x0 : Nat) (x1 : Nat) (x2 : Int) (x3 : Int) (x5 : Int) (x6 : Int) : Option ((Int × Int) ⊕ (HP)) :=
  if zI x6 < zI x3 then
  gd (pK h x1 = 5) (Option.bind (f_X4_blank h x1 x6) (fun y1 =>
  if zI y1 = zI 0 then
  gd (pK h x1 = 5) (Option.bind (f_X4_size h x1 x6) (fun y2 =>
  bnd (zmax x5 y2) (fun y3 =>
  f_X0_line_35 h x0 x1 x2 x3 y3 x6)))
  else
  f_X0_line_35 h x0 x1 x2 x3 x5 x6))
  else
  mr (f_X0_line_41 h x0 x1 x2 x3 x5)
noncomputable def f_X0_line_7 (h : HP) (x0 : Nat) (x1 : Nat) (x2 : Int) (x3 : Int) (x5 : Int) (x6 : Int) : Option (HP) :=
  iter (fun (z : Int × Int) => f_X0_line_7s h x0 x1 x2 x3 z.1 z.2) (x5, x6)
noncomputable def f_X0_line (h : HP) (x0 : Nat) (x1 : Nat) (x2 : Int) (x3 : Int) (x4 : Int) : Option (HP) :=
  f_X0_line_7 h x0 x1 x2 x3 x4 x2
noncomputable def f_X0_flush_48 (h : HP) (x0 : Nat) (x1 : Nat) (x5 : Int) (t0 : Int) (t1 : Int) (t2 : Int) (t3 : Nat) (t4 : Nat) : Option ((HP × Int × Int × Int × Int) ⊕ (HP)) :=
  Option.bind (f_X0_line h t4 t3 t2 t1 t0) (fun y1 =>
  bnd (x5 + 1) (fun y2 =>
  some (.inl (y1, y2, (-1), (-1), x5 + 1))))
noncomputable def f_X0_flush_248 (h : HP) (x0 : Nat) (x1 : Nat) (x2 : Int) (x3 : Int) (x5 : Int) : Option ((HP × Int × Int × Int × Int) ⊕ (HP)) :=
  some (.inl (h, x2, x3, (-1), x5))
noncomputable def f_X0_flush_219s (h : HP) (x0 : Nat) (x1 : Nat) (x2 : Int) (x3 : Int) (x5 : Int) (x7 : Int) : Option ((HP × Int × Int) ⊕ ((HP × Int × Int × Int × Int) ⊕ (HP))) :=
  if zI x5 < zI x7 then
  gd (pK h x1 = 5) (Option.bind (f_X4_put h x1 x5 x3) (fun y1 =>
  gd (pK y1 x1 = 5) (Option.bind (f_X4_size y1 x1 x5) (fun y2 =>
  bnd (x3 + y2) (fun y3 =>
  some (.inl (y1, y3, x5 + 1)))))))
  else
  mr (f_X0_flush_248 h x0 x1 x2 x3 x5)
noncomputable def f_X0_flush_219 (h : HP) (x0 : Nat) (x1 : Nat) (x2 : Int) (x3 : Int) (x5 : Int) (x7 : Int) : Option ((HP × Int × Int × Int × Int) ⊕ (HP)) :=
  iter (fun (z : HP × Int × Int) => f_X0_flush_219s z.1 x0 x1 x2 z.2.1 z.2.2 x7) (h, x3, x5)
noncomputable def f_X0_flush_218 (h : HP) (x0 : Nat) (x1 : Nat) (x2 : Int) (x5 : Int) (x7 : Int) (t0 : Int) : Option ((HP × Int × Int × Int × Int) ⊕ (HP)) :=
  f_X0_flush_219 h x0 x1 x2 t0 x5 x7
noncomputable def f_X0_flush_210 (h : HP) (x0 : Nat) (x1 : Nat) (x2 : Int) (x5 : Int) (x7 : Int) : Option ((HP × Int × Int × Int × Int) ⊕ (HP)) :=
  f_X0_flush_218 h x0 x1 x2 x5 x7 0
noncomputable def f_X0_flush_201 (h : HP) (x0 : Nat) (x1 : Nat) (x2 : Int) (x3 : Int) (x4 : Int) (x5 : Int) (x7 : Int) (x8 : Int) : Option ((HP × Int × Int × Int × Int) ⊕ (HP)) :=
  if zI x3 < zI 0 then
  f_X0_flush_210 h x0 x1 x2 x5 x7
  else
  if zI x8 = zI 0 then
  f_X0_flush_218 h x0 x1 x2 x5 x7 (x3 + x4)
  else
  f_X0_flush_210 h x0 x1 x2 x5 x7
noncomputable def f_X0_flush_182 (h : HP) (x0 : Nat) (x1 : Nat) (x2 : Int) (x3 : Int) (x4 : Int) (x5 : Int) (x7 : Int) (t0 : Int) : Option ((HP × Int × Int × Int × Int) ⊕ (HP)) :=
  if zI t0 = zI 0 then
  f_X0_flush_201 h x0 x1 x2 x3 x4 x5 x7 t0
  else
  Option.bind (f_X0_line h x0 x1 x2 x5 0) (fun y1 =>
  f_X0_flush_201 y1 x0 x1 x5 x3 x4 x5 x7 t0)
noncomputable def f_X0_flush_181 (h : HP) (x0 : Nat) (x1 : Nat) (x2 : Int) (x3 : Int) (x4 : Int) (x5 : Int) (x7 : Int) : Option ((HP × Int × Int × Int × Int) ⊕ (HP)) :=
  f_X0_flush_182 h x0 x1 x2 x3 x4 x5 x7 0
noncomputable def f_X0_flush_159 (h : HP) (x0 : Nat) (x1 : Nat) (x2 : Int) (x3 : Int) (x4 : Int) (x5 : Int) (x6 : Int) (x7 : Int) : Option ((HP × Int × Int × Int × Int) ⊕ (HP)) :=
  if zI x3 < zI 0 then
  f_X0_flush_181 h x0 x1 x2 x3 x4 x5 x7
  else
  gd (pK h x0 = 2) (if zI (pI h x0 14) < zI ((x3 + x4) + x6) then
  f_X0_flush_182 h x0 x1 x2 x3 x4 x5 x7 1
  else
  f_X0_flush_181 h x0 x1 x2 x3 x4 x5 x7)
noncomputable def f_X0_flush_114s (h : HP) (x0 : Nat) (x1 : Nat) (x2 : Int) (x3 : Int) (x4 : Int) (x5 : Int) (x6 : Int) (x7 : Int) : Option ((Int × Int) ⊕ ((HP × Int × Int × Int × Int) ⊕ (HP))) :=
  gd (pK h x1 = 5) (if zI x7 < zI (pI h x1 2) then
  gd (pK h x1 = 5) (Option.bind (pP h x1 0) (fun a1 =>
  gd (pK h a1 = 46) (gd (zin x7 (pN h a1)) (nl (pP h a1 (zix x7)) (mr (f_X0_flush_159 h x0 x1 x2 x3 x4 x5 x6 x7)) (fun a2 =>
  gd (pK h x1 = 5) (Option.bind (f_X4_blank h x1 x7) (fun y3 =>
  if zI y3 = zI 0 then
  gd (pK h x1 = 5) (Option.bind (f_X4_size h x1 x7) (fun y4 =>
  bnd (x6 + y4) (fun y5 =>
  some (.inl (y5, x7 + 1)))))
  else
  mr (f_X0_flush_159 h x0 x1 x2 x3 x4 x5 x6 x7))))))))
  else
  mr (f_X0_flush_159 h x0 x1 x2 x3 x4 x5 x6 x7))
noncomputable def f_X0_flush_114 (h : HP) (x0 : Nat) (x1 : Nat) (x2 : Int) (x3 : Int) (x4 : Int) (x5 : Int) (x6 : Int) (x7 : Int) : Option ((HP × Int × Int × Int × Int) ⊕ (HP)) :=
  iter (fun (z : Int × Int) => f_X0_flush_114s h x0 x1 x2 x3 x4 x5 z.1 z.2) (x6, x7)
noncomputable def f_X0_flush_92 (h : HP) (x0 : Nat) (x1 : Nat) (x2 : Int) (x3 : Int) (x5 : Int) (t0 : Int) : Option ((HP × Int × Int × Int × Int) ⊕ (HP)) :=
  gd (pK h x1 = 5) (Option.bind (f_X4_put h x1 x5 (-1)) (fun y1 =>
  some (.inl (y1, x2, x3, t0, x5 + 1))))
noncomputable def f_X0_flush_269 (h : HP) (x1 : Nat) : Option (HP) :=
  gd (pK h x1 = 5) (bnd (wI h x1 2 0) (fun h1 =>
  some h1))
noncomputable def f_X0_flush_254 (h : HP) (x0 : Nat) (x1 : Nat) (x2 : Int) (x3 : Int) : Option (HP) :=
  if zI x3 < zI 0 then
  f_X0_flush_269 h x1
  else
  gd (pK h x1 = 5) (Option.bind (f_X0_line h x0 x1 x2 (pI h x1 2) 0) (fun y1 =>
  f_X0_flush_269 y1 x1))
noncomputable def f_X0_flush_10s (h : HP) (x0 : Nat) (x1 : Nat) (x2 : Int) (x3 : Int) (x4 : Int) (x5 : Int) : Option ((HP × Int × Int × Int × Int) ⊕ (HP)) :=
  gd (pK h x1 = 5) (if zI x5 < zI (pI h x1 2) then
  gd (pK h x1 = 5) (Option.bind (pP h x1 0) (fun a1 =>
  gd (pK h a1 = 46) (gd (zin x5 (pN h a1)) (nl (pP h a1 (zix x5)) (if zI x3 < zI 0 then
  gd (pK h x1 = 5) (Option.bind (f_X4_size h x1 x5) (fun y3 =>
  f_X0_flush_48 h x0 x1 x5 y3 x5 x2 x1 x0))
  else
  f_X0_flush_48 h x0 x1 x5 0 x5 x2 x1 x0) (fun a2 =>
  gd (pK h x1 = 5) (Option.bind (f_X4_blank h x1 x5) (fun y4 =>
  if zI y4 = zI 0 then
  f_X0_flush_114 h x0 x1 x2 x3 x4 x5 0 x5
  else
  if zI x4 < zI 0 then
  gd (pK h x1 = 5) (Option.bind (f_X4_size h x1 x5) (fun y5 =>
  f_X0_flush_92 h x0 x1 x2 x3 x5 y5))
  else
  f_X0_flush_92 h x0 x1 x2 x3 x5 x4)))))))
  else
  mr (f_X0_flush_254 h x0 x1 x2 x3))
noncomputable def f_X0_flush_10 (h : HP) (x0 : Nat) (x1 : Nat) (x2 : Int) (x3 : Int) (x4 : Int) (x5 : Int) : Option (HP) :=
  iter (fun (z : HP × Int × Int × Int × Int) => f_X0_flush_10s z.1 x0 x1 z.2.1 z.2.2.1 z.2.2.2.1 z.2.2.2.2) (h, x2, x3, x4, x5)
noncomputable def f_X0_flush (h : HP) (x0 : Nat) (x1 : Nat) : Option (HP) :=
  f_X0_flush_10 h x0 x1 0 (-1) (-1) 0
noncomputable def f_X2_goOn (h : HP) (x0 : Nat) (x1 : Nat) : Option (HP) :=
  gd (pK h x1 = 2) (gd (pK h x1 = 2) (gd (pK h x0 = 2) (bnd (wI h x0 15 ((pI h x1 10) + (pI h x1 12))) (fun h1 =>
  gd (pK h1 x1 = 2) (Option.bind (pP h1 x1 7) (fun a2 =>
  gd (isI (pK h1 a2)) (gd (zin 4 (pN h1 a2)) (gd (pK h1 x0 = 2) (bnd (wI h1 x0 16 (pI h1 a2 (zix 4))) (fun h3 =>
  some h3))))))))))
abbrev RC_lay : Type := (HP → Nat → Int → Int → Int → Nat → Option (HP)) × (HP → Nat → Nat → Option (HP)) × (HP → Nat → Nat → Nat → Option (HP))
noncomputable def f_X0_lay_252 (rc : RC_lay) (h : HP) (x0 : Nat) (x2 : Int) (x4 : Nat) (x6 : Int) (x8 : Int) : Option ((HP × Int) ⊕ (HP)) :=
  some (.inl (h, x8 + 1))
noncomputable def f_X0_lay_264 (rc : RC_lay) (h : HP) (x0 : Nat) (x2 : Int) (x6 : Int) : Option (HP) :=
  gd (pK h x0 = 2) (gd (pK h x0 = 2) (gd (pK h x0 = 2) (bnd (wI h x0 12 ((((pI h x0 15) + (pI h x0 16)) + x6) - x2)) (fun h1 =>
  some h1))))
noncomputable def f_X0_lay_258 (rc : RC_lay) (h : HP) (x0 : Nat) (x2 : Int) (x4 : Nat) (x6 : Int) : Option (HP) :=
  Option.bind (f_X0_flush h x0 x4) (fun y1 =>
  f_X0_lay_264 rc y1 x0 x2 x6)
noncomputable def f_X0_lay_148s (rc : RC_lay) (h : HP) (x0 : Nat) (x2 : Int) (x4 : Nat) (x6 : Int) (x8 : Int) : Option ((HP × Int) ⊕ (HP)) :=
  gd (pK h x0 = 2) (Option.bind (pP h x0 4) (fun a1 =>
  Option.bind (lLen h a1) (fun y2 =>
  if zI x8 < zI y2 then
  gd (pK h x0 = 2) (Option.bind (pP h x0 4) (fun a3 =>
  Option.bind (lGet h a3 x8) (fun y4 =>
  gd (isN (pK h y4)) (Option.bind (f_X0_inside h y4 x4) (fun y5 =>
  nl y5.2 (f_X0_lay_252 rc y5.1 x0 x2 x4 x6 x8) (fun a6 =>
  gd (pK y5.1 a6 = 2) (Option.bind (f_X2_box y5.1 a6) (fun y7 =>
  if zI y7 = zI 0 then
  Option.bind (rc.2.2 y5.1 x0 a6 x4) (fun y8 =>
  f_X0_lay_252 rc y8 x0 x2 x4 x6 x8)
  else
  Option.bind (f_X0_flush y5.1 x0 x4) (fun y9 =>
  gd (pK y9 x0 = 2) (gd (pK y9 x0 = 2) (gd (pK y9 x0 = 2) (gd (pK y9 a6 = 2) (Option.bind (pP y9 a6 7) (fun a10 =>
  gd (isI (pK y9 a10)) (gd (zin 4 (pN y9 a10)) (gd (pK y9 x0 = 2) (Option.bind (rc.1 y9 a6 (pI y9 x0 13) ((pI y9 x0 15) + (zmax (pI y9 x0 16) (pI y9 a10 (zix 4)))) (pI y9 x0 14) x4) (fun y11 =>
  gd (pK y11 x0 = 2) (Option.bind (f_X2_goOn y11 x0 a6) (fun y12 =>
  f_X0_lay_252 rc y12 x0 x2 x4 x6 x8))))))))))))))))))))
  else
  mr (f_X0_lay_258 rc h x0 x2 x4 x6))))
noncomputable def f_X0_lay_148 (rc : RC_lay) (h : HP) (x0 : Nat) (x2 : Int) (x4 : Nat) (x6 : Int) (x8 : Int) : Option (HP) :=
  iter (fun (z : HP × Int) => f_X0_lay_148s rc z.1 x0 x2 x4 x6 z.2) (h, x8)
noncomputable def f_X0_lay_52 (rc : RC_lay) (h : HP) (x0 : Nat) (x1 : Int) (x2 : Int) (x4 : Nat) (x5 : Int) (x6 : Int) (t0 : Int) (t1 : Nat) : Option (HP) :=
  gd (pK h t1 = 2) (bnd (wI h t1 14 t0) (fun h1 =>
  gd (pK h1 x0 = 2) (bnd (wI h1 x0 9 (x1 + x5)) (fun h2 =>
  gd (pK h2 x0 = 2) (bnd (wI h2 x0 10 x2) (fun h3 =>
  gd (pK h3 x0 = 2) (gd (pK h3 x0 = 2) (bnd (wI h3 x0 13 ((pI h3 x0 9) + x6)) (fun h4 =>
  gd (pK h4 x0 = 2) (gd (pK h4 x0 = 2) (bnd (wI h4 x0 11 ((pI h4 x0 14) + (2 * x6))) (fun h5 =>
  gd (pK h5 x0 = 2) (bnd (wI h5 x0 15 (x2 + x6)) (fun h6 =>
  gd (pK h6 x0 = 2) (bnd (wI h6 x0 16 0) (fun h7 =>
  gd (pK h7 x0 = 2) (Option.bind (f_X2_is h7 x0 104) (fun y8 =>
  if zI y8 = zI 0 then
  gd (pK h7 x0 = 2) (Option.bind (f_X2_is h7 x0 114) (fun y9 =>
  if zI y9 = zI 0 then
  f_X0_lay_148 rc h7 x0 x2 x4 x6 0
  else
  Option.bind (rc.2.1 h7 x0 x4) (fun y10 =>
  f_X0_lay_264 rc y10 x0 x2 x6)))
  else
  gd (pK h7 x0 = 2) (gd (pK h7 x0 = 2) (bnd (wI h7 x0 15 ((pI h7 x0 15) + 1)) (fun h11 =>
  f_X0_lay_264 rc h11 x0 x2 x6)))))))))))))))))))))
noncomputable def f_X0_lay_b (rc : RC_lay) (h : HP) (x0 : Nat) (x1 : Int) (x2 : Int) (x3 : Int) (x4 : Nat) : Option (HP) :=
  gd (pK h x0 = 2) (Option.bind (pP h x0 7) (fun a1 =>
  gd (isI (pK h a1)) (gd (zin 4 (pN h a1)) (bnd (pI h a1 (zix 4)) (fun y2 =>
  gd (pK h x0 = 2) (Option.bind (pP h x0 7) (fun a3 =>
  gd (isI (pK h a3)) (gd (zin 5 (pN h a3)) (bnd (pI h a3 (zix 5)) (fun y4 =>
  gd (pK h x0 = 2) (Option.bind (pP h x0 7) (fun a5 =>
  gd (isI (pK h a5)) (gd (zin 6 (pN h a5)) (bnd (pI h a5 (zix 6)) (fun y6 =>
  if zI y6 = zI (-1) then
  f_X0_lay_52 rc h x0 x1 x2 x4 y2 y4 (zmax 0 ((x3 - (2 * y2)) - (2 * y4))) x0
  else
  f_X0_lay_52 rc h x0 x1 x2 x4 y2 y4 y6 x0)))))))))))))))
noncomputable def f_X0_side_53 (rc : RC_lay) (h : HP) (x0 : Nat) (x1 : Nat) (x3 : Int) (t0 : Int) (t1 : Int) : Option ((Int × Int) ⊕ (HP)) :=
  bnd (t1 + t0) (fun y1 =>
  some (.inl (y1, x3 + 1)))
noncomputable def f_X0_side_52 (rc : RC_lay) (h : HP) (x0 : Nat) (x1 : Nat) (x3 : Int) (t0 : Int) : Option ((Int × Int) ⊕ (HP)) :=
  f_X0_side_53 rc h x0 x1 x3 0 t0
noncomputable def f_X0_side_191 (rc : RC_lay) (h : HP) (x0 : Nat) (x1 : Nat) (x2 : Int) (x3 : Int) (x4 : Int) (x5 : Int) : Option ((HP × Int × Int) ⊕ (HP)) :=
  some (.inl (h, x3, x5 + 1))
noncomputable def f_X0_side_72s (rc : RC_lay) (h : HP) (x0 : Nat) (x1 : Nat) (x2 : Int) (x3 : Int) (x4 : Int) (x5 : Int) : Option ((HP × Int × Int) ⊕ (HP)) :=
  gd (pK h x0 = 2) (Option.bind (pP h x0 4) (fun a1 =>
  Option.bind (lLen h a1) (fun y2 =>
  if zI x5 < zI y2 then
  gd (pK h x0 = 2) (Option.bind (pP h x0 4) (fun a3 =>
  Option.bind (lGet h a3 x5) (fun y4 =>
  gd (isN (pK h y4)) (gd (isN (pK h y4)) (if zI (kis h y4 2) = zI 0 then
  f_X0_side_191 rc h x0 x1 x2 x3 x4 x5
  else
  gd (pK h y4 = 2) (gd (pK h y4 = 2) (Option.bind (f_X2_box h y4) (fun y5 =>
  if zI y5 = zI 0 then
  f_X0_side_191 rc h x0 x1 x2 x3 x4 x5
  else
  gd (pK h y4 = 2) (gd (pK h y4 = 2) (Option.bind (pP h y4 7) (fun a6 =>
  gd (isI (pK h a6)) (gd (zin 4 (pN h a6)) (bnd (pI h a6 (zix 4)) (fun y7 =>
  gd (pK h x0 = 2) (gd (pK h x0 = 2) (gd (¬ zI x2 = zI 0) (gd (pK h x0 = 2) (gd (¬ zI x2 = zI 0) (Option.bind (rc.1 h y4 ((pI h x0 13) + (x3 * (zdiv (pI h x0 14) x2))) (x4 + y7) (zdiv (pI h x0 14) x2) x1) (fun y8 =>
  gd (pK y8 x0 = 2) (gd (pK y8 y4 = 2) (gd (pK y8 y4 = 2) (gd (pK y8 x0 = 2) (bnd (wI y8 x0 15 (zmax (pI y8 x0 15) (((pI y8 y4 10) + (pI y8 y4 12)) + y7))) (fun h9 =>
  f_X0_side_191 rc h9 x0 x1 x2 (x3 + 1) x4 x5)))))))))))))))))))))))))
  else
  some (.inr h))))
noncomputable def f_X0_side_72 (rc : RC_lay) (h : HP) (x0 : Nat) (x1 : Nat) (x2 : Int) (x3 : Int) (x4 : Int) (x5 : Int) : Option (HP) :=
  iter (fun (z : HP × Int × Int) => f_X0_side_72s rc z.1 x0 x1 x2 z.2.1 x4 z.2.2) (h, x3, x5)
noncomputable def f_X0_side_61 (rc : RC_lay) (h : HP) (x0 : Nat) (x1 : Nat) (x2 : Int) : Option (HP) :=
  gd (pK h x0 = 2) (bnd (pI h x0 15) (fun y1 =>
  f_X0_side_72 rc h x0 x1 x2 0 y1 0))
noncomputable def f_X0_side_4s (rc : RC_lay) (h : HP) (x0 : Nat) (x1 : Nat) (x2 : Int) (x3 : Int) : Option ((Int × Int) ⊕ (HP)) :=
  gd (pK h x0 = 2) (Option.bind (pP h x0 4) (fun a1 =>
  Option.bind (lLen h a1) (fun y2 =>
  if zI x3 < zI y2 then
  gd (pK h x0 = 2) (Option.bind (pP h x0 4) (fun a3 =>
  Option.bind (lGet h a3 x3) (fun y4 =>
  gd (isN (pK h y4)) (gd (isN (pK h y4)) (if zI (kis h y4 2) = zI 0 then
  f_X0_side_52 rc h x0 x1 x3 x2
  else
  gd (pK h y4 = 2) (gd (pK h y4 = 2) (Option.bind (f_X2_box h y4) (fun y5 =>
  if zI y5 = zI 0 then
  f_X0_side_52 rc h x0 x1 x3 x2
  else
  f_X0_side_53 rc h x0 x1 x3 1 x2))))))))
  else
  mr (f_X0_side_61 rc h x0 x1 x2))))
noncomputable def f_X0_side_4 (rc : RC_lay) (h : HP) (x0 : Nat) (x1 : Nat) (x2 : Int) (x3 : Int) : Option (HP) :=
  iter (fun (z : Int × Int) => f_X0_side_4s rc h x0 x1 z.1 z.2) (x2, x3)
noncomputable def f_X0_side_b (rc : RC_lay) (h : HP) (x0 : Nat) (x1 : Nat) : Option (HP) :=
  f_X0_side_4 rc h x0 x1 0 0
noncomputable def f_X0_gather_100 (rc : RC_lay) (h : HP) (x0 : Nat) (x1 : Nat) (x2 : Nat) (x3 : Int) : Option ((HP × Int) ⊕ (HP)) :=
  some (.inl (h, x3 + 1))
noncomputable def f_X0_gather_2s (rc : RC_lay) (h : HP) (x0 : Nat) (x1 : Nat) (x2 : Nat) (x3 : Int) : Option ((HP × Int) ⊕ (HP)) :=
  gd (pK h x1 = 2) (Option.bind (pP h x1 4) (fun a1 =>
  Option.bind (lLen h a1) (fun y2 =>
  if zI x3 < zI y2 then
  gd (pK h x1 = 2) (Option.bind (pP h x1 4) (fun a3 =>
  Option.bind (lGet h a3 x3) (fun y4 =>
  gd (isN (pK h y4)) (Option.bind (f_X0_inside h y4 x2) (fun y5 =>
  nl y5.2 (f_X0_gather_100 rc y5.1 x0 x1 x2 x3) (fun a6 =>
  gd (pK y5.1 a6 = 2) (Option.bind (f_X2_box y5.1 a6) (fun y7 =>
  if zI y7 = zI 0 then
  Option.bind (rc.2.2 y5.1 x0 a6 x2) (fun y8 =>
  f_X0_gather_100 rc y8 x0 x1 x2 x3)
  else
  Option.bind (f_X0_flush y5.1 x0 x2) (fun y9 =>
  gd (pK y9 x0 = 2) (gd (pK y9 x0 = 2) (gd (pK y9 x0 = 2) (gd (pK y9 a6 = 2) (Option.bind (pP y9 a6 7) (fun a10 =>
  gd (isI (pK y9 a10)) (gd (zin 4 (pN y9 a10)) (gd (pK y9 x0 = 2) (Option.bind (rc.1 y9 a6 (pI y9 x0 13) ((pI y9 x0 15) + (zmax (pI y9 x0 16) (pI y9 a10 (zix 4)))) (pI y9 x0 14) x2) (fun y11 =>
  gd (pK y11 x0 = 2) (Option.bind (f_X2_goOn y11 x0 a6) (fun y12 =>
  f_X0_gather_100 rc y12 x0 x1 x2 x3))))))))))))))))))))
  else
  some (.inr h))))
noncomputable def f_X0_gather_2 (rc : RC_lay) (h : HP) (x0 : Nat) (x1 : Nat) (x2 : Nat) (x3 : Int) : Option (HP) :=
  iter (fun (z : HP × Int) => f_X0_gather_2s rc z.1 x0 x1 x2 z.2) (h, x3)
noncomputable def f_X0_gather_b (rc : RC_lay) (h : HP) (x0 : Nat) (x1 : Nat) (x2 : Nat) : Option (HP) :=
  f_X0_gather_2 rc h x0 x1 x2 0
noncomputable def F_lay : Nat → RC_lay
  | 0 => (fun h a0 a1 a2 a3 a4 => none, fun h a0 a1 => none, fun h a0 a1 a2 => none)
  | N + 1 => (fun h a0 a1 a2 a3 a4 => f_X0_lay_b (F_lay N) h a0 a1 a2 a3 a4, fun h a0 a1 => f_X0_side_b (F_lay N) h a0 a1, fun h a0 a1 a2 => f_X0_gather_b (F_lay N) h a0 a1 a2)
noncomputable def f_X0_lay (N : Nat) : HP → Nat → Int → Int → Int → Nat → Option (HP) := (F_lay N).1
noncomputable def f_X0_side (N : Nat) : HP → Nat → Nat → Option (HP) := (F_lay N).2.1
noncomputable def f_X0_gather (N : Nat) : HP → Nat → Nat → Nat → Option (HP) := (F_lay N).2.2
noncomputable def f_J10_fill_3_5s (h : HP) (x0 : Nat) (x1 : Int) (x2 : Int) (x3 : Int) : Option ((HP × Int) ⊕ (HP)) :=
  if zI x2 < zI x3 then
  gd (pK h x0 = 45) (gd (zin x2 (pN h x0)) (bnd (wI h x0 (zix x2) (zi2b x1)) (fun h1 =>
  some (.inl (h1, x2 + 1)))))
  else
  some (.inr h)
noncomputable def f_J10_fill_3_5 (h : HP) (x0 : Nat) (x1 : Int) (x2 : Int) (x3 : Int) : Option (HP) :=
  iter (fun (z : HP × Int) => f_J10_fill_3_5s z.1 x0 x1 z.2 x3) (h, x2)
noncomputable def f_J10_fill_3 (h : HP) (x0 : Nat) (x1 : Int) : Option (HP) :=
  gd (isAp (pK h x0)) (bnd (pN h x0 : Int) (fun y1 =>
  f_J10_fill_3_5 h x0 x1 0 y1))
noncomputable def f_X0_ground_84 (h : HP) (x0 : Nat) (x1 : Nat) (x2 : Int) : Option ((HP × Int) ⊕ (HP)) :=
  some (.inl (h, x2 + 1))
noncomputable def f_X0_ground_39s (h : HP) (x0 : Nat) (x1 : Nat) (x2 : Int) (x3 : Int) : Option ((HP × Int) ⊕ ((HP × Int) ⊕ (HP))) :=
  gd (pK h x1 = 2) (gd (pK h x1 = 2) (if zI x3 < zI ((pI h x1 9) + (pI h x1 11)) then
  gd (pK h x0 = 1) (if zI x3 < zI (pI h x0 17) then
  gd (pK h x0 = 1) (gd (pK h x1 = 2) (Option.bind (pP h x1 7) (fun a1 =>
  gd (isI (pK h a1)) (gd (zin 1 (pN h a1)) (Option.bind (pP h x0 19) (fun a2 =>
  gd (pK h a2 = 45) (gd (zin ((64 * x2) + x3) (pN h a2)) (bnd (wI h a2 (zix ((64 * x2) + x3)) (zi2b (zi2b (pI h a1 (zix 1))))) (fun h3 =>
  some (.inl (h3, x3 + 1)))))))))))
  else
  mr (f_X0_ground_84 h x0 x1 x2))
  else
  mr (f_X0_ground_84 h x0 x1 x2)))
noncomputable def f_X0_ground_39 (h : HP) (x0 : Nat) (x1 : Nat) (x2 : Int) (x3 : Int) : Option ((HP × Int) ⊕ (HP)) :=
  iter (fun (z : HP × Int) => f_X0_ground_39s z.1 x0 x1 x2 z.2) (h, x3)
noncomputable def f_X0_ground_15s (h : HP) (x0 : Nat) (x1 : Nat) (x2 : Int) : Option ((HP × Int) ⊕ (HP)) :=
  gd (pK h x1 = 2) (gd (pK h x1 = 2) (if zI x2 < zI ((pI h x1 10) + (pI h x1 12)) then
  if zI x2 < zI 64 then
  gd (pK h x1 = 2) (bnd (pI h x1 9) (fun y1 =>
  f_X0_ground_39 h x0 x1 x2 y1))
  else
  some (.inr h)
  else
  some (.inr h)))
noncomputable def f_X0_ground_15 (h : HP) (x0 : Nat) (x1 : Nat) (x2 : Int) : Option (HP) :=
  iter (fun (z : HP × Int) => f_X0_ground_15s z.1 x0 x1 z.2) (h, x2)
noncomputable def f_X0_ground (h : HP) (x0 : Nat) (x1 : Nat) : Option (HP) :=
  gd (pK h x1 = 2) (Option.bind (pP h x1 7) (fun a1 =>
  gd (isI (pK h a1)) (gd (zin 1 (pN h a1)) (if zI (pI h a1 (zix 1)) = zI 0 then
  some h
  else
  gd (pK h x1 = 2) (bnd (pI h x1 10) (fun y2 =>
  f_X0_ground_15 h x0 x1 y2))))))
noncomputable def f_X0_glyph_99 (h : HP) (x0 : Nat) (x1 : Int) (x2 : Int) (x3 : Int) (x4 : Nat) (x5 : Int) (x6 : Int) (x7 : Int) : Option ((HP × Int) ⊕ ((HP × Int) ⊕ (HP))) :=
  some (.inl (h, x7 + 1))
noncomputable def f_X0_glyph_105 (h : HP) (x0 : Nat) (x1 : Int) (x2 : Int) (x3 : Int) (x4 : Nat) (x5 : Int) (x6 : Int) : Option ((HP × Int) ⊕ (HP)) :=
  some (.inl (h, x6 + 1))
noncomputable def f_X0_glyph_31s (h : HP) (x0 : Nat) (x1 : Int) (x2 : Int) (x3 : Int) (x4 : Nat) (x5 : Int) (x6 : Int) (x7 : Int) : Option ((HP × Int) ⊕ ((HP × Int) ⊕ (HP))) :=
  if zI x7 < zI x5 then
  gd (pK h x0 = 1) (if zI (x2 + x7) < zI (pI h x0 17) then
  gd (¬ zI x5 = zI 0) (gd (¬ zI x5 = zI 0) (if zI (zand (zshr x1 ((2 * (zdiv (2 * x6) x5)) + (zdiv (2 * x7) x5))) 1) = zI 1 then
  gd (pK h x0 = 1) (gd (pK h x4 = 2) (Option.bind (pP h x4 7) (fun a1 =>
  gd (isI (pK h a1)) (gd (zin 0 (pN h a1)) (Option.bind (pP h x0 19) (fun a2 =>
  gd (pK h a2 = 45) (gd (zin (((64 * (x3 + x6)) + x2) + x7) (pN h a2)) (bnd (wI h a2 (zix (((64 * (x3 + x6)) + x2) + x7)) (zi2b (zi2b (pI h a1 (zix 0))))) (fun h3 =>
  f_X0_glyph_99 h3 x0 x1 x2 x3 x4 x5 x6 x7)))))))))
  else
  f_X0_glyph_99 h x0 x1 x2 x3 x4 x5 x6 x7))
  else
  mr (f_X0_glyph_105 h x0 x1 x2 x3 x4 x5 x6))
  else
  mr (f_X0_glyph_105 h x0 x1 x2 x3 x4 x5 x6)
noncomputable def f_X0_glyph_31 (h : HP) (x0 : Nat) (x1 : Int) (x2 : Int) (x3 : Int) (x4 : Nat) (x5 : Int) (x6 : Int) (x7 : Int) : Option ((HP × Int) ⊕ (HP)) :=
  iter (fun (z : HP × Int) => f_X0_glyph_31s z.1 x0 x1 x2 x3 x4 x5 x6 z.2) (h, x7)
noncomputable def f_X0_glyph_12s (h : HP) (x0 : Nat) (x1 : Int) (x2 : Int) (x3 : Int) (x4 : Nat) (x5 : Int) (x6 : Int) : Option ((HP × Int) ⊕ (HP)) :=
  if zI x6 < zI x5 then
  if zI (x3 + x6) < zI 64 then
  f_X0_glyph_31 h x0 x1 x2 x3 x4 x5 x6 0
  else
  some (.inr h)
  else
  some (.inr h)
noncomputable def f_X0_glyph_12 (h : HP) (x0 : Nat) (x1 : Int) (x2 : Int) (x3 : Int) (x4 : Nat) (x5 : Int) (x6 : Int) : Option (HP) :=
  iter (fun (z : HP × Int) => f_X0_glyph_12s z.1 x0 x1 x2 x3 x4 x5 z.2) (h, x6)
noncomputable def f_X0_glyph (h : HP) (x0 : Nat) (x1 : Int) (x2 : Int) (x3 : Int) (x4 : Nat) : Option (HP) :=
  gd (pK h x4 = 2) (Option.bind (pP h x4 7) (fun a1 =>
  gd (isI (pK h a1)) (gd (zin 2 (pN h a1)) (bnd (pI h a1 (zix 2)) (fun y2 =>
  f_X0_glyph_12 h x0 x1 x2 x3 x4 y2 0)))))
noncomputable def f_X0_paint_58 (h : HP) (x0 : Nat) (x1 : Int) : Option ((HP × Int) ⊕ (HP)) :=
  some (.inl (h, x1 + 1))
noncomputable def f_X0_paint_171 (h : HP) (x0 : Nat) (x1 : Int) : Option ((HP × Int) ⊕ (HP)) :=
  some (.inl (h, x1 + 1))
noncomputable def f_X0_paint_165 (h : HP) (x0 : Nat) (x1 : Int) (x3 : Nat) (x4 : Int) : Option ((HP × Int) ⊕ ((HP × Int) ⊕ (HP))) :=
  some (.inl (h, x4 + 1))
noncomputable def f_X0_paint_104s (h : HP) (x0 : Nat) (x1 : Int) (x3 : Nat) (x4 : Int) : Option ((HP × Int) ⊕ ((HP × Int) ⊕ (HP))) :=
  gd (pK h x3 = 3) (Option.bind (pP h x3 2) (fun a1 =>
  Option.bind (sLen h a1) (fun y2 =>
  if zI x4 < zI y2 then
  gd (pK h x3 = 3) (Option.bind (pP h x3 3) (fun a3 =>
  gd (isI (pK h a3)) (gd (zin x4 (pN h a3)) (if zI (pI h a3 (zix x4)) = zI (-1) then
  f_X0_paint_165 h x0 x1 x3 x4
  else
  gd (pK h x3 = 3) (Option.bind (pP h x3 2) (fun a4 =>
  Option.bind (sAt h a4 x4) (fun y5 =>
  gd (pK h x3 = 3) (Option.bind (pP h x3 3) (fun a6 =>
  gd (isI (pK h a6)) (gd (zin x4 (pN h a6)) (gd (pK h x3 = 3) (Option.bind (pP h x3 3) (fun a7 =>
  gd (isI (pK h a7)) (gd (zin x4 (pN h a7)) (gd (pK h x3 = 3) (Option.bind (pP h x3 0) (fun a8 =>
  gd (pK h x0 = 1) (Option.bind (f_X0_glyph h x0 y5 (zand (pI h a6 (zix x4)) 65535) (zshr (pI h a7 (zix x4)) 16) a8) (fun y9 =>
  f_X0_paint_165 y9 x0 x1 x3 x4)))))))))))))))))))
  else
  mr (f_X0_paint_171 h x0 x1))))
noncomputable def f_X0_paint_104 (h : HP) (x0 : Nat) (x1 : Int) (x3 : Nat) (x4 : Int) : Option ((HP × Int) ⊕ (HP)) :=
  iter (fun (z : HP × Int) => f_X0_paint_104s z.1 x0 x1 x3 z.2) (h, x4)
noncomputable def f_X0_paint_66s (h : HP) (x0 : Nat) (x1 : Int) : Option ((HP × Int) ⊕ (HP)) :=
  gd (pK h x0 = 1) (Option.bind (pP h x0 15) (fun a1 =>
  Option.bind (lLen h a1) (fun y2 =>
  if zI x1 < zI y2 then
  gd (pK h x0 = 1) (Option.bind (pP h x0 15) (fun a3 =>
  Option.bind (lGet h a3 x1) (fun y4 =>
  gd (isN (pK h y4)) (gd (isN (pK h y4)) (if zI (kis h y4 3) = zI 0 then
  f_X0_paint_171 h x0 x1
  else
  gd (pK h y4 = 3) (f_X0_paint_104 h x0 x1 y4 0))))))
  else
  some (.inr h))))
noncomputable def f_X0_paint_66 (h : HP) (x0 : Nat) (x1 : Int) : Option (HP) :=
  iter (fun (z : HP × Int) => f_X0_paint_66s z.1 x0 z.2) (h, x1)
noncomputable def f_X0_paint_64 (h : HP) (x0 : Nat) : Option (HP) :=
  f_X0_paint_66 h x0 0
noncomputable def f_X0_paint_10s (h : HP) (x0 : Nat) (x1 : Int) : Option ((HP × Int) ⊕ (HP)) :=
  gd (pK h x0 = 1) (Option.bind (pP h x0 15) (fun a1 =>
  Option.bind (lLen h a1) (fun y2 =>
  if zI x1 < zI y2 then
  gd (pK h x0 = 1) (Option.bind (pP h x0 15) (fun a3 =>
  Option.bind (lGet h a3 x1) (fun y4 =>
  gd (isN (pK h y4)) (gd (isN (pK h y4)) (if zI (kis h y4 2) = zI 0 then
  f_X0_paint_58 h x0 x1
  else
  gd (pK h y4 = 2) (gd (pK h y4 = 2) (Option.bind (f_X2_box h y4) (fun y5 =>
  if zI y5 = zI 0 then
  f_X0_paint_58 h x0 x1
  else
  gd (pK h y4 = 2) (gd (pK h x0 = 1) (Option.bind (f_X0_ground h x0 y4) (fun y6 =>
  f_X0_paint_58 y6 x0 x1)))))))))))
  else
  mr (f_X0_paint_64 h x0))))
noncomputable def f_X0_paint_10 (h : HP) (x0 : Nat) (x1 : Int) : Option (HP) :=
  iter (fun (z : HP × Int) => f_X0_paint_10s z.1 x0 z.2) (h, x1)
noncomputable def f_X0_paint (h : HP) (x0 : Nat) : Option (HP) :=
  gd (pK h x0 = 1) (Option.bind (pP h x0 19) (fun a1 =>
  Option.bind (f_J10_fill_3 h a1 0) (fun y2 =>
  f_X0_paint_10 y2 x0 0)))
noncomputable def f_X0_layout_67 (h : HP) (x0 : Nat) (x1 : Int) (x2 : Int) : Option ((HP × Int) ⊕ (HP × Int)) :=
  some (.inl (h, x2 + 1))
noncomputable def f_X0_layout_73 (h : HP) (x0 : Nat) (x1 : Int) : Option (HP × Int) :=
  gd (pK h x0 = 1) (Option.bind (pP h x0 18) (fun a1 =>
  gd (pK h a1 = 5) (bnd (wI h a1 3 0) (fun h2 =>
  gd (pK h2 x0 = 1) (gd (pK h2 x0 = 1) (Option.bind (pP h2 x0 0) (fun a3 =>
  Option.bind (pP h2 x0 18) (fun a4 =>
  Option.bind (f_X0_lay 60 h2 a3 0 0 x1 a4) (fun y5 =>
  gd (pK y5 x0 = 1) (bnd (wI y5 x0 17 x1) (fun h6 =>
  gd (pK h6 x0 = 1) (Option.bind (f_X0_paint h6 x0) (fun y7 =>
  gd (pK y7 x0 = 1) (Option.bind (pP y7 x0 0) (fun a8 =>
  gd (pK y7 a8 = 2) (some (y7, pI y7 a8 12)))))))))))))))))
noncomputable def f_X0_layout_26s (h : HP) (x0 : Nat) (x1 : Int) (x2 : Int) : Option ((HP × Int) ⊕ (HP × Int)) :=
  gd (pK h x0 = 1) (Option.bind (pP h x0 15) (fun a1 =>
  Option.bind (lLen h a1) (fun y2 =>
  if zI x2 < zI y2 then
  gd (pK h x0 = 1) (Option.bind (pP h x0 15) (fun a3 =>
  Option.bind (lGet h a3 x2) (fun y4 =>
  gd (isN (pK h y4)) (gd (isN (pK h y4)) (if zI (kis h y4 3) = zI 0 then
  f_X0_layout_67 h x0 x1 x2
  else
  gd (pK h y4 = 3) (gd (pK h y4 = 3) (Option.bind (pP h y4 3) (fun a5 =>
  Option.bind (f_J10_fill_2 h a5 (-1)) (fun y6 =>
  f_X0_layout_67 y6 x0 x1 x2)))))))))
  else
  mr (f_X0_layout_73 h x0 x1))))
noncomputable def f_X0_layout_26 (h : HP) (x0 : Nat) (x1 : Int) (x2 : Int) : Option (HP × Int) :=
  iter (fun (z : HP × Int) => f_X0_layout_26s z.1 x0 x1 z.2) (h, x2)
noncomputable def f_X0_layout (h : HP) (x0 : Nat) (x1 : Int) : Option (HP × Int) :=
  if zI x1 < zI 1 then
  some (h, (-1))
  else
  if zI 64 < zI x1 then
  some (h, (-1))
  else
  gd (pK h x0 = 1) (if zI (pI h x0 7) = zI 0 then
  gd (pK h x0 = 1) (Option.bind (f_X0_refresh h x0) (fun y1 =>
  f_X0_layout_26 y1 x0 x1 0))
  else
  some (h, (-1)))
noncomputable def f_X0_nodes (h : HP) (x0 : Nat) : Option (Int) :=
  gd (pK h x0 = 1) (if zI (pI h x0 7) = zI 0 then
  gd (pK h x0 = 1) (gd (pK h x0 = 1) (some ((1 + (pI h x0 3)) + (pI h x0 4))))
  else
  some (-1))
noncomputable def f_X0_node_19 (h : HP) : Option (HP × Option Nat) :=
  some (h, none)
noncomputable def f_X0_node (h : HP) (x0 : Nat) (x1 : Int) : Option (HP × Option Nat) :=
  gd (pK h x0 = 1) (Option.bind (f_X0_refresh h x0) (fun y1 =>
  if zI x1 < zI 0 then
  f_X0_node_19 y1
  else
  gd (pK y1 x0 = 1) (Option.bind (pP y1 x0 15) (fun a2 =>
  Option.bind (lLen y1 a2) (fun y3 =>
  if zI x1 < zI y3 then
  gd (pK y1 x0 = 1) (Option.bind (pP y1 x0 15) (fun a4 =>
  Option.bind (lGet y1 a4 x1) (fun y5 =>
  gd (isN (pK y1 y5)) (some (y1, some y5)))))
  else
  f_X0_node_19 y1)))))
noncomputable def f_X2_name (h : HP) (x0 : Nat) : Option (Int) :=
  gd (pK h x0 = 2) (some (pI h x0 2))
noncomputable def f_X6_name (h : HP) (x0 : Nat) : Option (Int) :=
  some 1
noncomputable def v_name (h : HP) (x0 : Nat) : Option (Int) := if pK h x0 = 3 then f_X6_name h x0 else f_X2_name h x0
noncomputable def f_X0_name (h : HP) (x0 : Nat) (x1 : Int) : Option (HP × Int) :=
  gd (pK h x0 = 1) (Option.bind (f_X0_node h x0 x1) (fun y1 =>
  nl y1.2 (some (y1.1, (-1))) (fun a2 =>
  gd (isN (pK y1.1 a2)) (Option.bind (v_name y1.1 a2) (fun y3 =>
  some (y1.1, y3))))))
noncomputable def f_X0_parent_17 (h : HP) : Option (HP × Int) :=
  some (h, (-1))
noncomputable def f_X0_parent (h : HP) (x0 : Nat) (x1 : Int) : Option (HP × Int) :=
  gd (pK h x0 = 1) (Option.bind (f_X0_node h x0 x1) (fun y1 =>
  nl y1.2 (f_X0_parent_17 y1.1) (fun a2 =>
  gd (isN (pK y1.1 a2)) (nl (pP y1.1 a2 0) (f_X0_parent_17 y1.1) (fun a3 =>
  gd (isN (pK y1.1 a2)) (Option.bind (pP y1.1 a2 0) (fun a4 =>
  gd (pK y1.1 a4 = 2) (some (y1.1, pI y1.1 a4 1)))))))))
noncomputable def f_X2_classes (h : HP) (x0 : Nat) : Option (Int) :=
  gd (pK h x0 = 2) (some (pI h x0 3))
noncomputable def f_X6_classes (h : HP) (x0 : Nat) : Option (Int) :=
  some 0
noncomputable def v_classes (h : HP) (x0 : Nat) : Option (Int) := if pK h x0 = 3 then f_X6_classes h x0 else f_X2_classes h x0
noncomputable def f_X0_classes (h : HP) (x0 : Nat) (x1 : Int) : Option (HP × Int) :=
  gd (pK h x0 = 1) (Option.bind (f_X0_node h x0 x1) (fun y1 =>
  nl y1.2 (some (y1.1, (-1))) (fun a2 =>
  gd (isN (pK y1.1 a2)) (Option.bind (v_classes y1.1 a2) (fun y3 =>
  some (y1.1, y3))))))
noncomputable def f_X0_text (h : HP) (x0 : Nat) (x1 : Int) : Option (HP × Option Nat) :=
  gd (pK h x0 = 1) (Option.bind (f_X0_node h x0 x1) (fun y1 =>
  gd (okC y1.1 y1.2 0) (if zI (kiso y1.1 y1.2 3) = zI 0 then
  some (y1.1, none)
  else
  gd (okC y1.1 y1.2 3) (some (y1.1, y1.2)))))
noncomputable def f_X0_letter_25 (h : HP) : Option (HP × Int) :=
  some (h, (-1))
noncomputable def f_X0_letter (h : HP) (x0 : Nat) (x1 : Int) (x2 : Int) : Option (HP × Int) :=
  gd (pK h x0 = 1) (Option.bind (f_X0_text h x0 x1) (fun y1 =>
  nl y1.2 (f_X0_letter_25 y1.1) (fun a2 =>
  if zI x2 < zI 0 then
  f_X0_letter_25 y1.1
  else
  gd (pK y1.1 a2 = 3) (Option.bind (pP y1.1 a2 2) (fun a3 =>
  Option.bind (sLen y1.1 a3) (fun y4 =>
  if zI x2 < zI y4 then
  gd (pK y1.1 a2 = 3) (Option.bind (pP y1.1 a2 2) (fun a5 =>
  Option.bind (sAt y1.1 a5 x2) (fun y6 =>
  some (y1.1, y6))))
  else
  f_X0_letter_25 y1.1))))))
noncomputable def f_X0_open (h : HP) (x0 : Nat) : Option (Int) :=
  gd (pK h x0 = 1) (if zI (pI h x0 7) = zI 0 then
  gd (pK h x0 = 1) (Option.bind (pP h x0 5) (fun a1 =>
  Option.bind (lLen h a1) (fun y2 =>
  some y2)))
  else
  some (-1))
noncomputable def f_X0_rules (h : HP) (x0 : Nat) : Option (Int) :=
  gd (pK h x0 = 1) (Option.bind (pP h x0 14) (fun a1 =>
  gd (pK h a1 = 4) (Option.bind (pP h a1 0) (fun a2 =>
  Option.bind (lLen h a2) (fun y3 =>
  some y3)))))
noncomputable def f_X0_inner (h : HP) (x0 : Nat) (x1 : Int) : Option (HP × Option Nat) :=
  gd (pK h x0 = 1) (Option.bind (f_X0_node h x0 x1) (fun y1 =>
  gd (okC y1.1 y1.2 0) (if zI (kiso y1.1 y1.2 2) = zI 0 then
  some (y1.1, none)
  else
  gd (okC y1.1 y1.2 2) (some (y1.1, y1.2)))))
noncomputable def f_X0_value_32 (h : HP) : Option (HP × Int) :=
  some (h, (-1))
noncomputable def f_X0_value (h : HP) (x0 : Nat) (x1 : Int) (x2 : Int) : Option (HP × Int) :=
  gd (pK h x0 = 1) (Option.bind (f_X0_inner h x0 x1) (fun y1 =>
  gd (7 < 11) (Option.bind (f_J6_indexOf y1.1 7 x2) (fun y2 =>
  nl y1.2 (f_X0_value_32 y1.1) (fun a3 =>
  gd (pK y1.1 x0 = 1) (if some a3 = pP y1.1 x0 0 then
  f_X0_value_32 y1.1
  else
  if zI y2 < zI 0 then
  f_X0_value_32 y1.1
  else
  gd (pK y1.1 a3 = 2) (Option.bind (pP y1.1 a3 7) (fun a4 =>
  gd (isI (pK y1.1 a4)) (gd (zin y2 (pN y1.1 a4)) (some (y1.1, pI y1.1 a4 (zix y2))))))))))))
noncomputable def f_X0_box_16 (h : HP) (x2 : Int) (t0 : Option Nat) : Option (HP × Int) :=
  nl t0 (some (h, (-1))) (fun a1 =>
  gd (pK h a1 = 2) (Option.bind (f_X2_box h a1) (fun y2 =>
  if zI y2 = zI 0 then
  some (h, (-1))
  else
  if zI x2 = zI 0 then
  gd (pK h a1 = 2) (some (h, pI h a1 9))
  else
  if zI x2 = zI 1 then
  gd (pK h a1 = 2) (some (h, pI h a1 10))
  else
  if zI x2 = zI 2 then
  gd (pK h a1 = 2) (some (h, pI h a1 11))
  else
  if zI x2 = zI 3 then
  gd (pK h a1 = 2) (some (h, pI h a1 12))
  else
  some (h, (-1)))))
noncomputable def f_X0_box (h : HP) (x0 : Nat) (x1 : Int) (x2 : Int) : Option (HP × Int) :=
  gd (pK h x0 = 1) (if zI 0 < zI (pI h x0 17) then
  gd (pK h x0 = 1) (Option.bind (f_X0_inner h x0 x1) (fun y1 =>
  f_X0_box_16 y1.1 x2 y1.2))
  else
  f_X0_box_16 h x2 none)
noncomputable def f_X0_place_36 (h : HP) : Option (HP × Int) :=
  some (h, (-1))
noncomputable def f_X0_place_16 (h : HP) (x2 : Int) (t0 : Option Nat) : Option (HP × Int) :=
  nl t0 (f_X0_place_36 h) (fun a1 =>
  if zI x2 < zI 0 then
  f_X0_place_36 h
  else
  gd (pK h a1 = 3) (Option.bind (pP h a1 2) (fun a2 =>
  Option.bind (sLen h a2) (fun y3 =>
  if zI x2 < zI y3 then
  gd (pK h a1 = 3) (Option.bind (pP h a1 3) (fun a4 =>
  gd (isI (pK h a4)) (gd (zin x2 (pN h a4)) (some (h, pI h a4 (zix x2))))))
  else
  f_X0_place_36 h))))
noncomputable def f_X0_place (h : HP) (x0 : Nat) (x1 : Int) (x2 : Int) : Option (HP × Int) :=
  gd (pK h x0 = 1) (if zI 0 < zI (pI h x0 17) then
  gd (pK h x0 = 1) (Option.bind (f_X0_text h x0 x1) (fun y1 =>
  f_X0_place_16 y1.1 x2 y1.2))
  else
  f_X0_place_16 h x2 none)
noncomputable def f_X0_lines (h : HP) (x0 : Nat) : Option (Int) :=
  gd (pK h x0 = 1) (if zI 0 < zI (pI h x0 17) then
  gd (pK h x0 = 1) (Option.bind (pP h x0 18) (fun a1 =>
  gd (pK h a1 = 5) (some (pI h a1 3))))
  else
  some (-1))
noncomputable def f_X0_pixel_22 (h : HP) : Option (Int) :=
  some (-1)
noncomputable def f_X0_pixel (h : HP) (x0 : Nat) (x1 : Int) (x2 : Int) : Option (Int) :=
  if zI x1 < zI 0 then
  f_X0_pixel_22 h
  else
  gd (pK h x0 = 1) (if zI x1 < zI (pI h x0 17) then
  if zI x2 < zI 0 then
  f_X0_pixel_22 h
  else
  if zI x2 < zI 64 then
  gd (pK h x0 = 1) (Option.bind (pP h x0 19) (fun a1 =>
  gd (pK h a1 = 45) (gd (zin ((64 * x2) + x1) (pN h a1)) (some (pI h a1 (zix ((64 * x2) + x1)))))))
  else
  f_X0_pixel_22 h
  else
  f_X0_pixel_22 h)
