set_option maxRecDepth 100000
noncomputable def m_reset (M : MS) : Option (MS) :=
  bnd (sI M 4 0) (fun M1 =>
  bnd (sI M1 5 1) (fun M2 =>
  gd (zin 0 40) (bnd (sA M2 6 (zix 0) 0) (fun M3 =>
  bnd (sI M3 7 1) (fun M4 =>
  gd (zin 0 40) (bnd (sA M4 8 (zix 0) 0) (fun M5 =>
  gd (zin 0 40) (bnd (sA M5 9 (zix 0) 0) (fun M6 =>
  gd (zin 0 40) (bnd (sA M6 10 (zix 0) 0) (fun M7 =>
  gd (zin 0 40) (bnd (sA M7 12 (zix 0) 0) (fun M8 =>
  bnd (sI M8 13 1) (fun M9 =>
  bnd (sI M9 16 0) (fun M10 =>
  bnd (sI M10 17 0) (fun M11 =>
  some M11))))))))))))))))
noncomputable def m_peek (M : MS) (x1 : Int) : Option (Int) :=
  if zI x1 < zI (M.1 0) then
  gd (zin x1 160) (some (M.2 1 (zix x1)))
  else
  some (-1)
noncomputable def m_small (x0 : Int) : Option (Int) :=
  if zI x0 < zI 97 then
  some 0
  else
  if zI 122 < zI x0 then
  some 0
  else
  some 1
noncomputable def m_closed_2s (M : MS) (x2 : Int) : Option ((Int) ⊕ (Int)) :=
  if zI x2 < zI (M.1 0) then
  gd (zin x2 160) (if zI (M.2 1 (zix x2)) = zI 62 then
  some (.inr x2)
  else
  some (.inl (x2 + 1)))
  else
  some (.inr (-1))
noncomputable def m_closed_2 (M : MS) (x2 : Int) : Option (Int) :=
  iter (fun (z : Int) => m_closed_2s M z) (x2)
noncomputable def m_closed (M : MS) (x1 : Int) : Option (Int) :=
  m_closed_2 M x1
noncomputable def m_capital (x0 : Int) : Option (Int) :=
  if zI x0 < zI 65 then
  some 0
  else
  if zI 90 < zI x0 then
  some 0
  else
  some 1
noncomputable def m_bit (x0 : Int) : Option (Int) :=
  Option.bind (m_small x0) (fun y1 =>
  if zI y1 = zI 0 then
  some 0
  else
  some (zshl 1 (x0 - 97)))
noncomputable def m_topmost_32 (M : MS) (x1 x3 t0 : Int) : Option ((Int × Int) ⊕ (Int)) :=
  some (.inl (t0, x3 + 1))
noncomputable def m_topmost_4s (M : MS) (x1 x2 x3 : Int) : Option ((Int × Int) ⊕ (Int)) :=
  if zI x3 < zI (M.1 13) then
  gd (zin x3 40) (gd (zin (M.2 12 (zix x3)) 40) (if zI (M.2 8 (zix (M.2 12 (zix x3)))) = zI x1 then
  m_topmost_32 M x1 x3 x3
  else
  m_topmost_32 M x1 x3 x2))
  else
  some (.inr x2)
noncomputable def m_topmost_4 (M : MS) (x1 x2 x3 : Int) : Option (Int) :=
  iter (fun (z : Int × Int) => m_topmost_4s M x1 z.1 z.2) (x2, x3)
noncomputable def m_topmost (M : MS) (x1 : Int) : Option (Int) :=
  m_topmost_4 M x1 (-1) 1
noncomputable def m_named (M : MS) (x1 x2 : Int) : Option (Int) :=
  gd (zin x1 40) (Option.bind (m_bit (M.2 8 (zix x1))) (fun y1 =>
  if zI (zand y1 x2) = zI 0 then
  some 0
  else
  some 1))
noncomputable def m_above_40 (M : MS) (x2 x4 t0 : Int) : Option ((Int × Int) ⊕ (Int)) :=
  some (.inl (t0, x4 + 1))
noncomputable def m_above_35 (M : MS) (x2 x4 : Int) : Option ((Int × Int) ⊕ (Int)) :=
  m_above_40 M x2 x4 1
noncomputable def m_above_7s (M : MS) (x2 x3 x4 : Int) : Option ((Int × Int) ⊕ (Int)) :=
  if zI x4 < zI (M.1 13) then
  if zI x3 = zI 0 then
  gd (zin x4 40) (Option.bind (m_named M (M.2 12 (zix x4)) x2) (fun y2 =>
  if zI y2 = zI 0 then
  m_above_40 M x2 x4 0
  else
  m_above_35 M x2 x4))
  else
  m_above_35 M x2 x4
  else
  gd (zisB x3) (some (.inr x3))
noncomputable def m_above_7 (M : MS) (x2 x3 x4 : Int) : Option (Int) :=
  iter (fun (z : Int × Int) => m_above_7s M x2 z.1 z.2) (x3, x4)
noncomputable def m_above (M : MS) (x1 x2 : Int) : Option (Int) :=
  bnd (x1 + 1) (fun y1 =>
  m_above_7 M x2 0 y1)
noncomputable def m_reach (M : MS) (x1 x2 : Int) : Option (Int) :=
  Option.bind (m_topmost M x1) (fun y1 =>
  if zI y1 < zI 0 then
  some 0
  else
  Option.bind (m_above M y1 x2) (fun y2 =>
  if zI y2 = zI 0 then
  some 1
  else
  some 0))
noncomputable def m_seat_27 (M : MS) (x1 x3 t0 : Int) : Option ((Int × Int) ⊕ (Int)) :=
  some (.inl (t0, x3 + 1))
noncomputable def m_seat_4s (M : MS) (x1 x2 x3 : Int) : Option ((Int × Int) ⊕ (Int)) :=
  if zI x3 < zI (M.1 5) then
  gd (zin x3 40) (if zI (M.2 6 (zix x3)) = zI x1 then
  m_seat_27 M x1 x3 x3
  else
  m_seat_27 M x1 x3 x2)
  else
  some (.inr x2)
noncomputable def m_seat_4 (M : MS) (x1 x2 x3 : Int) : Option (Int) :=
  iter (fun (z : Int × Int) => m_seat_4s M x1 z.1 z.2) (x2, x3)
noncomputable def m_seat (M : MS) (x1 : Int) : Option (Int) :=
  m_seat_4 M x1 0 0
noncomputable def m_behind_4s (M : MS) (x1 x2 : Int) : Option ((Int) ⊕ (Int)) :=
  if zI x2 < zI (M.1 5) then
  gd (zin x2 40) (gd (zin (M.2 6 (zix x2)) 40) (gd (zin x1 40) (gd (zin (M.2 6 (zix x1)) 40) (if zI (M.2 10 (zix (M.2 6 (zix x1)))) < zI (M.2 10 (zix (M.2 6 (zix x2)))) then
  some (.inl (x2 + 1))
  else
  some (.inr x2)))))
  else
  some (.inr x2)
noncomputable def m_behind_4 (M : MS) (x1 x2 : Int) : Option (Int) :=
  iter (fun (z : Int) => m_behind_4s M x1 z) (x2)
noncomputable def m_behind (M : MS) (x1 : Int) : Option (Int) :=
  bnd (x1 + 1) (fun y1 =>
  m_behind_4 M x1 y1)
noncomputable def m_insideTop (M : MS) (x1 : Int) : Option (MS) :=
  Option.bind (m_seat M x1) (fun y1 =>
  Option.bind (m_behind M y1) (fun y2 =>
  bnd (sI M 20 y2) (fun M3 =>
  gd (zin x1 40) (bnd (sI M3 21 ((M3.2 10 (zix x1)) + 1)) (fun M4 =>
  some M4)))))
noncomputable def m_create_49 (M : MS) (x1 x2 : Int) : Option (MS × Int) :=
  gd (zin (M.1 20) 40) (bnd (sA M 6 (zix (M.1 20)) (M.1 7)) (fun M4 =>
  bnd (sI M4 5 ((M4.1 5) + 1)) (fun M5 =>
  gd (zin (M5.1 7) 40) (bnd (sA M5 8 (zix (M5.1 7)) x1) (fun M6 =>
  gd (zin (M6.1 7) 40) (bnd (sA M6 9 (zix (M6.1 7)) x2) (fun M7 =>
  gd (zin (M7.1 7) 40) (bnd (sA M7 10 (zix (M7.1 7)) (M7.1 21)) (fun M8 =>
  bnd (sI M8 7 ((M8.1 7) + 1)) (fun M9 =>
  some (M9, (M9.1 7) - 1)))))))))))
noncomputable def m_create_21s (M : MS) (x1 x2 x3 : Int) : Option ((MS × Int) ⊕ (MS × Int)) :=
  if zI (M.1 20) < zI x3 then
  gd (zin (x3 - 1) 40) (gd (zin x3 40) (bnd (sA M 6 (zix x3) (M.2 6 (zix (x3 - 1)))) (fun M3 =>
  some (.inl (M3, x3 + (-1))))))
  else
  mr (m_create_49 M x1 x2)
noncomputable def m_create_21 (M : MS) (x1 x2 x3 : Int) : Option (MS × Int) :=
  iter (fun (z : MS × Int) => m_create_21s z.1 x1 x2 z.2) (M, x3)
noncomputable def m_create (M : MS) (x1 x2 : Int) : Option (MS × Int) :=
  if zI (M.1 7) = zI 24 then
  bnd (sI M 4 1) (fun M1 =>
  some (M1, 0))
  else
  bnd (M.1 5) (fun y2 =>
  m_create_21 M x1 x2 y2)
noncomputable def m_push (M : MS) (x1 : Int) : Option (MS) :=
  if zI (M.1 4) = zI 0 then
  gd (zin (M.1 13) 40) (bnd (sA M 12 (zix (M.1 13)) x1) (fun M1 =>
  bnd (sI M1 13 ((M1.1 13) + 1)) (fun M2 =>
  some M2)))
  else
  some M
noncomputable def m_listOwner (M : MS) : Option (Int) :=
  Option.bind (m_topmost M 99) (fun y1 =>
  if zI y1 < zI 0 then
  some 0
  else
  gd (zin y1 40) (some (M.2 12 (zix y1))))
noncomputable def m_opened_27 (M : MS) (x1 x3 t0 : Int) : Option ((Int × Int) ⊕ (Int)) :=
  some (.inl (t0, x3 + 1))
noncomputable def m_opened_4s (M : MS) (x1 x2 x3 : Int) : Option ((Int × Int) ⊕ (Int)) :=
  if zI x3 < zI (M.1 13) then
  gd (zin x3 40) (if zI (M.2 12 (zix x3)) = zI x1 then
  m_opened_27 M x1 x3 x3
  else
  m_opened_27 M x1 x3 x2)
  else
  some (.inr x2)
noncomputable def m_opened_4 (M : MS) (x1 x2 x3 : Int) : Option (Int) :=
  iter (fun (z : Int × Int) => m_opened_4s M x1 z.1 z.2) (x2, x3)
noncomputable def m_opened (M : MS) (x1 : Int) : Option (Int) :=
  m_opened_4 M x1 (-1) 0
noncomputable def m_findPlace_47 (M : MS) (x1 x2 x4 t0 : Int) : Option ((Int × Int) ⊕ (MS)) :=
  some (.inl (t0, x4 + 1))
noncomputable def m_findPlace_90 (M : MS) (x2 : Int) : Option (MS) :=
  Option.bind (m_insideTop M x2) (fun y4 =>
  some y4)
noncomputable def m_findPlace_54 (M : MS) (x2 x3 : Int) : Option (MS) :=
  Option.bind (m_named M x2 655360) (fun y3 =>
  if zI y3 = zI 0 then
  m_findPlace_90 M x2
  else
  if zI x3 < zI 0 then
  m_findPlace_90 M x2
  else
  Option.bind (m_seat M x3) (fun y4 =>
  bnd (sI M 20 y4) (fun M5 =>
  gd (zin x3 40) (bnd (sI M5 21 (M5.2 10 (zix x3))) (fun M6 =>
  some M6)))))
noncomputable def m_findPlace_14s (M : MS) (x1 x2 x3 x4 : Int) : Option ((Int × Int) ⊕ (MS)) :=
  if zI x4 < zI x1 then
  gd (zin x4 40) (Option.bind (m_named M (M.2 12 (zix x4)) 524288) (fun y2 =>
  if zI y2 = zI 0 then
  m_findPlace_47 M x1 x2 x4 x3
  else
  gd (zin x4 40) (m_findPlace_47 M x1 x2 x4 (M.2 12 (zix x4)))))
  else
  mr (m_findPlace_54 M x2 x3)
noncomputable def m_findPlace_14 (M : MS) (x1 x2 x3 x4 : Int) : Option (MS) :=
  iter (fun (z : Int × Int) => m_findPlace_14s M x1 x2 z.1 z.2) (x3, x4)
noncomputable def m_findPlace (M : MS) (x1 : Int) : Option (MS) :=
  gd (zin (x1 - 1) 40) (bnd (M.2 12 (zix (x1 - 1))) (fun y1 =>
  m_findPlace_14 M x1 y1 (-1) 1))
noncomputable def m_renew_44 (M : MS) (x1 x2 x3 : Int) : Option ((Int × Int) ⊕ (MS)) :=
  some (.inl (x2, x3 + 1))
noncomputable def m_renew_127 (M : MS) (x1 x3 : Int) : Option ((MS × Int) ⊕ (MS)) :=
  some (.inl (M, x3 + 1))
noncomputable def m_renew_52s (M : MS) (x1 x3 : Int) : Option ((MS × Int) ⊕ (MS)) :=
  if zI x3 < zI (M.1 16) then
  if zI (M.1 4) = zI 0 then
  gd (zin x3 40) (if zI (M.2 15 (zix x3)) = zI x1 then
  Option.bind (m_findPlace M (M.1 13)) (fun y4 =>
  gd (zin x3 40) (gd (zin (y4.2 14 (zix x3)) 40) (gd (zin x3 40) (gd (zin (y4.2 14 (zix x3)) 40) (Option.bind (m_create y4 (y4.2 8 (zix (y4.2 14 (zix x3)))) (y4.2 9 (zix (y4.2 14 (zix x3))))) (fun y5 =>
  Option.bind (m_push y5.1 y5.2) (fun y6 =>
  gd (zin x3 40) (bnd (sA y6 14 (zix x3) y5.2) (fun M7 =>
  m_renew_127 M7 x1 x3)))))))))
  else
  m_renew_127 M x1 x3)
  else
  some (.inr M)
  else
  some (.inr M)
noncomputable def m_renew_52 (M : MS) (x1 x3 : Int) : Option (MS) :=
  iter (fun (z : MS × Int) => m_renew_52s z.1 x1 z.2) (M, x3)
noncomputable def m_renew_50 (M : MS) (x1 x2 : Int) : Option (MS) :=
  m_renew_52 M x1 x2
noncomputable def m_renew_9s (M : MS) (x1 x2 x3 : Int) : Option ((Int × Int) ⊕ (MS)) :=
  if zI x3 < zI (M.1 16) then
  gd (zin x3 40) (if zI (M.2 15 (zix x3)) = zI x1 then
  gd (zin x3 40) (Option.bind (m_opened M (M.2 14 (zix x3))) (fun y2 =>
  if zI y2 < zI 0 then
  m_renew_44 M x1 x2 x3
  else
  bnd (x3 + 1) (fun y3 =>
  m_renew_44 M x1 y3 x3)))
  else
  m_renew_44 M x1 x2 x3)
  else
  mr (m_renew_50 M x1 x2)
noncomputable def m_renew_9 (M : MS) (x1 x2 x3 : Int) : Option (MS) :=
  iter (fun (z : Int × Int) => m_renew_9s M x1 z.1 z.2) (x2, x3)
noncomputable def m_renew (M : MS) : Option (MS) :=
  Option.bind (m_listOwner M) (fun y1 =>
  m_renew_9 M y1 0 0)
noncomputable def m_clearWay_181 (M : MS) : Option (MS × Int) :=
  if zI (M.1 4) = zI 0 then
  some (M, 1)
  else
  some (M, 0)
noncomputable def m_clearWay_136 (M : MS) (x3 x4 t0 : Int) : Option (MS × Int) :=
  bnd (sI M 13 t0) (fun M8 =>
  if zI x3 < zI x4 then
  m_clearWay_181 M8
  else
  gd (zin x3 40) (Option.bind (m_insideTop M8 (M8.2 12 (zix x3))) (fun y9 =>
  Option.bind (m_create y9 114 0) (fun y10 =>
  Option.bind (m_push y10.1 y10.2) (fun y11 =>
  m_clearWay_181 y11)))))
noncomputable def m_clearWay_47 (M : MS) (x1 x2 x3 : Int) : Option (MS × Int) :=
  if zI x1 = zI 108 then
  Option.bind (m_reach M 108 1048580) (fun y3 =>
  if zI y3 = zI 0 then
  m_clearWay_181 M
  else
  Option.bind (m_topmost M 108) (fun y4 =>
  bnd (sI M 13 y4) (fun M5 =>
  m_clearWay_181 M5)))
  else
  if zI x1 = zI 114 then
  if zI x3 < zI 0 then
  some (M, 0)
  else
  bnd (sI M 13 (x3 + 1)) (fun M6 =>
  m_clearWay_181 M6)
  else
  if zI x1 = zI 99 then
  if zI x3 < zI 0 then
  some (M, 0)
  else
  Option.bind (m_topmost M 114) (fun y7 =>
  if zI x3 < zI y7 then
  m_clearWay_136 M x3 y7 (y7 + 1)
  else
  m_clearWay_136 M x3 y7 (x3 + 1))
  else
  if zI x2 = zI 0 then
  Option.bind (m_renew M) (fun y8 =>
  m_clearWay_181 y8)
  else
  m_clearWay_181 M
noncomputable def m_clearWay_15 (M : MS) (x1 t0 : Int) : Option (MS × Int) :=
  Option.bind (m_topmost M 116) (fun y2 =>
  if zI t0 = zI 0 then
  m_clearWay_47 M x1 t0 y2
  else
  Option.bind (m_reach M 112 4) (fun y3 =>
  if zI y3 = zI 0 then
  m_clearWay_47 M x1 t0 y2
  else
  Option.bind (m_topmost M 112) (fun y4 =>
  bnd (sI M 13 y4) (fun M5 =>
  m_clearWay_47 M5 x1 t0 y2))))
noncomputable def m_clearWay (M : MS) (x1 : Int) : Option (MS × Int) :=
  Option.bind (m_bit x1) (fun y1 =>
  if zI (zand y1 1607816) = zI 0 then
  m_clearWay_15 M x1 0
  else
  m_clearWay_15 M x1 1)
noncomputable def m_dropEntry_12s (M : MS) (x2 : Int) : Option ((MS × Int) ⊕ (MS)) :=
  if zI x2 < zI (M.1 16) then
  gd (zin (x2 + 1) 40) (gd (zin x2 40) (bnd (sA M 14 (zix x2) (M.2 14 (zix (x2 + 1)))) (fun M2 =>
  gd (zin (x2 + 1) 40) (gd (zin x2 40) (bnd (sA M2 15 (zix x2) (M2.2 15 (zix (x2 + 1)))) (fun M3 =>
  some (.inl (M3, x2 + 1))))))))
  else
  some (.inr M)
noncomputable def m_dropEntry_12 (M : MS) (x2 : Int) : Option (MS) :=
  iter (fun (z : MS × Int) => m_dropEntry_12s z.1 z.2) (M, x2)
noncomputable def m_dropEntry (M : MS) (x1 : Int) : Option (MS) :=
  bnd (sI M 16 ((M.1 16) - 1)) (fun M1 =>
  m_dropEntry_12 M1 x1)
noncomputable def m_list_74 (M : MS) (x1 x2 : Int) : Option (MS) :=
  gd (zin (M.1 16) 40) (bnd (sA M 14 (zix (M.1 16)) x1) (fun M3 =>
  gd (zin (M3.1 16) 40) (bnd (sA M3 15 (zix (M3.1 16)) x2) (fun M4 =>
  bnd (sI M4 16 ((M4.1 16) + 1)) (fun M5 =>
  some M5)))))
noncomputable def m_list_63 (M : MS) (x1 x2 x3 x4 : Int) : Option (MS) :=
  if zI x4 = zI 4 then
  Option.bind (m_dropEntry M x3) (fun y2 =>
  m_list_74 y2 x1 x2)
  else
  m_list_74 M x1 x2
noncomputable def m_list_54 (M : MS) (x1 x2 x3 x5 t0 t1 : Int) : Option ((Int × Int × Int) ⊕ (MS)) :=
  bnd (t1 + t0) (fun y2 =>
  some (.inl (x3, y2, x5 + (-1))))
noncomputable def m_list_35 (M : MS) (x1 x2 x4 x5 t0 : Int) : Option ((Int × Int × Int) ⊕ (MS)) :=
  gd (zin x5 40) (if zI (M.2 15 (zix x5)) = zI x2 then
  m_list_54 M x1 x2 t0 x5 1 x4
  else
  m_list_54 M x1 x2 t0 x5 0 x4)
noncomputable def m_list_13s (M : MS) (x1 x2 x3 x4 x5 : Int) : Option ((Int × Int × Int) ⊕ (MS)) :=
  if zI x5 < zI 0 then
  mr (m_list_63 M x1 x2 x3 x4)
  else
  gd (zin x5 40) (if zI (M.2 15 (zix x5)) = zI x2 then
  m_list_35 M x1 x2 x4 x5 x5
  else
  m_list_35 M x1 x2 x4 x5 x3)
noncomputable def m_list_13 (M : MS) (x1 x2 x3 x4 x5 : Int) : Option (MS) :=
  iter (fun (z : Int × Int × Int) => m_list_13s M x1 x2 z.1 z.2.1 z.2.2) (x3, x4, x5)
noncomputable def m_list (M : MS) (x1 x2 : Int) : Option (MS) :=
  bnd ((M.1 16) - 1) (fun y1 =>
  m_list_13 M x1 x2 (-1) 0 y1)
noncomputable def m_start_86 (M : MS) (x1 x3 x4 : Int) : Option (MS) :=
  Option.bind (m_bit x1) (fun y5 =>
  if zI (zand y5 262402) = zI 0 then
  some M
  else
  Option.bind (m_list M x4 x3) (fun y6 =>
  some y6))
noncomputable def m_start_47 (M : MS) (x1 x2 : Int) : Option (MS) :=
  Option.bind (m_listOwner M) (fun y3 =>
  Option.bind (m_create M x1 x2) (fun y4 =>
  if zI (y4.1.1 4) = zI 0 then
  if zI x1 = zI 104 then
  m_start_86 y4.1 x1 y3 y4.2
  else
  if zI x1 = zI 107 then
  m_start_86 y4.1 x1 y3 y4.2
  else
  Option.bind (m_push y4.1 y4.2) (fun y5 =>
  m_start_86 y5 x1 y3 y4.2)
  else
  some y4.1))
noncomputable def m_start_21 (M : MS) (x1 x2 : Int) : Option (MS) :=
  gd (zin ((M.1 13) - 1) 40) (Option.bind (m_insideTop M (M.2 12 (zix ((M.1 13) - 1)))) (fun y2 =>
  m_start_47 y2 x1 x2))
noncomputable def m_start (M : MS) (x1 x2 : Int) : Option (MS) :=
  Option.bind (m_clearWay M x1) (fun y1 =>
  if zI y1.2 = zI 0 then
  some y1.1
  else
  if zI x1 = zI 114 then
  m_start_21 y1.1 x1 x2
  else
  if zI x1 = zI 99 then
  m_start_21 y1.1 x1 x2
  else
  Option.bind (m_findPlace y1.1 (y1.1.1 13)) (fun y2 =>
  m_start_47 y2 x1 x2))
noncomputable def m_adopt_268 (M : MS) (x1 x2 x3 x4 x6 x7 x8 x9 t0 t1 t2 : Int) : Option ((MS × Int) ⊕ (MS)) :=
  gd (zin t2 40) (bnd (sA M 10 (zix t2) (t1 + t0)) (fun M17 =>
  some (.inl (M17, x9 + 1))))
noncomputable def m_adopt_312 (M : MS) (x1 x2 x3 x4 x8 : Int) : Option (MS) :=
  bnd (sI M 13 ((M.1 13) - (x3 - x1))) (fun M18 =>
  bnd (sI M18 20 (x8 + 1)) (fun M19 =>
  gd (zin x4 40) (bnd (sI M19 21 ((M19.2 10 (zix x4)) + 1)) (fun M20 =>
  gd (zin x2 40) (gd (zin x2 40) (Option.bind (m_create M20 (M20.2 8 (zix x2)) (M20.2 9 (zix x2))) (fun y21 =>
  gd (zin 0 40) (bnd (sA y21.1 11 (zix 0) y21.2) (fun M22 =>
  some M22)))))))))
noncomputable def m_adopt_279s (M : MS) (x1 x2 x3 x4 x8 x9 : Int) : Option ((MS × Int) ⊕ (MS)) :=
  if zI x9 < zI (M.1 13) then
  gd (zin x9 40) (gd (zin ((x1 + x9) - x3) 40) (bnd (sA M 12 (zix ((x1 + x9) - x3)) (M.2 12 (zix x9))) (fun M17 =>
  some (.inl (M17, x9 + 1)))))
  else
  mr (m_adopt_312 M x1 x2 x3 x4 x8)
noncomputable def m_adopt_279 (M : MS) (x1 x2 x3 x4 x8 x9 : Int) : Option (MS) :=
  iter (fun (z : MS × Int) => m_adopt_279s z.1 x1 x2 x3 x4 x8 z.2) (M, x9)
noncomputable def m_adopt_276 (M : MS) (x1 x2 x3 x4 x8 : Int) : Option (MS) :=
  m_adopt_279 M x1 x2 x3 x4 x8 x3
noncomputable def m_adopt_217s (M : MS) (x1 x2 x3 x4 x6 x7 x8 x9 : Int) : Option ((MS × Int) ⊕ (MS)) :=
  if zI x9 < zI x6 then
  gd (zin x9 40) (gd (zin (x8 + x9) 40) (bnd (sA M 6 (zix (x8 + x9)) (M.2 11 (zix x9))) (fun M15 =>
  gd (zin x9 40) (bnd (M15.2 11 (zix x9)) (fun y16 =>
  gd (zin y16 40) (if zI x9 = zI 0 then
  m_adopt_268 M15 x1 x2 x3 x4 x6 x7 x8 x9 x7 (M15.2 10 (zix y16)) y16
  else
  m_adopt_268 M15 x1 x2 x3 x4 x6 x7 x8 x9 (x7 + 1) (M15.2 10 (zix y16)) y16))))))
  else
  mr (m_adopt_276 M x1 x2 x3 x4 x8)
noncomputable def m_adopt_217 (M : MS) (x1 x2 x3 x4 x6 x7 x8 x9 : Int) : Option (MS) :=
  iter (fun (z : MS × Int) => m_adopt_217s z.1 x1 x2 x3 x4 x6 x7 x8 z.2) (M, x9)
noncomputable def m_adopt_203 (M : MS) (x1 x2 x3 x4 x6 x7 x8 : Int) : Option (MS) :=
  bnd (sI M 5 ((M.1 5) + x6)) (fun M14 =>
  m_adopt_217 M14 x1 x2 x3 x4 x6 x7 x8 0)
noncomputable def m_adopt_173s (M : MS) (x1 x2 x3 x4 x6 x7 x8 x9 : Int) : Option ((MS × Int) ⊕ (MS)) :=
  if zI x9 < zI x8 then
  mr (m_adopt_203 M x1 x2 x3 x4 x6 x7 x8)
  else
  gd (zin x9 40) (gd (zin (x9 + x6) 40) (bnd (sA M 6 (zix (x9 + x6)) (M.2 6 (zix x9))) (fun M14 =>
  some (.inl (M14, x9 + (-1))))))
noncomputable def m_adopt_173 (M : MS) (x1 x2 x3 x4 x6 x7 x8 x9 : Int) : Option (MS) :=
  iter (fun (z : MS × Int) => m_adopt_173s z.1 x1 x2 x3 x4 x6 x7 x8 z.2) (M, x9)
noncomputable def m_adopt_140 (M : MS) (x1 x2 x3 x4 x6 : Int) : Option (MS) :=
  Option.bind (m_findPlace M x1) (fun y10 =>
  gd (zin x4 40) (bnd ((y10.1 21) - (y10.2 10 (zix x4))) (fun y11 =>
  bnd (y10.1 20) (fun y12 =>
  bnd ((y10.1 5) - 1) (fun y13 =>
  m_adopt_173 y10 x1 x2 x3 x4 x6 y11 y12 y13)))))
noncomputable def m_adopt_108s (M : MS) (x1 x2 x3 x4 x6 x7 : Int) : Option ((MS × Int) ⊕ (MS)) :=
  if zI x7 < zI (M.1 5) then
  gd (zin (x7 + x6) 40) (gd (zin x7 40) (bnd (sA M 6 (zix x7) (M.2 6 (zix (x7 + x6)))) (fun M9 =>
  some (.inl (M9, x7 + 1)))))
  else
  mr (m_adopt_140 M x1 x2 x3 x4 x6)
noncomputable def m_adopt_108 (M : MS) (x1 x2 x3 x4 x6 x7 : Int) : Option (MS) :=
  iter (fun (z : MS × Int) => m_adopt_108s z.1 x1 x2 x3 x4 x6 z.2) (M, x7)
noncomputable def m_adopt_93 (M : MS) (x1 x2 x3 x4 x5 x6 : Int) : Option (MS) :=
  bnd (sI M 5 ((M.1 5) - x6)) (fun M8 =>
  m_adopt_108 M8 x1 x2 x3 x4 x6 x5)
noncomputable def m_adopt_63s (M : MS) (x1 x2 x3 x4 x5 x6 x7 : Int) : Option ((MS × Int) ⊕ (MS)) :=
  if zI x7 < zI x6 then
  gd (zin (x5 + x7) 40) (gd (zin x7 40) (bnd (sA M 11 (zix x7) (M.2 6 (zix (x5 + x7)))) (fun M7 =>
  some (.inl (M7, x7 + 1)))))
  else
  mr (m_adopt_93 M x1 x2 x3 x4 x5 x6)
noncomputable def m_adopt_63 (M : MS) (x1 x2 x3 x4 x5 x6 x7 : Int) : Option (MS) :=
  iter (fun (z : MS × Int) => m_adopt_63s z.1 x1 x2 x3 x4 x5 x6 z.2) (M, x7)
noncomputable def m_adopt_33 (M : MS) (x1 x2 x3 : Int) : Option (MS) :=
  gd (zin x3 40) (bnd (M.2 12 (zix x3)) (fun y3 =>
  Option.bind (m_seat M y3) (fun y4 =>
  Option.bind (m_behind M y4) (fun y5 =>
  bnd (y5 - y4) (fun y6 =>
  m_adopt_63 M x1 x2 x3 y3 y4 y6 0)))))
noncomputable def m_adopt_4s (M : MS) (x1 x2 x3 : Int) : Option ((Int) ⊕ (MS)) :=
  if zI x3 < zI (M.1 13) then
  gd (zin x3 40) (Option.bind (m_named M (M.2 12 (zix x3)) 1607816) (fun y2 =>
  if zI y2 = zI 0 then
  some (.inl (x3 + 1))
  else
  mr (m_adopt_33 M x1 x2 x3)))
  else
  mr (m_adopt_33 M x1 x2 x3)
noncomputable def m_adopt_4 (M : MS) (x1 x2 x3 : Int) : Option (MS) :=
  iter (fun (z : Int) => m_adopt_4s M x1 x2 z) (x3)
noncomputable def m_adopt (M : MS) (x1 x2 : Int) : Option (MS) :=
  bnd (x1 + 1) (fun y1 =>
  m_adopt_4 M x1 x2 y1)
noncomputable def m_endOther_65 (M : MS) (x1 x3 : Int) : Option (MS) :=
  if zI x3 < zI 0 then
  Option.bind (m_reach M x1 1738892) (fun y3 =>
  if zI y3 = zI 0 then
  some M
  else
  Option.bind (m_topmost M x1) (fun y4 =>
  bnd (sI M 13 y4) (fun M5 =>
  some M5)))
  else
  gd (zin x3 40) (Option.bind (m_opened M (M.2 14 (zix x3))) (fun y6 =>
  if zI y6 < zI 0 then
  Option.bind (m_dropEntry M x3) (fun y7 =>
  some y7)
  else
  Option.bind (m_above M y6 524288) (fun y8 =>
  if zI y8 = zI 0 then
  gd (zin x3 40) (bnd (M.2 14 (zix x3)) (fun y9 =>
  Option.bind (m_dropEntry M x3) (fun y10 =>
  Option.bind (m_above y10 y6 1607816) (fun y11 =>
  if zI y11 = zI 0 then
  bnd (sI y10 13 y6) (fun M12 =>
  some M12)
  else
  Option.bind (m_adopt y10 y6 y9) (fun y13 =>
  some y13)))))
  else
  some M)))
noncomputable def m_endOther_59 (M : MS) (x1 x2 x3 x4 : Int) : Option ((Int × Int) ⊕ (MS)) :=
  some (.inl (x3, x4 + 1))
noncomputable def m_endOther_10s (M : MS) (x1 x2 x3 x4 : Int) : Option ((Int × Int) ⊕ (MS)) :=
  if zI x4 < zI (M.1 16) then
  Option.bind (m_bit x1) (fun y2 =>
  if zI (zand y2 262402) = zI 0 then
  mr (m_endOther_65 M x1 x3)
  else
  gd (zin x4 40) (if zI (M.2 15 (zix x4)) = zI x2 then
  gd (zin x4 40) (gd (zin (M.2 14 (zix x4)) 40) (if zI (M.2 8 (zix (M.2 14 (zix x4)))) = zI x1 then
  m_endOther_59 M x1 x2 x4 x4
  else
  m_endOther_59 M x1 x2 x3 x4))
  else
  m_endOther_59 M x1 x2 x3 x4))
  else
  mr (m_endOther_65 M x1 x3)
noncomputable def m_endOther_10 (M : MS) (x1 x2 x3 x4 : Int) : Option (MS) :=
  iter (fun (z : Int × Int) => m_endOther_10s M x1 x2 z.1 z.2) (x3, x4)
noncomputable def m_endOther (M : MS) (x1 : Int) : Option (MS) :=
  Option.bind (m_listOwner M) (fun y1 =>
  m_endOther_10 M x1 y1 (-1) 0)
noncomputable def m_end_67 (M : MS) (x1 : Int) : Option (MS) :=
  Option.bind (m_reach M x1 4) (fun y7 =>
  if zI y7 = zI 0 then
  some M
  else
  Option.bind (m_topmost M x1) (fun y8 =>
  bnd (sI M 13 y8) (fun M9 =>
  some M9)))
noncomputable def m_end (M : MS) (x1 : Int) : Option (MS) :=
  if zI x1 = zI 112 then
  Option.bind (m_reach M 112 4) (fun y1 =>
  if zI y1 = zI 0 then
  Option.bind (m_findPlace M (M.1 13)) (fun y2 =>
  Option.bind (m_create y2 112 0) (fun y3 =>
  gd (zin 0 40) (bnd (sA y3.1 11 (zix 0) y3.2) (fun M4 =>
  some M4))))
  else
  Option.bind (m_topmost M 112) (fun y5 =>
  bnd (sI M 13 y5) (fun M6 =>
  some M6)))
  else
  if zI x1 = zI 100 then
  m_end_67 M x1
  else
  if zI x1 = zI 117 then
  m_end_67 M x1
  else
  if zI x1 = zI 108 then
  Option.bind (m_reach M 108 1048580) (fun y7 =>
  if zI y7 = zI 0 then
  some M
  else
  Option.bind (m_topmost M 108) (fun y8 =>
  bnd (sI M 13 y8) (fun M9 =>
  some M9)))
  else
  if zI x1 = zI 116 then
  Option.bind (m_topmost M 116) (fun y10 =>
  if zI y10 < zI 0 then
  some M
  else
  Option.bind (m_topmost M 116) (fun y11 =>
  bnd (sI M 13 y11) (fun M12 =>
  some M12)))
  else
  if zI x1 = zI 114 then
  Option.bind (m_topmost M 114) (fun y13 =>
  Option.bind (m_topmost M 116) (fun y14 =>
  if zI y14 < zI y13 then
  Option.bind (m_topmost M 116) (fun y15 =>
  if zI y15 < zI 0 then
  some M
  else
  bnd (sI M 13 y13) (fun M16 =>
  some M16))
  else
  some M))
  else
  if zI x1 = zI 99 then
  Option.bind (m_reach M 99 524288) (fun y17 =>
  if zI y17 = zI 0 then
  some M
  else
  Option.bind (m_topmost M 99) (fun y18 =>
  bnd (sI M 13 y18) (fun M19 =>
  some M19)))
  else
  if zI x1 = zI 104 then
  some M
  else
  if zI x1 = zI 107 then
  some M
  else
  Option.bind (m_endOther M x1) (fun y20 =>
  some y20)
noncomputable def m_tag_107 (M : MS) (x2 x3 x4 x5 x6 x7 : Int) : Option ((Int × Int) ⊕ (MS × Int)) :=
  some (.inl (x6, x7 + 1))
noncomputable def m_tag_140 (M : MS) (x5 : Int) : Option (MS × Int) :=
  some (M, x5 + 1)
noncomputable def m_tag_113 (M : MS) (x2 x3 x4 x5 x6 : Int) : Option (MS × Int) :=
  Option.bind (m_small x2) (fun y7 =>
  if zI y7 = zI 0 then
  if zI x4 = zI 0 then
  m_tag_140 M x5
  else
  Option.bind (m_end M x3) (fun y8 =>
  m_tag_140 y8 x5)
  else
  Option.bind (m_start M x2 x6) (fun y9 =>
  m_tag_140 y9 x5))
noncomputable def m_tag_70s (M : MS) (x2 x3 x4 x5 x6 x7 : Int) : Option ((Int × Int) ⊕ (MS × Int)) :=
  if zI x7 < zI x5 then
  gd (zin x7 160) (Option.bind (m_capital (M.2 1 (zix x7))) (fun y5 =>
  if zI y5 = zI 0 then
  m_tag_107 M x2 x3 x4 x5 x6 x7
  else
  gd (zin x7 160) (bnd (zor x6 (zshl 1 ((M.2 1 (zix x7)) - 65))) (fun y6 =>
  m_tag_107 M x2 x3 x4 x5 y6 x7))))
  else
  mr (m_tag_113 M x2 x3 x4 x5 x6)
noncomputable def m_tag_70 (M : MS) (x2 x3 x4 x5 x6 x7 : Int) : Option (MS × Int) :=
  iter (fun (z : Int × Int) => m_tag_70s M x2 x3 x4 x5 z.1 z.2) (x6, x7)
noncomputable def m_tag_44 (M : MS) (x1 x2 x3 t0 : Int) : Option (MS × Int) :=
  Option.bind (m_closed M (x1 + 2)) (fun y3 =>
  if zI y3 < zI 0 then
  some (M, (-1))
  else
  bnd (x1 + 2) (fun y4 =>
  m_tag_70 M x2 x3 t0 y3 0 y4))
noncomputable def m_tag_43 (M : MS) (x1 x2 x3 : Int) : Option (MS × Int) :=
  m_tag_44 M x1 x2 x3 0
noncomputable def m_tag_26 (M : MS) (x1 x2 x3 : Int) : Option (MS × Int) :=
  if zI x2 = zI 47 then
  Option.bind (m_small x3) (fun y2 =>
  if zI y2 = zI 0 then
  m_tag_43 M x1 x2 x3
  else
  m_tag_44 M x1 x2 x3 1)
  else
  m_tag_43 M x1 x2 x3
noncomputable def m_tag (M : MS) (x1 x2 : Int) : Option (MS × Int) :=
  Option.bind (m_peek M (x1 + 2)) (fun y1 =>
  if zI x2 = zI (-1) then
  some (M, (-1))
  else
  if zI x2 = zI 47 then
  if zI y1 = zI (-1) then
  some (M, (-1))
  else
  m_tag_26 M x1 x2 y1
  else
  m_tag_26 M x1 x2 y1)
noncomputable def m_character_119 (M : MS) (x1 x3 : Int) : Option (MS) :=
  if zI (M.1 4) = zI 0 then
  gd (zin (M.1 17) 160) (bnd (sA M 18 (zix (M.1 17)) x1) (fun M6 =>
  gd (zin (M6.1 17) 160) (bnd (sA M6 19 (zix (M6.1 17)) x3) (fun M7 =>
  bnd (sI M7 17 ((M7.1 17) + 1)) (fun M8 =>
  some M8)))))
  else
  some M
noncomputable def m_character_112 (M : MS) (x1 : Int) : Option (MS) :=
  Option.bind (m_create M 1 0) (fun y6 =>
  m_character_119 y6.1 x1 y6.2)
noncomputable def m_character_82 (M : MS) (x1 x2 : Int) : Option (MS) :=
  gd (zin x2 40) (bnd (M.2 6 (zix x2)) (fun y5 =>
  gd (zin y5 40) (if zI (M.2 8 (zix y5)) = zI 1 then
  gd (zin y5 40) (if zI (M.2 10 (zix y5)) = zI (M.1 21) then
  m_character_119 M x1 y5
  else
  m_character_112 M x1)
  else
  m_character_112 M x1)))
noncomputable def m_character_54s (M : MS) (x1 x2 : Int) : Option ((Int) ⊕ (MS)) :=
  if zI 0 < zI x2 then
  gd (zin x2 40) (gd (zin (M.2 6 (zix x2)) 40) (if zI (M.1 21) < zI (M.2 10 (zix (M.2 6 (zix x2)))) then
  some (.inl (x2 + (-1)))
  else
  mr (m_character_82 M x1 x2)))
  else
  mr (m_character_82 M x1 x2)
noncomputable def m_character_54 (M : MS) (x1 x2 : Int) : Option (MS) :=
  iter (fun (z : Int) => m_character_54s M x1 z) (x2)
noncomputable def m_character_27 (M : MS) (x1 : Int) : Option (MS) :=
  Option.bind (m_renew M) (fun y2 =>
  if zI (y2.1 4) = zI 0 then
  Option.bind (m_findPlace y2 (y2.1 13)) (fun y3 =>
  bnd ((y3.1 20) - 1) (fun y4 =>
  m_character_54 y3 x1 y4))
  else
  some y2)
noncomputable def m_character (M : MS) (x1 : Int) : Option (MS) :=
  if zI x1 = zI 32 then
  gd (zin ((M.1 13) - 1) 40) (Option.bind (m_named M (M.2 12 (zix ((M.1 13) - 1))) 655360) (fun y1 =>
  if zI y1 = zI 0 then
  m_character_27 M x1
  else
  some M))
  else
  m_character_27 M x1
noncomputable def m_entity_51 (M : MS) (x1 t0 : Int) : Option (MS × Int) :=
  Option.bind (m_character M t0) (fun y2 =>
  some (y2, x1 + 3))
noncomputable def m_entity_76 (M : MS) (x1 : Int) : Option (MS × Int) :=
  some (M, x1 + 2)
noncomputable def m_entity (M : MS) (x1 x2 : Int) : Option (MS × Int) :=
  Option.bind (m_peek M (x1 + 2)) (fun y1 =>
  if zI x2 = zI (-1) then
  some (M, (-1))
  else
  if zI y1 = zI (-1) then
  some (M, (-1))
  else
  if zI y1 = zI 59 then
  if zI x2 = zI 108 then
  m_entity_51 M x1 60
  else
  if zI x2 = zI 103 then
  m_entity_51 M x1 62
  else
  m_entity_51 M x1 38
  else
  Option.bind (m_character M 38) (fun y2 =>
  if zI (y2.1 4) = zI 0 then
  Option.bind (m_character y2 x2) (fun y3 =>
  m_entity_76 y3 x1)
  else
  m_entity_76 y2 x1))
noncomputable def m_read_70 (M : MS) (x1 x3 : Int) : Option ((MS × Int) ⊕ (MS)) :=
  Option.bind (m_tag M x1 x3) (fun y4 =>
  some (.inl (y4.1, y4.2)))
noncomputable def m_read_109 (M : MS) (x1 x3 : Int) : Option ((MS × Int) ⊕ (MS)) :=
  Option.bind (m_entity M x1 x3) (fun y5 =>
  some (.inl (y5.1, y5.2)))
noncomputable def m_read_119 (M : MS) (x1 x2 : Int) : Option ((MS × Int) ⊕ (MS)) :=
  Option.bind (m_character M x2) (fun y5 =>
  some (.inl (y5, x1 + 1)))
noncomputable def m_read_80 (M : MS) (x1 x2 x3 : Int) : Option ((MS × Int) ⊕ (MS)) :=
  if zI x2 = zI 38 then
  if zI x3 = zI 108 then
  m_read_109 M x1 x3
  else
  if zI x3 = zI 103 then
  m_read_109 M x1 x3
  else
  if zI x3 = zI 97 then
  m_read_109 M x1 x3
  else
  if zI x3 = zI (-1) then
  m_read_109 M x1 x3
  else
  m_read_119 M x1 x2
  else
  m_read_119 M x1 x2
noncomputable def m_read_6s (M : MS) (x1 : Int) : Option ((MS × Int) ⊕ (MS)) :=
  if zI x1 < zI 0 then
  some (.inr M)
  else
  if zI x1 < zI (M.1 0) then
  if zI (M.1 4) = zI 0 then
  gd (zin x1 160) (bnd (M.2 1 (zix x1)) (fun y2 =>
  Option.bind (m_peek M (x1 + 1)) (fun y3 =>
  if zI y2 = zI 60 then
  if zI y3 = zI 47 then
  m_read_70 M x1 y3
  else
  if zI y3 = zI 33 then
  m_read_70 M x1 y3
  else
  if zI y3 = zI (-1) then
  m_read_70 M x1 y3
  else
  Option.bind (m_small y3) (fun y4 =>
  if zI y4 = zI 0 then
  m_read_80 M x1 y2 y3
  else
  m_read_70 M x1 y3)
  else
  m_read_80 M x1 y2 y3)))
  else
  some (.inr M)
  else
  some (.inr M)
noncomputable def m_read_6 (M : MS) (x1 : Int) : Option (MS) :=
  iter (fun (z : MS × Int) => m_read_6s z.1 z.2) (M, x1)
noncomputable def m_read (M : MS) : Option (MS) :=
  Option.bind (m_reset M) (fun y1 =>
  m_read_6 y1 0)
noncomputable def m_html (M : MS) (x1 : Int) : Option (MS × Int) :=
  if zI x1 < zI 32 then
  some (M, 0)
  else
  if zI 126 < zI x1 then
  some (M, 0)
  else
  if zI (M.1 0) = zI 160 then
  some (M, 0)
  else
  if zI (M.1 4) = zI 0 then
  gd (zin (M.1 0) 160) (bnd (sA M 1 (zix (M.1 0)) x1) (fun M1 =>
  bnd (sI M1 0 ((M1.1 0) + 1)) (fun M2 =>
  bnd (sI M2 37 0) (fun M3 =>
  Option.bind (m_read M3) (fun y4 =>
  if zI (y4.1 4) = zI 0 then
  some (y4, 1)
  else
  some (y4, 0))))))
  else
  some (M, 0)
noncomputable def m_css (M : MS) (x1 : Int) : Option (MS × Int) :=
  if zI x1 < zI 32 then
  some (M, 0)
  else
  if zI 126 < zI x1 then
  some (M, 0)
  else
  if zI (M.1 2) = zI 120 then
  some (M, 0)
  else
  gd (zin (M.1 2) 120) (bnd (sA M 3 (zix (M.1 2)) x1) (fun M1 =>
  bnd (sI M1 2 ((M1.1 2) + 1)) (fun M2 =>
  bnd (sI M2 37 0) (fun M3 =>
  some (M3, 1)))))
noncomputable def m_clear (M : MS) : Option (MS) :=
  bnd (sI M 0 0) (fun M1 =>
  bnd (sI M1 2 0) (fun M2 =>
  bnd (sI M2 37 0) (fun M3 =>
  Option.bind (m_reset M3) (fun y4 =>
  some y4))))
noncomputable def m_nodes (M : MS) : Option (Int) :=
  if zI (M.1 4) = zI 0 then
  some (M.1 5)
  else
  some (-1)
noncomputable def m_none_19 (M : MS) : Option (Int) :=
  some 1
noncomputable def m_none (M : MS) (x1 : Int) : Option (Int) :=
  if zI (M.1 4) = zI 0 then
  if zI x1 < zI 0 then
  m_none_19 M
  else
  if zI x1 < zI (M.1 5) then
  some 0
  else
  m_none_19 M
  else
  m_none_19 M
noncomputable def m_name (M : MS) (x1 : Int) : Option (Int) :=
  Option.bind (m_none M x1) (fun y1 =>
  if zI y1 = zI 0 then
  gd (zin x1 40) (gd (zin (M.2 6 (zix x1)) 40) (some (M.2 8 (zix (M.2 6 (zix x1))))))
  else
  some (-1))
noncomputable def m_parentOf_4s (M : MS) (x1 x2 : Int) : Option ((Int) ⊕ (Int)) :=
  if zI x2 < zI 0 then
  some (.inr x2)
  else
  gd (zin x2 40) (gd (zin (M.2 6 (zix x2)) 40) (gd (zin x1 40) (gd (zin (M.2 6 (zix x1)) 40) (if zI (M.2 10 (zix (M.2 6 (zix x2)))) < zI (M.2 10 (zix (M.2 6 (zix x1)))) then
  some (.inr x2)
  else
  some (.inl (x2 + (-1)))))))
noncomputable def m_parentOf_4 (M : MS) (x1 x2 : Int) : Option (Int) :=
  iter (fun (z : Int) => m_parentOf_4s M x1 z) (x2)
noncomputable def m_parentOf (M : MS) (x1 : Int) : Option (Int) :=
  bnd (x1 - 1) (fun y1 =>
  m_parentOf_4 M x1 y1)
noncomputable def m_parent (M : MS) (x1 : Int) : Option (Int) :=
  Option.bind (m_none M x1) (fun y1 =>
  if zI y1 = zI 0 then
  Option.bind (m_parentOf M x1) (fun y2 =>
  some y2)
  else
  some (-1))
noncomputable def m_classes (M : MS) (x1 : Int) : Option (Int) :=
  Option.bind (m_none M x1) (fun y1 =>
  if zI y1 = zI 0 then
  gd (zin x1 40) (gd (zin (M.2 6 (zix x1)) 40) (some (M.2 9 (zix (M.2 6 (zix x1))))))
  else
  some (-1))
noncomputable def m_find_69 (M : MS) (x1 x3 x4 : Int) : Option ((Int × Int) ⊕ (Int)) :=
  some (.inl (x3, x4 + 1))
noncomputable def m_find_34s (M : MS) (x1 x3 x4 : Int) : Option ((Int × Int) ⊕ (Int)) :=
  if zI x4 < zI (M.1 17) then
  gd (zin x4 160) (gd (zin x1 40) (if zI (M.2 19 (zix x4)) = zI (M.2 6 (zix x1)) then
  if zI x3 = zI 0 then
  some (.inr x4)
  else
  m_find_69 M x1 (x3 + (-1)) x4
  else
  m_find_69 M x1 x3 x4))
  else
  some (.inr (-1))
noncomputable def m_find_34 (M : MS) (x1 x3 x4 : Int) : Option (Int) :=
  iter (fun (z : Int × Int) => m_find_34s M x1 z.1 z.2) (x3, x4)
noncomputable def m_find (M : MS) (x1 x2 : Int) : Option (Int) :=
  Option.bind (m_none M x1) (fun y1 =>
  if zI y1 = zI 0 then
  gd (zin x1 40) (gd (zin (M.2 6 (zix x1)) 40) (if zI (M.2 8 (zix (M.2 6 (zix x1)))) = zI 1 then
  if zI x2 < zI 0 then
  some (-1)
  else
  m_find_34 M x1 x2 0
  else
  some (-1)))
  else
  some (-1))
noncomputable def m_letter (M : MS) (x1 x2 : Int) : Option (Int) :=
  Option.bind (m_find M x1 x2) (fun y1 =>
  if zI y1 < zI 0 then
  some (-1)
  else
  gd (zin y1 160) (some (M.2 18 (zix y1))))
noncomputable def m_open (M : MS) : Option (Int) :=
  if zI (M.1 4) = zI 0 then
  some (M.1 13)
  else
  some (-1)
noncomputable def m_nextSign_2s (M : MS) (x2 x3 : Int) : Option ((Int) ⊕ (Int)) :=
  if zI x3 < zI (M.1 2) then
  gd (zin x3 120) (if zI (M.2 3 (zix x3)) = zI x2 then
  some (.inr x3)
  else
  some (.inl (x3 + 1)))
  else
  some (.inr (-1))
noncomputable def m_nextSign_2 (M : MS) (x2 x3 : Int) : Option (Int) :=
  iter (fun (z : Int) => m_nextSign_2s M x2 z) (x3)
noncomputable def m_nextSign (M : MS) (x1 x2 : Int) : Option (Int) :=
  m_nextSign_2 M x2 x1
noncomputable def m_blanks_2s (M : MS) (x2 x3 : Int) : Option ((Int) ⊕ (Int)) :=
  if zI x3 < zI x2 then
  gd (zin x3 120) (if zI (M.2 3 (zix x3)) = zI 32 then
  some (.inl (x3 + 1))
  else
  some (.inr x3))
  else
  some (.inr x3)
noncomputable def m_blanks_2 (M : MS) (x2 x3 : Int) : Option (Int) :=
  iter (fun (z : Int) => m_blanks_2s M x2 z) (x3)
noncomputable def m_blanks (M : MS) (x1 x2 : Int) : Option (Int) :=
  m_blanks_2 M x2 x1
noncomputable def m_selector_343 (M : MS) (x2 x3 x4 x5 t0 : Int) : Option ((MS × Int × Int × Int) ⊕ (MS × Int)) :=
  some (.inl (M, x4, x5, t0))
noncomputable def m_selector_324 (M : MS) (x2 x3 x4 x5 x8 : Int) : Option ((MS × Int × Int × Int) ⊕ (MS × Int)) :=
  if zI x5 = zI 0 then
  m_selector_343 M x2 x3 x4 x5 x8
  else
  Option.bind (m_blanks M (x8 + 1) x2) (fun y16 =>
  m_selector_343 M x2 x3 x4 x5 y16)
noncomputable def m_selector_308 (M : MS) (x2 x3 x4 x6 x8 t0 : Int) : Option ((MS × Int × Int × Int) ⊕ (MS × Int)) :=
  if zI t0 = zI 0 then
  if zI x8 = zI x6 then
  some (.inr (M, 0))
  else
  m_selector_324 M x2 x3 x4 t0 x8
  else
  m_selector_324 M x2 x3 x4 t0 x8
noncomputable def m_selector_254 (M : MS) (x2 x3 x4 x6 x7 : Int) : Option ((MS × Int × Int × Int) ⊕ (MS × Int)) :=
  if zI x6 = zI x7 then
  some (.inr (M, 0))
  else
  gd (zin x3 12) (bnd (sA M 26 (zix x3) (x4 + 1)) (fun M14 =>
  Option.bind (m_blanks M14 x6 x2) (fun y15 =>
  if zI y15 = zI x2 then
  some (.inr (M14, 1))
  else
  gd (zin y15 120) (if zI (M14.2 3 (zix y15)) = zI 62 then
  m_selector_308 M14 x2 x3 (x4 + 1) x6 y15 1
  else
  m_selector_308 M14 x2 x3 (x4 + 1) x6 y15 0))))
noncomputable def m_selector_184s (M : MS) (x2 x3 x4 x6 x7 : Int) : Option ((MS × Int) ⊕ ((MS × Int × Int × Int) ⊕ (MS × Int))) :=
  if zI x6 < zI x2 then
  gd (zin x6 120) (Option.bind (m_capital (M.2 3 (zix x6))) (fun y13 =>
  if zI y13 = zI 0 then
  mr (m_selector_254 M x2 x3 x4 x6 x7)
  else
  gd (zin ((4 * x3) + x4) 48) (gd (zin x6 120) (gd (zin ((4 * x3) + x4) 48) (bnd (sA M 24 (zix ((4 * x3) + x4)) (zor (M.2 24 (zix ((4 * x3) + x4))) (zshl 1 ((M.2 3 (zix x6)) - 65)))) (fun M14 =>
  gd (zin x3 12) (gd (zin x3 12) (bnd (sA M14 27 (zix x3) ((M14.2 27 (zix x3)) + 1)) (fun M15 =>
  some (.inl (M15, x6 + 1)))))))))))
  else
  mr (m_selector_254 M x2 x3 x4 x6 x7)
noncomputable def m_selector_184 (M : MS) (x2 x3 x4 x6 x7 : Int) : Option ((MS × Int × Int × Int) ⊕ (MS × Int)) :=
  iter (fun (z : MS × Int) => m_selector_184s z.1 x2 x3 x4 z.2 x7) (M, x6)
noncomputable def m_selector_179 (M : MS) (x2 x3 x4 x6 x7 t0 t1 t2 : Int) : Option ((MS × Int × Int × Int) ⊕ (MS × Int)) :=
  gd (zin t2 12) (bnd (sA M 28 (zix t2) (t1 + t0)) (fun M12 =>
  m_selector_184 M12 x2 x3 x4 (x6 + 1) x7))
noncomputable def m_selector_153 (M : MS) (x2 x3 x4 x6 x7 t0 t1 : Int) : Option ((MS × Int × Int × Int) ⊕ (MS × Int)) :=
  gd (zin t1 48) (bnd (sA M 23 (zix t1) t0) (fun M10 =>
  gd (zin x3 12) (gd (zin x6 120) (Option.bind (m_small (M10.2 3 (zix x6))) (fun y11 =>
  if zI y11 = zI 0 then
  m_selector_179 M10 x2 x3 x4 x6 x7 0 (M10.2 28 (zix x3)) x3
  else
  m_selector_179 M10 x2 x3 x4 x6 x7 1 (M10.2 28 (zix x3)) x3)))))
noncomputable def m_selector_119 (M : MS) (x2 x3 x4 x6 x7 : Int) : Option ((MS × Int × Int × Int) ⊕ (MS × Int)) :=
  gd (zin x6 120) (Option.bind (m_small (M.2 3 (zix x6))) (fun y9 =>
  if zI y9 = zI 0 then
  m_selector_153 M x2 x3 x4 x6 x7 0 ((4 * x3) + x4)
  else
  gd (zin x6 120) (m_selector_153 M x2 x3 x4 x6 x7 (M.2 3 (zix x6)) ((4 * x3) + x4))))
noncomputable def m_selector_33s (M : MS) (x2 x3 x4 x5 x6 : Int) : Option ((MS × Int × Int × Int) ⊕ (MS × Int)) :=
  if zI x4 < zI 5 then
  if zI x4 = zI 4 then
  some (.inr (M, 0))
  else
  gd (zin ((4 * x3) + x4) 48) (bnd (sA M 23 (zix ((4 * x3) + x4)) 0) (fun M5 =>
  gd (zin ((4 * x3) + x4) 48) (bnd (sA M5 24 (zix ((4 * x3) + x4)) 0) (fun M6 =>
  gd (zin ((4 * x3) + x4) 48) (gd (zisB x5) (bnd (sA M6 25 (zix ((4 * x3) + x4)) x5) (fun M7 =>
  if zI x6 < zI x2 then
  gd (zin x6 120) (Option.bind (m_small (M7.2 3 (zix x6))) (fun y8 =>
  if zI y8 = zI 0 then
  gd (zin x6 120) (if zI (M7.2 3 (zix x6)) = zI 42 then
  m_selector_119 M7 x2 x3 x4 x6 x6
  else
  m_selector_184 M7 x2 x3 x4 x6 x6)
  else
  m_selector_119 M7 x2 x3 x4 x6 x6))
  else
  m_selector_184 M7 x2 x3 x4 x6 x6)))))))
  else
  some (.inr (M, 0))
noncomputable def m_selector_33 (M : MS) (x2 x3 x4 x5 x6 : Int) : Option (MS × Int) :=
  iter (fun (z : MS × Int × Int × Int) => m_selector_33s z.1 x2 x3 z.2.1 z.2.2.1 z.2.2.2) (M, x4, x5, x6)
noncomputable def m_selector (M : MS) (x1 x2 : Int) : Option (MS × Int) :=
  bnd (M.1 22) (fun y1 =>
  gd (zin y1 12) (bnd (sA M 27 (zix y1) 0) (fun M2 =>
  gd (zin y1 12) (bnd (sA M2 28 (zix y1) 0) (fun M3 =>
  Option.bind (m_blanks M3 x1 x2) (fun y4 =>
  m_selector_33 M3 x2 y1 0 0 y4))))))
noncomputable def m_readSheet_100 (M : MS) (t0 : Int) : Option ((MS × Int) ⊕ (MS)) :=
  some (.inl (M, t0))
noncomputable def m_readSheet_89 (M : MS) (x3 : Int) : Option ((MS × Int) ⊕ (MS)) :=
  if zI x3 < zI 0 then
  m_readSheet_100 M (-1)
  else
  m_readSheet_100 M (x3 + 1)
noncomputable def m_readSheet_43 (M : MS) (x1 x2 t0 : Int) : Option ((MS × Int) ⊕ (MS)) :=
  if zI t0 < zI 0 then
  m_readSheet_89 M t0
  else
  Option.bind (m_selector M x1 x2) (fun y3 =>
  if zI y3.2 = zI 0 then
  m_readSheet_89 y3.1 t0
  else
  gd (zin (y3.1.1 22) 12) (bnd (sA y3.1 29 (zix (y3.1.1 22)) (x2 + 1)) (fun M4 =>
  gd (zin (M4.1 22) 12) (bnd (sA M4 30 (zix (M4.1 22)) t0) (fun M5 =>
  bnd (sI M5 22 ((M5.1 22) + 1)) (fun M6 =>
  m_readSheet_89 M6 t0))))))
noncomputable def m_readSheet_7s (M : MS) (x1 : Int) : Option ((MS × Int) ⊕ (MS)) :=
  if zI x1 < zI 0 then
  some (.inr M)
  else
  if zI (M.1 22) < zI 12 then
  Option.bind (m_nextSign M x1 123) (fun y2 =>
  if zI y2 < zI 0 then
  m_readSheet_43 M x1 y2 (-1)
  else
  Option.bind (m_nextSign M y2 125) (fun y3 =>
  m_readSheet_43 M x1 y2 y3))
  else
  some (.inr M)
noncomputable def m_readSheet_7 (M : MS) (x1 : Int) : Option (MS) :=
  iter (fun (z : MS × Int) => m_readSheet_7s z.1 z.2) (M, x1)
noncomputable def m_readSheet (M : MS) : Option (MS) :=
  bnd (sI M 22 0) (fun M1 =>
  m_readSheet_7 M1 0)
noncomputable def m_rules (M : MS) : Option (MS × Int) :=
  Option.bind (m_readSheet M) (fun y1 =>
  some (y1, y1.1 22))
noncomputable def m_propertyIndex (x0 : Int) : Option (Int) :=
  if zI x0 = zI 99 then
  some 0
  else
  if zI x0 = zI 98 then
  some 1
  else
  if zI x0 = zI 115 then
  some 2
  else
  if zI x0 = zI 100 then
  some 3
  else
  if zI x0 = zI 109 then
  some 4
  else
  if zI x0 = zI 112 then
  some 5
  else
  if zI x0 = zI 119 then
  some 6
  else
  some (-1)
noncomputable def m_match_232 (M : MS) (x1 x2 x3 x4 t0 t1 : Int) : Option ((MS × Int) ⊕ ((MS × Int) ⊕ (MS))) :=
  gd (zin t1 200) (gd (zisB t0) (bnd (sA M 34 (zix t1) t0) (fun M4 =>
  some (.inl (M4, x4 + 1)))))
noncomputable def m_match_231 (M : MS) (x1 x2 x3 x4 t0 : Int) : Option ((MS × Int) ⊕ ((MS × Int) ⊕ (MS))) :=
  m_match_232 M x1 x2 x3 x4 0 t0
noncomputable def m_match_206 (M : MS) (x1 x2 x3 x4 x6 x7 : Int) : Option ((MS × Int) ⊕ ((MS × Int) ⊕ (MS))) :=
  if zI x6 = zI 0 then
  m_match_231 M x1 x2 x3 x4 ((40 * x2) + x4)
  else
  if zI x7 = zI 0 then
  m_match_231 M x1 x2 x3 x4 ((40 * x2) + x4)
  else
  m_match_232 M x1 x2 x3 x4 1 ((40 * x2) + x4)
noncomputable def m_match_189 (M : MS) (x1 x2 x3 x4 x6 x8 x9 t0 : Int) : Option ((Int × Int × Int) ⊕ ((MS × Int) ⊕ ((MS × Int) ⊕ (MS)))) :=
  gd (zin x8 40) (bnd (M.2 33 (zix x8)) (fun y4 =>
  some (.inl (t0, y4, x9 + 1))))
noncomputable def m_match_188 (M : MS) (x1 x2 x3 x4 x6 x8 x9 : Int) : Option ((Int × Int × Int) ⊕ ((MS × Int) ⊕ ((MS × Int) ⊕ (MS)))) :=
  m_match_189 M x1 x2 x3 x4 x6 x8 x9 0
noncomputable def m_match_184 (M : MS) (x1 x2 x3 x4 x6 x8 x9 : Int) : Option ((Int × Int × Int) ⊕ ((MS × Int) ⊕ ((MS × Int) ⊕ (MS)))) :=
  m_match_189 M x1 x2 x3 x4 x6 x8 x9 1
noncomputable def m_match_131s (M : MS) (x1 x2 x3 x4 x6 x7 x8 x9 : Int) : Option ((Int × Int × Int) ⊕ ((MS × Int) ⊕ ((MS × Int) ⊕ (MS)))) :=
  if zI x9 < zI 40 then
  if zI x8 < zI 0 then
  mr (m_match_206 M x1 x2 x3 x4 x6 x7)
  else
  if zI 1 < zI x2 then
  if zI x7 = zI 0 then
  gd (zin ((40 * (x2 - 1)) + x8) 200) (if zI (M.2 34 (zix ((40 * (x2 - 1)) + x8))) = zI 0 then
  m_match_188 M x1 x2 x3 x4 x6 x8 x9
  else
  if zI x9 = zI 0 then
  m_match_184 M x1 x2 x3 x4 x6 x8 x9
  else
  gd (zin x3 48) (if zI (M.2 25 (zix x3)) = zI 0 then
  m_match_184 M x1 x2 x3 x4 x6 x8 x9
  else
  m_match_188 M x1 x2 x3 x4 x6 x8 x9))
  else
  m_match_184 M x1 x2 x3 x4 x6 x8 x9
  else
  mr (m_match_206 M x1 x2 x3 x4 x6 x7)
  else
  mr (m_match_206 M x1 x2 x3 x4 x6 x7)
noncomputable def m_match_131 (M : MS) (x1 x2 x3 x4 x6 x7 x8 x9 : Int) : Option ((MS × Int) ⊕ ((MS × Int) ⊕ (MS))) :=
  iter (fun (z : Int × Int × Int) => m_match_131s M x1 x2 x3 x4 x6 z.1 z.2.1 z.2.2) (x7, x8, x9)
noncomputable def m_match_117 (M : MS) (x1 x2 x3 x4 x6 t0 : Int) : Option ((MS × Int) ⊕ ((MS × Int) ⊕ (MS))) :=
  gd (zin x4 40) (bnd (M.2 33 (zix x4)) (fun y3 =>
  m_match_131 M x1 x2 x3 x4 x6 t0 y3 0))
noncomputable def m_match_105 (M : MS) (x1 x2 x3 x4 t0 : Int) : Option ((MS × Int) ⊕ ((MS × Int) ⊕ (MS))) :=
  if zI x2 = zI 1 then
  m_match_117 M x1 x2 x3 x4 t0 1
  else
  m_match_117 M x1 x2 x3 x4 t0 0
noncomputable def m_match_104 (M : MS) (x1 x2 x3 x4 : Int) : Option ((MS × Int) ⊕ ((MS × Int) ⊕ (MS))) :=
  m_match_105 M x1 x2 x3 x4 0
noncomputable def m_match_77 (M : MS) (x1 x2 x3 x4 x5 : Int) : Option ((MS × Int) ⊕ ((MS × Int) ⊕ (MS))) :=
  gd (zin x5 40) (gd (zin x3 48) (gd (zin x3 48) (if zI (zand (M.2 9 (zix x5)) (M.2 24 (zix x3))) = zI (M.2 24 (zix x3)) then
  m_match_105 M x1 x2 x3 x4 1
  else
  m_match_104 M x1 x2 x3 x4)))
noncomputable def m_match_239 (M : MS) (x1 x2 : Int) : Option ((MS × Int) ⊕ (MS)) :=
  some (.inl (M, x2 + 1))
noncomputable def m_match_23s (M : MS) (x1 x2 x3 x4 : Int) : Option ((MS × Int) ⊕ ((MS × Int) ⊕ (MS))) :=
  if zI x4 < zI (M.1 5) then
  gd (zin x4 40) (bnd (M.2 6 (zix x4)) (fun y2 =>
  gd (zin y2 40) (if zI 1 < zI (M.2 8 (zix y2)) then
  gd (zin x3 48) (if zI (M.2 23 (zix x3)) = zI 0 then
  m_match_77 M x1 x2 x3 x4 y2
  else
  gd (zin x3 48) (gd (zin y2 40) (if zI (M.2 23 (zix x3)) = zI (M.2 8 (zix y2)) then
  m_match_77 M x1 x2 x3 x4 y2
  else
  m_match_104 M x1 x2 x3 x4)))
  else
  m_match_104 M x1 x2 x3 x4)))
  else
  mr (m_match_239 M x1 x2)
noncomputable def m_match_23 (M : MS) (x1 x2 x3 x4 : Int) : Option ((MS × Int) ⊕ (MS)) :=
  iter (fun (z : MS × Int) => m_match_23s z.1 x1 x2 x3 z.2) (M, x4)
noncomputable def m_match_2s (M : MS) (x1 x2 : Int) : Option ((MS × Int) ⊕ (MS)) :=
  gd (zin x1 12) (if zI (M.2 26 (zix x1)) < zI x2 then
  some (.inr M)
  else
  bnd (((4 * x1) + x2) - 1) (fun y1 =>
  m_match_23 M x1 x2 y1 0))
noncomputable def m_match_2 (M : MS) (x1 x2 : Int) : Option (MS) :=
  iter (fun (z : MS × Int) => m_match_2s z.1 x1 z.2) (M, x2)
noncomputable def m_match (M : MS) (x1 : Int) : Option (MS) :=
  m_match_2 M x1 1
noncomputable def m_digit (x0 : Int) : Option (Int) :=
  if zI x0 < zI 48 then
  some 0
  else
  if zI 57 < zI x0 then
  some 0
  else
  some 1
noncomputable def m_declared_62 (M : MS) (x3 : Int) : Option (Int) :=
  some x3
noncomputable def m_declared_88 (M : MS) (x1 x2 x3 : Int) : Option (Int) :=
  if zI x2 = zI 3 then
  some (x3 - 48)
  else
  if zI x1 < zI 4 then
  some (-1)
  else
  gd (zin 3 120) (Option.bind (m_digit (M.2 31 (zix 3))) (fun y3 =>
  if zI y3 = zI 0 then
  some (-1)
  else
  gd (zin 3 120) (some (((10 * (x3 - 48)) + (M.2 31 (zix 3))) - 48))))
noncomputable def m_declared (M : MS) (x1 x2 : Int) : Option (Int) :=
  gd (zin 2 120) (bnd (M.2 31 (zix 2)) (fun y1 =>
  if zI x1 < zI 0 then
  some (-1)
  else
  if zI x2 < zI 3 then
  some (-1)
  else
  if zI 4 < zI x2 then
  some (-1)
  else
  gd (zin 1 120) (if zI (M.2 31 (zix 1)) = zI 58 then
  if zI x1 = zI 3 then
  if zI x2 = zI 3 then
  if zI y1 = zI 98 then
  m_declared_62 M y1
  else
  if zI y1 = zI 105 then
  m_declared_62 M y1
  else
  if zI y1 = zI 110 then
  m_declared_62 M y1
  else
  some (-1)
  else
  some (-1)
  else
  Option.bind (m_digit y1) (fun y2 =>
  if zI y2 = zI 0 then
  some (-1)
  else
  if zI x1 = zI 2 then
  if zI y1 = zI 48 then
  some (-1)
  else
  m_declared_88 M x1 x2 y1
  else
  m_declared_88 M x1 x2 y1)
  else
  some (-1))))
noncomputable def m_declare_189 (M : MS) (x1 x4 x5 x6 x7 : Int) : Option ((MS × Int) ⊕ (MS)) :=
  some (.inl (M, x7 + 1))
noncomputable def m_declare_112s (M : MS) (x1 x4 x5 x6 x7 : Int) : Option ((MS × Int) ⊕ (MS)) :=
  if zI x7 < zI (M.1 5) then
  gd (zin x1 12) (gd (zin ((40 * (M.2 26 (zix x1))) + x7) 200) (if zI (M.2 34 (zix ((40 * (M.2 26 (zix x1))) + x7))) = zI 0 then
  m_declare_189 M x1 x4 x5 x6 x7
  else
  gd (zin ((40 * x4) + x7) 280) (if zI x6 < zI (M.2 35 (zix ((40 * x4) + x7))) then
  m_declare_189 M x1 x4 x5 x6 x7
  else
  gd (zin ((40 * x4) + x7) 280) (bnd (sA M 35 (zix ((40 * x4) + x7)) x6) (fun M6 =>
  gd (zin ((40 * x4) + x7) 280) (bnd (sA M6 36 (zix ((40 * x4) + x7)) x5) (fun M7 =>
  m_declare_189 M7 x1 x4 x5 x6 x7)))))))
  else
  some (.inr M)
noncomputable def m_declare_112 (M : MS) (x1 x4 x5 x6 x7 : Int) : Option (MS) :=
  iter (fun (z : MS × Int) => m_declare_112s z.1 x1 x4 x5 x6 z.2) (M, x7)
noncomputable def m_declare_90 (M : MS) (x1 x4 x5 t0 : Int) : Option (MS) :=
  gd (zin x1 12) (gd (zin x1 12) (bnd ((t0 + (10 * (M.2 27 (zix x1)))) + (M.2 28 (zix x1))) (fun y5 =>
  m_declare_112 M x1 x4 x5 y5 0)))
noncomputable def m_declare_57 (M : MS) (x1 x2 x3 t0 : Int) : Option (MS) :=
  Option.bind (m_declared M t0 x2) (fun y3 =>
  bnd (sI M 32 0) (fun M4 =>
  if zI y3 < zI 0 then
  some M4
  else
  if zI x3 = zI 0 then
  m_declare_90 M4 x1 t0 y3 0
  else
  m_declare_90 M4 x1 t0 y3 100000))
noncomputable def m_declare_39 (M : MS) (x1 x3 t0 : Int) : Option (MS) :=
  if zI 0 < zI t0 then
  gd (zin 0 120) (Option.bind (m_propertyIndex (M.2 31 (zix 0))) (fun y2 =>
  m_declare_57 M x1 t0 x3 y2))
  else
  m_declare_57 M x1 t0 x3 (-1)
noncomputable def m_declare_27 (M : MS) (x1 x2 t0 : Int) : Option (MS) :=
  if zI t0 = zI 0 then
  m_declare_39 M x1 t0 x2
  else
  m_declare_39 M x1 t0 (x2 - 1)
noncomputable def m_declare_26 (M : MS) (x1 x2 : Int) : Option (MS) :=
  m_declare_27 M x1 x2 0
noncomputable def m_declare (M : MS) (x1 : Int) : Option (MS) :=
  bnd (M.1 32) (fun y1 =>
  if zI 0 < zI y1 then
  gd (zin (y1 - 1) 120) (if zI (M.2 31 (zix (y1 - 1))) = zI 33 then
  m_declare_27 M x1 y1 1
  else
  m_declare_26 M x1 y1)
  else
  m_declare_26 M x1 y1)
noncomputable def m_initial_9 (M : MS) (x1 x2 : Int) : Option (Int) :=
  if zI x2 = zI 0 then
  some 1
  else
  gd (zin x2 40) (gd (zin ((40 * x1) + (M.2 33 (zix x2))) 280) (some (M.2 36 (zix ((40 * x1) + (M.2 33 (zix x2)))))))
noncomputable def m_initial_59 (M : MS) : Option (Int) :=
  some 98
noncomputable def m_initial (M : MS) (x1 x2 : Int) : Option (Int) :=
  if zI x1 = zI 0 then
  m_initial_9 M x1 x2
  else
  if zI x1 = zI 2 then
  m_initial_9 M x1 x2
  else
  if zI x1 = zI 3 then
  if zI x2 = zI 0 then
  m_initial_59 M
  else
  gd (zin x2 40) (Option.bind (m_named M (M.2 6 (zix x2)) 1738892) (fun y1 =>
  if zI y1 = zI 0 then
  some 105
  else
  m_initial_59 M))
  else
  if zI x1 = zI 6 then
  some (-1)
  else
  some 0
noncomputable def m_style_145 (M : MS) (x1 x2 : Int) : Option ((MS × Int) ⊕ ((MS × Int) ⊕ (MS))) :=
  some (.inl (M, x2 + 1))
noncomputable def m_style_151 (M : MS) (x1 : Int) : Option ((MS × Int) ⊕ (MS)) :=
  Option.bind (m_declare M x1) (fun y11 =>
  some (.inl (y11, x1 + 1)))
noncomputable def m_style_80s (M : MS) (x1 x2 : Int) : Option ((MS × Int) ⊕ ((MS × Int) ⊕ (MS))) :=
  gd (zin x1 12) (if zI x2 < zI (M.2 30 (zix x1)) then
  gd (zin x2 120) (if zI (M.2 3 (zix x2)) = zI 59 then
  Option.bind (m_declare M x1) (fun y8 =>
  m_style_145 y8 x1 x2)
  else
  gd (zin x2 120) (if zI (M.2 3 (zix x2)) = zI 32 then
  m_style_145 M x1 x2
  else
  gd (zin x2 120) (gd (zin (M.1 32) 120) (bnd (sA M 31 (zix (M.1 32)) (M.2 3 (zix x2))) (fun M9 =>
  bnd (sI M9 32 ((M9.1 32) + 1)) (fun M10 =>
  m_style_145 M10 x1 x2))))))
  else
  mr (m_style_151 M x1))
noncomputable def m_style_80 (M : MS) (x1 x2 : Int) : Option ((MS × Int) ⊕ (MS)) :=
  iter (fun (z : MS × Int) => m_style_80s z.1 x1 z.2) (M, x2)
noncomputable def m_style_211 (M : MS) (x1 x2 : Int) : Option ((MS × Int) ⊕ ((MS × Int) ⊕ (MS))) :=
  some (.inl (M, x2 + 1))
noncomputable def m_style_260 (M : MS) (x1 : Int) : Option ((MS × Int) ⊕ (MS)) :=
  some (.inl (M, x1 + 1))
noncomputable def m_style_217 (M : MS) (x1 : Int) : Option ((MS × Int) ⊕ (MS)) :=
  gd (zin x1 40) (Option.bind (m_named M (M.2 6 (zix x1)) 655364) (fun y10 =>
  if zI y10 = zI 0 then
  m_style_260 M x1
  else
  gd (zin (120 + x1) 280) (if zI (M.2 36 (zix (120 + x1))) = zI 105 then
  gd (zin (120 + x1) 280) (bnd (sA M 36 (zix (120 + x1)) 98) (fun M11 =>
  m_style_260 M11 x1))
  else
  m_style_260 M x1)))
noncomputable def m_style_174s (M : MS) (x1 x2 : Int) : Option ((MS × Int) ⊕ ((MS × Int) ⊕ (MS))) :=
  if zI x2 < zI 7 then
  gd (zin ((40 * x2) + x1) 280) (if zI (M.2 35 (zix ((40 * x2) + x1))) < zI 0 then
  Option.bind (m_initial M x2 x1) (fun y8 =>
  gd (zin ((40 * x2) + x1) 280) (bnd (sA M 36 (zix ((40 * x2) + x1)) y8) (fun M9 =>
  m_style_211 M9 x1 x2)))
  else
  m_style_211 M x1 x2)
  else
  mr (m_style_217 M x1)
noncomputable def m_style_174 (M : MS) (x1 x2 : Int) : Option ((MS × Int) ⊕ (MS)) :=
  iter (fun (z : MS × Int) => m_style_174s z.1 x1 z.2) (M, x2)
noncomputable def m_style_164s (M : MS) (x1 : Int) : Option ((MS × Int) ⊕ (MS)) :=
  if zI x1 < zI (M.1 5) then
  m_style_174 M x1 0
  else
  some (.inr M)
noncomputable def m_style_164 (M : MS) (x1 : Int) : Option (MS) :=
  iter (fun (z : MS × Int) => m_style_164s z.1 z.2) (M, x1)
noncomputable def m_style_162 (M : MS) : Option (MS) :=
  m_style_164 M 0
noncomputable def m_style_55s (M : MS) (x1 : Int) : Option ((MS × Int) ⊕ (MS)) :=
  if zI x1 < zI (M.1 22) then
  Option.bind (m_match M x1) (fun y5 =>
  bnd (sI y5 32 0) (fun M6 =>
  gd (zin x1 12) (bnd (M6.2 29 (zix x1)) (fun y7 =>
  m_style_80 M6 x1 y7))))
  else
  mr (m_style_162 M)
noncomputable def m_style_55 (M : MS) (x1 : Int) : Option (MS) :=
  iter (fun (z : MS × Int) => m_style_55s z.1 z.2) (M, x1)
noncomputable def m_style_53 (M : MS) : Option (MS) :=
  m_style_55 M 0
noncomputable def m_style_33s (M : MS) (x1 : Int) : Option ((MS × Int) ⊕ (MS)) :=
  if zI x1 < zI 280 then
  gd (zin x1 280) (bnd (sA M 35 (zix x1) (-1)) (fun M4 =>
  some (.inl (M4, x1 + 1))))
  else
  mr (m_style_53 M)
noncomputable def m_style_33 (M : MS) (x1 : Int) : Option (MS) :=
  iter (fun (z : MS × Int) => m_style_33s z.1 z.2) (M, x1)
noncomputable def m_style_31 (M : MS) : Option (MS) :=
  m_style_33 M 0
noncomputable def m_style_6s (M : MS) (x1 : Int) : Option ((MS × Int) ⊕ (MS)) :=
  if zI x1 < zI (M.1 5) then
  Option.bind (m_parentOf M x1) (fun y2 =>
  gd (zin x1 40) (bnd (sA M 33 (zix x1) y2) (fun M3 =>
  some (.inl (M3, x1 + 1)))))
  else
  mr (m_style_31 M)
noncomputable def m_style_6 (M : MS) (x1 : Int) : Option (MS) :=
  iter (fun (z : MS × Int) => m_style_6s z.1 z.2) (M, x1)
noncomputable def m_style (M : MS) : Option (MS) :=
  Option.bind (m_readSheet M) (fun y1 =>
  m_style_6 y1 0)
noncomputable def m_value (M : MS) (x1 x2 : Int) : Option (MS × Int) :=
  Option.bind (m_propertyIndex x2) (fun y1 =>
  Option.bind (m_none M x1) (fun y2 =>
  if zI y2 = zI 0 then
  if zI y1 < zI 0 then
  some (M, (-1))
  else
  gd (zin x1 40) (gd (zin (M.2 6 (zix x1)) 40) (if zI (M.2 8 (zix (M.2 6 (zix x1)))) < zI 2 then
  some (M, (-1))
  else
  Option.bind (m_style M) (fun y3 =>
  gd (zin ((40 * y1) + x1) 280) (some (y3, y3.2 36 (zix ((40 * y1) + x1)))))))
  else
  some (M, (-1))))
noncomputable def m_border (M : MS) (x1 x2 : Int) : Option (Int) :=
  if zI x1 = zI 0 then
  some 0
  else
  gd (zin ((40 * x2) + x1) 280) (some (M.2 36 (zix ((40 * x2) + x1))))
noncomputable def m_within_83 (M : MS) (x2 x4 x5 t0 : Int) : Option ((Int × Int × Int) ⊕ (Int)) :=
  gd (zin x4 40) (bnd (M.2 33 (zix x4)) (fun y2 =>
  some (.inl (t0, y2, x5 + 1))))
noncomputable def m_within_82 (M : MS) (x2 x4 x5 : Int) : Option ((Int × Int × Int) ⊕ (Int)) :=
  m_within_83 M x2 x4 x5 0
noncomputable def m_within_46s (M : MS) (x2 x3 x4 x5 : Int) : Option ((Int × Int × Int) ⊕ (Int)) :=
  if zI x5 < zI 40 then
  if zI x2 < zI x4 then
  if zI x3 = zI 0 then
  m_within_82 M x2 x4 x5
  else
  gd (zin (120 + x4) 280) (if zI (M.2 36 (zix (120 + x4))) = zI 105 then
  m_within_83 M x2 x4 x5 1
  else
  m_within_82 M x2 x4 x5)
  else
  gd (zisB x3) (some (.inr x3))
  else
  gd (zisB x3) (some (.inr x3))
noncomputable def m_within_46 (M : MS) (x2 x3 x4 x5 : Int) : Option (Int) :=
  iter (fun (z : Int × Int × Int) => m_within_46s M x2 z.1 z.2.1 z.2.2) (x3, x4, x5)
noncomputable def m_within_34 (M : MS) (x1 x2 t0 : Int) : Option (Int) :=
  gd (zin x1 40) (bnd (M.2 33 (zix x1)) (fun y1 =>
  m_within_46 M x2 t0 y1 0))
noncomputable def m_within_33 (M : MS) (x1 x2 : Int) : Option (Int) :=
  m_within_34 M x1 x2 0
noncomputable def m_within (M : MS) (x1 x2 : Int) : Option (Int) :=
  gd (zin x1 40) (gd (zin (M.2 6 (zix x1)) 40) (if zI (M.2 8 (zix (M.2 6 (zix x1)))) = zI 1 then
  m_within_33 M x1 x2
  else
  gd (zin (120 + x1) 280) (if zI (M.2 36 (zix (120 + x1))) = zI 98 then
  m_within_34 M x1 x2 1
  else
  m_within_33 M x1 x2)))
noncomputable def m_widths_288 (M : MS) (x1 x4 x5 x6 x7 x8 x9 : Int) : Option ((Int × Int × Int) ⊕ (MS)) :=
  some (.inl (x7, x8, x9 + 1))
noncomputable def m_widths_285 (M : MS) (x1 x4 x5 x6 x7 x9 t0 t1 : Int) : Option ((Int × Int × Int) ⊕ (MS)) :=
  bnd (t1 + t0) (fun y13 =>
  m_widths_288 M x1 x4 x5 x6 x7 y13 x9)
noncomputable def m_widths_395 (M : MS) (t0 t1 : Int) : Option (MS) :=
  gd (zin t1 40) (bnd (sA M 44 (zix t1) t0) (fun M19 =>
  some M19))
noncomputable def m_widths_311 (M : MS) (x1 x5 x6 : Int) : Option (MS) :=
  gd (zin (160 + x1) 280) (bnd (M.2 36 (zix (160 + x1))) (fun y15 =>
  gd (zin (240 + x1) 280) (bnd (M.2 36 (zix (240 + x1))) (fun y16 =>
  gd (zin (200 + x1) 280) (bnd ((x6 - (2 * y15)) - (2 * (M.2 36 (zix (200 + x1))))) (fun y17 =>
  gd (zin x1 40) (bnd (sA M 43 (zix x1) (x5 + y15)) (fun M18 =>
  if zI y16 = zI (-1) then
  if zI y17 < zI 0 then
  m_widths_395 M18 0 x1
  else
  m_widths_395 M18 y17 x1
  else
  m_widths_395 M18 y16 x1))))))))
noncomputable def m_widths_294 (M : MS) (x1 x5 x6 x7 x8 : Int) : Option (MS) :=
  gd (¬ zI x7 = zI 0) (bnd (zdiv x6 x7) (fun y13 =>
  bnd (x5 + (x8 * y13)) (fun y14 =>
  m_widths_311 M x1 y14 y13)))
noncomputable def m_widths_247s (M : MS) (x1 x4 x5 x6 x7 x8 x9 : Int) : Option ((Int × Int × Int) ⊕ (MS)) :=
  Option.bind (m_behind M x4) (fun y11 =>
  if zI x9 < zI y11 then
  Option.bind (m_within M x9 x4) (fun y12 =>
  if zI y12 = zI 0 then
  m_widths_288 M x1 x4 x5 x6 x7 x8 x9
  else
  if zI x9 < zI x1 then
  m_widths_285 M x1 x4 x5 x6 (x7 + 1) x9 1 x8
  else
  m_widths_285 M x1 x4 x5 x6 (x7 + 1) x9 0 x8)
  else
  mr (m_widths_294 M x1 x5 x6 x7 x8))
noncomputable def m_widths_247 (M : MS) (x1 x4 x5 x6 x7 x8 x9 : Int) : Option (MS) :=
  iter (fun (z : Int × Int × Int) => m_widths_247s M x1 x4 x5 x6 z.1 z.2.1 z.2.2) (x7, x8, x9)
noncomputable def m_widths_153 (M : MS) (x1 x2 t0 t1 : Int) : Option (MS) :=
  gd (zin t1 40) (bnd (sA M 42 (zix t1) t0) (fun M3 =>
  if zI x1 = zI 0 then
  gd (zin 0 40) (bnd (sA M3 43 (zix 0) 0) (fun M4 =>
  gd (zin 0 40) (bnd (sA M4 44 (zix 0) x2) (fun M5 =>
  some M5))))
  else
  gd (zin x1 40) (if zI (M3.2 41 (zix x1)) = zI 0 then
  some M3
  else
  gd (zin x1 40) (bnd (M3.2 42 (zix x1)) (fun y6 =>
  gd (zin y6 40) (Option.bind (m_border M3 y6 5) (fun y7 =>
  bnd ((M3.2 43 (zix y6)) + y7) (fun y8 =>
  gd (zin y6 40) (bnd (M3.2 44 (zix y6)) (fun y9 =>
  gd (zin y6 40) (gd (zin (M3.2 6 (zix y6)) 40) (if zI (M3.2 8 (zix (M3.2 6 (zix y6)))) = zI 114 then
  bnd (y6 + 1) (fun y10 =>
  m_widths_247 M3 x1 y6 y8 y9 0 0 y10)
  else
  m_widths_311 M3 x1 y8 y9))))))))))))
noncomputable def m_widths_105 (M : MS) (x1 x2 t0 t1 : Int) : Option (MS) :=
  gd (zin t1 40) (gd (zisB t0) (bnd (sA M 41 (zix t1) t0) (fun M2 =>
  if zI x1 = zI 0 then
  m_widths_153 M2 x1 x2 (-1) x1
  else
  gd (zin x1 40) (gd (zin (M2.2 33 (zix x1)) 40) (if zI (M2.2 41 (zix (M2.2 33 (zix x1)))) = zI 0 then
  gd (zin x1 40) (gd (zin (M2.2 33 (zix x1)) 40) (m_widths_153 M2 x1 x2 (M2.2 42 (zix (M2.2 33 (zix x1)))) x1))
  else
  gd (zin x1 40) (m_widths_153 M2 x1 x2 (M2.2 33 (zix x1)) x1))))))
noncomputable def m_widths_104 (M : MS) (x1 x2 t0 : Int) : Option (MS) :=
  m_widths_105 M x1 x2 0 t0
noncomputable def m_widths_67 (M : MS) (x1 x2 x3 t0 t1 : Int) : Option (MS) :=
  gd (zin t1 40) (gd (zisB t0) (bnd (sA M 40 (zix t1) t0) (fun M1 =>
  if zI x3 = zI 0 then
  m_widths_104 M1 x1 x2 x1
  else
  gd (zin x1 40) (if zI (M1.2 40 (zix x1)) = zI 0 then
  gd (zin (120 + x1) 280) (if zI (M1.2 36 (zix (120 + x1))) = zI 98 then
  m_widths_105 M1 x1 x2 1 x1
  else
  m_widths_104 M1 x1 x2 x1)
  else
  m_widths_104 M1 x1 x2 x1))))
noncomputable def m_widths_66 (M : MS) (x1 x2 x3 t0 : Int) : Option (MS) :=
  m_widths_67 M x1 x2 x3 0 t0
noncomputable def m_widths_62 (M : MS) (x1 x2 x3 t0 : Int) : Option (MS) :=
  m_widths_67 M x1 x2 x3 1 t0
noncomputable def m_widths_20 (M : MS) (x1 x2 t0 : Int) : Option (MS) :=
  if zI 0 < zI x1 then
  gd (zin x1 40) (gd (zin (M.2 33 (zix x1)) 40) (if zI (M.2 40 (zix (M.2 33 (zix x1)))) = zI 0 then
  if zI t0 = zI 0 then
  m_widths_66 M x1 x2 t0 x1
  else
  gd (zin (120 + x1) 280) (if zI (M.2 36 (zix (120 + x1))) = zI 110 then
  m_widths_62 M x1 x2 t0 x1
  else
  m_widths_66 M x1 x2 t0 x1)
  else
  m_widths_62 M x1 x2 t0 x1))
  else
  m_widths_66 M x1 x2 t0 x1
noncomputable def m_widths (M : MS) (x1 x2 : Int) : Option (MS) :=
  gd (zin x1 40) (gd (zin (M.2 6 (zix x1)) 40) (if zI (M.2 8 (zix (M.2 6 (zix x1)))) = zI 1 then
  m_widths_20 M x1 x2 0
  else
  m_widths_20 M x1 x2 1))
noncomputable def m_runs_46 (M : MS) (x2 t0 : Int) : Option ((Int × Int) ⊕ (Int)) :=
  some (.inl (t0, x2 + 1))
noncomputable def m_runs_41 (M : MS) (x2 : Int) : Option ((Int × Int) ⊕ (Int)) :=
  m_runs_46 M x2 1
noncomputable def m_runs_4s (M : MS) (x1 x2 : Int) : Option ((Int × Int) ⊕ (Int)) :=
  if zI x2 < zI (M.1 52) then
  if zI x1 = zI 0 then
  gd (zin x2 200) (if zI (M.2 51 (zix x2)) < zI 0 then
  m_runs_41 M x2
  else
  gd (zin x2 200) (gd (zin (M.2 51 (zix x2)) 160) (if zI (M.2 18 (zix (M.2 51 (zix x2)))) = zI 32 then
  m_runs_46 M x2 0
  else
  m_runs_41 M x2)))
  else
  m_runs_41 M x2
  else
  gd (zisB x1) (some (.inr x1))
noncomputable def m_runs_4 (M : MS) (x1 x2 : Int) : Option (Int) :=
  iter (fun (z : Int × Int) => m_runs_4s M z.1 z.2) (x1, x2)
noncomputable def m_runs (M : MS) : Option (Int) :=
  m_runs_4 M 0 0
noncomputable def m_newLine (M : MS) (x1 : Int) : Option (MS) :=
  bnd (sI M 54 x1) (fun M1 =>
  bnd (sI M1 55 0) (fun M2 =>
  bnd (sI M2 56 0) (fun M3 =>
  bnd (sI M3 57 0) (fun M4 =>
  some M4))))
noncomputable def m_size (M : MS) (x1 : Int) : Option (Int) :=
  gd (zin x1 200) (if zI (M.2 51 (zix x1)) < zI 0 then
  gd (zin x1 200) (gd (zin (79 - (M.2 51 (zix x1))) 280) (some (M.2 36 (zix (79 - (M.2 51 (zix x1)))))))
  else
  gd (zin x1 200) (gd (zin (M.2 51 (zix x1)) 160) (Option.bind (m_seat M (M.2 19 (zix (M.2 51 (zix x1))))) (fun y1 =>
  gd (zin y1 40) (gd (zin (80 + (M.2 33 (zix y1))) 280) (some (M.2 36 (zix (80 + (M.2 33 (zix y1)))))))))))
noncomputable def m_endLine_61 (M : MS) (x1 x2 : Int) : Option ((MS × Int) ⊕ (MS)) :=
  some (.inl (M, x2 + 1))
noncomputable def m_endLine_67 (M : MS) (x1 : Int) : Option (MS) :=
  bnd (sI M 53 ((M.1 53) + (M.1 56))) (fun M4 =>
  bnd (sI M4 39 ((M4.1 39) + 1)) (fun M5 =>
  Option.bind (m_newLine M5 x1) (fun y6 =>
  some y6)))
noncomputable def m_endLine_5s (M : MS) (x1 x2 : Int) : Option ((MS × Int) ⊕ (MS)) :=
  if zI x2 < zI x1 then
  gd (zin x2 200) (if zI (M.2 51 (zix x2)) < zI 0 then
  m_endLine_61 M x1 x2
  else
  gd (zin x2 200) (gd (zin (M.2 51 (zix x2)) 160) (if zI (M.2 18 (zix (M.2 51 (zix x2)))) = zI 32 then
  m_endLine_61 M x1 x2
  else
  gd (zin x2 200) (Option.bind (m_size M x2) (fun y2 =>
  gd (zin (M.2 51 (zix x2)) 160) (bnd (sA M 49 (zix (M.2 51 (zix x2))) (((M.1 53) + (M.1 56)) - y2)) (fun M3 =>
  m_endLine_61 M3 x1 x2)))))))
  else
  mr (m_endLine_67 M x1)
noncomputable def m_endLine_5 (M : MS) (x1 x2 : Int) : Option (MS) :=
  iter (fun (z : MS × Int) => m_endLine_5s z.1 x1 z.2) (M, x2)
noncomputable def m_endLine (M : MS) (x1 : Int) : Option (MS) :=
  bnd (M.1 54) (fun y1 =>
  m_endLine_5 M x1 y1)
noncomputable def m_putWord_44 (M : MS) (x1 x2 x3 x4 x5 x7 t0 : Int) : Option ((Int × Int × Int) ⊕ (MS)) :=
  some (.inl (x5, t0, x7 + 1))
noncomputable def m_putWord_208 (M : MS) (t0 : Int) : Option (MS) :=
  bnd (sI M 56 t0) (fun M10 =>
  bnd (sI M10 57 1) (fun M11 =>
  some M11))
noncomputable def m_putWord_183 (M : MS) (x6 x7 : Int) : Option (MS) :=
  bnd (sI M 55 x7) (fun M9 =>
  if zI (M9.1 56) < zI x6 then
  m_putWord_208 M9 x6
  else
  m_putWord_208 M9 (M9.1 56))
noncomputable def m_putWord_106s (M : MS) (x1 x3 x6 x7 x8 : Int) : Option ((MS × Int × Int) ⊕ (MS)) :=
  if zI x8 < zI x3 then
  gd (zin x8 200) (gd (zin (M.2 51 (zix x8)) 160) (bnd (sA M 47 (zix (M.2 51 (zix x8))) 1) (fun M3 =>
  gd (zin x8 200) (gd (zin (M3.2 51 (zix x8)) 160) (bnd (sA M3 50 (zix (M3.2 51 (zix x8))) x1) (fun M4 =>
  gd (zin x8 200) (gd (zin x1 40) (Option.bind (m_border M4 x1 5) (fun y5 =>
  gd (zin (M4.2 51 (zix x8)) 160) (bnd (sA M4 48 (zix (M4.2 51 (zix x8))) (((M4.2 43 (zix x1)) + y5) + x7)) (fun M6 =>
  Option.bind (m_size M6 x8) (fun y7 =>
  bnd (x7 + y7) (fun y8 =>
  some (.inl (M6, y8, x8 + 1)))))))))))))))
  else
  mr (m_putWord_183 M x6 x7)
noncomputable def m_putWord_106 (M : MS) (x1 x3 x6 x7 x8 : Int) : Option (MS) :=
  iter (fun (z : MS × Int × Int) => m_putWord_106s z.1 x1 x3 x6 z.2.1 z.2.2) (M, x7, x8)
noncomputable def m_putWord_101 (M : MS) (x1 x2 x3 x6 t0 : Int) : Option (MS) :=
  m_putWord_106 M x1 x3 x6 t0 x2
noncomputable def m_putWord_83 (M : MS) (x1 x2 x3 x4 x6 : Int) : Option (MS) :=
  if zI (M.1 57) = zI 0 then
  m_putWord_101 M x1 x2 x3 x6 0
  else
  m_putWord_101 M x1 x2 x3 x6 ((M.1 55) + x4)
noncomputable def m_putWord_52 (M : MS) (x1 x2 x3 x4 x5 x6 : Int) : Option (MS) :=
  if zI (M.1 57) = zI 0 then
  m_putWord_83 M x1 x2 x3 x4 x6
  else
  gd (zin x1 40) (if zI (M.2 44 (zix x1)) < zI (((M.1 55) + x4) + x5) then
  Option.bind (m_endLine M x2) (fun y3 =>
  m_putWord_83 y3 x1 x2 x3 x4 x6)
  else
  m_putWord_83 M x1 x2 x3 x4 x6)
noncomputable def m_putWord_9s (M : MS) (x1 x2 x3 x4 x5 x6 x7 : Int) : Option ((Int × Int × Int) ⊕ (MS)) :=
  if zI x7 < zI x3 then
  Option.bind (m_size M x7) (fun y1 =>
  bnd (x5 + y1) (fun y2 =>
  if zI x6 < zI y1 then
  m_putWord_44 M x1 x2 x3 x4 y2 x7 y1
  else
  m_putWord_44 M x1 x2 x3 x4 y2 x7 x6))
  else
  mr (m_putWord_52 M x1 x2 x3 x4 x5 x6)
noncomputable def m_putWord_9 (M : MS) (x1 x2 x3 x4 x5 x6 x7 : Int) : Option (MS) :=
  iter (fun (z : Int × Int × Int) => m_putWord_9s M x1 x2 x3 x4 z.1 z.2.1 z.2.2) (x5, x6, x7)
noncomputable def m_putWord (M : MS) (x1 x2 x3 x4 : Int) : Option (MS) :=
  m_putWord_9 M x1 x2 x3 x4 0 0 x2
noncomputable def m_lay_206 (M : MS) : Option (MS × Int) :=
  some (M, M.1 53)
noncomputable def m_lay_191 (M : MS) : Option (MS × Int) :=
  if zI (M.1 57) = zI 0 then
  m_lay_206 M
  else
  Option.bind (m_endLine M (M.1 52)) (fun y3 =>
  m_lay_206 y3)
noncomputable def m_lay_185 (M : MS) (x1 x3 x4 x5 : Int) : Option ((MS × Int × Int × Int) ⊕ (MS × Int)) :=
  some (.inl (M, x3, x4, x5 + 1))
noncomputable def m_lay_174 (M : MS) (x1 x3 x4 x5 : Int) : Option ((MS × Int × Int × Int) ⊕ (MS × Int)) :=
  bnd (sI M 57 1) (fun M7 =>
  Option.bind (m_endLine M7 x5) (fun y8 =>
  m_lay_185 y8 x1 x3 x4 x5))
noncomputable def m_lay_152 (M : MS) (x1 x3 x4 x5 x6 : Int) : Option ((MS × Int × Int × Int) ⊕ (MS × Int)) :=
  if zI x6 = zI 0 then
  m_lay_185 M x1 x3 x4 x5
  else
  if zI (M.1 57) = zI 0 then
  Option.bind (m_size M x5) (fun y5 =>
  bnd (sI M 56 y5) (fun M6 =>
  m_lay_174 M6 x1 x3 x4 x5))
  else
  m_lay_174 M x1 x3 x4 x5
noncomputable def m_lay_134 (M : MS) (x1 x3 x4 x5 x6 x7 : Int) : Option ((MS × Int × Int × Int) ⊕ (MS × Int)) :=
  if zI x7 = zI 0 then
  m_lay_152 M x1 x3 x4 x5 x6
  else
  if zI x4 = zI 0 then
  Option.bind (m_size M x5) (fun y5 =>
  m_lay_152 M x1 x3 y5 x5 x6)
  else
  m_lay_152 M x1 x3 x4 x5 x6
noncomputable def m_lay_129 (M : MS) (x1 x4 x5 x6 x7 : Int) : Option ((MS × Int × Int × Int) ⊕ (MS × Int)) :=
  bnd (x5 + 1) (fun y4 =>
  m_lay_134 M x1 y4 x4 x5 x6 x7)
noncomputable def m_lay_110 (M : MS) (x1 x3 x4 x5 x6 x7 : Int) : Option ((MS × Int × Int × Int) ⊕ (MS × Int)) :=
  if zI x3 < zI x5 then
  Option.bind (m_putWord M x1 x3 x5 x4) (fun y3 =>
  m_lay_129 y3 x1 0 x5 x6 x7)
  else
  m_lay_129 M x1 x4 x5 x6 x7
noncomputable def m_lay_89 (M : MS) (x1 x3 x4 x5 x6 t0 : Int) : Option ((MS × Int × Int × Int) ⊕ (MS × Int)) :=
  if zI x5 = zI (M.1 52) then
  m_lay_110 M x1 x3 x4 x5 x6 t0
  else
  if zI x6 = zI 0 then
  if zI t0 = zI 0 then
  m_lay_134 M x1 x3 x4 x5 x6 t0
  else
  m_lay_110 M x1 x3 x4 x5 x6 t0
  else
  m_lay_110 M x1 x3 x4 x5 x6 t0
noncomputable def m_lay_88 (M : MS) (x1 x3 x4 x5 x6 : Int) : Option ((MS × Int × Int × Int) ⊕ (MS × Int)) :=
  m_lay_89 M x1 x3 x4 x5 x6 0
noncomputable def m_lay_51 (M : MS) (x1 x3 x4 x5 t0 : Int) : Option ((MS × Int × Int × Int) ⊕ (MS × Int)) :=
  if zI x5 < zI (M.1 52) then
  if zI t0 = zI 0 then
  gd (zin x5 200) (gd (zin (M.2 51 (zix x5)) 160) (if zI (M.2 18 (zix (M.2 51 (zix x5)))) = zI 32 then
  m_lay_89 M x1 x3 x4 x5 t0 1
  else
  m_lay_88 M x1 x3 x4 x5 t0))
  else
  m_lay_88 M x1 x3 x4 x5 t0
  else
  m_lay_88 M x1 x3 x4 x5 t0
noncomputable def m_lay_50 (M : MS) (x1 x3 x4 x5 : Int) : Option ((MS × Int × Int × Int) ⊕ (MS × Int)) :=
  m_lay_51 M x1 x3 x4 x5 0
noncomputable def m_lay_18s (M : MS) (x1 x3 x4 x5 : Int) : Option ((MS × Int × Int × Int) ⊕ (MS × Int)) :=
  if zI (M.1 52) < zI x5 then
  mr (m_lay_191 M)
  else
  if zI x5 < zI (M.1 52) then
  gd (zin x5 200) (if zI (M.2 51 (zix x5)) < zI 0 then
  m_lay_51 M x1 x3 x4 x5 1
  else
  m_lay_50 M x1 x3 x4 x5)
  else
  m_lay_50 M x1 x3 x4 x5
noncomputable def m_lay_18 (M : MS) (x1 x3 x4 x5 : Int) : Option (MS × Int) :=
  iter (fun (z : MS × Int × Int × Int) => m_lay_18s z.1 x1 z.2.1 z.2.2.1 z.2.2.2) (M, x3, x4, x5)
noncomputable def m_lay (M : MS) (x1 x2 : Int) : Option (MS × Int) :=
  bnd (sI M 53 x2) (fun M1 =>
  Option.bind (m_newLine M1 0) (fun y2 =>
  m_lay_18 y2 x1 0 0 0))
noncomputable def m_gather_90 (M : MS) (x2 x3 : Int) : Option ((MS × Int) ⊕ (MS)) :=
  some (.inl (M, x3 + 1))
noncomputable def m_gather_42s (M : MS) (x2 x3 : Int) : Option ((MS × Int) ⊕ (MS)) :=
  if zI x3 < zI (M.1 17) then
  gd (zin x2 40) (if zI (M.2 8 (zix x2)) = zI 1 then
  gd (zin x3 160) (if zI (M.2 19 (zix x3)) = zI x2 then
  gd (zin (M.1 52) 200) (bnd (sA M 51 (zix (M.1 52)) x3) (fun M4 =>
  bnd (sI M4 52 ((M4.1 52) + 1)) (fun M5 =>
  m_gather_90 M5 x2 x3)))
  else
  m_gather_90 M x2 x3)
  else
  some (.inr M))
  else
  some (.inr M)
noncomputable def m_gather_42 (M : MS) (x2 x3 : Int) : Option (MS) :=
  iter (fun (z : MS × Int) => m_gather_42s z.1 x2 z.2) (M, x3)
noncomputable def m_gather_40 (M : MS) (x2 : Int) : Option (MS) :=
  m_gather_42 M x2 0
noncomputable def m_gather (M : MS) (x1 : Int) : Option (MS) :=
  gd (zin x1 40) (bnd (M.2 6 (zix x1)) (fun y1 =>
  gd (zin y1 40) (if zI (M.2 8 (zix y1)) = zI 107 then
  gd (zin (M.1 52) 200) (bnd (sA M 51 (zix (M.1 52)) ((-1) - x1)) (fun M2 =>
  bnd (sI M2 52 ((M2.1 52) + 1)) (fun M3 =>
  m_gather_40 M3 y1)))
  else
  m_gather_40 M y1)))
noncomputable def m_heights_251 (M : MS) (x1 x2 x3 x4 x5 x6 x7 x8 : Int) : Option ((MS × Int × Int × Int × Int) ⊕ (MS)) :=
  some (.inl (M, x4, x5, x6, x8 + 1))
noncomputable def m_heights_224 (M : MS) (x1 x2 x3 x4 x5 x6 x7 x8 : Int) : Option ((MS × Int × Int × Int × Int) ⊕ (MS)) :=
  gd (zin x8 40) (if zI (M.2 42 (zix x8)) = zI x1 then
  gd (zin x8 40) (if zI (M.2 40 (zix x8)) = zI 0 then
  Option.bind (m_gather M x8) (fun y7 =>
  m_heights_251 y7 x1 x2 x3 x4 x5 x6 x7 x8)
  else
  m_heights_251 M x1 x2 x3 x4 x5 x6 x7 x8)
  else
  m_heights_251 M x1 x2 x3 x4 x5 x6 x7 x8)
noncomputable def m_heights_215 (M : MS) (x1 x2 x3 x4 x7 x8 x10 t0 : Int) : Option ((MS × Int × Int × Int × Int) ⊕ (MS)) :=
  m_heights_251 M x1 x2 x3 x4 x10 t0 x7 x8
noncomputable def m_heights_163 (M : MS) (x1 x2 x3 x6 x7 x8 x10 t0 t1 : Int) : Option ((MS × Int × Int × Int × Int) ⊕ (MS)) :=
  gd (zin t1 40) (bnd (sA M 46 (zix t1) t0) (fun M10 =>
  gd (zin x8 40) (gd (zin x8 40) (bnd ((M10.2 46 (zix x8)) + (M10.2 45 (zix x8))) (fun y11 =>
  gd (zin x8 40) (if zI ((2 * x10) + (M10.2 45 (zix x8))) < zI x6 then
  m_heights_215 M10 x1 x2 x3 y11 x7 x8 x10 x6
  else
  gd (zin x8 40) (m_heights_215 M10 x1 x2 x3 y11 x7 x8 x10 ((2 * x10) + (M10.2 45 (zix x8))))))))))
noncomputable def m_heights_162 (M : MS) (x1 x2 x3 x6 x7 x8 x10 t0 t1 t2 : Int) : Option ((MS × Int × Int × Int × Int) ⊕ (MS)) :=
  m_heights_163 M x1 x2 x3 x6 x7 x8 x10 (t1 + t0) t2
noncomputable def m_heights_109 (M : MS) (x1 x2 x3 x4 x6 x7 x8 t0 : Int) : Option ((MS × Int × Int × Int × Int) ⊕ (MS)) :=
  bnd (sI M 52 0) (fun M8 =>
  gd (zin (160 + x8) 280) (bnd (M8.2 36 (zix (160 + x8))) (fun y9 =>
  if zI x3 = zI 114 then
  m_heights_163 M8 x1 x2 x3 x6 x7 x8 y9 y9 x8
  else
  if zI y9 < zI t0 then
  m_heights_162 M8 x1 x2 x3 x6 x7 x8 y9 t0 x4 x8
  else
  m_heights_162 M8 x1 x2 x3 x6 x7 x8 y9 y9 x4 x8)))
noncomputable def m_heights_98 (M : MS) (x1 x2 x3 x4 x5 x6 x7 x8 x9 : Int) : Option ((MS × Int × Int × Int × Int) ⊕ (MS)) :=
  if zI x9 = zI 0 then
  m_heights_109 M x1 x2 x3 x4 x6 x7 x8 x5
  else
  m_heights_109 M x1 x2 x3 x4 x6 x7 x8 0
noncomputable def m_heights_311 (M : MS) (t0 t1 t2 : Int) : Option (MS) :=
  gd (zin t2 40) (bnd (sA M 45 (zix t2) (t1 + t0)) (fun M10 =>
  some M10))
noncomputable def m_heights_279 (M : MS) (x1 x2 x3 x4 x5 x6 : Int) : Option (MS) :=
  if zI x3 = zI 104 then
  m_heights_311 M 1 x2 x1
  else
  if zI x3 = zI 114 then
  m_heights_311 M x6 x2 x1
  else
  m_heights_311 M (x4 + x5) x2 x1
noncomputable def m_heights_257 (M : MS) (x1 x2 x3 x4 x5 x6 : Int) : Option (MS) :=
  Option.bind (m_runs M) (fun y9 =>
  if zI y9 = zI 0 then
  m_heights_279 M x1 x2 x3 x4 x5 x6
  else
  Option.bind (m_lay M x1 (x4 + x5)) (fun y10 =>
  m_heights_279 y10.1 x1 x2 x3 y10.2 0 x6))
noncomputable def m_heights_47s (M : MS) (x1 x2 x3 x4 x5 x6 x7 x8 : Int) : Option ((MS × Int × Int × Int × Int) ⊕ (MS)) :=
  if zI x8 < zI x7 then
  gd (zin x8 40) (if zI (M.2 42 (zix x8)) = zI x1 then
  gd (zin x8 40) (if zI (M.2 41 (zix x8)) = zI 0 then
  m_heights_224 M x1 x2 x3 x4 x5 x6 x7 x8
  else
  Option.bind (m_runs M) (fun y7 =>
  if zI y7 = zI 0 then
  m_heights_98 M x1 x2 x3 x4 x5 x6 x7 x8 y7
  else
  Option.bind (m_lay M x1 (x4 + x5)) (fun y8 =>
  m_heights_98 y8.1 x1 x2 x3 y8.2 x5 x6 x7 x8 y7)))
  else
  m_heights_224 M x1 x2 x3 x4 x5 x6 x7 x8)
  else
  mr (m_heights_257 M x1 x2 x3 x4 x5 x6)
noncomputable def m_heights_47 (M : MS) (x1 x2 x3 x4 x5 x6 x7 x8 : Int) : Option (MS) :=
  iter (fun (z : MS × Int × Int × Int × Int) => m_heights_47s z.1 x1 x2 x3 z.2.1 z.2.2.1 z.2.2.2.1 x7 z.2.2.2.2) (M, x4, x5, x6, x8)
noncomputable def m_heights (M : MS) (x1 : Int) : Option (MS) :=
  Option.bind (m_border M x1 5) (fun y1 =>
  bnd (2 * y1) (fun y2 =>
  gd (zin x1 40) (gd (zin (M.2 6 (zix x1)) 40) (bnd (M.2 8 (zix (M.2 6 (zix x1)))) (fun y3 =>
  bnd (sI M 52 0) (fun M4 =>
  Option.bind (m_behind M4 x1) (fun y5 =>
  bnd (x1 + 1) (fun y6 =>
  m_heights_47 M4 x1 y2 y3 0 0 0 y5 y6))))))))
noncomputable def m_places_58 (M : MS) (x1 : Int) : Option ((MS × Int) ⊕ (MS)) :=
  some (.inl (M, x1 + 1))
noncomputable def m_places_115 (M : MS) (x1 : Int) : Option ((MS × Int) ⊕ (MS)) :=
  some (.inl (M, x1 + 1))
noncomputable def m_places_66s (M : MS) (x1 : Int) : Option ((MS × Int) ⊕ (MS)) :=
  if zI x1 < zI (M.1 17) then
  gd (zin x1 160) (if zI (M.2 47 (zix x1)) = zI 0 then
  m_places_115 M x1
  else
  gd (zin x1 160) (gd (zin x1 160) (gd (zin (M.2 50 (zix x1)) 40) (gd (zin x1 160) (Option.bind (m_border M (M.2 50 (zix x1)) 5) (fun y4 =>
  gd (zin x1 160) (bnd (sA M 49 (zix x1) ((M.2 49 (zix x1)) + ((M.2 46 (zix (M.2 50 (zix x1)))) + y4))) (fun M5 =>
  m_places_115 M5 x1))))))))
  else
  some (.inr M)
noncomputable def m_places_66 (M : MS) (x1 : Int) : Option (MS) :=
  iter (fun (z : MS × Int) => m_places_66s z.1 z.2) (M, x1)
noncomputable def m_places_64 (M : MS) : Option (MS) :=
  m_places_66 M 0
noncomputable def m_places_9s (M : MS) (x1 : Int) : Option ((MS × Int) ⊕ (MS)) :=
  if zI x1 < zI (M.1 5) then
  gd (zin x1 40) (if zI (M.2 41 (zix x1)) = zI 0 then
  m_places_58 M x1
  else
  gd (zin x1 40) (gd (zin x1 40) (gd (zin (M.2 42 (zix x1)) 40) (gd (zin x1 40) (Option.bind (m_border M (M.2 42 (zix x1)) 5) (fun y2 =>
  gd (zin x1 40) (bnd (sA M 46 (zix x1) ((M.2 46 (zix x1)) + ((M.2 46 (zix (M.2 42 (zix x1)))) + y2))) (fun M3 =>
  m_places_58 M3 x1))))))))
  else
  mr (m_places_64 M)
noncomputable def m_places_9 (M : MS) (x1 : Int) : Option (MS) :=
  iter (fun (z : MS × Int) => m_places_9s z.1 z.2) (M, x1)
noncomputable def m_places (M : MS) : Option (MS) :=
  gd (zin 0 40) (bnd (sA M 46 (zix 0) 0) (fun M1 =>
  m_places_9 M1 1))
noncomputable def m_layout_115 (M : MS) : Option (MS × Int) :=
  Option.bind (m_places M) (fun y8 =>
  gd (zin 0 40) (some (y8, y8.2 45 (zix 0))))
noncomputable def m_layout_109 (M : MS) (x2 : Int) : Option ((MS × Int) ⊕ (MS × Int)) :=
  some (.inl (M, x2 + (-1)))
noncomputable def m_layout_91s (M : MS) (x2 : Int) : Option ((MS × Int) ⊕ (MS × Int)) :=
  if zI x2 < zI 0 then
  mr (m_layout_115 M)
  else
  gd (zin x2 40) (if zI (M.2 41 (zix x2)) = zI 0 then
  m_layout_109 M x2
  else
  Option.bind (m_heights M x2) (fun y8 =>
  m_layout_109 y8 x2))
noncomputable def m_layout_91 (M : MS) (x2 : Int) : Option (MS × Int) :=
  iter (fun (z : MS × Int) => m_layout_91s z.1 z.2) (M, x2)
noncomputable def m_layout_84 (M : MS) : Option (MS × Int) :=
  bnd ((M.1 5) - 1) (fun y7 =>
  m_layout_91 M y7)
noncomputable def m_layout_64s (M : MS) (x1 x2 : Int) : Option ((MS × Int) ⊕ (MS × Int)) :=
  if zI x2 < zI (M.1 5) then
  Option.bind (m_widths M x2 x1) (fun y6 =>
  some (.inl (y6, x2 + 1)))
  else
  mr (m_layout_84 M)
noncomputable def m_layout_64 (M : MS) (x1 x2 : Int) : Option (MS × Int) :=
  iter (fun (z : MS × Int) => m_layout_64s z.1 x1 z.2) (M, x2)
noncomputable def m_layout_62 (M : MS) (x1 : Int) : Option (MS × Int) :=
  m_layout_64 M x1 0
noncomputable def m_layout_41s (M : MS) (x1 x2 : Int) : Option ((MS × Int) ⊕ (MS × Int)) :=
  if zI x2 < zI (M.1 17) then
  gd (zin x2 160) (bnd (sA M 47 (zix x2) 0) (fun M5 =>
  some (.inl (M5, x2 + 1))))
  else
  mr (m_layout_62 M x1)
noncomputable def m_layout_41 (M : MS) (x1 x2 : Int) : Option (MS × Int) :=
  iter (fun (z : MS × Int) => m_layout_41s z.1 x1 z.2) (M, x2)
noncomputable def m_layout (M : MS) (x1 : Int) : Option (MS × Int) :=
  if zI x1 < zI 1 then
  some (M, (-1))
  else
  if zI 64 < zI x1 then
  some (M, (-1))
  else
  if zI (M.1 4) = zI 0 then
  Option.bind (m_style M) (fun y1 =>
  bnd (sI y1 37 1) (fun M2 =>
  bnd (sI M2 38 x1) (fun M3 =>
  bnd (sI M3 39 0) (fun M4 =>
  m_layout_41 M4 x1 0))))
  else
  some (M, (-1))
noncomputable def m_box (M : MS) (x1 x2 : Int) : Option (Int) :=
  if zI (M.1 37) = zI 0 then
  some (-1)
  else
  Option.bind (m_none M x1) (fun y1 =>
  if zI y1 = zI 0 then
  gd (zin x1 40) (if zI (M.2 41 (zix x1)) = zI 0 then
  some (-1)
  else
  if zI x2 < zI 0 then
  some (-1)
  else
  if zI 3 < zI x2 then
  some (-1)
  else
  if zI x2 = zI 0 then
  gd (zin x1 40) (some (M.2 43 (zix x1)))
  else
  if zI x2 = zI 1 then
  gd (zin x1 40) (some (M.2 46 (zix x1)))
  else
  if zI x2 = zI 2 then
  gd (zin x1 40) (Option.bind (m_border M x1 5) (fun y2 =>
  some ((M.2 44 (zix x1)) + (2 * y2))))
  else
  gd (zin x1 40) (some (M.2 45 (zix x1))))
  else
  some (-1))
noncomputable def m_place_27 (M : MS) : Option (Int) :=
  some (-1)
noncomputable def m_place (M : MS) (x1 x2 : Int) : Option (Int) :=
  Option.bind (m_find M x1 x2) (fun y1 =>
  if zI (M.1 37) = zI 0 then
  m_place_27 M
  else
  if zI y1 < zI 0 then
  m_place_27 M
  else
  gd (zin y1 160) (if zI (M.2 47 (zix y1)) = zI 0 then
  m_place_27 M
  else
  gd (zin y1 160) (gd (zin y1 160) (some ((M.2 48 (zix y1)) + (65536 * (M.2 49 (zix y1))))))))
noncomputable def m_lines (M : MS) : Option (Int) :=
  if zI (M.1 37) = zI 0 then
  some (-1)
  else
  some (M.1 39)
noncomputable def m_inked (M : MS) (x1 x2 x3 x4 : Int) : Option (Int) :=
  gd (zin x1 160) (bnd (x2 - (M.2 48 (zix x1))) (fun y1 =>
  gd (zin x1 160) (bnd (x3 - (M.2 49 (zix x1))) (fun y2 =>
  if zI y1 < zI 0 then
  some 0
  else
  if zI y1 < zI x4 then
  if zI y2 < zI 0 then
  some 0
  else
  if zI y2 < zI x4 then
  gd (zin x1 160) (gd (¬ zI x4 = zI 0) (gd (¬ zI x4 = zI 0) (if zI (zand (zshr (M.2 18 (zix x1)) ((2 * (zdiv (2 * y2) x4)) + (zdiv (2 * y1) x4))) 1) = zI 1 then
  some 1
  else
  some 0)))
  else
  some 0
  else
  some 0))))
noncomputable def m_pixel_165 (M : MS) (x1 x2 x3 x4 : Int) : Option ((Int × Int) ⊕ (Int)) :=
  some (.inl (x3, x4 + 1))
noncomputable def m_pixel_134 (M : MS) (x1 x2 x3 x4 t0 : Int) : Option ((Int × Int) ⊕ (Int)) :=
  if zI t0 = zI 0 then
  m_pixel_165 M x1 x2 x3 x4
  else
  gd (zin (40 + x4) 280) (if zI (M.2 36 (zix (40 + x4))) = zI 0 then
  m_pixel_165 M x1 x2 x3 x4
  else
  gd (zin (40 + x4) 280) (bnd (M.2 36 (zix (40 + x4))) (fun y1 =>
  m_pixel_165 M x1 x2 y1 x4)))
noncomputable def m_pixel_133 (M : MS) (x1 x2 x3 x4 : Int) : Option ((Int × Int) ⊕ (Int)) :=
  m_pixel_134 M x1 x2 x3 x4 0
noncomputable def m_pixel_277 (M : MS) (x1 x2 x3 x4 x5 : Int) : Option ((Int × Int) ⊕ ((Int × Int) ⊕ (Int))) :=
  some (.inl (x3, x5 + 1))
noncomputable def m_pixel_283 (M : MS) (x1 x2 x3 x4 : Int) : Option ((Int × Int) ⊕ (Int)) :=
  some (.inl (x3, x4 + 1))
noncomputable def m_pixel_186s (M : MS) (x1 x2 x3 x4 x5 : Int) : Option ((Int × Int) ⊕ ((Int × Int) ⊕ (Int))) :=
  if zI x5 < zI (M.1 17) then
  gd (zin x4 40) (gd (zin (M.2 6 (zix x4)) 40) (if zI (M.2 8 (zix (M.2 6 (zix x4)))) = zI 1 then
  gd (zin x5 160) (gd (zin x4 40) (if zI (M.2 19 (zix x5)) = zI (M.2 6 (zix x4)) then
  gd (zin x5 160) (if zI (M.2 47 (zix x5)) = zI 0 then
  m_pixel_277 M x1 x2 x3 x4 x5
  else
  gd (zin x4 40) (gd (zin (80 + (M.2 33 (zix x4))) 280) (Option.bind (m_inked M x5 x1 x2 (M.2 36 (zix (80 + (M.2 33 (zix x4)))))) (fun y1 =>
  if zI y1 = zI 0 then
  m_pixel_277 M x1 x2 x3 x4 x5
  else
  gd (zin x4 40) (gd (zin (M.2 33 (zix x4)) 280) (bnd (M.2 36 (zix (M.2 33 (zix x4)))) (fun y2 =>
  m_pixel_277 M x1 x2 y2 x4 x5)))))))
  else
  m_pixel_277 M x1 x2 x3 x4 x5))
  else
  mr (m_pixel_283 M x1 x2 x3 x4)))
  else
  mr (m_pixel_283 M x1 x2 x3 x4)
noncomputable def m_pixel_186 (M : MS) (x1 x2 x3 x4 x5 : Int) : Option ((Int × Int) ⊕ (Int)) :=
  iter (fun (z : Int × Int) => m_pixel_186s M x1 x2 z.1 x4 z.2) (x3, x5)
noncomputable def m_pixel_174s (M : MS) (x1 x2 x3 x4 : Int) : Option ((Int × Int) ⊕ (Int)) :=
  if zI x4 < zI (M.1 5) then
  m_pixel_186 M x1 x2 x3 x4 0
  else
  some (.inr x3)
noncomputable def m_pixel_174 (M : MS) (x1 x2 x3 x4 : Int) : Option (Int) :=
  iter (fun (z : Int × Int) => m_pixel_174s M x1 x2 z.1 z.2) (x3, x4)
noncomputable def m_pixel_171 (M : MS) (x1 x2 x3 : Int) : Option (Int) :=
  m_pixel_174 M x1 x2 x3 1
noncomputable def m_pixel_36s (M : MS) (x1 x2 x3 x4 : Int) : Option ((Int × Int) ⊕ (Int)) :=
  if zI x4 < zI (M.1 5) then
  gd (zin x4 40) (if zI (M.2 41 (zix x4)) = zI 0 then
  m_pixel_133 M x1 x2 x3 x4
  else
  gd (zin x4 40) (if zI x1 < zI (M.2 43 (zix x4)) then
  m_pixel_133 M x1 x2 x3 x4
  else
  gd (zin x4 40) (gd (zin x4 40) (gd (zin (200 + x4) 280) (if zI x1 < zI (((M.2 43 (zix x4)) + (M.2 44 (zix x4))) + (2 * (M.2 36 (zix (200 + x4))))) then
  gd (zin x4 40) (if zI x2 < zI (M.2 46 (zix x4)) then
  m_pixel_133 M x1 x2 x3 x4
  else
  gd (zin x4 40) (gd (zin x4 40) (if zI x2 < zI ((M.2 46 (zix x4)) + (M.2 45 (zix x4))) then
  m_pixel_134 M x1 x2 x3 x4 1
  else
  m_pixel_133 M x1 x2 x3 x4)))
  else
  m_pixel_133 M x1 x2 x3 x4)))))
  else
  mr (m_pixel_171 M x1 x2 x3)
noncomputable def m_pixel_36 (M : MS) (x1 x2 x3 x4 : Int) : Option (Int) :=
  iter (fun (z : Int × Int) => m_pixel_36s M x1 x2 z.1 z.2) (x3, x4)
noncomputable def m_pixel (M : MS) (x1 x2 : Int) : Option (Int) :=
  if zI (M.1 37) = zI 0 then
  some (-1)
  else
  if zI x1 < zI 0 then
  some (-1)
  else
  if zI x1 < zI (M.1 38) then
  if zI x2 < zI 0 then
  some (-1)
  else
  if zI 63 < zI x2 then
  some (-1)
  else
  m_pixel_36 M x1 x2 0 1
  else
  some (-1)
