set_option maxRecDepth 100000
theorem w_X0_locate_23 {p : Program} {l : Launch} {e : Env} {R : Room} {s : State} {m : MethodId} {args : Array Value} {below : List Frame} {meth : Method} {c : Code} {Q : State → Prop} {E : PEw} {h0 h : HP} {H : Heap} {locs : List Loc} (C : PC E p s m args meth c RX0 cX0_locate 3 none "locate") (hr : 5 ≤ R.frames ∧ 115 ≤ R.locals ∧ RBw R h0) {x0 : Nat} {res : HP} (hf : f_X0_locate_23 h x0 = some res) (hz : ZP E s h0 h H locs) {ls : Array Slot} (hl : lv_has ls 3 [(0, .ref x0)]) (hk : KP E below args s Q h0 res none) : W p l e R s m args below meth c H locs (pX h - pX h0) (pS h - pS h0) Q (F0 m 23 ls []) := by
  unfold f_X0_locate_23 at hf
  have hx := C.1
  have hb := C.2.1
  refine lv_aload_n hx hb dX0_locate_23 rfl (lv_at hl 0 rfl) ?_
  obtain ⟨hg, hf⟩ := gd_inv hf
  refine zg_getp gP C hz 1 5 (gkp (by decide) hg) (by decide) (by decide) (Or.inl (C.w q405)) (fun _ h => h) dX0_locate_24 ?_
  refine lv_aload_n hx hb dX0_locate_27 rfl (lv_at hl 0 rfl) ?_
  refine zl_bipush hx hb dX0_locate_28 (by decide) ?_
  refine zc_str C 0 (by decide) rfl rfl dX0_locate_30 ?_
  obtain ⟨hg, hf⟩ := gd_inv hf
  obtain ⟨y1, ey1, hf⟩ := bd_inv hf
  refine zg_callV gP C hz hr (n := 2) (rest := [va_rf (pP h x0 5)]) (gkp (by decide) hg) (met_X0_reach l E ey1) q580 q582 (C.w qs12) q89 q583 (by decide +kernel) ⟨Nat.le_trans (by decide) hr.1, Nat.le_trans (by decide) hr.2.1⟩ rfl hl.1 rfl (by simp only [List.map_cons, List.map_nil, zx_cat]; exact Nat.le_of_ble_eq_true rfl) dX0_locate_32 (fun H locs hz => ?_)
  obtain ⟨a2, ea2, hf⟩ := bd_inv hf
  rw [zx_rf ea2]
  obtain ⟨y3, ey3, hf⟩ := bd_inv hf
  refine zj_lGet C hz hr ey3 (rest := []) q553 q554 (C.w q555) q94 q556 hl.1 ⟨Nat.le_trans (by decide) hr.1, Nat.le_trans (by decide) hr.2.1⟩ (Nat.le_of_ble_eq_true rfl) dX0_locate_35 (fun H locs hz => ?_)
  obtain ⟨hg, hf⟩ := gd_inv hf
  refine zg_cast2 gP C hz hg q124 dX0_locate_38 ?_
  refine lv_astore_n (lv' := [(2, .ref y3), (0, .ref x0)]) hx hb dX0_locate_41 rfl hl (by decide) rfl (fun ls hl => ?_)
  refine lv_aload_n hx hb dX0_locate_42 rfl (lv_at hl 1 rfl) ?_
  refine lv_aload_n hx hb dX0_locate_43 rfl (lv_at hl 0 rfl) ?_
  obtain ⟨hg, hf⟩ := gd_inv hf
  refine zg_getp gP C hz 2 0 (gkp (by decide) hg) (by decide) (by decide) (Or.inl (C.w q191)) (C.sm q192) dX0_locate_44 ?_
  obtain ⟨hg, hf⟩ := gd_inv hf
  obtain ⟨h4, eh4, hf⟩ := bnd_inv hf
  refine zg_putp gP C hz 1 12 (gkp (by decide) hg) (by decide) (by decide) (Or.inl ⟨_, rfl⟩) (by decide) (Or.inl (C.w q412)) (fun _ h => h) dX0_locate_47 eh4 (fun H locs hz => ?_)
  refine lv_aload_n hx hb dX0_locate_50 rfl (lv_at hl 1 rfl) ?_
  refine lv_aload_n hx hb dX0_locate_51 rfl (lv_at hl 1 rfl) ?_
  obtain ⟨hg, hf⟩ := gd_inv hf
  refine zg_getp gP C hz 1 12 (gkp (by decide) hg) (by decide) (by decide) (Or.inl (C.w q412)) (fun _ h => h) dX0_locate_52 ?_
  refine lv_aload_n hx hb dX0_locate_55 rfl (lv_at hl 0 rfl) ?_
  obtain ⟨a5, ea5, hf⟩ := bd_inv hf
  rw [zx_rf ea5]
  obtain ⟨hg, hf⟩ := gd_inv hf
  obtain ⟨y6, ey6, hf⟩ := bd_inv hf
  refine zg_callV gP C hz hr (n := 1) (rest := [.ref x0]) (gkp (by decide) hg) (met_X2_index l E ey6) q681 q682 (C.w q683) q91 q684 (by decide +kernel) ⟨Nat.le_trans (by decide) hr.1, Nat.le_trans (by decide) hr.2.1⟩ rfl hl.1 rfl (Nat.le_of_ble_eq_true rfl) dX0_locate_56 (fun H locs hz => ?_)
  obtain ⟨hg, hf⟩ := gd_inv hf
  obtain ⟨h7, eh7, hf⟩ := bnd_inv hf
  refine zg_puti gP C hz 1 13 (gkp (by decide) hg) (by decide) (by decide) rfl (by decide) (Or.inl (C.w q413)) (fun _ h => h) dX0_locate_59 eh7 (fun H locs hz => ?_)
  refine lv_goto (tgt := 81) hx hb dX0_locate_62 (by decide) ?_
  obtain rfl := Option.some.inj hf
  exact zg_vret C hz hk dX0_locate_81

theorem w_X0_locate {p : Program} {l : Launch} {e : Env} {R : Room} {s : State} {m : MethodId} {args : Array Value} {below : List Frame} {meth : Method} {c : Code} {Q : State → Prop} {E : PEw} {h0 h : HP} {H : Heap} {locs : List Loc} (C : PC E p s m args meth c RX0 cX0_locate 3 none "locate") (hr : 5 ≤ R.frames ∧ 115 ≤ R.locals ∧ RBw R h0) {x0 : Nat} {res : HP} (hf : f_X0_locate h x0 = some res) (hz : ZP E s h0 h H locs) {ls : Array Slot} (hl : lv_has ls 3 [(0, .ref x0)]) (hk : KP E below args s Q h0 res none) : W p l e R s m args below meth c H locs (pX h - pX h0) (pS h - pS h0) Q (F0 m 0 ls []) := by
  unfold f_X0_locate at hf
  have hx := C.1
  have hb := C.2.1
  refine lv_aload_n hx hb dX0_locate_0 rfl (lv_at hl 0 rfl) ?_
  obtain ⟨hg, hf⟩ := gd_inv hf
  obtain ⟨y1, ey1, hf⟩ := bd_inv hf
  refine zg_callV gP C hz hr (n := 0) (rest := []) (gkp (by decide) hg) (met_X0_top l E ey1) q545 q547 (C.w qs9) q89 q548 (by decide +kernel) ⟨Nat.le_trans (by decide) hr.1, Nat.le_trans (by decide) hr.2.1⟩ rfl hl.1 rfl (Nat.le_of_ble_eq_true rfl) dX0_locate_1 (fun H locs hz => ?_)
  refine lv_astore_n (lv' := [(1, .ref y1), (0, .ref x0)]) hx hb dX0_locate_4 rfl hl (by decide) rfl (fun ls hl => ?_)
  refine lv_aload_n hx hb dX0_locate_5 rfl (lv_at hl 0 rfl) ?_
  refine zl_bipush hx hb dX0_locate_6 (by decide) ?_
  obtain ⟨hg, hf⟩ := gd_inv hf
  obtain ⟨y2, ey2, hf⟩ := bd_inv hf
  refine zg_callV gP C hz hr (n := 1) (rest := []) (gkp (by decide) hg) (met_X2_is l E ey2) q567 q568 (C.w q569) q91 q570 (by decide +kernel) ⟨Nat.le_trans (by decide) hr.1, Nat.le_trans (by decide) hr.2.1⟩ rfl hl.1 rfl (Nat.le_of_ble_eq_true rfl) dX0_locate_8 (fun H locs hz => ?_)
  refine zl_if_ne (tgt := 23) hx hb dX0_locate_11 (by decide) (fun hc => ?_) (fun hc => ?_)
  · rw [if_pos hc] at hf
    refine lv_aload_n hx hb dX0_locate_14 rfl (lv_at hl 0 rfl) ?_
    refine zl_bipush hx hb dX0_locate_15 (by decide) ?_
    obtain ⟨hg, hf⟩ := gd_inv hf
    obtain ⟨y3, ey3, hf⟩ := bd_inv hf
    refine zg_callV gP C hz hr (n := 1) (rest := []) (gkp (by decide) hg) (met_X2_is l E ey3) q567 q568 (C.w q569) q91 q570 (by decide +kernel) ⟨Nat.le_trans (by decide) hr.1, Nat.le_trans (by decide) hr.2.1⟩ rfl hl.1 rfl (Nat.le_of_ble_eq_true rfl) dX0_locate_17 (fun H locs hz => ?_)
    refine zl_if_eq (tgt := 65) hx hb dX0_locate_20 (by decide) (fun hc => ?_) (fun hc => ?_)
    · rw [if_pos hc] at hf
      refine lv_aload_n hx hb dX0_locate_65 rfl (lv_at hl 1 rfl) ?_
      refine lv_aload_n hx hb dX0_locate_66 rfl (lv_at hl 0 rfl) ?_
      obtain ⟨hg, hf⟩ := gd_inv hf
      obtain ⟨h4, eh4, hf⟩ := bnd_inv hf
      refine zg_putp gP C hz 1 12 (gkp (by decide) hg) (by decide) (by decide) (Or.inl ⟨_, rfl⟩) (by decide) (Or.inl (C.w q412)) (fun _ h => h) dX0_locate_67 eh4 (fun H locs hz => ?_)
      refine lv_aload_n hx hb dX0_locate_70 rfl (lv_at hl 1 rfl) ?_
      refine lv_aload_n hx hb dX0_locate_71 rfl (lv_at hl 0 rfl) ?_
      obtain ⟨hg, hf⟩ := gd_inv hf
      refine zg_getp gP C hz 2 4 (gkp (by decide) hg) (by decide) (by decide) (Or.inr ⟨_, C.nw q166⟩) (fun _ h => h) dX0_locate_72 ?_
      obtain ⟨a5, ea5, hf⟩ := bd_inv hf
      rw [zx_rf ea5]
      obtain ⟨y6, ey6, hf⟩ := bd_inv hf
      refine zj_lLen C hz hr ey6 (rest := [.ref x0]) q549 q550 (C.w q551) q94 q552 hl.1 ⟨Nat.le_trans (by decide) hr.1, Nat.le_trans (by decide) hr.2.1⟩ (Nat.le_of_ble_eq_true rfl) dX0_locate_75 (fun H locs hz => ?_)
      obtain ⟨hg, hf⟩ := gd_inv hf
      obtain ⟨h7, eh7, hf⟩ := bnd_inv hf
      refine zg_puti gP C hz 1 13 (gkp (by decide) hg) (by decide) (by decide) rfl (by decide) (Or.inl (C.w q413)) (fun _ h => h) dX0_locate_78 eh7 (fun H locs hz => ?_)
      obtain rfl := Option.some.inj hf
      exact zg_vret C hz hk dX0_locate_81
    · rw [if_neg hc] at hf
      exact w_X0_locate_23 C hr hf hz (lv_sub hl [1] rfl) hk
  · rw [if_neg hc] at hf
    exact w_X0_locate_23 C hr hf hz (lv_sub hl [1] rfl) hk

theorem met_X0_locate (l : Launch) (E : PEw) {h : HP} {x0 : Nat} {res : HP} (hf : f_X0_locate h x0 = some res) : Met l yX0_locate (ws_ yX0_locate cX0_locate 3 none) (rmP h 5 115) (PP E h [.ref x0]) (QP E h res none) (pX res - pX h) (pS res - pS h) (eF E) := by
  refine Met.ofW (cc := cX0_locate) (maxL := 3) (ret := none) (by decide) rfl ?_
  intro p e s m args below meth c s₁ B hml hv
  obtain ⟨rfl, hP0⟩ := hv
  have hts := atoms_spec (ws := ws_ yX0_locate cX0_locate 3 none) B.pre
  have hts : ∀ w ∈ lw_all, w.before _ s = true := fun w h => hts w (List.mem_cons_of_mem _ h)
  have C : PC E p s m _ meth c RX0 cX0_locate 3 none "locate" := ⟨B.exec, B.bytes, B.returns, B.notSynchronized, hml, findClass_of_methodNamed B.named, hts, hP0.2, (name_of_methodNamed B.named B.method).1⟩
  have hz : ZP E s h h s.heap [] := ZG.start hP0.1
  have hl := lv_entry ([.ref x0]) (n := 3) (Nat.le_of_ble_eq_true rfl)
  rw [lg_entry_eq]
  generalize (lg_sl ([.ref x0]) ++ List.replicate (3 - (lg_sl ([.ref x0])).length) Slot.unset).toArray = ls at hl ⊢
  have hl : lv_has ls 3 [(0, .ref x0)] := hl
  refine W.cs (cells' := pX h - pX h) (slots' := pS h - pS h) (Nat.sub_self _).symm (Nat.sub_self _).symm ?_
  exact w_X0_locate C ⟨Nat.le_refl _, Nat.le_refl _, RBw.rm⟩ hf hz hl rfl

theorem w_X2_put {p : Program} {l : Launch} {e : Env} {R : Room} {s : State} {m : MethodId} {args : Array Value} {below : List Frame} {meth : Method} {c : Code} {Q : State → Prop} {E : PEw} {h0 h : HP} {H : Heap} {locs : List Loc} (C : PC E p s m args meth c RX2 cX2_put 3 none "put") (hr : 6 ≤ R.frames ∧ 155 ≤ R.locals ∧ RBw R h0) {x0 : Nat} {x1 : Int} {x2 : Nat} {res : HP} (hf : f_X2_put h x0 x1 x2 = some res) (hz : ZP E s h0 h H locs) {ls : Array Slot} (hl : lv_has ls 3 [(0, .ref x0), (1, .int (zI x1)), (2, .ref x2)]) (hk : KP E below args s Q h0 res none) : W p l e R s m args below meth c H locs (pX h - pX h0) (pS h - pS h0) Q (F0 m 0 ls []) := by
  unfold f_X2_put at hf
  have hx := C.1
  have hb := C.2.1
  refine lv_aload_n hx hb dX2_put_0 rfl (lv_at hl 0 rfl) ?_
  obtain ⟨hg, hf⟩ := gd_inv hf
  refine zg_getp gP C hz 2 4 (gkp (by decide) hg) (by decide) (by decide) (Or.inl (C.w q165)) (fun _ h => h) dX2_put_1 ?_
  refine lv_iload_n hx hb dX2_put_4 rfl (lv_at hl 1 rfl) ?_
  refine lv_aload_n hx hb dX2_put_5 rfl (lv_at hl 2 rfl) ?_
  obtain ⟨a1, ea1, hf⟩ := bd_inv hf
  rw [zx_rf ea1]
  obtain ⟨y2, ey2, hf⟩ := bd_inv hf
  refine zj_lIns C hz hr ey2 (rest := []) q691 q692 (C.w q693) q94 q694 hl.1 ⟨Nat.le_trans (by decide) hr.1, Nat.le_trans (by decide) hr.2.1⟩ (Nat.le_of_ble_eq_true rfl) dX2_put_6 (fun H locs hz => ?_)
  refine lv_aload_n hx hb dX2_put_9 rfl (lv_at hl 2 rfl) ?_
  refine lv_aload_n hx hb dX2_put_10 rfl (lv_at hl 0 rfl) ?_
  obtain ⟨hg, hf⟩ := gd_inv hf
  obtain ⟨h3, eh3, hf⟩ := bnd_inv hf
  refine zg_putp_nd gP C hz 2 0 hg (by decide) (by decide) (Or.inl ⟨_, rfl⟩) (by decide) (Or.inl (C.w q190)) (fun _ h => h) dX2_put_11 eh3 (fun H locs hz => ?_)
  obtain rfl := Option.some.inj hf
  exact zg_vret C hz hk dX2_put_14

theorem met_X2_put (l : Launch) (E : PEw) {h : HP} {x0 : Nat} {x1 : Int} {x2 : Nat} {res : HP} (hf : f_X2_put h x0 x1 x2 = some res) : Met l yX2_put (ws_ yX2_put cX2_put 3 none) (rmP h 6 155) (PP E h [.ref x0, .int (zI x1), .ref x2]) (QP E h res none) (pX res - pX h) (pS res - pS h) (eF E) := by
  refine Met.ofW (cc := cX2_put) (maxL := 3) (ret := none) (by decide) rfl ?_
  intro p e s m args below meth c s₁ B hml hv
  obtain ⟨rfl, hP0⟩ := hv
  have hts := atoms_spec (ws := ws_ yX2_put cX2_put 3 none) B.pre
  have hts : ∀ w ∈ lw_all, w.before _ s = true := fun w h => hts w (List.mem_cons_of_mem _ h)
  have C : PC E p s m _ meth c RX2 cX2_put 3 none "put" := ⟨B.exec, B.bytes, B.returns, B.notSynchronized, hml, findClass_of_methodNamed B.named, hts, hP0.2, (name_of_methodNamed B.named B.method).1⟩
  have hz : ZP E s h h s.heap [] := ZG.start hP0.1
  have hl := lv_entry ([.ref x0, .int (zI x1), .ref x2]) (n := 3) (Nat.le_of_ble_eq_true rfl)
  rw [lg_entry_eq]
  generalize (lg_sl ([.ref x0, .int (zI x1), .ref x2]) ++ List.replicate (3 - (lg_sl ([.ref x0, .int (zI x1), .ref x2])).length) Slot.unset).toArray = ls at hl ⊢
  have hl : lv_has ls 3 [(0, .ref x0), (1, .int (zI x1)), (2, .ref x2)] := hl
  refine W.cs (cells' := pX h - pX h) (slots' := pS h - pS h) (Nat.sub_self _).symm (Nat.sub_self _).symm ?_
  exact w_X2_put C ⟨Nat.le_refl _, Nat.le_refl _, RBw.rm⟩ hf hz hl rfl

theorem w_X0_insert {p : Program} {l : Launch} {e : Env} {R : Room} {s : State} {m : MethodId} {args : Array Value} {below : List Frame} {meth : Method} {c : Code} {Q : State → Prop} {E : PEw} {h0 h : HP} {H : Heap} {locs : List Loc} (C : PC E p s m args meth c RX0 cX0_insert 2 none "insert") (hr : 7 ≤ R.frames ∧ 177 ≤ R.locals ∧ RBw R h0) {x0 : Nat} {x1 : Nat} {res : HP} (hf : f_X0_insert h x0 x1 = some res) (hz : ZP E s h0 h H locs) {ls : Array Slot} (hl : lv_has ls 2 [(0, .ref x0), (1, .ref x1)]) (hk : KP E below args s Q h0 res none) : W p l e R s m args below meth c H locs (pX h - pX h0) (pS h - pS h0) Q (F0 m 0 ls []) := by
  unfold f_X0_insert at hf
  have hx := C.1
  have hb := C.2.1
  refine lv_aload_n hx hb dX0_insert_0 rfl (lv_at hl 0 rfl) ?_
  obtain ⟨hg, hf⟩ := gd_inv hf
  obtain ⟨y1, ey1, hf⟩ := bd_inv hf
  refine zg_callV gP C hz hr (n := 0) (rest := []) (gkp (by decide) hg) (met_X0_locate l E ey1) q677 q679 (C.w qs16) q89 q680 (by decide +kernel) ⟨Nat.le_trans (by decide) hr.1, Nat.le_trans (by decide) hr.2.1⟩ rfl hl.1 rfl (Nat.le_of_ble_eq_true rfl) dX0_insert_1 (fun H locs hz => ?_)
  refine lv_aload_n hx hb dX0_insert_4 rfl (lv_at hl 0 rfl) ?_
  obtain ⟨hg, hf⟩ := gd_inv hf
  refine zg_getp gP C hz 1 12 (gkp (by decide) hg) (by decide) (by decide) (Or.inl (C.w q412)) (fun _ h => h) dX0_insert_5 ?_
  refine lv_aload_n hx hb dX0_insert_8 rfl (lv_at hl 0 rfl) ?_
  obtain ⟨hg, hf⟩ := gd_inv hf
  refine zg_geti gP C hz 1 13 (gkp (by decide) hg) (by decide) (by decide) (Or.inl (C.w q413)) (fun _ h => h) dX0_insert_9 ?_
  refine lv_aload_n hx hb dX0_insert_12 rfl (lv_at hl 1 rfl) ?_
  obtain ⟨a2, ea2, hf⟩ := bd_inv hf
  rw [zx_rf ea2]
  obtain ⟨hg, hf⟩ := gd_inv hf
  obtain ⟨y3, ey3, hf⟩ := bd_inv hf
  refine zg_callV gP C hz hr (n := 2) (rest := []) (gkp (by decide) hg) (met_X2_put l E ey3) q687 q688 (C.w q689) q91 q690 (by decide +kernel) ⟨Nat.le_trans (by decide) hr.1, Nat.le_trans (by decide) hr.2.1⟩ rfl hl.1 rfl (Nat.le_of_ble_eq_true rfl) dX0_insert_13 (fun H locs hz => ?_)
  obtain rfl := Option.some.inj hf
  exact zg_vret C hz hk dX0_insert_16

theorem met_X0_insert (l : Launch) (E : PEw) {h : HP} {x0 : Nat} {x1 : Nat} {res : HP} (hf : f_X0_insert h x0 x1 = some res) : Met l yX0_insert (ws_ yX0_insert cX0_insert 2 none) (rmP h 7 177) (PP E h [.ref x0, .ref x1]) (QP E h res none) (pX res - pX h) (pS res - pS h) (eF E) := by
  refine Met.ofW (cc := cX0_insert) (maxL := 2) (ret := none) (by decide) rfl ?_
  intro p e s m args below meth c s₁ B hml hv
  obtain ⟨rfl, hP0⟩ := hv
  have hts := atoms_spec (ws := ws_ yX0_insert cX0_insert 2 none) B.pre
  have hts : ∀ w ∈ lw_all, w.before _ s = true := fun w h => hts w (List.mem_cons_of_mem _ h)
  have C : PC E p s m _ meth c RX0 cX0_insert 2 none "insert" := ⟨B.exec, B.bytes, B.returns, B.notSynchronized, hml, findClass_of_methodNamed B.named, hts, hP0.2, (name_of_methodNamed B.named B.method).1⟩
  have hz : ZP E s h h s.heap [] := ZG.start hP0.1
  have hl := lv_entry ([.ref x0, .ref x1]) (n := 2) (Nat.le_of_ble_eq_true rfl)
  rw [lg_entry_eq]
  generalize (lg_sl ([.ref x0, .ref x1]) ++ List.replicate (2 - (lg_sl ([.ref x0, .ref x1])).length) Slot.unset).toArray = ls at hl ⊢
  have hl : lv_has ls 2 [(0, .ref x0), (1, .ref x1)] := hl
  refine W.cs (cells' := pX h - pX h) (slots' := pS h - pS h) (Nat.sub_self _).symm (Nat.sub_self _).symm ?_
  exact w_X0_insert C ⟨Nat.le_refl _, Nat.le_refl _, RBw.rm⟩ hf hz hl rfl

theorem w_X0_renew_104 {p : Program} {l : Launch} {e : Env} {R : Room} {s : State} {m : MethodId} {args : Array Value} {below : List Frame} {meth : Method} {c : Code} {Q : State → Prop} {E : PEw} {h0 h : HP} {H : Heap} {locs : List Loc} (C : PC E p s m args meth c RX0 cX0_renew 6 none "renew") (hr : 8 ≤ R.frames ∧ 198 ≤ R.locals ∧ RBw R h0) {x0 : Nat} {x1 : Nat} {x3 : Int} {res : (HP × Int) ⊕ (HP)} (hf : f_X0_renew_104 h x0 x1 x3 = some res) (hz : ZP E s h0 h H locs) {ls : Array Slot} (hl : lv_has ls 6 [(0, .ref x0), (1, .ref x1), (3, .int (zI x3))]) (hk : (Sum.elim (fun z => ∀ (H : Heap) (locs : List Loc) (ls : Array Slot), ZP E s h0 z.1 H locs → lv_has ls 6 [(0, .ref x0), (1, .ref x1), (3, .int (zI z.2))] → W p l e R s m args below meth c H locs (pX z.1 - pX h0) (pS z.1 - pS h0) Q (F0 m 38 ls [])) (fun r => KP E below args s Q h0 r none)) res) : W p l e R s m args below meth c H locs (pX h - pX h0) (pS h - pS h0) Q (F0 m 104 ls []) := by
  unfold f_X0_renew_104 at hf
  have hx := C.1
  have hb := C.2.1
  refine zl_iinc (x := x3) (n := 1) (lv' := [(3, .int (zI (x3 + 1))), (0, .ref x0), (1, .ref x1)]) (k := 2) hx hb dX0_renew_104 hl rfl (by decide) rfl (fun ls hl => ?_)
  refine lv_goto (tgt := 38) hx hb dX0_renew_107 (by decide) ?_
  obtain rfl := Option.some.inj hf
  exact hk _ _ _ hz (lv_sub hl [1, 2, 0] rfl)

theorem w_X0_renew_38s {p : Program} {l : Launch} {e : Env} {R : Room} {s : State} {m : MethodId} {args : Array Value} {below : List Frame} {meth : Method} {c : Code} {Q : State → Prop} {E : PEw} {h0 h : HP} {H : Heap} {locs : List Loc} (C : PC E p s m args meth c RX0 cX0_renew 6 none "renew") (hr : 8 ≤ R.frames ∧ 198 ≤ R.locals ∧ RBw R h0) {x0 : Nat} {x1 : Nat} {x3 : Int} {res : (HP × Int) ⊕ (HP)} (hf : f_X0_renew_38s h x0 x1 x3 = some res) (hz : ZP E s h0 h H locs) {ls : Array Slot} (hl : lv_has ls 6 [(0, .ref x0), (1, .ref x1), (3, .int (zI x3))]) (hk : (Sum.elim (fun z => ∀ (H : Heap) (locs : List Loc) (ls : Array Slot), ZP E s h0 z.1 H locs → lv_has ls 6 [(0, .ref x0), (1, .ref x1), (3, .int (zI z.2))] → W p l e R s m args below meth c H locs (pX z.1 - pX h0) (pS z.1 - pS h0) Q (F0 m 38 ls [])) (fun r => KP E below args s Q h0 r none)) res) : W p l e R s m args below meth c H locs (pX h - pX h0) (pS h - pS h0) Q (F0 m 38 ls []) := by
  unfold f_X0_renew_38s at hf
  have hx := C.1
  have hb := C.2.1
  refine lv_iload_n hx hb dX0_renew_38 rfl (lv_at hl 2 rfl) ?_
  refine lv_aload_n hx hb dX0_renew_39 rfl (lv_at hl 1 rfl) ?_
  obtain ⟨y1, ey1, hf⟩ := bd_inv hf
  refine zj_lLen C hz hr ey1 (rest := [.int (zI x3)]) q549 q550 (C.w q551) q94 q552 hl.1 ⟨Nat.le_trans (by decide) hr.1, Nat.le_trans (by decide) hr.2.1⟩ (Nat.le_of_ble_eq_true rfl) dX0_renew_40 (fun H locs hz => ?_)
  refine zl_icmp_ge (tgt := 110) hx hb dX0_renew_43 (by decide) (fun hc => ?_) (fun hc => ?_)
  · rw [if_pos hc] at hf
    refine lv_aload_n hx hb dX0_renew_46 rfl (lv_at hl 0 rfl) ?_
    obtain ⟨hg, hf⟩ := gd_inv hf
    refine zg_geti gP C hz 1 7 (gkp (by decide) hg) (by decide) (by decide) (Or.inl (C.w q407)) (fun _ h => h) dX0_renew_47 ?_
    refine zl_if_ne (tgt := 110) hx hb dX0_renew_50 (by decide) (fun hc => ?_) (fun hc => ?_)
    · rw [if_pos hc] at hf
      refine lv_aload_n hx hb dX0_renew_53 rfl (lv_at hl 1 rfl) ?_
      refine lv_iload_n hx hb dX0_renew_54 rfl (lv_at hl 2 rfl) ?_
      obtain ⟨y2, ey2, hf⟩ := bd_inv hf
      refine zj_lGet C hz hr ey2 (rest := []) q553 q554 (C.w q555) q94 q556 hl.1 ⟨Nat.le_trans (by decide) hr.1, Nat.le_trans (by decide) hr.2.1⟩ (Nat.le_of_ble_eq_true rfl) dX0_renew_55 (fun H locs hz => ?_)
      obtain ⟨hg, hf⟩ := gd_inv hf
      refine zg_cast2 gP C hz hg q124 dX0_renew_58 ?_
      refine lv_astore (lv' := [(4, .ref y2), (0, .ref x0), (1, .ref x1), (3, .int (zI x3))]) hx hb dX0_renew_61 hl (by decide) rfl (fun ls hl => ?_)
      refine lv_aload_n hx hb dX0_renew_63 rfl (lv_at hl 1 rfl) ?_
      refine lv_aload hx hb dX0_renew_64 (lv_at hl 0 rfl) ?_
      obtain ⟨hg, hf⟩ := gd_inv hf
      refine zg_geti gP C hz 2 2 (gkp (by decide) hg) (by decide) (by decide) (Or.inr ⟨_, C.nw q161⟩) (fun _ h => h) dX0_renew_66 ?_
      refine lv_aload hx hb dX0_renew_69 (lv_at hl 0 rfl) ?_
      obtain ⟨hg, hf⟩ := gd_inv hf
      refine zg_geti gP C hz 2 3 (gkp (by decide) hg) (by decide) (by decide) (Or.inr ⟨_, C.nw q164⟩) (fun _ h => h) dX0_renew_71 ?_
      obtain ⟨hg, hf⟩ := gd_inv hf
      obtain ⟨y3, ey3, hf⟩ := bd_inv hf
      refine zg_callV gP C hz hr (n := 2) (rest := []) (gkp (by decide) hg) (met_X0_element l E ey3) q665 q667 (C.w qs13) q89 q668 (by decide +kernel) ⟨Nat.le_trans (by decide) hr.1, Nat.le_trans (by decide) hr.2.1⟩ rfl hl.1 rfl (Nat.le_of_ble_eq_true rfl) dX0_renew_74 (fun H locs hz => ?_)
      refine zl_astore_o (lv' := [(5, va_rf y3.2), (4, .ref y2), (0, .ref x0), (1, .ref x1), (3, .int (zI x3))]) hx hb dX0_renew_77 hl (by decide) rfl (fun ls hl => ?_)
      refine zl_aload_o hx hb dX0_renew_79 (lv_at hl 0 rfl) ?_
      rcases nl_inv hf with ⟨ho, hf⟩ | ⟨a4, ho, hf⟩
      · rw [zx_nul ho]
        refine lv_ifnullN (tgt := 104) hx hb dX0_renew_81 (by decide) ?_
        exact w_X0_renew_104 C hr hf hz (lv_sub hl [2, 3, 4] rfl) hk
      · rw [zx_rf ho] at hl ⊢
        refine lv_ifnull hx hb dX0_renew_81 ?_
        refine lv_aload_n hx hb dX0_renew_84 rfl (lv_at hl 2 rfl) ?_
        refine lv_aload hx hb dX0_renew_85 (lv_at hl 0 rfl) ?_
        obtain ⟨hg, hf⟩ := gd_inv hf
        obtain ⟨y5, ey5, hf⟩ := bd_inv hf
        refine zg_callV gP C hz hr (n := 1) (rest := []) (gkp (by decide) hg) (met_X0_insert l E ey5) q673 q675 (C.w qs15) q89 q676 (by decide +kernel) ⟨Nat.le_trans (by decide) hr.1, Nat.le_trans (by decide) hr.2.1⟩ rfl hl.1 rfl (Nat.le_of_ble_eq_true rfl) dX0_renew_87 (fun H locs hz => ?_)
        refine lv_aload_n hx hb dX0_renew_90 rfl (lv_at hl 2 rfl) ?_
        refine lv_aload hx hb dX0_renew_91 (lv_at hl 0 rfl) ?_
        obtain ⟨hg, hf⟩ := gd_inv hf
        obtain ⟨y6, ey6, hf⟩ := bd_inv hf
        refine zg_callV gP C hz hr (n := 1) (rest := []) (gkp (by decide) hg) (met_X0_enter l E ey6) q334 q336 (C.w qs1) q89 q337 (by decide +kernel) ⟨Nat.le_trans (by decide) hr.1, Nat.le_trans (by decide) hr.2.1⟩ rfl hl.1 rfl (Nat.le_of_ble_eq_true rfl) dX0_renew_93 (fun H locs hz => ?_)
        refine lv_aload_n hx hb dX0_renew_96 rfl (lv_at hl 3 rfl) ?_
        refine lv_iload_n hx hb dX0_renew_97 rfl (lv_at hl 4 rfl) ?_
        refine lv_aload hx hb dX0_renew_98 (lv_at hl 0 rfl) ?_
        obtain ⟨y7, ey7, hf⟩ := bd_inv hf
        refine zj_lSet C hz hr ey7 (rest := []) q700 q701 (C.w q702) q94 q703 hl.1 ⟨Nat.le_trans (by decide) hr.1, Nat.le_trans (by decide) hr.2.1⟩ (Nat.le_of_ble_eq_true rfl) dX0_renew_100 (fun H locs hz => ?_)
        refine lv_pop hx hb dX0_renew_103 rfl ?_
        exact w_X0_renew_104 C hr hf hz (lv_sub hl [2, 3, 4] rfl) hk
    · rw [if_neg hc] at hf
      obtain rfl := Option.some.inj hf
      exact zg_vret C hz hk dX0_renew_110
  · rw [if_neg hc] at hf
    obtain rfl := Option.some.inj hf
    exact zg_vret C hz hk dX0_renew_110

theorem w_X0_renew_38 {p : Program} {l : Launch} {e : Env} {R : Room} {s : State} {m : MethodId} {args : Array Value} {below : List Frame} {meth : Method} {c : Code} {Q : State → Prop} {E : PEw} {h0 h : HP} {H : Heap} {locs : List Loc} (C : PC E p s m args meth c RX0 cX0_renew 6 none "renew") (hr : 8 ≤ R.frames ∧ 198 ≤ R.locals ∧ RBw R h0) {x0 : Nat} {x1 : Nat} {x3 : Int} {res : HP} (hf : f_X0_renew_38 h x0 x1 x3 = some res) (hz : ZP E s h0 h H locs) {ls : Array Slot} (hl : lv_has ls 6 [(0, .ref x0), (1, .ref x1), (3, .int (zI x3))]) (hk : KP E below args s Q h0 res none) : W p l e R s m args below meth c H locs (pX h - pX h0) (pS h - pS h0) Q (F0 m 38 ls []) := by
  unfold f_X0_renew_38 at hf
  refine iter_ind (P := fun z r => ∀ (H : Heap) (locs : List Loc) (ls : Array Slot), ZP E s h0 z.1 H locs → lv_has ls 6 [(0, .ref x0), (1, .ref x1), (3, .int (zI z.2))] → KP E below args s Q h0 r none → W p l e R s m args below meth c H locs (pX z.1 - pX h0) (pS z.1 - pS h0) Q (F0 m 38 ls [])) ?_ ?_ hf H locs ls hz hl hk
  · intro z r h1 H locs ls hz hl hk; exact w_X0_renew_38s C hr h1 hz hl hk
  · intro z z1 r h1 ih H locs ls hz hl hk; exact w_X0_renew_38s C hr h1 hz hl (fun H locs ls hz hl => ih H locs ls hz hl hk)

theorem w_X0_renew_36 {p : Program} {l : Launch} {e : Env} {R : Room} {s : State} {m : MethodId} {args : Array Value} {below : List Frame} {meth : Method} {c : Code} {Q : State → Prop} {E : PEw} {h0 h : HP} {H : Heap} {locs : List Loc} (C : PC E p s m args meth c RX0 cX0_renew 6 none "renew") (hr : 8 ≤ R.frames ∧ 198 ≤ R.locals ∧ RBw R h0) {x0 : Nat} {x1 : Nat} {x2 : Int} {res : HP} (hf : f_X0_renew_36 h x0 x1 x2 = some res) (hz : ZP E s h0 h H locs) {ls : Array Slot} (hl : lv_has ls 6 [(0, .ref x0), (1, .ref x1), (2, .int (zI x2))]) (hk : KP E below args s Q h0 res none) : W p l e R s m args below meth c H locs (pX h - pX h0) (pS h - pS h0) Q (F0 m 36 ls []) := by
  unfold f_X0_renew_36 at hf
  have hx := C.1
  have hb := C.2.1
  refine lv_iload_n hx hb dX0_renew_36 rfl (lv_at hl 2 rfl) ?_
  refine lv_istore_n (lv' := [(3, .int (zI x2)), (0, .ref x0), (1, .ref x1), (2, .int (zI x2))]) hx hb dX0_renew_37 rfl hl (by decide) rfl (fun ls hl => ?_)
  exact w_X0_renew_38 C hr hf hz (lv_sub hl [1, 2, 0] rfl) hk

theorem w_X0_renew_10s {p : Program} {l : Launch} {e : Env} {R : Room} {s : State} {m : MethodId} {args : Array Value} {below : List Frame} {meth : Method} {c : Code} {Q : State → Prop} {E : PEw} {h0 h : HP} {H : Heap} {locs : List Loc} (C : PC E p s m args meth c RX0 cX0_renew 6 none "renew") (hr : 8 ≤ R.frames ∧ 198 ≤ R.locals ∧ RBw R h0) {x0 : Nat} {x1 : Nat} {x2 : Int} {res : (Int) ⊕ (HP)} (hf : f_X0_renew_10s h x0 x1 x2 = some res) (hz : ZP E s h0 h H locs) {ls : Array Slot} (hl : lv_has ls 6 [(0, .ref x0), (1, .ref x1), (2, .int (zI x2))]) (hk : (Sum.elim (fun z => ∀ (H : Heap) (locs : List Loc) (ls : Array Slot), ZP E s h0 h H locs → lv_has ls 6 [(0, .ref x0), (1, .ref x1), (2, .int (zI z))] → W p l e R s m args below meth c H locs (pX h - pX h0) (pS h - pS h0) Q (F0 m 10 ls [])) (fun r => KP E below args s Q h0 r none)) res) : W p l e R s m args below meth c H locs (pX h - pX h0) (pS h - pS h0) Q (F0 m 10 ls []) := by
  unfold f_X0_renew_10s at hf
  have hx := C.1
  have hb := C.2.1
  refine lv_iload_n hx hb dX0_renew_10 rfl (lv_at hl 2 rfl) ?_
  refine zl_if_le (tgt := 36) hx hb dX0_renew_11 (by decide) (fun hc => ?_) (fun hc => ?_)
  · rw [if_pos hc] at hf
    refine lv_aload_n hx hb dX0_renew_14 rfl (lv_at hl 1 rfl) ?_
    refine lv_iload_n hx hb dX0_renew_15 rfl (lv_at hl 2 rfl) ?_
    refine zl_iconst hx hb dX0_renew_16 ?_
    refine zl_isub hx hb dX0_renew_17 ?_
    obtain ⟨y1, ey1, hf⟩ := bd_inv hf
    refine zj_lGet C hz hr ey1 (rest := []) q553 q554 (C.w q555) q94 q556 hl.1 ⟨Nat.le_trans (by decide) hr.1, Nat.le_trans (by decide) hr.2.1⟩ (Nat.le_of_ble_eq_true rfl) dX0_renew_18 (fun H locs hz => ?_)
    obtain ⟨hg, hf⟩ := gd_inv hf
    refine zg_cast2 gP C hz hg q124 dX0_renew_21 ?_
    obtain ⟨hg, hf⟩ := gd_inv hf
    refine zg_geti gP C hz 2 6 (gkp (by decide) hg) (by decide) (by decide) (Or.inr ⟨_, C.nw q170⟩) (fun _ h => h) dX0_renew_24 ?_
    refine zl_if_ne (tgt := 36) hx hb dX0_renew_27 (by decide) (fun hc => ?_) (fun hc => ?_)
    · rw [if_pos hc] at hf
      refine zl_iinc (x := x2) (n := (-1)) (lv' := [(2, .int (zI (x2 + (-1)))), (0, .ref x0), (1, .ref x1)]) (k := 2) hx hb dX0_renew_30 hl rfl (by decide) rfl (fun ls hl => ?_)
      refine lv_goto (tgt := 10) hx hb dX0_renew_33 (by decide) ?_
      obtain rfl := Option.some.inj hf
      exact hk _ _ _ hz (lv_sub hl [1, 2, 0] rfl)
    · rw [if_neg hc] at hf
      obtain ⟨r0, hm0, rfl⟩ := mr_inv hf
      exact w_X0_renew_36 C hr hm0 hz (lv_sub hl [0, 1, 2] rfl) hk
  · rw [if_neg hc] at hf
    obtain ⟨r0, hm0, rfl⟩ := mr_inv hf
    exact w_X0_renew_36 C hr hm0 hz (lv_sub hl [0, 1, 2] rfl) hk

theorem w_X0_renew_10 {p : Program} {l : Launch} {e : Env} {R : Room} {s : State} {m : MethodId} {args : Array Value} {below : List Frame} {meth : Method} {c : Code} {Q : State → Prop} {E : PEw} {h0 h : HP} {H : Heap} {locs : List Loc} (C : PC E p s m args meth c RX0 cX0_renew 6 none "renew") (hr : 8 ≤ R.frames ∧ 198 ≤ R.locals ∧ RBw R h0) {x0 : Nat} {x1 : Nat} {x2 : Int} {res : HP} (hf : f_X0_renew_10 h x0 x1 x2 = some res) (hz : ZP E s h0 h H locs) {ls : Array Slot} (hl : lv_has ls 6 [(0, .ref x0), (1, .ref x1), (2, .int (zI x2))]) (hk : KP E below args s Q h0 res none) : W p l e R s m args below meth c H locs (pX h - pX h0) (pS h - pS h0) Q (F0 m 10 ls []) := by
  unfold f_X0_renew_10 at hf
  refine iter_ind (P := fun z r => ∀ (H : Heap) (locs : List Loc) (ls : Array Slot), ZP E s h0 h H locs → lv_has ls 6 [(0, .ref x0), (1, .ref x1), (2, .int (zI z))] → KP E below args s Q h0 r none → W p l e R s m args below meth c H locs (pX h - pX h0) (pS h - pS h0) Q (F0 m 10 ls [])) ?_ ?_ hf H locs ls hz hl hk
  · intro z r h1 H locs ls hz hl hk; exact w_X0_renew_10s C hr h1 hz hl hk
  · intro z z1 r h1 ih H locs ls hz hl hk; exact w_X0_renew_10s C hr h1 hz hl (fun H locs ls hz hl => ih H locs ls hz hl hk)

theorem w_X0_renew {p : Program} {l : Launch} {e : Env} {R : Room} {s : State} {m : MethodId} {args : Array Value} {below : List Frame} {meth : Method} {c : Code} {Q : State → Prop} {E : PEw} {h0 h : HP} {H : Heap} {locs : List Loc} (C : PC E p s m args meth c RX0 cX0_renew 6 none "renew") (hr : 8 ≤ R.frames ∧ 198 ≤ R.locals ∧ RBw R h0) {x0 : Nat} {res : HP} (hf : f_X0_renew h x0 = some res) (hz : ZP E s h0 h H locs) {ls : Array Slot} (hl : lv_has ls 6 [(0, .ref x0)]) (hk : KP E below args s Q h0 res none) : W p l e R s m args below meth c H locs (pX h - pX h0) (pS h - pS h0) Q (F0 m 0 ls []) := by
  unfold f_X0_renew at hf
  have hx := C.1
  have hb := C.2.1
  refine lv_aload_n hx hb dX0_renew_0 rfl (lv_at hl 0 rfl) ?_
  obtain ⟨hg, hf⟩ := gd_inv hf
  obtain ⟨y1, ey1, hf⟩ := bd_inv hf
  refine zg_callV gP C hz hr (n := 0) (rest := []) (gkp (by decide) hg) (met_X0_list l E ey1) q575 q577 (C.w qs11) q89 q578 (by decide +kernel) ⟨Nat.le_trans (by decide) hr.1, Nat.le_trans (by decide) hr.2.1⟩ rfl hl.1 rfl (Nat.le_of_ble_eq_true rfl) dX0_renew_1 (fun H locs hz => ?_)
  refine zl_astore_n_o (lv' := [(1, va_rf y1), (0, .ref x0)]) hx hb dX0_renew_4 rfl hl (by decide) rfl (fun ls hl => ?_)
  refine zl_aload_n_o hx hb dX0_renew_5 rfl (lv_at hl 0 rfl) ?_
  obtain ⟨a2, ea2, hf⟩ := bd_inv hf
  rw [zx_rf ea2] at hl ⊢
  obtain ⟨y3, ey3, hf⟩ := bd_inv hf
  refine zj_lLen C hz hr ey3 (rest := []) q549 q550 (C.w q551) q94 q552 hl.1 ⟨Nat.le_trans (by decide) hr.1, Nat.le_trans (by decide) hr.2.1⟩ (Nat.le_of_ble_eq_true rfl) dX0_renew_6 (fun H locs hz => ?_)
  refine lv_istore_n (lv' := [(2, .int (zI y3)), (1, .ref a2), (0, .ref x0)]) hx hb dX0_renew_9 rfl hl (by decide) rfl (fun ls hl => ?_)
  exact w_X0_renew_10 C hr hf hz (lv_sub hl [2, 1, 0] rfl) hk

theorem met_X0_renew (l : Launch) (E : PEw) {h : HP} {x0 : Nat} {res : HP} (hf : f_X0_renew h x0 = some res) : Met l yX0_renew (ws_ yX0_renew cX0_renew 6 none) (rmP h 8 198) (PP E h [.ref x0]) (QP E h res none) (pX res - pX h) (pS res - pS h) (eF E) := by
  refine Met.ofW (cc := cX0_renew) (maxL := 6) (ret := none) (by decide) rfl ?_
  intro p e s m args below meth c s₁ B hml hv
  obtain ⟨rfl, hP0⟩ := hv
  have hts := atoms_spec (ws := ws_ yX0_renew cX0_renew 6 none) B.pre
  have hts : ∀ w ∈ lw_all, w.before _ s = true := fun w h => hts w (List.mem_cons_of_mem _ h)
  have C : PC E p s m _ meth c RX0 cX0_renew 6 none "renew" := ⟨B.exec, B.bytes, B.returns, B.notSynchronized, hml, findClass_of_methodNamed B.named, hts, hP0.2, (name_of_methodNamed B.named B.method).1⟩
  have hz : ZP E s h h s.heap [] := ZG.start hP0.1
  have hl := lv_entry ([.ref x0]) (n := 6) (Nat.le_of_ble_eq_true rfl)
  rw [lg_entry_eq]
  generalize (lg_sl ([.ref x0]) ++ List.replicate (6 - (lg_sl ([.ref x0])).length) Slot.unset).toArray = ls at hl ⊢
  have hl : lv_has ls 6 [(0, .ref x0)] := hl
  refine W.cs (cells' := pX h - pX h) (slots' := pS h - pS h) (Nat.sub_self _).symm (Nat.sub_self _).symm ?_
  exact w_X0_renew C ⟨Nat.le_refl _, Nat.le_refl _, RBw.rm⟩ hf hz hl rfl

theorem w_J10_copyOf_4 {p : Program} {l : Launch} {e : Env} {R : Room} {s : State} {m : MethodId} {args : Array Value} {below : List Frame} {meth : Method} {c : Code} {Q : State → Prop} {E : PEw} {h0 h : HP} {H : Heap} {locs : List Loc} (C : PC E p s m args meth c RJ10 cJ10_copyOf_4 3 (some (.array .int)) "copyOf") (hr : 1 ≤ R.frames ∧ 44 ≤ R.locals ∧ RBw R h0) {x0 : Nat} {x1 : Int} {res : HP × Nat} (hf : f_J10_copyOf_4 h x0 x1 = some res) (hz : ZP E s h0 h H locs) {ls : Array Slot} (hl : lv_has ls 3 [(0, .ref x0), (1, .int (zI x1))]) (hk : KP E below args s Q h0 res.1 (some (.ref res.2))) : W p l e R s m args below meth c H locs (pX h - pX h0) (pS h - pS h0) Q (F0 m 0 ls []) := by
  unfold f_J10_copyOf_4 at hf
  have hx := C.1
  have hb := C.2.1
  refine lv_iload_n hx hb dJ10_copyOf_4_0 rfl (lv_at hl 1 rfl) ?_
  refine lv_aload_n hx hb dJ10_copyOf_4_1 rfl (lv_at hl 0 rfl) ?_
  obtain ⟨hg, hf⟩ := gd_inv hf
  refine zg_alenP gP C hz hg dJ10_copyOf_4_2 ?_
  refine zl_icmp_ne (tgt := 14) hx hb dJ10_copyOf_4_3 (by decide) (fun hc => ?_) (fun hc => ?_)
  · rw [if_pos hc] at hf
    cases hf
  · rw [if_neg hc] at hf
    refine lv_iload_n hx hb dJ10_copyOf_4_14 rfl (lv_at hl 1 rfl) ?_
    obtain ⟨a1, ea1, hf⟩ := bnd_inv hf
    obtain ⟨hg, hf⟩ := gd_inv hf
    obtain ⟨hn, hf⟩ := gd_inv hf
    obtain ⟨h2, eh2, hf⟩ := bnd_inv hf
    refine zg_newa_int gP C hz hr ⟨Or.inl (vP_I hn), hn⟩ hg dJ10_copyOf_4_15 ea1 eh2 (fun H hz => ?_)
    refine lv_astore_n (lv' := [(2, .ref a1), (0, .ref x0), (1, .int (zI x1))]) hx hb dJ10_copyOf_4_17 rfl hl (by decide) rfl (fun ls hl => ?_)
    refine lv_aload_n hx hb dJ10_copyOf_4_18 rfl (lv_at hl 1 rfl) ?_
    refine zl_iconst hx hb dJ10_copyOf_4_19 ?_
    refine lv_aload_n hx hb dJ10_copyOf_4_20 rfl (lv_at hl 0 rfl) ?_
    refine zl_iconst hx hb dJ10_copyOf_4_21 ?_
    refine lv_aload_n hx hb dJ10_copyOf_4_22 rfl (lv_at hl 1 rfl) ?_
    obtain ⟨hg, hf⟩ := gd_inv hf
    refine zg_alenP gP C hz hg dJ10_copyOf_4_23 ?_
    refine lv_iload_n hx hb dJ10_copyOf_4_24 rfl (lv_at hl 2 rfl) ?_
    refine zl_mmin hx hb C.2.2.2.2.1 hl.1 C.2.2.2.2.2.1 (fun _ h => C.w h) q388 ⟨Nat.le_trans (by decide) hr.1, Nat.le_trans (by decide) hr.2.1⟩ (Nat.le_of_ble_eq_true rfl) (RBw.have gP hz hr).1 (RBw.have gP hz hr).2 dJ10_copyOf_4_25 ?_
    obtain ⟨hg, hf⟩ := gd_inv hf
    obtain ⟨h3, eh3, hf⟩ := bnd_inv hf
    refine zg_copyI gP C hz hg q391 hl.1 ⟨Nat.le_trans (by decide) hr.1, Nat.le_trans (by decide) hr.2.1⟩ (Nat.le_of_ble_eq_true rfl) dJ10_copyOf_4_28 eh3 (fun H locs hz => ?_)
    refine lv_aload_n hx hb dJ10_copyOf_4_31 rfl (lv_at hl 0 rfl) ?_
    obtain rfl := Option.some.inj hf
    exact zg_aret C hz hk dJ10_copyOf_4_32

theorem met_J10_copyOf_4 (l : Launch) (E : PEw) {h : HP} {x0 : Nat} {x1 : Int} {res : HP × Nat} (hf : f_J10_copyOf_4 h x0 x1 = some res) : Met l yJ10_copyOf_4 (ws_ yJ10_copyOf_4 cJ10_copyOf_4 3 (some (.array .int))) (rmP h 1 44) (PP E h [.ref x0, .int (zI x1)]) (QP E h res.1 (some (.ref res.2))) (pX res.1 - pX h) (pS res.1 - pS h) (eF E) := by
  refine Met.ofW (cc := cJ10_copyOf_4) (maxL := 3) (ret := (some (.array .int))) (by decide) rfl ?_
  intro p e s m args below meth c s₁ B hml hv
  obtain ⟨rfl, hP0⟩ := hv
  have hts := atoms_spec (ws := ws_ yJ10_copyOf_4 cJ10_copyOf_4 3 (some (.array .int))) B.pre
  have hts : ∀ w ∈ lw_all, w.before _ s = true := fun w h => hts w (List.mem_cons_of_mem _ h)
  have C : PC E p s m _ meth c RJ10 cJ10_copyOf_4 3 (some (.array .int)) "copyOf" := ⟨B.exec, B.bytes, B.returns, B.notSynchronized, hml, findClass_of_methodNamed B.named, hts, hP0.2, (name_of_methodNamed B.named B.method).1⟩
  have hz : ZP E s h h s.heap [] := ZG.start hP0.1
  have hl := lv_entry ([.ref x0, .int (zI x1)]) (n := 3) (Nat.le_of_ble_eq_true rfl)
  rw [lg_entry_eq]
  generalize (lg_sl ([.ref x0, .int (zI x1)]) ++ List.replicate (3 - (lg_sl ([.ref x0, .int (zI x1)])).length) Slot.unset).toArray = ls at hl ⊢
  have hl : lv_has ls 3 [(0, .ref x0), (1, .int (zI x1))] := hl
  refine W.cs (cells' := pX h - pX h) (slots' := pS h - pS h) (Nat.sub_self _).symm (Nat.sub_self _).symm ?_
  exact w_J10_copyOf_4 C ⟨Nat.le_refl _, Nat.le_refl _, RBw.rm⟩ hf hz hl rfl

theorem w_X6_add {p : Program} {l : Launch} {e : Env} {R : Room} {s : State} {m : MethodId} {args : Array Value} {below : List Frame} {meth : Method} {c : Code} {Q : State → Prop} {E : PEw} {h0 h : HP} {H : Heap} {locs : List Loc} (C : PC E p s m args meth c RX6 cX6_add 2 none "add") (hr : 6 ≤ R.frames ∧ 133 ≤ R.locals ∧ RBw R h0) {x0 : Nat} {x1 : Int} {res : HP} (hf : f_X6_add h x0 x1 = some res) (hz : ZP E s h0 h H locs) {ls : Array Slot} (hl : lv_has ls 2 [(0, .ref x0), (1, .int (zI x1))]) (hk : KP E below args s Q h0 res none) : W p l e R s m args below meth c H locs (pX h - pX h0) (pS h - pS h0) Q (F0 m 0 ls []) := by
  unfold f_X6_add at hf
  have hx := C.1
  have hb := C.2.1
  refine lv_aload_n hx hb dX6_add_0 rfl (lv_at hl 0 rfl) ?_
  obtain ⟨hg, hf⟩ := gd_inv hf
  refine zg_getp gP C hz 3 2 (gkp (by decide) hg) (by decide) (by decide) (Or.inl (C.w q774)) (fun _ h => h) dX6_add_1 ?_
  refine lv_iload_n hx hb dX6_add_4 rfl (lv_at hl 1 rfl) ?_
  obtain ⟨a1, ea1, hf⟩ := bd_inv hf
  rw [zx_rf ea1]
  obtain ⟨y2, ey2, hf⟩ := bd_inv hf
  refine zj_sApp C hz hr ey2 (rest := []) q710 q711 (C.w q712) q99 q713 hl.1 ⟨Nat.le_trans (by decide) hr.1, Nat.le_trans (by decide) hr.2.1⟩ (Nat.le_of_ble_eq_true rfl) dX6_add_5 (fun H locs hz => ?_)
  refine lv_pop hx hb dX6_add_8 rfl ?_
  refine lv_aload_n hx hb dX6_add_9 rfl (lv_at hl 0 rfl) ?_
  obtain ⟨hg, hf⟩ := gd_inv hf
  refine zg_getp gP C hz 3 3 (gkp (by decide) hg) (by decide) (by decide) (Or.inl (C.w q777)) (fun _ h => h) dX6_add_10 ?_
  obtain ⟨a3, ea3, hf⟩ := bd_inv hf
  rw [zx_rf ea3]
  obtain ⟨hg, hf⟩ := gd_inv hf
  refine zg_alenP gP C hz hg dX6_add_13 ?_
  refine lv_aload_n hx hb dX6_add_14 rfl (lv_at hl 0 rfl) ?_
  obtain ⟨hg, hf⟩ := gd_inv hf
  refine zg_getp gP C hz 3 2 (gkp (by decide) hg) (by decide) (by decide) (Or.inl (C.w q774)) (fun _ h => h) dX6_add_15 ?_
  obtain ⟨a4, ea4, hf⟩ := bd_inv hf
  rw [zx_rf ea4]
  obtain ⟨y5, ey5, hf⟩ := bd_inv hf
  refine zj_sLen C hz hr ey5 (rest := [.int (zI (pN y2 a3 : Int))]) q752 q753 (C.w q754) q99 q755 hl.1 ⟨Nat.le_trans (by decide) hr.1, Nat.le_trans (by decide) hr.2.1⟩ (Nat.le_of_ble_eq_true rfl) dX6_add_18 (fun H locs hz => ?_)
  refine zl_icmp_ge (tgt := 42) hx hb dX6_add_21 (by decide) (fun hc => ?_) (fun hc => ?_)
  · rw [if_pos hc] at hf
    refine lv_aload_n hx hb dX6_add_24 rfl (lv_at hl 0 rfl) ?_
    refine lv_aload_n hx hb dX6_add_25 rfl (lv_at hl 0 rfl) ?_
    obtain ⟨hg, hf⟩ := gd_inv hf
    refine zg_getp gP C hz 3 3 (gkp (by decide) hg) (by decide) (by decide) (Or.inl (C.w q777)) (fun _ h => h) dX6_add_26 ?_
    refine zl_iconst hx hb dX6_add_29 ?_
    refine lv_aload_n hx hb dX6_add_30 rfl (lv_at hl 0 rfl) ?_
    obtain ⟨hg, hf⟩ := gd_inv hf
    refine zg_getp gP C hz 3 3 (gkp (by decide) hg) (by decide) (by decide) (Or.inl (C.w q777)) (fun _ h => h) dX6_add_31 ?_
    obtain ⟨a6, ea6, hf⟩ := bd_inv hf
    rw [zx_rf ea6]
    obtain ⟨hg, hf⟩ := gd_inv hf
    refine zg_alenP gP C hz hg dX6_add_34 ?_
    refine zl_imul hx hb dX6_add_35 ?_
    obtain ⟨y7, ey7, hf⟩ := bd_inv hf
    refine zg_callS gP C hz hr (n := 2) (rest := [.ref x0]) (met_J10_copyOf_4 l E ey7) q759 q760 q105 q761 (by decide +kernel) ⟨Nat.le_trans (by decide) hr.1, Nat.le_trans (by decide) hr.2.1⟩ rfl hl.1 rfl (Nat.le_of_ble_eq_true rfl) dX6_add_36 (fun H locs hz => ?_)
    obtain ⟨hg, hf⟩ := gd_inv hf
    obtain ⟨h8, eh8, hf⟩ := bnd_inv hf
    refine zg_putp gP C hz 3 3 (gkp (by decide) hg) (by decide) (by decide) (Or.inr ⟨_, rfl⟩) (by decide) (Or.inl (C.w q777)) (fun _ h => h) dX6_add_39 eh8 (fun H locs hz => ?_)
    obtain rfl := Option.some.inj hf
    exact zg_vret C hz hk dX6_add_42
  · rw [if_neg hc] at hf
    obtain rfl := Option.some.inj hf
    exact zg_vret C hz hk dX6_add_42

theorem met_X6_add (l : Launch) (E : PEw) {h : HP} {x0 : Nat} {x1 : Int} {res : HP} (hf : f_X6_add h x0 x1 = some res) : Met l yX6_add (ws_ yX6_add cX6_add 2 none) (rmP h 6 133) (PP E h [.ref x0, .int (zI x1)]) (QP E h res none) (pX res - pX h) (pS res - pS h) (eF E) := by
  refine Met.ofW (cc := cX6_add) (maxL := 2) (ret := none) (by decide) rfl ?_
  intro p e s m args below meth c s₁ B hml hv
  obtain ⟨rfl, hP0⟩ := hv
  have hts := atoms_spec (ws := ws_ yX6_add cX6_add 2 none) B.pre
  have hts : ∀ w ∈ lw_all, w.before _ s = true := fun w h => hts w (List.mem_cons_of_mem _ h)
  have C : PC E p s m _ meth c RX6 cX6_add 2 none "add" := ⟨B.exec, B.bytes, B.returns, B.notSynchronized, hml, findClass_of_methodNamed B.named, hts, hP0.2, (name_of_methodNamed B.named B.method).1⟩
  have hz : ZP E s h h s.heap [] := ZG.start hP0.1
  have hl := lv_entry ([.ref x0, .int (zI x1)]) (n := 2) (Nat.le_of_ble_eq_true rfl)
  rw [lg_entry_eq]
  generalize (lg_sl ([.ref x0, .int (zI x1)]) ++ List.replicate (2 - (lg_sl ([.ref x0, .int (zI x1)])).length) Slot.unset).toArray = ls at hl ⊢
  have hl : lv_has ls 2 [(0, .ref x0), (1, .int (zI x1))] := hl
  refine W.cs (cells' := pX h - pX h) (slots' := pS h - pS h) (Nat.sub_self _).symm (Nat.sub_self _).symm ?_
  exact w_X6_add C ⟨Nat.le_refl _, Nat.le_refl _, RBw.rm⟩ hf hz hl rfl

theorem w_X6_init {p : Program} {l : Launch} {e : Env} {R : Room} {s : State} {m : MethodId} {args : Array Value} {below : List Frame} {meth : Method} {c : Code} {Q : State → Prop} {E : PEw} {h0 h : HP} {H : Heap} {locs : List Loc} (C : PC E p s m args meth c RX6 cX6_init 1 none "<init>") (hr : 3 ≤ R.frames ∧ 61 ≤ R.locals ∧ RBw R h0) {x0 : Nat} {res : HP} (hf : f_X6_init h x0 = some res) (hz : ZP E s h0 h H locs) {ls : Array Slot} (hl : lv_has ls 1 [(0, .ref x0)]) (hk : KP E below args s Q h0 res none) : W p l e R s m args below meth c H locs (pX h - pX h0) (pS h - pS h0) Q (F0 m 0 ls []) := by
  unfold f_X6_init at hf
  have hx := C.1
  have hb := C.2.1
  refine lv_aload_n hx hb dX6_init_0 rfl (lv_at hl 0 rfl) ?_
  obtain ⟨y1, ey1, hf⟩ := bd_inv hf
  refine zg_callIN gP C hz hr (n := 0) (rest := []) (met_X1_init l E ey1) q771 q130 q90 q131 (by decide +kernel) ⟨Nat.le_trans (by decide) hr.1, Nat.le_trans (by decide) hr.2.1⟩ rfl hl.1 rfl (Nat.le_of_ble_eq_true rfl) dX6_init_1 (fun H locs hz => ?_)
  refine lv_aload_n hx hb dX6_init_4 rfl (lv_at hl 0 rfl) ?_
  obtain ⟨a2, ea2, hf⟩ := bnd_inv hf
  obtain ⟨hg, hf⟩ := gd_inv hf
  obtain ⟨h3, eh3, hf⟩ := bnd_inv hf
  refine zg_new gP C hz hr 91 (by decide) hg q772 q247 q99 dX6_init_5 ea2 eh3 (fun H hz => ?_)
  refine lv_dup hx hb dX6_init_8 rfl ?_
  obtain ⟨y4, ey4, hf⟩ := bd_inv hf
  refine zj_sNew C hz hr ey4 (rest := [.ref a2, .ref x0]) q773 q249 q99 q250 hl.1 ⟨Nat.le_trans (by decide) hr.1, Nat.le_trans (by decide) hr.2.1⟩ (Nat.le_of_ble_eq_true rfl) dX6_init_9 (fun H locs hz => ?_)
  obtain ⟨hg, hf⟩ := gd_inv hf
  obtain ⟨h5, eh5, hf⟩ := bnd_inv hf
  refine zg_putpF gP C hz 3 2 (gkp (by decide) hg) (by decide) (by decide) (Or.inl ⟨_, rfl⟩) (by decide) (C.w q774) (fun _ h => h) dX6_init_12 eh5 (fun H locs hz => ?_)
  refine lv_aload_n hx hb dX6_init_15 rfl (lv_at hl 0 rfl) ?_
  refine zl_iconst hx hb dX6_init_16 ?_
  obtain ⟨a6, ea6, hf⟩ := bnd_inv hf
  obtain ⟨hg, hf⟩ := gd_inv hf
  obtain ⟨h7, eh7, hf⟩ := bnd_inv hf
  refine zg_newa_int gP C hz hr (by decide) hg dX6_init_17 ea6 eh7 (fun H hz => ?_)
  obtain ⟨hg, hf⟩ := gd_inv hf
  obtain ⟨h8, eh8, hf⟩ := bnd_inv hf
  refine zg_putp gP C hz 3 3 (gkp (by decide) hg) (by decide) (by decide) (Or.inr ⟨_, rfl⟩) (by decide) (Or.inl (C.w q777)) (fun _ h => h) dX6_init_19 eh8 (fun H locs hz => ?_)
  obtain rfl := Option.some.inj hf
  exact zg_vret C hz hk dX6_init_22

theorem met_X6_init (l : Launch) (E : PEw) {h : HP} {x0 : Nat} {res : HP} (hf : f_X6_init h x0 = some res) : Met l yX6_init (ws_ yX6_init cX6_init 1 none) (rmP h 3 61) (PP E h [.ref x0]) (QP E h res none) (pX res - pX h) (pS res - pS h) (eF E) := by
  refine Met.ofW (cc := cX6_init) (maxL := 1) (ret := none) (by decide) rfl ?_
  intro p e s m args below meth c s₁ B hml hv
  obtain ⟨rfl, hP0⟩ := hv
  have hts := atoms_spec (ws := ws_ yX6_init cX6_init 1 none) B.pre
  have hts : ∀ w ∈ lw_all, w.before _ s = true := fun w h => hts w (List.mem_cons_of_mem _ h)
  have C : PC E p s m _ meth c RX6 cX6_init 1 none "<init>" := ⟨B.exec, B.bytes, B.returns, B.notSynchronized, hml, findClass_of_methodNamed B.named, hts, hP0.2, (name_of_methodNamed B.named B.method).1⟩
  have hz : ZP E s h h s.heap [] := ZG.start hP0.1
  have hl := lv_entry ([.ref x0]) (n := 1) (Nat.le_of_ble_eq_true rfl)
  rw [lg_entry_eq]
  generalize (lg_sl ([.ref x0]) ++ List.replicate (1 - (lg_sl ([.ref x0])).length) Slot.unset).toArray = ls at hl ⊢
  have hl : lv_has ls 1 [(0, .ref x0)] := hl
  refine W.cs (cells' := pX h - pX h) (slots' := pS h - pS h) (Nat.sub_self _).symm (Nat.sub_self _).symm ?_
  exact w_X6_init C ⟨Nat.le_refl _, Nat.le_refl _, RBw.rm⟩ hf hz hl rfl

theorem w_X0_character_146 {p : Program} {l : Launch} {e : Env} {R : Room} {s : State} {m : MethodId} {args : Array Value} {below : List Frame} {meth : Method} {c : Code} {Q : State → Prop} {E : PEw} {h0 h : HP} {H : Heap} {locs : List Loc} (C : PC E p s m args meth c RX0 cX0_character 5 none "character") (hr : 9 ≤ R.frames ∧ 223 ≤ R.locals ∧ RBw R h0) {x0 : Nat} {x1 : Int} {res : HP} (hf : f_X0_character_146 h x0 x1 = some res) (hz : ZP E s h0 h H locs) {ls : Array Slot} (hl : lv_has ls 5 [(0, .ref x0), (1, .int (zI x1))]) (hk : KP E below args s Q h0 res none) : W p l e R s m args below meth c H locs (pX h - pX h0) (pS h - pS h0) Q (F0 m 146 ls []) := by
  unfold f_X0_character_146 at hf
  have hx := C.1
  have hb := C.2.1
  refine lv_aload_n hx hb dX0_character_146 rfl (lv_at hl 0 rfl) ?_
  obtain ⟨hg, hf⟩ := gd_inv hf
  refine zg_getp gP C hz 1 1 (gkp (by decide) hg) (by decide) (by decide) (Or.inl (C.w q401)) (fun _ h => h) dX0_character_147 ?_
  refine lv_aload_n hx hb dX0_character_150 rfl (lv_at hl 0 rfl) ?_
  obtain ⟨hg, hf⟩ := gd_inv hf
  refine zg_geti gP C hz 1 3 (gkp (by decide) hg) (by decide) (by decide) (Or.inl (C.w q403)) (fun _ h => h) dX0_character_151 ?_
  obtain ⟨a1, ea1, hf⟩ := bd_inv hf
  rw [zx_rf ea1]
  obtain ⟨y2, ey2, hf⟩ := bd_inv hf
  refine zj_lGet C hz hr ey2 (rest := []) q553 q554 (C.w q555) q94 q556 hl.1 ⟨Nat.le_trans (by decide) hr.1, Nat.le_trans (by decide) hr.2.1⟩ (Nat.le_of_ble_eq_true rfl) dX0_character_154 (fun H locs hz => ?_)
  obtain ⟨hg, hf⟩ := gd_inv hf
  refine zg_cast3 gP C hz hg q705 dX0_character_157 ?_
  refine lv_astore (lv' := [(4, .ref y2), (0, .ref x0), (1, .int (zI x1))]) hx hb dX0_character_160 hl (by decide) rfl (fun ls hl => ?_)
  refine lv_aload_n hx hb dX0_character_162 rfl (lv_at hl 1 rfl) ?_
  refine lv_dup hx hb dX0_character_163 rfl ?_
  obtain ⟨hg, hf⟩ := gd_inv hf
  refine zg_geti gP C hz 1 3 (gkp (by decide) hg) (by decide) (by decide) (Or.inl (C.w q403)) (fun _ h => h) dX0_character_164 ?_
  refine zl_iconst hx hb dX0_character_167 ?_
  refine zl_iadd hx hb dX0_character_168 ?_
  obtain ⟨hg, hf⟩ := gd_inv hf
  obtain ⟨h3, eh3, hf⟩ := bnd_inv hf
  refine zg_puti gP C hz 1 3 (gkp (by decide) hg) (by decide) (by decide) rfl (by decide) (Or.inl (C.w q403)) (fun _ h => h) dX0_character_169 eh3 (fun H locs hz => ?_)
  refine lv_aload hx hb dX0_character_172 (lv_at hl 0 rfl) ?_
  obtain ⟨hg, hf⟩ := gd_inv hf
  refine zg_getp gP C hz 3 2 (gkp (by decide) hg) (by decide) (by decide) (Or.inr ⟨_, C.nw q776⟩) (fun _ h => h) dX0_character_174 ?_
  refine zl_iconst hx hb dX0_character_177 ?_
  obtain ⟨a4, ea4, hf⟩ := bd_inv hf
  rw [zx_rf ea4]
  obtain ⟨y5, ey5, hf⟩ := bd_inv hf
  refine zj_sSet C hz hr ey5 (rest := []) q787 q475 (C.w q476) q99 q477 hl.1 ⟨Nat.le_trans (by decide) hr.1, Nat.le_trans (by decide) hr.2.1⟩ (Nat.le_of_ble_eq_true rfl) dX0_character_178 (fun H locs hz => ?_)
  refine lv_aload hx hb dX0_character_181 (lv_at hl 0 rfl) ?_
  refine lv_iload_n hx hb dX0_character_183 rfl (lv_at hl 2 rfl) ?_
  obtain ⟨hg, hf⟩ := gd_inv hf
  obtain ⟨y6, ey6, hf⟩ := bd_inv hf
  refine zg_callV gP C hz hr (n := 1) (rest := []) (gkp (by decide) hg) (met_X6_add l E ey6) q706 q707 (C.w q708) q112 q709 (by decide +kernel) ⟨Nat.le_trans (by decide) hr.1, Nat.le_trans (by decide) hr.2.1⟩ rfl hl.1 rfl (Nat.le_of_ble_eq_true rfl) dX0_character_184 (fun H locs hz => ?_)
  refine lv_aload_n hx hb dX0_character_187 rfl (lv_at hl 1 rfl) ?_
  obtain ⟨hg, hf⟩ := gd_inv hf
  refine zg_getp gP C hz 1 12 (gkp (by decide) hg) (by decide) (by decide) (Or.inl (C.w q412)) (fun _ h => h) dX0_character_188 ?_
  refine lv_aload_n hx hb dX0_character_191 rfl (lv_at hl 1 rfl) ?_
  obtain ⟨hg, hf⟩ := gd_inv hf
  refine zg_geti gP C hz 1 13 (gkp (by decide) hg) (by decide) (by decide) (Or.inl (C.w q413)) (fun _ h => h) dX0_character_192 ?_
  refine lv_aload hx hb dX0_character_195 (lv_at hl 0 rfl) ?_
  obtain ⟨a7, ea7, hf⟩ := bd_inv hf
  rw [zx_rf ea7]
  obtain ⟨hg, hf⟩ := gd_inv hf
  obtain ⟨y8, ey8, hf⟩ := bd_inv hf
  refine zg_callV gP C hz hr (n := 2) (rest := []) (gkp (by decide) hg) (met_X2_put l E ey8) q687 q688 (C.w q689) q91 q690 (by decide +kernel) ⟨Nat.le_trans (by decide) hr.1, Nat.le_trans (by decide) hr.2.1⟩ rfl hl.1 rfl (Nat.le_of_ble_eq_true rfl) dX0_character_197 (fun H locs hz => ?_)
  obtain rfl := Option.some.inj hf
  exact zg_vret C hz hk dX0_character_200

theorem w_X0_character_83 {p : Program} {l : Launch} {e : Env} {R : Room} {s : State} {m : MethodId} {args : Array Value} {below : List Frame} {meth : Method} {c : Code} {Q : State → Prop} {E : PEw} {h0 h : HP} {H : Heap} {locs : List Loc} (C : PC E p s m args meth c RX0 cX0_character 5 none "character") (hr : 9 ≤ R.frames ∧ 223 ≤ R.locals ∧ RBw R h0) {x0 : Nat} {x1 : Int} {t0 : Option Nat} {res : HP} (hf : f_X0_character_83 h x0 x1 t0 = some res) (hz : ZP E s h0 h H locs) {ls : Array Slot} (hl : lv_has ls 5 [(0, .ref x0), (1, .int (zI x1))]) (hk : KP E below args s Q h0 res none) : W p l e R s m args below meth c H locs (pX h - pX h0) (pS h - pS h0) Q (F0 m 83 ls [va_rf t0]) := by
  unfold f_X0_character_83 at hf
  have hx := C.1
  have hb := C.2.1
  refine zl_astore_n_o (lv' := [(3, va_rf t0), (0, .ref x0), (1, .int (zI x1))]) hx hb dX0_character_83 rfl hl (by decide) rfl (fun ls hl => ?_)
  refine zl_aload_n_o hx hb dX0_character_84 rfl (lv_at hl 0 rfl) ?_
  obtain ⟨hg, hf⟩ := gd_inv hf
  refine zg_inst3_o gP C hz hg q705 dX0_character_85 ?_
  refine zl_if_eq (tgt := 102) hx hb dX0_character_88 (by decide) (fun hc => ?_) (fun hc => ?_)
  · rw [if_pos hc] at hf
    refine lv_aload_n hx hb dX0_character_102 rfl (lv_at hl 1 rfl) ?_
    obtain ⟨hg, hf⟩ := gd_inv hf
    obtain ⟨y1, ey1, hf⟩ := bd_inv hf
    refine zg_callV gP C hz hr (n := 0) (rest := []) (gkp (by decide) hg) (met_X0_full l E ey1) q669 q671 (C.w qs14) q89 q672 (by decide +kernel) ⟨Nat.le_trans (by decide) hr.1, Nat.le_trans (by decide) hr.2.1⟩ rfl hl.1 rfl (Nat.le_of_ble_eq_true rfl) dX0_character_103 (fun H locs hz => ?_)
    refine zl_if_eq (tgt := 117) hx hb dX0_character_106 (by decide) (fun hc => ?_) (fun hc => ?_)
    · rw [if_pos hc] at hf
      refine lv_aload_n hx hb dX0_character_117 rfl (lv_at hl 1 rfl) ?_
      obtain ⟨hg, hf⟩ := gd_inv hf
      refine zg_geti gP C hz 1 3 (gkp (by decide) hg) (by decide) (by decide) (Or.inl (C.w q403)) (fun _ h => h) dX0_character_118 ?_
      refine lv_aload_n hx hb dX0_character_121 rfl (lv_at hl 1 rfl) ?_
      obtain ⟨hg, hf⟩ := gd_inv hf
      refine zg_getp gP C hz 1 1 (gkp (by decide) hg) (by decide) (by decide) (Or.inl (C.w q401)) (fun _ h => h) dX0_character_122 ?_
      obtain ⟨a2, ea2, hf⟩ := bd_inv hf
      rw [zx_rf ea2]
      obtain ⟨y3, ey3, hf⟩ := bd_inv hf
      refine zj_lLen C hz hr ey3 (rest := [.int (zI (pI h x0 3))]) q549 q550 (C.w q551) q94 q552 hl.1 ⟨Nat.le_trans (by decide) hr.1, Nat.le_trans (by decide) hr.2.1⟩ (Nat.le_of_ble_eq_true rfl) dX0_character_125 (fun H locs hz => ?_)
      refine zl_icmp_ne (tgt := 146) hx hb dX0_character_128 (by decide) (fun hc => ?_) (fun hc => ?_)
      · rw [if_pos hc] at hf
        refine lv_aload_n hx hb dX0_character_131 rfl (lv_at hl 1 rfl) ?_
        obtain ⟨hg, hf⟩ := gd_inv hf
        refine zg_getp gP C hz 1 1 (gkp (by decide) hg) (by decide) (by decide) (Or.inl (C.w q401)) (fun _ h => h) dX0_character_132 ?_
        obtain ⟨a4, ea4, hf⟩ := bnd_inv hf
        obtain ⟨hg, hf⟩ := gd_inv hf
        obtain ⟨h5, eh5, hf⟩ := bnd_inv hf
        refine zg_new gP C hz hr 3 (by decide) hg q705 q767 q112 dX0_character_135 ea4 eh5 (fun H hz => ?_)
        refine lv_dup hx hb dX0_character_138 rfl ?_
        obtain ⟨y6, ey6, hf⟩ := bd_inv hf
        refine zg_callIN gP C hz hr (n := 0) (rest := [.ref a4, va_rf (pP h x0 1)]) (met_X6_init l E ey6) q768 q769 q112 q770 (by decide +kernel) ⟨Nat.le_trans (by decide) hr.1, Nat.le_trans (by decide) hr.2.1⟩ rfl hl.1 rfl (by simp only [List.map_cons, List.map_nil, zx_cat]; exact Nat.le_of_ble_eq_true rfl) dX0_character_139 (fun H locs hz => ?_)
        obtain ⟨a7, ea7, hf⟩ := bd_inv hf
        rw [zx_rf ea7]
        obtain ⟨y8, ey8, hf⟩ := bd_inv hf
        refine zj_lAdd C hz hr ey8 (rest := []) q338 q339 (C.w q340) q94 q341 hl.1 ⟨Nat.le_trans (by decide) hr.1, Nat.le_trans (by decide) hr.2.1⟩ (Nat.le_of_ble_eq_true rfl) dX0_character_142 (fun H locs hz => ?_)
        refine lv_pop hx hb dX0_character_145 rfl ?_
        exact w_X0_character_146 C hr hf hz (lv_sub hl [1, 2] rfl) hk
      · rw [if_neg hc] at hf
        exact w_X0_character_146 C hr hf hz (lv_sub hl [1, 2] rfl) hk
    · rw [if_neg hc] at hf
      refine lv_aload_n hx hb dX0_character_109 rfl (lv_at hl 1 rfl) ?_
      refine zl_iconst hx hb dX0_character_110 ?_
      obtain ⟨hg, hf⟩ := gd_inv hf
      obtain ⟨h9, eh9, hf⟩ := bnd_inv hf
      refine zg_putb gP C hz 1 7 (gkp (by decide) hg) (by decide) (by decide) rfl (by decide) zisB_1 (Or.inl (C.w q407)) (fun _ h => h) dX0_character_111 eh9 (fun H locs hz => ?_)
      refine lv_goto (tgt := 200) hx hb dX0_character_114 (by decide) ?_
      obtain rfl := Option.some.inj hf
      exact zg_vret C hz hk dX0_character_200
  · rw [if_neg hc] at hf
    refine zl_aload_n_o hx hb dX0_character_91 rfl (lv_at hl 0 rfl) ?_
    obtain ⟨hg, hf⟩ := gd_inv hf
    refine zg_cast3_o gP C hz hg q705 dX0_character_92 ?_
    refine lv_iload_n hx hb dX0_character_95 rfl (lv_at hl 2 rfl) ?_
    obtain ⟨a10, ea10, hf⟩ := bd_inv hf
    rw [zx_rf ea10] at hl ⊢
    obtain ⟨hg, hf⟩ := gd_inv hf
    obtain ⟨y11, ey11, hf⟩ := bd_inv hf
    refine zg_callV gP C hz hr (n := 1) (rest := []) (gkp (by decide) hg) (met_X6_add l E ey11) q706 q707 (C.w q708) q112 q709 (by decide +kernel) ⟨Nat.le_trans (by decide) hr.1, Nat.le_trans (by decide) hr.2.1⟩ rfl hl.1 rfl (Nat.le_of_ble_eq_true rfl) dX0_character_96 (fun H locs hz => ?_)
    refine lv_goto (tgt := 200) hx hb dX0_character_99 (by decide) ?_
    obtain rfl := Option.some.inj hf
    exact zg_vret C hz hk dX0_character_200

theorem w_X0_character_37 {p : Program} {l : Launch} {e : Env} {R : Room} {s : State} {m : MethodId} {args : Array Value} {below : List Frame} {meth : Method} {c : Code} {Q : State → Prop} {E : PEw} {h0 h : HP} {H : Heap} {locs : List Loc} (C : PC E p s m args meth c RX0 cX0_character 5 none "character") (hr : 9 ≤ R.frames ∧ 223 ≤ R.locals ∧ RBw R h0) {x0 : Nat} {x1 : Int} {res : HP} (hf : f_X0_character_37 h x0 x1 = some res) (hz : ZP E s h0 h H locs) {ls : Array Slot} (hl : lv_has ls 5 [(0, .ref x0), (1, .int (zI x1))]) (hk : KP E below args s Q h0 res none) : W p l e R s m args below meth c H locs (pX h - pX h0) (pS h - pS h0) Q (F0 m 37 ls []) := by
  unfold f_X0_character_37 at hf
  have hx := C.1
  have hb := C.2.1
  refine lv_aload_n hx hb dX0_character_37 rfl (lv_at hl 0 rfl) ?_
  obtain ⟨hg, hf⟩ := gd_inv hf
  obtain ⟨y1, ey1, hf⟩ := bd_inv hf
  refine zg_callV gP C hz hr (n := 0) (rest := []) (gkp (by decide) hg) (met_X0_renew l E ey1) q571 q573 (C.w qs10) q89 q574 (by decide +kernel) ⟨Nat.le_trans (by decide) hr.1, Nat.le_trans (by decide) hr.2.1⟩ rfl hl.1 rfl (Nat.le_of_ble_eq_true rfl) dX0_character_38 (fun H locs hz => ?_)
  refine lv_aload_n hx hb dX0_character_41 rfl (lv_at hl 0 rfl) ?_
  obtain ⟨hg, hf⟩ := gd_inv hf
  refine zg_geti gP C hz 1 7 (gkp (by decide) hg) (by decide) (by decide) (Or.inl (C.w q407)) (fun _ h => h) dX0_character_42 ?_
  refine zl_if_eq (tgt := 49) hx hb dX0_character_45 (by decide) (fun hc => ?_) (fun hc => ?_)
  · rw [if_pos hc] at hf
    refine lv_aload_n hx hb dX0_character_49 rfl (lv_at hl 0 rfl) ?_
    obtain ⟨hg, hf⟩ := gd_inv hf
    obtain ⟨y2, ey2, hf⟩ := bd_inv hf
    refine zg_callV gP C hz hr (n := 0) (rest := []) (gkp (by decide) hg) (met_X0_locate l E ey2) q677 q679 (C.w qs16) q89 q680 (by decide +kernel) ⟨Nat.le_trans (by decide) hr.1, Nat.le_trans (by decide) hr.2.1⟩ rfl hl.1 rfl (Nat.le_of_ble_eq_true rfl) dX0_character_50 (fun H locs hz => ?_)
    refine lv_aload_n hx hb dX0_character_53 rfl (lv_at hl 0 rfl) ?_
    obtain ⟨hg, hf⟩ := gd_inv hf
    refine zg_geti gP C hz 1 13 (gkp (by decide) hg) (by decide) (by decide) (Or.inl (C.w q413)) (fun _ h => h) dX0_character_54 ?_
    refine zl_if_le (tgt := 82) hx hb dX0_character_57 (by decide) (fun hc => ?_) (fun hc => ?_)
    · rw [if_pos hc] at hf
      refine lv_aload_n hx hb dX0_character_60 rfl (lv_at hl 0 rfl) ?_
      obtain ⟨hg, hf⟩ := gd_inv hf
      refine zg_getp gP C hz 1 12 (gkp (by decide) hg) (by decide) (by decide) (Or.inl (C.w q412)) (fun _ h => h) dX0_character_61 ?_
      obtain ⟨a3, ea3, hf⟩ := bd_inv hf
      rw [zx_rf ea3]
      obtain ⟨hg, hf⟩ := gd_inv hf
      refine zg_getp gP C hz 2 4 (gkp (by decide) hg) (by decide) (by decide) (Or.inr ⟨_, C.nw q166⟩) (fun _ h => h) dX0_character_64 ?_
      refine lv_aload_n hx hb dX0_character_67 rfl (lv_at hl 0 rfl) ?_
      obtain ⟨hg, hf⟩ := gd_inv hf
      refine zg_geti gP C hz 1 13 (gkp (by decide) hg) (by decide) (by decide) (Or.inl (C.w q413)) (fun _ h => h) dX0_character_68 ?_
      refine zl_iconst hx hb dX0_character_71 ?_
      refine zl_isub hx hb dX0_character_72 ?_
      obtain ⟨a4, ea4, hf⟩ := bd_inv hf
      rw [zx_rf ea4]
      obtain ⟨y5, ey5, hf⟩ := bd_inv hf
      refine zj_lGet C hz hr ey5 (rest := []) q553 q554 (C.w q555) q94 q556 hl.1 ⟨Nat.le_trans (by decide) hr.1, Nat.le_trans (by decide) hr.2.1⟩ (Nat.le_of_ble_eq_true rfl) dX0_character_73 (fun H locs hz => ?_)
      obtain ⟨hg, hf⟩ := gd_inv hf
      refine zg_castN gP C hz hg q704 dX0_character_76 ?_
      refine lv_goto (tgt := 83) hx hb dX0_character_79 (by decide) ?_
      exact w_X0_character_83 C hr hf hz (lv_sub hl [0, 1] rfl) hk
    · rw [if_neg hc] at hf
      refine lv_null hx hb dX0_character_82 ?_
      exact w_X0_character_83 C hr hf hz (lv_sub hl [0, 1] rfl) hk
  · rw [if_neg hc] at hf
    obtain rfl := Option.some.inj hf
    exact zg_vret C hz hk dX0_character_48

theorem w_X0_character {p : Program} {l : Launch} {e : Env} {R : Room} {s : State} {m : MethodId} {args : Array Value} {below : List Frame} {meth : Method} {c : Code} {Q : State → Prop} {E : PEw} {h0 h : HP} {H : Heap} {locs : List Loc} (C : PC E p s m args meth c RX0 cX0_character 5 none "character") (hr : 9 ≤ R.frames ∧ 223 ≤ R.locals ∧ RBw R h0) {x0 : Nat} {x1 : Int} {res : HP} (hf : f_X0_character h x0 x1 = some res) (hz : ZP E s h0 h H locs) {ls : Array Slot} (hl : lv_has ls 5 [(0, .ref x0), (1, .int (zI x1))]) (hk : KP E below args s Q h0 res none) : W p l e R s m args below meth c H locs (pX h - pX h0) (pS h - pS h0) Q (F0 m 0 ls []) := by
  unfold f_X0_character at hf
  have hx := C.1
  have hb := C.2.1
  refine lv_aload_n hx hb dX0_character_0 rfl (lv_at hl 0 rfl) ?_
  obtain ⟨hg, hf⟩ := gd_inv hf
  obtain ⟨y1, ey1, hf⟩ := bd_inv hf
  refine zg_callV gP C hz hr (n := 0) (rest := []) (gkp (by decide) hg) (met_X0_top l E ey1) q545 q547 (C.w qs9) q89 q548 (by decide +kernel) ⟨Nat.le_trans (by decide) hr.1, Nat.le_trans (by decide) hr.2.1⟩ rfl hl.1 rfl (Nat.le_of_ble_eq_true rfl) dX0_character_1 (fun H locs hz => ?_)
  refine lv_astore_n (lv' := [(2, .ref y1), (0, .ref x0), (1, .int (zI x1))]) hx hb dX0_character_4 rfl hl (by decide) rfl (fun ls hl => ?_)
  refine lv_aload_n hx hb dX0_character_5 rfl (lv_at hl 1 rfl) ?_
  obtain ⟨hg, hf⟩ := gd_inv hf
  refine zg_geti gP C hz 1 7 (gkp (by decide) hg) (by decide) (by decide) (Or.inl (C.w q407)) (fun _ h => h) dX0_character_6 ?_
  refine zl_if_ne (tgt := 36) hx hb dX0_character_9 (by decide) (fun hc => ?_) (fun hc => ?_)
  · rw [if_pos hc] at hf
    refine lv_iload_n hx hb dX0_character_12 rfl (lv_at hl 2 rfl) ?_
    refine zl_bipush hx hb dX0_character_13 (by decide) ?_
    refine zl_icmp_ne (tgt := 37) hx hb dX0_character_15 (by decide) (fun hc => ?_) (fun hc => ?_)
    · rw [if_pos hc] at hf
      refine lv_aload_n hx hb dX0_character_18 rfl (lv_at hl 0 rfl) ?_
      refine zl_bipush hx hb dX0_character_19 (by decide) ?_
      obtain ⟨hg, hf⟩ := gd_inv hf
      obtain ⟨y2, ey2, hf⟩ := bd_inv hf
      refine zg_callV gP C hz hr (n := 1) (rest := []) (gkp (by decide) hg) (met_X2_is l E ey2) q567 q568 (C.w q569) q91 q570 (by decide +kernel) ⟨Nat.le_trans (by decide) hr.1, Nat.le_trans (by decide) hr.2.1⟩ rfl hl.1 rfl (Nat.le_of_ble_eq_true rfl) dX0_character_21 (fun H locs hz => ?_)
      refine zl_if_ne (tgt := 36) hx hb dX0_character_24 (by decide) (fun hc => ?_) (fun hc => ?_)
      · rw [if_pos hc] at hf
        refine lv_aload_n hx hb dX0_character_27 rfl (lv_at hl 0 rfl) ?_
        refine zl_bipush hx hb dX0_character_28 (by decide) ?_
        obtain ⟨hg, hf⟩ := gd_inv hf
        obtain ⟨y3, ey3, hf⟩ := bd_inv hf
        refine zg_callV gP C hz hr (n := 1) (rest := []) (gkp (by decide) hg) (met_X2_is l E ey3) q567 q568 (C.w q569) q91 q570 (by decide +kernel) ⟨Nat.le_trans (by decide) hr.1, Nat.le_trans (by decide) hr.2.1⟩ rfl hl.1 rfl (Nat.le_of_ble_eq_true rfl) dX0_character_30 (fun H locs hz => ?_)
        refine zl_if_eq (tgt := 37) hx hb dX0_character_33 (by decide) (fun hc => ?_) (fun hc => ?_)
        · rw [if_pos hc] at hf
          exact w_X0_character_37 C hr hf hz (lv_sub hl [1, 2] rfl) hk
        · rw [if_neg hc] at hf
          obtain rfl := Option.some.inj hf
          exact zg_vret C hz hk dX0_character_36
      · rw [if_neg hc] at hf
        obtain rfl := Option.some.inj hf
        exact zg_vret C hz hk dX0_character_36
    · rw [if_neg hc] at hf
      exact w_X0_character_37 C hr hf hz (lv_sub hl [1, 2] rfl) hk
  · rw [if_neg hc] at hf
    obtain rfl := Option.some.inj hf
    exact zg_vret C hz hk dX0_character_36

theorem met_X0_character (l : Launch) (E : PEw) {h : HP} {x0 : Nat} {x1 : Int} {res : HP} (hf : f_X0_character h x0 x1 = some res) : Met l yX0_character (ws_ yX0_character cX0_character 5 none) (rmP h 9 223) (PP E h [.ref x0, .int (zI x1)]) (QP E h res none) (pX res - pX h) (pS res - pS h) (eF E) := by
  refine Met.ofW (cc := cX0_character) (maxL := 5) (ret := none) (by decide) rfl ?_
  intro p e s m args below meth c s₁ B hml hv
  obtain ⟨rfl, hP0⟩ := hv
  have hts := atoms_spec (ws := ws_ yX0_character cX0_character 5 none) B.pre
  have hts : ∀ w ∈ lw_all, w.before _ s = true := fun w h => hts w (List.mem_cons_of_mem _ h)
  have C : PC E p s m _ meth c RX0 cX0_character 5 none "character" := ⟨B.exec, B.bytes, B.returns, B.notSynchronized, hml, findClass_of_methodNamed B.named, hts, hP0.2, (name_of_methodNamed B.named B.method).1⟩
  have hz : ZP E s h h s.heap [] := ZG.start hP0.1
  have hl := lv_entry ([.ref x0, .int (zI x1)]) (n := 5) (Nat.le_of_ble_eq_true rfl)
  rw [lg_entry_eq]
  generalize (lg_sl ([.ref x0, .int (zI x1)]) ++ List.replicate (5 - (lg_sl ([.ref x0, .int (zI x1)])).length) Slot.unset).toArray = ls at hl ⊢
  have hl : lv_has ls 5 [(0, .ref x0), (1, .int (zI x1))] := hl
  refine W.cs (cells' := pX h - pX h) (slots' := pS h - pS h) (Nat.sub_self _).symm (Nat.sub_self _).symm ?_
  exact w_X0_character C ⟨Nat.le_refl _, Nat.le_refl _, RBw.rm⟩ hf hz hl rfl

theorem w_X0_plain_28 {p : Program} {l : Launch} {e : Env} {R : Room} {s : State} {m : MethodId} {args : Array Value} {below : List Frame} {meth : Method} {c : Code} {Q : State → Prop} {E : PEw} {h0 h : HP} {H : Heap} {locs : List Loc} (C : PC E p s m args meth c RX0 cX0_plain 2 none "plain") (hr : 10 ≤ R.frames ∧ 247 ≤ R.locals ∧ RBw R h0) {x0 : Nat} {x1 : Int} {t0 : Int} {t1 : Nat} {res : HP} (hf : f_X0_plain_28 h x0 x1 t0 t1 = some res) (hz : ZP E s h0 h H locs) {ls : Array Slot} (hl : lv_has ls 2 [(0, .ref x0), (1, .int (zI x1))]) (hk : KP E below args s Q h0 res none) : W p l e R s m args below meth c H locs (pX h - pX h0) (pS h - pS h0) Q (F0 m 28 ls [.ref (eK E t0), .ref t1]) := by
  unfold f_X0_plain_28 at hf
  have hx := C.1
  have hb := C.2.1
  obtain ⟨hg, hf⟩ := gd_inv hf
  obtain ⟨hv, hf⟩ := gd_inv hf
  obtain ⟨h1, eh1, hf⟩ := bnd_inv hf
  refine zg_pute gP C hz (gkp (by decide) hg) hv (Or.inl (C.w q408)) dX0_plain_28 eh1 (fun H locs hz => ?_)
  refine lv_aload_n hx hb dX0_plain_31 rfl (lv_at hl 0 rfl) ?_
  obtain ⟨hg, hf⟩ := gd_inv hf
  obtain ⟨hv, hf⟩ := gd_inv hf
  refine zg_gete gP C hz (gkp (by decide) hg) hv (Or.inl (C.w q408)) dX0_plain_32 ?_
  refine zc_state C hz (n := 0) (o := 0) (by decide) (Or.inl (C.w q236)) rfl dX0_plain_35 ?_
  obtain ⟨hv, hf⟩ := gd_inv hf
  refine zc_acmp_ne C hv (by decide) (tgt := 46) dX0_plain_38 (by decide) (fun hc => ?_) (fun hc => ?_)
  · rw [if_pos hc] at hf
    refine lv_aload_n hx hb dX0_plain_41 rfl (lv_at hl 0 rfl) ?_
    refine lv_iload_n hx hb dX0_plain_42 rfl (lv_at hl 1 rfl) ?_
    obtain ⟨hg, hf⟩ := gd_inv hf
    obtain ⟨y2, ey2, hf⟩ := bd_inv hf
    refine zg_callV gP C hz hr (n := 1) (rest := []) (gkp (by decide) hg) (met_X0_character l E ey2) q541 q543 (C.w qs8) q89 q544 (by decide +kernel) ⟨Nat.le_trans (by decide) hr.1, Nat.le_trans (by decide) hr.2.1⟩ rfl hl.1 rfl (Nat.le_of_ble_eq_true rfl) dX0_plain_43 (fun H locs hz => ?_)
    obtain rfl := Option.some.inj hf
    exact zg_vret C hz hk dX0_plain_46
  · rw [if_neg hc] at hf
    obtain rfl := Option.some.inj hf
    exact zg_vret C hz hk dX0_plain_46

theorem w_X0_plain {p : Program} {l : Launch} {e : Env} {R : Room} {s : State} {m : MethodId} {args : Array Value} {below : List Frame} {meth : Method} {c : Code} {Q : State → Prop} {E : PEw} {h0 h : HP} {H : Heap} {locs : List Loc} (C : PC E p s m args meth c RX0 cX0_plain 2 none "plain") (hr : 10 ≤ R.frames ∧ 247 ≤ R.locals ∧ RBw R h0) {x0 : Nat} {x1 : Int} {res : HP} (hf : f_X0_plain h x0 x1 = some res) (hz : ZP E s h0 h H locs) {ls : Array Slot} (hl : lv_has ls 2 [(0, .ref x0), (1, .int (zI x1))]) (hk : KP E below args s Q h0 res none) : W p l e R s m args below meth c H locs (pX h - pX h0) (pS h - pS h0) Q (F0 m 0 ls []) := by
  unfold f_X0_plain at hf
  have hx := C.1
  have hb := C.2.1
  refine lv_aload_n hx hb dX0_plain_0 rfl (lv_at hl 0 rfl) ?_
  refine lv_iload_n hx hb dX0_plain_1 rfl (lv_at hl 1 rfl) ?_
  refine zl_bipush hx hb dX0_plain_2 (by decide) ?_
  refine zl_icmp_ne (tgt := 13) hx hb dX0_plain_4 (by decide) (fun hc => ?_) (fun hc => ?_)
  · rw [if_pos hc] at hf
    refine zc_state C hz (n := 1) (o := 1) (by decide) (Or.inl (C.w q537)) rfl dX0_plain_7 ?_
    refine lv_goto (tgt := 28) hx hb dX0_plain_10 (by decide) ?_
    exact w_X0_plain_28 C hr hf hz (lv_sub hl [0, 1] rfl) hk
  · rw [if_neg hc] at hf
    refine lv_iload_n hx hb dX0_plain_13 rfl (lv_at hl 1 rfl) ?_
    refine zl_bipush hx hb dX0_plain_14 (by decide) ?_
    refine zl_icmp_ne (tgt := 25) hx hb dX0_plain_16 (by decide) (fun hc => ?_) (fun hc => ?_)
    · rw [if_pos hc] at hf
      refine zc_state C hz (n := 6) (o := 6) (by decide) (Or.inl (C.w q539)) rfl dX0_plain_19 ?_
      refine lv_goto (tgt := 28) hx hb dX0_plain_22 (by decide) ?_
      exact w_X0_plain_28 C hr hf hz (lv_sub hl [0, 1] rfl) hk
    · rw [if_neg hc] at hf
      refine zc_state C hz (n := 0) (o := 0) (by decide) (Or.inl (C.w q236)) rfl dX0_plain_25 ?_
      exact w_X0_plain_28 C hr hf hz (lv_sub hl [0, 1] rfl) hk

theorem met_X0_plain (l : Launch) (E : PEw) {h : HP} {x0 : Nat} {x1 : Int} {res : HP} (hf : f_X0_plain h x0 x1 = some res) : Met l yX0_plain (ws_ yX0_plain cX0_plain 2 none) (rmP h 10 247) (PP E h [.ref x0, .int (zI x1)]) (QP E h res none) (pX res - pX h) (pS res - pS h) (eF E) := by
  refine Met.ofW (cc := cX0_plain) (maxL := 2) (ret := none) (by decide) rfl ?_
  intro p e s m args below meth c s₁ B hml hv
  obtain ⟨rfl, hP0⟩ := hv
  have hts := atoms_spec (ws := ws_ yX0_plain cX0_plain 2 none) B.pre
  have hts : ∀ w ∈ lw_all, w.before _ s = true := fun w h => hts w (List.mem_cons_of_mem _ h)
  have C : PC E p s m _ meth c RX0 cX0_plain 2 none "plain" := ⟨B.exec, B.bytes, B.returns, B.notSynchronized, hml, findClass_of_methodNamed B.named, hts, hP0.2, (name_of_methodNamed B.named B.method).1⟩
  have hz : ZP E s h h s.heap [] := ZG.start hP0.1
  have hl := lv_entry ([.ref x0, .int (zI x1)]) (n := 2) (Nat.le_of_ble_eq_true rfl)
  rw [lg_entry_eq]
  generalize (lg_sl ([.ref x0, .int (zI x1)]) ++ List.replicate (2 - (lg_sl ([.ref x0, .int (zI x1)])).length) Slot.unset).toArray = ls at hl ⊢
  have hl : lv_has ls 2 [(0, .ref x0), (1, .int (zI x1))] := hl
  refine W.cs (cells' := pX h - pX h) (slots' := pS h - pS h) (Nat.sub_self _).symm (Nat.sub_self _).symm ?_
  exact w_X0_plain C ⟨Nat.le_refl _, Nat.le_refl _, RBw.rm⟩ hf hz hl rfl

theorem w_X0_small {p : Program} {l : Launch} {e : Env} {R : Room} {s : State} {m : MethodId} {args : Array Value} {below : List Frame} {meth : Method} {c : Code} {Q : State → Prop} {E : PEw} {h0 h : HP} {H : Heap} {locs : List Loc} (C : PC E p s m args meth c RX0 cX0_small 1 (some .boolean) "small") (hr : 0 ≤ R.frames ∧ 0 ≤ R.locals ∧ RBw R h0) {x0 : Int} {res : Int} (hf : f_X0_small h x0 = some res) (hz : ZP E s h0 h H locs) {ls : Array Slot} (hl : lv_has ls 1 [(0, .int (zI x0))]) (hk : KP E below args s Q h0 h (some (.int (zI res)))) : W p l e R s m args below meth c H locs (pX h - pX h0) (pS h - pS h0) Q (F0 m 0 ls []) := by
  unfold f_X0_small at hf
  have hx := C.1
  have hb := C.2.1
  refine lv_iload_n hx hb dX0_small_0 rfl (lv_at hl 0 rfl) ?_
  refine zl_bipush hx hb dX0_small_1 (by decide) ?_
  refine zl_icmp_lt (tgt := 16) hx hb dX0_small_3 (by decide) (fun hc => ?_) (fun hc => ?_)
  · rw [if_pos hc] at hf
    refine zl_iconst hx hb dX0_small_16 ?_
    obtain rfl := Option.some.inj hf
    exact zg_zret C hz zisB_0 hk dX0_small_17
  · rw [if_neg hc] at hf
    refine lv_iload_n hx hb dX0_small_6 rfl (lv_at hl 0 rfl) ?_
    refine zl_bipush hx hb dX0_small_7 (by decide) ?_
    refine zl_icmp_gt (tgt := 16) hx hb dX0_small_9 (by decide) (fun hc => ?_) (fun hc => ?_)
    · rw [if_pos hc] at hf
      refine zl_iconst hx hb dX0_small_16 ?_
      obtain rfl := Option.some.inj hf
      exact zg_zret C hz zisB_0 hk dX0_small_17
    · rw [if_neg hc] at hf
      refine zl_iconst hx hb dX0_small_12 ?_
      refine lv_goto (tgt := 17) hx hb dX0_small_13 (by decide) ?_
      obtain rfl := Option.some.inj hf
      exact zg_zret C hz zisB_1 hk dX0_small_17

theorem met_X0_small (l : Launch) (E : PEw) {h : HP} {x0 : Int} {res : Int} (hf : f_X0_small h x0 = some res) : Met l yX0_small (ws_ yX0_small cX0_small 1 (some .boolean)) (rmP h 0 0) (PP E h [.int (zI x0)]) (QP E h h (some (.int (zI res)))) (pX h - pX h) (pS h - pS h) (eF E) := by
  refine Met.ofW (cc := cX0_small) (maxL := 1) (ret := (some .boolean)) (by decide) rfl ?_
  intro p e s m args below meth c s₁ B hml hv
  obtain ⟨rfl, hP0⟩ := hv
  have hts := atoms_spec (ws := ws_ yX0_small cX0_small 1 (some .boolean)) B.pre
  have hts : ∀ w ∈ lw_all, w.before _ s = true := fun w h => hts w (List.mem_cons_of_mem _ h)
  have C : PC E p s m _ meth c RX0 cX0_small 1 (some .boolean) "small" := ⟨B.exec, B.bytes, B.returns, B.notSynchronized, hml, findClass_of_methodNamed B.named, hts, hP0.2, (name_of_methodNamed B.named B.method).1⟩
  have hz : ZP E s h h s.heap [] := ZG.start hP0.1
  have hl := lv_entry ([.int (zI x0)]) (n := 1) (Nat.le_of_ble_eq_true rfl)
  rw [lg_entry_eq]
  generalize (lg_sl ([.int (zI x0)]) ++ List.replicate (1 - (lg_sl ([.int (zI x0)])).length) Slot.unset).toArray = ls at hl ⊢
  have hl : lv_has ls 1 [(0, .int (zI x0))] := hl
  refine W.cs (cells' := pX h - pX h) (slots' := pS h - pS h) (Nat.sub_self _).symm (Nat.sub_self _).symm ?_
  exact w_X0_small C ⟨Nat.le_refl _, Nat.le_refl _, RBw.rm⟩ hf hz hl rfl

theorem w_X0_less_55 {p : Program} {l : Launch} {e : Env} {R : Room} {s : State} {m : MethodId} {args : Array Value} {below : List Frame} {meth : Method} {c : Code} {Q : State → Prop} {E : PEw} {h0 h : HP} {H : Heap} {locs : List Loc} (C : PC E p s m args meth c RX0 cX0_less 2 none "less") (hr : 11 ≤ R.frames ∧ 268 ≤ R.locals ∧ RBw R h0) {t0 : Int} {t1 : Nat} {res : HP} (hf : f_X0_less_55 h t0 t1 = some res) (hz : ZP E s h0 h H locs) {ls : Array Slot} (hl : lv_has ls 2 []) (hk : KP E below args s Q h0 res none) : W p l e R s m args below meth c H locs (pX h - pX h0) (pS h - pS h0) Q (F0 m 55 ls [.ref (eK E t0), .ref t1]) := by
  unfold f_X0_less_55 at hf
  have hx := C.1
  have hb := C.2.1
  obtain ⟨hg, hf⟩ := gd_inv hf
  obtain ⟨hv, hf⟩ := gd_inv hf
  obtain ⟨h1, eh1, hf⟩ := bnd_inv hf
  refine zg_pute gP C hz (gkp (by decide) hg) hv (Or.inl (C.w q408)) dX0_less_55 eh1 (fun H locs hz => ?_)
  refine lv_goto (tgt := 72) hx hb dX0_less_58 (by decide) ?_
  obtain rfl := Option.some.inj hf
  exact zg_vret C hz hk dX0_less_72

theorem w_X0_less_39 {p : Program} {l : Launch} {e : Env} {R : Room} {s : State} {m : MethodId} {args : Array Value} {below : List Frame} {meth : Method} {c : Code} {Q : State → Prop} {E : PEw} {h0 h : HP} {H : Heap} {locs : List Loc} (C : PC E p s m args meth c RX0 cX0_less 2 none "less") (hr : 11 ≤ R.frames ∧ 268 ≤ R.locals ∧ RBw R h0) {x0 : Nat} {x1 : Int} {res : HP} (hf : f_X0_less_39 h x0 x1 = some res) (hz : ZP E s h0 h H locs) {ls : Array Slot} (hl : lv_has ls 2 [(0, .ref x0), (1, .int (zI x1))]) (hk : KP E below args s Q h0 res none) : W p l e R s m args below meth c H locs (pX h - pX h0) (pS h - pS h0) Q (F0 m 39 ls []) := by
  unfold f_X0_less_39 at hf
  have hx := C.1
  have hb := C.2.1
  refine lv_aload_n hx hb dX0_less_39 rfl (lv_at hl 0 rfl) ?_
  refine lv_iload_n hx hb dX0_less_40 rfl (lv_at hl 1 rfl) ?_
  refine zl_bipush hx hb dX0_less_41 (by decide) ?_
  refine zl_icmp_ne (tgt := 52) hx hb dX0_less_43 (by decide) (fun hc => ?_) (fun hc => ?_)
  · rw [if_pos hc] at hf
    refine zc_state C hz (n := 5) (o := 5) (by decide) (Or.inl (C.w q797)) rfl dX0_less_46 ?_
    refine lv_goto (tgt := 55) hx hb dX0_less_49 (by decide) ?_
    exact w_X0_less_55 C hr hf hz (lv_sub hl [] rfl) hk
  · rw [if_neg hc] at hf
    refine zc_state C hz (n := 2) (o := 2) (by decide) (Or.inl (C.w q799)) rfl dX0_less_52 ?_
    exact w_X0_less_55 C hr hf hz (lv_sub hl [] rfl) hk

theorem w_X0_less {p : Program} {l : Launch} {e : Env} {R : Room} {s : State} {m : MethodId} {args : Array Value} {below : List Frame} {meth : Method} {c : Code} {Q : State → Prop} {E : PEw} {h0 h : HP} {H : Heap} {locs : List Loc} (C : PC E p s m args meth c RX0 cX0_less 2 none "less") (hr : 11 ≤ R.frames ∧ 268 ≤ R.locals ∧ RBw R h0) {x0 : Nat} {x1 : Int} {res : HP} (hf : f_X0_less h x0 x1 = some res) (hz : ZP E s h0 h H locs) {ls : Array Slot} (hl : lv_has ls 2 [(0, .ref x0), (1, .int (zI x1))]) (hk : KP E below args s Q h0 res none) : W p l e R s m args below meth c H locs (pX h - pX h0) (pS h - pS h0) Q (F0 m 0 ls []) := by
  unfold f_X0_less at hf
  have hx := C.1
  have hb := C.2.1
  refine lv_aload_n hx hb dX0_less_0 rfl (lv_at hl 0 rfl) ?_
  refine lv_iload_n hx hb dX0_less_1 rfl (lv_at hl 1 rfl) ?_
  obtain ⟨hg, hf⟩ := gd_inv hf
  obtain ⟨hv, hf⟩ := gd_inv hf
  obtain ⟨h1, eh1, hf⟩ := bnd_inv hf
  refine zg_putc gP C hz 1 10 (gkp (by decide) hg) (by decide) (by decide) rfl (by decide) hv (Or.inl (C.w q410)) (fun _ h => h) dX0_less_2 eh1 (fun H locs hz => ?_)
  refine lv_aload_n hx hb dX0_less_5 rfl (lv_at hl 0 rfl) ?_
  refine zl_iconst hx hb dX0_less_6 ?_
  obtain ⟨hg, hf⟩ := gd_inv hf
  obtain ⟨h2, eh2, hf⟩ := bnd_inv hf
  refine zg_puti gP C hz 1 11 (gkp (by decide) hg) (by decide) (by decide) rfl (by decide) (Or.inl (C.w q411)) (fun _ h => h) dX0_less_7 eh2 (fun H locs hz => ?_)
  refine lv_iload_n hx hb dX0_less_10 rfl (lv_at hl 1 rfl) ?_
  obtain ⟨y3, ey3, hf⟩ := bd_inv hf
  refine zg_callS gP C hz hr (n := 1) (rest := []) (met_X0_small l E ey3) q792 q793 q89 q794 (by decide +kernel) ⟨Nat.le_trans (by decide) hr.1, Nat.le_trans (by decide) hr.2.1⟩ rfl hl.1 rfl (Nat.le_of_ble_eq_true rfl) dX0_less_11 (fun H locs hz => ?_)
  refine zl_if_eq (tgt := 27) hx hb dX0_less_14 (by decide) (fun hc => ?_) (fun hc => ?_)
  · rw [if_pos hc] at hf
    refine lv_iload_n hx hb dX0_less_27 rfl (lv_at hl 1 rfl) ?_
    refine zl_bipush hx hb dX0_less_28 (by decide) ?_
    refine zl_icmp_eq (tgt := 39) hx hb dX0_less_30 (by decide) (fun hc => ?_) (fun hc => ?_)
    · rw [if_pos hc] at hf
      exact w_X0_less_39 C hr hf hz (lv_sub hl [0, 1] rfl) hk
    · rw [if_neg hc] at hf
      refine lv_iload_n hx hb dX0_less_33 rfl (lv_at hl 1 rfl) ?_
      refine zl_bipush hx hb dX0_less_34 (by decide) ?_
      refine zl_icmp_ne (tgt := 61) hx hb dX0_less_36 (by decide) (fun hc => ?_) (fun hc => ?_)
      · rw [if_pos hc] at hf
        exact w_X0_less_39 C hr hf hz (lv_sub hl [0, 1] rfl) hk
      · rw [if_neg hc] at hf
        refine lv_aload_n hx hb dX0_less_61 rfl (lv_at hl 0 rfl) ?_
        refine zl_bipush hx hb dX0_less_62 (by decide) ?_
        obtain ⟨hg, hf⟩ := gd_inv hf
        obtain ⟨y4, ey4, hf⟩ := bd_inv hf
        refine zg_callV gP C hz hr (n := 1) (rest := []) (gkp (by decide) hg) (met_X0_character l E ey4) q541 q543 (C.w qs8) q89 q544 (by decide +kernel) ⟨Nat.le_trans (by decide) hr.1, Nat.le_trans (by decide) hr.2.1⟩ rfl hl.1 rfl (Nat.le_of_ble_eq_true rfl) dX0_less_64 (fun H locs hz => ?_)
        refine lv_aload_n hx hb dX0_less_67 rfl (lv_at hl 0 rfl) ?_
        refine lv_iload_n hx hb dX0_less_68 rfl (lv_at hl 1 rfl) ?_
        obtain ⟨hg, hf⟩ := gd_inv hf
        obtain ⟨y5, ey5, hf⟩ := bd_inv hf
        refine zg_callV gP C hz hr (n := 1) (rest := []) (gkp (by decide) hg) (met_X0_plain l E ey5) q533 q535 (C.w qs7) q89 q536 (by decide +kernel) ⟨Nat.le_trans (by decide) hr.1, Nat.le_trans (by decide) hr.2.1⟩ rfl hl.1 rfl (Nat.le_of_ble_eq_true rfl) dX0_less_69 (fun H locs hz => ?_)
        obtain rfl := Option.some.inj hf
        exact zg_vret C hz hk dX0_less_72
  · rw [if_neg hc] at hf
    refine lv_aload_n hx hb dX0_less_17 rfl (lv_at hl 0 rfl) ?_
    refine zc_state C hz (n := 3) (o := 3) (by decide) (Or.inl (C.w q795)) rfl dX0_less_18 ?_
    obtain ⟨hg, hf⟩ := gd_inv hf
    obtain ⟨h6, eh6, hf⟩ := bnd_inv hf
    refine zg_pute gP C hz (gkp (by decide) hg) (by decide) (Or.inl (C.w q408)) dX0_less_21 eh6 (fun H locs hz => ?_)
    refine lv_goto (tgt := 72) hx hb dX0_less_24 (by decide) ?_
    obtain rfl := Option.some.inj hf
    exact zg_vret C hz hk dX0_less_72

theorem met_X0_less (l : Launch) (E : PEw) {h : HP} {x0 : Nat} {x1 : Int} {res : HP} (hf : f_X0_less h x0 x1 = some res) : Met l yX0_less (ws_ yX0_less cX0_less 2 none) (rmP h 11 268) (PP E h [.ref x0, .int (zI x1)]) (QP E h res none) (pX res - pX h) (pS res - pS h) (eF E) := by
  refine Met.ofW (cc := cX0_less) (maxL := 2) (ret := none) (by decide) rfl ?_
  intro p e s m args below meth c s₁ B hml hv
  obtain ⟨rfl, hP0⟩ := hv
  have hts := atoms_spec (ws := ws_ yX0_less cX0_less 2 none) B.pre
  have hts : ∀ w ∈ lw_all, w.before _ s = true := fun w h => hts w (List.mem_cons_of_mem _ h)
  have C : PC E p s m _ meth c RX0 cX0_less 2 none "less" := ⟨B.exec, B.bytes, B.returns, B.notSynchronized, hml, findClass_of_methodNamed B.named, hts, hP0.2, (name_of_methodNamed B.named B.method).1⟩
  have hz : ZP E s h h s.heap [] := ZG.start hP0.1
  have hl := lv_entry ([.ref x0, .int (zI x1)]) (n := 2) (Nat.le_of_ble_eq_true rfl)
  rw [lg_entry_eq]
  generalize (lg_sl ([.ref x0, .int (zI x1)]) ++ List.replicate (2 - (lg_sl ([.ref x0, .int (zI x1)])).length) Slot.unset).toArray = ls at hl ⊢
  have hl : lv_has ls 2 [(0, .ref x0), (1, .int (zI x1))] := hl
  refine W.cs (cells' := pX h - pX h) (slots' := pS h - pS h) (Nat.sub_self _).symm (Nat.sub_self _).symm ?_
  exact w_X0_less C ⟨Nat.le_refl _, Nat.le_refl _, RBw.rm⟩ hf hz hl rfl

theorem w_X0_capital {p : Program} {l : Launch} {e : Env} {R : Room} {s : State} {m : MethodId} {args : Array Value} {below : List Frame} {meth : Method} {c : Code} {Q : State → Prop} {E : PEw} {h0 h : HP} {H : Heap} {locs : List Loc} (C : PC E p s m args meth c RX0 cX0_capital 1 (some .boolean) "capital") (hr : 0 ≤ R.frames ∧ 0 ≤ R.locals ∧ RBw R h0) {x0 : Int} {res : Int} (hf : f_X0_capital h x0 = some res) (hz : ZP E s h0 h H locs) {ls : Array Slot} (hl : lv_has ls 1 [(0, .int (zI x0))]) (hk : KP E below args s Q h0 h (some (.int (zI res)))) : W p l e R s m args below meth c H locs (pX h - pX h0) (pS h - pS h0) Q (F0 m 0 ls []) := by
  unfold f_X0_capital at hf
  have hx := C.1
  have hb := C.2.1
  refine lv_iload_n hx hb dX0_capital_0 rfl (lv_at hl 0 rfl) ?_
  refine zl_bipush hx hb dX0_capital_1 (by decide) ?_
  refine zl_icmp_lt (tgt := 16) hx hb dX0_capital_3 (by decide) (fun hc => ?_) (fun hc => ?_)
  · rw [if_pos hc] at hf
    refine zl_iconst hx hb dX0_capital_16 ?_
    obtain rfl := Option.some.inj hf
    exact zg_zret C hz zisB_0 hk dX0_capital_17
  · rw [if_neg hc] at hf
    refine lv_iload_n hx hb dX0_capital_6 rfl (lv_at hl 0 rfl) ?_
    refine zl_bipush hx hb dX0_capital_7 (by decide) ?_
    refine zl_icmp_gt (tgt := 16) hx hb dX0_capital_9 (by decide) (fun hc => ?_) (fun hc => ?_)
    · rw [if_pos hc] at hf
      refine zl_iconst hx hb dX0_capital_16 ?_
      obtain rfl := Option.some.inj hf
      exact zg_zret C hz zisB_0 hk dX0_capital_17
    · rw [if_neg hc] at hf
      refine zl_iconst hx hb dX0_capital_12 ?_
      refine lv_goto (tgt := 17) hx hb dX0_capital_13 (by decide) ?_
      obtain rfl := Option.some.inj hf
      exact zg_zret C hz zisB_1 hk dX0_capital_17

theorem met_X0_capital (l : Launch) (E : PEw) {h : HP} {x0 : Int} {res : Int} (hf : f_X0_capital h x0 = some res) : Met l yX0_capital (ws_ yX0_capital cX0_capital 1 (some .boolean)) (rmP h 0 0) (PP E h [.int (zI x0)]) (QP E h h (some (.int (zI res)))) (pX h - pX h) (pS h - pS h) (eF E) := by
  refine Met.ofW (cc := cX0_capital) (maxL := 1) (ret := (some .boolean)) (by decide) rfl ?_
  intro p e s m args below meth c s₁ B hml hv
  obtain ⟨rfl, hP0⟩ := hv
  have hts := atoms_spec (ws := ws_ yX0_capital cX0_capital 1 (some .boolean)) B.pre
  have hts : ∀ w ∈ lw_all, w.before _ s = true := fun w h => hts w (List.mem_cons_of_mem _ h)
  have C : PC E p s m _ meth c RX0 cX0_capital 1 (some .boolean) "capital" := ⟨B.exec, B.bytes, B.returns, B.notSynchronized, hml, findClass_of_methodNamed B.named, hts, hP0.2, (name_of_methodNamed B.named B.method).1⟩
  have hz : ZP E s h h s.heap [] := ZG.start hP0.1
  have hl := lv_entry ([.int (zI x0)]) (n := 1) (Nat.le_of_ble_eq_true rfl)
  rw [lg_entry_eq]
  generalize (lg_sl ([.int (zI x0)]) ++ List.replicate (1 - (lg_sl ([.int (zI x0)])).length) Slot.unset).toArray = ls at hl ⊢
  have hl : lv_has ls 1 [(0, .int (zI x0))] := hl
  refine W.cs (cells' := pX h - pX h) (slots' := pS h - pS h) (Nat.sub_self _).symm (Nat.sub_self _).symm ?_
  exact w_X0_capital C ⟨Nat.le_refl _, Nat.le_refl _, RBw.rm⟩ hf hz hl rfl

theorem w_X0_closeTo_0s {p : Program} {l : Launch} {e : Env} {R : Room} {s : State} {m : MethodId} {args : Array Value} {below : List Frame} {meth : Method} {c : Code} {Q : State → Prop} {E : PEw} {h0 h : HP} {H : Heap} {locs : List Loc} (C : PC E p s m args meth c RX0 cX0_closeTo 3 none "closeTo") (hr : 3 ≤ R.frames ∧ 90 ≤ R.locals ∧ RBw R h0) {x0 : Nat} {x1 : Int} {res : (HP) ⊕ (HP)} (hf : f_X0_closeTo_0s h x0 x1 = some res) (hz : ZP E s h0 h H locs) {ls : Array Slot} (hl : lv_has ls 3 [(0, .ref x0), (1, .int (zI x1))]) (hk : (Sum.elim (fun z => ∀ (H : Heap) (locs : List Loc) (ls : Array Slot), ZP E s h0 z H locs → lv_has ls 3 [(0, .ref x0), (1, .int (zI x1))] → W p l e R s m args below meth c H locs (pX z - pX h0) (pS z - pS h0) Q (F0 m 0 ls [])) (fun r => KP E below args s Q h0 r none)) res) : W p l e R s m args below meth c H locs (pX h - pX h0) (pS h - pS h0) Q (F0 m 0 ls []) := by
  unfold f_X0_closeTo_0s at hf
  have hx := C.1
  have hb := C.2.1
  refine lv_iload_n hx hb dX0_closeTo_0 rfl (lv_at hl 1 rfl) ?_
  refine zl_if_le (tgt := 43) hx hb dX0_closeTo_1 (by decide) (fun hc => ?_) (fun hc => ?_)
  · rw [if_pos hc] at hf
    refine lv_aload_n hx hb dX0_closeTo_4 rfl (lv_at hl 0 rfl) ?_
    obtain ⟨hg, hf⟩ := gd_inv hf
    refine zg_getp gP C hz 1 5 (gkp (by decide) hg) (by decide) (by decide) (Or.inl (C.w q405)) (fun _ h => h) dX0_closeTo_5 ?_
    obtain ⟨a1, ea1, hf⟩ := bd_inv hf
    rw [zx_rf ea1]
    obtain ⟨y2, ey2, hf⟩ := bd_inv hf
    refine zj_lLen C hz hr ey2 (rest := []) q549 q550 (C.w q551) q94 q552 hl.1 ⟨Nat.le_trans (by decide) hr.1, Nat.le_trans (by decide) hr.2.1⟩ (Nat.le_of_ble_eq_true rfl) dX0_closeTo_8 (fun H locs hz => ?_)
    refine lv_iload_n hx hb dX0_closeTo_11 rfl (lv_at hl 1 rfl) ?_
    refine zl_icmp_le (tgt := 43) hx hb dX0_closeTo_12 (by decide) (fun hc => ?_) (fun hc => ?_)
    · rw [if_pos hc] at hf
      refine lv_aload_n hx hb dX0_closeTo_15 rfl (lv_at hl 0 rfl) ?_
      obtain ⟨hg, hf⟩ := gd_inv hf
      refine zg_getp gP C hz 1 5 (gkp (by decide) hg) (by decide) (by decide) (Or.inl (C.w q405)) (fun _ h => h) dX0_closeTo_16 ?_
      refine lv_aload_n hx hb dX0_closeTo_19 rfl (lv_at hl 0 rfl) ?_
      obtain ⟨hg, hf⟩ := gd_inv hf
      refine zg_getp gP C hz 1 5 (gkp (by decide) hg) (by decide) (by decide) (Or.inl (C.w q405)) (fun _ h => h) dX0_closeTo_20 ?_
      obtain ⟨a3, ea3, hf⟩ := bd_inv hf
      rw [zx_rf ea3]
      obtain ⟨y4, ey4, hf⟩ := bd_inv hf
      refine zj_lLen C hz hr ey4 (rest := [.ref a3]) q549 q550 (C.w q551) q94 q552 hl.1 ⟨Nat.le_trans (by decide) hr.1, Nat.le_trans (by decide) hr.2.1⟩ (Nat.le_of_ble_eq_true rfl) dX0_closeTo_23 (fun H locs hz => ?_)
      refine zl_iconst hx hb dX0_closeTo_26 ?_
      refine zl_isub hx hb dX0_closeTo_27 ?_
      obtain ⟨y5, ey5, hf⟩ := bd_inv hf
      refine zj_lDel C hz hr ey5 (rest := []) q819 q820 (C.w q821) q94 q822 hl.1 ⟨Nat.le_trans (by decide) hr.1, Nat.le_trans (by decide) hr.2.1⟩ (Nat.le_of_ble_eq_true rfl) dX0_closeTo_28 (fun H locs hz => ?_)
      obtain ⟨hg, hf⟩ := gd_inv hf
      refine zg_cast2 gP C hz hg q124 dX0_closeTo_31 ?_
      refine lv_astore_n (lv' := [(2, .ref y5.2), (0, .ref x0), (1, .int (zI x1))]) hx hb dX0_closeTo_34 rfl hl (by decide) rfl (fun ls hl => ?_)
      refine lv_aload_n hx hb dX0_closeTo_35 rfl (lv_at hl 0 rfl) ?_
      refine zl_iconst hx hb dX0_closeTo_36 ?_
      obtain ⟨hg, hf⟩ := gd_inv hf
      obtain ⟨h6, eh6, hf⟩ := bnd_inv hf
      refine zg_putb gP C hz 2 6 (gkp (by decide) hg) (by decide) (by decide) rfl (by decide) zisB_0 (Or.inr ⟨_, C.nw q170⟩) (fun _ h => h) dX0_closeTo_37 eh6 (fun H locs hz => ?_)
      refine lv_goto (tgt := 0) hx hb dX0_closeTo_40 (by decide) ?_
      obtain rfl := Option.some.inj hf
      exact hk _ _ _ hz (lv_sub hl [1, 2] rfl)
    · rw [if_neg hc] at hf
      obtain rfl := Option.some.inj hf
      exact zg_vret C hz hk dX0_closeTo_43
  · rw [if_neg hc] at hf
    obtain rfl := Option.some.inj hf
    exact zg_vret C hz hk dX0_closeTo_43

theorem w_X0_closeTo_0 {p : Program} {l : Launch} {e : Env} {R : Room} {s : State} {m : MethodId} {args : Array Value} {below : List Frame} {meth : Method} {c : Code} {Q : State → Prop} {E : PEw} {h0 h : HP} {H : Heap} {locs : List Loc} (C : PC E p s m args meth c RX0 cX0_closeTo 3 none "closeTo") (hr : 3 ≤ R.frames ∧ 90 ≤ R.locals ∧ RBw R h0) {x0 : Nat} {x1 : Int} {res : HP} (hf : f_X0_closeTo_0 h x0 x1 = some res) (hz : ZP E s h0 h H locs) {ls : Array Slot} (hl : lv_has ls 3 [(0, .ref x0), (1, .int (zI x1))]) (hk : KP E below args s Q h0 res none) : W p l e R s m args below meth c H locs (pX h - pX h0) (pS h - pS h0) Q (F0 m 0 ls []) := by
  unfold f_X0_closeTo_0 at hf
  refine iter_ind (P := fun z r => ∀ (H : Heap) (locs : List Loc) (ls : Array Slot), ZP E s h0 z H locs → lv_has ls 3 [(0, .ref x0), (1, .int (zI x1))] → KP E below args s Q h0 r none → W p l e R s m args below meth c H locs (pX z - pX h0) (pS z - pS h0) Q (F0 m 0 ls [])) ?_ ?_ hf H locs ls hz hl hk
  · intro z r h1 H locs ls hz hl hk; exact w_X0_closeTo_0s C hr h1 hz hl hk
  · intro z z1 r h1 ih H locs ls hz hl hk; exact w_X0_closeTo_0s C hr h1 hz hl (fun H locs ls hz hl => ih H locs ls hz hl hk)

theorem w_X0_closeTo {p : Program} {l : Launch} {e : Env} {R : Room} {s : State} {m : MethodId} {args : Array Value} {below : List Frame} {meth : Method} {c : Code} {Q : State → Prop} {E : PEw} {h0 h : HP} {H : Heap} {locs : List Loc} (C : PC E p s m args meth c RX0 cX0_closeTo 3 none "closeTo") (hr : 3 ≤ R.frames ∧ 90 ≤ R.locals ∧ RBw R h0) {x0 : Nat} {x1 : Int} {res : HP} (hf : f_X0_closeTo h x0 x1 = some res) (hz : ZP E s h0 h H locs) {ls : Array Slot} (hl : lv_has ls 3 [(0, .ref x0), (1, .int (zI x1))]) (hk : KP E below args s Q h0 res none) : W p l e R s m args below meth c H locs (pX h - pX h0) (pS h - pS h0) Q (F0 m 0 ls []) := by
  unfold f_X0_closeTo at hf
  have hx := C.1
  have hb := C.2.1
  exact w_X0_closeTo_0 C hr hf hz (lv_sub hl [0, 1] rfl) hk

theorem met_X0_closeTo (l : Launch) (E : PEw) {h : HP} {x0 : Nat} {x1 : Int} {res : HP} (hf : f_X0_closeTo h x0 x1 = some res) : Met l yX0_closeTo (ws_ yX0_closeTo cX0_closeTo 3 none) (rmP h 3 90) (PP E h [.ref x0, .int (zI x1)]) (QP E h res none) (pX res - pX h) (pS res - pS h) (eF E) := by
  refine Met.ofW (cc := cX0_closeTo) (maxL := 3) (ret := none) (by decide) rfl ?_
  intro p e s m args below meth c s₁ B hml hv
  obtain ⟨rfl, hP0⟩ := hv
  have hts := atoms_spec (ws := ws_ yX0_closeTo cX0_closeTo 3 none) B.pre
  have hts : ∀ w ∈ lw_all, w.before _ s = true := fun w h => hts w (List.mem_cons_of_mem _ h)
  have C : PC E p s m _ meth c RX0 cX0_closeTo 3 none "closeTo" := ⟨B.exec, B.bytes, B.returns, B.notSynchronized, hml, findClass_of_methodNamed B.named, hts, hP0.2, (name_of_methodNamed B.named B.method).1⟩
  have hz : ZP E s h h s.heap [] := ZG.start hP0.1
  have hl := lv_entry ([.ref x0, .int (zI x1)]) (n := 3) (Nat.le_of_ble_eq_true rfl)
  rw [lg_entry_eq]
  generalize (lg_sl ([.ref x0, .int (zI x1)]) ++ List.replicate (3 - (lg_sl ([.ref x0, .int (zI x1)])).length) Slot.unset).toArray = ls at hl ⊢
  have hl : lv_has ls 3 [(0, .ref x0), (1, .int (zI x1))] := hl
  refine W.cs (cells' := pX h - pX h) (slots' := pS h - pS h) (Nat.sub_self _).symm (Nat.sub_self _).symm ?_
  exact w_X0_closeTo C ⟨Nat.le_refl _, Nat.le_refl _, RBw.rm⟩ hf hz hl rfl

theorem w_X2_block {p : Program} {l : Launch} {e : Env} {R : Room} {s : State} {m : MethodId} {args : Array Value} {below : List Frame} {meth : Method} {c : Code} {Q : State → Prop} {E : PEw} {h0 h : HP} {H : Heap} {locs : List Loc} (C : PC E p s m args meth c RX2 cX2_block 1 (some .boolean) "block") (hr : 4 ≤ R.frames ∧ 91 ≤ R.locals ∧ RBw R h0) {x0 : Nat} {res : Int} (hf : f_X2_block h x0 = some res) (hz : ZP E s h0 h H locs) {ls : Array Slot} (hl : lv_has ls 1 [(0, .ref x0)]) (hk : KP E below args s Q h0 h (some (.int (zI res)))) : W p l e R s m args below meth c H locs (pX h - pX h0) (pS h - pS h0) Q (F0 m 0 ls []) := by
  unfold f_X2_block at hf
  have hx := C.1
  have hb := C.2.1
  refine zc_str C 9 (by decide) rfl rfl dX2_block_0 ?_
  refine lv_aload_n hx hb dX2_block_2 rfl (lv_at hl 0 rfl) ?_
  obtain ⟨hg, hf⟩ := gd_inv hf
  refine zg_geti gP C hz 2 2 (gkp (by decide) hg) (by decide) (by decide) (Or.inl (C.w q160)) (fun _ h => h) dX2_block_3 ?_
  obtain ⟨hg, hf⟩ := gd_inv hf
  obtain ⟨y1, ey1, hf⟩ := bd_inv hf
  refine zg_callQ gP C hz hr (n := 1) (rest := []) hg (met_J6_indexOf l E ey1) q839 q585 (C.w q586) q100 q587 (by decide +kernel) ⟨Nat.le_trans (by decide) hr.1, Nat.le_trans (by decide) hr.2.1⟩ rfl hl.1 rfl (Nat.le_of_ble_eq_true rfl) dX2_block_6 (fun H locs hz => ?_)
  refine zl_if_lt (tgt := 16) hx hb dX2_block_9 (by decide) (fun hc => ?_) (fun hc => ?_)
  · rw [if_pos hc] at hf
    refine zl_iconst hx hb dX2_block_16 ?_
    obtain rfl := Option.some.inj hf
    exact zg_zret C hz zisB_0 hk dX2_block_17
  · rw [if_neg hc] at hf
    refine zl_iconst hx hb dX2_block_12 ?_
    refine lv_goto (tgt := 17) hx hb dX2_block_13 (by decide) ?_
    obtain rfl := Option.some.inj hf
    exact zg_zret C hz zisB_1 hk dX2_block_17

theorem met_X2_block (l : Launch) (E : PEw) {h : HP} {x0 : Nat} {res : Int} (hf : f_X2_block h x0 = some res) : Met l yX2_block (ws_ yX2_block cX2_block 1 (some .boolean)) (rmP h 4 91) (PP E h [.ref x0]) (QP E h h (some (.int (zI res)))) (pX h - pX h) (pS h - pS h) (eF E) := by
  refine Met.ofW (cc := cX2_block) (maxL := 1) (ret := (some .boolean)) (by decide) rfl ?_
  intro p e s m args below meth c s₁ B hml hv
  obtain ⟨rfl, hP0⟩ := hv
  have hts := atoms_spec (ws := ws_ yX2_block cX2_block 1 (some .boolean)) B.pre
  have hts : ∀ w ∈ lw_all, w.before _ s = true := fun w h => hts w (List.mem_cons_of_mem _ h)
  have C : PC E p s m _ meth c RX2 cX2_block 1 (some .boolean) "block" := ⟨B.exec, B.bytes, B.returns, B.notSynchronized, hml, findClass_of_methodNamed B.named, hts, hP0.2, (name_of_methodNamed B.named B.method).1⟩
  have hz : ZP E s h h s.heap [] := ZG.start hP0.1
  have hl := lv_entry ([.ref x0]) (n := 1) (Nat.le_of_ble_eq_true rfl)
  rw [lg_entry_eq]
  generalize (lg_sl ([.ref x0]) ++ List.replicate (1 - (lg_sl ([.ref x0])).length) Slot.unset).toArray = ls at hl ⊢
  have hl : lv_has ls 1 [(0, .ref x0)] := hl
  refine W.cs (cells' := pX h - pX h) (slots' := pS h - pS h) (Nat.sub_self _).symm (Nat.sub_self _).symm ?_
  exact w_X2_block C ⟨Nat.le_refl _, Nat.le_refl _, RBw.rm⟩ hf hz hl rfl

theorem w_X0_move_213 {p : Program} {l : Launch} {e : Env} {R : Room} {s : State} {m : MethodId} {args : Array Value} {below : List Frame} {meth : Method} {c : Code} {Q : State → Prop} {E : PEw} {h0 h : HP} {H : Heap} {locs : List Loc} (C : PC E p s m args meth c RX0 cX0_move 7 none "move") (hr : 8 ≤ R.frames ∧ 198 ≤ R.locals ∧ RBw R h0) {x4 : Nat} {x5 : Nat} {res : HP} (hf : f_X0_move_213 h x4 x5 = some res) (hz : ZP E s h0 h H locs) {ls : Array Slot} (hl : lv_has ls 7 [(4, .ref x4), (5, .ref x5)]) (hk : KP E below args s Q h0 res none) : W p l e R s m args below meth c H locs (pX h - pX h0) (pS h - pS h0) Q (F0 m 213 ls []) := by
  unfold f_X0_move_213 at hf
  have hx := C.1
  have hb := C.2.1
  refine lv_aload hx hb dX0_move_213 (lv_at hl 1 rfl) ?_
  obtain ⟨hg, hf⟩ := gd_inv hf
  refine zg_getp gP C hz 2 4 (gkp (by decide) hg) (by decide) (by decide) (Or.inr ⟨_, C.nw q166⟩) (fun _ h => h) dX0_move_215 ?_
  obtain ⟨a1, ea1, hf⟩ := bd_inv hf
  rw [zx_rf ea1]
  obtain ⟨y2, ey2, hf⟩ := bd_inv hf
  refine zj_lClr C hz hr ey2 (rest := []) q333 q330 (C.w q331) q94 q332 hl.1 ⟨Nat.le_trans (by decide) hr.1, Nat.le_trans (by decide) hr.2.1⟩ (Nat.le_of_ble_eq_true rfl) dX0_move_218 (fun H locs hz => ?_)
  refine lv_aload hx hb dX0_move_221 (lv_at hl 1 rfl) ?_
  refine zl_iconst hx hb dX0_move_223 ?_
  refine lv_aload hx hb dX0_move_224 (lv_at hl 0 rfl) ?_
  obtain ⟨hg, hf⟩ := gd_inv hf
  obtain ⟨y3, ey3, hf⟩ := bd_inv hf
  refine zg_callV gP C hz hr (n := 2) (rest := []) (gkp (by decide) hg) (met_X2_put l E ey3) q687 q688 (C.w q689) q91 q690 (by decide +kernel) ⟨Nat.le_trans (by decide) hr.1, Nat.le_trans (by decide) hr.2.1⟩ rfl hl.1 rfl (Nat.le_of_ble_eq_true rfl) dX0_move_226 (fun H locs hz => ?_)
  obtain rfl := Option.some.inj hf
  exact zg_vret C hz hk dX0_move_229

theorem w_X0_move_174s {p : Program} {l : Launch} {e : Env} {R : Room} {s : State} {m : MethodId} {args : Array Value} {below : List Frame} {meth : Method} {c : Code} {Q : State → Prop} {E : PEw} {h0 h : HP} {H : Heap} {locs : List Loc} (C : PC E p s m args meth c RX0 cX0_move 7 none "move") (hr : 8 ≤ R.frames ∧ 198 ≤ R.locals ∧ RBw R h0) {x4 : Nat} {x5 : Nat} {x6 : Int} {res : (HP × Int) ⊕ (HP)} (hf : f_X0_move_174s h x4 x5 x6 = some res) (hz : ZP E s h0 h H locs) {ls : Array Slot} (hl : lv_has ls 7 [(4, .ref x4), (5, .ref x5), (6, .int (zI x6))]) (hk : (Sum.elim (fun z => ∀ (H : Heap) (locs : List Loc) (ls : Array Slot), ZP E s h0 z.1 H locs → lv_has ls 7 [(4, .ref x4), (5, .ref x5), (6, .int (zI z.2))] → W p l e R s m args below meth c H locs (pX z.1 - pX h0) (pS z.1 - pS h0) Q (F0 m 174 ls [])) (fun r => KP E below args s Q h0 r none)) res) : W p l e R s m args below meth c H locs (pX h - pX h0) (pS h - pS h0) Q (F0 m 174 ls []) := by
  unfold f_X0_move_174s at hf
  have hx := C.1
  have hb := C.2.1
  refine lv_iload hx hb dX0_move_174 (lv_at hl 2 rfl) ?_
  refine lv_aload hx hb dX0_move_176 (lv_at hl 1 rfl) ?_
  obtain ⟨hg, hf⟩ := gd_inv hf
  refine zg_getp gP C hz 2 4 (gkp (by decide) hg) (by decide) (by decide) (Or.inr ⟨_, C.nw q166⟩) (fun _ h => h) dX0_move_178 ?_
  obtain ⟨a1, ea1, hf⟩ := bd_inv hf
  rw [zx_rf ea1]
  obtain ⟨y2, ey2, hf⟩ := bd_inv hf
  refine zj_lLen C hz hr ey2 (rest := [.int (zI x6)]) q549 q550 (C.w q551) q94 q552 hl.1 ⟨Nat.le_trans (by decide) hr.1, Nat.le_trans (by decide) hr.2.1⟩ (Nat.le_of_ble_eq_true rfl) dX0_move_181 (fun H locs hz => ?_)
  refine zl_icmp_ge (tgt := 213) hx hb dX0_move_184 (by decide) (fun hc => ?_) (fun hc => ?_)
  · rw [if_pos hc] at hf
    refine lv_aload hx hb dX0_move_187 (lv_at hl 0 rfl) ?_
    refine lv_iload hx hb dX0_move_189 (lv_at hl 2 rfl) ?_
    refine lv_aload hx hb dX0_move_191 (lv_at hl 1 rfl) ?_
    obtain ⟨hg, hf⟩ := gd_inv hf
    refine zg_getp gP C hz 2 4 (gkp (by decide) hg) (by decide) (by decide) (Or.inr ⟨_, C.nw q166⟩) (fun _ h => h) dX0_move_193 ?_
    refine lv_iload hx hb dX0_move_196 (lv_at hl 2 rfl) ?_
    obtain ⟨a3, ea3, hf⟩ := bd_inv hf
    rw [zx_rf ea3]
    obtain ⟨y4, ey4, hf⟩ := bd_inv hf
    refine zj_lGet C hz hr ey4 (rest := [.int (zI x6), .ref x4]) q553 q554 (C.w q555) q94 q556 hl.1 ⟨Nat.le_trans (by decide) hr.1, Nat.le_trans (by decide) hr.2.1⟩ (Nat.le_of_ble_eq_true rfl) dX0_move_198 (fun H locs hz => ?_)
    obtain ⟨hg, hf⟩ := gd_inv hf
    refine zg_castN gP C hz hg q704 dX0_move_201 ?_
    obtain ⟨hg, hf⟩ := gd_inv hf
    obtain ⟨y5, ey5, hf⟩ := bd_inv hf
    refine zg_callV gP C hz hr (n := 2) (rest := []) (gkp (by decide) hg) (met_X2_put l E ey5) q687 q688 (C.w q689) q91 q690 (by decide +kernel) ⟨Nat.le_trans (by decide) hr.1, Nat.le_trans (by decide) hr.2.1⟩ rfl hl.1 rfl (Nat.le_of_ble_eq_true rfl) dX0_move_204 (fun H locs hz => ?_)
    refine zl_iinc (x := x6) (n := 1) (lv' := [(6, .int (zI (x6 + 1))), (4, .ref x4), (5, .ref x5)]) (k := 2) hx hb dX0_move_207 hl rfl (by decide) rfl (fun ls hl => ?_)
    refine lv_goto (tgt := 174) hx hb dX0_move_210 (by decide) ?_
    obtain rfl := Option.some.inj hf
    exact hk _ _ _ hz (lv_sub hl [1, 2, 0] rfl)
  · rw [if_neg hc] at hf
    obtain ⟨r0, hm0, rfl⟩ := mr_inv hf
    exact w_X0_move_213 C hr hm0 hz (lv_sub hl [0, 1] rfl) hk

theorem w_X0_move_174 {p : Program} {l : Launch} {e : Env} {R : Room} {s : State} {m : MethodId} {args : Array Value} {below : List Frame} {meth : Method} {c : Code} {Q : State → Prop} {E : PEw} {h0 h : HP} {H : Heap} {locs : List Loc} (C : PC E p s m args meth c RX0 cX0_move 7 none "move") (hr : 8 ≤ R.frames ∧ 198 ≤ R.locals ∧ RBw R h0) {x4 : Nat} {x5 : Nat} {x6 : Int} {res : HP} (hf : f_X0_move_174 h x4 x5 x6 = some res) (hz : ZP E s h0 h H locs) {ls : Array Slot} (hl : lv_has ls 7 [(4, .ref x4), (5, .ref x5), (6, .int (zI x6))]) (hk : KP E below args s Q h0 res none) : W p l e R s m args below meth c H locs (pX h - pX h0) (pS h - pS h0) Q (F0 m 174 ls []) := by
  unfold f_X0_move_174 at hf
  refine iter_ind (P := fun z r => ∀ (H : Heap) (locs : List Loc) (ls : Array Slot), ZP E s h0 z.1 H locs → lv_has ls 7 [(4, .ref x4), (5, .ref x5), (6, .int (zI z.2))] → KP E below args s Q h0 r none → W p l e R s m args below meth c H locs (pX z.1 - pX h0) (pS z.1 - pS h0) Q (F0 m 174 ls [])) ?_ ?_ hf H locs ls hz hl hk
  · intro z r h1 H locs ls hz hl hk; exact w_X0_move_174s C hr h1 hz hl hk
  · intro z z1 r h1 ih H locs ls hz hl hk; exact w_X0_move_174s C hr h1 hz hl (fun H locs ls hz hl => ih H locs ls hz hl hk)

theorem w_X0_move_171 {p : Program} {l : Launch} {e : Env} {R : Room} {s : State} {m : MethodId} {args : Array Value} {below : List Frame} {meth : Method} {c : Code} {Q : State → Prop} {E : PEw} {h0 h : HP} {H : Heap} {locs : List Loc} (C : PC E p s m args meth c RX0 cX0_move 7 none "move") (hr : 8 ≤ R.frames ∧ 198 ≤ R.locals ∧ RBw R h0) {x4 : Nat} {x5 : Nat} {res : HP} (hf : f_X0_move_171 h x4 x5 = some res) (hz : ZP E s h0 h H locs) {ls : Array Slot} (hl : lv_has ls 7 [(4, .ref x4), (5, .ref x5)]) (hk : KP E below args s Q h0 res none) : W p l e R s m args below meth c H locs (pX h - pX h0) (pS h - pS h0) Q (F0 m 171 ls []) := by
  unfold f_X0_move_171 at hf
  have hx := C.1
  have hb := C.2.1
  refine zl_iconst hx hb dX0_move_171 ?_
  refine lv_istore (lv' := [(6, .int (zI 0)), (4, .ref x4), (5, .ref x5)]) hx hb dX0_move_172 hl (by decide) rfl (fun ls hl => ?_)
  exact w_X0_move_174 C hr hf hz (lv_sub hl [1, 2, 0] rfl) hk

theorem w_X0_move_117s {p : Program} {l : Launch} {e : Env} {R : Room} {s : State} {m : MethodId} {args : Array Value} {below : List Frame} {meth : Method} {c : Code} {Q : State → Prop} {E : PEw} {h0 h : HP} {H : Heap} {locs : List Loc} (C : PC E p s m args meth c RX0 cX0_move 7 none "move") (hr : 8 ≤ R.frames ∧ 198 ≤ R.locals ∧ RBw R h0) {x0 : Nat} {x4 : Nat} {x5 : Nat} {x6 : Int} {res : (HP × Int) ⊕ (HP)} (hf : f_X0_move_117s h x0 x4 x5 x6 = some res) (hz : ZP E s h0 h H locs) {ls : Array Slot} (hl : lv_has ls 7 [(0, .ref x0), (4, .ref x4), (5, .ref x5), (6, .int (zI x6))]) (hk : (Sum.elim (fun z => ∀ (H : Heap) (locs : List Loc) (ls : Array Slot), ZP E s h0 z.1 H locs → lv_has ls 7 [(0, .ref x0), (4, .ref x4), (5, .ref x5), (6, .int (zI z.2))] → W p l e R s m args below meth c H locs (pX z.1 - pX h0) (pS z.1 - pS h0) Q (F0 m 117 ls [])) (fun r => KP E below args s Q h0 r none)) res) : W p l e R s m args below meth c H locs (pX h - pX h0) (pS h - pS h0) Q (F0 m 117 ls []) := by
  unfold f_X0_move_117s at hf
  have hx := C.1
  have hb := C.2.1
  refine lv_iload hx hb dX0_move_117 (lv_at hl 3 rfl) ?_
  refine lv_aload_n hx hb dX0_move_119 rfl (lv_at hl 0 rfl) ?_
  obtain ⟨hg, hf⟩ := gd_inv hf
  refine zg_getp gP C hz 1 6 (gkp (by decide) hg) (by decide) (by decide) (Or.inl (C.w q406)) (fun _ h => h) dX0_move_120 ?_
  obtain ⟨a1, ea1, hf⟩ := bd_inv hf
  rw [zx_rf ea1]
  obtain ⟨y2, ey2, hf⟩ := bd_inv hf
  refine zj_lLen C hz hr ey2 (rest := [.int (zI x6)]) q549 q550 (C.w q551) q94 q552 hl.1 ⟨Nat.le_trans (by decide) hr.1, Nat.le_trans (by decide) hr.2.1⟩ (Nat.le_of_ble_eq_true rfl) dX0_move_123 (fun H locs hz => ?_)
  refine zl_icmp_ge (tgt := 171) hx hb dX0_move_126 (by decide) (fun hc => ?_) (fun hc => ?_)
  · rw [if_pos hc] at hf
    refine lv_aload_n hx hb dX0_move_129 rfl (lv_at hl 0 rfl) ?_
    obtain ⟨hg, hf⟩ := gd_inv hf
    refine zg_getp gP C hz 1 5 (gkp (by decide) hg) (by decide) (by decide) (Or.inl (C.w q405)) (fun _ h => h) dX0_move_130 ?_
    refine lv_aload_n hx hb dX0_move_133 rfl (lv_at hl 0 rfl) ?_
    obtain ⟨hg, hf⟩ := gd_inv hf
    refine zg_getp gP C hz 1 6 (gkp (by decide) hg) (by decide) (by decide) (Or.inl (C.w q406)) (fun _ h => h) dX0_move_134 ?_
    refine lv_iload hx hb dX0_move_137 (lv_at hl 3 rfl) ?_
    obtain ⟨a3, ea3, hf⟩ := bd_inv hf
    rw [zx_rf ea3]
    obtain ⟨y4, ey4, hf⟩ := bd_inv hf
    refine zj_lGet C hz hr ey4 (rest := [va_rf (pP h x0 5)]) q553 q554 (C.w q555) q94 q556 hl.1 ⟨Nat.le_trans (by decide) hr.1, Nat.le_trans (by decide) hr.2.1⟩ (by simp only [List.map_cons, List.map_nil, zx_cat]; exact Nat.le_of_ble_eq_true rfl) dX0_move_139 (fun H locs hz => ?_)
    obtain ⟨hg, hf⟩ := gd_inv hf
    refine zg_cast2 gP C hz hg q124 dX0_move_142 ?_
    obtain ⟨a5, ea5, hf⟩ := bd_inv hf
    rw [zx_rf ea5]
    obtain ⟨y6, ey6, hf⟩ := bd_inv hf
    refine zj_lAdd C hz hr ey6 (rest := []) q338 q339 (C.w q340) q94 q341 hl.1 ⟨Nat.le_trans (by decide) hr.1, Nat.le_trans (by decide) hr.2.1⟩ (Nat.le_of_ble_eq_true rfl) dX0_move_145 (fun H locs hz => ?_)
    refine lv_pop hx hb dX0_move_148 rfl ?_
    refine lv_aload_n hx hb dX0_move_149 rfl (lv_at hl 0 rfl) ?_
    obtain ⟨hg, hf⟩ := gd_inv hf
    refine zg_getp gP C hz 1 6 (gkp (by decide) hg) (by decide) (by decide) (Or.inl (C.w q406)) (fun _ h => h) dX0_move_150 ?_
    refine lv_iload hx hb dX0_move_153 (lv_at hl 3 rfl) ?_
    obtain ⟨a7, ea7, hf⟩ := bd_inv hf
    rw [zx_rf ea7]
    obtain ⟨y8, ey8, hf⟩ := bd_inv hf
    refine zj_lGet C hz hr ey8 (rest := []) q553 q554 (C.w q555) q94 q556 hl.1 ⟨Nat.le_trans (by decide) hr.1, Nat.le_trans (by decide) hr.2.1⟩ (Nat.le_of_ble_eq_true rfl) dX0_move_155 (fun H locs hz => ?_)
    obtain ⟨hg, hf⟩ := gd_inv hf
    refine zg_cast2 gP C hz hg q124 dX0_move_158 ?_
    refine zl_iconst hx hb dX0_move_161 ?_
    obtain ⟨hg, hf⟩ := gd_inv hf
    obtain ⟨h9, eh9, hf⟩ := bnd_inv hf
    refine zg_putb gP C hz 2 6 (gkp (by decide) hg) (by decide) (by decide) rfl (by decide) zisB_1 (Or.inr ⟨_, C.nw q170⟩) (fun _ h => h) dX0_move_162 eh9 (fun H locs hz => ?_)
    refine zl_iinc (x := x6) (n := 1) (lv' := [(6, .int (zI (x6 + 1))), (0, .ref x0), (4, .ref x4), (5, .ref x5)]) (k := 3) hx hb dX0_move_165 hl rfl (by decide) rfl (fun ls hl => ?_)
    refine lv_goto (tgt := 117) hx hb dX0_move_168 (by decide) ?_
    obtain rfl := Option.some.inj hf
    exact hk _ _ _ hz (lv_sub hl [1, 2, 3, 0] rfl)
  · rw [if_neg hc] at hf
    obtain ⟨r0, hm0, rfl⟩ := mr_inv hf
    exact w_X0_move_171 C hr hm0 hz (lv_sub hl [1, 2] rfl) hk

theorem w_X0_move_117 {p : Program} {l : Launch} {e : Env} {R : Room} {s : State} {m : MethodId} {args : Array Value} {below : List Frame} {meth : Method} {c : Code} {Q : State → Prop} {E : PEw} {h0 h : HP} {H : Heap} {locs : List Loc} (C : PC E p s m args meth c RX0 cX0_move 7 none "move") (hr : 8 ≤ R.frames ∧ 198 ≤ R.locals ∧ RBw R h0) {x0 : Nat} {x4 : Nat} {x5 : Nat} {x6 : Int} {res : HP} (hf : f_X0_move_117 h x0 x4 x5 x6 = some res) (hz : ZP E s h0 h H locs) {ls : Array Slot} (hl : lv_has ls 7 [(0, .ref x0), (4, .ref x4), (5, .ref x5), (6, .int (zI x6))]) (hk : KP E below args s Q h0 res none) : W p l e R s m args below meth c H locs (pX h - pX h0) (pS h - pS h0) Q (F0 m 117 ls []) := by
  unfold f_X0_move_117 at hf
  refine iter_ind (P := fun z r => ∀ (H : Heap) (locs : List Loc) (ls : Array Slot), ZP E s h0 z.1 H locs → lv_has ls 7 [(0, .ref x0), (4, .ref x4), (5, .ref x5), (6, .int (zI z.2))] → KP E below args s Q h0 r none → W p l e R s m args below meth c H locs (pX z.1 - pX h0) (pS z.1 - pS h0) Q (F0 m 117 ls [])) ?_ ?_ hf H locs ls hz hl hk
  · intro z r h1 H locs ls hz hl hk; exact w_X0_move_117s C hr h1 hz hl hk
  · intro z z1 r h1 ih H locs ls hz hl hk; exact w_X0_move_117s C hr h1 hz hl (fun H locs ls hz hl => ih H locs ls hz hl hk)

theorem w_X0_move_81 {p : Program} {l : Launch} {e : Env} {R : Room} {s : State} {m : MethodId} {args : Array Value} {below : List Frame} {meth : Method} {c : Code} {Q : State → Prop} {E : PEw} {h0 h : HP} {H : Heap} {locs : List Loc} (C : PC E p s m args meth c RX0 cX0_move 7 none "move") (hr : 8 ≤ R.frames ∧ 198 ≤ R.locals ∧ RBw R h0) {x0 : Nat} {x2 : Int} {x4 : Nat} {x5 : Nat} {res : HP} (hf : f_X0_move_81 h x0 x2 x4 x5 = some res) (hz : ZP E s h0 h H locs) {ls : Array Slot} (hl : lv_has ls 7 [(0, .ref x0), (2, .int (zI x2)), (4, .ref x4), (5, .ref x5)]) (hk : KP E below args s Q h0 res none) : W p l e R s m args below meth c H locs (pX h - pX h0) (pS h - pS h0) Q (F0 m 81 ls []) := by
  unfold f_X0_move_81 at hf
  have hx := C.1
  have hb := C.2.1
  refine lv_aload_n hx hb dX0_move_81 rfl (lv_at hl 0 rfl) ?_
  refine lv_iload_n hx hb dX0_move_82 rfl (lv_at hl 1 rfl) ?_
  obtain ⟨hg, hf⟩ := gd_inv hf
  obtain ⟨y1, ey1, hf⟩ := bd_inv hf
  refine zg_callV gP C hz hr (n := 1) (rest := []) (gkp (by decide) hg) (met_X0_closeTo l E ey1) q815 q817 (C.w qs21) q89 q818 (by decide +kernel) ⟨Nat.le_trans (by decide) hr.1, Nat.le_trans (by decide) hr.2.1⟩ rfl hl.1 rfl (Nat.le_of_ble_eq_true rfl) dX0_move_83 (fun H locs hz => ?_)
  refine lv_aload hx hb dX0_move_86 (lv_at hl 3 rfl) ?_
  obtain ⟨hg, hf⟩ := gd_inv hf
  refine zg_getp gP C hz 2 0 (gkp (by decide) hg) (by decide) (by decide) (Or.inl (C.w q191)) (C.sm q192) dX0_move_88 ?_
  obtain ⟨a2, ea2, hf⟩ := bd_inv hf
  rw [zx_rf ea2]
  obtain ⟨hg, hf⟩ := gd_inv hf
  refine zg_getp gP C hz 2 4 (gkp (by decide) hg) (by decide) (by decide) (Or.inr ⟨_, C.nw q166⟩) (fun _ h => h) dX0_move_91 ?_
  refine lv_aload hx hb dX0_move_94 (lv_at hl 3 rfl) ?_
  obtain ⟨hg, hf⟩ := gd_inv hf
  refine zg_getp gP C hz 2 0 (gkp (by decide) hg) (by decide) (by decide) (Or.inl (C.w q191)) (C.sm q192) dX0_move_96 ?_
  refine lv_aload hx hb dX0_move_99 (lv_at hl 3 rfl) ?_
  obtain ⟨a3, ea3, hf⟩ := bd_inv hf
  rw [zx_rf ea3]
  obtain ⟨hg, hf⟩ := gd_inv hf
  obtain ⟨y4, ey4, hf⟩ := bd_inv hf
  refine zg_callV gP C hz hr (n := 1) (rest := [va_rf (pP y1 a2 4)]) (gkp (by decide) hg) (met_X2_index l E ey4) q681 q682 (C.w q683) q91 q684 (by decide +kernel) ⟨Nat.le_trans (by decide) hr.1, Nat.le_trans (by decide) hr.2.1⟩ rfl hl.1 rfl (by simp only [List.map_cons, List.map_nil, zx_cat]; exact Nat.le_of_ble_eq_true rfl) dX0_move_101 (fun H locs hz => ?_)
  obtain ⟨a5, ea5, hf⟩ := bd_inv hf
  rw [zx_rf ea5]
  obtain ⟨y6, ey6, hf⟩ := bd_inv hf
  refine zj_lDel C hz hr ey6 (rest := []) q819 q820 (C.w q821) q94 q822 hl.1 ⟨Nat.le_trans (by decide) hr.1, Nat.le_trans (by decide) hr.2.1⟩ (Nat.le_of_ble_eq_true rfl) dX0_move_104 (fun H locs hz => ?_)
  refine lv_pop hx hb dX0_move_107 rfl ?_
  refine lv_aload_n hx hb dX0_move_108 rfl (lv_at hl 0 rfl) ?_
  refine lv_aload hx hb dX0_move_109 (lv_at hl 3 rfl) ?_
  obtain ⟨hg, hf⟩ := gd_inv hf
  obtain ⟨y7, ey7, hf⟩ := bd_inv hf
  refine zg_callV gP C hz hr (n := 1) (rest := []) (gkp (by decide) hg) (met_X0_insert l E ey7) q673 q675 (C.w qs15) q89 q676 (by decide +kernel) ⟨Nat.le_trans (by decide) hr.1, Nat.le_trans (by decide) hr.2.1⟩ rfl hl.1 rfl (Nat.le_of_ble_eq_true rfl) dX0_move_111 (fun H locs hz => ?_)
  refine zl_iconst hx hb dX0_move_114 ?_
  refine lv_istore (lv' := [(6, .int (zI 0)), (0, .ref x0), (2, .int (zI x2)), (4, .ref x4), (5, .ref x5)]) hx hb dX0_move_115 hl (by decide) rfl (fun ls hl => ?_)
  exact w_X0_move_117 C hr hf hz (lv_sub hl [1, 3, 4, 0] rfl) hk

theorem w_X0_move_43s {p : Program} {l : Launch} {e : Env} {R : Room} {s : State} {m : MethodId} {args : Array Value} {below : List Frame} {meth : Method} {c : Code} {Q : State → Prop} {E : PEw} {h0 h : HP} {H : Heap} {locs : List Loc} (C : PC E p s m args meth c RX0 cX0_move 7 none "move") (hr : 8 ≤ R.frames ∧ 198 ≤ R.locals ∧ RBw R h0) {x0 : Nat} {x2 : Int} {x4 : Nat} {x5 : Nat} {x6 : Int} {res : (HP × Int) ⊕ (HP)} (hf : f_X0_move_43s h x0 x2 x4 x5 x6 = some res) (hz : ZP E s h0 h H locs) {ls : Array Slot} (hl : lv_has ls 7 [(0, .ref x0), (2, .int (zI x2)), (4, .ref x4), (5, .ref x5), (6, .int (zI x6))]) (hk : (Sum.elim (fun z => ∀ (H : Heap) (locs : List Loc) (ls : Array Slot), ZP E s h0 z.1 H locs → lv_has ls 7 [(0, .ref x0), (2, .int (zI x2)), (4, .ref x4), (5, .ref x5), (6, .int (zI z.2))] → W p l e R s m args below meth c H locs (pX z.1 - pX h0) (pS z.1 - pS h0) Q (F0 m 43 ls [])) (fun r => KP E below args s Q h0 r none)) res) : W p l e R s m args below meth c H locs (pX h - pX h0) (pS h - pS h0) Q (F0 m 43 ls []) := by
  unfold f_X0_move_43s at hf
  have hx := C.1
  have hb := C.2.1
  refine lv_iload hx hb dX0_move_43 (lv_at hl 4 rfl) ?_
  refine lv_aload_n hx hb dX0_move_45 rfl (lv_at hl 0 rfl) ?_
  obtain ⟨hg, hf⟩ := gd_inv hf
  refine zg_getp gP C hz 1 5 (gkp (by decide) hg) (by decide) (by decide) (Or.inl (C.w q405)) (fun _ h => h) dX0_move_46 ?_
  obtain ⟨a1, ea1, hf⟩ := bd_inv hf
  rw [zx_rf ea1]
  obtain ⟨y2, ey2, hf⟩ := bd_inv hf
  refine zj_lLen C hz hr ey2 (rest := [.int (zI x6)]) q549 q550 (C.w q551) q94 q552 hl.1 ⟨Nat.le_trans (by decide) hr.1, Nat.le_trans (by decide) hr.2.1⟩ (Nat.le_of_ble_eq_true rfl) dX0_move_49 (fun H locs hz => ?_)
  refine zl_icmp_ge (tgt := 81) hx hb dX0_move_52 (by decide) (fun hc => ?_) (fun hc => ?_)
  · rw [if_pos hc] at hf
    refine lv_aload_n hx hb dX0_move_55 rfl (lv_at hl 0 rfl) ?_
    obtain ⟨hg, hf⟩ := gd_inv hf
    refine zg_getp gP C hz 1 6 (gkp (by decide) hg) (by decide) (by decide) (Or.inl (C.w q406)) (fun _ h => h) dX0_move_56 ?_
    refine lv_aload_n hx hb dX0_move_59 rfl (lv_at hl 0 rfl) ?_
    obtain ⟨hg, hf⟩ := gd_inv hf
    refine zg_getp gP C hz 1 5 (gkp (by decide) hg) (by decide) (by decide) (Or.inl (C.w q405)) (fun _ h => h) dX0_move_60 ?_
    refine lv_iload hx hb dX0_move_63 (lv_at hl 4 rfl) ?_
    obtain ⟨a3, ea3, hf⟩ := bd_inv hf
    rw [zx_rf ea3]
    obtain ⟨y4, ey4, hf⟩ := bd_inv hf
    refine zj_lGet C hz hr ey4 (rest := [va_rf (pP h x0 6)]) q553 q554 (C.w q555) q94 q556 hl.1 ⟨Nat.le_trans (by decide) hr.1, Nat.le_trans (by decide) hr.2.1⟩ (by simp only [List.map_cons, List.map_nil, zx_cat]; exact Nat.le_of_ble_eq_true rfl) dX0_move_65 (fun H locs hz => ?_)
    obtain ⟨hg, hf⟩ := gd_inv hf
    refine zg_cast2 gP C hz hg q124 dX0_move_68 ?_
    obtain ⟨a5, ea5, hf⟩ := bd_inv hf
    rw [zx_rf ea5]
    obtain ⟨y6, ey6, hf⟩ := bd_inv hf
    refine zj_lAdd C hz hr ey6 (rest := []) q338 q339 (C.w q340) q94 q341 hl.1 ⟨Nat.le_trans (by decide) hr.1, Nat.le_trans (by decide) hr.2.1⟩ (Nat.le_of_ble_eq_true rfl) dX0_move_71 (fun H locs hz => ?_)
    refine lv_pop hx hb dX0_move_74 rfl ?_
    refine zl_iinc (x := x6) (n := 1) (lv' := [(6, .int (zI (x6 + 1))), (0, .ref x0), (2, .int (zI x2)), (4, .ref x4), (5, .ref x5)]) (k := 4) hx hb dX0_move_75 hl rfl (by decide) rfl (fun ls hl => ?_)
    refine lv_goto (tgt := 43) hx hb dX0_move_78 (by decide) ?_
    obtain rfl := Option.some.inj hf
    exact hk _ _ _ hz (lv_sub hl [1, 2, 3, 4, 0] rfl)
  · rw [if_neg hc] at hf
    obtain ⟨r0, hm0, rfl⟩ := mr_inv hf
    exact w_X0_move_81 C hr hm0 hz (lv_sub hl [0, 1, 2, 3] rfl) hk

theorem w_X0_move_43 {p : Program} {l : Launch} {e : Env} {R : Room} {s : State} {m : MethodId} {args : Array Value} {below : List Frame} {meth : Method} {c : Code} {Q : State → Prop} {E : PEw} {h0 h : HP} {H : Heap} {locs : List Loc} (C : PC E p s m args meth c RX0 cX0_move 7 none "move") (hr : 8 ≤ R.frames ∧ 198 ≤ R.locals ∧ RBw R h0) {x0 : Nat} {x2 : Int} {x4 : Nat} {x5 : Nat} {x6 : Int} {res : HP} (hf : f_X0_move_43 h x0 x2 x4 x5 x6 = some res) (hz : ZP E s h0 h H locs) {ls : Array Slot} (hl : lv_has ls 7 [(0, .ref x0), (2, .int (zI x2)), (4, .ref x4), (5, .ref x5), (6, .int (zI x6))]) (hk : KP E below args s Q h0 res none) : W p l e R s m args below meth c H locs (pX h - pX h0) (pS h - pS h0) Q (F0 m 43 ls []) := by
  unfold f_X0_move_43 at hf
  refine iter_ind (P := fun z r => ∀ (H : Heap) (locs : List Loc) (ls : Array Slot), ZP E s h0 z.1 H locs → lv_has ls 7 [(0, .ref x0), (2, .int (zI x2)), (4, .ref x4), (5, .ref x5), (6, .int (zI z.2))] → KP E below args s Q h0 r none → W p l e R s m args below meth c H locs (pX z.1 - pX h0) (pS z.1 - pS h0) Q (F0 m 43 ls [])) ?_ ?_ hf H locs ls hz hl hk
  · intro z r h1 H locs ls hz hl hk; exact w_X0_move_43s C hr h1 hz hl hk
  · intro z z1 r h1 ih H locs ls hz hl hk; exact w_X0_move_43s C hr h1 hz hl (fun H locs ls hz hl => ih H locs ls hz hl hk)

theorem w_X0_move {p : Program} {l : Launch} {e : Env} {R : Room} {s : State} {m : MethodId} {args : Array Value} {below : List Frame} {meth : Method} {c : Code} {Q : State → Prop} {E : PEw} {h0 h : HP} {H : Heap} {locs : List Loc} (C : PC E p s m args meth c RX0 cX0_move 7 none "move") (hr : 8 ≤ R.frames ∧ 198 ≤ R.locals ∧ RBw R h0) {x0 : Nat} {x1 : Nat} {x2 : Int} {x3 : Int} {res : HP} (hf : f_X0_move h x0 x1 x2 x3 = some res) (hz : ZP E s h0 h H locs) {ls : Array Slot} (hl : lv_has ls 7 [(0, .ref x0), (1, .ref x1), (2, .int (zI x2)), (3, .int (zI x3))]) (hk : KP E below args s Q h0 res none) : W p l e R s m args below meth c H locs (pX h - pX h0) (pS h - pS h0) Q (F0 m 0 ls []) := by
  unfold f_X0_move at hf
  have hx := C.1
  have hb := C.2.1
  refine lv_aload_n hx hb dX0_move_0 rfl (lv_at hl 0 rfl) ?_
  refine lv_aload_n hx hb dX0_move_1 rfl (lv_at hl 1 rfl) ?_
  obtain ⟨hg, hf⟩ := gd_inv hf
  refine zg_geti gP C hz 2 2 (gkp (by decide) hg) (by decide) (by decide) (Or.inr ⟨_, C.nw q161⟩) (fun _ h => h) dX0_move_2 ?_
  refine lv_aload_n hx hb dX0_move_5 rfl (lv_at hl 1 rfl) ?_
  obtain ⟨hg, hf⟩ := gd_inv hf
  refine zg_geti gP C hz 2 3 (gkp (by decide) hg) (by decide) (by decide) (Or.inr ⟨_, C.nw q164⟩) (fun _ h => h) dX0_move_6 ?_
  obtain ⟨hg, hf⟩ := gd_inv hf
  obtain ⟨y1, ey1, hf⟩ := bd_inv hf
  refine zg_callV gP C hz hr (n := 2) (rest := []) (gkp (by decide) hg) (met_X0_element l E ey1) q665 q667 (C.w qs13) q89 q668 (by decide +kernel) ⟨Nat.le_trans (by decide) hr.1, Nat.le_trans (by decide) hr.2.1⟩ rfl hl.1 rfl (Nat.le_of_ble_eq_true rfl) dX0_move_9 (fun H locs hz => ?_)
  refine zl_astore_o (lv' := [(4, va_rf y1.2), (0, .ref x0), (1, .ref x1), (2, .int (zI x2)), (3, .int (zI x3))]) hx hb dX0_move_12 hl (by decide) rfl (fun ls hl => ?_)
  refine zl_aload_o hx hb dX0_move_14 (lv_at hl 0 rfl) ?_
  rcases nl_inv hf with ⟨ho, hf⟩ | ⟨a2, ho, hf⟩
  · rw [zx_nul ho]
    refine lv_ifnonnullN hx hb dX0_move_16 ?_
    obtain rfl := Option.some.inj hf
    exact zg_vret C hz hk dX0_move_19
  · rw [zx_rf ho] at hl ⊢
    refine lv_ifnonnull (tgt := 20) hx hb dX0_move_16 (by decide) ?_
    refine lv_aload_n hx hb dX0_move_20 rfl (lv_at hl 1 rfl) ?_
    obtain ⟨hg, hf⟩ := gd_inv hf
    refine zg_getp gP C hz 1 5 (gkp (by decide) hg) (by decide) (by decide) (Or.inl (C.w q405)) (fun _ h => h) dX0_move_21 ?_
    refine lv_iload_n hx hb dX0_move_24 rfl (lv_at hl 4 rfl) ?_
    obtain ⟨a3, ea3, hf⟩ := bd_inv hf
    rw [zx_rf ea3]
    obtain ⟨y4, ey4, hf⟩ := bd_inv hf
    refine zj_lGet C hz hr ey4 (rest := []) q553 q554 (C.w q555) q94 q556 hl.1 ⟨Nat.le_trans (by decide) hr.1, Nat.le_trans (by decide) hr.2.1⟩ (Nat.le_of_ble_eq_true rfl) dX0_move_25 (fun H locs hz => ?_)
    obtain ⟨hg, hf⟩ := gd_inv hf
    refine zg_cast2 gP C hz hg q124 dX0_move_28 ?_
    refine lv_astore (lv' := [(5, .ref y4), (4, .ref a2), (0, .ref x0), (1, .ref x1), (2, .int (zI x2)), (3, .int (zI x3))]) hx hb dX0_move_31 hl (by decide) rfl (fun ls hl => ?_)
    refine lv_aload_n hx hb dX0_move_33 rfl (lv_at hl 2 rfl) ?_
    obtain ⟨hg, hf⟩ := gd_inv hf
    refine zg_getp gP C hz 1 6 (gkp (by decide) hg) (by decide) (by decide) (Or.inl (C.w q406)) (fun _ h => h) dX0_move_34 ?_
    obtain ⟨a5, ea5, hf⟩ := bd_inv hf
    rw [zx_rf ea5]
    obtain ⟨y6, ey6, hf⟩ := bd_inv hf
    refine zj_lClr C hz hr ey6 (rest := []) q333 q330 (C.w q331) q94 q332 hl.1 ⟨Nat.le_trans (by decide) hr.1, Nat.le_trans (by decide) hr.2.1⟩ (Nat.le_of_ble_eq_true rfl) dX0_move_37 (fun H locs hz => ?_)
    refine lv_iload_n hx hb dX0_move_40 rfl (lv_at hl 5 rfl) ?_
    refine lv_istore (lv' := [(6, .int (zI x3)), (5, .ref y4), (4, .ref a2), (0, .ref x0), (1, .ref x1), (2, .int (zI x2)), (3, .int (zI x3))]) hx hb dX0_move_41 hl (by decide) rfl (fun ls hl => ?_)
    exact w_X0_move_43 C hr hf hz (lv_sub hl [3, 5, 2, 1, 0] rfl) hk

theorem met_X0_move (l : Launch) (E : PEw) {h : HP} {x0 : Nat} {x1 : Nat} {x2 : Int} {x3 : Int} {res : HP} (hf : f_X0_move h x0 x1 x2 x3 = some res) : Met l yX0_move (ws_ yX0_move cX0_move 7 none) (rmP h 8 198) (PP E h [.ref x0, .ref x1, .int (zI x2), .int (zI x3)]) (QP E h res none) (pX res - pX h) (pS res - pS h) (eF E) := by
  refine Met.ofW (cc := cX0_move) (maxL := 7) (ret := none) (by decide) rfl ?_
  intro p e s m args below meth c s₁ B hml hv
  obtain ⟨rfl, hP0⟩ := hv
  have hts := atoms_spec (ws := ws_ yX0_move cX0_move 7 none) B.pre
  have hts : ∀ w ∈ lw_all, w.before _ s = true := fun w h => hts w (List.mem_cons_of_mem _ h)
  have C : PC E p s m _ meth c RX0 cX0_move 7 none "move" := ⟨B.exec, B.bytes, B.returns, B.notSynchronized, hml, findClass_of_methodNamed B.named, hts, hP0.2, (name_of_methodNamed B.named B.method).1⟩
  have hz : ZP E s h h s.heap [] := ZG.start hP0.1
  have hl := lv_entry ([.ref x0, .ref x1, .int (zI x2), .int (zI x3)]) (n := 7) (Nat.le_of_ble_eq_true rfl)
  rw [lg_entry_eq]
  generalize (lg_sl ([.ref x0, .ref x1, .int (zI x2), .int (zI x3)]) ++ List.replicate (7 - (lg_sl ([.ref x0, .ref x1, .int (zI x2), .int (zI x3)])).length) Slot.unset).toArray = ls at hl ⊢
  have hl : lv_has ls 7 [(0, .ref x0), (1, .ref x1), (2, .int (zI x2)), (3, .int (zI x3))] := hl
  refine W.cs (cells' := pX h - pX h) (slots' := pS h - pS h) (Nat.sub_self _).symm (Nat.sub_self _).symm ?_
  exact w_X0_move C ⟨Nat.le_refl _, Nat.le_refl _, RBw.rm⟩ hf hz hl rfl

