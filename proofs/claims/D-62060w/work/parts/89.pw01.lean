set_option maxRecDepth 100000
theorem w_X1_init {p : Program} {l : Launch} {e : Env} {R : Room} {s : State} {m : MethodId} {args : Array Value} {below : List Frame} {meth : Method} {c : Code} {Q : State → Prop} {E : PEw} {h0 h : HP} {H : Heap} {locs : List Loc} (C : PC E p s m args meth c RX1 cX1_init 1 none "<init>") (hr : 1 ≤ R.frames ∧ 20 ≤ R.locals ∧ RBw R h0) {x0 : Nat} {res : Unit} (hf : f_X1_init h x0 = some res) (hz : ZP E s h0 h H locs) {ls : Array Slot} (hl : lv_has ls 1 [(0, .ref x0)]) (hk : KP E below args s Q h0 h none) : W p l e R s m args below meth c H locs (pX h - pX h0) (pS h - pS h0) Q (F0 m 0 ls []) := by
  unfold f_X1_init at hf
  have hx := C.1
  have hb := C.2.1
  refine lv_aload_n hx hb dX1_init_0 rfl (lv_at hl 0 rfl) ?_
  refine zo_init C q132 ⟨Nat.le_trans (by decide) hr.1, Nat.le_trans (by decide) hr.2.1⟩ hl.1 (Nat.le_of_ble_eq_true rfl) dX1_init_1 ?_
  obtain rfl := Option.some.inj hf
  exact zg_vret C hz hk dX1_init_4

theorem met_X1_init (l : Launch) (E : PEw) {h : HP} {x0 : Nat} {res : Unit} (hf : f_X1_init h x0 = some res) : Met l yX1_init (ws_ yX1_init cX1_init 1 none) (rmP h 1 20) (PP E h [.ref x0]) (QP E h h none) (pX h - pX h) (pS h - pS h) (eF E) := by
  refine Met.ofW (cc := cX1_init) (maxL := 1) (ret := none) (by decide) rfl ?_
  intro p e s m args below meth c s₁ B hml hv
  obtain ⟨rfl, hP0⟩ := hv
  have hts := atoms_spec (ws := ws_ yX1_init cX1_init 1 none) B.pre
  have hts : ∀ w ∈ lw_all, w.before _ s = true := fun w h => hts w (List.mem_cons_of_mem _ h)
  have C : PC E p s m _ meth c RX1 cX1_init 1 none "<init>" := ⟨B.exec, B.bytes, B.returns, B.notSynchronized, hml, findClass_of_methodNamed B.named, hts, hP0.2, (name_of_methodNamed B.named B.method).1⟩
  have hz : ZP E s h h s.heap [] := ZG.start hP0.1
  have hl := lv_entry ([.ref x0]) (n := 1) (Nat.le_of_ble_eq_true rfl)
  rw [lg_entry_eq]
  generalize (lg_sl ([.ref x0]) ++ List.replicate (1 - (lg_sl ([.ref x0])).length) Slot.unset).toArray = ls at hl ⊢
  have hl : lv_has ls 1 [(0, .ref x0)] := hl
  refine W.cs (cells' := pX h - pX h) (slots' := pS h - pS h) (Nat.sub_self _).symm (Nat.sub_self _).symm ?_
  exact w_X1_init C ⟨Nat.le_refl _, Nat.le_refl _, RBw.rm⟩ hf hz hl rfl

theorem w_X2_init {p : Program} {l : Launch} {e : Env} {R : Room} {s : State} {m : MethodId} {args : Array Value} {below : List Frame} {meth : Method} {c : Code} {Q : State → Prop} {E : PEw} {h0 h : HP} {H : Heap} {locs : List Loc} (C : PC E p s m args meth c RX2 cX2_init 1 none "<init>") (hr : 4 ≤ R.frames ∧ 80 ≤ R.locals ∧ RBw R h0) {x0 : Nat} {res : HP} (hf : f_X2_init h x0 = some res) (hz : ZP E s h0 h H locs) {ls : Array Slot} (hl : lv_has ls 1 [(0, .ref x0)]) (hk : KP E below args s Q h0 res none) : W p l e R s m args below meth c H locs (pX h - pX h0) (pS h - pS h0) Q (F0 m 0 ls []) := by
  unfold f_X2_init at hf
  have hx := C.1
  have hb := C.2.1
  refine lv_aload_n hx hb dX2_init_0 rfl (lv_at hl 0 rfl) ?_
  obtain ⟨y1, ey1, hf⟩ := bd_inv hf
  refine zg_callIN gP C hz hr (n := 0) (rest := []) (met_X1_init l E ey1) q129 q130 q90 q131 (by decide +kernel) ⟨Nat.le_trans (by decide) hr.1, Nat.le_trans (by decide) hr.2.1⟩ rfl hl.1 rfl (Nat.le_of_ble_eq_true rfl) dX2_init_1 (fun H locs hz => ?_)
  refine lv_aload_n hx hb dX2_init_4 rfl (lv_at hl 0 rfl) ?_
  obtain ⟨a2, ea2, hf⟩ := bnd_inv hf
  obtain ⟨hg, hf⟩ := gd_inv hf
  obtain ⟨h3, eh3, hf⟩ := bnd_inv hf
  refine zg_new gP C hz hr 90 (by decide) hg q133 q134 q94 dX2_init_5 ea2 eh3 (fun H hz => ?_)
  refine lv_dup hx hb dX2_init_8 rfl ?_
  obtain ⟨y4, ey4, hf⟩ := bd_inv hf
  refine zj_lNew C hz hr ey4 (rest := [.ref a2, .ref x0]) q135 q136 q94 q137 hl.1 ⟨Nat.le_trans (by decide) hr.1, Nat.le_trans (by decide) hr.2.1⟩ (Nat.le_of_ble_eq_true rfl) dX2_init_9 (fun H locs hz => ?_)
  obtain ⟨hg, hf⟩ := gd_inv hf
  obtain ⟨h5, eh5, hf⟩ := bnd_inv hf
  refine zg_putpF gP C hz 2 4 (gkp (by decide) hg) (by decide) (by decide) (Or.inl ⟨_, rfl⟩) (by decide) (C.w q165) (fun _ h => h) dX2_init_12 eh5 (fun H locs hz => ?_)
  refine lv_aload_n hx hb dX2_init_15 rfl (lv_at hl 0 rfl) ?_
  refine zl_bipush hx hb dX2_init_16 (by decide) ?_
  obtain ⟨a6, ea6, hf⟩ := bnd_inv hf
  obtain ⟨hg, hf⟩ := gd_inv hf
  obtain ⟨h7, eh7, hf⟩ := bnd_inv hf
  refine zg_newa_int gP C hz hr (by decide) hg dX2_init_18 ea6 eh7 (fun H hz => ?_)
  obtain ⟨hg, hf⟩ := gd_inv hf
  obtain ⟨h8, eh8, hf⟩ := bnd_inv hf
  refine zg_putpF gP C hz 2 7 (gkp (by decide) hg) (by decide) (by decide) (Or.inr ⟨_, rfl⟩) (by decide) (C.w q171) (fun _ h => h) dX2_init_20 eh8 (fun H locs hz => ?_)
  obtain rfl := Option.some.inj hf
  exact zg_vret C hz hk dX2_init_23

theorem met_X2_init (l : Launch) (E : PEw) {h : HP} {x0 : Nat} {res : HP} (hf : f_X2_init h x0 = some res) : Met l yX2_init (ws_ yX2_init cX2_init 1 none) (rmP h 4 80) (PP E h [.ref x0]) (QP E h res none) (pX res - pX h) (pS res - pS h) (eF E) := by
  refine Met.ofW (cc := cX2_init) (maxL := 1) (ret := none) (by decide) rfl ?_
  intro p e s m args below meth c s₁ B hml hv
  obtain ⟨rfl, hP0⟩ := hv
  have hts := atoms_spec (ws := ws_ yX2_init cX2_init 1 none) B.pre
  have hts : ∀ w ∈ lw_all, w.before _ s = true := fun w h => hts w (List.mem_cons_of_mem _ h)
  have C : PC E p s m _ meth c RX2 cX2_init 1 none "<init>" := ⟨B.exec, B.bytes, B.returns, B.notSynchronized, hml, findClass_of_methodNamed B.named, hts, hP0.2, (name_of_methodNamed B.named B.method).1⟩
  have hz : ZP E s h h s.heap [] := ZG.start hP0.1
  have hl := lv_entry ([.ref x0]) (n := 1) (Nat.le_of_ble_eq_true rfl)
  rw [lg_entry_eq]
  generalize (lg_sl ([.ref x0]) ++ List.replicate (1 - (lg_sl ([.ref x0])).length) Slot.unset).toArray = ls at hl ⊢
  have hl : lv_has ls 1 [(0, .ref x0)] := hl
  refine W.cs (cells' := pX h - pX h) (slots' := pS h - pS h) (Nat.sub_self _).symm (Nat.sub_self _).symm ?_
  exact w_X2_init C ⟨Nat.le_refl _, Nat.le_refl _, RBw.rm⟩ hf hz hl rfl

theorem w_X3_init {p : Program} {l : Launch} {e : Env} {R : Room} {s : State} {m : MethodId} {args : Array Value} {below : List Frame} {meth : Method} {c : Code} {Q : State → Prop} {E : PEw} {h0 h : HP} {H : Heap} {locs : List Loc} (C : PC E p s m args meth c RX3 cX3_init 1 none "<init>") (hr : 4 ≤ R.frames ∧ 80 ≤ R.locals ∧ RBw R h0) {x0 : Nat} {res : HP} (hf : f_X3_init h x0 = some res) (hz : ZP E s h0 h H locs) {ls : Array Slot} (hl : lv_has ls 1 [(0, .ref x0)]) (hk : KP E below args s Q h0 res none) : W p l e R s m args below meth c H locs (pX h - pX h0) (pS h - pS h0) Q (F0 m 0 ls []) := by
  unfold f_X3_init at hf
  have hx := C.1
  have hb := C.2.1
  refine lv_aload_n hx hb dX3_init_0 rfl (lv_at hl 0 rfl) ?_
  refine zo_init C q243 ⟨Nat.le_trans (by decide) hr.1, Nat.le_trans (by decide) hr.2.1⟩ hl.1 (Nat.le_of_ble_eq_true rfl) dX3_init_1 ?_
  refine lv_aload_n hx hb dX3_init_4 rfl (lv_at hl 0 rfl) ?_
  obtain ⟨a1, ea1, hf⟩ := bnd_inv hf
  obtain ⟨hg, hf⟩ := gd_inv hf
  obtain ⟨h2, eh2, hf⟩ := bnd_inv hf
  refine zg_new gP C hz hr 90 (by decide) hg q244 q134 q94 dX3_init_5 ea1 eh2 (fun H hz => ?_)
  refine lv_dup hx hb dX3_init_8 rfl ?_
  obtain ⟨y3, ey3, hf⟩ := bd_inv hf
  refine zj_lNew C hz hr ey3 (rest := [.ref a1, .ref x0]) q245 q136 q94 q137 hl.1 ⟨Nat.le_trans (by decide) hr.1, Nat.le_trans (by decide) hr.2.1⟩ (Nat.le_of_ble_eq_true rfl) dX3_init_9 (fun H locs hz => ?_)
  obtain ⟨hg, hf⟩ := gd_inv hf
  obtain ⟨h4, eh4, hf⟩ := bnd_inv hf
  refine zg_putpF gP C hz 4 0 (gkp (by decide) hg) (by decide) (by decide) (Or.inl ⟨_, rfl⟩) (by decide) (C.w q278) (fun _ h => h) dX3_init_12 eh4 (fun H locs hz => ?_)
  refine lv_aload_n hx hb dX3_init_15 rfl (lv_at hl 0 rfl) ?_
  obtain ⟨a5, ea5, hf⟩ := bnd_inv hf
  obtain ⟨hg, hf⟩ := gd_inv hf
  obtain ⟨h6, eh6, hf⟩ := bnd_inv hf
  refine zg_new gP C hz hr 91 (by decide) hg q246 q247 q99 dX3_init_16 ea5 eh6 (fun H hz => ?_)
  refine lv_dup hx hb dX3_init_19 rfl ?_
  obtain ⟨y7, ey7, hf⟩ := bd_inv hf
  refine zj_sNew C hz hr ey7 (rest := [.ref a5, .ref x0]) q248 q249 q99 q250 hl.1 ⟨Nat.le_trans (by decide) hr.1, Nat.le_trans (by decide) hr.2.1⟩ (Nat.le_of_ble_eq_true rfl) dX3_init_20 (fun H locs hz => ?_)
  obtain ⟨hg, hf⟩ := gd_inv hf
  obtain ⟨h8, eh8, hf⟩ := bnd_inv hf
  refine zg_putpF gP C hz 4 1 (gkp (by decide) hg) (by decide) (by decide) (Or.inl ⟨_, rfl⟩) (by decide) (C.w q280) (fun _ h => h) dX3_init_23 eh8 (fun H locs hz => ?_)
  refine lv_aload_n hx hb dX3_init_26 rfl (lv_at hl 0 rfl) ?_
  obtain ⟨a9, ea9, hf⟩ := bnd_inv hf
  obtain ⟨hg, hf⟩ := gd_inv hf
  obtain ⟨h10, eh10, hf⟩ := bnd_inv hf
  refine zg_new gP C hz hr 91 (by decide) hg q246 q247 q99 dX3_init_27 ea9 eh10 (fun H hz => ?_)
  refine lv_dup hx hb dX3_init_30 rfl ?_
  obtain ⟨y11, ey11, hf⟩ := bd_inv hf
  refine zj_sNew C hz hr ey11 (rest := [.ref a9, .ref x0]) q248 q249 q99 q250 hl.1 ⟨Nat.le_trans (by decide) hr.1, Nat.le_trans (by decide) hr.2.1⟩ (Nat.le_of_ble_eq_true rfl) dX3_init_31 (fun H locs hz => ?_)
  obtain ⟨hg, hf⟩ := gd_inv hf
  obtain ⟨h12, eh12, hf⟩ := bnd_inv hf
  refine zg_putpF gP C hz 4 2 (gkp (by decide) hg) (by decide) (by decide) (Or.inl ⟨_, rfl⟩) (by decide) (C.w q281) (fun _ h => h) dX3_init_34 eh12 (fun H locs hz => ?_)
  refine lv_aload_n hx hb dX3_init_37 rfl (lv_at hl 0 rfl) ?_
  obtain ⟨a13, ea13, hf⟩ := bnd_inv hf
  obtain ⟨hg, hf⟩ := gd_inv hf
  obtain ⟨h14, eh14, hf⟩ := bnd_inv hf
  refine zg_new gP C hz hr 91 (by decide) hg q246 q247 q99 dX3_init_38 ea13 eh14 (fun H hz => ?_)
  refine lv_dup hx hb dX3_init_41 rfl ?_
  obtain ⟨y15, ey15, hf⟩ := bd_inv hf
  refine zj_sNew C hz hr ey15 (rest := [.ref a13, .ref x0]) q248 q249 q99 q250 hl.1 ⟨Nat.le_trans (by decide) hr.1, Nat.le_trans (by decide) hr.2.1⟩ (Nat.le_of_ble_eq_true rfl) dX3_init_42 (fun H locs hz => ?_)
  obtain ⟨hg, hf⟩ := gd_inv hf
  obtain ⟨h16, eh16, hf⟩ := bnd_inv hf
  refine zg_putpF gP C hz 4 3 (gkp (by decide) hg) (by decide) (by decide) (Or.inl ⟨_, rfl⟩) (by decide) (C.w q282) (fun _ h => h) dX3_init_45 eh16 (fun H locs hz => ?_)
  obtain rfl := Option.some.inj hf
  exact zg_vret C hz hk dX3_init_48

theorem met_X3_init (l : Launch) (E : PEw) {h : HP} {x0 : Nat} {res : HP} (hf : f_X3_init h x0 = some res) : Met l yX3_init (ws_ yX3_init cX3_init 1 none) (rmP h 4 80) (PP E h [.ref x0]) (QP E h res none) (pX res - pX h) (pS res - pS h) (eF E) := by
  refine Met.ofW (cc := cX3_init) (maxL := 1) (ret := none) (by decide) rfl ?_
  intro p e s m args below meth c s₁ B hml hv
  obtain ⟨rfl, hP0⟩ := hv
  have hts := atoms_spec (ws := ws_ yX3_init cX3_init 1 none) B.pre
  have hts : ∀ w ∈ lw_all, w.before _ s = true := fun w h => hts w (List.mem_cons_of_mem _ h)
  have C : PC E p s m _ meth c RX3 cX3_init 1 none "<init>" := ⟨B.exec, B.bytes, B.returns, B.notSynchronized, hml, findClass_of_methodNamed B.named, hts, hP0.2, (name_of_methodNamed B.named B.method).1⟩
  have hz : ZP E s h h s.heap [] := ZG.start hP0.1
  have hl := lv_entry ([.ref x0]) (n := 1) (Nat.le_of_ble_eq_true rfl)
  rw [lg_entry_eq]
  generalize (lg_sl ([.ref x0]) ++ List.replicate (1 - (lg_sl ([.ref x0])).length) Slot.unset).toArray = ls at hl ⊢
  have hl : lv_has ls 1 [(0, .ref x0)] := hl
  refine W.cs (cells' := pX h - pX h) (slots' := pS h - pS h) (Nat.sub_self _).symm (Nat.sub_self _).symm ?_
  exact w_X3_init C ⟨Nat.le_refl _, Nat.le_refl _, RBw.rm⟩ hf hz hl rfl

theorem w_X4_init {p : Program} {l : Launch} {e : Env} {R : Room} {s : State} {m : MethodId} {args : Array Value} {below : List Frame} {meth : Method} {c : Code} {Q : State → Prop} {E : PEw} {h0 h : HP} {H : Heap} {locs : List Loc} (C : PC E p s m args meth c RX4 cX4_init 1 none "<init>") (hr : 1 ≤ R.frames ∧ 20 ≤ R.locals ∧ RBw R h0) {x0 : Nat} {res : HP} (hf : f_X4_init h x0 = some res) (hz : ZP E s h0 h H locs) {ls : Array Slot} (hl : lv_has ls 1 [(0, .ref x0)]) (hk : KP E below args s Q h0 res none) : W p l e R s m args below meth c H locs (pX h - pX h0) (pS h - pS h0) Q (F0 m 0 ls []) := by
  unfold f_X4_init at hf
  have hx := C.1
  have hb := C.2.1
  refine lv_aload_n hx hb dX4_init_0 rfl (lv_at hl 0 rfl) ?_
  refine zo_init C q303 ⟨Nat.le_trans (by decide) hr.1, Nat.le_trans (by decide) hr.2.1⟩ hl.1 (Nat.le_of_ble_eq_true rfl) dX4_init_1 ?_
  refine lv_aload_n hx hb dX4_init_4 rfl (lv_at hl 0 rfl) ?_
  refine zl_sipush hx hb dX4_init_5 (by decide) ?_
  obtain ⟨a1, ea1, hf⟩ := bnd_inv hf
  obtain ⟨hg, hf⟩ := gd_inv hf
  obtain ⟨h2, eh2, hf⟩ := bnd_inv hf
  refine zg_newq46 gP C hz hr (by decide) hg q304 dX4_init_8 ea1 eh2 (fun H hz => ?_)
  obtain ⟨hg, hf⟩ := gd_inv hf
  obtain ⟨h3, eh3, hf⟩ := bnd_inv hf
  refine zg_putpF gP C hz 5 0 (gkp (by decide) hg) (by decide) (by decide) (Or.inr ⟨_, rfl⟩) (by decide) (C.w q306) (fun _ h => h) dX4_init_11 eh3 (fun H locs hz => ?_)
  refine lv_aload_n hx hb dX4_init_14 rfl (lv_at hl 0 rfl) ?_
  refine zl_sipush hx hb dX4_init_15 (by decide) ?_
  obtain ⟨a4, ea4, hf⟩ := bnd_inv hf
  obtain ⟨hg, hf⟩ := gd_inv hf
  obtain ⟨h5, eh5, hf⟩ := bnd_inv hf
  refine zg_newa_int gP C hz hr (by decide) hg dX4_init_18 ea4 eh5 (fun H hz => ?_)
  obtain ⟨hg, hf⟩ := gd_inv hf
  obtain ⟨h6, eh6, hf⟩ := bnd_inv hf
  refine zg_putpF gP C hz 5 1 (gkp (by decide) hg) (by decide) (by decide) (Or.inr ⟨_, rfl⟩) (by decide) (C.w q308) (fun _ h => h) dX4_init_20 eh6 (fun H locs hz => ?_)
  obtain rfl := Option.some.inj hf
  exact zg_vret C hz hk dX4_init_23

theorem met_X4_init (l : Launch) (E : PEw) {h : HP} {x0 : Nat} {res : HP} (hf : f_X4_init h x0 = some res) : Met l yX4_init (ws_ yX4_init cX4_init 1 none) (rmP h 1 20) (PP E h [.ref x0]) (QP E h res none) (pX res - pX h) (pS res - pS h) (eF E) := by
  refine Met.ofW (cc := cX4_init) (maxL := 1) (ret := none) (by decide) rfl ?_
  intro p e s m args below meth c s₁ B hml hv
  obtain ⟨rfl, hP0⟩ := hv
  have hts := atoms_spec (ws := ws_ yX4_init cX4_init 1 none) B.pre
  have hts : ∀ w ∈ lw_all, w.before _ s = true := fun w h => hts w (List.mem_cons_of_mem _ h)
  have C : PC E p s m _ meth c RX4 cX4_init 1 none "<init>" := ⟨B.exec, B.bytes, B.returns, B.notSynchronized, hml, findClass_of_methodNamed B.named, hts, hP0.2, (name_of_methodNamed B.named B.method).1⟩
  have hz : ZP E s h h s.heap [] := ZG.start hP0.1
  have hl := lv_entry ([.ref x0]) (n := 1) (Nat.le_of_ble_eq_true rfl)
  rw [lg_entry_eq]
  generalize (lg_sl ([.ref x0]) ++ List.replicate (1 - (lg_sl ([.ref x0])).length) Slot.unset).toArray = ls at hl ⊢
  have hl : lv_has ls 1 [(0, .ref x0)] := hl
  refine W.cs (cells' := pX h - pX h) (slots' := pS h - pS h) (Nat.sub_self _).symm (Nat.sub_self _).symm ?_
  exact w_X4_init C ⟨Nat.le_refl _, Nat.le_refl _, RBw.rm⟩ hf hz hl rfl

theorem w_X2_begin {p : Program} {l : Launch} {e : Env} {R : Room} {s : State} {m : MethodId} {args : Array Value} {below : List Frame} {meth : Method} {c : Code} {Q : State → Prop} {E : PEw} {h0 h : HP} {H : Heap} {locs : List Loc} (C : PC E p s m args meth c RX2 cX2_begin 3 none "begin") (hr : 1 ≤ R.frames ∧ 23 ≤ R.locals ∧ RBw R h0) {x0 : Nat} {x1 : Int} {x2 : Int} {res : HP} (hf : f_X2_begin h x0 x1 x2 = some res) (hz : ZP E s h0 h H locs) {ls : Array Slot} (hl : lv_has ls 3 [(0, .ref x0), (1, .int (zI x1)), (2, .int (zI x2))]) (hk : KP E below args s Q h0 res none) : W p l e R s m args below meth c H locs (pX h - pX h0) (pS h - pS h0) Q (F0 m 0 ls []) := by
  unfold f_X2_begin at hf
  have hx := C.1
  have hb := C.2.1
  refine lv_aload_n hx hb dX2_begin_0 rfl (lv_at hl 0 rfl) ?_
  refine lv_iload_n hx hb dX2_begin_1 rfl (lv_at hl 1 rfl) ?_
  obtain ⟨hg, hf⟩ := gd_inv hf
  obtain ⟨hv, hf⟩ := gd_inv hf
  obtain ⟨h1, eh1, hf⟩ := bnd_inv hf
  refine zg_putc gP C hz 2 2 (gkp (by decide) hg) (by decide) (by decide) rfl (by decide) hv (Or.inl (C.w q160)) (fun _ h => h) dX2_begin_2 eh1 (fun H locs hz => ?_)
  refine lv_aload_n hx hb dX2_begin_5 rfl (lv_at hl 0 rfl) ?_
  refine lv_iload_n hx hb dX2_begin_6 rfl (lv_at hl 2 rfl) ?_
  obtain ⟨hg, hf⟩ := gd_inv hf
  obtain ⟨h2, eh2, hf⟩ := bnd_inv hf
  refine zg_puti gP C hz 2 3 (gkp (by decide) hg) (by decide) (by decide) rfl (by decide) (Or.inl (C.w q162)) (fun _ h => h) dX2_begin_7 eh2 (fun H locs hz => ?_)
  refine lv_aload_n hx hb dX2_begin_10 rfl (lv_at hl 0 rfl) ?_
  obtain ⟨hg, hf⟩ := gd_inv hf
  refine zg_getp gP C hz 2 4 (gkp (by decide) hg) (by decide) (by decide) (Or.inl (C.w q165)) (fun _ h => h) dX2_begin_11 ?_
  obtain ⟨a3, ea3, hf⟩ := bd_inv hf
  rw [zx_rf ea3]
  obtain ⟨y4, ey4, hf⟩ := bd_inv hf
  refine zj_lClr C hz hr ey4 (rest := []) q329 q330 (C.w q331) q94 q332 hl.1 ⟨Nat.le_trans (by decide) hr.1, Nat.le_trans (by decide) hr.2.1⟩ (Nat.le_of_ble_eq_true rfl) dX2_begin_14 (fun H locs hz => ?_)
  refine lv_aload_n hx hb dX2_begin_17 rfl (lv_at hl 0 rfl) ?_
  refine zl_iconst hx hb dX2_begin_18 ?_
  obtain ⟨hg, hf⟩ := gd_inv hf
  obtain ⟨h5, eh5, hf⟩ := bnd_inv hf
  refine zg_putb gP C hz 2 6 (gkp (by decide) hg) (by decide) (by decide) rfl (by decide) zisB_0 (Or.inl (C.w q169)) (fun _ h => h) dX2_begin_19 eh5 (fun H locs hz => ?_)
  obtain rfl := Option.some.inj hf
  exact zg_vret C hz hk dX2_begin_22

theorem met_X2_begin (l : Launch) (E : PEw) {h : HP} {x0 : Nat} {x1 : Int} {x2 : Int} {res : HP} (hf : f_X2_begin h x0 x1 x2 = some res) : Met l yX2_begin (ws_ yX2_begin cX2_begin 3 none) (rmP h 1 23) (PP E h [.ref x0, .int (zI x1), .int (zI x2)]) (QP E h res none) (pX res - pX h) (pS res - pS h) (eF E) := by
  refine Met.ofW (cc := cX2_begin) (maxL := 3) (ret := none) (by decide) rfl ?_
  intro p e s m args below meth c s₁ B hml hv
  obtain ⟨rfl, hP0⟩ := hv
  have hts := atoms_spec (ws := ws_ yX2_begin cX2_begin 3 none) B.pre
  have hts : ∀ w ∈ lw_all, w.before _ s = true := fun w h => hts w (List.mem_cons_of_mem _ h)
  have C : PC E p s m _ meth c RX2 cX2_begin 3 none "begin" := ⟨B.exec, B.bytes, B.returns, B.notSynchronized, hml, findClass_of_methodNamed B.named, hts, hP0.2, (name_of_methodNamed B.named B.method).1⟩
  have hz : ZP E s h h s.heap [] := ZG.start hP0.1
  have hl := lv_entry ([.ref x0, .int (zI x1), .int (zI x2)]) (n := 3) (Nat.le_of_ble_eq_true rfl)
  rw [lg_entry_eq]
  generalize (lg_sl ([.ref x0, .int (zI x1), .int (zI x2)]) ++ List.replicate (3 - (lg_sl ([.ref x0, .int (zI x1), .int (zI x2)])).length) Slot.unset).toArray = ls at hl ⊢
  have hl : lv_has ls 3 [(0, .ref x0), (1, .int (zI x1)), (2, .int (zI x2))] := hl
  refine W.cs (cells' := pX h - pX h) (slots' := pS h - pS h) (Nat.sub_self _).symm (Nat.sub_self _).symm ?_
  exact w_X2_begin C ⟨Nat.le_refl _, Nat.le_refl _, RBw.rm⟩ hf hz hl rfl

theorem w_X2_enter_40 {p : Program} {l : Launch} {e : Env} {R : Room} {s : State} {m : MethodId} {args : Array Value} {below : List Frame} {meth : Method} {c : Code} {Q : State → Prop} {E : PEw} {h0 h : HP} {H : Heap} {locs : List Loc} (C : PC E p s m args meth c RX2 cX2_enter 1 none "enter") (hr : 4 ≤ R.frames ∧ 80 ≤ R.locals ∧ RBw R h0) {x0 : Nat} {res : HP} (hf : f_X2_enter_40 h x0 = some res) (hz : ZP E s h0 h H locs) {ls : Array Slot} (hl : lv_has ls 1 [(0, .ref x0)]) (hk : KP E below args s Q h0 res none) : W p l e R s m args below meth c H locs (pX h - pX h0) (pS h - pS h0) Q (F0 m 40 ls []) := by
  unfold f_X2_enter_40 at hf
  have hx := C.1
  have hb := C.2.1
  refine lv_aload_n hx hb dX2_enter_40 rfl (lv_at hl 0 rfl) ?_
  obtain ⟨hg, hf⟩ := gd_inv hf
  refine zg_getp gP C hz 2 5 (gkp (by decide) hg) (by decide) (by decide) (Or.inl (C.w q167)) (fun _ h => h) dX2_enter_41 ?_
  obtain ⟨a1, ea1, hf⟩ := bd_inv hf
  rw [zx_rf ea1]
  obtain ⟨y2, ey2, hf⟩ := bd_inv hf
  refine zj_lClr C hz hr ey2 (rest := []) q329 q330 (C.w q331) q94 q332 hl.1 ⟨Nat.le_trans (by decide) hr.1, Nat.le_trans (by decide) hr.2.1⟩ (Nat.le_of_ble_eq_true rfl) dX2_enter_44 (fun H locs hz => ?_)
  obtain rfl := Option.some.inj hf
  exact zg_vret C hz hk dX2_enter_47

theorem w_X2_enter_22 {p : Program} {l : Launch} {e : Env} {R : Room} {s : State} {m : MethodId} {args : Array Value} {below : List Frame} {meth : Method} {c : Code} {Q : State → Prop} {E : PEw} {h0 h : HP} {H : Heap} {locs : List Loc} (C : PC E p s m args meth c RX2 cX2_enter 1 none "enter") (hr : 4 ≤ R.frames ∧ 80 ≤ R.locals ∧ RBw R h0) {x0 : Nat} {res : HP} (hf : f_X2_enter_22 h x0 = some res) (hz : ZP E s h0 h H locs) {ls : Array Slot} (hl : lv_has ls 1 [(0, .ref x0)]) (hk : KP E below args s Q h0 res none) : W p l e R s m args below meth c H locs (pX h - pX h0) (pS h - pS h0) Q (F0 m 22 ls []) := by
  unfold f_X2_enter_22 at hf
  have hx := C.1
  have hb := C.2.1
  refine lv_aload_n hx hb dX2_enter_22 rfl (lv_at hl 0 rfl) ?_
  obtain ⟨hg, hf⟩ := gd_inv hf
  refine zg_getp gP C hz 2 5 (gkp (by decide) hg) (by decide) (by decide) (Or.inl (C.w q167)) (fun _ h => h) dX2_enter_23 ?_
  rcases nl_inv hf with ⟨ho, hf⟩ | ⟨a1, ho, hf⟩
  · rw [zx_nul ho]
    refine lv_ifnonnullN hx hb dX2_enter_26 ?_
    refine lv_aload_n hx hb dX2_enter_29 rfl (lv_at hl 0 rfl) ?_
    obtain ⟨a2, ea2, hf⟩ := bnd_inv hf
    obtain ⟨hg, hf⟩ := gd_inv hf
    obtain ⟨h3, eh3, hf⟩ := bnd_inv hf
    refine zg_new gP C hz hr 90 (by decide) hg q133 q134 q94 dX2_enter_30 ea2 eh3 (fun H hz => ?_)
    refine lv_dup hx hb dX2_enter_33 rfl ?_
    obtain ⟨y4, ey4, hf⟩ := bd_inv hf
    refine zj_lNew C hz hr ey4 (rest := [.ref a2, .ref x0]) q135 q136 q94 q137 hl.1 ⟨Nat.le_trans (by decide) hr.1, Nat.le_trans (by decide) hr.2.1⟩ (Nat.le_of_ble_eq_true rfl) dX2_enter_34 (fun H locs hz => ?_)
    obtain ⟨hg, hf⟩ := gd_inv hf
    obtain ⟨h5, eh5, hf⟩ := bnd_inv hf
    refine zg_putp gP C hz 2 5 (gkp (by decide) hg) (by decide) (by decide) (Or.inl ⟨_, rfl⟩) (by decide) (Or.inl (C.w q167)) (fun _ h => h) dX2_enter_37 eh5 (fun H locs hz => ?_)
    exact w_X2_enter_40 C hr hf hz (lv_sub hl [0] rfl) hk
  · rw [zx_rf ho]
    refine lv_ifnonnull (tgt := 40) hx hb dX2_enter_26 (by decide) ?_
    exact w_X2_enter_40 C hr hf hz (lv_sub hl [0] rfl) hk

theorem w_X2_enter {p : Program} {l : Launch} {e : Env} {R : Room} {s : State} {m : MethodId} {args : Array Value} {below : List Frame} {meth : Method} {c : Code} {Q : State → Prop} {E : PEw} {h0 h : HP} {H : Heap} {locs : List Loc} (C : PC E p s m args meth c RX2 cX2_enter 1 none "enter") (hr : 4 ≤ R.frames ∧ 80 ≤ R.locals ∧ RBw R h0) {x0 : Nat} {res : HP} (hf : f_X2_enter h x0 = some res) (hz : ZP E s h0 h H locs) {ls : Array Slot} (hl : lv_has ls 1 [(0, .ref x0)]) (hk : KP E below args s Q h0 res none) : W p l e R s m args below meth c H locs (pX h - pX h0) (pS h - pS h0) Q (F0 m 0 ls []) := by
  unfold f_X2_enter at hf
  have hx := C.1
  have hb := C.2.1
  refine lv_aload_n hx hb dX2_enter_0 rfl (lv_at hl 0 rfl) ?_
  refine zl_iconst hx hb dX2_enter_1 ?_
  obtain ⟨hg, hf⟩ := gd_inv hf
  obtain ⟨h1, eh1, hf⟩ := bnd_inv hf
  refine zg_putb gP C hz 2 6 (gkp (by decide) hg) (by decide) (by decide) rfl (by decide) zisB_1 (Or.inl (C.w q169)) (fun _ h => h) dX2_enter_2 eh1 (fun H locs hz => ?_)
  refine lv_aload_n hx hb dX2_enter_5 rfl (lv_at hl 0 rfl) ?_
  obtain ⟨hg, hf⟩ := gd_inv hf
  refine zg_geti gP C hz 2 2 (gkp (by decide) hg) (by decide) (by decide) (Or.inl (C.w q160)) (fun _ h => h) dX2_enter_6 ?_
  refine zl_bipush hx hb dX2_enter_9 (by decide) ?_
  refine zl_icmp_eq (tgt := 22) hx hb dX2_enter_11 (by decide) (fun hc => ?_) (fun hc => ?_)
  · rw [if_pos hc] at hf
    exact w_X2_enter_22 C hr hf hz (lv_sub hl [0] rfl) hk
  · rw [if_neg hc] at hf
    refine lv_aload_n hx hb dX2_enter_14 rfl (lv_at hl 0 rfl) ?_
    obtain ⟨hg, hf⟩ := gd_inv hf
    refine zg_geti gP C hz 2 2 (gkp (by decide) hg) (by decide) (by decide) (Or.inl (C.w q160)) (fun _ h => h) dX2_enter_15 ?_
    refine zl_if_eq (tgt := 22) hx hb dX2_enter_18 (by decide) (fun hc => ?_) (fun hc => ?_)
    · rw [if_pos hc] at hf
      exact w_X2_enter_22 C hr hf hz (lv_sub hl [0] rfl) hk
    · rw [if_neg hc] at hf
      obtain rfl := Option.some.inj hf
      exact zg_vret C hz hk dX2_enter_21

theorem met_X2_enter (l : Launch) (E : PEw) {h : HP} {x0 : Nat} {res : HP} (hf : f_X2_enter h x0 = some res) : Met l yX2_enter (ws_ yX2_enter cX2_enter 1 none) (rmP h 4 80) (PP E h [.ref x0]) (QP E h res none) (pX res - pX h) (pS res - pS h) (eF E) := by
  refine Met.ofW (cc := cX2_enter) (maxL := 1) (ret := none) (by decide) rfl ?_
  intro p e s m args below meth c s₁ B hml hv
  obtain ⟨rfl, hP0⟩ := hv
  have hts := atoms_spec (ws := ws_ yX2_enter cX2_enter 1 none) B.pre
  have hts : ∀ w ∈ lw_all, w.before _ s = true := fun w h => hts w (List.mem_cons_of_mem _ h)
  have C : PC E p s m _ meth c RX2 cX2_enter 1 none "enter" := ⟨B.exec, B.bytes, B.returns, B.notSynchronized, hml, findClass_of_methodNamed B.named, hts, hP0.2, (name_of_methodNamed B.named B.method).1⟩
  have hz : ZP E s h h s.heap [] := ZG.start hP0.1
  have hl := lv_entry ([.ref x0]) (n := 1) (Nat.le_of_ble_eq_true rfl)
  rw [lg_entry_eq]
  generalize (lg_sl ([.ref x0]) ++ List.replicate (1 - (lg_sl ([.ref x0])).length) Slot.unset).toArray = ls at hl ⊢
  have hl : lv_has ls 1 [(0, .ref x0)] := hl
  refine W.cs (cells' := pX h - pX h) (slots' := pS h - pS h) (Nat.sub_self _).symm (Nat.sub_self _).symm ?_
  exact w_X2_enter C ⟨Nat.le_refl _, Nat.le_refl _, RBw.rm⟩ hf hz hl rfl

theorem w_X0_enter {p : Program} {l : Launch} {e : Env} {R : Room} {s : State} {m : MethodId} {args : Array Value} {below : List Frame} {meth : Method} {c : Code} {Q : State → Prop} {E : PEw} {h0 h : HP} {H : Heap} {locs : List Loc} (C : PC E p s m args meth c RX0 cX0_enter 2 none "enter") (hr : 7 ≤ R.frames ∧ 175 ≤ R.locals ∧ RBw R h0) {x0 : Nat} {x1 : Nat} {res : HP} (hf : f_X0_enter h x0 x1 = some res) (hz : ZP E s h0 h H locs) {ls : Array Slot} (hl : lv_has ls 2 [(0, .ref x0), (1, .ref x1)]) (hk : KP E below args s Q h0 res none) : W p l e R s m args below meth c H locs (pX h - pX h0) (pS h - pS h0) Q (F0 m 0 ls []) := by
  unfold f_X0_enter at hf
  have hx := C.1
  have hb := C.2.1
  refine lv_aload_n hx hb dX0_enter_0 rfl (lv_at hl 0 rfl) ?_
  obtain ⟨hg, hf⟩ := gd_inv hf
  refine zg_getp gP C hz 1 5 (gkp (by decide) hg) (by decide) (by decide) (Or.inl (C.w q405)) (fun _ h => h) dX0_enter_1 ?_
  refine lv_aload_n hx hb dX0_enter_4 rfl (lv_at hl 1 rfl) ?_
  obtain ⟨a1, ea1, hf⟩ := bd_inv hf
  rw [zx_rf ea1]
  obtain ⟨y2, ey2, hf⟩ := bd_inv hf
  refine zj_lAdd C hz hr ey2 (rest := []) q338 q339 (C.w q340) q94 q341 hl.1 ⟨Nat.le_trans (by decide) hr.1, Nat.le_trans (by decide) hr.2.1⟩ (Nat.le_of_ble_eq_true rfl) dX0_enter_5 (fun H locs hz => ?_)
  refine lv_pop hx hb dX0_enter_8 rfl ?_
  refine lv_aload_n hx hb dX0_enter_9 rfl (lv_at hl 1 rfl) ?_
  obtain ⟨hg, hf⟩ := gd_inv hf
  obtain ⟨y3, ey3, hf⟩ := bd_inv hf
  refine zg_callV gP C hz hr (n := 0) (rest := []) (gkp (by decide) hg) (met_X2_enter l E ey3) q396 q397 (C.w q398) q91 q399 (by decide +kernel) ⟨Nat.le_trans (by decide) hr.1, Nat.le_trans (by decide) hr.2.1⟩ rfl hl.1 rfl (Nat.le_of_ble_eq_true rfl) dX0_enter_10 (fun H locs hz => ?_)
  obtain rfl := Option.some.inj hf
  exact zg_vret C hz hk dX0_enter_13

theorem met_X0_enter (l : Launch) (E : PEw) {h : HP} {x0 : Nat} {x1 : Nat} {res : HP} (hf : f_X0_enter h x0 x1 = some res) : Met l yX0_enter (ws_ yX0_enter cX0_enter 2 none) (rmP h 7 175) (PP E h [.ref x0, .ref x1]) (QP E h res none) (pX res - pX h) (pS res - pS h) (eF E) := by
  refine Met.ofW (cc := cX0_enter) (maxL := 2) (ret := none) (by decide) rfl ?_
  intro p e s m args below meth c s₁ B hml hv
  obtain ⟨rfl, hP0⟩ := hv
  have hts := atoms_spec (ws := ws_ yX0_enter cX0_enter 2 none) B.pre
  have hts : ∀ w ∈ lw_all, w.before _ s = true := fun w h => hts w (List.mem_cons_of_mem _ h)
  have C : PC E p s m _ meth c RX0 cX0_enter 2 none "enter" := ⟨B.exec, B.bytes, B.returns, B.notSynchronized, hml, findClass_of_methodNamed B.named, hts, hP0.2, (name_of_methodNamed B.named B.method).1⟩
  have hz : ZP E s h h s.heap [] := ZG.start hP0.1
  have hl := lv_entry ([.ref x0, .ref x1]) (n := 2) (Nat.le_of_ble_eq_true rfl)
  rw [lg_entry_eq]
  generalize (lg_sl ([.ref x0, .ref x1]) ++ List.replicate (2 - (lg_sl ([.ref x0, .ref x1])).length) Slot.unset).toArray = ls at hl ⊢
  have hl : lv_has ls 2 [(0, .ref x0), (1, .ref x1)] := hl
  refine W.cs (cells' := pX h - pX h) (slots' := pS h - pS h) (Nat.sub_self _).symm (Nat.sub_self _).symm ?_
  exact w_X0_enter C ⟨Nat.le_refl _, Nat.le_refl _, RBw.rm⟩ hf hz hl rfl

theorem w_X0_begin {p : Program} {l : Launch} {e : Env} {R : Room} {s : State} {m : MethodId} {args : Array Value} {below : List Frame} {meth : Method} {c : Code} {Q : State → Prop} {E : PEw} {h0 h : HP} {H : Heap} {locs : List Loc} (C : PC E p s m args meth c RX0 cX0_begin 1 none "begin") (hr : 8 ≤ R.frames ∧ 196 ≤ R.locals ∧ RBw R h0) {x0 : Nat} {res : HP} (hf : f_X0_begin h x0 = some res) (hz : ZP E s h0 h H locs) {ls : Array Slot} (hl : lv_has ls 1 [(0, .ref x0)]) (hk : KP E below args s Q h0 res none) : W p l e R s m args below meth c H locs (pX h - pX h0) (pS h - pS h0) Q (F0 m 0 ls []) := by
  unfold f_X0_begin at hf
  have hx := C.1
  have hb := C.2.1
  refine lv_aload_n hx hb dX0_begin_0 rfl (lv_at hl 0 rfl) ?_
  obtain ⟨hg, hf⟩ := gd_inv hf
  refine zg_getp gP C hz 1 0 (gkp (by decide) hg) (by decide) (by decide) (Or.inl (C.w q400)) (fun _ h => h) dX0_begin_1 ?_
  refine zl_iconst hx hb dX0_begin_4 ?_
  refine zl_iconst hx hb dX0_begin_5 ?_
  obtain ⟨a1, ea1, hf⟩ := bd_inv hf
  rw [zx_rf ea1]
  obtain ⟨hg, hf⟩ := gd_inv hf
  obtain ⟨y2, ey2, hf⟩ := bd_inv hf
  refine zg_callV gP C hz hr (n := 2) (rest := []) (gkp (by decide) hg) (met_X2_begin l E ey2) q325 q326 (C.w q327) q91 q328 (by decide +kernel) ⟨Nat.le_trans (by decide) hr.1, Nat.le_trans (by decide) hr.2.1⟩ rfl hl.1 rfl (Nat.le_of_ble_eq_true rfl) dX0_begin_6 (fun H locs hz => ?_)
  refine lv_aload_n hx hb dX0_begin_9 rfl (lv_at hl 0 rfl) ?_
  obtain ⟨hg, hf⟩ := gd_inv hf
  refine zg_getp gP C hz 1 5 (gkp (by decide) hg) (by decide) (by decide) (Or.inl (C.w q405)) (fun _ h => h) dX0_begin_10 ?_
  obtain ⟨a3, ea3, hf⟩ := bd_inv hf
  rw [zx_rf ea3]
  obtain ⟨y4, ey4, hf⟩ := bd_inv hf
  refine zj_lClr C hz hr ey4 (rest := []) q333 q330 (C.w q331) q94 q332 hl.1 ⟨Nat.le_trans (by decide) hr.1, Nat.le_trans (by decide) hr.2.1⟩ (Nat.le_of_ble_eq_true rfl) dX0_begin_13 (fun H locs hz => ?_)
  refine lv_aload_n hx hb dX0_begin_16 rfl (lv_at hl 0 rfl) ?_
  refine lv_aload_n hx hb dX0_begin_17 rfl (lv_at hl 0 rfl) ?_
  obtain ⟨hg, hf⟩ := gd_inv hf
  refine zg_getp gP C hz 1 0 (gkp (by decide) hg) (by decide) (by decide) (Or.inl (C.w q400)) (fun _ h => h) dX0_begin_18 ?_
  obtain ⟨a5, ea5, hf⟩ := bd_inv hf
  rw [zx_rf ea5]
  obtain ⟨hg, hf⟩ := gd_inv hf
  obtain ⟨y6, ey6, hf⟩ := bd_inv hf
  refine zg_callV gP C hz hr (n := 1) (rest := []) (gkp (by decide) hg) (met_X0_enter l E ey6) q334 q336 (C.w qs1) q89 q337 (by decide +kernel) ⟨Nat.le_trans (by decide) hr.1, Nat.le_trans (by decide) hr.2.1⟩ rfl hl.1 rfl (Nat.le_of_ble_eq_true rfl) dX0_begin_21 (fun H locs hz => ?_)
  obtain rfl := Option.some.inj hf
  exact zg_vret C hz hk dX0_begin_24

theorem met_X0_begin (l : Launch) (E : PEw) {h : HP} {x0 : Nat} {res : HP} (hf : f_X0_begin h x0 = some res) : Met l yX0_begin (ws_ yX0_begin cX0_begin 1 none) (rmP h 8 196) (PP E h [.ref x0]) (QP E h res none) (pX res - pX h) (pS res - pS h) (eF E) := by
  refine Met.ofW (cc := cX0_begin) (maxL := 1) (ret := none) (by decide) rfl ?_
  intro p e s m args below meth c s₁ B hml hv
  obtain ⟨rfl, hP0⟩ := hv
  have hts := atoms_spec (ws := ws_ yX0_begin cX0_begin 1 none) B.pre
  have hts : ∀ w ∈ lw_all, w.before _ s = true := fun w h => hts w (List.mem_cons_of_mem _ h)
  have C : PC E p s m _ meth c RX0 cX0_begin 1 none "begin" := ⟨B.exec, B.bytes, B.returns, B.notSynchronized, hml, findClass_of_methodNamed B.named, hts, hP0.2, (name_of_methodNamed B.named B.method).1⟩
  have hz : ZP E s h h s.heap [] := ZG.start hP0.1
  have hl := lv_entry ([.ref x0]) (n := 1) (Nat.le_of_ble_eq_true rfl)
  rw [lg_entry_eq]
  generalize (lg_sl ([.ref x0]) ++ List.replicate (1 - (lg_sl ([.ref x0])).length) Slot.unset).toArray = ls at hl ⊢
  have hl : lv_has ls 1 [(0, .ref x0)] := hl
  refine W.cs (cells' := pX h - pX h) (slots' := pS h - pS h) (Nat.sub_self _).symm (Nat.sub_self _).symm ?_
  exact w_X0_begin C ⟨Nat.le_refl _, Nat.le_refl _, RBw.rm⟩ hf hz hl rfl

theorem w_X0_init {p : Program} {l : Launch} {e : Env} {R : Room} {s : State} {m : MethodId} {args : Array Value} {below : List Frame} {meth : Method} {c : Code} {Q : State → Prop} {E : PEw} {h0 h : HP} {H : Heap} {locs : List Loc} (C : PC E p s m args meth c RX0 cX0_init 1 none "<init>") (hr : 9 ≤ R.frames ∧ 216 ≤ R.locals ∧ RBw R h0) {x0 : Nat} {res : HP} (hf : f_X0_init h x0 = some res) (hz : ZP E s h0 h H locs) {ls : Array Slot} (hl : lv_has ls 1 [(0, .ref x0)]) (hk : KP E below args s Q h0 res none) : W p l e R s m args below meth c H locs (pX h - pX h0) (pS h - pS h0) Q (F0 m 0 ls []) := by
  unfold f_X0_init at hf
  have hx := C.1
  have hb := C.2.1
  refine lv_aload_n hx hb dX0_init_0 rfl (lv_at hl 0 rfl) ?_
  refine zo_init C q121 ⟨Nat.le_trans (by decide) hr.1, Nat.le_trans (by decide) hr.2.1⟩ hl.1 (Nat.le_of_ble_eq_true rfl) dX0_init_1 ?_
  refine lv_aload_n hx hb dX0_init_4 rfl (lv_at hl 0 rfl) ?_
  obtain ⟨a1, ea1, hf⟩ := bnd_inv hf
  obtain ⟨hg, hf⟩ := gd_inv hf
  obtain ⟨h2, eh2, hf⟩ := bnd_inv hf
  refine zg_new gP C hz hr 2 (by decide) hg q124 q125 q91 dX0_init_5 ea1 eh2 (fun H hz => ?_)
  refine lv_dup hx hb dX0_init_8 rfl ?_
  obtain ⟨y3, ey3, hf⟩ := bd_inv hf
  refine zg_callIN gP C hz hr (n := 0) (rest := [.ref a1, .ref x0]) (met_X2_init l E ey3) q126 q127 q91 q128 (by decide +kernel) ⟨Nat.le_trans (by decide) hr.1, Nat.le_trans (by decide) hr.2.1⟩ rfl hl.1 rfl (Nat.le_of_ble_eq_true rfl) dX0_init_9 (fun H locs hz => ?_)
  obtain ⟨hg, hf⟩ := gd_inv hf
  obtain ⟨h4, eh4, hf⟩ := bnd_inv hf
  refine zg_putpF gP C hz 1 0 (gkp (by decide) hg) (by decide) (by decide) (Or.inl ⟨_, rfl⟩) (by decide) (C.w q400) (fun _ h => h) dX0_init_12 eh4 (fun H locs hz => ?_)
  refine lv_aload_n hx hb dX0_init_15 rfl (lv_at hl 0 rfl) ?_
  obtain ⟨a5, ea5, hf⟩ := bnd_inv hf
  obtain ⟨hg, hf⟩ := gd_inv hf
  obtain ⟨h6, eh6, hf⟩ := bnd_inv hf
  refine zg_new gP C hz hr 90 (by decide) hg q234 q134 q94 dX0_init_16 ea5 eh6 (fun H hz => ?_)
  refine lv_dup hx hb dX0_init_19 rfl ?_
  obtain ⟨y7, ey7, hf⟩ := bd_inv hf
  refine zj_lNew C hz hr ey7 (rest := [.ref a5, .ref x0]) q235 q136 q94 q137 hl.1 ⟨Nat.le_trans (by decide) hr.1, Nat.le_trans (by decide) hr.2.1⟩ (Nat.le_of_ble_eq_true rfl) dX0_init_20 (fun H locs hz => ?_)
  obtain ⟨hg, hf⟩ := gd_inv hf
  obtain ⟨h8, eh8, hf⟩ := bnd_inv hf
  refine zg_putpF gP C hz 1 1 (gkp (by decide) hg) (by decide) (by decide) (Or.inl ⟨_, rfl⟩) (by decide) (C.w q401) (fun _ h => h) dX0_init_23 eh8 (fun H locs hz => ?_)
  refine lv_aload_n hx hb dX0_init_26 rfl (lv_at hl 0 rfl) ?_
  obtain ⟨a9, ea9, hf⟩ := bnd_inv hf
  obtain ⟨hg, hf⟩ := gd_inv hf
  obtain ⟨h10, eh10, hf⟩ := bnd_inv hf
  refine zg_new gP C hz hr 90 (by decide) hg q234 q134 q94 dX0_init_27 ea9 eh10 (fun H hz => ?_)
  refine lv_dup hx hb dX0_init_30 rfl ?_
  obtain ⟨y11, ey11, hf⟩ := bd_inv hf
  refine zj_lNew C hz hr ey11 (rest := [.ref a9, .ref x0]) q235 q136 q94 q137 hl.1 ⟨Nat.le_trans (by decide) hr.1, Nat.le_trans (by decide) hr.2.1⟩ (Nat.le_of_ble_eq_true rfl) dX0_init_31 (fun H locs hz => ?_)
  obtain ⟨hg, hf⟩ := gd_inv hf
  obtain ⟨h12, eh12, hf⟩ := bnd_inv hf
  refine zg_putpF gP C hz 1 2 (gkp (by decide) hg) (by decide) (by decide) (Or.inl ⟨_, rfl⟩) (by decide) (C.w q402) (fun _ h => h) dX0_init_34 eh12 (fun H locs hz => ?_)
  refine lv_aload_n hx hb dX0_init_37 rfl (lv_at hl 0 rfl) ?_
  obtain ⟨a13, ea13, hf⟩ := bnd_inv hf
  obtain ⟨hg, hf⟩ := gd_inv hf
  obtain ⟨h14, eh14, hf⟩ := bnd_inv hf
  refine zg_new gP C hz hr 90 (by decide) hg q234 q134 q94 dX0_init_38 ea13 eh14 (fun H hz => ?_)
  refine lv_dup hx hb dX0_init_41 rfl ?_
  obtain ⟨y15, ey15, hf⟩ := bd_inv hf
  refine zj_lNew C hz hr ey15 (rest := [.ref a13, .ref x0]) q235 q136 q94 q137 hl.1 ⟨Nat.le_trans (by decide) hr.1, Nat.le_trans (by decide) hr.2.1⟩ (Nat.le_of_ble_eq_true rfl) dX0_init_42 (fun H locs hz => ?_)
  obtain ⟨hg, hf⟩ := gd_inv hf
  obtain ⟨h16, eh16, hf⟩ := bnd_inv hf
  refine zg_putpF gP C hz 1 5 (gkp (by decide) hg) (by decide) (by decide) (Or.inl ⟨_, rfl⟩) (by decide) (C.w q405) (fun _ h => h) dX0_init_45 eh16 (fun H locs hz => ?_)
  refine lv_aload_n hx hb dX0_init_48 rfl (lv_at hl 0 rfl) ?_
  obtain ⟨a17, ea17, hf⟩ := bnd_inv hf
  obtain ⟨hg, hf⟩ := gd_inv hf
  obtain ⟨h18, eh18, hf⟩ := bnd_inv hf
  refine zg_new gP C hz hr 90 (by decide) hg q234 q134 q94 dX0_init_49 ea17 eh18 (fun H hz => ?_)
  refine lv_dup hx hb dX0_init_52 rfl ?_
  obtain ⟨y19, ey19, hf⟩ := bd_inv hf
  refine zj_lNew C hz hr ey19 (rest := [.ref a17, .ref x0]) q235 q136 q94 q137 hl.1 ⟨Nat.le_trans (by decide) hr.1, Nat.le_trans (by decide) hr.2.1⟩ (Nat.le_of_ble_eq_true rfl) dX0_init_53 (fun H locs hz => ?_)
  obtain ⟨hg, hf⟩ := gd_inv hf
  obtain ⟨h20, eh20, hf⟩ := bnd_inv hf
  refine zg_putpF gP C hz 1 6 (gkp (by decide) hg) (by decide) (by decide) (Or.inl ⟨_, rfl⟩) (by decide) (C.w q406) (fun _ h => h) dX0_init_56 eh20 (fun H locs hz => ?_)
  refine lv_aload_n hx hb dX0_init_59 rfl (lv_at hl 0 rfl) ?_
  refine zc_state C hz (n := 0) (o := 0) (by decide) (Or.inl (C.w q236)) rfl dX0_init_60 ?_
  obtain ⟨hg, hf⟩ := gd_inv hf
  obtain ⟨h21, eh21, hf⟩ := bnd_inv hf
  refine zg_pute gP C hz (gkp (by decide) hg) (by decide) (Or.inl (C.w q408)) dX0_init_63 eh21 (fun H locs hz => ?_)
  refine lv_aload_n hx hb dX0_init_66 rfl (lv_at hl 0 rfl) ?_
  obtain ⟨a22, ea22, hf⟩ := bnd_inv hf
  obtain ⟨hg, hf⟩ := gd_inv hf
  obtain ⟨h23, eh23, hf⟩ := bnd_inv hf
  refine zg_new gP C hz hr 4 (by decide) hg q238 q239 q97 dX0_init_67 ea22 eh23 (fun H hz => ?_)
  refine lv_dup hx hb dX0_init_70 rfl ?_
  obtain ⟨y24, ey24, hf⟩ := bd_inv hf
  refine zg_callIN gP C hz hr (n := 0) (rest := [.ref a22, .ref x0]) (met_X3_init l E ey24) q240 q241 q97 q242 (by decide +kernel) ⟨Nat.le_trans (by decide) hr.1, Nat.le_trans (by decide) hr.2.1⟩ rfl hl.1 rfl (Nat.le_of_ble_eq_true rfl) dX0_init_71 (fun H locs hz => ?_)
  obtain ⟨hg, hf⟩ := gd_inv hf
  obtain ⟨h25, eh25, hf⟩ := bnd_inv hf
  refine zg_putpF gP C hz 1 14 (gkp (by decide) hg) (by decide) (by decide) (Or.inl ⟨_, rfl⟩) (by decide) (C.w q414) (fun _ h => h) dX0_init_74 eh25 (fun H locs hz => ?_)
  refine lv_aload_n hx hb dX0_init_77 rfl (lv_at hl 0 rfl) ?_
  obtain ⟨a26, ea26, hf⟩ := bnd_inv hf
  obtain ⟨hg, hf⟩ := gd_inv hf
  obtain ⟨h27, eh27, hf⟩ := bnd_inv hf
  refine zg_new gP C hz hr 90 (by decide) hg q234 q134 q94 dX0_init_78 ea26 eh27 (fun H hz => ?_)
  refine lv_dup hx hb dX0_init_81 rfl ?_
  obtain ⟨y28, ey28, hf⟩ := bd_inv hf
  refine zj_lNew C hz hr ey28 (rest := [.ref a26, .ref x0]) q235 q136 q94 q137 hl.1 ⟨Nat.le_trans (by decide) hr.1, Nat.le_trans (by decide) hr.2.1⟩ (Nat.le_of_ble_eq_true rfl) dX0_init_82 (fun H locs hz => ?_)
  obtain ⟨hg, hf⟩ := gd_inv hf
  obtain ⟨h29, eh29, hf⟩ := bnd_inv hf
  refine zg_putpF gP C hz 1 15 (gkp (by decide) hg) (by decide) (by decide) (Or.inl ⟨_, rfl⟩) (by decide) (C.w q415) (fun _ h => h) dX0_init_85 eh29 (fun H locs hz => ?_)
  refine lv_aload_n hx hb dX0_init_88 rfl (lv_at hl 0 rfl) ?_
  obtain ⟨a30, ea30, hf⟩ := bnd_inv hf
  obtain ⟨hg, hf⟩ := gd_inv hf
  obtain ⟨h31, eh31, hf⟩ := bnd_inv hf
  refine zg_new gP C hz hr 5 (by decide) hg q298 q299 q102 dX0_init_89 ea30 eh31 (fun H hz => ?_)
  refine lv_dup hx hb dX0_init_92 rfl ?_
  obtain ⟨y32, ey32, hf⟩ := bd_inv hf
  refine zg_callIN gP C hz hr (n := 0) (rest := [.ref a30, .ref x0]) (met_X4_init l E ey32) q300 q301 q102 q302 (by decide +kernel) ⟨Nat.le_trans (by decide) hr.1, Nat.le_trans (by decide) hr.2.1⟩ rfl hl.1 rfl (Nat.le_of_ble_eq_true rfl) dX0_init_93 (fun H locs hz => ?_)
  obtain ⟨hg, hf⟩ := gd_inv hf
  obtain ⟨h33, eh33, hf⟩ := bnd_inv hf
  refine zg_putpF gP C hz 1 18 (gkp (by decide) hg) (by decide) (by decide) (Or.inl ⟨_, rfl⟩) (by decide) (C.w q418) (fun _ h => h) dX0_init_96 eh33 (fun H locs hz => ?_)
  refine lv_aload_n hx hb dX0_init_99 rfl (lv_at hl 0 rfl) ?_
  refine zl_sipush hx hb dX0_init_100 (by decide) ?_
  obtain ⟨a34, ea34, hf⟩ := bnd_inv hf
  obtain ⟨hg, hf⟩ := gd_inv hf
  obtain ⟨h35, eh35, hf⟩ := bnd_inv hf
  refine zg_newa_byte gP C hz hr (by decide) hg dX0_init_103 ea34 eh35 (fun H hz => ?_)
  obtain ⟨hg, hf⟩ := gd_inv hf
  obtain ⟨h36, eh36, hf⟩ := bnd_inv hf
  refine zg_putpF gP C hz 1 19 (gkp (by decide) hg) (by decide) (by decide) (Or.inr ⟨_, rfl⟩) (by decide) (C.w q419) (fun _ h => h) dX0_init_105 eh36 (fun H locs hz => ?_)
  refine lv_aload_n hx hb dX0_init_108 rfl (lv_at hl 0 rfl) ?_
  obtain ⟨hg, hf⟩ := gd_inv hf
  obtain ⟨y37, ey37, hf⟩ := bd_inv hf
  refine zg_callV gP C hz hr (n := 0) (rest := []) (gkp (by decide) hg) (met_X0_begin l E ey37) q321 q323 (C.w qs0) q89 q324 (by decide +kernel) ⟨Nat.le_trans (by decide) hr.1, Nat.le_trans (by decide) hr.2.1⟩ rfl hl.1 rfl (Nat.le_of_ble_eq_true rfl) dX0_init_109 (fun H locs hz => ?_)
  obtain rfl := Option.some.inj hf
  exact zg_vret C hz hk dX0_init_112

theorem met_X0_init (l : Launch) (E : PEw) {h : HP} {x0 : Nat} {res : HP} (hf : f_X0_init h x0 = some res) : Met l yX0_init (ws_ yX0_init cX0_init 1 none) (rmP h 9 216) (PP E h [.ref x0]) (QP E h res none) (pX res - pX h) (pS res - pS h) (eF E) := by
  refine Met.ofW (cc := cX0_init) (maxL := 1) (ret := none) (by decide) rfl ?_
  intro p e s m args below meth c s₁ B hml hv
  obtain ⟨rfl, hP0⟩ := hv
  have hts := atoms_spec (ws := ws_ yX0_init cX0_init 1 none) B.pre
  have hts : ∀ w ∈ lw_all, w.before _ s = true := fun w h => hts w (List.mem_cons_of_mem _ h)
  have C : PC E p s m _ meth c RX0 cX0_init 1 none "<init>" := ⟨B.exec, B.bytes, B.returns, B.notSynchronized, hml, findClass_of_methodNamed B.named, hts, hP0.2, (name_of_methodNamed B.named B.method).1⟩
  have hz : ZP E s h h s.heap [] := ZG.start hP0.1
  have hl := lv_entry ([.ref x0]) (n := 1) (Nat.le_of_ble_eq_true rfl)
  rw [lg_entry_eq]
  generalize (lg_sl ([.ref x0]) ++ List.replicate (1 - (lg_sl ([.ref x0])).length) Slot.unset).toArray = ls at hl ⊢
  have hl : lv_has ls 1 [(0, .ref x0)] := hl
  refine W.cs (cells' := pX h - pX h) (slots' := pS h - pS h) (Nat.sub_self _).symm (Nat.sub_self _).symm ?_
  exact w_X0_init C ⟨Nat.le_refl _, Nat.le_refl _, RBw.rm⟩ hf hz hl rfl

theorem w_X3_next {p : Program} {l : Launch} {e : Env} {R : Room} {s : State} {m : MethodId} {args : Array Value} {below : List Frame} {meth : Method} {c : Code} {Q : State → Prop} {E : PEw} {h0 h : HP} {H : Heap} {locs : List Loc} (C : PC E p s m args meth c RX3 cX3_next 1 none "next") (hr : 6 ≤ R.frames ∧ 133 ≤ R.locals ∧ RBw R h0) {x0 : Nat} {res : HP} (hf : f_X3_next h x0 = some res) (hz : ZP E s h0 h H locs) {ls : Array Slot} (hl : lv_has ls 1 [(0, .ref x0)]) (hk : KP E below args s Q h0 res none) : W p l e R s m args below meth c H locs (pX h - pX h0) (pS h - pS h0) Q (F0 m 0 ls []) := by
  unfold f_X3_next at hf
  have hx := C.1
  have hb := C.2.1
  refine lv_aload_n hx hb dX3_next_0 rfl (lv_at hl 0 rfl) ?_
  obtain ⟨hg, hf⟩ := gd_inv hf
  refine zg_getp gP C hz 4 1 (gkp (by decide) hg) (by decide) (by decide) (Or.inl (C.w q280)) (fun _ h => h) dX3_next_1 ?_
  refine zl_iconst hx hb dX3_next_4 ?_
  obtain ⟨a1, ea1, hf⟩ := bd_inv hf
  rw [zx_rf ea1]
  obtain ⟨y2, ey2, hf⟩ := bd_inv hf
  refine zj_sSet C hz hr ey2 (rest := []) q474 q475 (C.w q476) q99 q477 hl.1 ⟨Nat.le_trans (by decide) hr.1, Nat.le_trans (by decide) hr.2.1⟩ (Nat.le_of_ble_eq_true rfl) dX3_next_5 (fun H locs hz => ?_)
  refine lv_aload_n hx hb dX3_next_8 rfl (lv_at hl 0 rfl) ?_
  obtain ⟨hg, hf⟩ := gd_inv hf
  refine zg_getp gP C hz 4 2 (gkp (by decide) hg) (by decide) (by decide) (Or.inl (C.w q281)) (fun _ h => h) dX3_next_9 ?_
  refine zl_iconst hx hb dX3_next_12 ?_
  obtain ⟨a3, ea3, hf⟩ := bd_inv hf
  rw [zx_rf ea3]
  obtain ⟨y4, ey4, hf⟩ := bd_inv hf
  refine zj_sSet C hz hr ey4 (rest := []) q474 q475 (C.w q476) q99 q477 hl.1 ⟨Nat.le_trans (by decide) hr.1, Nat.le_trans (by decide) hr.2.1⟩ (Nat.le_of_ble_eq_true rfl) dX3_next_13 (fun H locs hz => ?_)
  refine lv_aload_n hx hb dX3_next_16 rfl (lv_at hl 0 rfl) ?_
  refine zl_iconst hx hb dX3_next_17 ?_
  obtain ⟨hg, hf⟩ := gd_inv hf
  obtain ⟨h5, eh5, hf⟩ := bnd_inv hf
  refine zg_putb gP C hz 4 4 (gkp (by decide) hg) (by decide) (by decide) rfl (by decide) zisB_0 (Or.inl (C.w q283)) (fun _ h => h) dX3_next_18 eh5 (fun H locs hz => ?_)
  obtain rfl := Option.some.inj hf
  exact zg_vret C hz hk dX3_next_21

theorem met_X3_next (l : Launch) (E : PEw) {h : HP} {x0 : Nat} {res : HP} (hf : f_X3_next h x0 = some res) : Met l yX3_next (ws_ yX3_next cX3_next 1 none) (rmP h 6 133) (PP E h [.ref x0]) (QP E h res none) (pX res - pX h) (pS res - pS h) (eF E) := by
  refine Met.ofW (cc := cX3_next) (maxL := 1) (ret := none) (by decide) rfl ?_
  intro p e s m args below meth c s₁ B hml hv
  obtain ⟨rfl, hP0⟩ := hv
  have hts := atoms_spec (ws := ws_ yX3_next cX3_next 1 none) B.pre
  have hts : ∀ w ∈ lw_all, w.before _ s = true := fun w h => hts w (List.mem_cons_of_mem _ h)
  have C : PC E p s m _ meth c RX3 cX3_next 1 none "next" := ⟨B.exec, B.bytes, B.returns, B.notSynchronized, hml, findClass_of_methodNamed B.named, hts, hP0.2, (name_of_methodNamed B.named B.method).1⟩
  have hz : ZP E s h h s.heap [] := ZG.start hP0.1
  have hl := lv_entry ([.ref x0]) (n := 1) (Nat.le_of_ble_eq_true rfl)
  rw [lg_entry_eq]
  generalize (lg_sl ([.ref x0]) ++ List.replicate (1 - (lg_sl ([.ref x0])).length) Slot.unset).toArray = ls at hl ⊢
  have hl : lv_has ls 1 [(0, .ref x0)] := hl
  refine W.cs (cells' := pX h - pX h) (slots' := pS h - pS h) (Nat.sub_self _).symm (Nat.sub_self _).symm ?_
  exact w_X3_next C ⟨Nat.le_refl _, Nat.le_refl _, RBw.rm⟩ hf hz hl rfl

theorem w_X3_clear {p : Program} {l : Launch} {e : Env} {R : Room} {s : State} {m : MethodId} {args : Array Value} {below : List Frame} {meth : Method} {c : Code} {Q : State → Prop} {E : PEw} {h0 h : HP} {H : Heap} {locs : List Loc} (C : PC E p s m args meth c RX3 cX3_clear 1 none "clear") (hr : 7 ≤ R.frames ∧ 153 ≤ R.locals ∧ RBw R h0) {x0 : Nat} {res : HP} (hf : f_X3_clear h x0 = some res) (hz : ZP E s h0 h H locs) {ls : Array Slot} (hl : lv_has ls 1 [(0, .ref x0)]) (hk : KP E below args s Q h0 res none) : W p l e R s m args below meth c H locs (pX h - pX h0) (pS h - pS h0) Q (F0 m 0 ls []) := by
  unfold f_X3_clear at hf
  have hx := C.1
  have hb := C.2.1
  refine lv_aload_n hx hb dX3_clear_0 rfl (lv_at hl 0 rfl) ?_
  obtain ⟨hg, hf⟩ := gd_inv hf
  refine zg_getp gP C hz 4 0 (gkp (by decide) hg) (by decide) (by decide) (Or.inl (C.w q278)) (fun _ h => h) dX3_clear_1 ?_
  obtain ⟨a1, ea1, hf⟩ := bd_inv hf
  rw [zx_rf ea1]
  obtain ⟨y2, ey2, hf⟩ := bd_inv hf
  refine zj_lClr C hz hr ey2 (rest := []) q469 q330 (C.w q331) q94 q332 hl.1 ⟨Nat.le_trans (by decide) hr.1, Nat.le_trans (by decide) hr.2.1⟩ (Nat.le_of_ble_eq_true rfl) dX3_clear_4 (fun H locs hz => ?_)
  refine lv_aload_n hx hb dX3_clear_7 rfl (lv_at hl 0 rfl) ?_
  obtain ⟨hg, hf⟩ := gd_inv hf
  obtain ⟨y3, ey3, hf⟩ := bd_inv hf
  refine zg_callV gP C hz hr (n := 0) (rest := []) (gkp (by decide) hg) (met_X3_next l E ey3) q470 q472 (C.w qs5) q97 q473 (by decide +kernel) ⟨Nat.le_trans (by decide) hr.1, Nat.le_trans (by decide) hr.2.1⟩ rfl hl.1 rfl (Nat.le_of_ble_eq_true rfl) dX3_clear_8 (fun H locs hz => ?_)
  refine lv_aload_n hx hb dX3_clear_11 rfl (lv_at hl 0 rfl) ?_
  refine zl_iconst hx hb dX3_clear_12 ?_
  obtain ⟨hg, hf⟩ := gd_inv hf
  obtain ⟨h4, eh4, hf⟩ := bnd_inv hf
  refine zg_puti gP C hz 4 5 (gkp (by decide) hg) (by decide) (by decide) rfl (by decide) (Or.inl (C.w q284)) (fun _ h => h) dX3_clear_13 eh4 (fun H locs hz => ?_)
  obtain rfl := Option.some.inj hf
  exact zg_vret C hz hk dX3_clear_16

theorem met_X3_clear (l : Launch) (E : PEw) {h : HP} {x0 : Nat} {res : HP} (hf : f_X3_clear h x0 = some res) : Met l yX3_clear (ws_ yX3_clear cX3_clear 1 none) (rmP h 7 153) (PP E h [.ref x0]) (QP E h res none) (pX res - pX h) (pS res - pS h) (eF E) := by
  refine Met.ofW (cc := cX3_clear) (maxL := 1) (ret := none) (by decide) rfl ?_
  intro p e s m args below meth c s₁ B hml hv
  obtain ⟨rfl, hP0⟩ := hv
  have hts := atoms_spec (ws := ws_ yX3_clear cX3_clear 1 none) B.pre
  have hts : ∀ w ∈ lw_all, w.before _ s = true := fun w h => hts w (List.mem_cons_of_mem _ h)
  have C : PC E p s m _ meth c RX3 cX3_clear 1 none "clear" := ⟨B.exec, B.bytes, B.returns, B.notSynchronized, hml, findClass_of_methodNamed B.named, hts, hP0.2, (name_of_methodNamed B.named B.method).1⟩
  have hz : ZP E s h h s.heap [] := ZG.start hP0.1
  have hl := lv_entry ([.ref x0]) (n := 1) (Nat.le_of_ble_eq_true rfl)
  rw [lg_entry_eq]
  generalize (lg_sl ([.ref x0]) ++ List.replicate (1 - (lg_sl ([.ref x0])).length) Slot.unset).toArray = ls at hl ⊢
  have hl : lv_has ls 1 [(0, .ref x0)] := hl
  refine W.cs (cells' := pX h - pX h) (slots' := pS h - pS h) (Nat.sub_self _).symm (Nat.sub_self _).symm ?_
  exact w_X3_clear C ⟨Nat.le_refl _, Nat.le_refl _, RBw.rm⟩ hf hz hl rfl

theorem w_X0_changed {p : Program} {l : Launch} {e : Env} {R : Room} {s : State} {m : MethodId} {args : Array Value} {below : List Frame} {meth : Method} {c : Code} {Q : State → Prop} {E : PEw} {h0 h : HP} {H : Heap} {locs : List Loc} (C : PC E p s m args meth c RX0 cX0_changed 1 none "changed") (hr : 0 ≤ R.frames ∧ 0 ≤ R.locals ∧ RBw R h0) {x0 : Nat} {res : HP} (hf : f_X0_changed h x0 = some res) (hz : ZP E s h0 h H locs) {ls : Array Slot} (hl : lv_has ls 1 [(0, .ref x0)]) (hk : KP E below args s Q h0 res none) : W p l e R s m args below meth c H locs (pX h - pX h0) (pS h - pS h0) Q (F0 m 0 ls []) := by
  unfold f_X0_changed at hf
  have hx := C.1
  have hb := C.2.1
  refine lv_aload_n hx hb dX0_changed_0 rfl (lv_at hl 0 rfl) ?_
  refine zl_iconst hx hb dX0_changed_1 ?_
  obtain ⟨hg, hf⟩ := gd_inv hf
  obtain ⟨h1, eh1, hf⟩ := bnd_inv hf
  refine zg_putb gP C hz 1 16 (gkp (by decide) hg) (by decide) (by decide) rfl (by decide) zisB_0 (Or.inl (C.w q416)) (fun _ h => h) dX0_changed_2 eh1 (fun H locs hz => ?_)
  refine lv_aload_n hx hb dX0_changed_5 rfl (lv_at hl 0 rfl) ?_
  refine zl_iconst hx hb dX0_changed_6 ?_
  obtain ⟨hg, hf⟩ := gd_inv hf
  obtain ⟨h2, eh2, hf⟩ := bnd_inv hf
  refine zg_puti gP C hz 1 17 (gkp (by decide) hg) (by decide) (by decide) rfl (by decide) (Or.inl (C.w q417)) (fun _ h => h) dX0_changed_7 eh2 (fun H locs hz => ?_)
  obtain rfl := Option.some.inj hf
  exact zg_vret C hz hk dX0_changed_10

theorem met_X0_changed (l : Launch) (E : PEw) {h : HP} {x0 : Nat} {res : HP} (hf : f_X0_changed h x0 = some res) : Met l yX0_changed (ws_ yX0_changed cX0_changed 1 none) (rmP h 0 0) (PP E h [.ref x0]) (QP E h res none) (pX res - pX h) (pS res - pS h) (eF E) := by
  refine Met.ofW (cc := cX0_changed) (maxL := 1) (ret := none) (by decide) rfl ?_
  intro p e s m args below meth c s₁ B hml hv
  obtain ⟨rfl, hP0⟩ := hv
  have hts := atoms_spec (ws := ws_ yX0_changed cX0_changed 1 none) B.pre
  have hts : ∀ w ∈ lw_all, w.before _ s = true := fun w h => hts w (List.mem_cons_of_mem _ h)
  have C : PC E p s m _ meth c RX0 cX0_changed 1 none "changed" := ⟨B.exec, B.bytes, B.returns, B.notSynchronized, hml, findClass_of_methodNamed B.named, hts, hP0.2, (name_of_methodNamed B.named B.method).1⟩
  have hz : ZP E s h h s.heap [] := ZG.start hP0.1
  have hl := lv_entry ([.ref x0]) (n := 1) (Nat.le_of_ble_eq_true rfl)
  rw [lg_entry_eq]
  generalize (lg_sl ([.ref x0]) ++ List.replicate (1 - (lg_sl ([.ref x0])).length) Slot.unset).toArray = ls at hl ⊢
  have hl : lv_has ls 1 [(0, .ref x0)] := hl
  refine W.cs (cells' := pX h - pX h) (slots' := pS h - pS h) (Nat.sub_self _).symm (Nat.sub_self _).symm ?_
  exact w_X0_changed C ⟨Nat.le_refl _, Nat.le_refl _, RBw.rm⟩ hf hz hl rfl

theorem w_X0_clear {p : Program} {l : Launch} {e : Env} {R : Room} {s : State} {m : MethodId} {args : Array Value} {below : List Frame} {meth : Method} {c : Code} {Q : State → Prop} {E : PEw} {h0 h : HP} {H : Heap} {locs : List Loc} (C : PC E p s m args meth c RX0 cX0_clear 1 none "clear") (hr : 9 ≤ R.frames ∧ 216 ≤ R.locals ∧ RBw R h0) {x0 : Nat} {res : HP} (hf : f_X0_clear h x0 = some res) (hz : ZP E s h0 h H locs) {ls : Array Slot} (hl : lv_has ls 1 [(0, .ref x0)]) (hk : KP E below args s Q h0 res none) : W p l e R s m args below meth c H locs (pX h - pX h0) (pS h - pS h0) Q (F0 m 0 ls []) := by
  unfold f_X0_clear at hf
  have hx := C.1
  have hb := C.2.1
  refine lv_aload_n hx hb dX0_clear_0 rfl (lv_at hl 0 rfl) ?_
  obtain ⟨hg, hf⟩ := gd_inv hf
  obtain ⟨y1, ey1, hf⟩ := bd_inv hf
  refine zg_callV gP C hz hr (n := 0) (rest := []) (gkp (by decide) hg) (met_X0_begin l E ey1) q321 q323 (C.w qs0) q89 q324 (by decide +kernel) ⟨Nat.le_trans (by decide) hr.1, Nat.le_trans (by decide) hr.2.1⟩ rfl hl.1 rfl (Nat.le_of_ble_eq_true rfl) dX0_clear_1 (fun H locs hz => ?_)
  refine lv_aload_n hx hb dX0_clear_4 rfl (lv_at hl 0 rfl) ?_
  refine zl_iconst hx hb dX0_clear_5 ?_
  obtain ⟨hg, hf⟩ := gd_inv hf
  obtain ⟨h2, eh2, hf⟩ := bnd_inv hf
  refine zg_puti gP C hz 1 3 (gkp (by decide) hg) (by decide) (by decide) rfl (by decide) (Or.inl (C.w q403)) (fun _ h => h) dX0_clear_6 eh2 (fun H locs hz => ?_)
  refine lv_aload_n hx hb dX0_clear_9 rfl (lv_at hl 0 rfl) ?_
  refine zl_iconst hx hb dX0_clear_10 ?_
  obtain ⟨hg, hf⟩ := gd_inv hf
  obtain ⟨h3, eh3, hf⟩ := bnd_inv hf
  refine zg_puti gP C hz 1 4 (gkp (by decide) hg) (by decide) (by decide) rfl (by decide) (Or.inl (C.w q404)) (fun _ h => h) dX0_clear_11 eh3 (fun H locs hz => ?_)
  refine lv_aload_n hx hb dX0_clear_14 rfl (lv_at hl 0 rfl) ?_
  refine zl_iconst hx hb dX0_clear_15 ?_
  obtain ⟨hg, hf⟩ := gd_inv hf
  obtain ⟨h4, eh4, hf⟩ := bnd_inv hf
  refine zg_putb gP C hz 1 7 (gkp (by decide) hg) (by decide) (by decide) rfl (by decide) zisB_0 (Or.inl (C.w q407)) (fun _ h => h) dX0_clear_16 eh4 (fun H locs hz => ?_)
  refine lv_aload_n hx hb dX0_clear_19 rfl (lv_at hl 0 rfl) ?_
  refine zc_state C hz (n := 0) (o := 0) (by decide) (Or.inl (C.w q236)) rfl dX0_clear_20 ?_
  obtain ⟨hg, hf⟩ := gd_inv hf
  obtain ⟨h5, eh5, hf⟩ := bnd_inv hf
  refine zg_pute gP C hz (gkp (by decide) hg) (by decide) (Or.inl (C.w q408)) dX0_clear_23 eh5 (fun H locs hz => ?_)
  refine lv_aload_n hx hb dX0_clear_26 rfl (lv_at hl 0 rfl) ?_
  refine zl_iconst hx hb dX0_clear_27 ?_
  obtain ⟨hg, hf⟩ := gd_inv hf
  obtain ⟨h6, eh6, hf⟩ := bnd_inv hf
  refine zg_puti gP C hz 1 9 (gkp (by decide) hg) (by decide) (by decide) rfl (by decide) (Or.inl (C.w q409)) (fun _ h => h) dX0_clear_28 eh6 (fun H locs hz => ?_)
  refine lv_aload_n hx hb dX0_clear_31 rfl (lv_at hl 0 rfl) ?_
  obtain ⟨hg, hf⟩ := gd_inv hf
  refine zg_getp gP C hz 1 14 (gkp (by decide) hg) (by decide) (by decide) (Or.inl (C.w q414)) (fun _ h => h) dX0_clear_32 ?_
  obtain ⟨a7, ea7, hf⟩ := bd_inv hf
  rw [zx_rf ea7]
  obtain ⟨hg, hf⟩ := gd_inv hf
  obtain ⟨y8, ey8, hf⟩ := bd_inv hf
  refine zg_callV gP C hz hr (n := 0) (rest := []) (gkp (by decide) hg) (met_X3_clear l E ey8) q465 q466 (C.w q467) q97 q468 (by decide +kernel) ⟨Nat.le_trans (by decide) hr.1, Nat.le_trans (by decide) hr.2.1⟩ rfl hl.1 rfl (Nat.le_of_ble_eq_true rfl) dX0_clear_35 (fun H locs hz => ?_)
  refine lv_aload_n hx hb dX0_clear_38 rfl (lv_at hl 0 rfl) ?_
  obtain ⟨hg, hf⟩ := gd_inv hf
  obtain ⟨y9, ey9, hf⟩ := bd_inv hf
  refine zg_callV gP C hz hr (n := 0) (rest := []) (gkp (by decide) hg) (met_X0_changed l E ey9) q519 q521 (C.w qs6) q89 q522 (by decide +kernel) ⟨Nat.le_trans (by decide) hr.1, Nat.le_trans (by decide) hr.2.1⟩ rfl hl.1 rfl (Nat.le_of_ble_eq_true rfl) dX0_clear_39 (fun H locs hz => ?_)
  obtain rfl := Option.some.inj hf
  exact zg_vret C hz hk dX0_clear_42

theorem met_X0_clear (l : Launch) (E : PEw) {h : HP} {x0 : Nat} {res : HP} (hf : f_X0_clear h x0 = some res) : Met l yX0_clear (ws_ yX0_clear cX0_clear 1 none) (rmP h 9 216) (PP E h [.ref x0]) (QP E h res none) (pX res - pX h) (pS res - pS h) (eF E) := by
  refine Met.ofW (cc := cX0_clear) (maxL := 1) (ret := none) (by decide) rfl ?_
  intro p e s m args below meth c s₁ B hml hv
  obtain ⟨rfl, hP0⟩ := hv
  have hts := atoms_spec (ws := ws_ yX0_clear cX0_clear 1 none) B.pre
  have hts : ∀ w ∈ lw_all, w.before _ s = true := fun w h => hts w (List.mem_cons_of_mem _ h)
  have C : PC E p s m _ meth c RX0 cX0_clear 1 none "clear" := ⟨B.exec, B.bytes, B.returns, B.notSynchronized, hml, findClass_of_methodNamed B.named, hts, hP0.2, (name_of_methodNamed B.named B.method).1⟩
  have hz : ZP E s h h s.heap [] := ZG.start hP0.1
  have hl := lv_entry ([.ref x0]) (n := 1) (Nat.le_of_ble_eq_true rfl)
  rw [lg_entry_eq]
  generalize (lg_sl ([.ref x0]) ++ List.replicate (1 - (lg_sl ([.ref x0])).length) Slot.unset).toArray = ls at hl ⊢
  have hl : lv_has ls 1 [(0, .ref x0)] := hl
  refine W.cs (cells' := pX h - pX h) (slots' := pS h - pS h) (Nat.sub_self _).symm (Nat.sub_self _).symm ?_
  exact w_X0_clear C ⟨Nat.le_refl _, Nat.le_refl _, RBw.rm⟩ hf hz hl rfl

theorem w_X0_top {p : Program} {l : Launch} {e : Env} {R : Room} {s : State} {m : MethodId} {args : Array Value} {below : List Frame} {meth : Method} {c : Code} {Q : State → Prop} {E : PEw} {h0 h : HP} {H : Heap} {locs : List Loc} (C : PC E p s m args meth c RX0 cX0_top 1 (some (.object "PlainPage$Element")) "top") (hr : 3 ≤ R.frames ∧ 64 ≤ R.locals ∧ RBw R h0) {x0 : Nat} {res : Nat} (hf : f_X0_top h x0 = some res) (hz : ZP E s h0 h H locs) {ls : Array Slot} (hl : lv_has ls 1 [(0, .ref x0)]) (hk : KP E below args s Q h0 h (some (.ref res))) : W p l e R s m args below meth c H locs (pX h - pX h0) (pS h - pS h0) Q (F0 m 0 ls []) := by
  unfold f_X0_top at hf
  have hx := C.1
  have hb := C.2.1
  refine lv_aload_n hx hb dX0_top_0 rfl (lv_at hl 0 rfl) ?_
  obtain ⟨hg, hf⟩ := gd_inv hf
  refine zg_getp gP C hz 1 5 (gkp (by decide) hg) (by decide) (by decide) (Or.inl (C.w q405)) (fun _ h => h) dX0_top_1 ?_
  refine lv_aload_n hx hb dX0_top_4 rfl (lv_at hl 0 rfl) ?_
  obtain ⟨hg, hf⟩ := gd_inv hf
  refine zg_getp gP C hz 1 5 (gkp (by decide) hg) (by decide) (by decide) (Or.inl (C.w q405)) (fun _ h => h) dX0_top_5 ?_
  obtain ⟨a1, ea1, hf⟩ := bd_inv hf
  rw [zx_rf ea1]
  obtain ⟨y2, ey2, hf⟩ := bd_inv hf
  refine zj_lLen C hz hr ey2 (rest := [.ref a1]) q549 q550 (C.w q551) q94 q552 hl.1 ⟨Nat.le_trans (by decide) hr.1, Nat.le_trans (by decide) hr.2.1⟩ (Nat.le_of_ble_eq_true rfl) dX0_top_8 (fun H locs hz => ?_)
  refine zl_iconst hx hb dX0_top_11 ?_
  refine zl_isub hx hb dX0_top_12 ?_
  obtain ⟨y3, ey3, hf⟩ := bd_inv hf
  refine zj_lGet C hz hr ey3 (rest := []) q553 q554 (C.w q555) q94 q556 hl.1 ⟨Nat.le_trans (by decide) hr.1, Nat.le_trans (by decide) hr.2.1⟩ (Nat.le_of_ble_eq_true rfl) dX0_top_13 (fun H locs hz => ?_)
  obtain ⟨hg, hf⟩ := gd_inv hf
  refine zg_cast2 gP C hz hg q124 dX0_top_16 ?_
  obtain rfl := Option.some.inj hf
  exact zg_aret C hz hk dX0_top_19

theorem met_X0_top (l : Launch) (E : PEw) {h : HP} {x0 : Nat} {res : Nat} (hf : f_X0_top h x0 = some res) : Met l yX0_top (ws_ yX0_top cX0_top 1 (some (.object "PlainPage$Element"))) (rmP h 3 64) (PP E h [.ref x0]) (QP E h h (some (.ref res))) (pX h - pX h) (pS h - pS h) (eF E) := by
  refine Met.ofW (cc := cX0_top) (maxL := 1) (ret := (some (.object "PlainPage$Element"))) (by decide) rfl ?_
  intro p e s m args below meth c s₁ B hml hv
  obtain ⟨rfl, hP0⟩ := hv
  have hts := atoms_spec (ws := ws_ yX0_top cX0_top 1 (some (.object "PlainPage$Element"))) B.pre
  have hts : ∀ w ∈ lw_all, w.before _ s = true := fun w h => hts w (List.mem_cons_of_mem _ h)
  have C : PC E p s m _ meth c RX0 cX0_top 1 (some (.object "PlainPage$Element")) "top" := ⟨B.exec, B.bytes, B.returns, B.notSynchronized, hml, findClass_of_methodNamed B.named, hts, hP0.2, (name_of_methodNamed B.named B.method).1⟩
  have hz : ZP E s h h s.heap [] := ZG.start hP0.1
  have hl := lv_entry ([.ref x0]) (n := 1) (Nat.le_of_ble_eq_true rfl)
  rw [lg_entry_eq]
  generalize (lg_sl ([.ref x0]) ++ List.replicate (1 - (lg_sl ([.ref x0])).length) Slot.unset).toArray = ls at hl ⊢
  have hl : lv_has ls 1 [(0, .ref x0)] := hl
  refine W.cs (cells' := pX h - pX h) (slots' := pS h - pS h) (Nat.sub_self _).symm (Nat.sub_self _).symm ?_
  exact w_X0_top C ⟨Nat.le_refl _, Nat.le_refl _, RBw.rm⟩ hf hz hl rfl

theorem w_X2_is {p : Program} {l : Launch} {e : Env} {R : Room} {s : State} {m : MethodId} {args : Array Value} {below : List Frame} {meth : Method} {c : Code} {Q : State → Prop} {E : PEw} {h0 h : HP} {H : Heap} {locs : List Loc} (C : PC E p s m args meth c RX2 cX2_is 2 (some .boolean) "is") (hr : 0 ≤ R.frames ∧ 0 ≤ R.locals ∧ RBw R h0) {x0 : Nat} {x1 : Int} {res : Int} (hf : f_X2_is h x0 x1 = some res) (hz : ZP E s h0 h H locs) {ls : Array Slot} (hl : lv_has ls 2 [(0, .ref x0), (1, .int (zI x1))]) (hk : KP E below args s Q h0 h (some (.int (zI res)))) : W p l e R s m args below meth c H locs (pX h - pX h0) (pS h - pS h0) Q (F0 m 0 ls []) := by
  unfold f_X2_is at hf
  have hx := C.1
  have hb := C.2.1
  refine lv_aload_n hx hb dX2_is_0 rfl (lv_at hl 0 rfl) ?_
  obtain ⟨hg, hf⟩ := gd_inv hf
  refine zg_geti gP C hz 2 2 (gkp (by decide) hg) (by decide) (by decide) (Or.inl (C.w q160)) (fun _ h => h) dX2_is_1 ?_
  refine lv_iload_n hx hb dX2_is_4 rfl (lv_at hl 1 rfl) ?_
  refine zl_icmp_ne (tgt := 12) hx hb dX2_is_5 (by decide) (fun hc => ?_) (fun hc => ?_)
  · rw [if_pos hc] at hf
    refine zl_iconst hx hb dX2_is_8 ?_
    refine lv_goto (tgt := 13) hx hb dX2_is_9 (by decide) ?_
    obtain rfl := Option.some.inj hf
    exact zg_zret C hz zisB_1 hk dX2_is_13
  · rw [if_neg hc] at hf
    refine zl_iconst hx hb dX2_is_12 ?_
    obtain rfl := Option.some.inj hf
    exact zg_zret C hz zisB_0 hk dX2_is_13

theorem met_X2_is (l : Launch) (E : PEw) {h : HP} {x0 : Nat} {x1 : Int} {res : Int} (hf : f_X2_is h x0 x1 = some res) : Met l yX2_is (ws_ yX2_is cX2_is 2 (some .boolean)) (rmP h 0 0) (PP E h [.ref x0, .int (zI x1)]) (QP E h h (some (.int (zI res)))) (pX h - pX h) (pS h - pS h) (eF E) := by
  refine Met.ofW (cc := cX2_is) (maxL := 2) (ret := (some .boolean)) (by decide) rfl ?_
  intro p e s m args below meth c s₁ B hml hv
  obtain ⟨rfl, hP0⟩ := hv
  have hts := atoms_spec (ws := ws_ yX2_is cX2_is 2 (some .boolean)) B.pre
  have hts : ∀ w ∈ lw_all, w.before _ s = true := fun w h => hts w (List.mem_cons_of_mem _ h)
  have C : PC E p s m _ meth c RX2 cX2_is 2 (some .boolean) "is" := ⟨B.exec, B.bytes, B.returns, B.notSynchronized, hml, findClass_of_methodNamed B.named, hts, hP0.2, (name_of_methodNamed B.named B.method).1⟩
  have hz : ZP E s h h s.heap [] := ZG.start hP0.1
  have hl := lv_entry ([.ref x0, .int (zI x1)]) (n := 2) (Nat.le_of_ble_eq_true rfl)
  rw [lg_entry_eq]
  generalize (lg_sl ([.ref x0, .int (zI x1)]) ++ List.replicate (2 - (lg_sl ([.ref x0, .int (zI x1)])).length) Slot.unset).toArray = ls at hl ⊢
  have hl : lv_has ls 2 [(0, .ref x0), (1, .int (zI x1))] := hl
  refine W.cs (cells' := pX h - pX h) (slots' := pS h - pS h) (Nat.sub_self _).symm (Nat.sub_self _).symm ?_
  exact w_X2_is C ⟨Nat.le_refl _, Nat.le_refl _, RBw.rm⟩ hf hz hl rfl

theorem w_J6_isLatin1 {p : Program} {l : Launch} {e : Env} {R : Room} {s : State} {m : MethodId} {args : Array Value} {below : List Frame} {meth : Method} {c : Code} {Q : State → Prop} {E : PEw} {h0 h : HP} {H : Heap} {locs : List Loc} (C : PC E p s m args meth c RJ6 cJ6_isLatin1 1 (some .boolean) "isLatin1") (hr : 0 ≤ R.frames ∧ 0 ≤ R.locals ∧ RBw R h0) {x0 : Nat} {res : Int} (hf : f_J6_isLatin1 h x0 = some res) (hz : ZP E s h0 h H locs) {ls : Array Slot} (hl : lv_has ls 1 [(0, .ref (sK E x0))]) (hk : KP E below args s Q h0 h (some (.int (zI res)))) : W p l e R s m args below meth c H locs (pX h - pX h0) (pS h - pS h0) Q (F0 m 0 ls []) := by
  unfold f_J6_isLatin1 at hf
  have hx := C.1
  have hb := C.2.1
  refine zc_compact C hz q596 dJ6_isLatin1_0 ?_
  refine zl_if_eq (tgt := 17) hx hb dJ6_isLatin1_3 (by decide) (fun hc => ?_) (fun hc => ?_)
  · rw [if_pos hc] at hf
    refine zl_iconst hx hb dJ6_isLatin1_17 ?_
    obtain rfl := Option.some.inj hf
    exact zg_zret C hz zisB_0 hk dJ6_isLatin1_18
  · rw [if_neg hc] at hf
    refine lv_aload_n hx hb dJ6_isLatin1_6 rfl (lv_at hl 0 rfl) ?_
    obtain ⟨hg, hf⟩ := gd_inv hf
    refine zc_coder C hz hg q1639 dJ6_isLatin1_7 ?_
    refine zl_if_ne (tgt := 17) hx hb dJ6_isLatin1_10 (by decide) (fun hc => ?_) (fun hc => ?_)
    · rw [if_pos hc] at hf
      refine zl_iconst hx hb dJ6_isLatin1_13 ?_
      refine lv_goto (tgt := 18) hx hb dJ6_isLatin1_14 (by decide) ?_
      obtain rfl := Option.some.inj hf
      exact zg_zret C hz zisB_1 hk dJ6_isLatin1_18
    · rw [if_neg hc] at hf
      refine zl_iconst hx hb dJ6_isLatin1_17 ?_
      obtain rfl := Option.some.inj hf
      exact zg_zret C hz zisB_0 hk dJ6_isLatin1_18

theorem met_J6_isLatin1 (l : Launch) (E : PEw) {h : HP} {x0 : Nat} {res : Int} (hf : f_J6_isLatin1 h x0 = some res) : Met l yJ6_isLatin1 (ws_ yJ6_isLatin1 cJ6_isLatin1 1 (some .boolean)) (rmP h 0 0) (PP E h [.ref (sK E x0)]) (QP E h h (some (.int (zI res)))) (pX h - pX h) (pS h - pS h) (eF E) := by
  refine Met.ofW (cc := cJ6_isLatin1) (maxL := 1) (ret := (some .boolean)) (by decide) rfl ?_
  intro p e s m args below meth c s₁ B hml hv
  obtain ⟨rfl, hP0⟩ := hv
  have hts := atoms_spec (ws := ws_ yJ6_isLatin1 cJ6_isLatin1 1 (some .boolean)) B.pre
  have hts : ∀ w ∈ lw_all, w.before _ s = true := fun w h => hts w (List.mem_cons_of_mem _ h)
  have C : PC E p s m _ meth c RJ6 cJ6_isLatin1 1 (some .boolean) "isLatin1" := ⟨B.exec, B.bytes, B.returns, B.notSynchronized, hml, findClass_of_methodNamed B.named, hts, hP0.2, (name_of_methodNamed B.named B.method).1⟩
  have hz : ZP E s h h s.heap [] := ZG.start hP0.1
  have hl := lv_entry ([.ref (sK E x0)]) (n := 1) (Nat.le_of_ble_eq_true rfl)
  rw [lg_entry_eq]
  generalize (lg_sl ([.ref (sK E x0)]) ++ List.replicate (1 - (lg_sl ([.ref (sK E x0)])).length) Slot.unset).toArray = ls at hl ⊢
  have hl : lv_has ls 1 [(0, .ref (sK E x0))] := hl
  refine W.cs (cells' := pX h - pX h) (slots' := pS h - pS h) (Nat.sub_self _).symm (Nat.sub_self _).symm ?_
  exact w_J6_isLatin1 C ⟨Nat.le_refl _, Nat.le_refl _, RBw.rm⟩ hf hz hl rfl

theorem w_J6_coder {p : Program} {l : Launch} {e : Env} {R : Room} {s : State} {m : MethodId} {args : Array Value} {below : List Frame} {meth : Method} {c : Code} {Q : State → Prop} {E : PEw} {h0 h : HP} {H : Heap} {locs : List Loc} (C : PC E p s m args meth c RJ6 cJ6_coder 1 (some .byte) "coder") (hr : 0 ≤ R.frames ∧ 0 ≤ R.locals ∧ RBw R h0) {x0 : Nat} {res : Int} (hf : f_J6_coder h x0 = some res) (hz : ZP E s h0 h H locs) {ls : Array Slot} (hl : lv_has ls 1 [(0, .ref (sK E x0))]) (hk : KP E below args s Q h0 h (some (.int (zI res)))) : W p l e R s m args below meth c H locs (pX h - pX h0) (pS h - pS h0) Q (F0 m 0 ls []) := by
  unfold f_J6_coder at hf
  have hx := C.1
  have hb := C.2.1
  refine zc_compact C hz q596 dJ6_coder_0 ?_
  refine zl_if_eq (tgt := 13) hx hb dJ6_coder_3 (by decide) (fun hc => ?_) (fun hc => ?_)
  · rw [if_pos hc] at hf
    refine zl_iconst hx hb dJ6_coder_13 ?_
    obtain ⟨hg, hf⟩ := gd_inv hf
    obtain rfl := Option.some.inj hf
    exact zg_yret C hz hg hk dJ6_coder_14
  · rw [if_neg hc] at hf
    refine lv_aload_n hx hb dJ6_coder_6 rfl (lv_at hl 0 rfl) ?_
    obtain ⟨hg, hf⟩ := gd_inv hf
    refine zc_coder C hz hg q1639 dJ6_coder_7 ?_
    refine lv_goto (tgt := 14) hx hb dJ6_coder_10 (by decide) ?_
    obtain ⟨hg, hf⟩ := gd_inv hf
    obtain rfl := Option.some.inj hf
    exact zg_yret C hz hg hk dJ6_coder_14

theorem met_J6_coder (l : Launch) (E : PEw) {h : HP} {x0 : Nat} {res : Int} (hf : f_J6_coder h x0 = some res) : Met l yJ6_coder (ws_ yJ6_coder cJ6_coder 1 (some .byte)) (rmP h 0 0) (PP E h [.ref (sK E x0)]) (QP E h h (some (.int (zI res)))) (pX h - pX h) (pS h - pS h) (eF E) := by
  refine Met.ofW (cc := cJ6_coder) (maxL := 1) (ret := (some .byte)) (by decide) rfl ?_
  intro p e s m args below meth c s₁ B hml hv
  obtain ⟨rfl, hP0⟩ := hv
  have hts := atoms_spec (ws := ws_ yJ6_coder cJ6_coder 1 (some .byte)) B.pre
  have hts : ∀ w ∈ lw_all, w.before _ s = true := fun w h => hts w (List.mem_cons_of_mem _ h)
  have C : PC E p s m _ meth c RJ6 cJ6_coder 1 (some .byte) "coder" := ⟨B.exec, B.bytes, B.returns, B.notSynchronized, hml, findClass_of_methodNamed B.named, hts, hP0.2, (name_of_methodNamed B.named B.method).1⟩
  have hz : ZP E s h h s.heap [] := ZG.start hP0.1
  have hl := lv_entry ([.ref (sK E x0)]) (n := 1) (Nat.le_of_ble_eq_true rfl)
  rw [lg_entry_eq]
  generalize (lg_sl ([.ref (sK E x0)]) ++ List.replicate (1 - (lg_sl ([.ref (sK E x0)])).length) Slot.unset).toArray = ls at hl ⊢
  have hl : lv_has ls 1 [(0, .ref (sK E x0))] := hl
  refine W.cs (cells' := pX h - pX h) (slots' := pS h - pS h) (Nat.sub_self _).symm (Nat.sub_self _).symm ?_
  exact w_J6_coder C ⟨Nat.le_refl _, Nat.le_refl _, RBw.rm⟩ hf hz hl rfl

theorem w_J6_length {p : Program} {l : Launch} {e : Env} {R : Room} {s : State} {m : MethodId} {args : Array Value} {below : List Frame} {meth : Method} {c : Code} {Q : State → Prop} {E : PEw} {h0 h : HP} {H : Heap} {locs : List Loc} (C : PC E p s m args meth c RJ6 cJ6_length 1 (some .int) "length") (hr : 1 ≤ R.frames ∧ 20 ≤ R.locals ∧ RBw R h0) {x0 : Nat} {res : Int} (hf : f_J6_length h x0 = some res) (hz : ZP E s h0 h H locs) {ls : Array Slot} (hl : lv_has ls 1 [(0, .ref (sK E x0))]) (hk : KP E below args s Q h0 h (some (.int (zI res)))) : W p l e R s m args below meth c H locs (pX h - pX h0) (pS h - pS h0) Q (F0 m 0 ls []) := by
  unfold f_J6_length at hf
  have hx := C.1
  have hb := C.2.1
  refine lv_aload_n hx hb dJ6_length_0 rfl (lv_at hl 0 rfl) ?_
  obtain ⟨hg, hf⟩ := gd_inv hf
  refine zc_value C hz hg q1640 dJ6_length_1 ?_
  obtain ⟨hg, hf⟩ := gd_inv hf
  refine zc_alen C hz hg dJ6_length_4 ?_
  refine lv_aload_n hx hb dJ6_length_5 rfl (lv_at hl 0 rfl) ?_
  obtain ⟨hg, hf⟩ := gd_inv hf
  obtain ⟨y1, ey1, hf⟩ := bd_inv hf
  refine zg_callQ gP C hz hr (n := 0) (rest := [.int (zI ((sT x0).length : Int))]) hg (met_J6_coder l E ey1) q601 q602 (C.w q603) q100 q604 (by decide +kernel) ⟨Nat.le_trans (by decide) hr.1, Nat.le_trans (by decide) hr.2.1⟩ rfl hl.1 rfl (Nat.le_of_ble_eq_true rfl) dJ6_length_6 (fun H locs hz => ?_)
  refine zl_ishr hx hb dJ6_length_9 ?_
  obtain rfl := Option.some.inj hf
  exact zg_iret C hz hk dJ6_length_10

theorem met_J6_length (l : Launch) (E : PEw) {h : HP} {x0 : Nat} {res : Int} (hf : f_J6_length h x0 = some res) : Met l yJ6_length (ws_ yJ6_length cJ6_length 1 (some .int)) (rmP h 1 20) (PP E h [.ref (sK E x0)]) (QP E h h (some (.int (zI res)))) (pX h - pX h) (pS h - pS h) (eF E) := by
  refine Met.ofW (cc := cJ6_length) (maxL := 1) (ret := (some .int)) (by decide) rfl ?_
  intro p e s m args below meth c s₁ B hml hv
  obtain ⟨rfl, hP0⟩ := hv
  have hts := atoms_spec (ws := ws_ yJ6_length cJ6_length 1 (some .int)) B.pre
  have hts : ∀ w ∈ lw_all, w.before _ s = true := fun w h => hts w (List.mem_cons_of_mem _ h)
  have C : PC E p s m _ meth c RJ6 cJ6_length 1 (some .int) "length" := ⟨B.exec, B.bytes, B.returns, B.notSynchronized, hml, findClass_of_methodNamed B.named, hts, hP0.2, (name_of_methodNamed B.named B.method).1⟩
  have hz : ZP E s h h s.heap [] := ZG.start hP0.1
  have hl := lv_entry ([.ref (sK E x0)]) (n := 1) (Nat.le_of_ble_eq_true rfl)
  rw [lg_entry_eq]
  generalize (lg_sl ([.ref (sK E x0)]) ++ List.replicate (1 - (lg_sl ([.ref (sK E x0)])).length) Slot.unset).toArray = ls at hl ⊢
  have hl : lv_has ls 1 [(0, .ref (sK E x0))] := hl
  refine W.cs (cells' := pX h - pX h) (slots' := pS h - pS h) (Nat.sub_self _).symm (Nat.sub_self _).symm ?_
  exact w_J6_length C ⟨Nat.le_refl _, Nat.le_refl _, RBw.rm⟩ hf hz hl rfl

theorem w_J13_indexOfChar_7s {p : Program} {l : Launch} {e : Env} {R : Room} {s : State} {m : MethodId} {args : Array Value} {below : List Frame} {meth : Method} {c : Code} {Q : State → Prop} {E : PEw} {h0 h : HP} {H : Heap} {locs : List Loc} (C : PC E p s m args meth c RJ13 cJ13_indexOfChar 6 (some .int) "indexOfChar") (hr : 0 ≤ R.frames ∧ 0 ≤ R.locals ∧ RBw R h0) {x0 : Nat} {x3 : Int} {x4 : Int} {x5 : Int} {res : (Int) ⊕ (Int)} (hf : f_J13_indexOfChar_7s h x0 x3 x4 x5 = some res) (hz : ZP E s h0 h H locs) {ls : Array Slot} (hl : lv_has ls 6 [(0, .ref (tKw E x0)), (3, .int (zI x3)), (4, .int (zI x4)), (5, .int (zI x5))]) (hk : (Sum.elim (fun z => ∀ (H : Heap) (locs : List Loc) (ls : Array Slot), ZP E s h0 h H locs → lv_has ls 6 [(0, .ref (tKw E x0)), (3, .int (zI x3)), (4, .int (zI x4)), (5, .int (zI z))] → W p l e R s m args below meth c H locs (pX h - pX h0) (pS h - pS h0) Q (F0 m 7 ls [])) (fun r => KP E below args s Q h0 h (some (.int (zI r))))) res) : W p l e R s m args below meth c H locs (pX h - pX h0) (pS h - pS h0) Q (F0 m 7 ls []) := by
  unfold f_J13_indexOfChar_7s at hf
  have hx := C.1
  have hb := C.2.1
  refine lv_iload hx hb dJ13_indexOfChar_7 (lv_at hl 3 rfl) ?_
  refine lv_iload_n hx hb dJ13_indexOfChar_9 rfl (lv_at hl 1 rfl) ?_
  refine zl_icmp_ge (tgt := 31) hx hb dJ13_indexOfChar_10 (by decide) (fun hc => ?_) (fun hc => ?_)
  · rw [if_pos hc] at hf
    refine lv_aload_n hx hb dJ13_indexOfChar_13 rfl (lv_at hl 0 rfl) ?_
    refine lv_iload hx hb dJ13_indexOfChar_14 (lv_at hl 3 rfl) ?_
    obtain ⟨hg, hf⟩ := gd_inv hf
    refine zc_bald C hz hg dJ13_indexOfChar_16 ?_
    refine lv_iload hx hb dJ13_indexOfChar_17 (lv_at hl 2 rfl) ?_
    refine zl_icmp_ne (tgt := 25) hx hb dJ13_indexOfChar_19 (by decide) (fun hc => ?_) (fun hc => ?_)
    · rw [if_pos hc] at hf
      refine lv_iload hx hb dJ13_indexOfChar_22 (lv_at hl 3 rfl) ?_
      obtain rfl := Option.some.inj hf
      exact zg_iret C hz hk dJ13_indexOfChar_24
    · rw [if_neg hc] at hf
      refine zl_iinc (x := x5) (n := 1) (lv' := [(5, .int (zI (x5 + 1))), (0, .ref (tKw E x0)), (3, .int (zI x3)), (4, .int (zI x4))]) (k := 3) hx hb dJ13_indexOfChar_25 hl rfl (by decide) rfl (fun ls hl => ?_)
      refine lv_goto (tgt := 7) hx hb dJ13_indexOfChar_28 (by decide) ?_
      obtain rfl := Option.some.inj hf
      exact hk _ _ _ hz (lv_sub hl [1, 2, 3, 0] rfl)
  · rw [if_neg hc] at hf
    refine zl_iconst hx hb dJ13_indexOfChar_31 ?_
    obtain rfl := Option.some.inj hf
    exact zg_iret C hz hk dJ13_indexOfChar_32

theorem w_J13_indexOfChar_7 {p : Program} {l : Launch} {e : Env} {R : Room} {s : State} {m : MethodId} {args : Array Value} {below : List Frame} {meth : Method} {c : Code} {Q : State → Prop} {E : PEw} {h0 h : HP} {H : Heap} {locs : List Loc} (C : PC E p s m args meth c RJ13 cJ13_indexOfChar 6 (some .int) "indexOfChar") (hr : 0 ≤ R.frames ∧ 0 ≤ R.locals ∧ RBw R h0) {x0 : Nat} {x3 : Int} {x4 : Int} {x5 : Int} {res : Int} (hf : f_J13_indexOfChar_7 h x0 x3 x4 x5 = some res) (hz : ZP E s h0 h H locs) {ls : Array Slot} (hl : lv_has ls 6 [(0, .ref (tKw E x0)), (3, .int (zI x3)), (4, .int (zI x4)), (5, .int (zI x5))]) (hk : KP E below args s Q h0 h (some (.int (zI res)))) : W p l e R s m args below meth c H locs (pX h - pX h0) (pS h - pS h0) Q (F0 m 7 ls []) := by
  unfold f_J13_indexOfChar_7 at hf
  refine iter_ind (P := fun z r => ∀ (H : Heap) (locs : List Loc) (ls : Array Slot), ZP E s h0 h H locs → lv_has ls 6 [(0, .ref (tKw E x0)), (3, .int (zI x3)), (4, .int (zI x4)), (5, .int (zI z))] → KP E below args s Q h0 h (some (.int (zI r))) → W p l e R s m args below meth c H locs (pX h - pX h0) (pS h - pS h0) Q (F0 m 7 ls [])) ?_ ?_ hf H locs ls hz hl hk
  · intro z r h1 H locs ls hz hl hk; exact w_J13_indexOfChar_7s C hr h1 hz hl hk
  · intro z z1 r h1 ih H locs ls hz hl hk; exact w_J13_indexOfChar_7s C hr h1 hz hl (fun H locs ls hz hl => ih H locs ls hz hl hk)

theorem w_J13_indexOfChar {p : Program} {l : Launch} {e : Env} {R : Room} {s : State} {m : MethodId} {args : Array Value} {below : List Frame} {meth : Method} {c : Code} {Q : State → Prop} {E : PEw} {h0 h : HP} {H : Heap} {locs : List Loc} (C : PC E p s m args meth c RJ13 cJ13_indexOfChar 6 (some .int) "indexOfChar") (hr : 0 ≤ R.frames ∧ 0 ≤ R.locals ∧ RBw R h0) {x0 : Nat} {x1 : Int} {x2 : Int} {x3 : Int} {res : Int} (hf : f_J13_indexOfChar h x0 x1 x2 x3 = some res) (hz : ZP E s h0 h H locs) {ls : Array Slot} (hl : lv_has ls 6 [(0, .ref (tKw E x0)), (1, .int (zI x1)), (2, .int (zI x2)), (3, .int (zI x3))]) (hk : KP E below args s Q h0 h (some (.int (zI res)))) : W p l e R s m args below meth c H locs (pX h - pX h0) (pS h - pS h0) Q (F0 m 0 ls []) := by
  unfold f_J13_indexOfChar at hf
  have hx := C.1
  have hb := C.2.1
  refine lv_iload_n hx hb dJ13_indexOfChar_0 rfl (lv_at hl 1 rfl) ?_
  refine zl_i2b hx hb dJ13_indexOfChar_1 ?_
  obtain ⟨y1, ey1, hf⟩ := bnd_inv hf
  refine zl_topi ey1 ?_
  refine lv_istore (lv' := [(4, .int (zI y1)), (0, .ref (tKw E x0)), (1, .int (zI x1)), (2, .int (zI x2)), (3, .int (zI x3))]) hx hb dJ13_indexOfChar_2 hl (by decide) rfl (fun ls hl => ?_)
  refine lv_iload_n hx hb dJ13_indexOfChar_4 rfl (lv_at hl 3 rfl) ?_
  refine lv_istore (lv' := [(5, .int (zI x2)), (4, .int (zI y1)), (0, .ref (tKw E x0)), (1, .int (zI x1)), (2, .int (zI x2)), (3, .int (zI x3))]) hx hb dJ13_indexOfChar_5 hl (by decide) rfl (fun ls hl => ?_)
  exact w_J13_indexOfChar_7 C hr hf hz (lv_sub hl [2, 5, 1, 0] rfl) hk

theorem met_J13_indexOfChar (l : Launch) (E : PEw) {h : HP} {x0 : Nat} {x1 : Int} {x2 : Int} {x3 : Int} {res : Int} (hf : f_J13_indexOfChar h x0 x1 x2 x3 = some res) : Met l yJ13_indexOfChar (ws_ yJ13_indexOfChar cJ13_indexOfChar 6 (some .int)) (rmP h 0 0) (PP E h [.ref (tKw E x0), .int (zI x1), .int (zI x2), .int (zI x3)]) (QP E h h (some (.int (zI res)))) (pX h - pX h) (pS h - pS h) (eF E) := by
  refine Met.ofW (cc := cJ13_indexOfChar) (maxL := 6) (ret := (some .int)) (by decide) rfl ?_
  intro p e s m args below meth c s₁ B hml hv
  obtain ⟨rfl, hP0⟩ := hv
  have hts := atoms_spec (ws := ws_ yJ13_indexOfChar cJ13_indexOfChar 6 (some .int)) B.pre
  have hts : ∀ w ∈ lw_all, w.before _ s = true := fun w h => hts w (List.mem_cons_of_mem _ h)
  have C : PC E p s m _ meth c RJ13 cJ13_indexOfChar 6 (some .int) "indexOfChar" := ⟨B.exec, B.bytes, B.returns, B.notSynchronized, hml, findClass_of_methodNamed B.named, hts, hP0.2, (name_of_methodNamed B.named B.method).1⟩
  have hz : ZP E s h h s.heap [] := ZG.start hP0.1
  have hl := lv_entry ([.ref (tKw E x0), .int (zI x1), .int (zI x2), .int (zI x3)]) (n := 6) (Nat.le_of_ble_eq_true rfl)
  rw [lg_entry_eq]
  generalize (lg_sl ([.ref (tKw E x0), .int (zI x1), .int (zI x2), .int (zI x3)]) ++ List.replicate (6 - (lg_sl ([.ref (tKw E x0), .int (zI x1), .int (zI x2), .int (zI x3)])).length) Slot.unset).toArray = ls at hl ⊢
  have hl : lv_has ls 6 [(0, .ref (tKw E x0)), (1, .int (zI x1)), (2, .int (zI x2)), (3, .int (zI x3))] := hl
  refine W.cs (cells' := pX h - pX h) (slots' := pS h - pS h) (Nat.sub_self _).symm (Nat.sub_self _).symm ?_
  exact w_J13_indexOfChar C ⟨Nat.le_refl _, Nat.le_refl _, RBw.rm⟩ hf hz hl rfl

theorem w_J13_indexOf {p : Program} {l : Launch} {e : Env} {R : Room} {s : State} {m : MethodId} {args : Array Value} {below : List Frame} {meth : Method} {c : Code} {Q : State → Prop} {E : PEw} {h0 h : HP} {H : Heap} {locs : List Loc} (C : PC E p s m args meth c RJ13 cJ13_indexOf 4 (some .int) "indexOf") (hr : 1 ≤ R.frames ∧ 25 ≤ R.locals ∧ RBw R h0) {x0 : Nat} {x1 : Int} {x2 : Int} {x3 : Int} {res : Int} (hf : f_J13_indexOf h x0 x1 x2 x3 = some res) (hz : ZP E s h0 h H locs) {ls : Array Slot} (hl : lv_has ls 4 [(0, .ref (tKw E x0)), (1, .int (zI x1)), (2, .int (zI x2)), (3, .int (zI x3))]) (hk : KP E below args s Q h0 h (some (.int (zI res)))) : W p l e R s m args below meth c H locs (pX h - pX h0) (pS h - pS h0) Q (F0 m 0 ls []) := by
  unfold f_J13_indexOf at hf
  have hx := C.1
  have hb := C.2.1
  refine lv_iload_n hx hb dJ13_indexOf_0 rfl (lv_at hl 1 rfl) ?_
  obtain ⟨y1, ey1, hf⟩ := bd_inv hf
  refine zg_callS0 C (n := 1) (rest := []) (met_J13_canEncode l ey1) q608 q609 q110 q610 rfl rfl (by decide +kernel) ⟨Nat.le_trans (by decide) hr.1, Nat.le_trans (by decide) hr.2.1⟩ rfl hl.1 rfl (Nat.le_of_ble_eq_true rfl) dJ13_indexOf_1 (RBw.have gP hz hr).1 (RBw.have gP hz hr).2 ?_
  refine zl_if_ne (tgt := 9) hx hb dJ13_indexOf_4 (by decide) (fun hc => ?_) (fun hc => ?_)
  · rw [if_pos hc] at hf
    refine zl_iconst hx hb dJ13_indexOf_7 ?_
    obtain rfl := Option.some.inj hf
    exact zg_iret C hz hk dJ13_indexOf_8
  · rw [if_neg hc] at hf
    refine lv_iload_n hx hb dJ13_indexOf_9 rfl (lv_at hl 2 rfl) ?_
    refine zl_iconst hx hb dJ13_indexOf_10 ?_
    refine zl_mmax hx hb C.2.2.2.2.1 hl.1 C.2.2.2.2.2.1 (fun _ h => C.w h) q611 ⟨Nat.le_trans (by decide) hr.1, Nat.le_trans (by decide) hr.2.1⟩ (Nat.le_of_ble_eq_true rfl) (RBw.have gP hz hr).1 (RBw.have gP hz hr).2 dJ13_indexOf_11 ?_
    obtain ⟨y2, ey2, hf⟩ := bnd_inv hf
    refine zl_topi ey2 ?_
    refine lv_istore_n (lv' := [(2, .int (zI y2)), (0, .ref (tKw E x0)), (1, .int (zI x1)), (3, .int (zI x3))]) hx hb dJ13_indexOf_14 rfl hl (by decide) rfl (fun ls hl => ?_)
    refine lv_iload_n hx hb dJ13_indexOf_15 rfl (lv_at hl 3 rfl) ?_
    refine lv_aload_n hx hb dJ13_indexOf_16 rfl (lv_at hl 1 rfl) ?_
    obtain ⟨hg, hf⟩ := gd_inv hf
    refine zc_alen C hz hg dJ13_indexOf_17 ?_
    refine zl_mmin hx hb C.2.2.2.2.1 hl.1 C.2.2.2.2.2.1 (fun _ h => C.w h) q612 ⟨Nat.le_trans (by decide) hr.1, Nat.le_trans (by decide) hr.2.1⟩ (Nat.le_of_ble_eq_true rfl) (RBw.have gP hz hr).1 (RBw.have gP hz hr).2 dJ13_indexOf_18 ?_
    obtain ⟨y3, ey3, hf⟩ := bnd_inv hf
    refine zl_topi ey3 ?_
    refine lv_istore_n (lv' := [(3, .int (zI y3)), (2, .int (zI y2)), (0, .ref (tKw E x0)), (1, .int (zI x1))]) hx hb dJ13_indexOf_21 rfl hl (by decide) rfl (fun ls hl => ?_)
    refine lv_iload_n hx hb dJ13_indexOf_22 rfl (lv_at hl 1 rfl) ?_
    refine lv_iload_n hx hb dJ13_indexOf_23 rfl (lv_at hl 0 rfl) ?_
    refine zl_icmp_lt (tgt := 29) hx hb dJ13_indexOf_24 (by decide) (fun hc => ?_) (fun hc => ?_)
    · rw [if_pos hc] at hf
      refine lv_aload_n hx hb dJ13_indexOf_29 rfl (lv_at hl 2 rfl) ?_
      refine lv_iload_n hx hb dJ13_indexOf_30 rfl (lv_at hl 3 rfl) ?_
      refine lv_iload_n hx hb dJ13_indexOf_31 rfl (lv_at hl 1 rfl) ?_
      refine lv_iload_n hx hb dJ13_indexOf_32 rfl (lv_at hl 0 rfl) ?_
      obtain ⟨y4, ey4, hf⟩ := bd_inv hf
      refine zg_callS gP C hz hr (n := 4) (rest := []) (met_J13_indexOfChar l E ey4) q613 q614 q110 q615 (by decide +kernel) ⟨Nat.le_trans (by decide) hr.1, Nat.le_trans (by decide) hr.2.1⟩ rfl hl.1 rfl (Nat.le_of_ble_eq_true rfl) dJ13_indexOf_33 (fun H locs hz => ?_)
      obtain rfl := Option.some.inj hf
      exact zg_iret C hz hk dJ13_indexOf_36
    · rw [if_neg hc] at hf
      refine zl_iconst hx hb dJ13_indexOf_27 ?_
      obtain rfl := Option.some.inj hf
      exact zg_iret C hz hk dJ13_indexOf_28

theorem met_J13_indexOf (l : Launch) (E : PEw) {h : HP} {x0 : Nat} {x1 : Int} {x2 : Int} {x3 : Int} {res : Int} (hf : f_J13_indexOf h x0 x1 x2 x3 = some res) : Met l yJ13_indexOf (ws_ yJ13_indexOf cJ13_indexOf 4 (some .int)) (rmP h 1 25) (PP E h [.ref (tKw E x0), .int (zI x1), .int (zI x2), .int (zI x3)]) (QP E h h (some (.int (zI res)))) (pX h - pX h) (pS h - pS h) (eF E) := by
  refine Met.ofW (cc := cJ13_indexOf) (maxL := 4) (ret := (some .int)) (by decide) rfl ?_
  intro p e s m args below meth c s₁ B hml hv
  obtain ⟨rfl, hP0⟩ := hv
  have hts := atoms_spec (ws := ws_ yJ13_indexOf cJ13_indexOf 4 (some .int)) B.pre
  have hts : ∀ w ∈ lw_all, w.before _ s = true := fun w h => hts w (List.mem_cons_of_mem _ h)
  have C : PC E p s m _ meth c RJ13 cJ13_indexOf 4 (some .int) "indexOf" := ⟨B.exec, B.bytes, B.returns, B.notSynchronized, hml, findClass_of_methodNamed B.named, hts, hP0.2, (name_of_methodNamed B.named B.method).1⟩
  have hz : ZP E s h h s.heap [] := ZG.start hP0.1
  have hl := lv_entry ([.ref (tKw E x0), .int (zI x1), .int (zI x2), .int (zI x3)]) (n := 4) (Nat.le_of_ble_eq_true rfl)
  rw [lg_entry_eq]
  generalize (lg_sl ([.ref (tKw E x0), .int (zI x1), .int (zI x2), .int (zI x3)]) ++ List.replicate (4 - (lg_sl ([.ref (tKw E x0), .int (zI x1), .int (zI x2), .int (zI x3)])).length) Slot.unset).toArray = ls at hl ⊢
  have hl : lv_has ls 4 [(0, .ref (tKw E x0)), (1, .int (zI x1)), (2, .int (zI x2)), (3, .int (zI x3))] := hl
  refine W.cs (cells' := pX h - pX h) (slots' := pS h - pS h) (Nat.sub_self _).symm (Nat.sub_self _).symm ?_
  exact w_J13_indexOf C ⟨Nat.le_refl _, Nat.le_refl _, RBw.rm⟩ hf hz hl rfl

theorem w_J6_indexOf_2 {p : Program} {l : Launch} {e : Env} {R : Room} {s : State} {m : MethodId} {args : Array Value} {below : List Frame} {meth : Method} {c : Code} {Q : State → Prop} {E : PEw} {h0 h : HP} {H : Heap} {locs : List Loc} (C : PC E p s m args meth c RJ6 cJ6_indexOf_2 3 (some .int) "indexOf") (hr : 2 ≤ R.frames ∧ 48 ≤ R.locals ∧ RBw R h0) {x0 : Nat} {x1 : Int} {x2 : Int} {res : Int} (hf : f_J6_indexOf_2 h x0 x1 x2 = some res) (hz : ZP E s h0 h H locs) {ls : Array Slot} (hl : lv_has ls 3 [(0, .ref (sK E x0)), (1, .int (zI x1)), (2, .int (zI x2))]) (hk : KP E below args s Q h0 h (some (.int (zI res)))) : W p l e R s m args below meth c H locs (pX h - pX h0) (pS h - pS h0) Q (F0 m 0 ls []) := by
  unfold f_J6_indexOf_2 at hf
  have hx := C.1
  have hb := C.2.1
  refine lv_aload_n hx hb dJ6_indexOf_2_0 rfl (lv_at hl 0 rfl) ?_
  obtain ⟨hg, hf⟩ := gd_inv hf
  obtain ⟨y1, ey1, hf⟩ := bd_inv hf
  refine zg_callQ gP C hz hr (n := 0) (rest := []) hg (met_J6_isLatin1 l E ey1) q592 q593 (C.w q594) q100 q595 (by decide +kernel) ⟨Nat.le_trans (by decide) hr.1, Nat.le_trans (by decide) hr.2.1⟩ rfl hl.1 rfl (Nat.le_of_ble_eq_true rfl) dJ6_indexOf_2_1 (fun H locs hz => ?_)
  refine zl_if_eq (tgt := 23) hx hb dJ6_indexOf_2_4 (by decide) (fun hc => ?_) (fun hc => ?_)
  · rw [if_pos hc] at hf
    cases hf
  · rw [if_neg hc] at hf
    refine lv_aload_n hx hb dJ6_indexOf_2_7 rfl (lv_at hl 0 rfl) ?_
    obtain ⟨hg, hf⟩ := gd_inv hf
    refine zc_value C hz hg q1640 dJ6_indexOf_2_8 ?_
    refine lv_iload_n hx hb dJ6_indexOf_2_11 rfl (lv_at hl 1 rfl) ?_
    refine lv_iload_n hx hb dJ6_indexOf_2_12 rfl (lv_at hl 2 rfl) ?_
    refine lv_aload_n hx hb dJ6_indexOf_2_13 rfl (lv_at hl 0 rfl) ?_
    obtain ⟨hg, hf⟩ := gd_inv hf
    obtain ⟨y2, ey2, hf⟩ := bd_inv hf
    refine zg_callQ gP C hz hr (n := 0) (rest := [.int (zI x2), .int (zI x1), .ref (tKw E x0)]) hg (met_J6_length l E ey2) q597 q598 (C.w q599) q100 q600 (by decide +kernel) ⟨Nat.le_trans (by decide) hr.1, Nat.le_trans (by decide) hr.2.1⟩ rfl hl.1 rfl (Nat.le_of_ble_eq_true rfl) dJ6_indexOf_2_14 (fun H locs hz => ?_)
    obtain ⟨y3, ey3, hf⟩ := bd_inv hf
    refine zg_callS gP C hz hr (n := 4) (rest := []) (met_J13_indexOf l E ey3) q605 q606 q110 q607 (by decide +kernel) ⟨Nat.le_trans (by decide) hr.1, Nat.le_trans (by decide) hr.2.1⟩ rfl hl.1 rfl (Nat.le_of_ble_eq_true rfl) dJ6_indexOf_2_17 (fun H locs hz => ?_)
    refine lv_goto (tgt := 36) hx hb dJ6_indexOf_2_20 (by decide) ?_
    obtain rfl := Option.some.inj hf
    exact zg_iret C hz hk dJ6_indexOf_2_36

theorem met_J6_indexOf_2 (l : Launch) (E : PEw) {h : HP} {x0 : Nat} {x1 : Int} {x2 : Int} {res : Int} (hf : f_J6_indexOf_2 h x0 x1 x2 = some res) : Met l yJ6_indexOf_2 (ws_ yJ6_indexOf_2 cJ6_indexOf_2 3 (some .int)) (rmP h 2 48) (PP E h [.ref (sK E x0), .int (zI x1), .int (zI x2)]) (QP E h h (some (.int (zI res)))) (pX h - pX h) (pS h - pS h) (eF E) := by
  refine Met.ofW (cc := cJ6_indexOf_2) (maxL := 3) (ret := (some .int)) (by decide) rfl ?_
  intro p e s m args below meth c s₁ B hml hv
  obtain ⟨rfl, hP0⟩ := hv
  have hts := atoms_spec (ws := ws_ yJ6_indexOf_2 cJ6_indexOf_2 3 (some .int)) B.pre
  have hts : ∀ w ∈ lw_all, w.before _ s = true := fun w h => hts w (List.mem_cons_of_mem _ h)
  have C : PC E p s m _ meth c RJ6 cJ6_indexOf_2 3 (some .int) "indexOf" := ⟨B.exec, B.bytes, B.returns, B.notSynchronized, hml, findClass_of_methodNamed B.named, hts, hP0.2, (name_of_methodNamed B.named B.method).1⟩
  have hz : ZP E s h h s.heap [] := ZG.start hP0.1
  have hl := lv_entry ([.ref (sK E x0), .int (zI x1), .int (zI x2)]) (n := 3) (Nat.le_of_ble_eq_true rfl)
  rw [lg_entry_eq]
  generalize (lg_sl ([.ref (sK E x0), .int (zI x1), .int (zI x2)]) ++ List.replicate (3 - (lg_sl ([.ref (sK E x0), .int (zI x1), .int (zI x2)])).length) Slot.unset).toArray = ls at hl ⊢
  have hl : lv_has ls 3 [(0, .ref (sK E x0)), (1, .int (zI x1)), (2, .int (zI x2))] := hl
  refine W.cs (cells' := pX h - pX h) (slots' := pS h - pS h) (Nat.sub_self _).symm (Nat.sub_self _).symm ?_
  exact w_J6_indexOf_2 C ⟨Nat.le_refl _, Nat.le_refl _, RBw.rm⟩ hf hz hl rfl

theorem w_J6_indexOf {p : Program} {l : Launch} {e : Env} {R : Room} {s : State} {m : MethodId} {args : Array Value} {below : List Frame} {meth : Method} {c : Code} {Q : State → Prop} {E : PEw} {h0 h : HP} {H : Heap} {locs : List Loc} (C : PC E p s m args meth c RJ6 cJ6_indexOf 2 (some .int) "indexOf") (hr : 3 ≤ R.frames ∧ 70 ≤ R.locals ∧ RBw R h0) {x0 : Nat} {x1 : Int} {res : Int} (hf : f_J6_indexOf h x0 x1 = some res) (hz : ZP E s h0 h H locs) {ls : Array Slot} (hl : lv_has ls 2 [(0, .ref (sK E x0)), (1, .int (zI x1))]) (hk : KP E below args s Q h0 h (some (.int (zI res)))) : W p l e R s m args below meth c H locs (pX h - pX h0) (pS h - pS h0) Q (F0 m 0 ls []) := by
  unfold f_J6_indexOf at hf
  have hx := C.1
  have hb := C.2.1
  refine lv_aload_n hx hb dJ6_indexOf_0 rfl (lv_at hl 0 rfl) ?_
  refine lv_iload_n hx hb dJ6_indexOf_1 rfl (lv_at hl 1 rfl) ?_
  refine zl_iconst hx hb dJ6_indexOf_2 ?_
  obtain ⟨hg, hf⟩ := gd_inv hf
  obtain ⟨y1, ey1, hf⟩ := bd_inv hf
  refine zg_callQ gP C hz hr (n := 2) (rest := []) hg (met_J6_indexOf_2 l E ey1) q588 q589 (C.w q590) q100 q591 (by decide +kernel) ⟨Nat.le_trans (by decide) hr.1, Nat.le_trans (by decide) hr.2.1⟩ rfl hl.1 rfl (Nat.le_of_ble_eq_true rfl) dJ6_indexOf_3 (fun H locs hz => ?_)
  obtain rfl := Option.some.inj hf
  exact zg_iret C hz hk dJ6_indexOf_6

theorem met_J6_indexOf (l : Launch) (E : PEw) {h : HP} {x0 : Nat} {x1 : Int} {res : Int} (hf : f_J6_indexOf h x0 x1 = some res) : Met l yJ6_indexOf (ws_ yJ6_indexOf cJ6_indexOf 2 (some .int)) (rmP h 3 70) (PP E h [.ref (sK E x0), .int (zI x1)]) (QP E h h (some (.int (zI res)))) (pX h - pX h) (pS h - pS h) (eF E) := by
  refine Met.ofW (cc := cJ6_indexOf) (maxL := 2) (ret := (some .int)) (by decide) rfl ?_
  intro p e s m args below meth c s₁ B hml hv
  obtain ⟨rfl, hP0⟩ := hv
  have hts := atoms_spec (ws := ws_ yJ6_indexOf cJ6_indexOf 2 (some .int)) B.pre
  have hts : ∀ w ∈ lw_all, w.before _ s = true := fun w h => hts w (List.mem_cons_of_mem _ h)
  have C : PC E p s m _ meth c RJ6 cJ6_indexOf 2 (some .int) "indexOf" := ⟨B.exec, B.bytes, B.returns, B.notSynchronized, hml, findClass_of_methodNamed B.named, hts, hP0.2, (name_of_methodNamed B.named B.method).1⟩
  have hz : ZP E s h h s.heap [] := ZG.start hP0.1
  have hl := lv_entry ([.ref (sK E x0), .int (zI x1)]) (n := 2) (Nat.le_of_ble_eq_true rfl)
  rw [lg_entry_eq]
  generalize (lg_sl ([.ref (sK E x0), .int (zI x1)]) ++ List.replicate (2 - (lg_sl ([.ref (sK E x0), .int (zI x1)])).length) Slot.unset).toArray = ls at hl ⊢
  have hl : lv_has ls 2 [(0, .ref (sK E x0)), (1, .int (zI x1))] := hl
  refine W.cs (cells' := pX h - pX h) (slots' := pS h - pS h) (Nat.sub_self _).symm (Nat.sub_self _).symm ?_
  exact w_J6_indexOf C ⟨Nat.le_refl _, Nat.le_refl _, RBw.rm⟩ hf hz hl rfl

theorem w_X0_reach_10s {p : Program} {l : Launch} {e : Env} {R : Room} {s : State} {m : MethodId} {args : Array Value} {below : List Frame} {meth : Method} {c : Code} {Q : State → Prop} {E : PEw} {h0 h : HP} {H : Heap} {locs : List Loc} (C : PC E p s m args meth c RX0 cX0_reach 5 (some .int) "reach") (hr : 4 ≤ R.frames ∧ 91 ≤ R.locals ∧ RBw R h0) {x0 : Nat} {x1 : Int} {x2 : Nat} {x3 : Int} {res : (Int) ⊕ (Int)} (hf : f_X0_reach_10s h x0 x1 x2 x3 = some res) (hz : ZP E s h0 h H locs) {ls : Array Slot} (hl : lv_has ls 5 [(0, .ref x0), (1, .int (zI x1)), (2, .ref (sK E x2)), (3, .int (zI x3))]) (hk : (Sum.elim (fun z => ∀ (H : Heap) (locs : List Loc) (ls : Array Slot), ZP E s h0 h H locs → lv_has ls 5 [(0, .ref x0), (1, .int (zI x1)), (2, .ref (sK E x2)), (3, .int (zI z))] → W p l e R s m args below meth c H locs (pX h - pX h0) (pS h - pS h0) Q (F0 m 10 ls [])) (fun r => KP E below args s Q h0 h (some (.int (zI r))))) res) : W p l e R s m args below meth c H locs (pX h - pX h0) (pS h - pS h0) Q (F0 m 10 ls []) := by
  unfold f_X0_reach_10s at hf
  have hx := C.1
  have hb := C.2.1
  refine lv_iload_n hx hb dX0_reach_10 rfl (lv_at hl 3 rfl) ?_
  refine zl_if_le (tgt := 58) hx hb dX0_reach_11 (by decide) (fun hc => ?_) (fun hc => ?_)
  · rw [if_pos hc] at hf
    refine lv_aload_n hx hb dX0_reach_14 rfl (lv_at hl 0 rfl) ?_
    obtain ⟨hg, hf⟩ := gd_inv hf
    refine zg_getp gP C hz 1 5 (gkp (by decide) hg) (by decide) (by decide) (Or.inl (C.w q405)) (fun _ h => h) dX0_reach_15 ?_
    refine lv_iload_n hx hb dX0_reach_18 rfl (lv_at hl 3 rfl) ?_
    obtain ⟨a1, ea1, hf⟩ := bd_inv hf
    rw [zx_rf ea1]
    obtain ⟨y2, ey2, hf⟩ := bd_inv hf
    refine zj_lGet C hz hr ey2 (rest := []) q553 q554 (C.w q555) q94 q556 hl.1 ⟨Nat.le_trans (by decide) hr.1, Nat.le_trans (by decide) hr.2.1⟩ (Nat.le_of_ble_eq_true rfl) dX0_reach_19 (fun H locs hz => ?_)
    obtain ⟨hg, hf⟩ := gd_inv hf
    refine zg_cast2 gP C hz hg q124 dX0_reach_22 ?_
    refine lv_astore (lv' := [(4, .ref y2), (0, .ref x0), (1, .int (zI x1)), (2, .ref (sK E x2)), (3, .int (zI x3))]) hx hb dX0_reach_25 hl (by decide) rfl (fun ls hl => ?_)
    refine lv_aload hx hb dX0_reach_27 (lv_at hl 0 rfl) ?_
    refine lv_iload_n hx hb dX0_reach_29 rfl (lv_at hl 2 rfl) ?_
    obtain ⟨hg, hf⟩ := gd_inv hf
    obtain ⟨y3, ey3, hf⟩ := bd_inv hf
    refine zg_callV gP C hz hr (n := 1) (rest := []) (gkp (by decide) hg) (met_X2_is l E ey3) q567 q568 (C.w q569) q91 q570 (by decide +kernel) ⟨Nat.le_trans (by decide) hr.1, Nat.le_trans (by decide) hr.2.1⟩ rfl hl.1 rfl (Nat.le_of_ble_eq_true rfl) dX0_reach_30 (fun H locs hz => ?_)
    refine zl_if_eq (tgt := 38) hx hb dX0_reach_33 (by decide) (fun hc => ?_) (fun hc => ?_)
    · rw [if_pos hc] at hf
      refine lv_aload_n hx hb dX0_reach_38 rfl (lv_at hl 3 rfl) ?_
      refine lv_aload hx hb dX0_reach_39 (lv_at hl 0 rfl) ?_
      obtain ⟨hg, hf⟩ := gd_inv hf
      refine zg_geti gP C hz 2 2 (gkp (by decide) hg) (by decide) (by decide) (Or.inr ⟨_, C.nw q161⟩) (fun _ h => h) dX0_reach_41 ?_
      obtain ⟨hg, hf⟩ := gd_inv hf
      obtain ⟨y4, ey4, hf⟩ := bd_inv hf
      refine zg_callQ gP C hz hr (n := 1) (rest := []) hg (met_J6_indexOf l E ey4) q584 q585 (C.w q586) q100 q587 (by decide +kernel) ⟨Nat.le_trans (by decide) hr.1, Nat.le_trans (by decide) hr.2.1⟩ rfl hl.1 rfl (Nat.le_of_ble_eq_true rfl) dX0_reach_44 (fun H locs hz => ?_)
      refine zl_if_lt (tgt := 52) hx hb dX0_reach_47 (by decide) (fun hc => ?_) (fun hc => ?_)
      · rw [if_pos hc] at hf
        refine zl_iinc (x := x3) (n := (-1)) (lv' := [(3, .int (zI (x3 + (-1)))), (4, .ref y2), (0, .ref x0), (1, .int (zI x1)), (2, .ref (sK E x2))]) (k := 4) hx hb dX0_reach_52 hl rfl (by decide) rfl (fun ls hl => ?_)
        refine lv_goto (tgt := 10) hx hb dX0_reach_55 (by decide) ?_
        obtain rfl := Option.some.inj hf
        exact hk _ _ _ hz (lv_sub hl [2, 3, 4, 0] rfl)
      · rw [if_neg hc] at hf
        refine zl_iconst hx hb dX0_reach_50 ?_
        obtain rfl := Option.some.inj hf
        exact zg_iret C hz hk dX0_reach_51
    · rw [if_neg hc] at hf
      refine lv_iload_n hx hb dX0_reach_36 rfl (lv_at hl 4 rfl) ?_
      obtain rfl := Option.some.inj hf
      exact zg_iret C hz hk dX0_reach_37
  · rw [if_neg hc] at hf
    refine zl_iconst hx hb dX0_reach_58 ?_
    obtain rfl := Option.some.inj hf
    exact zg_iret C hz hk dX0_reach_59

theorem w_X0_reach_10 {p : Program} {l : Launch} {e : Env} {R : Room} {s : State} {m : MethodId} {args : Array Value} {below : List Frame} {meth : Method} {c : Code} {Q : State → Prop} {E : PEw} {h0 h : HP} {H : Heap} {locs : List Loc} (C : PC E p s m args meth c RX0 cX0_reach 5 (some .int) "reach") (hr : 4 ≤ R.frames ∧ 91 ≤ R.locals ∧ RBw R h0) {x0 : Nat} {x1 : Int} {x2 : Nat} {x3 : Int} {res : Int} (hf : f_X0_reach_10 h x0 x1 x2 x3 = some res) (hz : ZP E s h0 h H locs) {ls : Array Slot} (hl : lv_has ls 5 [(0, .ref x0), (1, .int (zI x1)), (2, .ref (sK E x2)), (3, .int (zI x3))]) (hk : KP E below args s Q h0 h (some (.int (zI res)))) : W p l e R s m args below meth c H locs (pX h - pX h0) (pS h - pS h0) Q (F0 m 10 ls []) := by
  unfold f_X0_reach_10 at hf
  refine iter_ind (P := fun z r => ∀ (H : Heap) (locs : List Loc) (ls : Array Slot), ZP E s h0 h H locs → lv_has ls 5 [(0, .ref x0), (1, .int (zI x1)), (2, .ref (sK E x2)), (3, .int (zI z))] → KP E below args s Q h0 h (some (.int (zI r))) → W p l e R s m args below meth c H locs (pX h - pX h0) (pS h - pS h0) Q (F0 m 10 ls [])) ?_ ?_ hf H locs ls hz hl hk
  · intro z r h1 H locs ls hz hl hk; exact w_X0_reach_10s C hr h1 hz hl hk
  · intro z z1 r h1 ih H locs ls hz hl hk; exact w_X0_reach_10s C hr h1 hz hl (fun H locs ls hz hl => ih H locs ls hz hl hk)

theorem w_X0_reach {p : Program} {l : Launch} {e : Env} {R : Room} {s : State} {m : MethodId} {args : Array Value} {below : List Frame} {meth : Method} {c : Code} {Q : State → Prop} {E : PEw} {h0 h : HP} {H : Heap} {locs : List Loc} (C : PC E p s m args meth c RX0 cX0_reach 5 (some .int) "reach") (hr : 4 ≤ R.frames ∧ 91 ≤ R.locals ∧ RBw R h0) {x0 : Nat} {x1 : Int} {x2 : Nat} {res : Int} (hf : f_X0_reach h x0 x1 x2 = some res) (hz : ZP E s h0 h H locs) {ls : Array Slot} (hl : lv_has ls 5 [(0, .ref x0), (1, .int (zI x1)), (2, .ref (sK E x2))]) (hk : KP E below args s Q h0 h (some (.int (zI res)))) : W p l e R s m args below meth c H locs (pX h - pX h0) (pS h - pS h0) Q (F0 m 0 ls []) := by
  unfold f_X0_reach at hf
  have hx := C.1
  have hb := C.2.1
  refine lv_aload_n hx hb dX0_reach_0 rfl (lv_at hl 0 rfl) ?_
  obtain ⟨hg, hf⟩ := gd_inv hf
  refine zg_getp gP C hz 1 5 (gkp (by decide) hg) (by decide) (by decide) (Or.inl (C.w q405)) (fun _ h => h) dX0_reach_1 ?_
  obtain ⟨a1, ea1, hf⟩ := bd_inv hf
  rw [zx_rf ea1]
  obtain ⟨y2, ey2, hf⟩ := bd_inv hf
  refine zj_lLen C hz hr ey2 (rest := []) q549 q550 (C.w q551) q94 q552 hl.1 ⟨Nat.le_trans (by decide) hr.1, Nat.le_trans (by decide) hr.2.1⟩ (Nat.le_of_ble_eq_true rfl) dX0_reach_4 (fun H locs hz => ?_)
  refine zl_iconst hx hb dX0_reach_7 ?_
  refine zl_isub hx hb dX0_reach_8 ?_
  obtain ⟨y3, ey3, hf⟩ := bnd_inv hf
  refine zl_topi ey3 ?_
  refine lv_istore_n (lv' := [(3, .int (zI y3)), (0, .ref x0), (1, .int (zI x1)), (2, .ref (sK E x2))]) hx hb dX0_reach_9 rfl hl (by decide) rfl (fun ls hl => ?_)
  exact w_X0_reach_10 C hr hf hz (lv_sub hl [1, 2, 3, 0] rfl) hk

theorem met_X0_reach (l : Launch) (E : PEw) {h : HP} {x0 : Nat} {x1 : Int} {x2 : Nat} {res : Int} (hf : f_X0_reach h x0 x1 x2 = some res) : Met l yX0_reach (ws_ yX0_reach cX0_reach 5 (some .int)) (rmP h 4 91) (PP E h [.ref x0, .int (zI x1), .ref (sK E x2)]) (QP E h h (some (.int (zI res)))) (pX h - pX h) (pS h - pS h) (eF E) := by
  refine Met.ofW (cc := cX0_reach) (maxL := 5) (ret := (some .int)) (by decide) rfl ?_
  intro p e s m args below meth c s₁ B hml hv
  obtain ⟨rfl, hP0⟩ := hv
  have hts := atoms_spec (ws := ws_ yX0_reach cX0_reach 5 (some .int)) B.pre
  have hts : ∀ w ∈ lw_all, w.before _ s = true := fun w h => hts w (List.mem_cons_of_mem _ h)
  have C : PC E p s m _ meth c RX0 cX0_reach 5 (some .int) "reach" := ⟨B.exec, B.bytes, B.returns, B.notSynchronized, hml, findClass_of_methodNamed B.named, hts, hP0.2, (name_of_methodNamed B.named B.method).1⟩
  have hz : ZP E s h h s.heap [] := ZG.start hP0.1
  have hl := lv_entry ([.ref x0, .int (zI x1), .ref (sK E x2)]) (n := 5) (Nat.le_of_ble_eq_true rfl)
  rw [lg_entry_eq]
  generalize (lg_sl ([.ref x0, .int (zI x1), .ref (sK E x2)]) ++ List.replicate (5 - (lg_sl ([.ref x0, .int (zI x1), .ref (sK E x2)])).length) Slot.unset).toArray = ls at hl ⊢
  have hl : lv_has ls 5 [(0, .ref x0), (1, .int (zI x1)), (2, .ref (sK E x2))] := hl
  refine W.cs (cells' := pX h - pX h) (slots' := pS h - pS h) (Nat.sub_self _).symm (Nat.sub_self _).symm ?_
  exact w_X0_reach C ⟨Nat.le_refl _, Nat.le_refl _, RBw.rm⟩ hf hz hl rfl

theorem w_X0_list {p : Program} {l : Launch} {e : Env} {R : Room} {s : State} {m : MethodId} {args : Array Value} {below : List Frame} {meth : Method} {c : Code} {Q : State → Prop} {E : PEw} {h0 h : HP} {H : Heap} {locs : List Loc} (C : PC E p s m args meth c RX0 cX0_list 1 (some (.object "java/util/ArrayList")) "list") (hr : 5 ≤ R.frames ∧ 115 ≤ R.locals ∧ RBw R h0) {x0 : Nat} {res : Option Nat} (hf : f_X0_list h x0 = some res) (hz : ZP E s h0 h H locs) {ls : Array Slot} (hl : lv_has ls 1 [(0, .ref x0)]) (hk : KP E below args s Q h0 h (some (va_rf res))) : W p l e R s m args below meth c H locs (pX h - pX h0) (pS h - pS h0) Q (F0 m 0 ls []) := by
  unfold f_X0_list at hf
  have hx := C.1
  have hb := C.2.1
  refine lv_aload_n hx hb dX0_list_0 rfl (lv_at hl 0 rfl) ?_
  obtain ⟨hg, hf⟩ := gd_inv hf
  refine zg_getp gP C hz 1 5 (gkp (by decide) hg) (by decide) (by decide) (Or.inl (C.w q405)) (fun _ h => h) dX0_list_1 ?_
  refine lv_aload_n hx hb dX0_list_4 rfl (lv_at hl 0 rfl) ?_
  refine zl_bipush hx hb dX0_list_5 (by decide) ?_
  refine zc_str C 0 (by decide) rfl rfl dX0_list_7 ?_
  obtain ⟨hg, hf⟩ := gd_inv hf
  obtain ⟨y1, ey1, hf⟩ := bd_inv hf
  refine zg_callV gP C hz hr (n := 2) (rest := [va_rf (pP h x0 5)]) (gkp (by decide) hg) (met_X0_reach l E ey1) q580 q582 (C.w qs12) q89 q583 (by decide +kernel) ⟨Nat.le_trans (by decide) hr.1, Nat.le_trans (by decide) hr.2.1⟩ rfl hl.1 rfl (by simp only [List.map_cons, List.map_nil, zx_cat]; exact Nat.le_of_ble_eq_true rfl) dX0_list_9 (fun H locs hz => ?_)
  obtain ⟨a2, ea2, hf⟩ := bd_inv hf
  rw [zx_rf ea2]
  obtain ⟨y3, ey3, hf⟩ := bd_inv hf
  refine zj_lGet C hz hr ey3 (rest := []) q553 q554 (C.w q555) q94 q556 hl.1 ⟨Nat.le_trans (by decide) hr.1, Nat.le_trans (by decide) hr.2.1⟩ (Nat.le_of_ble_eq_true rfl) dX0_list_12 (fun H locs hz => ?_)
  obtain ⟨hg, hf⟩ := gd_inv hf
  refine zg_cast2 gP C hz hg q124 dX0_list_15 ?_
  obtain ⟨hg, hf⟩ := gd_inv hf
  refine zg_getp gP C hz 2 5 (gkp (by decide) hg) (by decide) (by decide) (Or.inr ⟨_, C.nw q168⟩) (fun _ h => h) dX0_list_18 ?_
  obtain rfl := Option.some.inj hf
  exact zg_aret_o C hz hk dX0_list_21

theorem met_X0_list (l : Launch) (E : PEw) {h : HP} {x0 : Nat} {res : Option Nat} (hf : f_X0_list h x0 = some res) : Met l yX0_list (ws_ yX0_list cX0_list 1 (some (.object "java/util/ArrayList"))) (rmP h 5 115) (PP E h [.ref x0]) (QP E h h (some (va_rf res))) (pX h - pX h) (pS h - pS h) (eF E) := by
  refine Met.ofW (cc := cX0_list) (maxL := 1) (ret := (some (.object "java/util/ArrayList"))) (by decide) rfl ?_
  intro p e s m args below meth c s₁ B hml hv
  obtain ⟨rfl, hP0⟩ := hv
  have hts := atoms_spec (ws := ws_ yX0_list cX0_list 1 (some (.object "java/util/ArrayList"))) B.pre
  have hts : ∀ w ∈ lw_all, w.before _ s = true := fun w h => hts w (List.mem_cons_of_mem _ h)
  have C : PC E p s m _ meth c RX0 cX0_list 1 (some (.object "java/util/ArrayList")) "list" := ⟨B.exec, B.bytes, B.returns, B.notSynchronized, hml, findClass_of_methodNamed B.named, hts, hP0.2, (name_of_methodNamed B.named B.method).1⟩
  have hz : ZP E s h h s.heap [] := ZG.start hP0.1
  have hl := lv_entry ([.ref x0]) (n := 1) (Nat.le_of_ble_eq_true rfl)
  rw [lg_entry_eq]
  generalize (lg_sl ([.ref x0]) ++ List.replicate (1 - (lg_sl ([.ref x0])).length) Slot.unset).toArray = ls at hl ⊢
  have hl : lv_has ls 1 [(0, .ref x0)] := hl
  refine W.cs (cells' := pX h - pX h) (slots' := pS h - pS h) (Nat.sub_self _).symm (Nat.sub_self _).symm ?_
  exact w_X0_list C ⟨Nat.le_refl _, Nat.le_refl _, RBw.rm⟩ hf hz hl rfl

theorem w_X0_full {p : Program} {l : Launch} {e : Env} {R : Room} {s : State} {m : MethodId} {args : Array Value} {below : List Frame} {meth : Method} {c : Code} {Q : State → Prop} {E : PEw} {h0 h : HP} {H : Heap} {locs : List Loc} (C : PC E p s m args meth c RX0 cX0_full 1 (some .boolean) "full") (hr : 0 ≤ R.frames ∧ 0 ≤ R.locals ∧ RBw R h0) {x0 : Nat} {res : Int} (hf : f_X0_full h x0 = some res) (hz : ZP E s h0 h H locs) {ls : Array Slot} (hl : lv_has ls 1 [(0, .ref x0)]) (hk : KP E below args s Q h0 h (some (.int (zI res)))) : W p l e R s m args below meth c H locs (pX h - pX h0) (pS h - pS h0) Q (F0 m 0 ls []) := by
  unfold f_X0_full at hf
  have hx := C.1
  have hb := C.2.1
  refine zl_iconst hx hb dX0_full_0 ?_
  refine lv_aload_n hx hb dX0_full_1 rfl (lv_at hl 0 rfl) ?_
  obtain ⟨hg, hf⟩ := gd_inv hf
  refine zg_geti gP C hz 1 3 (gkp (by decide) hg) (by decide) (by decide) (Or.inl (C.w q403)) (fun _ h => h) dX0_full_2 ?_
  refine zl_iadd hx hb dX0_full_5 ?_
  refine lv_aload_n hx hb dX0_full_6 rfl (lv_at hl 0 rfl) ?_
  obtain ⟨hg, hf⟩ := gd_inv hf
  refine zg_geti gP C hz 1 4 (gkp (by decide) hg) (by decide) (by decide) (Or.inl (C.w q404)) (fun _ h => h) dX0_full_7 ?_
  refine zl_iadd hx hb dX0_full_10 ?_
  refine zl_bipush hx hb dX0_full_11 (by decide) ?_
  refine zl_icmp_ne (tgt := 20) hx hb dX0_full_13 (by decide) (fun hc => ?_) (fun hc => ?_)
  · rw [if_pos hc] at hf
    refine zl_iconst hx hb dX0_full_16 ?_
    refine lv_goto (tgt := 21) hx hb dX0_full_17 (by decide) ?_
    obtain rfl := Option.some.inj hf
    exact zg_zret C hz zisB_1 hk dX0_full_21
  · rw [if_neg hc] at hf
    refine zl_iconst hx hb dX0_full_20 ?_
    obtain rfl := Option.some.inj hf
    exact zg_zret C hz zisB_0 hk dX0_full_21

theorem met_X0_full (l : Launch) (E : PEw) {h : HP} {x0 : Nat} {res : Int} (hf : f_X0_full h x0 = some res) : Met l yX0_full (ws_ yX0_full cX0_full 1 (some .boolean)) (rmP h 0 0) (PP E h [.ref x0]) (QP E h h (some (.int (zI res)))) (pX h - pX h) (pS h - pS h) (eF E) := by
  refine Met.ofW (cc := cX0_full) (maxL := 1) (ret := (some .boolean)) (by decide) rfl ?_
  intro p e s m args below meth c s₁ B hml hv
  obtain ⟨rfl, hP0⟩ := hv
  have hts := atoms_spec (ws := ws_ yX0_full cX0_full 1 (some .boolean)) B.pre
  have hts : ∀ w ∈ lw_all, w.before _ s = true := fun w h => hts w (List.mem_cons_of_mem _ h)
  have C : PC E p s m _ meth c RX0 cX0_full 1 (some .boolean) "full" := ⟨B.exec, B.bytes, B.returns, B.notSynchronized, hml, findClass_of_methodNamed B.named, hts, hP0.2, (name_of_methodNamed B.named B.method).1⟩
  have hz : ZP E s h h s.heap [] := ZG.start hP0.1
  have hl := lv_entry ([.ref x0]) (n := 1) (Nat.le_of_ble_eq_true rfl)
  rw [lg_entry_eq]
  generalize (lg_sl ([.ref x0]) ++ List.replicate (1 - (lg_sl ([.ref x0])).length) Slot.unset).toArray = ls at hl ⊢
  have hl : lv_has ls 1 [(0, .ref x0)] := hl
  refine W.cs (cells' := pX h - pX h) (slots' := pS h - pS h) (Nat.sub_self _).symm (Nat.sub_self _).symm ?_
  exact w_X0_full C ⟨Nat.le_refl _, Nat.le_refl _, RBw.rm⟩ hf hz hl rfl

theorem w_X0_element_46 {p : Program} {l : Launch} {e : Env} {R : Room} {s : State} {m : MethodId} {args : Array Value} {below : List Frame} {meth : Method} {c : Code} {Q : State → Prop} {E : PEw} {h0 h : HP} {H : Heap} {locs : List Loc} (C : PC E p s m args meth c RX0 cX0_element 4 (some (.object "PlainPage$Element")) "element") (hr : 7 ≤ R.frames ∧ 175 ≤ R.locals ∧ RBw R h0) {x0 : Nat} {x1 : Int} {x2 : Int} {res : HP × Option Nat} (hf : f_X0_element_46 h x0 x1 x2 = some res) (hz : ZP E s h0 h H locs) {ls : Array Slot} (hl : lv_has ls 4 [(0, .ref x0), (1, .int (zI x1)), (2, .int (zI x2))]) (hk : KP E below args s Q h0 res.1 (some (va_rf res.2))) : W p l e R s m args below meth c H locs (pX h - pX h0) (pS h - pS h0) Q (F0 m 46 ls []) := by
  unfold f_X0_element_46 at hf
  have hx := C.1
  have hb := C.2.1
  refine lv_aload_n hx hb dX0_element_46 rfl (lv_at hl 0 rfl) ?_
  obtain ⟨hg, hf⟩ := gd_inv hf
  refine zg_getp gP C hz 1 2 (gkp (by decide) hg) (by decide) (by decide) (Or.inl (C.w q402)) (fun _ h => h) dX0_element_47 ?_
  refine lv_aload_n hx hb dX0_element_50 rfl (lv_at hl 0 rfl) ?_
  obtain ⟨hg, hf⟩ := gd_inv hf
  refine zg_geti gP C hz 1 4 (gkp (by decide) hg) (by decide) (by decide) (Or.inl (C.w q404)) (fun _ h => h) dX0_element_51 ?_
  obtain ⟨a1, ea1, hf⟩ := bd_inv hf
  rw [zx_rf ea1]
  obtain ⟨y2, ey2, hf⟩ := bd_inv hf
  refine zj_lGet C hz hr ey2 (rest := []) q553 q554 (C.w q555) q94 q556 hl.1 ⟨Nat.le_trans (by decide) hr.1, Nat.le_trans (by decide) hr.2.1⟩ (Nat.le_of_ble_eq_true rfl) dX0_element_54 (fun H locs hz => ?_)
  obtain ⟨hg, hf⟩ := gd_inv hf
  refine zg_cast2 gP C hz hg q124 dX0_element_57 ?_
  refine lv_astore_n (lv' := [(3, .ref y2), (0, .ref x0), (1, .int (zI x1)), (2, .int (zI x2))]) hx hb dX0_element_60 rfl hl (by decide) rfl (fun ls hl => ?_)
  refine lv_aload_n hx hb dX0_element_61 rfl (lv_at hl 1 rfl) ?_
  refine lv_dup hx hb dX0_element_62 rfl ?_
  obtain ⟨hg, hf⟩ := gd_inv hf
  refine zg_geti gP C hz 1 4 (gkp (by decide) hg) (by decide) (by decide) (Or.inl (C.w q404)) (fun _ h => h) dX0_element_63 ?_
  refine zl_iconst hx hb dX0_element_66 ?_
  refine zl_iadd hx hb dX0_element_67 ?_
  obtain ⟨hg, hf⟩ := gd_inv hf
  obtain ⟨h3, eh3, hf⟩ := bnd_inv hf
  refine zg_puti gP C hz 1 4 (gkp (by decide) hg) (by decide) (by decide) rfl (by decide) (Or.inl (C.w q404)) (fun _ h => h) dX0_element_68 eh3 (fun H locs hz => ?_)
  refine lv_aload_n hx hb dX0_element_71 rfl (lv_at hl 0 rfl) ?_
  refine lv_iload_n hx hb dX0_element_72 rfl (lv_at hl 2 rfl) ?_
  refine lv_iload_n hx hb dX0_element_73 rfl (lv_at hl 3 rfl) ?_
  obtain ⟨hg, hf⟩ := gd_inv hf
  obtain ⟨y4, ey4, hf⟩ := bd_inv hf
  refine zg_callV gP C hz hr (n := 2) (rest := []) (gkp (by decide) hg) (met_X2_begin l E ey4) q325 q326 (C.w q327) q91 q328 (by decide +kernel) ⟨Nat.le_trans (by decide) hr.1, Nat.le_trans (by decide) hr.2.1⟩ rfl hl.1 rfl (Nat.le_of_ble_eq_true rfl) dX0_element_74 (fun H locs hz => ?_)
  refine lv_aload_n hx hb dX0_element_77 rfl (lv_at hl 0 rfl) ?_
  obtain rfl := Option.some.inj hf
  exact zg_aret_o C hz hk dX0_element_78

theorem w_X0_element {p : Program} {l : Launch} {e : Env} {R : Room} {s : State} {m : MethodId} {args : Array Value} {below : List Frame} {meth : Method} {c : Code} {Q : State → Prop} {E : PEw} {h0 h : HP} {H : Heap} {locs : List Loc} (C : PC E p s m args meth c RX0 cX0_element 4 (some (.object "PlainPage$Element")) "element") (hr : 7 ≤ R.frames ∧ 175 ≤ R.locals ∧ RBw R h0) {x0 : Nat} {x1 : Int} {x2 : Int} {res : HP × Option Nat} (hf : f_X0_element h x0 x1 x2 = some res) (hz : ZP E s h0 h H locs) {ls : Array Slot} (hl : lv_has ls 4 [(0, .ref x0), (1, .int (zI x1)), (2, .int (zI x2))]) (hk : KP E below args s Q h0 res.1 (some (va_rf res.2))) : W p l e R s m args below meth c H locs (pX h - pX h0) (pS h - pS h0) Q (F0 m 0 ls []) := by
  unfold f_X0_element at hf
  have hx := C.1
  have hb := C.2.1
  refine lv_aload_n hx hb dX0_element_0 rfl (lv_at hl 0 rfl) ?_
  refine lv_aload_n hx hb dX0_element_1 rfl (lv_at hl 0 rfl) ?_
  obtain ⟨hg, hf⟩ := gd_inv hf
  obtain ⟨y1, ey1, hf⟩ := bd_inv hf
  refine zg_callV gP C hz hr (n := 0) (rest := [.ref x0]) (gkp (by decide) hg) (met_X0_full l E ey1) q669 q671 (C.w qs14) q89 q672 (by decide +kernel) ⟨Nat.le_trans (by decide) hr.1, Nat.le_trans (by decide) hr.2.1⟩ rfl hl.1 rfl (Nat.le_of_ble_eq_true rfl) dX0_element_2 (fun H locs hz => ?_)
  obtain ⟨hg, hf⟩ := gd_inv hf
  obtain ⟨hv, hf⟩ := gd_inv hf
  obtain ⟨h2, eh2, hf⟩ := bnd_inv hf
  refine zg_putb gP C hz 1 7 (gkp (by decide) hg) (by decide) (by decide) rfl (by decide) hv (Or.inl (C.w q407)) (fun _ h => h) dX0_element_5 eh2 (fun H locs hz => ?_)
  refine lv_aload_n hx hb dX0_element_8 rfl (lv_at hl 0 rfl) ?_
  obtain ⟨hg, hf⟩ := gd_inv hf
  refine zg_geti gP C hz 1 7 (gkp (by decide) hg) (by decide) (by decide) (Or.inl (C.w q407)) (fun _ h => h) dX0_element_9 ?_
  refine zl_if_eq (tgt := 17) hx hb dX0_element_12 (by decide) (fun hc => ?_) (fun hc => ?_)
  · rw [if_pos hc] at hf
    refine lv_aload_n hx hb dX0_element_17 rfl (lv_at hl 0 rfl) ?_
    obtain ⟨hg, hf⟩ := gd_inv hf
    refine zg_geti gP C hz 1 4 (gkp (by decide) hg) (by decide) (by decide) (Or.inl (C.w q404)) (fun _ h => h) dX0_element_18 ?_
    refine lv_aload_n hx hb dX0_element_21 rfl (lv_at hl 0 rfl) ?_
    obtain ⟨hg, hf⟩ := gd_inv hf
    refine zg_getp gP C hz 1 2 (gkp (by decide) hg) (by decide) (by decide) (Or.inl (C.w q402)) (fun _ h => h) dX0_element_22 ?_
    obtain ⟨a3, ea3, hf⟩ := bd_inv hf
    rw [zx_rf ea3]
    obtain ⟨y4, ey4, hf⟩ := bd_inv hf
    refine zj_lLen C hz hr ey4 (rest := [.int (zI (pI h2 x0 4))]) q549 q550 (C.w q551) q94 q552 hl.1 ⟨Nat.le_trans (by decide) hr.1, Nat.le_trans (by decide) hr.2.1⟩ (Nat.le_of_ble_eq_true rfl) dX0_element_25 (fun H locs hz => ?_)
    refine zl_icmp_ne (tgt := 46) hx hb dX0_element_28 (by decide) (fun hc => ?_) (fun hc => ?_)
    · rw [if_pos hc] at hf
      refine lv_aload_n hx hb dX0_element_31 rfl (lv_at hl 0 rfl) ?_
      obtain ⟨hg, hf⟩ := gd_inv hf
      refine zg_getp gP C hz 1 2 (gkp (by decide) hg) (by decide) (by decide) (Or.inl (C.w q402)) (fun _ h => h) dX0_element_32 ?_
      obtain ⟨a5, ea5, hf⟩ := bnd_inv hf
      obtain ⟨hg, hf⟩ := gd_inv hf
      obtain ⟨h6, eh6, hf⟩ := bnd_inv hf
      refine zg_new gP C hz hr 2 (by decide) hg q124 q125 q91 dX0_element_35 ea5 eh6 (fun H hz => ?_)
      refine lv_dup hx hb dX0_element_38 rfl ?_
      obtain ⟨y7, ey7, hf⟩ := bd_inv hf
      refine zg_callIN gP C hz hr (n := 0) (rest := [.ref a5, va_rf (pP h2 x0 2)]) (met_X2_init l E ey7) q126 q127 q91 q128 (by decide +kernel) ⟨Nat.le_trans (by decide) hr.1, Nat.le_trans (by decide) hr.2.1⟩ rfl hl.1 rfl (by simp only [List.map_cons, List.map_nil, zx_cat]; exact Nat.le_of_ble_eq_true rfl) dX0_element_39 (fun H locs hz => ?_)
      obtain ⟨a8, ea8, hf⟩ := bd_inv hf
      rw [zx_rf ea8]
      obtain ⟨y9, ey9, hf⟩ := bd_inv hf
      refine zj_lAdd C hz hr ey9 (rest := []) q338 q339 (C.w q340) q94 q341 hl.1 ⟨Nat.le_trans (by decide) hr.1, Nat.le_trans (by decide) hr.2.1⟩ (Nat.le_of_ble_eq_true rfl) dX0_element_42 (fun H locs hz => ?_)
      refine lv_pop hx hb dX0_element_45 rfl ?_
      exact w_X0_element_46 C hr hf hz (lv_sub hl [0, 1, 2] rfl) hk
    · rw [if_neg hc] at hf
      exact w_X0_element_46 C hr hf hz (lv_sub hl [0, 1, 2] rfl) hk
  · rw [if_neg hc] at hf
    refine lv_null hx hb dX0_element_15 ?_
    obtain rfl := Option.some.inj hf
    exact zg_aret_o C hz hk dX0_element_16

theorem met_X0_element (l : Launch) (E : PEw) {h : HP} {x0 : Nat} {x1 : Int} {x2 : Int} {res : HP × Option Nat} (hf : f_X0_element h x0 x1 x2 = some res) : Met l yX0_element (ws_ yX0_element cX0_element 4 (some (.object "PlainPage$Element"))) (rmP h 7 175) (PP E h [.ref x0, .int (zI x1), .int (zI x2)]) (QP E h res.1 (some (va_rf res.2))) (pX res.1 - pX h) (pS res.1 - pS h) (eF E) := by
  refine Met.ofW (cc := cX0_element) (maxL := 4) (ret := (some (.object "PlainPage$Element"))) (by decide) rfl ?_
  intro p e s m args below meth c s₁ B hml hv
  obtain ⟨rfl, hP0⟩ := hv
  have hts := atoms_spec (ws := ws_ yX0_element cX0_element 4 (some (.object "PlainPage$Element"))) B.pre
  have hts : ∀ w ∈ lw_all, w.before _ s = true := fun w h => hts w (List.mem_cons_of_mem _ h)
  have C : PC E p s m _ meth c RX0 cX0_element 4 (some (.object "PlainPage$Element")) "element" := ⟨B.exec, B.bytes, B.returns, B.notSynchronized, hml, findClass_of_methodNamed B.named, hts, hP0.2, (name_of_methodNamed B.named B.method).1⟩
  have hz : ZP E s h h s.heap [] := ZG.start hP0.1
  have hl := lv_entry ([.ref x0, .int (zI x1), .int (zI x2)]) (n := 4) (Nat.le_of_ble_eq_true rfl)
  rw [lg_entry_eq]
  generalize (lg_sl ([.ref x0, .int (zI x1), .int (zI x2)]) ++ List.replicate (4 - (lg_sl ([.ref x0, .int (zI x1), .int (zI x2)])).length) Slot.unset).toArray = ls at hl ⊢
  have hl : lv_has ls 4 [(0, .ref x0), (1, .int (zI x1)), (2, .int (zI x2))] := hl
  refine W.cs (cells' := pX h - pX h) (slots' := pS h - pS h) (Nat.sub_self _).symm (Nat.sub_self _).symm ?_
  exact w_X0_element C ⟨Nat.le_refl _, Nat.le_refl _, RBw.rm⟩ hf hz hl rfl

theorem w_X2_index_2s {p : Program} {l : Launch} {e : Env} {R : Room} {s : State} {m : MethodId} {args : Array Value} {below : List Frame} {meth : Method} {c : Code} {Q : State → Prop} {E : PEw} {h0 h : HP} {H : Heap} {locs : List Loc} (C : PC E p s m args meth c RX2 cX2_index 3 (some .int) "index") (hr : 3 ≤ R.frames ∧ 64 ≤ R.locals ∧ RBw R h0) {x0 : Nat} {x1 : Nat} {x2 : Int} {res : (Int) ⊕ (Int)} (hf : f_X2_index_2s h x0 x1 x2 = some res) (hz : ZP E s h0 h H locs) {ls : Array Slot} (hl : lv_has ls 3 [(0, .ref x0), (1, .ref x1), (2, .int (zI x2))]) (hk : (Sum.elim (fun z => ∀ (H : Heap) (locs : List Loc) (ls : Array Slot), ZP E s h0 h H locs → lv_has ls 3 [(0, .ref x0), (1, .ref x1), (2, .int (zI z))] → W p l e R s m args below meth c H locs (pX h - pX h0) (pS h - pS h0) Q (F0 m 2 ls [])) (fun r => KP E below args s Q h0 h (some (.int (zI r))))) res) : W p l e R s m args below meth c H locs (pX h - pX h0) (pS h - pS h0) Q (F0 m 2 ls []) := by
  unfold f_X2_index_2s at hf
  have hx := C.1
  have hb := C.2.1
  refine lv_iload_n hx hb dX2_index_2 rfl (lv_at hl 2 rfl) ?_
  refine lv_aload_n hx hb dX2_index_3 rfl (lv_at hl 0 rfl) ?_
  obtain ⟨hg, hf⟩ := gd_inv hf
  refine zg_getp gP C hz 2 4 (gkp (by decide) hg) (by decide) (by decide) (Or.inl (C.w q165)) (fun _ h => h) dX2_index_4 ?_
  obtain ⟨a1, ea1, hf⟩ := bd_inv hf
  rw [zx_rf ea1]
  obtain ⟨y2, ey2, hf⟩ := bd_inv hf
  refine zj_lLen C hz hr ey2 (rest := [.int (zI x2)]) q685 q550 (C.w q551) q94 q552 hl.1 ⟨Nat.le_trans (by decide) hr.1, Nat.le_trans (by decide) hr.2.1⟩ (Nat.le_of_ble_eq_true rfl) dX2_index_7 (fun H locs hz => ?_)
  refine zl_icmp_ge (tgt := 31) hx hb dX2_index_10 (by decide) (fun hc => ?_) (fun hc => ?_)
  · rw [if_pos hc] at hf
    refine lv_aload_n hx hb dX2_index_13 rfl (lv_at hl 0 rfl) ?_
    obtain ⟨hg, hf⟩ := gd_inv hf
    refine zg_getp gP C hz 2 4 (gkp (by decide) hg) (by decide) (by decide) (Or.inl (C.w q165)) (fun _ h => h) dX2_index_14 ?_
    refine lv_iload_n hx hb dX2_index_17 rfl (lv_at hl 2 rfl) ?_
    obtain ⟨a3, ea3, hf⟩ := bd_inv hf
    rw [zx_rf ea3]
    obtain ⟨y4, ey4, hf⟩ := bd_inv hf
    refine zj_lGet C hz hr ey4 (rest := []) q686 q554 (C.w q555) q94 q556 hl.1 ⟨Nat.le_trans (by decide) hr.1, Nat.le_trans (by decide) hr.2.1⟩ (Nat.le_of_ble_eq_true rfl) dX2_index_18 (fun H locs hz => ?_)
    refine lv_aload_n hx hb dX2_index_21 rfl (lv_at hl 1 rfl) ?_
    refine zl_acmp_eq (rx := some y4) (ry := some x1) hx hb (tgt := 31) dX2_index_22 (by decide) (fun hc => ?_) (fun hc => ?_)
    · rw [if_pos hc] at hf
      refine lv_iload_n hx hb dX2_index_31 rfl (lv_at hl 2 rfl) ?_
      obtain rfl := Option.some.inj hf
      exact zg_iret C hz hk dX2_index_32
    · rw [if_neg hc] at hf
      refine zl_iinc (x := x2) (n := 1) (lv' := [(2, .int (zI (x2 + 1))), (0, .ref x0), (1, .ref x1)]) (k := 2) hx hb dX2_index_25 hl rfl (by decide) rfl (fun ls hl => ?_)
      refine lv_goto (tgt := 2) hx hb dX2_index_28 (by decide) ?_
      obtain rfl := Option.some.inj hf
      exact hk _ _ _ hz (lv_sub hl [1, 2, 0] rfl)
  · rw [if_neg hc] at hf
    refine lv_iload_n hx hb dX2_index_31 rfl (lv_at hl 2 rfl) ?_
    obtain rfl := Option.some.inj hf
    exact zg_iret C hz hk dX2_index_32

theorem w_X2_index_2 {p : Program} {l : Launch} {e : Env} {R : Room} {s : State} {m : MethodId} {args : Array Value} {below : List Frame} {meth : Method} {c : Code} {Q : State → Prop} {E : PEw} {h0 h : HP} {H : Heap} {locs : List Loc} (C : PC E p s m args meth c RX2 cX2_index 3 (some .int) "index") (hr : 3 ≤ R.frames ∧ 64 ≤ R.locals ∧ RBw R h0) {x0 : Nat} {x1 : Nat} {x2 : Int} {res : Int} (hf : f_X2_index_2 h x0 x1 x2 = some res) (hz : ZP E s h0 h H locs) {ls : Array Slot} (hl : lv_has ls 3 [(0, .ref x0), (1, .ref x1), (2, .int (zI x2))]) (hk : KP E below args s Q h0 h (some (.int (zI res)))) : W p l e R s m args below meth c H locs (pX h - pX h0) (pS h - pS h0) Q (F0 m 2 ls []) := by
  unfold f_X2_index_2 at hf
  refine iter_ind (P := fun z r => ∀ (H : Heap) (locs : List Loc) (ls : Array Slot), ZP E s h0 h H locs → lv_has ls 3 [(0, .ref x0), (1, .ref x1), (2, .int (zI z))] → KP E below args s Q h0 h (some (.int (zI r))) → W p l e R s m args below meth c H locs (pX h - pX h0) (pS h - pS h0) Q (F0 m 2 ls [])) ?_ ?_ hf H locs ls hz hl hk
  · intro z r h1 H locs ls hz hl hk; exact w_X2_index_2s C hr h1 hz hl hk
  · intro z z1 r h1 ih H locs ls hz hl hk; exact w_X2_index_2s C hr h1 hz hl (fun H locs ls hz hl => ih H locs ls hz hl hk)

theorem w_X2_index {p : Program} {l : Launch} {e : Env} {R : Room} {s : State} {m : MethodId} {args : Array Value} {below : List Frame} {meth : Method} {c : Code} {Q : State → Prop} {E : PEw} {h0 h : HP} {H : Heap} {locs : List Loc} (C : PC E p s m args meth c RX2 cX2_index 3 (some .int) "index") (hr : 3 ≤ R.frames ∧ 64 ≤ R.locals ∧ RBw R h0) {x0 : Nat} {x1 : Nat} {res : Int} (hf : f_X2_index h x0 x1 = some res) (hz : ZP E s h0 h H locs) {ls : Array Slot} (hl : lv_has ls 3 [(0, .ref x0), (1, .ref x1)]) (hk : KP E below args s Q h0 h (some (.int (zI res)))) : W p l e R s m args below meth c H locs (pX h - pX h0) (pS h - pS h0) Q (F0 m 0 ls []) := by
  unfold f_X2_index at hf
  have hx := C.1
  have hb := C.2.1
  refine zl_iconst hx hb dX2_index_0 ?_
  refine lv_istore_n (lv' := [(2, .int (zI 0)), (0, .ref x0), (1, .ref x1)]) hx hb dX2_index_1 rfl hl (by decide) rfl (fun ls hl => ?_)
  exact w_X2_index_2 C hr hf hz (lv_sub hl [1, 2, 0] rfl) hk

theorem met_X2_index (l : Launch) (E : PEw) {h : HP} {x0 : Nat} {x1 : Nat} {res : Int} (hf : f_X2_index h x0 x1 = some res) : Met l yX2_index (ws_ yX2_index cX2_index 3 (some .int)) (rmP h 3 64) (PP E h [.ref x0, .ref x1]) (QP E h h (some (.int (zI res)))) (pX h - pX h) (pS h - pS h) (eF E) := by
  refine Met.ofW (cc := cX2_index) (maxL := 3) (ret := (some .int)) (by decide) rfl ?_
  intro p e s m args below meth c s₁ B hml hv
  obtain ⟨rfl, hP0⟩ := hv
  have hts := atoms_spec (ws := ws_ yX2_index cX2_index 3 (some .int)) B.pre
  have hts : ∀ w ∈ lw_all, w.before _ s = true := fun w h => hts w (List.mem_cons_of_mem _ h)
  have C : PC E p s m _ meth c RX2 cX2_index 3 (some .int) "index" := ⟨B.exec, B.bytes, B.returns, B.notSynchronized, hml, findClass_of_methodNamed B.named, hts, hP0.2, (name_of_methodNamed B.named B.method).1⟩
  have hz : ZP E s h h s.heap [] := ZG.start hP0.1
  have hl := lv_entry ([.ref x0, .ref x1]) (n := 3) (Nat.le_of_ble_eq_true rfl)
  rw [lg_entry_eq]
  generalize (lg_sl ([.ref x0, .ref x1]) ++ List.replicate (3 - (lg_sl ([.ref x0, .ref x1])).length) Slot.unset).toArray = ls at hl ⊢
  have hl : lv_has ls 3 [(0, .ref x0), (1, .ref x1)] := hl
  refine W.cs (cells' := pX h - pX h) (slots' := pS h - pS h) (Nat.sub_self _).symm (Nat.sub_self _).symm ?_
  exact w_X2_index C ⟨Nat.le_refl _, Nat.le_refl _, RBw.rm⟩ hf hz hl rfl

