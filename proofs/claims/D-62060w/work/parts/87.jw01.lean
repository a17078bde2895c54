set_option maxRecDepth 100000
theorem w_J0_init {p : Program} {l : Launch} {e : Env} {R : Room} {s : State} {m : MethodId} {args : Array Value} {below : List Frame} {meth : Method} {c : Code} {Q : State → Prop} {E : PEw} {h0 h : HP} {H : Heap} {locs : List Loc} (C : PC E p s m args meth c RJ0 cJ0_init 1 none "<init>") (hr : 1 ≤ R.frames ∧ 20 ≤ R.locals ∧ RBw R h0) {x0 : Nat} {res : Unit} (hf : f_J0_init h x0 = some res) (hz : ZR E s h0 h H locs) {ls : Array Slot} (hl : lv_has ls 1 [(0, .ref x0)]) (hk : KR E below args s Q h0 h none) : W p l e R s m args below meth c H locs (pX h - pX h0) (pS h - pS h0) Q (F0 m 0 ls []) := by
  unfold f_J0_init at hf
  have hx := C.1
  have hb := C.2.1
  refine lv_aload_n hx hb dJ0_init_0 rfl (lv_at hl 0 rfl) ?_
  refine zo_init C q144 ⟨Nat.le_trans (by decide) hr.1, Nat.le_trans (by decide) hr.2.1⟩ hl.1 (Nat.le_of_ble_eq_true rfl) dJ0_init_1 ?_
  obtain rfl := Option.some.inj hf
  exact zg_vret C hz hk dJ0_init_4

theorem met_J0_init (l : Launch) (E : PEw) {h : HP} {x0 : Nat} {res : Unit} (hf : f_J0_init h x0 = some res) : Met l yJ0_init (ws_ yJ0_init cJ0_init 1 none) (rmP h 1 20) (PR E h [.ref x0]) (QR E h h none) (pX h - pX h) (pS h - pS h) (eF E) := by
  refine Met.ofW (cc := cJ0_init) (maxL := 1) (ret := none) (by decide) rfl ?_
  intro p e s m args below meth c s₁ B hml hv
  obtain ⟨rfl, hP0⟩ := hv
  have hts := atoms_spec (ws := ws_ yJ0_init cJ0_init 1 none) B.pre
  have hts : ∀ w ∈ lw_all, w.before _ s = true := fun w h => hts w (List.mem_cons_of_mem _ h)
  have C : PC E p s m _ meth c RJ0 cJ0_init 1 none "<init>" := ⟨B.exec, B.bytes, B.returns, B.notSynchronized, hml, findClass_of_methodNamed B.named, hts, hP0.2, (name_of_methodNamed B.named B.method).1⟩
  have hz : ZR E s h h s.heap [] := ZG.start hP0.1
  have hl := lv_entry ([.ref x0]) (n := 1) (Nat.le_of_ble_eq_true rfl)
  rw [lg_entry_eq]
  generalize (lg_sl ([.ref x0]) ++ List.replicate (1 - (lg_sl ([.ref x0])).length) Slot.unset).toArray = ls at hl ⊢
  have hl : lv_has ls 1 [(0, .ref x0)] := hl
  refine W.cs (cells' := pX h - pX h) (slots' := pS h - pS h) (Nat.sub_self _).symm (Nat.sub_self _).symm ?_
  exact w_J0_init C ⟨Nat.le_refl _, Nat.le_refl _, RBw.rm⟩ hf hz hl rfl

theorem w_J1_init {p : Program} {l : Launch} {e : Env} {R : Room} {s : State} {m : MethodId} {args : Array Value} {below : List Frame} {meth : Method} {c : Code} {Q : State → Prop} {E : PEw} {h0 h : HP} {H : Heap} {locs : List Loc} (C : PC E p s m args meth c RJ1 cJ1_init 1 none "<init>") (hr : 2 ≤ R.frames ∧ 40 ≤ R.locals ∧ RBw R h0) {x0 : Nat} {res : HP} (hf : f_J1_init h x0 = some res) (hz : ZR E s h0 h H locs) {ls : Array Slot} (hl : lv_has ls 1 [(0, .ref x0)]) (hk : KR E below args s Q h0 res none) : W p l e R s m args below meth c H locs (pX h - pX h0) (pS h - pS h0) Q (F0 m 0 ls []) := by
  unfold f_J1_init at hf
  have hx := C.1
  have hb := C.2.1
  refine lv_aload_n hx hb dJ1_init_0 rfl (lv_at hl 0 rfl) ?_
  obtain ⟨y1, ey1, hf⟩ := bd_inv hf
  refine zg_callI gR C hz hr (n := 0) (rest := []) (met_J0_init l E ey1) q141 q142 q92 q143 (by decide +kernel) ⟨Nat.le_trans (by decide) hr.1, Nat.le_trans (by decide) hr.2.1⟩ rfl hl.1 rfl (Nat.le_of_ble_eq_true rfl) dJ1_init_1 (fun H locs hz => ?_)
  refine lv_aload_n hx hb dJ1_init_4 rfl (lv_at hl 0 rfl) ?_
  refine zl_iconst hx hb dJ1_init_5 ?_
  obtain ⟨hg, hf⟩ := gd_inv hf
  obtain ⟨h2, eh2, hf⟩ := bnd_inv hf
  refine zg_puti gR C hz 8 0 (gkl hg) (by decide) (by decide) rfl (by decide) (Or.inl (C.w q149)) (fun _ h => h) dJ1_init_6 eh2 (fun H locs hz => ?_)
  obtain rfl := Option.some.inj hf
  exact zg_vret C hz hk dJ1_init_9

theorem met_J1_init (l : Launch) (E : PEw) {h : HP} {x0 : Nat} {res : HP} (hf : f_J1_init h x0 = some res) : Met l yJ1_init (ws_ yJ1_init cJ1_init 1 none) (rmP h 2 40) (PR E h [.ref x0]) (QR E h res none) (pX res - pX h) (pS res - pS h) (eF E) := by
  refine Met.ofW (cc := cJ1_init) (maxL := 1) (ret := none) (by decide) rfl ?_
  intro p e s m args below meth c s₁ B hml hv
  obtain ⟨rfl, hP0⟩ := hv
  have hts := atoms_spec (ws := ws_ yJ1_init cJ1_init 1 none) B.pre
  have hts : ∀ w ∈ lw_all, w.before _ s = true := fun w h => hts w (List.mem_cons_of_mem _ h)
  have C : PC E p s m _ meth c RJ1 cJ1_init 1 none "<init>" := ⟨B.exec, B.bytes, B.returns, B.notSynchronized, hml, findClass_of_methodNamed B.named, hts, hP0.2, (name_of_methodNamed B.named B.method).1⟩
  have hz : ZR E s h h s.heap [] := ZG.start hP0.1
  have hl := lv_entry ([.ref x0]) (n := 1) (Nat.le_of_ble_eq_true rfl)
  rw [lg_entry_eq]
  generalize (lg_sl ([.ref x0]) ++ List.replicate (1 - (lg_sl ([.ref x0])).length) Slot.unset).toArray = ls at hl ⊢
  have hl : lv_has ls 1 [(0, .ref x0)] := hl
  refine W.cs (cells' := pX h - pX h) (slots' := pS h - pS h) (Nat.sub_self _).symm (Nat.sub_self _).symm ?_
  exact w_J1_init C ⟨Nat.le_refl _, Nat.le_refl _, RBw.rm⟩ hf hz hl rfl

theorem w_J2_init {p : Program} {l : Launch} {e : Env} {R : Room} {s : State} {m : MethodId} {args : Array Value} {below : List Frame} {meth : Method} {c : Code} {Q : State → Prop} {E : PEw} {h0 h : HP} {H : Heap} {locs : List Loc} (C : PC E p s m args meth c RJ2 cJ2_init 1 none "<init>") (hr : 3 ≤ R.frames ∧ 60 ≤ R.locals ∧ RBw R h0) {x0 : Nat} {res : HP} (hf : f_J2_init h x0 = some res) (hz : ZR E s h0 h H locs) {ls : Array Slot} (hl : lv_has ls 1 [(0, .ref x0)]) (hk : KR E below args s Q h0 res none) : W p l e R s m args below meth c H locs (pX h - pX h0) (pS h - pS h0) Q (F0 m 0 ls []) := by
  unfold f_J2_init at hf
  have hx := C.1
  have hb := C.2.1
  refine lv_aload_n hx hb dJ2_init_0 rfl (lv_at hl 0 rfl) ?_
  obtain ⟨y1, ey1, hf⟩ := bd_inv hf
  refine zg_callI gR C hz hr (n := 0) (rest := []) (met_J1_init l E ey1) q138 q139 q93 q140 (by decide +kernel) ⟨Nat.le_trans (by decide) hr.1, Nat.le_trans (by decide) hr.2.1⟩ rfl hl.1 rfl (Nat.le_of_ble_eq_true rfl) dJ2_init_1 (fun H locs hz => ?_)
  refine lv_aload_n hx hb dJ2_init_4 rfl (lv_at hl 0 rfl) ?_
  refine zc_default gR C hz q145 dJ2_init_5 ?_
  obtain ⟨hg, hf⟩ := gd_inv hf
  obtain ⟨h2, eh2, hf⟩ := bnd_inv hf
  refine zg_putp gR C hz 8 1 (gkl hg) (by decide) (by decide) (Or.inr ⟨_, rfl⟩) (by decide) (Or.inl (C.w q147)) (fun _ h => h) dJ2_init_8 eh2 (fun H locs hz => ?_)
  obtain rfl := Option.some.inj hf
  exact zg_vret C hz hk dJ2_init_11

theorem met_J2_init (l : Launch) (E : PEw) {h : HP} {x0 : Nat} {res : HP} (hf : f_J2_init h x0 = some res) : Met l yJ2_init (ws_ yJ2_init cJ2_init 1 none) (rmP h 3 60) (PR E h [.ref x0]) (QR E h res none) (pX res - pX h) (pS res - pS h) (eF E) := by
  refine Met.ofW (cc := cJ2_init) (maxL := 1) (ret := none) (by decide) rfl ?_
  intro p e s m args below meth c s₁ B hml hv
  obtain ⟨rfl, hP0⟩ := hv
  have hts := atoms_spec (ws := ws_ yJ2_init cJ2_init 1 none) B.pre
  have hts : ∀ w ∈ lw_all, w.before _ s = true := fun w h => hts w (List.mem_cons_of_mem _ h)
  have C : PC E p s m _ meth c RJ2 cJ2_init 1 none "<init>" := ⟨B.exec, B.bytes, B.returns, B.notSynchronized, hml, findClass_of_methodNamed B.named, hts, hP0.2, (name_of_methodNamed B.named B.method).1⟩
  have hz : ZR E s h h s.heap [] := ZG.start hP0.1
  have hl := lv_entry ([.ref x0]) (n := 1) (Nat.le_of_ble_eq_true rfl)
  rw [lg_entry_eq]
  generalize (lg_sl ([.ref x0]) ++ List.replicate (1 - (lg_sl ([.ref x0])).length) Slot.unset).toArray = ls at hl ⊢
  have hl : lv_has ls 1 [(0, .ref x0)] := hl
  refine W.cs (cells' := pX h - pX h) (slots' := pS h - pS h) (Nat.sub_self _).symm (Nat.sub_self _).symm ?_
  exact w_J2_init C ⟨Nat.le_refl _, Nat.le_refl _, RBw.rm⟩ hf hz hl rfl

theorem w_J4_init {p : Program} {l : Launch} {e : Env} {R : Room} {s : State} {m : MethodId} {args : Array Value} {below : List Frame} {meth : Method} {c : Code} {Q : State → Prop} {E : PEw} {h0 h : HP} {H : Heap} {locs : List Loc} (C : PC E p s m args meth c RJ4 cJ4_init 2 none "<init>") (hr : 1 ≤ R.frames ∧ 20 ≤ R.locals ∧ RBw R h0) {x0 : Nat} {x1 : Int} {res : HP} (hf : f_J4_init h x0 x1 = some res) (hz : ZR E s h0 h H locs) {ls : Array Slot} (hl : lv_has ls 2 [(0, .ref x0), (1, .int (zI x1))]) (hk : KR E below args s Q h0 res none) : W p l e R s m args below meth c H locs (pX h - pX h0) (pS h - pS h0) Q (F0 m 0 ls []) := by
  unfold f_J4_init at hf
  have hx := C.1
  have hb := C.2.1
  refine lv_aload_n hx hb dJ4_init_0 rfl (lv_at hl 0 rfl) ?_
  refine zo_init C q254 ⟨Nat.le_trans (by decide) hr.1, Nat.le_trans (by decide) hr.2.1⟩ hl.1 (Nat.le_of_ble_eq_true rfl) dJ4_init_1 ?_
  refine zc_compact C hz q255 dJ4_init_4 ?_
  refine zl_if_eq (tgt := 25) hx hb dJ4_init_7 (by decide) (fun hc => ?_) (fun hc => ?_)
  · rw [if_pos hc] at hf
    cases hf
  · rw [if_neg hc] at hf
    refine lv_aload_n hx hb dJ4_init_10 rfl (lv_at hl 0 rfl) ?_
    refine lv_iload_n hx hb dJ4_init_11 rfl (lv_at hl 1 rfl) ?_
    obtain ⟨a1, ea1, hf⟩ := bnd_inv hf
    obtain ⟨hg, hf⟩ := gd_inv hf
    obtain ⟨h2, eh2, hf⟩ := bnd_inv hf
    refine zg_newa_byte gR C hz hr (by decide) hg dJ4_init_12 ea1 eh2 (fun H hz => ?_)
    obtain ⟨hg, hf⟩ := gd_inv hf
    obtain ⟨h3, eh3, hf⟩ := bnd_inv hf
    refine zg_putp gR C hz 9 0 (gks hg) (by decide) (by decide) (Or.inr ⟨_, rfl⟩) (by decide) (Or.inl (C.w q264)) (fun _ h => h) dJ4_init_14 eh3 (fun H locs hz => ?_)
    refine lv_aload_n hx hb dJ4_init_17 rfl (lv_at hl 0 rfl) ?_
    refine zl_iconst hx hb dJ4_init_18 ?_
    obtain ⟨hg, hf⟩ := gd_inv hf
    obtain ⟨h4, eh4, hf⟩ := bnd_inv hf
    refine zg_puty gR C hz 9 1 (gks hg) (by decide) (by decide) rfl (by decide) zisY_0 (Or.inl (C.w q265)) (fun _ h => h) dJ4_init_19 eh4 (fun H locs hz => ?_)
    refine lv_goto (tgt := 38) hx hb dJ4_init_22 (by decide) ?_
    obtain rfl := Option.some.inj hf
    exact zg_vret C hz hk dJ4_init_38

theorem met_J4_init (l : Launch) (E : PEw) {h : HP} {x0 : Nat} {x1 : Int} {res : HP} (hf : f_J4_init h x0 x1 = some res) : Met l yJ4_init (ws_ yJ4_init cJ4_init 2 none) (rmP h 1 20) (PR E h [.ref x0, .int (zI x1)]) (QR E h res none) (pX res - pX h) (pS res - pS h) (eF E) := by
  refine Met.ofW (cc := cJ4_init) (maxL := 2) (ret := none) (by decide) rfl ?_
  intro p e s m args below meth c s₁ B hml hv
  obtain ⟨rfl, hP0⟩ := hv
  have hts := atoms_spec (ws := ws_ yJ4_init cJ4_init 2 none) B.pre
  have hts : ∀ w ∈ lw_all, w.before _ s = true := fun w h => hts w (List.mem_cons_of_mem _ h)
  have C : PC E p s m _ meth c RJ4 cJ4_init 2 none "<init>" := ⟨B.exec, B.bytes, B.returns, B.notSynchronized, hml, findClass_of_methodNamed B.named, hts, hP0.2, (name_of_methodNamed B.named B.method).1⟩
  have hz : ZR E s h h s.heap [] := ZG.start hP0.1
  have hl := lv_entry ([.ref x0, .int (zI x1)]) (n := 2) (Nat.le_of_ble_eq_true rfl)
  rw [lg_entry_eq]
  generalize (lg_sl ([.ref x0, .int (zI x1)]) ++ List.replicate (2 - (lg_sl ([.ref x0, .int (zI x1)])).length) Slot.unset).toArray = ls at hl ⊢
  have hl : lv_has ls 2 [(0, .ref x0), (1, .int (zI x1))] := hl
  refine W.cs (cells' := pX h - pX h) (slots' := pS h - pS h) (Nat.sub_self _).symm (Nat.sub_self _).symm ?_
  exact w_J4_init C ⟨Nat.le_refl _, Nat.le_refl _, RBw.rm⟩ hf hz hl rfl

theorem w_J5_init {p : Program} {l : Launch} {e : Env} {R : Room} {s : State} {m : MethodId} {args : Array Value} {below : List Frame} {meth : Method} {c : Code} {Q : State → Prop} {E : PEw} {h0 h : HP} {H : Heap} {locs : List Loc} (C : PC E p s m args meth c RJ5 cJ5_init 1 none "<init>") (hr : 2 ≤ R.frames ∧ 41 ≤ R.locals ∧ RBw R h0) {x0 : Nat} {res : HP} (hf : f_J5_init h x0 = some res) (hz : ZR E s h0 h H locs) {ls : Array Slot} (hl : lv_has ls 1 [(0, .ref x0)]) (hk : KR E below args s Q h0 res none) : W p l e R s m args below meth c H locs (pX h - pX h0) (pS h - pS h0) Q (F0 m 0 ls []) := by
  unfold f_J5_init at hf
  have hx := C.1
  have hb := C.2.1
  refine lv_aload_n hx hb dJ5_init_0 rfl (lv_at hl 0 rfl) ?_
  refine zl_bipush hx hb dJ5_init_1 (by decide) ?_
  obtain ⟨y1, ey1, hf⟩ := bd_inv hf
  refine zg_callI gR C hz hr (n := 1) (rest := []) (met_J4_init l E ey1) q251 q252 q98 q253 (by decide +kernel) ⟨Nat.le_trans (by decide) hr.1, Nat.le_trans (by decide) hr.2.1⟩ rfl hl.1 rfl (Nat.le_of_ble_eq_true rfl) dJ5_init_3 (fun H locs hz => ?_)
  obtain rfl := Option.some.inj hf
  exact zg_vret C hz hk dJ5_init_6

theorem met_J5_init (l : Launch) (E : PEw) {h : HP} {x0 : Nat} {res : HP} (hf : f_J5_init h x0 = some res) : Met l yJ5_init (ws_ yJ5_init cJ5_init 1 none) (rmP h 2 41) (PR E h [.ref x0]) (QR E h res none) (pX res - pX h) (pS res - pS h) (eF E) := by
  refine Met.ofW (cc := cJ5_init) (maxL := 1) (ret := none) (by decide) rfl ?_
  intro p e s m args below meth c s₁ B hml hv
  obtain ⟨rfl, hP0⟩ := hv
  have hts := atoms_spec (ws := ws_ yJ5_init cJ5_init 1 none) B.pre
  have hts : ∀ w ∈ lw_all, w.before _ s = true := fun w h => hts w (List.mem_cons_of_mem _ h)
  have C : PC E p s m _ meth c RJ5 cJ5_init 1 none "<init>" := ⟨B.exec, B.bytes, B.returns, B.notSynchronized, hml, findClass_of_methodNamed B.named, hts, hP0.2, (name_of_methodNamed B.named B.method).1⟩
  have hz : ZR E s h h s.heap [] := ZG.start hP0.1
  have hl := lv_entry ([.ref x0]) (n := 1) (Nat.le_of_ble_eq_true rfl)
  rw [lg_entry_eq]
  generalize (lg_sl ([.ref x0]) ++ List.replicate (1 - (lg_sl ([.ref x0])).length) Slot.unset).toArray = ls at hl ⊢
  have hl : lv_has ls 1 [(0, .ref x0)] := hl
  refine W.cs (cells' := pX h - pX h) (slots' := pS h - pS h) (Nat.sub_self _).symm (Nat.sub_self _).symm ?_
  exact w_J5_init C ⟨Nat.le_refl _, Nat.le_refl _, RBw.rm⟩ hf hz hl rfl

theorem w_J2_clear_27s {p : Program} {l : Launch} {e : Env} {R : Room} {s : State} {m : MethodId} {args : Array Value} {below : List Frame} {meth : Method} {c : Code} {Q : State → Prop} {E : PEw} {h0 h : HP} {H : Heap} {locs : List Loc} (C : PC E p s m args meth c RJ2 cJ2_clear 4 none "clear") (hr : 0 ≤ R.frames ∧ 0 ≤ R.locals ∧ RBw R h0) {x1 : Option Nat} {x2 : Int} {x3 : Int} {res : (HP × Int) ⊕ (HP)} (hf : f_J2_clear_27s h x1 x2 x3 = some res) (hz : ZR E s h0 h H locs) {ls : Array Slot} (hl : lv_has ls 4 [(1, va_rf x1), (2, .int (zI x2)), (3, .int (zI x3))]) (hk : (Sum.elim (fun z => ∀ (H : Heap) (locs : List Loc) (ls : Array Slot), ZR E s h0 z.1 H locs → lv_has ls 4 [(1, va_rf x1), (2, .int (zI x2)), (3, .int (zI z.2))] → W p l e R s m args below meth c H locs (pX z.1 - pX h0) (pS z.1 - pS h0) Q (F0 m 27 ls [])) (fun r => KR E below args s Q h0 r none)) res) : W p l e R s m args below meth c H locs (pX h - pX h0) (pS h - pS h0) Q (F0 m 27 ls []) := by
  unfold f_J2_clear_27s at hf
  have hx := C.1
  have hb := C.2.1
  refine lv_iload_n hx hb dJ2_clear_27 rfl (lv_at hl 2 rfl) ?_
  refine lv_iload_n hx hb dJ2_clear_28 rfl (lv_at hl 1 rfl) ?_
  refine zl_icmp_ge (tgt := 42) hx hb dJ2_clear_29 (by decide) (fun hc => ?_) (fun hc => ?_)
  · rw [if_pos hc] at hf
    refine zl_aload_n_o hx hb dJ2_clear_32 rfl (lv_at hl 0 rfl) ?_
    refine lv_iload_n hx hb dJ2_clear_33 rfl (lv_at hl 2 rfl) ?_
    refine lv_null hx hb dJ2_clear_34 ?_
    obtain ⟨a1, ea1, hf⟩ := bd_inv hf
    rw [zx_rf ea1]
    obtain ⟨hg, hf⟩ := gd_inv hf
    obtain ⟨hi, hf⟩ := gd_inv hf
    obtain ⟨ho, hf⟩ := gd_inv hf
    obtain ⟨h2, eh2, hf⟩ := bnd_inv hf
    refine zg_aast gR (by decide) C hz hg hi ho dJ2_clear_35 eh2 (fun H locs hz => ?_)
    refine zl_iinc (x := x3) (n := 1) (lv' := [(3, .int (zI (x3 + 1))), (1, va_rf x1), (2, .int (zI x2))]) (k := 2) hx hb dJ2_clear_36 hl rfl (by decide) rfl (fun ls hl => ?_)
    refine lv_goto (tgt := 27) hx hb dJ2_clear_39 (by decide) ?_
    obtain rfl := Option.some.inj hf
    exact hk _ _ _ hz (lv_sub hl [1, 2, 0] rfl)
  · rw [if_neg hc] at hf
    obtain rfl := Option.some.inj hf
    exact zg_vret C hz hk dJ2_clear_42

theorem w_J2_clear_27 {p : Program} {l : Launch} {e : Env} {R : Room} {s : State} {m : MethodId} {args : Array Value} {below : List Frame} {meth : Method} {c : Code} {Q : State → Prop} {E : PEw} {h0 h : HP} {H : Heap} {locs : List Loc} (C : PC E p s m args meth c RJ2 cJ2_clear 4 none "clear") (hr : 0 ≤ R.frames ∧ 0 ≤ R.locals ∧ RBw R h0) {x1 : Option Nat} {x2 : Int} {x3 : Int} {res : HP} (hf : f_J2_clear_27 h x1 x2 x3 = some res) (hz : ZR E s h0 h H locs) {ls : Array Slot} (hl : lv_has ls 4 [(1, va_rf x1), (2, .int (zI x2)), (3, .int (zI x3))]) (hk : KR E below args s Q h0 res none) : W p l e R s m args below meth c H locs (pX h - pX h0) (pS h - pS h0) Q (F0 m 27 ls []) := by
  unfold f_J2_clear_27 at hf
  refine iter_ind (P := fun z r => ∀ (H : Heap) (locs : List Loc) (ls : Array Slot), ZR E s h0 z.1 H locs → lv_has ls 4 [(1, va_rf x1), (2, .int (zI x2)), (3, .int (zI z.2))] → KR E below args s Q h0 r none → W p l e R s m args below meth c H locs (pX z.1 - pX h0) (pS z.1 - pS h0) Q (F0 m 27 ls [])) ?_ ?_ hf H locs ls hz hl hk
  · intro z r h1 H locs ls hz hl hk; exact w_J2_clear_27s C hr h1 hz hl hk
  · intro z z1 r h1 ih H locs ls hz hl hk; exact w_J2_clear_27s C hr h1 hz hl (fun H locs ls hz hl => ih H locs ls hz hl hk)

theorem w_J2_clear {p : Program} {l : Launch} {e : Env} {R : Room} {s : State} {m : MethodId} {args : Array Value} {below : List Frame} {meth : Method} {c : Code} {Q : State → Prop} {E : PEw} {h0 h : HP} {H : Heap} {locs : List Loc} (C : PC E p s m args meth c RJ2 cJ2_clear 4 none "clear") (hr : 0 ≤ R.frames ∧ 0 ≤ R.locals ∧ RBw R h0) {x0 : Nat} {res : HP} (hf : f_J2_clear h x0 = some res) (hz : ZR E s h0 h H locs) {ls : Array Slot} (hl : lv_has ls 4 [(0, .ref x0)]) (hk : KR E below args s Q h0 res none) : W p l e R s m args below meth c H locs (pX h - pX h0) (pS h - pS h0) Q (F0 m 0 ls []) := by
  unfold f_J2_clear at hf
  have hx := C.1
  have hb := C.2.1
  refine lv_aload_n hx hb dJ2_clear_0 rfl (lv_at hl 0 rfl) ?_
  refine lv_dup hx hb dJ2_clear_1 rfl ?_
  obtain ⟨hg, hf⟩ := gd_inv hf
  refine zg_geti gR C hz 8 0 (gkl hg) (by decide) (by decide) (Or.inl (C.w q150)) (C.sm q151) dJ2_clear_2 ?_
  refine zl_iconst hx hb dJ2_clear_5 ?_
  refine zl_iadd hx hb dJ2_clear_6 ?_
  obtain ⟨hg, hf⟩ := gd_inv hf
  obtain ⟨h1, eh1, hf⟩ := bnd_inv hf
  refine zg_puti gR C hz 8 0 (gkl hg) (by decide) (by decide) rfl (by decide) (Or.inl (C.w q150)) (C.sm q151) dJ2_clear_7 eh1 (fun H locs hz => ?_)
  refine lv_aload_n hx hb dJ2_clear_10 rfl (lv_at hl 0 rfl) ?_
  obtain ⟨hg, hf⟩ := gd_inv hf
  refine zg_getp gR C hz 8 1 (gkl hg) (by decide) (by decide) (Or.inl (C.w q147)) (fun _ h => h) dJ2_clear_11 ?_
  obtain ⟨y2, ey2, hf⟩ := bnd_inv hf
  refine zl_topo ey2 ?_
  refine zl_astore_n_o (lv' := [(1, va_rf y2), (0, .ref x0)]) hx hb dJ2_clear_14 rfl hl (by decide) rfl (fun ls hl => ?_)
  refine lv_aload_n hx hb dJ2_clear_15 rfl (lv_at hl 1 rfl) ?_
  obtain ⟨hg, hf⟩ := gd_inv hf
  refine zg_geti gR C hz 8 2 (gkl hg) (by decide) (by decide) (Or.inl (C.w q148)) (fun _ h => h) dJ2_clear_16 ?_
  obtain ⟨y3, ey3, hf⟩ := bnd_inv hf
  refine zl_topi ey3 ?_
  refine lv_istore_n (lv' := [(2, .int (zI y3)), (1, va_rf y2), (0, .ref x0)]) hx hb dJ2_clear_19 rfl hl (by decide) (by simp [zx_cat]) (fun ls hl => ?_)
  refine lv_aload_n hx hb dJ2_clear_20 rfl (lv_at hl 2 rfl) ?_
  refine zl_iconst hx hb dJ2_clear_21 ?_
  refine lv_dup_x1 hx hb dJ2_clear_22 rfl rfl ?_
  obtain ⟨hg, hf⟩ := gd_inv hf
  obtain ⟨h4, eh4, hf⟩ := bnd_inv hf
  refine zg_puti gR C hz 8 2 (gkl hg) (by decide) (by decide) rfl (by decide) (Or.inl (C.w q148)) (fun _ h => h) dJ2_clear_23 eh4 (fun H locs hz => ?_)
  refine lv_istore_n (lv' := [(3, .int (zI 0)), (2, .int (zI y3)), (1, va_rf y2), (0, .ref x0)]) hx hb dJ2_clear_26 rfl hl (by decide) rfl (fun ls hl => ?_)
  exact w_J2_clear_27 C hr hf hz (lv_sub hl [2, 1, 0] rfl) hk

theorem met_J2_clear (l : Launch) (E : PEw) {h : HP} {x0 : Nat} {res : HP} (hf : f_J2_clear h x0 = some res) : Met l yJ2_clear (ws_ yJ2_clear cJ2_clear 4 none) (rmP h 0 0) (PR E h [.ref x0]) (QR E h res none) (pX res - pX h) (pS res - pS h) (eF E) := by
  refine Met.ofW (cc := cJ2_clear) (maxL := 4) (ret := none) (by decide) rfl ?_
  intro p e s m args below meth c s₁ B hml hv
  obtain ⟨rfl, hP0⟩ := hv
  have hts := atoms_spec (ws := ws_ yJ2_clear cJ2_clear 4 none) B.pre
  have hts : ∀ w ∈ lw_all, w.before _ s = true := fun w h => hts w (List.mem_cons_of_mem _ h)
  have C : PC E p s m _ meth c RJ2 cJ2_clear 4 none "clear" := ⟨B.exec, B.bytes, B.returns, B.notSynchronized, hml, findClass_of_methodNamed B.named, hts, hP0.2, (name_of_methodNamed B.named B.method).1⟩
  have hz : ZR E s h h s.heap [] := ZG.start hP0.1
  have hl := lv_entry ([.ref x0]) (n := 4) (Nat.le_of_ble_eq_true rfl)
  rw [lg_entry_eq]
  generalize (lg_sl ([.ref x0]) ++ List.replicate (4 - (lg_sl ([.ref x0])).length) Slot.unset).toArray = ls at hl ⊢
  have hl : lv_has ls 4 [(0, .ref x0)] := hl
  refine W.cs (cells' := pX h - pX h) (slots' := pS h - pS h) (Nat.sub_self _).symm (Nat.sub_self _).symm ?_
  exact w_J2_clear C ⟨Nat.le_refl _, Nat.le_refl _, RBw.rm⟩ hf hz hl rfl

theorem w_J8_newLength {p : Program} {l : Launch} {e : Env} {R : Room} {s : State} {m : MethodId} {args : Array Value} {below : List Frame} {meth : Method} {c : Code} {Q : State → Prop} (C : SC' p s m args meth c RJ8 cJ8_newLength 4 (some .int)) (hr : 1 ≤ R.frames ∧ 21 ≤ R.locals) {x0 : Int} {x1 : Int} {x2 : Int} {res : Int} (hf : f_J8_newLength x0 x1 x2 = some res) {ls : Array Slot} (hl : lv_has ls 4 [(0, .int (zI x0)), (1, .int (zI x1)), (2, .int (zI x2))]) (hk : KS below args s Q (some (.int (zI res)))) : W p l e R s m args below meth c s.heap [] 0 0 Q (F0 m 0 ls []) := by
  unfold f_J8_newLength at hf
  have hx := C.1
  have hb := C.2.1
  refine lv_iload_n hx hb dJ8_newLength_0 rfl (lv_at hl 0 rfl) ?_
  refine lv_iload_n hx hb dJ8_newLength_1 rfl (lv_at hl 1 rfl) ?_
  refine lv_iload_n hx hb dJ8_newLength_2 rfl (lv_at hl 2 rfl) ?_
  refine zl_mmax hx hb C.2.2.2.2.1 hl.1 C.2.2.2.2.2.1 (fun _ h => C.w h) q357 ⟨Nat.le_trans (by decide) hr.1, Nat.le_trans (by decide) hr.2⟩ (Nat.le_of_ble_eq_true rfl) (Nat.zero_le _) (Nat.zero_le _) dJ8_newLength_3 ?_
  refine zl_iadd hx hb dJ8_newLength_6 ?_
  obtain ⟨y1, ey1, hf⟩ := bnd_inv hf
  refine zl_topi ey1 ?_
  refine lv_istore_n (lv' := [(3, .int (zI y1)), (0, .int (zI x0)), (1, .int (zI x1)), (2, .int (zI x2))]) hx hb dJ8_newLength_7 rfl hl (by decide) rfl (fun ls hl => ?_)
  refine zl_iconst hx hb dJ8_newLength_8 ?_
  refine lv_iload_n hx hb dJ8_newLength_9 rfl (lv_at hl 0 rfl) ?_
  refine zl_icmp_ge (tgt := 21) hx hb dJ8_newLength_10 (by decide) (fun hc => ?_) (fun hc => ?_)
  · rw [if_pos hc] at hf
    refine lv_iload_n hx hb dJ8_newLength_13 rfl (lv_at hl 0 rfl) ?_
    refine zl_ldc (v := 2147483639) hx hb C.2.2.2.2.2.1 (C.w q360) dJ8_newLength_14 ?_
    refine zl_icmp_gt (tgt := 21) hx hb dJ8_newLength_16 (by decide) (fun hc => ?_) (fun hc => ?_)
    · rw [if_pos hc] at hf
      cases hf
    · rw [if_neg hc] at hf
      refine lv_iload_n hx hb dJ8_newLength_19 rfl (lv_at hl 0 rfl) ?_
      obtain rfl := Option.some.inj hf
      exact zt_iret C hk dJ8_newLength_20
  · rw [if_neg hc] at hf
    cases hf

theorem met_J8_newLength (l : Launch) {x0 : Int} {x1 : Int} {x2 : Int} {res : Int} (hf : f_J8_newLength x0 x1 x2 = some res) : Met l yJ8_newLength (ws_ yJ8_newLength cJ8_newLength 4 (some .int)) ({ frames := 1, cells := 0, slots := 0, locals := 21 }) (va_Pc [.int (zI x0), .int (zI x1), .int (zI x2)] (fun _ => True)) (QS (some (.int (zI res)))) 0 0 (fun _ => False) := by
  refine Met.ofW (cc := cJ8_newLength) (maxL := 4) (ret := (some .int)) (by decide) rfl ?_
  intro p e s m args below meth c s₁ B hml hv
  obtain ⟨rfl, -⟩ := hv
  have hts := atoms_spec (ws := ws_ yJ8_newLength cJ8_newLength 4 (some .int)) B.pre
  have hts : ∀ w ∈ lw_all, w.before _ s = true := fun w h => hts w (List.mem_cons_of_mem _ h)
  have C : SC' p s m _ meth c RJ8 cJ8_newLength 4 (some .int) := ⟨B.exec, B.bytes, B.returns, B.notSynchronized, hml, findClass_of_methodNamed B.named, hts⟩
  have hl := lv_entry ([.int (zI x0), .int (zI x1), .int (zI x2)]) (n := 4) (Nat.le_of_ble_eq_true rfl)
  rw [lg_entry_eq]
  generalize (lg_sl ([.int (zI x0), .int (zI x1), .int (zI x2)]) ++ List.replicate (4 - (lg_sl ([.int (zI x0), .int (zI x1), .int (zI x2)])).length) Slot.unset).toArray = ls at hl ⊢
  have hl : lv_has ls 4 [(0, .int (zI x0)), (1, .int (zI x1)), (2, .int (zI x2))] := hl
  exact w_J8_newLength C ⟨Nat.le_refl _, Nat.le_refl _⟩ hf hl rfl

theorem w_J10_copyOf_2_24 {p : Program} {l : Launch} {e : Env} {R : Room} {s : State} {m : MethodId} {args : Array Value} {below : List Frame} {meth : Method} {c : Code} {Q : State → Prop} {E : PEw} {h0 h : HP} {H : Heap} {locs : List Loc} (C : PC E p s m args meth c RJ10 cJ10_copyOf_2 4 (some (.array (.object "java/lang/Object"))) "copyOf") (hr : 1 ≤ R.frames ∧ 44 ≤ R.locals ∧ RBw R h0) {x0 : Nat} {x1 : Int} {t0 : Nat} {res : HP × Nat} (hf : f_J10_copyOf_2_24 h x0 x1 t0 = some res) (hz : ZR E s h0 h H locs) {ls : Array Slot} (hl : lv_has ls 4 [(0, .ref x0), (1, .int (zI x1))]) (hk : KR E below args s Q h0 res.1 (some (.ref res.2))) : W p l e R s m args below meth c H locs (pX h - pX h0) (pS h - pS h0) Q (F0 m 24 ls [.ref t0]) := by
  unfold f_J10_copyOf_2_24 at hf
  have hx := C.1
  have hb := C.2.1
  refine lv_astore_n (lv' := [(3, .ref t0), (0, .ref x0), (1, .int (zI x1))]) hx hb dJ10_copyOf_2_24 rfl hl (by decide) rfl (fun ls hl => ?_)
  refine lv_aload_n hx hb dJ10_copyOf_2_25 rfl (lv_at hl 1 rfl) ?_
  refine zl_iconst hx hb dJ10_copyOf_2_26 ?_
  refine lv_aload_n hx hb dJ10_copyOf_2_27 rfl (lv_at hl 0 rfl) ?_
  refine zl_iconst hx hb dJ10_copyOf_2_28 ?_
  refine lv_aload_n hx hb dJ10_copyOf_2_29 rfl (lv_at hl 1 rfl) ?_
  obtain ⟨hg, hf⟩ := gd_inv hf
  refine zg_alenR gR C hz hg dJ10_copyOf_2_30 ?_
  refine lv_iload_n hx hb dJ10_copyOf_2_31 rfl (lv_at hl 2 rfl) ?_
  refine zl_mmin hx hb C.2.2.2.2.1 hl.1 C.2.2.2.2.2.1 (fun _ h => C.w h) q388 ⟨Nat.le_trans (by decide) hr.1, Nat.le_trans (by decide) hr.2.1⟩ (Nat.le_of_ble_eq_true rfl) (RBw.have gR hz hr).1 (RBw.have gR hz hr).2 dJ10_copyOf_2_32 ?_
  obtain ⟨hg, hf⟩ := gd_inv hf
  obtain ⟨h1, eh1, hf⟩ := bnd_inv hf
  refine zg_copyP gR C hz hg q391 hl.1 ⟨Nat.le_trans (by decide) hr.1, Nat.le_trans (by decide) hr.2.1⟩ (Nat.le_of_ble_eq_true rfl) dJ10_copyOf_2_35 eh1 (fun H locs hz => ?_)
  refine lv_aload_n hx hb dJ10_copyOf_2_38 rfl (lv_at hl 0 rfl) ?_
  obtain rfl := Option.some.inj hf
  exact zg_aret C hz hk dJ10_copyOf_2_39

theorem w_J10_copyOf_2 {p : Program} {l : Launch} {e : Env} {R : Room} {s : State} {m : MethodId} {args : Array Value} {below : List Frame} {meth : Method} {c : Code} {Q : State → Prop} {E : PEw} {h0 h : HP} {H : Heap} {locs : List Loc} (C : PC E p s m args meth c RJ10 cJ10_copyOf_2 4 (some (.array (.object "java/lang/Object"))) "copyOf") (hr : 1 ≤ R.frames ∧ 44 ≤ R.locals ∧ RBw R h0) {x0 : Nat} {x1 : Int} {x2 : Nat} {res : HP × Nat} (hf : f_J10_copyOf_2 h x0 x1 x2 = some res) (hz : ZR E s h0 h H locs) {ls : Array Slot} (hl : lv_has ls 4 [(0, .ref x0), (1, .int (zI x1)), (2, .ref x2)]) (hk : KR E below args s Q h0 res.1 (some (.ref res.2))) : W p l e R s m args below meth c H locs (pX h - pX h0) (pS h - pS h0) Q (F0 m 0 ls []) := by
  unfold f_J10_copyOf_2 at hf
  have hx := C.1
  have hb := C.2.1
  refine lv_aload_n hx hb dJ10_copyOf_2_0 rfl (lv_at hl 2 rfl) ?_
  refine zc_ldcM gR C hz q385 dJ10_copyOf_2_1 ?_
  refine zl_acmp_ne (rx := some x2) (ry := some (pM h)) hx hb (tgt := 13) dJ10_copyOf_2_3 (by decide) (fun hc => ?_) (fun hc => ?_)
  · rw [if_pos hc] at hf
    refine lv_iload_n hx hb dJ10_copyOf_2_6 rfl (lv_at hl 1 rfl) ?_
    obtain ⟨a1, ea1, hf⟩ := bnd_inv hf
    obtain ⟨hg, hf⟩ := gd_inv hf
    obtain ⟨h2, eh2, hf⟩ := bnd_inv hf
    refine zg_newq50 gR C hz hr (by decide) hg q387 dJ10_copyOf_2_7 ea1 eh2 (fun H hz => ?_)
    refine lv_goto (tgt := 24) hx hb dJ10_copyOf_2_10 (by decide) ?_
    exact w_J10_copyOf_2_24 C hr hf hz (lv_sub hl [0, 1] rfl) hk
  · rw [if_neg hc] at hf
    cases hf

theorem met_J10_copyOf_2 (l : Launch) (E : PEw) {h : HP} {x0 : Nat} {x1 : Int} {x2 : Nat} {res : HP × Nat} (hf : f_J10_copyOf_2 h x0 x1 x2 = some res) : Met l yJ10_copyOf_2 (ws_ yJ10_copyOf_2 cJ10_copyOf_2 4 (some (.array (.object "java/lang/Object")))) (rmP h 1 44) (PR E h [.ref x0, .int (zI x1), .ref x2]) (QR E h res.1 (some (.ref res.2))) (pX res.1 - pX h) (pS res.1 - pS h) (eF E) := by
  refine Met.ofW (cc := cJ10_copyOf_2) (maxL := 4) (ret := (some (.array (.object "java/lang/Object")))) (by decide) rfl ?_
  intro p e s m args below meth c s₁ B hml hv
  obtain ⟨rfl, hP0⟩ := hv
  have hts := atoms_spec (ws := ws_ yJ10_copyOf_2 cJ10_copyOf_2 4 (some (.array (.object "java/lang/Object")))) B.pre
  have hts : ∀ w ∈ lw_all, w.before _ s = true := fun w h => hts w (List.mem_cons_of_mem _ h)
  have C : PC E p s m _ meth c RJ10 cJ10_copyOf_2 4 (some (.array (.object "java/lang/Object"))) "copyOf" := ⟨B.exec, B.bytes, B.returns, B.notSynchronized, hml, findClass_of_methodNamed B.named, hts, hP0.2, (name_of_methodNamed B.named B.method).1⟩
  have hz : ZR E s h h s.heap [] := ZG.start hP0.1
  have hl := lv_entry ([.ref x0, .int (zI x1), .ref x2]) (n := 4) (Nat.le_of_ble_eq_true rfl)
  rw [lg_entry_eq]
  generalize (lg_sl ([.ref x0, .int (zI x1), .ref x2]) ++ List.replicate (4 - (lg_sl ([.ref x0, .int (zI x1), .ref x2])).length) Slot.unset).toArray = ls at hl ⊢
  have hl : lv_has ls 4 [(0, .ref x0), (1, .int (zI x1)), (2, .ref x2)] := hl
  refine W.cs (cells' := pX h - pX h) (slots' := pS h - pS h) (Nat.sub_self _).symm (Nat.sub_self _).symm ?_
  exact w_J10_copyOf_2 C ⟨Nat.le_refl _, Nat.le_refl _, RBw.rm⟩ hf hz hl rfl

theorem w_J10_copyOf {p : Program} {l : Launch} {e : Env} {R : Room} {s : State} {m : MethodId} {args : Array Value} {below : List Frame} {meth : Method} {c : Code} {Q : State → Prop} {E : PEw} {h0 h : HP} {H : Heap} {locs : List Loc} (C : PC E p s m args meth c RJ10 cJ10_copyOf 2 (some (.array (.object "java/lang/Object"))) "copyOf") (hr : 2 ≤ R.frames ∧ 67 ≤ R.locals ∧ RBw R h0) {x0 : Nat} {x1 : Int} {res : HP × Nat} (hf : f_J10_copyOf h x0 x1 = some res) (hz : ZR E s h0 h H locs) {ls : Array Slot} (hl : lv_has ls 2 [(0, .ref x0), (1, .int (zI x1))]) (hk : KR E below args s Q h0 res.1 (some (.ref res.2))) : W p l e R s m args below meth c H locs (pX h - pX h0) (pS h - pS h0) Q (F0 m 0 ls []) := by
  unfold f_J10_copyOf at hf
  have hx := C.1
  have hb := C.2.1
  refine lv_aload_n hx hb dJ10_copyOf_0 rfl (lv_at hl 0 rfl) ?_
  refine lv_iload_n hx hb dJ10_copyOf_1 rfl (lv_at hl 1 rfl) ?_
  refine lv_aload_n hx hb dJ10_copyOf_2 rfl (lv_at hl 0 rfl) ?_
  obtain ⟨hg, hf⟩ := gd_inv hf
  refine zc_getClass gR C hz hg q367 hl.1 ⟨Nat.le_trans (by decide) hr.1, Nat.le_trans (by decide) hr.2.1⟩ (Nat.le_of_ble_eq_true rfl) dJ10_copyOf_3 ?_
  obtain ⟨y1, ey1, hf⟩ := bd_inv hf
  refine zg_callS gR C hz hr (n := 3) (rest := []) (met_J10_copyOf_2 l E ey1) q382 q383 q105 q384 (by decide +kernel) ⟨Nat.le_trans (by decide) hr.1, Nat.le_trans (by decide) hr.2.1⟩ rfl hl.1 rfl (Nat.le_of_ble_eq_true rfl) dJ10_copyOf_6 (fun H locs hz => ?_)
  obtain rfl := Option.some.inj hf
  exact zg_aret C hz hk dJ10_copyOf_9

theorem met_J10_copyOf (l : Launch) (E : PEw) {h : HP} {x0 : Nat} {x1 : Int} {res : HP × Nat} (hf : f_J10_copyOf h x0 x1 = some res) : Met l yJ10_copyOf (ws_ yJ10_copyOf cJ10_copyOf 2 (some (.array (.object "java/lang/Object")))) (rmP h 2 67) (PR E h [.ref x0, .int (zI x1)]) (QR E h res.1 (some (.ref res.2))) (pX res.1 - pX h) (pS res.1 - pS h) (eF E) := by
  refine Met.ofW (cc := cJ10_copyOf) (maxL := 2) (ret := (some (.array (.object "java/lang/Object")))) (by decide) rfl ?_
  intro p e s m args below meth c s₁ B hml hv
  obtain ⟨rfl, hP0⟩ := hv
  have hts := atoms_spec (ws := ws_ yJ10_copyOf cJ10_copyOf 2 (some (.array (.object "java/lang/Object")))) B.pre
  have hts : ∀ w ∈ lw_all, w.before _ s = true := fun w h => hts w (List.mem_cons_of_mem _ h)
  have C : PC E p s m _ meth c RJ10 cJ10_copyOf 2 (some (.array (.object "java/lang/Object"))) "copyOf" := ⟨B.exec, B.bytes, B.returns, B.notSynchronized, hml, findClass_of_methodNamed B.named, hts, hP0.2, (name_of_methodNamed B.named B.method).1⟩
  have hz : ZR E s h h s.heap [] := ZG.start hP0.1
  have hl := lv_entry ([.ref x0, .int (zI x1)]) (n := 2) (Nat.le_of_ble_eq_true rfl)
  rw [lg_entry_eq]
  generalize (lg_sl ([.ref x0, .int (zI x1)]) ++ List.replicate (2 - (lg_sl ([.ref x0, .int (zI x1)])).length) Slot.unset).toArray = ls at hl ⊢
  have hl : lv_has ls 2 [(0, .ref x0), (1, .int (zI x1))] := hl
  refine W.cs (cells' := pX h - pX h) (slots' := pS h - pS h) (Nat.sub_self _).symm (Nat.sub_self _).symm ?_
  exact w_J10_copyOf C ⟨Nat.le_refl _, Nat.le_refl _, RBw.rm⟩ hf hz hl rfl

theorem w_J2_grow_2_20 {p : Program} {l : Launch} {e : Env} {R : Room} {s : State} {m : MethodId} {args : Array Value} {below : List Frame} {meth : Method} {c : Code} {Q : State → Prop} {E : PEw} {h0 h : HP} {H : Heap} {locs : List Loc} (C : PC E p s m args meth c RJ2 cJ2_grow_2 4 (some (.array (.object "java/lang/Object"))) "grow") (hr : 3 ≤ R.frames ∧ 88 ≤ R.locals ∧ RBw R h0) {x0 : Nat} {x1 : Int} {x2 : Int} {res : HP × Nat} (hf : f_J2_grow_2_20 h x0 x1 x2 = some res) (hz : ZR E s h0 h H locs) {ls : Array Slot} (hl : lv_has ls 4 [(0, .ref x0), (1, .int (zI x1)), (2, .int (zI x2))]) (hk : KR E below args s Q h0 res.1 (some (.ref res.2))) : W p l e R s m args below meth c H locs (pX h - pX h0) (pS h - pS h0) Q (F0 m 20 ls []) := by
  unfold f_J2_grow_2_20 at hf
  have hx := C.1
  have hb := C.2.1
  refine lv_iload_n hx hb dJ2_grow_2_20 rfl (lv_at hl 2 rfl) ?_
  refine lv_iload_n hx hb dJ2_grow_2_21 rfl (lv_at hl 1 rfl) ?_
  refine lv_iload_n hx hb dJ2_grow_2_22 rfl (lv_at hl 2 rfl) ?_
  refine zl_isub hx hb dJ2_grow_2_23 ?_
  refine lv_iload_n hx hb dJ2_grow_2_24 rfl (lv_at hl 2 rfl) ?_
  refine zl_iconst hx hb dJ2_grow_2_25 ?_
  refine zl_ishr hx hb dJ2_grow_2_26 ?_
  obtain ⟨y1, ey1, hf⟩ := bd_inv hf
  refine zg_callS0 C (n := 3) (rest := []) (met_J8_newLength l ey1) q354 q355 q103 q356 rfl rfl (by decide +kernel) ⟨Nat.le_trans (by decide) hr.1, Nat.le_trans (by decide) hr.2.1⟩ rfl hl.1 rfl (Nat.le_of_ble_eq_true rfl) dJ2_grow_2_27 (RBw.have gR hz hr).1 (RBw.have gR hz hr).2 ?_
  refine lv_istore_n (lv' := [(3, .int (zI y1)), (0, .ref x0), (1, .int (zI x1)), (2, .int (zI x2))]) hx hb dJ2_grow_2_30 rfl hl (by decide) rfl (fun ls hl => ?_)
  refine lv_aload_n hx hb dJ2_grow_2_31 rfl (lv_at hl 1 rfl) ?_
  refine lv_aload_n hx hb dJ2_grow_2_32 rfl (lv_at hl 1 rfl) ?_
  obtain ⟨hg, hf⟩ := gd_inv hf
  refine zg_getp gR C hz 8 1 (gkl hg) (by decide) (by decide) (Or.inl (C.w q147)) (fun _ h => h) dJ2_grow_2_33 ?_
  refine lv_iload_n hx hb dJ2_grow_2_36 rfl (lv_at hl 0 rfl) ?_
  obtain ⟨a2, ea2, hf⟩ := bd_inv hf
  rw [zx_rf ea2]
  obtain ⟨y3, ey3, hf⟩ := bd_inv hf
  refine zg_callS gR C hz hr (n := 2) (rest := [.ref x0]) (met_J10_copyOf l E ey3) q364 q365 q105 q366 (by decide +kernel) ⟨Nat.le_trans (by decide) hr.1, Nat.le_trans (by decide) hr.2.1⟩ rfl hl.1 rfl (Nat.le_of_ble_eq_true rfl) dJ2_grow_2_37 (fun H locs hz => ?_)
  refine lv_dup_x1 hx hb dJ2_grow_2_40 rfl rfl ?_
  obtain ⟨hg, hf⟩ := gd_inv hf
  obtain ⟨h4, eh4, hf⟩ := bnd_inv hf
  refine zg_putp gR C hz 8 1 (gkl hg) (by decide) (by decide) (Or.inr ⟨_, rfl⟩) (by decide) (Or.inl (C.w q147)) (fun _ h => h) dJ2_grow_2_41 eh4 (fun H locs hz => ?_)
  obtain rfl := Option.some.inj hf
  exact zg_aret C hz hk dJ2_grow_2_44

theorem w_J2_grow_2 {p : Program} {l : Launch} {e : Env} {R : Room} {s : State} {m : MethodId} {args : Array Value} {below : List Frame} {meth : Method} {c : Code} {Q : State → Prop} {E : PEw} {h0 h : HP} {H : Heap} {locs : List Loc} (C : PC E p s m args meth c RJ2 cJ2_grow_2 4 (some (.array (.object "java/lang/Object"))) "grow") (hr : 3 ≤ R.frames ∧ 88 ≤ R.locals ∧ RBw R h0) {x0 : Nat} {x1 : Int} {res : HP × Nat} (hf : f_J2_grow_2 h x0 x1 = some res) (hz : ZR E s h0 h H locs) {ls : Array Slot} (hl : lv_has ls 4 [(0, .ref x0), (1, .int (zI x1))]) (hk : KR E below args s Q h0 res.1 (some (.ref res.2))) : W p l e R s m args below meth c H locs (pX h - pX h0) (pS h - pS h0) Q (F0 m 0 ls []) := by
  unfold f_J2_grow_2 at hf
  have hx := C.1
  have hb := C.2.1
  refine lv_aload_n hx hb dJ2_grow_2_0 rfl (lv_at hl 0 rfl) ?_
  obtain ⟨hg, hf⟩ := gd_inv hf
  refine zg_getp gR C hz 8 1 (gkl hg) (by decide) (by decide) (Or.inl (C.w q147)) (fun _ h => h) dJ2_grow_2_1 ?_
  obtain ⟨a1, ea1, hf⟩ := bd_inv hf
  rw [zx_rf ea1]
  obtain ⟨hg, hf⟩ := gd_inv hf
  refine zg_alenR gR C hz hg dJ2_grow_2_4 ?_
  obtain ⟨y2, ey2, hf⟩ := bnd_inv hf
  refine zl_topi ey2 ?_
  refine lv_istore_n (lv' := [(2, .int (zI y2)), (0, .ref x0), (1, .int (zI x1))]) hx hb dJ2_grow_2_5 rfl hl (by decide) rfl (fun ls hl => ?_)
  refine lv_iload_n hx hb dJ2_grow_2_6 rfl (lv_at hl 0 rfl) ?_
  refine zl_if_gt (tgt := 20) hx hb dJ2_grow_2_7 (by decide) (fun hc => ?_) (fun hc => ?_)
  · rw [if_pos hc] at hf
    exact w_J2_grow_2_20 C hr hf hz (lv_sub hl [1, 2, 0] rfl) hk
  · rw [if_neg hc] at hf
    refine lv_aload_n hx hb dJ2_grow_2_10 rfl (lv_at hl 1 rfl) ?_
    obtain ⟨hg, hf⟩ := gd_inv hf
    refine zg_getp gR C hz 8 1 (gkl hg) (by decide) (by decide) (Or.inl (C.w q147)) (fun _ h => h) dJ2_grow_2_11 ?_
    refine zc_default gR C hz q145 dJ2_grow_2_14 ?_
    refine zl_acmp_eq (rx := pP h x0 1) (ry := some (pD h)) hx hb (tgt := 45) dJ2_grow_2_17 (by decide) (fun hc => ?_) (fun hc => ?_)
    · rw [if_pos hc] at hf
      refine lv_aload_n hx hb dJ2_grow_2_45 rfl (lv_at hl 1 rfl) ?_
      refine zl_bipush hx hb dJ2_grow_2_46 (by decide) ?_
      refine lv_iload_n hx hb dJ2_grow_2_48 rfl (lv_at hl 2 rfl) ?_
      refine zl_mmax hx hb C.2.2.2.2.1 hl.1 C.2.2.2.2.2.1 (fun _ h => C.w h) q394 ⟨Nat.le_trans (by decide) hr.1, Nat.le_trans (by decide) hr.2.1⟩ (Nat.le_of_ble_eq_true rfl) (RBw.have gR hz hr).1 (RBw.have gR hz hr).2 dJ2_grow_2_49 ?_
      obtain ⟨a3, ea3, hf⟩ := bnd_inv hf
      obtain ⟨hg, hf⟩ := gd_inv hf
      obtain ⟨h4, eh4, hf⟩ := bnd_inv hf
      refine zg_newq50 gR C hz hr (by decide) hg q395 dJ2_grow_2_52 ea3 eh4 (fun H hz => ?_)
      refine lv_dup_x1 hx hb dJ2_grow_2_55 rfl rfl ?_
      obtain ⟨hg, hf⟩ := gd_inv hf
      obtain ⟨h5, eh5, hf⟩ := bnd_inv hf
      refine zg_putp gR C hz 8 1 (gkl hg) (by decide) (by decide) (Or.inr ⟨_, rfl⟩) (by decide) (Or.inl (C.w q147)) (fun _ h => h) dJ2_grow_2_56 eh5 (fun H locs hz => ?_)
      obtain rfl := Option.some.inj hf
      exact zg_aret C hz hk dJ2_grow_2_59
    · rw [if_neg hc] at hf
      exact w_J2_grow_2_20 C hr hf hz (lv_sub hl [1, 2, 0] rfl) hk

theorem met_J2_grow_2 (l : Launch) (E : PEw) {h : HP} {x0 : Nat} {x1 : Int} {res : HP × Nat} (hf : f_J2_grow_2 h x0 x1 = some res) : Met l yJ2_grow_2 (ws_ yJ2_grow_2 cJ2_grow_2 4 (some (.array (.object "java/lang/Object")))) (rmP h 3 88) (PR E h [.ref x0, .int (zI x1)]) (QR E h res.1 (some (.ref res.2))) (pX res.1 - pX h) (pS res.1 - pS h) (eF E) := by
  refine Met.ofW (cc := cJ2_grow_2) (maxL := 4) (ret := (some (.array (.object "java/lang/Object")))) (by decide) rfl ?_
  intro p e s m args below meth c s₁ B hml hv
  obtain ⟨rfl, hP0⟩ := hv
  have hts := atoms_spec (ws := ws_ yJ2_grow_2 cJ2_grow_2 4 (some (.array (.object "java/lang/Object")))) B.pre
  have hts : ∀ w ∈ lw_all, w.before _ s = true := fun w h => hts w (List.mem_cons_of_mem _ h)
  have C : PC E p s m _ meth c RJ2 cJ2_grow_2 4 (some (.array (.object "java/lang/Object"))) "grow" := ⟨B.exec, B.bytes, B.returns, B.notSynchronized, hml, findClass_of_methodNamed B.named, hts, hP0.2, (name_of_methodNamed B.named B.method).1⟩
  have hz : ZR E s h h s.heap [] := ZG.start hP0.1
  have hl := lv_entry ([.ref x0, .int (zI x1)]) (n := 4) (Nat.le_of_ble_eq_true rfl)
  rw [lg_entry_eq]
  generalize (lg_sl ([.ref x0, .int (zI x1)]) ++ List.replicate (4 - (lg_sl ([.ref x0, .int (zI x1)])).length) Slot.unset).toArray = ls at hl ⊢
  have hl : lv_has ls 4 [(0, .ref x0), (1, .int (zI x1))] := hl
  refine W.cs (cells' := pX h - pX h) (slots' := pS h - pS h) (Nat.sub_self _).symm (Nat.sub_self _).symm ?_
  exact w_J2_grow_2 C ⟨Nat.le_refl _, Nat.le_refl _, RBw.rm⟩ hf hz hl rfl

theorem w_J2_grow {p : Program} {l : Launch} {e : Env} {R : Room} {s : State} {m : MethodId} {args : Array Value} {below : List Frame} {meth : Method} {c : Code} {Q : State → Prop} {E : PEw} {h0 h : HP} {H : Heap} {locs : List Loc} (C : PC E p s m args meth c RJ2 cJ2_grow 1 (some (.array (.object "java/lang/Object"))) "grow") (hr : 4 ≤ R.frames ∧ 111 ≤ R.locals ∧ RBw R h0) {x0 : Nat} {res : HP × Nat} (hf : f_J2_grow h x0 = some res) (hz : ZR E s h0 h H locs) {ls : Array Slot} (hl : lv_has ls 1 [(0, .ref x0)]) (hk : KR E below args s Q h0 res.1 (some (.ref res.2))) : W p l e R s m args below meth c H locs (pX h - pX h0) (pS h - pS h0) Q (F0 m 0 ls []) := by
  unfold f_J2_grow at hf
  have hx := C.1
  have hb := C.2.1
  refine lv_aload_n hx hb dJ2_grow_0 rfl (lv_at hl 0 rfl) ?_
  refine lv_aload_n hx hb dJ2_grow_1 rfl (lv_at hl 0 rfl) ?_
  obtain ⟨hg, hf⟩ := gd_inv hf
  refine zg_geti gR C hz 8 2 (gkl hg) (by decide) (by decide) (Or.inl (C.w q148)) (fun _ h => h) dJ2_grow_2 ?_
  refine zl_iconst hx hb dJ2_grow_5 ?_
  refine zl_iadd hx hb dJ2_grow_6 ?_
  obtain ⟨hg, hf⟩ := gd_inv hf
  obtain ⟨y1, ey1, hf⟩ := bd_inv hf
  refine zg_callV gR C hz hr (n := 1) (rest := []) (gkl (Or.inl hg)) (met_J2_grow_2 l E ey1) q350 q352 (C.w qs4) q94 q353 (by decide +kernel) ⟨Nat.le_trans (by decide) hr.1, Nat.le_trans (by decide) hr.2.1⟩ rfl hl.1 rfl (Nat.le_of_ble_eq_true rfl) dJ2_grow_7 (fun H locs hz => ?_)
  obtain rfl := Option.some.inj hf
  exact zg_aret C hz hk dJ2_grow_10

theorem met_J2_grow (l : Launch) (E : PEw) {h : HP} {x0 : Nat} {res : HP × Nat} (hf : f_J2_grow h x0 = some res) : Met l yJ2_grow (ws_ yJ2_grow cJ2_grow 1 (some (.array (.object "java/lang/Object")))) (rmP h 4 111) (PR E h [.ref x0]) (QR E h res.1 (some (.ref res.2))) (pX res.1 - pX h) (pS res.1 - pS h) (eF E) := by
  refine Met.ofW (cc := cJ2_grow) (maxL := 1) (ret := (some (.array (.object "java/lang/Object")))) (by decide) rfl ?_
  intro p e s m args below meth c s₁ B hml hv
  obtain ⟨rfl, hP0⟩ := hv
  have hts := atoms_spec (ws := ws_ yJ2_grow cJ2_grow 1 (some (.array (.object "java/lang/Object")))) B.pre
  have hts : ∀ w ∈ lw_all, w.before _ s = true := fun w h => hts w (List.mem_cons_of_mem _ h)
  have C : PC E p s m _ meth c RJ2 cJ2_grow 1 (some (.array (.object "java/lang/Object"))) "grow" := ⟨B.exec, B.bytes, B.returns, B.notSynchronized, hml, findClass_of_methodNamed B.named, hts, hP0.2, (name_of_methodNamed B.named B.method).1⟩
  have hz : ZR E s h h s.heap [] := ZG.start hP0.1
  have hl := lv_entry ([.ref x0]) (n := 1) (Nat.le_of_ble_eq_true rfl)
  rw [lg_entry_eq]
  generalize (lg_sl ([.ref x0]) ++ List.replicate (1 - (lg_sl ([.ref x0])).length) Slot.unset).toArray = ls at hl ⊢
  have hl : lv_has ls 1 [(0, .ref x0)] := hl
  refine W.cs (cells' := pX h - pX h) (slots' := pS h - pS h) (Nat.sub_self _).symm (Nat.sub_self _).symm ?_
  exact w_J2_grow C ⟨Nat.le_refl _, Nat.le_refl _, RBw.rm⟩ hf hz hl rfl

theorem w_J2_add_2_11 {p : Program} {l : Launch} {e : Env} {R : Room} {s : State} {m : MethodId} {args : Array Value} {below : List Frame} {meth : Method} {c : Code} {Q : State → Prop} {E : PEw} {h0 h : HP} {H : Heap} {locs : List Loc} (C : PC E p s m args meth c RJ2 cJ2_add_2 4 none "add") (hr : 5 ≤ R.frames ∧ 131 ≤ R.locals ∧ RBw R h0) {x0 : Nat} {x1 : Nat} {x2 : Nat} {x3 : Int} {res : HP} (hf : f_J2_add_2_11 h x0 x1 x2 x3 = some res) (hz : ZR E s h0 h H locs) {ls : Array Slot} (hl : lv_has ls 4 [(0, .ref x0), (1, .ref x1), (2, .ref x2), (3, .int (zI x3))]) (hk : KR E below args s Q h0 res none) : W p l e R s m args below meth c H locs (pX h - pX h0) (pS h - pS h0) Q (F0 m 11 ls []) := by
  unfold f_J2_add_2_11 at hf
  have hx := C.1
  have hb := C.2.1
  refine lv_aload_n hx hb dJ2_add_2_11 rfl (lv_at hl 2 rfl) ?_
  refine lv_iload_n hx hb dJ2_add_2_12 rfl (lv_at hl 3 rfl) ?_
  refine lv_aload_n hx hb dJ2_add_2_13 rfl (lv_at hl 1 rfl) ?_
  obtain ⟨hg, hf⟩ := gd_inv hf
  obtain ⟨hi, hf⟩ := gd_inv hf
  obtain ⟨ho, hf⟩ := gd_inv hf
  obtain ⟨h1, eh1, hf⟩ := bnd_inv hf
  refine zg_aast gR (by decide) C hz hg hi ho dJ2_add_2_14 eh1 (fun H locs hz => ?_)
  refine lv_aload_n hx hb dJ2_add_2_15 rfl (lv_at hl 0 rfl) ?_
  refine lv_iload_n hx hb dJ2_add_2_16 rfl (lv_at hl 3 rfl) ?_
  refine zl_iconst hx hb dJ2_add_2_17 ?_
  refine zl_iadd hx hb dJ2_add_2_18 ?_
  obtain ⟨hg, hf⟩ := gd_inv hf
  obtain ⟨h2, eh2, hf⟩ := bnd_inv hf
  refine zg_puti gR C hz 8 2 (gkl hg) (by decide) (by decide) rfl (by decide) (Or.inl (C.w q148)) (fun _ h => h) dJ2_add_2_19 eh2 (fun H locs hz => ?_)
  obtain rfl := Option.some.inj hf
  exact zg_vret C hz hk dJ2_add_2_22

theorem w_J2_add_2 {p : Program} {l : Launch} {e : Env} {R : Room} {s : State} {m : MethodId} {args : Array Value} {below : List Frame} {meth : Method} {c : Code} {Q : State → Prop} {E : PEw} {h0 h : HP} {H : Heap} {locs : List Loc} (C : PC E p s m args meth c RJ2 cJ2_add_2 4 none "add") (hr : 5 ≤ R.frames ∧ 131 ≤ R.locals ∧ RBw R h0) {x0 : Nat} {x1 : Nat} {x2 : Nat} {x3 : Int} {res : HP} (hf : f_J2_add_2 h x0 x1 x2 x3 = some res) (hz : ZR E s h0 h H locs) {ls : Array Slot} (hl : lv_has ls 4 [(0, .ref x0), (1, .ref x1), (2, .ref x2), (3, .int (zI x3))]) (hk : KR E below args s Q h0 res none) : W p l e R s m args below meth c H locs (pX h - pX h0) (pS h - pS h0) Q (F0 m 0 ls []) := by
  unfold f_J2_add_2 at hf
  have hx := C.1
  have hb := C.2.1
  refine lv_iload_n hx hb dJ2_add_2_0 rfl (lv_at hl 3 rfl) ?_
  refine lv_aload_n hx hb dJ2_add_2_1 rfl (lv_at hl 2 rfl) ?_
  obtain ⟨hg, hf⟩ := gd_inv hf
  refine zg_alenR gR C hz hg dJ2_add_2_2 ?_
  refine zl_icmp_ne (tgt := 11) hx hb dJ2_add_2_3 (by decide) (fun hc => ?_) (fun hc => ?_)
  · rw [if_pos hc] at hf
    refine lv_aload_n hx hb dJ2_add_2_6 rfl (lv_at hl 0 rfl) ?_
    obtain ⟨hg, hf⟩ := gd_inv hf
    obtain ⟨y1, ey1, hf⟩ := bd_inv hf
    refine zg_callV gR C hz hr (n := 0) (rest := []) (gkl (Or.inl hg)) (met_J2_grow l E ey1) q346 q348 (C.w qs3) q94 q349 (by decide +kernel) ⟨Nat.le_trans (by decide) hr.1, Nat.le_trans (by decide) hr.2.1⟩ rfl hl.1 rfl (Nat.le_of_ble_eq_true rfl) dJ2_add_2_7 (fun H locs hz => ?_)
    refine lv_astore_n (lv' := [(2, .ref y1.2), (0, .ref x0), (1, .ref x1), (3, .int (zI x3))]) hx hb dJ2_add_2_10 rfl hl (by decide) rfl (fun ls hl => ?_)
    exact w_J2_add_2_11 C hr hf hz (lv_sub hl [1, 2, 0, 3] rfl) hk
  · rw [if_neg hc] at hf
    exact w_J2_add_2_11 C hr hf hz (lv_sub hl [0, 1, 2, 3] rfl) hk

theorem met_J2_add_2 (l : Launch) (E : PEw) {h : HP} {x0 : Nat} {x1 : Nat} {x2 : Nat} {x3 : Int} {res : HP} (hf : f_J2_add_2 h x0 x1 x2 x3 = some res) : Met l yJ2_add_2 (ws_ yJ2_add_2 cJ2_add_2 4 none) (rmP h 5 131) (PR E h [.ref x0, .ref x1, .ref x2, .int (zI x3)]) (QR E h res none) (pX res - pX h) (pS res - pS h) (eF E) := by
  refine Met.ofW (cc := cJ2_add_2) (maxL := 4) (ret := none) (by decide) rfl ?_
  intro p e s m args below meth c s₁ B hml hv
  obtain ⟨rfl, hP0⟩ := hv
  have hts := atoms_spec (ws := ws_ yJ2_add_2 cJ2_add_2 4 none) B.pre
  have hts : ∀ w ∈ lw_all, w.before _ s = true := fun w h => hts w (List.mem_cons_of_mem _ h)
  have C : PC E p s m _ meth c RJ2 cJ2_add_2 4 none "add" := ⟨B.exec, B.bytes, B.returns, B.notSynchronized, hml, findClass_of_methodNamed B.named, hts, hP0.2, (name_of_methodNamed B.named B.method).1⟩
  have hz : ZR E s h h s.heap [] := ZG.start hP0.1
  have hl := lv_entry ([.ref x0, .ref x1, .ref x2, .int (zI x3)]) (n := 4) (Nat.le_of_ble_eq_true rfl)
  rw [lg_entry_eq]
  generalize (lg_sl ([.ref x0, .ref x1, .ref x2, .int (zI x3)]) ++ List.replicate (4 - (lg_sl ([.ref x0, .ref x1, .ref x2, .int (zI x3)])).length) Slot.unset).toArray = ls at hl ⊢
  have hl : lv_has ls 4 [(0, .ref x0), (1, .ref x1), (2, .ref x2), (3, .int (zI x3))] := hl
  refine W.cs (cells' := pX h - pX h) (slots' := pS h - pS h) (Nat.sub_self _).symm (Nat.sub_self _).symm ?_
  exact w_J2_add_2 C ⟨Nat.le_refl _, Nat.le_refl _, RBw.rm⟩ hf hz hl rfl

theorem w_J2_add {p : Program} {l : Launch} {e : Env} {R : Room} {s : State} {m : MethodId} {args : Array Value} {below : List Frame} {meth : Method} {c : Code} {Q : State → Prop} {E : PEw} {h0 h : HP} {H : Heap} {locs : List Loc} (C : PC E p s m args meth c RJ2 cJ2_add 2 (some .boolean) "add") (hr : 6 ≤ R.frames ∧ 154 ≤ R.locals ∧ RBw R h0) {x0 : Nat} {x1 : Nat} {res : HP × Int} (hf : f_J2_add h x0 x1 = some res) (hz : ZR E s h0 h H locs) {ls : Array Slot} (hl : lv_has ls 2 [(0, .ref x0), (1, .ref x1)]) (hk : KR E below args s Q h0 res.1 (some (.int (zI res.2)))) : W p l e R s m args below meth c H locs (pX h - pX h0) (pS h - pS h0) Q (F0 m 0 ls []) := by
  unfold f_J2_add at hf
  have hx := C.1
  have hb := C.2.1
  refine lv_aload_n hx hb dJ2_add_0 rfl (lv_at hl 0 rfl) ?_
  refine lv_dup hx hb dJ2_add_1 rfl ?_
  obtain ⟨hg, hf⟩ := gd_inv hf
  refine zg_geti gR C hz 8 0 (gkl hg) (by decide) (by decide) (Or.inl (C.w q150)) (C.sm q151) dJ2_add_2 ?_
  refine zl_iconst hx hb dJ2_add_5 ?_
  refine zl_iadd hx hb dJ2_add_6 ?_
  obtain ⟨hg, hf⟩ := gd_inv hf
  obtain ⟨h1, eh1, hf⟩ := bnd_inv hf
  refine zg_puti gR C hz 8 0 (gkl hg) (by decide) (by decide) rfl (by decide) (Or.inl (C.w q150)) (C.sm q151) dJ2_add_7 eh1 (fun H locs hz => ?_)
  refine lv_aload_n hx hb dJ2_add_10 rfl (lv_at hl 0 rfl) ?_
  refine lv_aload_n hx hb dJ2_add_11 rfl (lv_at hl 1 rfl) ?_
  refine lv_aload_n hx hb dJ2_add_12 rfl (lv_at hl 0 rfl) ?_
  obtain ⟨hg, hf⟩ := gd_inv hf
  refine zg_getp gR C hz 8 1 (gkl hg) (by decide) (by decide) (Or.inl (C.w q147)) (fun _ h => h) dJ2_add_13 ?_
  refine lv_aload_n hx hb dJ2_add_16 rfl (lv_at hl 0 rfl) ?_
  obtain ⟨hg, hf⟩ := gd_inv hf
  refine zg_geti gR C hz 8 2 (gkl hg) (by decide) (by decide) (Or.inl (C.w q148)) (fun _ h => h) dJ2_add_17 ?_
  obtain ⟨a2, ea2, hf⟩ := bd_inv hf
  rw [zx_rf ea2]
  obtain ⟨hg, hf⟩ := gd_inv hf
  obtain ⟨y3, ey3, hf⟩ := bd_inv hf
  refine zg_callV gR C hz hr (n := 3) (rest := []) (gkl (Or.inl hg)) (met_J2_add_2 l E ey3) q342 q344 (C.w qs2) q94 q345 (by decide +kernel) ⟨Nat.le_trans (by decide) hr.1, Nat.le_trans (by decide) hr.2.1⟩ rfl hl.1 rfl (Nat.le_of_ble_eq_true rfl) dJ2_add_20 (fun H locs hz => ?_)
  refine zl_iconst hx hb dJ2_add_23 ?_
  obtain rfl := Option.some.inj hf
  exact zg_zret C hz zisB_1 hk dJ2_add_24

theorem met_J2_add (l : Launch) (E : PEw) {h : HP} {x0 : Nat} {x1 : Nat} {res : HP × Int} (hf : f_J2_add h x0 x1 = some res) : Met l yJ2_add (ws_ yJ2_add cJ2_add 2 (some .boolean)) (rmP h 6 154) (PR E h [.ref x0, .ref x1]) (QR E h res.1 (some (.int (zI res.2)))) (pX res.1 - pX h) (pS res.1 - pS h) (eF E) := by
  refine Met.ofW (cc := cJ2_add) (maxL := 2) (ret := (some .boolean)) (by decide) rfl ?_
  intro p e s m args below meth c s₁ B hml hv
  obtain ⟨rfl, hP0⟩ := hv
  have hts := atoms_spec (ws := ws_ yJ2_add cJ2_add 2 (some .boolean)) B.pre
  have hts : ∀ w ∈ lw_all, w.before _ s = true := fun w h => hts w (List.mem_cons_of_mem _ h)
  have C : PC E p s m _ meth c RJ2 cJ2_add 2 (some .boolean) "add" := ⟨B.exec, B.bytes, B.returns, B.notSynchronized, hml, findClass_of_methodNamed B.named, hts, hP0.2, (name_of_methodNamed B.named B.method).1⟩
  have hz : ZR E s h h s.heap [] := ZG.start hP0.1
  have hl := lv_entry ([.ref x0, .ref x1]) (n := 2) (Nat.le_of_ble_eq_true rfl)
  rw [lg_entry_eq]
  generalize (lg_sl ([.ref x0, .ref x1]) ++ List.replicate (2 - (lg_sl ([.ref x0, .ref x1])).length) Slot.unset).toArray = ls at hl ⊢
  have hl : lv_has ls 2 [(0, .ref x0), (1, .ref x1)] := hl
  refine W.cs (cells' := pX h - pX h) (slots' := pS h - pS h) (Nat.sub_self _).symm (Nat.sub_self _).symm ?_
  exact w_J2_add C ⟨Nat.le_refl _, Nat.le_refl _, RBw.rm⟩ hf hz hl rfl

theorem w_J4_newCapacity {p : Program} {l : Launch} {e : Env} {R : Room} {s : State} {m : MethodId} {args : Array Value} {below : List Frame} {meth : Method} {c : Code} {Q : State → Prop} {E : PEw} {h0 h : HP} {H : Heap} {locs : List Loc} (C : PC E p s m args meth c RJ4 cJ4_newCapacity 6 (some .int) "newCapacity") (hr : 2 ≤ R.frames ∧ 44 ≤ R.locals ∧ RBw R h0) {x0 : Nat} {x1 : Int} {res : Int} (hf : f_J4_newCapacity h x0 x1 = some res) (hz : ZR E s h0 h H locs) {ls : Array Slot} (hl : lv_has ls 6 [(0, .ref x0), (1, .int (zI x1))]) (hk : KR E below args s Q h0 h (some (.int (zI res)))) : W p l e R s m args below meth c H locs (pX h - pX h0) (pS h - pS h0) Q (F0 m 0 ls []) := by
  unfold f_J4_newCapacity at hf
  have hx := C.1
  have hb := C.2.1
  refine lv_aload_n hx hb dJ4_newCapacity_0 rfl (lv_at hl 0 rfl) ?_
  obtain ⟨hg, hf⟩ := gd_inv hf
  refine zg_getp gR C hz 9 0 (gks hg) (by decide) (by decide) (Or.inl (C.w q264)) (fun _ h => h) dJ4_newCapacity_1 ?_
  obtain ⟨a1, ea1, hf⟩ := bd_inv hf
  rw [zx_rf ea1]
  obtain ⟨hg, hf⟩ := gd_inv hf
  refine zg_alenR gR C hz hg dJ4_newCapacity_4 ?_
  obtain ⟨y2, ey2, hf⟩ := bnd_inv hf
  refine zl_topi ey2 ?_
  refine lv_istore_n (lv' := [(2, .int (zI y2)), (0, .ref x0), (1, .int (zI x1))]) hx hb dJ4_newCapacity_5 rfl hl (by decide) rfl (fun ls hl => ?_)
  refine lv_iload_n hx hb dJ4_newCapacity_6 rfl (lv_at hl 2 rfl) ?_
  refine lv_aload_n hx hb dJ4_newCapacity_7 rfl (lv_at hl 1 rfl) ?_
  obtain ⟨hg, hf⟩ := gd_inv hf
  refine zg_geti gR C hz 9 1 (gks hg) (by decide) (by decide) (Or.inl (C.w q265)) (fun _ h => h) dJ4_newCapacity_8 ?_
  refine zl_ishl hx hb dJ4_newCapacity_11 ?_
  obtain ⟨y3, ey3, hf⟩ := bnd_inv hf
  refine zl_topi ey3 ?_
  refine lv_istore_n (lv' := [(3, .int (zI y3)), (2, .int (zI y2)), (0, .ref x0), (1, .int (zI x1))]) hx hb dJ4_newCapacity_12 rfl hl (by decide) rfl (fun ls hl => ?_)
  refine lv_iload_n hx hb dJ4_newCapacity_13 rfl (lv_at hl 0 rfl) ?_
  refine lv_iload_n hx hb dJ4_newCapacity_14 rfl (lv_at hl 1 rfl) ?_
  refine zl_isub hx hb dJ4_newCapacity_15 ?_
  obtain ⟨y4, ey4, hf⟩ := bnd_inv hf
  refine zl_topi ey4 ?_
  refine lv_istore (lv' := [(4, .int (zI y4)), (3, .int (zI y3)), (2, .int (zI y2)), (0, .ref x0), (1, .int (zI x1))]) hx hb dJ4_newCapacity_16 hl (by decide) rfl (fun ls hl => ?_)
  refine lv_iload_n hx hb dJ4_newCapacity_18 rfl (lv_at hl 2 rfl) ?_
  refine lv_iload hx hb dJ4_newCapacity_19 (lv_at hl 0 rfl) ?_
  refine lv_iload_n hx hb dJ4_newCapacity_21 rfl (lv_at hl 2 rfl) ?_
  refine zl_iconst hx hb dJ4_newCapacity_22 ?_
  refine lv_aload_n hx hb dJ4_newCapacity_23 rfl (lv_at hl 3 rfl) ?_
  obtain ⟨hg, hf⟩ := gd_inv hf
  refine zg_geti gR C hz 9 1 (gks hg) (by decide) (by decide) (Or.inl (C.w q265)) (fun _ h => h) dJ4_newCapacity_24 ?_
  refine zl_ishl hx hb dJ4_newCapacity_27 ?_
  refine zl_iadd hx hb dJ4_newCapacity_28 ?_
  obtain ⟨y5, ey5, hf⟩ := bd_inv hf
  refine zg_callS0 C (n := 3) (rest := []) (met_J8_newLength l ey5) q489 q355 q103 q356 rfl rfl (by decide +kernel) ⟨Nat.le_trans (by decide) hr.1, Nat.le_trans (by decide) hr.2.1⟩ rfl hl.1 rfl (Nat.le_of_ble_eq_true rfl) dJ4_newCapacity_29 (RBw.have gR hz hr).1 (RBw.have gR hz hr).2 ?_
  refine lv_istore (lv' := [(5, .int (zI y5)), (4, .int (zI y4)), (3, .int (zI y3)), (2, .int (zI y2)), (0, .ref x0), (1, .int (zI x1))]) hx hb dJ4_newCapacity_32 hl (by decide) rfl (fun ls hl => ?_)
  refine lv_iload hx hb dJ4_newCapacity_34 (lv_at hl 0 rfl) ?_
  refine zl_ldc (v := 2147483647) hx hb C.2.2.2.2.2.1 (C.w q490) dJ4_newCapacity_36 ?_
  refine zl_icmp_ne (tgt := 51) hx hb dJ4_newCapacity_38 (by decide) (fun hc => ?_) (fun hc => ?_)
  · rw [if_pos hc] at hf
    cases hf
  · rw [if_neg hc] at hf
    refine lv_iload hx hb dJ4_newCapacity_51 (lv_at hl 0 rfl) ?_
    refine lv_aload_n hx hb dJ4_newCapacity_53 rfl (lv_at hl 4 rfl) ?_
    obtain ⟨hg, hf⟩ := gd_inv hf
    refine zg_geti gR C hz 9 1 (gks hg) (by decide) (by decide) (Or.inl (C.w q265)) (fun _ h => h) dJ4_newCapacity_54 ?_
    refine zl_ishr hx hb dJ4_newCapacity_57 ?_
    obtain rfl := Option.some.inj hf
    exact zg_iret C hz hk dJ4_newCapacity_58

theorem met_J4_newCapacity (l : Launch) (E : PEw) {h : HP} {x0 : Nat} {x1 : Int} {res : Int} (hf : f_J4_newCapacity h x0 x1 = some res) : Met l yJ4_newCapacity (ws_ yJ4_newCapacity cJ4_newCapacity 6 (some .int)) (rmP h 2 44) (PR E h [.ref x0, .int (zI x1)]) (QR E h h (some (.int (zI res)))) (pX h - pX h) (pS h - pS h) (eF E) := by
  refine Met.ofW (cc := cJ4_newCapacity) (maxL := 6) (ret := (some .int)) (by decide) rfl ?_
  intro p e s m args below meth c s₁ B hml hv
  obtain ⟨rfl, hP0⟩ := hv
  have hts := atoms_spec (ws := ws_ yJ4_newCapacity cJ4_newCapacity 6 (some .int)) B.pre
  have hts : ∀ w ∈ lw_all, w.before _ s = true := fun w h => hts w (List.mem_cons_of_mem _ h)
  have C : PC E p s m _ meth c RJ4 cJ4_newCapacity 6 (some .int) "newCapacity" := ⟨B.exec, B.bytes, B.returns, B.notSynchronized, hml, findClass_of_methodNamed B.named, hts, hP0.2, (name_of_methodNamed B.named B.method).1⟩
  have hz : ZR E s h h s.heap [] := ZG.start hP0.1
  have hl := lv_entry ([.ref x0, .int (zI x1)]) (n := 6) (Nat.le_of_ble_eq_true rfl)
  rw [lg_entry_eq]
  generalize (lg_sl ([.ref x0, .int (zI x1)]) ++ List.replicate (6 - (lg_sl ([.ref x0, .int (zI x1)])).length) Slot.unset).toArray = ls at hl ⊢
  have hl : lv_has ls 6 [(0, .ref x0), (1, .int (zI x1))] := hl
  refine W.cs (cells' := pX h - pX h) (slots' := pS h - pS h) (Nat.sub_self _).symm (Nat.sub_self _).symm ?_
  exact w_J4_newCapacity C ⟨Nat.le_refl _, Nat.le_refl _, RBw.rm⟩ hf hz hl rfl

theorem w_J10_copyOf_3 {p : Program} {l : Launch} {e : Env} {R : Room} {s : State} {m : MethodId} {args : Array Value} {below : List Frame} {meth : Method} {c : Code} {Q : State → Prop} {E : PEw} {h0 h : HP} {H : Heap} {locs : List Loc} (C : PC E p s m args meth c RJ10 cJ10_copyOf_3 3 (some (.array .byte)) "copyOf") (hr : 1 ≤ R.frames ∧ 44 ≤ R.locals ∧ RBw R h0) {x0 : Nat} {x1 : Int} {res : HP × Nat} (hf : f_J10_copyOf_3 h x0 x1 = some res) (hz : ZR E s h0 h H locs) {ls : Array Slot} (hl : lv_has ls 3 [(0, .ref x0), (1, .int (zI x1))]) (hk : KR E below args s Q h0 res.1 (some (.ref res.2))) : W p l e R s m args below meth c H locs (pX h - pX h0) (pS h - pS h0) Q (F0 m 0 ls []) := by
  unfold f_J10_copyOf_3 at hf
  have hx := C.1
  have hb := C.2.1
  refine lv_iload_n hx hb dJ10_copyOf_3_0 rfl (lv_at hl 1 rfl) ?_
  refine lv_aload_n hx hb dJ10_copyOf_3_1 rfl (lv_at hl 0 rfl) ?_
  obtain ⟨hg, hf⟩ := gd_inv hf
  refine zg_alenR gR C hz hg dJ10_copyOf_3_2 ?_
  refine zl_icmp_ne (tgt := 14) hx hb dJ10_copyOf_3_3 (by decide) (fun hc => ?_) (fun hc => ?_)
  · rw [if_pos hc] at hf
    cases hf
  · rw [if_neg hc] at hf
    refine lv_iload_n hx hb dJ10_copyOf_3_14 rfl (lv_at hl 1 rfl) ?_
    obtain ⟨a1, ea1, hf⟩ := bnd_inv hf
    obtain ⟨hg, hf⟩ := gd_inv hf
    obtain ⟨h2, eh2, hf⟩ := bnd_inv hf
    refine zg_newa_byte gR C hz hr (by decide) hg dJ10_copyOf_3_15 ea1 eh2 (fun H hz => ?_)
    refine lv_astore_n (lv' := [(2, .ref a1), (0, .ref x0), (1, .int (zI x1))]) hx hb dJ10_copyOf_3_17 rfl hl (by decide) rfl (fun ls hl => ?_)
    refine lv_aload_n hx hb dJ10_copyOf_3_18 rfl (lv_at hl 1 rfl) ?_
    refine zl_iconst hx hb dJ10_copyOf_3_19 ?_
    refine lv_aload_n hx hb dJ10_copyOf_3_20 rfl (lv_at hl 0 rfl) ?_
    refine zl_iconst hx hb dJ10_copyOf_3_21 ?_
    refine lv_aload_n hx hb dJ10_copyOf_3_22 rfl (lv_at hl 1 rfl) ?_
    obtain ⟨hg, hf⟩ := gd_inv hf
    refine zg_alenR gR C hz hg dJ10_copyOf_3_23 ?_
    refine lv_iload_n hx hb dJ10_copyOf_3_24 rfl (lv_at hl 2 rfl) ?_
    refine zl_mmin hx hb C.2.2.2.2.1 hl.1 C.2.2.2.2.2.1 (fun _ h => C.w h) q388 ⟨Nat.le_trans (by decide) hr.1, Nat.le_trans (by decide) hr.2.1⟩ (Nat.le_of_ble_eq_true rfl) (RBw.have gR hz hr).1 (RBw.have gR hz hr).2 dJ10_copyOf_3_25 ?_
    obtain ⟨hg, hf⟩ := gd_inv hf
    obtain ⟨h3, eh3, hf⟩ := bnd_inv hf
    refine zg_copyY gR C hz hg q391 hl.1 ⟨Nat.le_trans (by decide) hr.1, Nat.le_trans (by decide) hr.2.1⟩ (Nat.le_of_ble_eq_true rfl) dJ10_copyOf_3_28 eh3 (fun H locs hz => ?_)
    refine lv_aload_n hx hb dJ10_copyOf_3_31 rfl (lv_at hl 0 rfl) ?_
    obtain rfl := Option.some.inj hf
    exact zg_aret C hz hk dJ10_copyOf_3_32

theorem met_J10_copyOf_3 (l : Launch) (E : PEw) {h : HP} {x0 : Nat} {x1 : Int} {res : HP × Nat} (hf : f_J10_copyOf_3 h x0 x1 = some res) : Met l yJ10_copyOf_3 (ws_ yJ10_copyOf_3 cJ10_copyOf_3 3 (some (.array .byte))) (rmP h 1 44) (PR E h [.ref x0, .int (zI x1)]) (QR E h res.1 (some (.ref res.2))) (pX res.1 - pX h) (pS res.1 - pS h) (eF E) := by
  refine Met.ofW (cc := cJ10_copyOf_3) (maxL := 3) (ret := (some (.array .byte))) (by decide) rfl ?_
  intro p e s m args below meth c s₁ B hml hv
  obtain ⟨rfl, hP0⟩ := hv
  have hts := atoms_spec (ws := ws_ yJ10_copyOf_3 cJ10_copyOf_3 3 (some (.array .byte))) B.pre
  have hts : ∀ w ∈ lw_all, w.before _ s = true := fun w h => hts w (List.mem_cons_of_mem _ h)
  have C : PC E p s m _ meth c RJ10 cJ10_copyOf_3 3 (some (.array .byte)) "copyOf" := ⟨B.exec, B.bytes, B.returns, B.notSynchronized, hml, findClass_of_methodNamed B.named, hts, hP0.2, (name_of_methodNamed B.named B.method).1⟩
  have hz : ZR E s h h s.heap [] := ZG.start hP0.1
  have hl := lv_entry ([.ref x0, .int (zI x1)]) (n := 3) (Nat.le_of_ble_eq_true rfl)
  rw [lg_entry_eq]
  generalize (lg_sl ([.ref x0, .int (zI x1)]) ++ List.replicate (3 - (lg_sl ([.ref x0, .int (zI x1)])).length) Slot.unset).toArray = ls at hl ⊢
  have hl : lv_has ls 3 [(0, .ref x0), (1, .int (zI x1))] := hl
  refine W.cs (cells' := pX h - pX h) (slots' := pS h - pS h) (Nat.sub_self _).symm (Nat.sub_self _).symm ?_
  exact w_J10_copyOf_3 C ⟨Nat.le_refl _, Nat.le_refl _, RBw.rm⟩ hf hz hl rfl

theorem w_J4_ensureCapacityInternal {p : Program} {l : Launch} {e : Env} {R : Room} {s : State} {m : MethodId} {args : Array Value} {below : List Frame} {meth : Method} {c : Code} {Q : State → Prop} {E : PEw} {h0 h : HP} {H : Heap} {locs : List Loc} (C : PC E p s m args meth c RJ4 cJ4_ensureCapacityInternal 3 none "ensureCapacityInternal") (hr : 3 ≤ R.frames ∧ 69 ≤ R.locals ∧ RBw R h0) {x0 : Nat} {x1 : Int} {res : HP} (hf : f_J4_ensureCapacityInternal h x0 x1 = some res) (hz : ZR E s h0 h H locs) {ls : Array Slot} (hl : lv_has ls 3 [(0, .ref x0), (1, .int (zI x1))]) (hk : KR E below args s Q h0 res none) : W p l e R s m args below meth c H locs (pX h - pX h0) (pS h - pS h0) Q (F0 m 0 ls []) := by
  unfold f_J4_ensureCapacityInternal at hf
  have hx := C.1
  have hb := C.2.1
  refine lv_aload_n hx hb dJ4_ensureCapacityInternal_0 rfl (lv_at hl 0 rfl) ?_
  obtain ⟨hg, hf⟩ := gd_inv hf
  refine zg_getp gR C hz 9 0 (gks hg) (by decide) (by decide) (Or.inl (C.w q264)) (fun _ h => h) dJ4_ensureCapacityInternal_1 ?_
  obtain ⟨a1, ea1, hf⟩ := bd_inv hf
  rw [zx_rf ea1]
  obtain ⟨hg, hf⟩ := gd_inv hf
  refine zg_alenR gR C hz hg dJ4_ensureCapacityInternal_4 ?_
  refine lv_aload_n hx hb dJ4_ensureCapacityInternal_5 rfl (lv_at hl 0 rfl) ?_
  obtain ⟨hg, hf⟩ := gd_inv hf
  refine zg_geti gR C hz 9 1 (gks hg) (by decide) (by decide) (Or.inl (C.w q265)) (fun _ h => h) dJ4_ensureCapacityInternal_6 ?_
  refine zl_ishr hx hb dJ4_ensureCapacityInternal_9 ?_
  obtain ⟨y2, ey2, hf⟩ := bnd_inv hf
  refine zl_topi ey2 ?_
  refine lv_istore_n (lv' := [(2, .int (zI y2)), (0, .ref x0), (1, .int (zI x1))]) hx hb dJ4_ensureCapacityInternal_10 rfl hl (by decide) rfl (fun ls hl => ?_)
  refine lv_iload_n hx hb dJ4_ensureCapacityInternal_11 rfl (lv_at hl 2 rfl) ?_
  refine lv_iload_n hx hb dJ4_ensureCapacityInternal_12 rfl (lv_at hl 0 rfl) ?_
  refine zl_isub hx hb dJ4_ensureCapacityInternal_13 ?_
  refine zl_if_le (tgt := 38) hx hb dJ4_ensureCapacityInternal_14 (by decide) (fun hc => ?_) (fun hc => ?_)
  · rw [if_pos hc] at hf
    refine lv_aload_n hx hb dJ4_ensureCapacityInternal_17 rfl (lv_at hl 1 rfl) ?_
    refine lv_aload_n hx hb dJ4_ensureCapacityInternal_18 rfl (lv_at hl 1 rfl) ?_
    obtain ⟨hg, hf⟩ := gd_inv hf
    refine zg_getp gR C hz 9 0 (gks hg) (by decide) (by decide) (Or.inl (C.w q264)) (fun _ h => h) dJ4_ensureCapacityInternal_19 ?_
    refine lv_aload_n hx hb dJ4_ensureCapacityInternal_22 rfl (lv_at hl 1 rfl) ?_
    refine lv_iload_n hx hb dJ4_ensureCapacityInternal_23 rfl (lv_at hl 2 rfl) ?_
    obtain ⟨hg, hf⟩ := gd_inv hf
    obtain ⟨y3, ey3, hf⟩ := bd_inv hf
    refine zg_callV gR C hz hr (n := 1) (rest := [va_rf (pP h x0 0), .ref x0]) (gks (Or.inl hg)) (met_J4_newCapacity l E ey3) q485 q487 (C.selp (by simp [prSB])) q98 q488 (by decide +kernel) ⟨Nat.le_trans (by decide) hr.1, Nat.le_trans (by decide) hr.2.1⟩ rfl hl.1 rfl (by simp only [List.map_cons, List.map_nil, zx_cat]; exact Nat.le_of_ble_eq_true rfl) dJ4_ensureCapacityInternal_24 (fun H locs hz => ?_)
    refine lv_aload_n hx hb dJ4_ensureCapacityInternal_27 rfl (lv_at hl 1 rfl) ?_
    obtain ⟨hg, hf⟩ := gd_inv hf
    refine zg_geti gR C hz 9 1 (gks hg) (by decide) (by decide) (Or.inl (C.w q265)) (fun _ h => h) dJ4_ensureCapacityInternal_28 ?_
    refine zl_ishl hx hb dJ4_ensureCapacityInternal_31 ?_
    obtain ⟨a4, ea4, hf⟩ := bd_inv hf
    rw [zx_rf ea4]
    obtain ⟨y5, ey5, hf⟩ := bd_inv hf
    refine zg_callS gR C hz hr (n := 2) (rest := [.ref x0]) (met_J10_copyOf_3 l E ey5) q491 q492 q105 q493 (by decide +kernel) ⟨Nat.le_trans (by decide) hr.1, Nat.le_trans (by decide) hr.2.1⟩ rfl hl.1 rfl (Nat.le_of_ble_eq_true rfl) dJ4_ensureCapacityInternal_32 (fun H locs hz => ?_)
    obtain ⟨hg, hf⟩ := gd_inv hf
    obtain ⟨h6, eh6, hf⟩ := bnd_inv hf
    refine zg_putp gR C hz 9 0 (gks hg) (by decide) (by decide) (Or.inr ⟨_, rfl⟩) (by decide) (Or.inl (C.w q264)) (fun _ h => h) dJ4_ensureCapacityInternal_35 eh6 (fun H locs hz => ?_)
    obtain rfl := Option.some.inj hf
    exact zg_vret C hz hk dJ4_ensureCapacityInternal_38
  · rw [if_neg hc] at hf
    obtain rfl := Option.some.inj hf
    exact zg_vret C hz hk dJ4_ensureCapacityInternal_38

theorem met_J4_ensureCapacityInternal (l : Launch) (E : PEw) {h : HP} {x0 : Nat} {x1 : Int} {res : HP} (hf : f_J4_ensureCapacityInternal h x0 x1 = some res) : Met l yJ4_ensureCapacityInternal (ws_ yJ4_ensureCapacityInternal cJ4_ensureCapacityInternal 3 none) (rmP h 3 69) (PR E h [.ref x0, .int (zI x1)]) (QR E h res none) (pX res - pX h) (pS res - pS h) (eF E) := by
  refine Met.ofW (cc := cJ4_ensureCapacityInternal) (maxL := 3) (ret := none) (by decide) rfl ?_
  intro p e s m args below meth c s₁ B hml hv
  obtain ⟨rfl, hP0⟩ := hv
  have hts := atoms_spec (ws := ws_ yJ4_ensureCapacityInternal cJ4_ensureCapacityInternal 3 none) B.pre
  have hts : ∀ w ∈ lw_all, w.before _ s = true := fun w h => hts w (List.mem_cons_of_mem _ h)
  have C : PC E p s m _ meth c RJ4 cJ4_ensureCapacityInternal 3 none "ensureCapacityInternal" := ⟨B.exec, B.bytes, B.returns, B.notSynchronized, hml, findClass_of_methodNamed B.named, hts, hP0.2, (name_of_methodNamed B.named B.method).1⟩
  have hz : ZR E s h h s.heap [] := ZG.start hP0.1
  have hl := lv_entry ([.ref x0, .int (zI x1)]) (n := 3) (Nat.le_of_ble_eq_true rfl)
  rw [lg_entry_eq]
  generalize (lg_sl ([.ref x0, .int (zI x1)]) ++ List.replicate (3 - (lg_sl ([.ref x0, .int (zI x1)])).length) Slot.unset).toArray = ls at hl ⊢
  have hl : lv_has ls 3 [(0, .ref x0), (1, .int (zI x1))] := hl
  refine W.cs (cells' := pX h - pX h) (slots' := pS h - pS h) (Nat.sub_self _).symm (Nat.sub_self _).symm ?_
  exact w_J4_ensureCapacityInternal C ⟨Nat.le_refl _, Nat.le_refl _, RBw.rm⟩ hf hz hl rfl

theorem w_J4_setLength_76 {p : Program} {l : Launch} {e : Env} {R : Room} {s : State} {m : MethodId} {args : Array Value} {below : List Frame} {meth : Method} {c : Code} {Q : State → Prop} {E : PEw} {h0 h : HP} {H : Heap} {locs : List Loc} (C : PC E p s m args meth c RJ4 cJ4_setLength 2 none "setLength") (hr : 4 ≤ R.frames ∧ 91 ≤ R.locals ∧ RBw R h0) {x0 : Nat} {x1 : Int} {res : HP} (hf : f_J4_setLength_76 h x0 x1 = some res) (hz : ZR E s h0 h H locs) {ls : Array Slot} (hl : lv_has ls 2 [(0, .ref x0), (1, .int (zI x1))]) (hk : KR E below args s Q h0 res none) : W p l e R s m args below meth c H locs (pX h - pX h0) (pS h - pS h0) Q (F0 m 76 ls []) := by
  unfold f_J4_setLength_76 at hf
  have hx := C.1
  have hb := C.2.1
  refine lv_aload_n hx hb dJ4_setLength_76 rfl (lv_at hl 0 rfl) ?_
  refine lv_iload_n hx hb dJ4_setLength_77 rfl (lv_at hl 1 rfl) ?_
  obtain ⟨hg, hf⟩ := gd_inv hf
  obtain ⟨h1, eh1, hf⟩ := bnd_inv hf
  refine zg_puti gR C hz 9 3 (gks hg) (by decide) (by decide) rfl (by decide) (Or.inl (C.w q267)) (fun _ h => h) dJ4_setLength_78 eh1 (fun H locs hz => ?_)
  obtain rfl := Option.some.inj hf
  exact zg_vret C hz hk dJ4_setLength_81

theorem w_J4_setLength {p : Program} {l : Launch} {e : Env} {R : Room} {s : State} {m : MethodId} {args : Array Value} {below : List Frame} {meth : Method} {c : Code} {Q : State → Prop} {E : PEw} {h0 h : HP} {H : Heap} {locs : List Loc} (C : PC E p s m args meth c RJ4 cJ4_setLength 2 none "setLength") (hr : 4 ≤ R.frames ∧ 91 ≤ R.locals ∧ RBw R h0) {x0 : Nat} {x1 : Int} {res : HP} (hf : f_J4_setLength h x0 x1 = some res) (hz : ZR E s h0 h H locs) {ls : Array Slot} (hl : lv_has ls 2 [(0, .ref x0), (1, .int (zI x1))]) (hk : KR E below args s Q h0 res none) : W p l e R s m args below meth c H locs (pX h - pX h0) (pS h - pS h0) Q (F0 m 0 ls []) := by
  unfold f_J4_setLength at hf
  have hx := C.1
  have hb := C.2.1
  refine lv_iload_n hx hb dJ4_setLength_0 rfl (lv_at hl 1 rfl) ?_
  refine zl_if_ge (tgt := 13) hx hb dJ4_setLength_1 (by decide) (fun hc => ?_) (fun hc => ?_)
  · rw [if_pos hc] at hf
    cases hf
  · rw [if_neg hc] at hf
    refine lv_aload_n hx hb dJ4_setLength_13 rfl (lv_at hl 0 rfl) ?_
    refine lv_iload_n hx hb dJ4_setLength_14 rfl (lv_at hl 1 rfl) ?_
    obtain ⟨hg, hf⟩ := gd_inv hf
    obtain ⟨y1, ey1, hf⟩ := bd_inv hf
    refine zg_callV gR C hz hr (n := 1) (rest := []) (gks (Or.inl hg)) (met_J4_ensureCapacityInternal l E ey1) q481 q483 (C.selp (by simp [prSB])) q98 q484 (by decide +kernel) ⟨Nat.le_trans (by decide) hr.1, Nat.le_trans (by decide) hr.2.1⟩ rfl hl.1 rfl (Nat.le_of_ble_eq_true rfl) dJ4_setLength_15 (fun H locs hz => ?_)
    refine lv_aload_n hx hb dJ4_setLength_18 rfl (lv_at hl 0 rfl) ?_
    obtain ⟨hg, hf⟩ := gd_inv hf
    refine zg_geti gR C hz 9 3 (gks hg) (by decide) (by decide) (Or.inl (C.w q267)) (fun _ h => h) dJ4_setLength_19 ?_
    refine lv_iload_n hx hb dJ4_setLength_22 rfl (lv_at hl 1 rfl) ?_
    refine zl_icmp_ge (tgt := 63) hx hb dJ4_setLength_23 (by decide) (fun hc => ?_) (fun hc => ?_)
    · rw [if_pos hc] at hf
      cases hf
    · rw [if_neg hc] at hf
      refine lv_aload_n hx hb dJ4_setLength_63 rfl (lv_at hl 0 rfl) ?_
      obtain ⟨hg, hf⟩ := gd_inv hf
      refine zg_geti gR C hz 9 3 (gks hg) (by decide) (by decide) (Or.inl (C.w q267)) (fun _ h => h) dJ4_setLength_64 ?_
      refine lv_iload_n hx hb dJ4_setLength_67 rfl (lv_at hl 1 rfl) ?_
      refine zl_icmp_le (tgt := 76) hx hb dJ4_setLength_68 (by decide) (fun hc => ?_) (fun hc => ?_)
      · rw [if_pos hc] at hf
        refine lv_aload_n hx hb dJ4_setLength_71 rfl (lv_at hl 0 rfl) ?_
        refine zl_iconst hx hb dJ4_setLength_72 ?_
        obtain ⟨hg, hf⟩ := gd_inv hf
        obtain ⟨h2, eh2, hf⟩ := bnd_inv hf
        refine zg_putb gR C hz 9 2 (gks hg) (by decide) (by decide) rfl (by decide) zisB_1 (Or.inl (C.w q266)) (fun _ h => h) dJ4_setLength_73 eh2 (fun H locs hz => ?_)
        exact w_J4_setLength_76 C hr hf hz (lv_sub hl [0, 1] rfl) hk
      · rw [if_neg hc] at hf
        exact w_J4_setLength_76 C hr hf hz (lv_sub hl [0, 1] rfl) hk

theorem met_J4_setLength (l : Launch) (E : PEw) {h : HP} {x0 : Nat} {x1 : Int} {res : HP} (hf : f_J4_setLength h x0 x1 = some res) : Met l yJ4_setLength (ws_ yJ4_setLength cJ4_setLength 2 none) (rmP h 4 91) (PR E h [.ref x0, .int (zI x1)]) (QR E h res none) (pX res - pX h) (pS res - pS h) (eF E) := by
  refine Met.ofW (cc := cJ4_setLength) (maxL := 2) (ret := none) (by decide) rfl ?_
  intro p e s m args below meth c s₁ B hml hv
  obtain ⟨rfl, hP0⟩ := hv
  have hts := atoms_spec (ws := ws_ yJ4_setLength cJ4_setLength 2 none) B.pre
  have hts : ∀ w ∈ lw_all, w.before _ s = true := fun w h => hts w (List.mem_cons_of_mem _ h)
  have C : PC E p s m _ meth c RJ4 cJ4_setLength 2 none "setLength" := ⟨B.exec, B.bytes, B.returns, B.notSynchronized, hml, findClass_of_methodNamed B.named, hts, hP0.2, (name_of_methodNamed B.named B.method).1⟩
  have hz : ZR E s h h s.heap [] := ZG.start hP0.1
  have hl := lv_entry ([.ref x0, .int (zI x1)]) (n := 2) (Nat.le_of_ble_eq_true rfl)
  rw [lg_entry_eq]
  generalize (lg_sl ([.ref x0, .int (zI x1)]) ++ List.replicate (2 - (lg_sl ([.ref x0, .int (zI x1)])).length) Slot.unset).toArray = ls at hl ⊢
  have hl : lv_has ls 2 [(0, .ref x0), (1, .int (zI x1))] := hl
  refine W.cs (cells' := pX h - pX h) (slots' := pS h - pS h) (Nat.sub_self _).symm (Nat.sub_self _).symm ?_
  exact w_J4_setLength C ⟨Nat.le_refl _, Nat.le_refl _, RBw.rm⟩ hf hz hl rfl

theorem w_J5_setLength {p : Program} {l : Launch} {e : Env} {R : Room} {s : State} {m : MethodId} {args : Array Value} {below : List Frame} {meth : Method} {c : Code} {Q : State → Prop} {E : PEw} {h0 h : HP} {H : Heap} {locs : List Loc} (C : PC E p s m args meth c RJ5 cJ5_setLength 2 none "setLength") (hr : 5 ≤ R.frames ∧ 112 ≤ R.locals ∧ RBw R h0) {x0 : Nat} {x1 : Int} {res : HP} (hf : f_J5_setLength h x0 x1 = some res) (hz : ZR E s h0 h H locs) {ls : Array Slot} (hl : lv_has ls 2 [(0, .ref x0), (1, .int (zI x1))]) (hk : KR E below args s Q h0 res none) : W p l e R s m args below meth c H locs (pX h - pX h0) (pS h - pS h0) Q (F0 m 0 ls []) := by
  unfold f_J5_setLength at hf
  have hx := C.1
  have hb := C.2.1
  refine lv_aload_n hx hb dJ5_setLength_0 rfl (lv_at hl 0 rfl) ?_
  refine lv_iload_n hx hb dJ5_setLength_1 rfl (lv_at hl 1 rfl) ?_
  obtain ⟨y1, ey1, hf⟩ := bd_inv hf
  obtain ⟨hg, hf⟩ := gd_inv hf
  refine zg_callSU gR C hz hr (n := 1) (rest := []) (gks (Or.inl hg)) (met_J4_setLength l E ey1) q478 q479 q1609 q276 q98 q480 (by decide +kernel) ⟨Nat.le_trans (by decide) hr.1, Nat.le_trans (by decide) hr.2.1⟩ rfl hl.1 rfl (Nat.le_of_ble_eq_true rfl) dJ5_setLength_2 (fun H locs hz => ?_)
  obtain rfl := Option.some.inj hf
  exact zg_vret C hz hk dJ5_setLength_5

theorem met_J5_setLength (l : Launch) (E : PEw) {h : HP} {x0 : Nat} {x1 : Int} {res : HP} (hf : f_J5_setLength h x0 x1 = some res) : Met l yJ5_setLength (ws_ yJ5_setLength cJ5_setLength 2 none) (rmP h 5 112) (PR E h [.ref x0, .int (zI x1)]) (QR E h res none) (pX res - pX h) (pS res - pS h) (eF E) := by
  refine Met.ofW (cc := cJ5_setLength) (maxL := 2) (ret := none) (by decide) rfl ?_
  intro p e s m args below meth c s₁ B hml hv
  obtain ⟨rfl, hP0⟩ := hv
  have hts := atoms_spec (ws := ws_ yJ5_setLength cJ5_setLength 2 none) B.pre
  have hts : ∀ w ∈ lw_all, w.before _ s = true := fun w h => hts w (List.mem_cons_of_mem _ h)
  have C : PC E p s m _ meth c RJ5 cJ5_setLength 2 none "setLength" := ⟨B.exec, B.bytes, B.returns, B.notSynchronized, hml, findClass_of_methodNamed B.named, hts, hP0.2, (name_of_methodNamed B.named B.method).1⟩
  have hz : ZR E s h h s.heap [] := ZG.start hP0.1
  have hl := lv_entry ([.ref x0, .int (zI x1)]) (n := 2) (Nat.le_of_ble_eq_true rfl)
  rw [lg_entry_eq]
  generalize (lg_sl ([.ref x0, .int (zI x1)]) ++ List.replicate (2 - (lg_sl ([.ref x0, .int (zI x1)])).length) Slot.unset).toArray = ls at hl ⊢
  have hl : lv_has ls 2 [(0, .ref x0), (1, .int (zI x1))] := hl
  refine W.cs (cells' := pX h - pX h) (slots' := pS h - pS h) (Nat.sub_self _).symm (Nat.sub_self _).symm ?_
  exact w_J5_setLength C ⟨Nat.le_refl _, Nat.le_refl _, RBw.rm⟩ hf hz hl rfl

theorem w_J2_size {p : Program} {l : Launch} {e : Env} {R : Room} {s : State} {m : MethodId} {args : Array Value} {below : List Frame} {meth : Method} {c : Code} {Q : State → Prop} {E : PEw} {h0 h : HP} {H : Heap} {locs : List Loc} (C : PC E p s m args meth c RJ2 cJ2_size 1 (some .int) "size") (hr : 0 ≤ R.frames ∧ 0 ≤ R.locals ∧ RBw R h0) {x0 : Nat} {res : Int} (hf : f_J2_size h x0 = some res) (hz : ZR E s h0 h H locs) {ls : Array Slot} (hl : lv_has ls 1 [(0, .ref x0)]) (hk : KR E below args s Q h0 h (some (.int (zI res)))) : W p l e R s m args below meth c H locs (pX h - pX h0) (pS h - pS h0) Q (F0 m 0 ls []) := by
  unfold f_J2_size at hf
  have hx := C.1
  have hb := C.2.1
  refine lv_aload_n hx hb dJ2_size_0 rfl (lv_at hl 0 rfl) ?_
  obtain ⟨hg, hf⟩ := gd_inv hf
  refine zg_geti gR C hz 8 2 (gkl hg) (by decide) (by decide) (Or.inl (C.w q148)) (fun _ h => h) dJ2_size_1 ?_
  obtain rfl := Option.some.inj hf
  exact zg_iret C hz hk dJ2_size_4

theorem met_J2_size (l : Launch) (E : PEw) {h : HP} {x0 : Nat} {res : Int} (hf : f_J2_size h x0 = some res) : Met l yJ2_size (ws_ yJ2_size cJ2_size 1 (some .int)) (rmP h 0 0) (PR E h [.ref x0]) (QR E h h (some (.int (zI res)))) (pX h - pX h) (pS h - pS h) (eF E) := by
  refine Met.ofW (cc := cJ2_size) (maxL := 1) (ret := (some .int)) (by decide) rfl ?_
  intro p e s m args below meth c s₁ B hml hv
  obtain ⟨rfl, hP0⟩ := hv
  have hts := atoms_spec (ws := ws_ yJ2_size cJ2_size 1 (some .int)) B.pre
  have hts : ∀ w ∈ lw_all, w.before _ s = true := fun w h => hts w (List.mem_cons_of_mem _ h)
  have C : PC E p s m _ meth c RJ2 cJ2_size 1 (some .int) "size" := ⟨B.exec, B.bytes, B.returns, B.notSynchronized, hml, findClass_of_methodNamed B.named, hts, hP0.2, (name_of_methodNamed B.named B.method).1⟩
  have hz : ZR E s h h s.heap [] := ZG.start hP0.1
  have hl := lv_entry ([.ref x0]) (n := 1) (Nat.le_of_ble_eq_true rfl)
  rw [lg_entry_eq]
  generalize (lg_sl ([.ref x0]) ++ List.replicate (1 - (lg_sl ([.ref x0])).length) Slot.unset).toArray = ls at hl ⊢
  have hl : lv_has ls 1 [(0, .ref x0)] := hl
  refine W.cs (cells' := pX h - pX h) (slots' := pS h - pS h) (Nat.sub_self _).symm (Nat.sub_self _).symm ?_
  exact w_J2_size C ⟨Nat.le_refl _, Nat.le_refl _, RBw.rm⟩ hf hz hl rfl

theorem w_J12_checkIndex {p : Program} {l : Launch} {e : Env} {R : Room} {s : State} {m : MethodId} {args : Array Value} {below : List Frame} {meth : Method} {c : Code} {Q : State → Prop} (C : SC' p s m args meth c RJ12 cJ12_checkIndex 3 (some .int)) (hr : 0 ≤ R.frames ∧ 0 ≤ R.locals) {x0 : Int} {x1 : Int} {v2 : Value} {res : Int} (hf : f_J12_checkIndex x0 x1 = some res) {ls : Array Slot} (hl : lv_has ls 3 [(0, .int (zI x0)), (1, .int (zI x1)), (2, v2)]) (hk : KS below args s Q (some (.int (zI res)))) : W p l e R s m args below meth c s.heap [] 0 0 Q (F0 m 0 ls []) := by
  unfold f_J12_checkIndex at hf
  have hx := C.1
  have hb := C.2.1
  refine lv_iload_n hx hb dJ12_checkIndex_0 rfl (lv_at hl 0 rfl) ?_
  refine zl_if_lt (tgt := 9) hx hb dJ12_checkIndex_1 (by decide) (fun hc => ?_) (fun hc => ?_)
  · rw [if_pos hc] at hf
    cases hf
  · rw [if_neg hc] at hf
    refine lv_iload_n hx hb dJ12_checkIndex_4 rfl (lv_at hl 0 rfl) ?_
    refine lv_iload_n hx hb dJ12_checkIndex_5 rfl (lv_at hl 1 rfl) ?_
    refine zl_icmp_lt (tgt := 16) hx hb dJ12_checkIndex_6 (by decide) (fun hc => ?_) (fun hc => ?_)
    · rw [if_pos hc] at hf
      refine lv_iload_n hx hb dJ12_checkIndex_16 rfl (lv_at hl 0 rfl) ?_
      obtain rfl := Option.some.inj hf
      exact zt_iret C hk dJ12_checkIndex_17
    · rw [if_neg hc] at hf
      cases hf

theorem met_J12_checkIndex (l : Launch) {x0 : Int} {x1 : Int} {v2 : Value} (hv2 : v2 = .null ∨ ∃ a, v2 = .ref a) {res : Int} (hf : f_J12_checkIndex x0 x1 = some res) : Met l yJ12_checkIndex (ws_ yJ12_checkIndex cJ12_checkIndex 3 (some .int)) ({ frames := 0, cells := 0, slots := 0, locals := 0 }) (va_Pc [.int (zI x0), .int (zI x1), v2] (fun _ => True)) (QS (some (.int (zI res)))) 0 0 (fun _ => False) := by
  refine Met.ofW (cc := cJ12_checkIndex) (maxL := 3) (ret := (some .int)) (by decide) rfl ?_
  intro p e s m args below meth c s₁ B hml hv
  obtain ⟨rfl, -⟩ := hv
  have hts := atoms_spec (ws := ws_ yJ12_checkIndex cJ12_checkIndex 3 (some .int)) B.pre
  have hts : ∀ w ∈ lw_all, w.before _ s = true := fun w h => hts w (List.mem_cons_of_mem _ h)
  have C : SC' p s m _ meth c RJ12 cJ12_checkIndex 3 (some .int) := ⟨B.exec, B.bytes, B.returns, B.notSynchronized, hml, findClass_of_methodNamed B.named, hts⟩
  rcases hv2 with rfl | ⟨av, rfl⟩
  · have hl := lv_entry ([.int (zI x0), .int (zI x1), .null]) (n := 3) (Nat.le_of_ble_eq_true rfl)
    rw [lg_entry_eq]
    generalize (lg_sl ([.int (zI x0), .int (zI x1), .null]) ++ List.replicate (3 - (lg_sl ([.int (zI x0), .int (zI x1), .null])).length) Slot.unset).toArray = ls at hl ⊢
    have hl : lv_has ls 3 [(0, .int (zI x0)), (1, .int (zI x1)), (2, .null)] := hl
    exact w_J12_checkIndex C ⟨Nat.le_refl _, Nat.le_refl _⟩ hf hl rfl
  · have hl := lv_entry ([.int (zI x0), .int (zI x1), (.ref av)]) (n := 3) (Nat.le_of_ble_eq_true rfl)
    rw [lg_entry_eq]
    generalize (lg_sl ([.int (zI x0), .int (zI x1), (.ref av)]) ++ List.replicate (3 - (lg_sl ([.int (zI x0), .int (zI x1), (.ref av)])).length) Slot.unset).toArray = ls at hl ⊢
    have hl : lv_has ls 3 [(0, .int (zI x0)), (1, .int (zI x1)), (2, (.ref av))] := hl
    exact w_J12_checkIndex C ⟨Nat.le_refl _, Nat.le_refl _⟩ hf hl rfl

theorem w_J11_checkIndex {p : Program} {l : Launch} {e : Env} {R : Room} {s : State} {m : MethodId} {args : Array Value} {below : List Frame} {meth : Method} {c : Code} {Q : State → Prop} (C : SC' p s m args meth c RJ11 cJ11_checkIndex 2 (some .int)) (hr : 1 ≤ R.frames ∧ 22 ≤ R.locals) {x0 : Int} {x1 : Int} {res : Int} (hf : f_J11_checkIndex x0 x1 = some res) {ls : Array Slot} (hl : lv_has ls 2 [(0, .int (zI x0)), (1, .int (zI x1))]) (hk : KS below args s Q (some (.int (zI res)))) : W p l e R s m args below meth c s.heap [] 0 0 Q (F0 m 0 ls []) := by
  unfold f_J11_checkIndex at hf
  have hx := C.1
  have hb := C.2.1
  refine lv_iload_n hx hb dJ11_checkIndex_0 rfl (lv_at hl 0 rfl) ?_
  refine lv_iload_n hx hb dJ11_checkIndex_1 rfl (lv_at hl 1 rfl) ?_
  refine lv_null hx hb dJ11_checkIndex_2 ?_
  obtain ⟨y1, ey1, hf⟩ := bd_inv hf
  refine zt_callS0 C (n := 3) (rest := []) (met_J12_checkIndex l (Or.inl rfl) ey1) q560 q561 q109 q562 rfl rfl (by decide +kernel) ⟨Nat.le_trans (by decide) hr.1, Nat.le_trans (by decide) hr.2⟩ rfl hl.1 rfl (Nat.le_of_ble_eq_true rfl) dJ11_checkIndex_3 (Nat.zero_le _) (Nat.zero_le _) ?_
  obtain rfl := Option.some.inj hf
  exact zt_iret C hk dJ11_checkIndex_6

theorem met_J11_checkIndex (l : Launch) {x0 : Int} {x1 : Int} {res : Int} (hf : f_J11_checkIndex x0 x1 = some res) : Met l yJ11_checkIndex (ws_ yJ11_checkIndex cJ11_checkIndex 2 (some .int)) ({ frames := 1, cells := 0, slots := 0, locals := 22 }) (va_Pc [.int (zI x0), .int (zI x1)] (fun _ => True)) (QS (some (.int (zI res)))) 0 0 (fun _ => False) := by
  refine Met.ofW (cc := cJ11_checkIndex) (maxL := 2) (ret := (some .int)) (by decide) rfl ?_
  intro p e s m args below meth c s₁ B hml hv
  obtain ⟨rfl, -⟩ := hv
  have hts := atoms_spec (ws := ws_ yJ11_checkIndex cJ11_checkIndex 2 (some .int)) B.pre
  have hts : ∀ w ∈ lw_all, w.before _ s = true := fun w h => hts w (List.mem_cons_of_mem _ h)
  have C : SC' p s m _ meth c RJ11 cJ11_checkIndex 2 (some .int) := ⟨B.exec, B.bytes, B.returns, B.notSynchronized, hml, findClass_of_methodNamed B.named, hts⟩
  have hl := lv_entry ([.int (zI x0), .int (zI x1)]) (n := 2) (Nat.le_of_ble_eq_true rfl)
  rw [lg_entry_eq]
  generalize (lg_sl ([.int (zI x0), .int (zI x1)]) ++ List.replicate (2 - (lg_sl ([.int (zI x0), .int (zI x1)])).length) Slot.unset).toArray = ls at hl ⊢
  have hl : lv_has ls 2 [(0, .int (zI x0)), (1, .int (zI x1))] := hl
  exact w_J11_checkIndex C ⟨Nat.le_refl _, Nat.le_refl _⟩ hf hl rfl

theorem w_J2_elementData {p : Program} {l : Launch} {e : Env} {R : Room} {s : State} {m : MethodId} {args : Array Value} {below : List Frame} {meth : Method} {c : Code} {Q : State → Prop} {E : PEw} {h0 h : HP} {H : Heap} {locs : List Loc} (C : PC E p s m args meth c RJ2 cJ2_elementData 2 (some (.object "java/lang/Object")) "elementData") (hr : 0 ≤ R.frames ∧ 0 ≤ R.locals ∧ RBw R h0) {x0 : Nat} {x1 : Int} {res : Option Nat} (hf : f_J2_elementData h x0 x1 = some res) (hz : ZR E s h0 h H locs) {ls : Array Slot} (hl : lv_has ls 2 [(0, .ref x0), (1, .int (zI x1))]) (hk : KR E below args s Q h0 h (some (va_rf res))) : W p l e R s m args below meth c H locs (pX h - pX h0) (pS h - pS h0) Q (F0 m 0 ls []) := by
  unfold f_J2_elementData at hf
  have hx := C.1
  have hb := C.2.1
  refine lv_aload_n hx hb dJ2_elementData_0 rfl (lv_at hl 0 rfl) ?_
  obtain ⟨hg, hf⟩ := gd_inv hf
  refine zg_getp gR C hz 8 1 (gkl hg) (by decide) (by decide) (Or.inl (C.w q147)) (fun _ h => h) dJ2_elementData_1 ?_
  refine lv_iload_n hx hb dJ2_elementData_4 rfl (lv_at hl 1 rfl) ?_
  obtain ⟨a1, ea1, hf⟩ := bd_inv hf
  rw [zx_rf ea1]
  obtain ⟨hg, hf⟩ := gd_inv hf
  obtain ⟨hi, hf⟩ := gd_inv hf
  refine zg_aald gR (by decide) C hz hg hi dJ2_elementData_5 ?_
  obtain rfl := Option.some.inj hf
  exact zg_aret_o C hz hk dJ2_elementData_6

theorem met_J2_elementData (l : Launch) (E : PEw) {h : HP} {x0 : Nat} {x1 : Int} {res : Option Nat} (hf : f_J2_elementData h x0 x1 = some res) : Met l yJ2_elementData (ws_ yJ2_elementData cJ2_elementData 2 (some (.object "java/lang/Object"))) (rmP h 0 0) (PR E h [.ref x0, .int (zI x1)]) (QR E h h (some (va_rf res))) (pX h - pX h) (pS h - pS h) (eF E) := by
  refine Met.ofW (cc := cJ2_elementData) (maxL := 2) (ret := (some (.object "java/lang/Object"))) (by decide) rfl ?_
  intro p e s m args below meth c s₁ B hml hv
  obtain ⟨rfl, hP0⟩ := hv
  have hts := atoms_spec (ws := ws_ yJ2_elementData cJ2_elementData 2 (some (.object "java/lang/Object"))) B.pre
  have hts : ∀ w ∈ lw_all, w.before _ s = true := fun w h => hts w (List.mem_cons_of_mem _ h)
  have C : PC E p s m _ meth c RJ2 cJ2_elementData 2 (some (.object "java/lang/Object")) "elementData" := ⟨B.exec, B.bytes, B.returns, B.notSynchronized, hml, findClass_of_methodNamed B.named, hts, hP0.2, (name_of_methodNamed B.named B.method).1⟩
  have hz : ZR E s h h s.heap [] := ZG.start hP0.1
  have hl := lv_entry ([.ref x0, .int (zI x1)]) (n := 2) (Nat.le_of_ble_eq_true rfl)
  rw [lg_entry_eq]
  generalize (lg_sl ([.ref x0, .int (zI x1)]) ++ List.replicate (2 - (lg_sl ([.ref x0, .int (zI x1)])).length) Slot.unset).toArray = ls at hl ⊢
  have hl : lv_has ls 2 [(0, .ref x0), (1, .int (zI x1))] := hl
  refine W.cs (cells' := pX h - pX h) (slots' := pS h - pS h) (Nat.sub_self _).symm (Nat.sub_self _).symm ?_
  exact w_J2_elementData C ⟨Nat.le_refl _, Nat.le_refl _, RBw.rm⟩ hf hz hl rfl

theorem w_J2_get {p : Program} {l : Launch} {e : Env} {R : Room} {s : State} {m : MethodId} {args : Array Value} {below : List Frame} {meth : Method} {c : Code} {Q : State → Prop} {E : PEw} {h0 h : HP} {H : Heap} {locs : List Loc} (C : PC E p s m args meth c RJ2 cJ2_get 2 (some (.object "java/lang/Object")) "get") (hr : 2 ≤ R.frames ∧ 43 ≤ R.locals ∧ RBw R h0) {x0 : Nat} {x1 : Int} {res : Option Nat} (hf : f_J2_get h x0 x1 = some res) (hz : ZR E s h0 h H locs) {ls : Array Slot} (hl : lv_has ls 2 [(0, .ref x0), (1, .int (zI x1))]) (hk : KR E below args s Q h0 h (some (va_rf res))) : W p l e R s m args below meth c H locs (pX h - pX h0) (pS h - pS h0) Q (F0 m 0 ls []) := by
  unfold f_J2_get at hf
  have hx := C.1
  have hb := C.2.1
  refine lv_iload_n hx hb dJ2_get_0 rfl (lv_at hl 1 rfl) ?_
  refine lv_aload_n hx hb dJ2_get_1 rfl (lv_at hl 0 rfl) ?_
  obtain ⟨hg, hf⟩ := gd_inv hf
  refine zg_geti gR C hz 8 2 (gkl hg) (by decide) (by decide) (Or.inl (C.w q148)) (fun _ h => h) dJ2_get_2 ?_
  obtain ⟨y1, ey1, hf⟩ := bd_inv hf
  refine zg_callS0 C (n := 2) (rest := []) (met_J11_checkIndex l ey1) q557 q558 q108 q559 rfl rfl (by decide +kernel) ⟨Nat.le_trans (by decide) hr.1, Nat.le_trans (by decide) hr.2.1⟩ rfl hl.1 rfl (Nat.le_of_ble_eq_true rfl) dJ2_get_5 (RBw.have gR hz hr).1 (RBw.have gR hz hr).2 ?_
  refine lv_pop hx hb dJ2_get_8 rfl ?_
  refine lv_aload_n hx hb dJ2_get_9 rfl (lv_at hl 0 rfl) ?_
  refine lv_iload_n hx hb dJ2_get_10 rfl (lv_at hl 1 rfl) ?_
  obtain ⟨hg, hf⟩ := gd_inv hf
  obtain ⟨y2, ey2, hf⟩ := bd_inv hf
  refine zg_callV gR C hz hr (n := 1) (rest := []) (gkl (Or.inl hg)) (met_J2_elementData l E ey2) q563 q564 (C.w q565) q94 q566 (by decide +kernel) ⟨Nat.le_trans (by decide) hr.1, Nat.le_trans (by decide) hr.2.1⟩ rfl hl.1 rfl (Nat.le_of_ble_eq_true rfl) dJ2_get_11 (fun H locs hz => ?_)
  obtain rfl := Option.some.inj hf
  exact zg_aret_o C hz hk dJ2_get_14

theorem met_J2_get (l : Launch) (E : PEw) {h : HP} {x0 : Nat} {x1 : Int} {res : Option Nat} (hf : f_J2_get h x0 x1 = some res) : Met l yJ2_get (ws_ yJ2_get cJ2_get 2 (some (.object "java/lang/Object"))) (rmP h 2 43) (PR E h [.ref x0, .int (zI x1)]) (QR E h h (some (va_rf res))) (pX h - pX h) (pS h - pS h) (eF E) := by
  refine Met.ofW (cc := cJ2_get) (maxL := 2) (ret := (some (.object "java/lang/Object"))) (by decide) rfl ?_
  intro p e s m args below meth c s₁ B hml hv
  obtain ⟨rfl, hP0⟩ := hv
  have hts := atoms_spec (ws := ws_ yJ2_get cJ2_get 2 (some (.object "java/lang/Object"))) B.pre
  have hts : ∀ w ∈ lw_all, w.before _ s = true := fun w h => hts w (List.mem_cons_of_mem _ h)
  have C : PC E p s m _ meth c RJ2 cJ2_get 2 (some (.object "java/lang/Object")) "get" := ⟨B.exec, B.bytes, B.returns, B.notSynchronized, hml, findClass_of_methodNamed B.named, hts, hP0.2, (name_of_methodNamed B.named B.method).1⟩
  have hz : ZR E s h h s.heap [] := ZG.start hP0.1
  have hl := lv_entry ([.ref x0, .int (zI x1)]) (n := 2) (Nat.le_of_ble_eq_true rfl)
  rw [lg_entry_eq]
  generalize (lg_sl ([.ref x0, .int (zI x1)]) ++ List.replicate (2 - (lg_sl ([.ref x0, .int (zI x1)])).length) Slot.unset).toArray = ls at hl ⊢
  have hl : lv_has ls 2 [(0, .ref x0), (1, .int (zI x1))] := hl
  refine W.cs (cells' := pX h - pX h) (slots' := pS h - pS h) (Nat.sub_self _).symm (Nat.sub_self _).symm ?_
  exact w_J2_get C ⟨Nat.le_refl _, Nat.le_refl _, RBw.rm⟩ hf hz hl rfl

theorem w_J13_canEncode {p : Program} {l : Launch} {e : Env} {R : Room} {s : State} {m : MethodId} {args : Array Value} {below : List Frame} {meth : Method} {c : Code} {Q : State → Prop} (C : SC' p s m args meth c RJ13 cJ13_canEncode 1 (some .boolean)) (hr : 0 ≤ R.frames ∧ 0 ≤ R.locals) {x0 : Int} {res : Int} (hf : f_J13_canEncode x0 = some res) {ls : Array Slot} (hl : lv_has ls 1 [(0, .int (zI x0))]) (hk : KS below args s Q (some (.int (zI res)))) : W p l e R s m args below meth c s.heap [] 0 0 Q (F0 m 0 ls []) := by
  unfold f_J13_canEncode at hf
  have hx := C.1
  have hb := C.2.1
  refine lv_iload_n hx hb dJ13_canEncode_0 rfl (lv_at hl 0 rfl) ?_
  refine zl_if_lt (tgt := 15) hx hb dJ13_canEncode_1 (by decide) (fun hc => ?_) (fun hc => ?_)
  · rw [if_pos hc] at hf
    refine zl_iconst hx hb dJ13_canEncode_15 ?_
    obtain rfl := Option.some.inj hf
    exact zt_zret C zisB_0 hk dJ13_canEncode_16
  · rw [if_neg hc] at hf
    refine lv_iload_n hx hb dJ13_canEncode_4 rfl (lv_at hl 0 rfl) ?_
    refine zl_sipush hx hb dJ13_canEncode_5 (by decide) ?_
    refine zl_icmp_gt (tgt := 15) hx hb dJ13_canEncode_8 (by decide) (fun hc => ?_) (fun hc => ?_)
    · rw [if_pos hc] at hf
      refine zl_iconst hx hb dJ13_canEncode_15 ?_
      obtain rfl := Option.some.inj hf
      exact zt_zret C zisB_0 hk dJ13_canEncode_16
    · rw [if_neg hc] at hf
      refine zl_iconst hx hb dJ13_canEncode_11 ?_
      refine lv_goto (tgt := 16) hx hb dJ13_canEncode_12 (by decide) ?_
      obtain rfl := Option.some.inj hf
      exact zt_zret C zisB_1 hk dJ13_canEncode_16

theorem met_J13_canEncode (l : Launch) {x0 : Int} {res : Int} (hf : f_J13_canEncode x0 = some res) : Met l yJ13_canEncode (ws_ yJ13_canEncode cJ13_canEncode 1 (some .boolean)) ({ frames := 0, cells := 0, slots := 0, locals := 0 }) (va_Pc [.int (zI x0)] (fun _ => True)) (QS (some (.int (zI res)))) 0 0 (fun _ => False) := by
  refine Met.ofW (cc := cJ13_canEncode) (maxL := 1) (ret := (some .boolean)) (by decide) rfl ?_
  intro p e s m args below meth c s₁ B hml hv
  obtain ⟨rfl, -⟩ := hv
  have hts := atoms_spec (ws := ws_ yJ13_canEncode cJ13_canEncode 1 (some .boolean)) B.pre
  have hts : ∀ w ∈ lw_all, w.before _ s = true := fun w h => hts w (List.mem_cons_of_mem _ h)
  have C : SC' p s m _ meth c RJ13 cJ13_canEncode 1 (some .boolean) := ⟨B.exec, B.bytes, B.returns, B.notSynchronized, hml, findClass_of_methodNamed B.named, hts⟩
  have hl := lv_entry ([.int (zI x0)]) (n := 1) (Nat.le_of_ble_eq_true rfl)
  rw [lg_entry_eq]
  generalize (lg_sl ([.int (zI x0)]) ++ List.replicate (1 - (lg_sl ([.int (zI x0)])).length) Slot.unset).toArray = ls at hl ⊢
  have hl : lv_has ls 1 [(0, .int (zI x0))] := hl
  exact w_J13_canEncode C ⟨Nat.le_refl _, Nat.le_refl _⟩ hf hl rfl

theorem w_J2_rangeCheckForAdd {p : Program} {l : Launch} {e : Env} {R : Room} {s : State} {m : MethodId} {args : Array Value} {below : List Frame} {meth : Method} {c : Code} {Q : State → Prop} {E : PEw} {h0 h : HP} {H : Heap} {locs : List Loc} (C : PC E p s m args meth c RJ2 cJ2_rangeCheckForAdd 2 none "rangeCheckForAdd") (hr : 0 ≤ R.frames ∧ 0 ≤ R.locals ∧ RBw R h0) {x0 : Nat} {x1 : Int} {res : Unit} (hf : f_J2_rangeCheckForAdd h x0 x1 = some res) (hz : ZR E s h0 h H locs) {ls : Array Slot} (hl : lv_has ls 2 [(0, .ref x0), (1, .int (zI x1))]) (hk : KR E below args s Q h0 h none) : W p l e R s m args below meth c H locs (pX h - pX h0) (pS h - pS h0) Q (F0 m 0 ls []) := by
  unfold f_J2_rangeCheckForAdd at hf
  have hx := C.1
  have hb := C.2.1
  refine lv_iload_n hx hb dJ2_rangeCheckForAdd_0 rfl (lv_at hl 1 rfl) ?_
  refine lv_aload_n hx hb dJ2_rangeCheckForAdd_1 rfl (lv_at hl 0 rfl) ?_
  obtain ⟨hg, hf⟩ := gd_inv hf
  refine zg_geti gR C hz 8 2 (gkl hg) (by decide) (by decide) (Or.inl (C.w q148)) (fun _ h => h) dJ2_rangeCheckForAdd_2 ?_
  refine zl_icmp_gt (tgt := 12) hx hb dJ2_rangeCheckForAdd_5 (by decide) (fun hc => ?_) (fun hc => ?_)
  · rw [if_pos hc] at hf
    cases hf
  · rw [if_neg hc] at hf
    refine lv_iload_n hx hb dJ2_rangeCheckForAdd_8 rfl (lv_at hl 1 rfl) ?_
    refine zl_if_ge (tgt := 25) hx hb dJ2_rangeCheckForAdd_9 (by decide) (fun hc => ?_) (fun hc => ?_)
    · rw [if_pos hc] at hf
      cases hf
    · rw [if_neg hc] at hf
      obtain rfl := Option.some.inj hf
      exact zg_vret C hz hk dJ2_rangeCheckForAdd_25

theorem met_J2_rangeCheckForAdd (l : Launch) (E : PEw) {h : HP} {x0 : Nat} {x1 : Int} {res : Unit} (hf : f_J2_rangeCheckForAdd h x0 x1 = some res) : Met l yJ2_rangeCheckForAdd (ws_ yJ2_rangeCheckForAdd cJ2_rangeCheckForAdd 2 none) (rmP h 0 0) (PR E h [.ref x0, .int (zI x1)]) (QR E h h none) (pX h - pX h) (pS h - pS h) (eF E) := by
  refine Met.ofW (cc := cJ2_rangeCheckForAdd) (maxL := 2) (ret := none) (by decide) rfl ?_
  intro p e s m args below meth c s₁ B hml hv
  obtain ⟨rfl, hP0⟩ := hv
  have hts := atoms_spec (ws := ws_ yJ2_rangeCheckForAdd cJ2_rangeCheckForAdd 2 none) B.pre
  have hts : ∀ w ∈ lw_all, w.before _ s = true := fun w h => hts w (List.mem_cons_of_mem _ h)
  have C : PC E p s m _ meth c RJ2 cJ2_rangeCheckForAdd 2 none "rangeCheckForAdd" := ⟨B.exec, B.bytes, B.returns, B.notSynchronized, hml, findClass_of_methodNamed B.named, hts, hP0.2, (name_of_methodNamed B.named B.method).1⟩
  have hz : ZR E s h h s.heap [] := ZG.start hP0.1
  have hl := lv_entry ([.ref x0, .int (zI x1)]) (n := 2) (Nat.le_of_ble_eq_true rfl)
  rw [lg_entry_eq]
  generalize (lg_sl ([.ref x0, .int (zI x1)]) ++ List.replicate (2 - (lg_sl ([.ref x0, .int (zI x1)])).length) Slot.unset).toArray = ls at hl ⊢
  have hl : lv_has ls 2 [(0, .ref x0), (1, .int (zI x1))] := hl
  refine W.cs (cells' := pX h - pX h) (slots' := pS h - pS h) (Nat.sub_self _).symm (Nat.sub_self _).symm ?_
  exact w_J2_rangeCheckForAdd C ⟨Nat.le_refl _, Nat.le_refl _, RBw.rm⟩ hf hz hl rfl

theorem w_J2_add_3_38 {p : Program} {l : Launch} {e : Env} {R : Room} {s : State} {m : MethodId} {args : Array Value} {below : List Frame} {meth : Method} {c : Code} {Q : State → Prop} {E : PEw} {h0 h : HP} {H : Heap} {locs : List Loc} (C : PC E p s m args meth c RJ2 cJ2_add_3 5 none "add") (hr : 5 ≤ R.frames ∧ 131 ≤ R.locals ∧ RBw R h0) {x0 : Nat} {x1 : Int} {x2 : Nat} {x3 : Int} {x4 : Nat} {res : HP} (hf : f_J2_add_3_38 h x0 x1 x2 x3 x4 = some res) (hz : ZR E s h0 h H locs) {ls : Array Slot} (hl : lv_has ls 5 [(0, .ref x0), (1, .int (zI x1)), (2, .ref x2), (3, .int (zI x3)), (4, .ref x4)]) (hk : KR E below args s Q h0 res none) : W p l e R s m args below meth c H locs (pX h - pX h0) (pS h - pS h0) Q (F0 m 38 ls []) := by
  unfold f_J2_add_3_38 at hf
  have hx := C.1
  have hb := C.2.1
  refine lv_aload hx hb dJ2_add_3_38 (lv_at hl 4 rfl) ?_
  refine lv_iload_n hx hb dJ2_add_3_40 rfl (lv_at hl 1 rfl) ?_
  refine lv_aload hx hb dJ2_add_3_41 (lv_at hl 4 rfl) ?_
  refine lv_iload_n hx hb dJ2_add_3_43 rfl (lv_at hl 1 rfl) ?_
  refine zl_iconst hx hb dJ2_add_3_44 ?_
  refine zl_iadd hx hb dJ2_add_3_45 ?_
  refine lv_iload_n hx hb dJ2_add_3_46 rfl (lv_at hl 3 rfl) ?_
  refine lv_iload_n hx hb dJ2_add_3_47 rfl (lv_at hl 1 rfl) ?_
  refine zl_isub hx hb dJ2_add_3_48 ?_
  obtain ⟨hg, hf⟩ := gd_inv hf
  obtain ⟨h1, eh1, hf⟩ := bnd_inv hf
  refine zg_copyP gR C hz hg q699 hl.1 ⟨Nat.le_trans (by decide) hr.1, Nat.le_trans (by decide) hr.2.1⟩ (Nat.le_of_ble_eq_true rfl) dJ2_add_3_49 eh1 (fun H locs hz => ?_)
  refine lv_aload hx hb dJ2_add_3_52 (lv_at hl 4 rfl) ?_
  refine lv_iload_n hx hb dJ2_add_3_54 rfl (lv_at hl 1 rfl) ?_
  refine lv_aload_n hx hb dJ2_add_3_55 rfl (lv_at hl 2 rfl) ?_
  obtain ⟨hg, hf⟩ := gd_inv hf
  obtain ⟨hi, hf⟩ := gd_inv hf
  obtain ⟨ho, hf⟩ := gd_inv hf
  obtain ⟨h2, eh2, hf⟩ := bnd_inv hf
  refine zg_aast gR (by decide) C hz hg hi ho dJ2_add_3_56 eh2 (fun H locs hz => ?_)
  refine lv_aload_n hx hb dJ2_add_3_57 rfl (lv_at hl 0 rfl) ?_
  refine lv_iload_n hx hb dJ2_add_3_58 rfl (lv_at hl 3 rfl) ?_
  refine zl_iconst hx hb dJ2_add_3_59 ?_
  refine zl_iadd hx hb dJ2_add_3_60 ?_
  obtain ⟨hg, hf⟩ := gd_inv hf
  obtain ⟨h3, eh3, hf⟩ := bnd_inv hf
  refine zg_puti gR C hz 8 2 (gkl hg) (by decide) (by decide) rfl (by decide) (Or.inl (C.w q148)) (fun _ h => h) dJ2_add_3_61 eh3 (fun H locs hz => ?_)
  obtain rfl := Option.some.inj hf
  exact zg_vret C hz hk dJ2_add_3_64

theorem w_J2_add_3 {p : Program} {l : Launch} {e : Env} {R : Room} {s : State} {m : MethodId} {args : Array Value} {below : List Frame} {meth : Method} {c : Code} {Q : State → Prop} {E : PEw} {h0 h : HP} {H : Heap} {locs : List Loc} (C : PC E p s m args meth c RJ2 cJ2_add_3 5 none "add") (hr : 5 ≤ R.frames ∧ 131 ≤ R.locals ∧ RBw R h0) {x0 : Nat} {x1 : Int} {x2 : Nat} {res : HP} (hf : f_J2_add_3 h x0 x1 x2 = some res) (hz : ZR E s h0 h H locs) {ls : Array Slot} (hl : lv_has ls 5 [(0, .ref x0), (1, .int (zI x1)), (2, .ref x2)]) (hk : KR E below args s Q h0 res none) : W p l e R s m args below meth c H locs (pX h - pX h0) (pS h - pS h0) Q (F0 m 0 ls []) := by
  unfold f_J2_add_3 at hf
  have hx := C.1
  have hb := C.2.1
  refine lv_aload_n hx hb dJ2_add_3_0 rfl (lv_at hl 0 rfl) ?_
  refine lv_iload_n hx hb dJ2_add_3_1 rfl (lv_at hl 1 rfl) ?_
  obtain ⟨hg, hf⟩ := gd_inv hf
  obtain ⟨y1, ey1, hf⟩ := bd_inv hf
  refine zg_callV gR C hz hr (n := 1) (rest := []) (gkl (Or.inl hg)) (met_J2_rangeCheckForAdd l E ey1) q695 q697 (C.w qs17) q94 q698 (by decide +kernel) ⟨Nat.le_trans (by decide) hr.1, Nat.le_trans (by decide) hr.2.1⟩ rfl hl.1 rfl (Nat.le_of_ble_eq_true rfl) dJ2_add_3_2 (fun H locs hz => ?_)
  refine lv_aload_n hx hb dJ2_add_3_5 rfl (lv_at hl 0 rfl) ?_
  refine lv_dup hx hb dJ2_add_3_6 rfl ?_
  obtain ⟨hg, hf⟩ := gd_inv hf
  refine zg_geti gR C hz 8 0 (gkl hg) (by decide) (by decide) (Or.inl (C.w q150)) (C.sm q151) dJ2_add_3_7 ?_
  refine zl_iconst hx hb dJ2_add_3_10 ?_
  refine zl_iadd hx hb dJ2_add_3_11 ?_
  obtain ⟨hg, hf⟩ := gd_inv hf
  obtain ⟨h2, eh2, hf⟩ := bnd_inv hf
  refine zg_puti gR C hz 8 0 (gkl hg) (by decide) (by decide) rfl (by decide) (Or.inl (C.w q150)) (C.sm q151) dJ2_add_3_12 eh2 (fun H locs hz => ?_)
  refine lv_aload_n hx hb dJ2_add_3_15 rfl (lv_at hl 0 rfl) ?_
  obtain ⟨hg, hf⟩ := gd_inv hf
  refine zg_geti gR C hz 8 2 (gkl hg) (by decide) (by decide) (Or.inl (C.w q148)) (fun _ h => h) dJ2_add_3_16 ?_
  obtain ⟨y3, ey3, hf⟩ := bnd_inv hf
  refine zl_topi ey3 ?_
  refine lv_dup hx hb dJ2_add_3_19 rfl ?_
  refine lv_istore_n (lv' := [(3, .int (zI y3)), (0, .ref x0), (1, .int (zI x1)), (2, .ref x2)]) hx hb dJ2_add_3_20 rfl hl (by decide) rfl (fun ls hl => ?_)
  refine lv_aload_n hx hb dJ2_add_3_21 rfl (lv_at hl 1 rfl) ?_
  obtain ⟨hg, hf⟩ := gd_inv hf
  refine zg_getp gR C hz 8 1 (gkl hg) (by decide) (by decide) (Or.inl (C.w q147)) (fun _ h => h) dJ2_add_3_22 ?_
  obtain ⟨y4, ey4, hf⟩ := bnd_inv hf
  refine zl_topo ey4 ?_
  refine zl_dup_o hx hb dJ2_add_3_25 ?_
  refine zl_astore_o (lv' := [(4, va_rf y4), (3, .int (zI y3)), (0, .ref x0), (1, .int (zI x1)), (2, .ref x2)]) hx hb dJ2_add_3_26 hl (by decide) rfl (fun ls hl => ?_)
  obtain ⟨a5, ea5, hf⟩ := bd_inv hf
  rw [zx_rf ea5] at hl ⊢
  obtain ⟨hg, hf⟩ := gd_inv hf
  refine zg_alenR gR C hz hg dJ2_add_3_28 ?_
  refine zl_icmp_ne (tgt := 38) hx hb dJ2_add_3_29 (by decide) (fun hc => ?_) (fun hc => ?_)
  · rw [if_pos hc] at hf
    refine lv_aload_n hx hb dJ2_add_3_32 rfl (lv_at hl 2 rfl) ?_
    obtain ⟨hg, hf⟩ := gd_inv hf
    obtain ⟨y6, ey6, hf⟩ := bd_inv hf
    refine zg_callV gR C hz hr (n := 0) (rest := []) (gkl (Or.inl hg)) (met_J2_grow l E ey6) q346 q348 (C.w qs3) q94 q349 (by decide +kernel) ⟨Nat.le_trans (by decide) hr.1, Nat.le_trans (by decide) hr.2.1⟩ rfl hl.1 rfl (Nat.le_of_ble_eq_true rfl) dJ2_add_3_33 (fun H locs hz => ?_)
    refine lv_astore (lv' := [(4, .ref y6.2), (3, .int (zI y3)), (0, .ref x0), (1, .int (zI x1)), (2, .ref x2)]) hx hb dJ2_add_3_36 hl (by decide) rfl (fun ls hl => ?_)
    exact w_J2_add_3_38 C hr hf hz (lv_sub hl [2, 3, 4, 1, 0] rfl) hk
  · rw [if_neg hc] at hf
    exact w_J2_add_3_38 C hr hf hz (lv_sub hl [2, 3, 4, 1, 0] rfl) hk

theorem met_J2_add_3 (l : Launch) (E : PEw) {h : HP} {x0 : Nat} {x1 : Int} {x2 : Nat} {res : HP} (hf : f_J2_add_3 h x0 x1 x2 = some res) : Met l yJ2_add_3 (ws_ yJ2_add_3 cJ2_add_3 5 none) (rmP h 5 131) (PR E h [.ref x0, .int (zI x1), .ref x2]) (QR E h res none) (pX res - pX h) (pS res - pS h) (eF E) := by
  refine Met.ofW (cc := cJ2_add_3) (maxL := 5) (ret := none) (by decide) rfl ?_
  intro p e s m args below meth c s₁ B hml hv
  obtain ⟨rfl, hP0⟩ := hv
  have hts := atoms_spec (ws := ws_ yJ2_add_3 cJ2_add_3 5 none) B.pre
  have hts : ∀ w ∈ lw_all, w.before _ s = true := fun w h => hts w (List.mem_cons_of_mem _ h)
  have C : PC E p s m _ meth c RJ2 cJ2_add_3 5 none "add" := ⟨B.exec, B.bytes, B.returns, B.notSynchronized, hml, findClass_of_methodNamed B.named, hts, hP0.2, (name_of_methodNamed B.named B.method).1⟩
  have hz : ZR E s h h s.heap [] := ZG.start hP0.1
  have hl := lv_entry ([.ref x0, .int (zI x1), .ref x2]) (n := 5) (Nat.le_of_ble_eq_true rfl)
  rw [lg_entry_eq]
  generalize (lg_sl ([.ref x0, .int (zI x1), .ref x2]) ++ List.replicate (5 - (lg_sl ([.ref x0, .int (zI x1), .ref x2])).length) Slot.unset).toArray = ls at hl ⊢
  have hl : lv_has ls 5 [(0, .ref x0), (1, .int (zI x1)), (2, .ref x2)] := hl
  refine W.cs (cells' := pX h - pX h) (slots' := pS h - pS h) (Nat.sub_self _).symm (Nat.sub_self _).symm ?_
  exact w_J2_add_3 C ⟨Nat.le_refl _, Nat.le_refl _, RBw.rm⟩ hf hz hl rfl

theorem w_J2_set {p : Program} {l : Launch} {e : Env} {R : Room} {s : State} {m : MethodId} {args : Array Value} {below : List Frame} {meth : Method} {c : Code} {Q : State → Prop} {E : PEw} {h0 h : HP} {H : Heap} {locs : List Loc} (C : PC E p s m args meth c RJ2 cJ2_set 4 (some (.object "java/lang/Object")) "set") (hr : 2 ≤ R.frames ∧ 43 ≤ R.locals ∧ RBw R h0) {x0 : Nat} {x1 : Int} {x2 : Nat} {res : HP × Option Nat} (hf : f_J2_set h x0 x1 x2 = some res) (hz : ZR E s h0 h H locs) {ls : Array Slot} (hl : lv_has ls 4 [(0, .ref x0), (1, .int (zI x1)), (2, .ref x2)]) (hk : KR E below args s Q h0 res.1 (some (va_rf res.2))) : W p l e R s m args below meth c H locs (pX h - pX h0) (pS h - pS h0) Q (F0 m 0 ls []) := by
  unfold f_J2_set at hf
  have hx := C.1
  have hb := C.2.1
  refine lv_iload_n hx hb dJ2_set_0 rfl (lv_at hl 1 rfl) ?_
  refine lv_aload_n hx hb dJ2_set_1 rfl (lv_at hl 0 rfl) ?_
  obtain ⟨hg, hf⟩ := gd_inv hf
  refine zg_geti gR C hz 8 2 (gkl hg) (by decide) (by decide) (Or.inl (C.w q148)) (fun _ h => h) dJ2_set_2 ?_
  obtain ⟨y1, ey1, hf⟩ := bd_inv hf
  refine zg_callS0 C (n := 2) (rest := []) (met_J11_checkIndex l ey1) q557 q558 q108 q559 rfl rfl (by decide +kernel) ⟨Nat.le_trans (by decide) hr.1, Nat.le_trans (by decide) hr.2.1⟩ rfl hl.1 rfl (Nat.le_of_ble_eq_true rfl) dJ2_set_5 (RBw.have gR hz hr).1 (RBw.have gR hz hr).2 ?_
  refine lv_pop hx hb dJ2_set_8 rfl ?_
  refine lv_aload_n hx hb dJ2_set_9 rfl (lv_at hl 0 rfl) ?_
  refine lv_iload_n hx hb dJ2_set_10 rfl (lv_at hl 1 rfl) ?_
  obtain ⟨hg, hf⟩ := gd_inv hf
  obtain ⟨y2, ey2, hf⟩ := bd_inv hf
  refine zg_callV gR C hz hr (n := 1) (rest := []) (gkl (Or.inl hg)) (met_J2_elementData l E ey2) q563 q564 (C.w q565) q94 q566 (by decide +kernel) ⟨Nat.le_trans (by decide) hr.1, Nat.le_trans (by decide) hr.2.1⟩ rfl hl.1 rfl (Nat.le_of_ble_eq_true rfl) dJ2_set_11 (fun H locs hz => ?_)
  refine zl_astore_n_o (lv' := [(3, va_rf y2), (0, .ref x0), (1, .int (zI x1)), (2, .ref x2)]) hx hb dJ2_set_14 rfl hl (by decide) rfl (fun ls hl => ?_)
  refine lv_aload_n hx hb dJ2_set_15 rfl (lv_at hl 1 rfl) ?_
  obtain ⟨hg, hf⟩ := gd_inv hf
  refine zg_getp gR C hz 8 1 (gkl hg) (by decide) (by decide) (Or.inl (C.w q147)) (fun _ h => h) dJ2_set_16 ?_
  refine lv_iload_n hx hb dJ2_set_19 rfl (lv_at hl 2 rfl) ?_
  refine lv_aload_n hx hb dJ2_set_20 rfl (lv_at hl 3 rfl) ?_
  obtain ⟨a3, ea3, hf⟩ := bd_inv hf
  rw [zx_rf ea3]
  obtain ⟨hg, hf⟩ := gd_inv hf
  obtain ⟨hi, hf⟩ := gd_inv hf
  obtain ⟨ho, hf⟩ := gd_inv hf
  obtain ⟨h4, eh4, hf⟩ := bnd_inv hf
  refine zg_aast gR (by decide) C hz hg hi ho dJ2_set_21 eh4 (fun H locs hz => ?_)
  refine zl_aload_n_o hx hb dJ2_set_22 rfl (lv_at hl 0 rfl) ?_
  obtain rfl := Option.some.inj hf
  exact zg_aret_o C hz hk dJ2_set_23

theorem met_J2_set (l : Launch) (E : PEw) {h : HP} {x0 : Nat} {x1 : Int} {x2 : Nat} {res : HP × Option Nat} (hf : f_J2_set h x0 x1 x2 = some res) : Met l yJ2_set (ws_ yJ2_set cJ2_set 4 (some (.object "java/lang/Object"))) (rmP h 2 43) (PR E h [.ref x0, .int (zI x1), .ref x2]) (QR E h res.1 (some (va_rf res.2))) (pX res.1 - pX h) (pS res.1 - pS h) (eF E) := by
  refine Met.ofW (cc := cJ2_set) (maxL := 4) (ret := (some (.object "java/lang/Object"))) (by decide) rfl ?_
  intro p e s m args below meth c s₁ B hml hv
  obtain ⟨rfl, hP0⟩ := hv
  have hts := atoms_spec (ws := ws_ yJ2_set cJ2_set 4 (some (.object "java/lang/Object"))) B.pre
  have hts : ∀ w ∈ lw_all, w.before _ s = true := fun w h => hts w (List.mem_cons_of_mem _ h)
  have C : PC E p s m _ meth c RJ2 cJ2_set 4 (some (.object "java/lang/Object")) "set" := ⟨B.exec, B.bytes, B.returns, B.notSynchronized, hml, findClass_of_methodNamed B.named, hts, hP0.2, (name_of_methodNamed B.named B.method).1⟩
  have hz : ZR E s h h s.heap [] := ZG.start hP0.1
  have hl := lv_entry ([.ref x0, .int (zI x1), .ref x2]) (n := 4) (Nat.le_of_ble_eq_true rfl)
  rw [lg_entry_eq]
  generalize (lg_sl ([.ref x0, .int (zI x1), .ref x2]) ++ List.replicate (4 - (lg_sl ([.ref x0, .int (zI x1), .ref x2])).length) Slot.unset).toArray = ls at hl ⊢
  have hl : lv_has ls 4 [(0, .ref x0), (1, .int (zI x1)), (2, .ref x2)] := hl
  refine W.cs (cells' := pX h - pX h) (slots' := pS h - pS h) (Nat.sub_self _).symm (Nat.sub_self _).symm ?_
  exact w_J2_set C ⟨Nat.le_refl _, Nat.le_refl _, RBw.rm⟩ hf hz hl rfl

theorem w_J4_isLatin1 {p : Program} {l : Launch} {e : Env} {R : Room} {s : State} {m : MethodId} {args : Array Value} {below : List Frame} {meth : Method} {c : Code} {Q : State → Prop} {E : PEw} {h0 h : HP} {H : Heap} {locs : List Loc} (C : PC E p s m args meth c RJ4 cJ4_isLatin1 1 (some .boolean) "isLatin1") (hr : 0 ≤ R.frames ∧ 0 ≤ R.locals ∧ RBw R h0) {x0 : Nat} {res : Int} (hf : f_J4_isLatin1 h x0 = some res) (hz : ZR E s h0 h H locs) {ls : Array Slot} (hl : lv_has ls 1 [(0, .ref x0)]) (hk : KR E below args s Q h0 h (some (.int (zI res)))) : W p l e R s m args below meth c H locs (pX h - pX h0) (pS h - pS h0) Q (F0 m 0 ls []) := by
  unfold f_J4_isLatin1 at hf
  have hx := C.1
  have hb := C.2.1
  refine zc_compact C hz q255 dJ4_isLatin1_0 ?_
  refine zl_if_eq (tgt := 17) hx hb dJ4_isLatin1_3 (by decide) (fun hc => ?_) (fun hc => ?_)
  · rw [if_pos hc] at hf
    refine zl_iconst hx hb dJ4_isLatin1_17 ?_
    obtain rfl := Option.some.inj hf
    exact zg_zret C hz zisB_0 hk dJ4_isLatin1_18
  · rw [if_neg hc] at hf
    refine lv_aload_n hx hb dJ4_isLatin1_6 rfl (lv_at hl 0 rfl) ?_
    obtain ⟨hg, hf⟩ := gd_inv hf
    refine zg_geti gR C hz 9 1 (gks hg) (by decide) (by decide) (Or.inl (C.w q265)) (fun _ h => h) dJ4_isLatin1_7 ?_
    refine zl_if_ne (tgt := 17) hx hb dJ4_isLatin1_10 (by decide) (fun hc => ?_) (fun hc => ?_)
    · rw [if_pos hc] at hf
      refine zl_iconst hx hb dJ4_isLatin1_13 ?_
      refine lv_goto (tgt := 18) hx hb dJ4_isLatin1_14 (by decide) ?_
      obtain rfl := Option.some.inj hf
      exact zg_zret C hz zisB_1 hk dJ4_isLatin1_18
    · rw [if_neg hc] at hf
      refine zl_iconst hx hb dJ4_isLatin1_17 ?_
      obtain rfl := Option.some.inj hf
      exact zg_zret C hz zisB_0 hk dJ4_isLatin1_18

theorem met_J4_isLatin1 (l : Launch) (E : PEw) {h : HP} {x0 : Nat} {res : Int} (hf : f_J4_isLatin1 h x0 = some res) : Met l yJ4_isLatin1 (ws_ yJ4_isLatin1 cJ4_isLatin1 1 (some .boolean)) (rmP h 0 0) (PR E h [.ref x0]) (QR E h h (some (.int (zI res)))) (pX h - pX h) (pS h - pS h) (eF E) := by
  refine Met.ofW (cc := cJ4_isLatin1) (maxL := 1) (ret := (some .boolean)) (by decide) rfl ?_
  intro p e s m args below meth c s₁ B hml hv
  obtain ⟨rfl, hP0⟩ := hv
  have hts := atoms_spec (ws := ws_ yJ4_isLatin1 cJ4_isLatin1 1 (some .boolean)) B.pre
  have hts : ∀ w ∈ lw_all, w.before _ s = true := fun w h => hts w (List.mem_cons_of_mem _ h)
  have C : PC E p s m _ meth c RJ4 cJ4_isLatin1 1 (some .boolean) "isLatin1" := ⟨B.exec, B.bytes, B.returns, B.notSynchronized, hml, findClass_of_methodNamed B.named, hts, hP0.2, (name_of_methodNamed B.named B.method).1⟩
  have hz : ZR E s h h s.heap [] := ZG.start hP0.1
  have hl := lv_entry ([.ref x0]) (n := 1) (Nat.le_of_ble_eq_true rfl)
  rw [lg_entry_eq]
  generalize (lg_sl ([.ref x0]) ++ List.replicate (1 - (lg_sl ([.ref x0])).length) Slot.unset).toArray = ls at hl ⊢
  have hl : lv_has ls 1 [(0, .ref x0)] := hl
  refine W.cs (cells' := pX h - pX h) (slots' := pS h - pS h) (Nat.sub_self _).symm (Nat.sub_self _).symm ?_
  exact w_J4_isLatin1 C ⟨Nat.le_refl _, Nat.le_refl _, RBw.rm⟩ hf hz hl rfl

theorem w_J13_canEncode_2 {p : Program} {l : Launch} {e : Env} {R : Room} {s : State} {m : MethodId} {args : Array Value} {below : List Frame} {meth : Method} {c : Code} {Q : State → Prop} (C : SC' p s m args meth c RJ13 cJ13_canEncode_2 1 (some .boolean)) (hr : 0 ≤ R.frames ∧ 0 ≤ R.locals) {x0 : Int} {res : Int} (hf : f_J13_canEncode_2 x0 = some res) {ls : Array Slot} (hl : lv_has ls 1 [(0, .int (zI x0))]) (hk : KS below args s Q (some (.int (zI res)))) : W p l e R s m args below meth c s.heap [] 0 0 Q (F0 m 0 ls []) := by
  unfold f_J13_canEncode_2 at hf
  have hx := C.1
  have hb := C.2.1
  refine lv_iload_n hx hb dJ13_canEncode_2_0 rfl (lv_at hl 0 rfl) ?_
  refine zl_sipush hx hb dJ13_canEncode_2_1 (by decide) ?_
  refine zl_icmp_gt (tgt := 11) hx hb dJ13_canEncode_2_4 (by decide) (fun hc => ?_) (fun hc => ?_)
  · rw [if_pos hc] at hf
    refine zl_iconst hx hb dJ13_canEncode_2_11 ?_
    obtain rfl := Option.some.inj hf
    exact zt_zret C zisB_0 hk dJ13_canEncode_2_12
  · rw [if_neg hc] at hf
    refine zl_iconst hx hb dJ13_canEncode_2_7 ?_
    refine lv_goto (tgt := 12) hx hb dJ13_canEncode_2_8 (by decide) ?_
    obtain rfl := Option.some.inj hf
    exact zt_zret C zisB_1 hk dJ13_canEncode_2_12

theorem met_J13_canEncode_2 (l : Launch) {x0 : Int} {res : Int} (hf : f_J13_canEncode_2 x0 = some res) : Met l yJ13_canEncode_2 (ws_ yJ13_canEncode_2 cJ13_canEncode_2 1 (some .boolean)) ({ frames := 0, cells := 0, slots := 0, locals := 0 }) (va_Pc [.int (zI x0)] (fun _ => True)) (QS (some (.int (zI res)))) 0 0 (fun _ => False) := by
  refine Met.ofW (cc := cJ13_canEncode_2) (maxL := 1) (ret := (some .boolean)) (by decide) rfl ?_
  intro p e s m args below meth c s₁ B hml hv
  obtain ⟨rfl, -⟩ := hv
  have hts := atoms_spec (ws := ws_ yJ13_canEncode_2 cJ13_canEncode_2 1 (some .boolean)) B.pre
  have hts : ∀ w ∈ lw_all, w.before _ s = true := fun w h => hts w (List.mem_cons_of_mem _ h)
  have C : SC' p s m _ meth c RJ13 cJ13_canEncode_2 1 (some .boolean) := ⟨B.exec, B.bytes, B.returns, B.notSynchronized, hml, findClass_of_methodNamed B.named, hts⟩
  have hl := lv_entry ([.int (zI x0)]) (n := 1) (Nat.le_of_ble_eq_true rfl)
  rw [lg_entry_eq]
  generalize (lg_sl ([.int (zI x0)]) ++ List.replicate (1 - (lg_sl ([.int (zI x0)])).length) Slot.unset).toArray = ls at hl ⊢
  have hl : lv_has ls 1 [(0, .int (zI x0))] := hl
  exact w_J13_canEncode_2 C ⟨Nat.le_refl _, Nat.le_refl _⟩ hf hl rfl

theorem w_J4_append {p : Program} {l : Launch} {e : Env} {R : Room} {s : State} {m : MethodId} {args : Array Value} {below : List Frame} {meth : Method} {c : Code} {Q : State → Prop} {E : PEw} {h0 h : HP} {H : Heap} {locs : List Loc} (C : PC E p s m args meth c RJ4 cJ4_append 2 (some (.object "java/lang/AbstractStringBuilder")) "append") (hr : 4 ≤ R.frames ∧ 91 ≤ R.locals ∧ RBw R h0) {x0 : Nat} {x1 : Int} {res : HP × Nat} (hf : f_J4_append h x0 x1 = some res) (hz : ZR E s h0 h H locs) {ls : Array Slot} (hl : lv_has ls 2 [(0, .ref x0), (1, .int (zI x1))]) (hk : KR E below args s Q h0 res.1 (some (.ref res.2))) : W p l e R s m args below meth c H locs (pX h - pX h0) (pS h - pS h0) Q (F0 m 0 ls []) := by
  unfold f_J4_append at hf
  have hx := C.1
  have hb := C.2.1
  refine lv_aload_n hx hb dJ4_append_0 rfl (lv_at hl 0 rfl) ?_
  refine lv_aload_n hx hb dJ4_append_1 rfl (lv_at hl 0 rfl) ?_
  obtain ⟨hg, hf⟩ := gd_inv hf
  refine zg_geti gR C hz 9 3 (gks hg) (by decide) (by decide) (Or.inl (C.w q267)) (fun _ h => h) dJ4_append_2 ?_
  refine zl_iconst hx hb dJ4_append_5 ?_
  refine zl_iadd hx hb dJ4_append_6 ?_
  obtain ⟨hg, hf⟩ := gd_inv hf
  obtain ⟨y1, ey1, hf⟩ := bd_inv hf
  refine zg_callV gR C hz hr (n := 1) (rest := []) (gks (Or.inl hg)) (met_J4_ensureCapacityInternal l E ey1) q481 q483 (C.selp (by simp [prSB])) q98 q484 (by decide +kernel) ⟨Nat.le_trans (by decide) hr.1, Nat.le_trans (by decide) hr.2.1⟩ rfl hl.1 rfl (Nat.le_of_ble_eq_true rfl) dJ4_append_7 (fun H locs hz => ?_)
  refine lv_aload_n hx hb dJ4_append_10 rfl (lv_at hl 0 rfl) ?_
  obtain ⟨hg, hf⟩ := gd_inv hf
  obtain ⟨y2, ey2, hf⟩ := bd_inv hf
  refine zg_callV gR C hz hr (n := 0) (rest := []) (gks (Or.inl hg)) (met_J4_isLatin1 l E ey2) q501 q502 (C.w q504) q98 q505 (by decide +kernel) ⟨Nat.le_trans (by decide) hr.1, Nat.le_trans (by decide) hr.2.1⟩ rfl hl.1 rfl (Nat.le_of_ble_eq_true rfl) dJ4_append_11 (fun H locs hz => ?_)
  refine zl_if_eq (tgt := 45) hx hb dJ4_append_14 (by decide) (fun hc => ?_) (fun hc => ?_)
  · rw [if_pos hc] at hf
    cases hf
  · rw [if_neg hc] at hf
    refine lv_iload_n hx hb dJ4_append_17 rfl (lv_at hl 1 rfl) ?_
    obtain ⟨y3, ey3, hf⟩ := bd_inv hf
    refine zg_callS0 C (n := 1) (rest := []) (met_J13_canEncode_2 l ey3) q717 q718 q110 q719 rfl rfl (by decide +kernel) ⟨Nat.le_trans (by decide) hr.1, Nat.le_trans (by decide) hr.2.1⟩ rfl hl.1 rfl (Nat.le_of_ble_eq_true rfl) dJ4_append_18 (RBw.have gR hz hr).1 (RBw.have gR hz hr).2 ?_
    refine zl_if_eq (tgt := 45) hx hb dJ4_append_21 (by decide) (fun hc => ?_) (fun hc => ?_)
    · rw [if_pos hc] at hf
      cases hf
    · rw [if_neg hc] at hf
      refine lv_aload_n hx hb dJ4_append_24 rfl (lv_at hl 0 rfl) ?_
      obtain ⟨hg, hf⟩ := gd_inv hf
      refine zg_getp gR C hz 9 0 (gks hg) (by decide) (by decide) (Or.inl (C.w q264)) (fun _ h => h) dJ4_append_25 ?_
      refine lv_aload_n hx hb dJ4_append_28 rfl (lv_at hl 0 rfl) ?_
      refine lv_dup hx hb dJ4_append_29 rfl ?_
      obtain ⟨hg, hf⟩ := gd_inv hf
      refine zg_geti gR C hz 9 3 (gks hg) (by decide) (by decide) (Or.inl (C.w q267)) (fun _ h => h) dJ4_append_30 ?_
      obtain ⟨y4, ey4, hf⟩ := bnd_inv hf
      refine zl_topi ey4 ?_
      refine lv_dup_x1 hx hb dJ4_append_33 rfl rfl ?_
      refine zl_iconst hx hb dJ4_append_34 ?_
      refine zl_iadd hx hb dJ4_append_35 ?_
      obtain ⟨hg, hf⟩ := gd_inv hf
      obtain ⟨h5, eh5, hf⟩ := bnd_inv hf
      refine zg_puti gR C hz 9 3 (gks hg) (by decide) (by decide) rfl (by decide) (Or.inl (C.w q267)) (fun _ h => h) dJ4_append_36 eh5 (fun H locs hz => ?_)
      refine lv_iload_n hx hb dJ4_append_39 rfl (lv_at hl 1 rfl) ?_
      refine zl_i2b hx hb dJ4_append_40 ?_
      obtain ⟨a6, ea6, hf⟩ := bd_inv hf
      rw [zx_rf ea6]
      obtain ⟨hg, hf⟩ := gd_inv hf
      obtain ⟨hi, hf⟩ := gd_inv hf
      obtain ⟨h7, eh7, hf⟩ := bnd_inv hf
      refine zg_bast gR (by decide) C hz hg hi dJ4_append_41 eh7 (fun H locs hz => ?_)
      refine lv_goto (tgt := 75) hx hb dJ4_append_42 (by decide) ?_
      refine lv_aload_n hx hb dJ4_append_75 rfl (lv_at hl 0 rfl) ?_
      obtain rfl := Option.some.inj hf
      exact zg_aret C hz hk dJ4_append_76

theorem met_J4_append (l : Launch) (E : PEw) {h : HP} {x0 : Nat} {x1 : Int} {res : HP × Nat} (hf : f_J4_append h x0 x1 = some res) : Met l yJ4_append (ws_ yJ4_append cJ4_append 2 (some (.object "java/lang/AbstractStringBuilder"))) (rmP h 4 91) (PR E h [.ref x0, .int (zI x1)]) (QR E h res.1 (some (.ref res.2))) (pX res.1 - pX h) (pS res.1 - pS h) (eF E) := by
  refine Met.ofW (cc := cJ4_append) (maxL := 2) (ret := (some (.object "java/lang/AbstractStringBuilder"))) (by decide) rfl ?_
  intro p e s m args below meth c s₁ B hml hv
  obtain ⟨rfl, hP0⟩ := hv
  have hts := atoms_spec (ws := ws_ yJ4_append cJ4_append 2 (some (.object "java/lang/AbstractStringBuilder"))) B.pre
  have hts : ∀ w ∈ lw_all, w.before _ s = true := fun w h => hts w (List.mem_cons_of_mem _ h)
  have C : PC E p s m _ meth c RJ4 cJ4_append 2 (some (.object "java/lang/AbstractStringBuilder")) "append" := ⟨B.exec, B.bytes, B.returns, B.notSynchronized, hml, findClass_of_methodNamed B.named, hts, hP0.2, (name_of_methodNamed B.named B.method).1⟩
  have hz : ZR E s h h s.heap [] := ZG.start hP0.1
  have hl := lv_entry ([.ref x0, .int (zI x1)]) (n := 2) (Nat.le_of_ble_eq_true rfl)
  rw [lg_entry_eq]
  generalize (lg_sl ([.ref x0, .int (zI x1)]) ++ List.replicate (2 - (lg_sl ([.ref x0, .int (zI x1)])).length) Slot.unset).toArray = ls at hl ⊢
  have hl : lv_has ls 2 [(0, .ref x0), (1, .int (zI x1))] := hl
  refine W.cs (cells' := pX h - pX h) (slots' := pS h - pS h) (Nat.sub_self _).symm (Nat.sub_self _).symm ?_
  exact w_J4_append C ⟨Nat.le_refl _, Nat.le_refl _, RBw.rm⟩ hf hz hl rfl

theorem w_J5_append {p : Program} {l : Launch} {e : Env} {R : Room} {s : State} {m : MethodId} {args : Array Value} {below : List Frame} {meth : Method} {c : Code} {Q : State → Prop} {E : PEw} {h0 h : HP} {H : Heap} {locs : List Loc} (C : PC E p s m args meth c RJ5 cJ5_append 2 (some (.object "java/lang/StringBuilder")) "append") (hr : 5 ≤ R.frames ∧ 112 ≤ R.locals ∧ RBw R h0) {x0 : Nat} {x1 : Int} {res : HP × Nat} (hf : f_J5_append h x0 x1 = some res) (hz : ZR E s h0 h H locs) {ls : Array Slot} (hl : lv_has ls 2 [(0, .ref x0), (1, .int (zI x1))]) (hk : KR E below args s Q h0 res.1 (some (.ref res.2))) : W p l e R s m args below meth c H locs (pX h - pX h0) (pS h - pS h0) Q (F0 m 0 ls []) := by
  unfold f_J5_append at hf
  have hx := C.1
  have hb := C.2.1
  refine lv_aload_n hx hb dJ5_append_0 rfl (lv_at hl 0 rfl) ?_
  refine lv_iload_n hx hb dJ5_append_1 rfl (lv_at hl 1 rfl) ?_
  obtain ⟨y1, ey1, hf⟩ := bd_inv hf
  obtain ⟨hg, hf⟩ := gd_inv hf
  refine zg_callSU gR C hz hr (n := 1) (rest := []) (gks (Or.inl hg)) (met_J4_append l E ey1) q714 q715 q1612 q276 q98 q716 (by decide +kernel) ⟨Nat.le_trans (by decide) hr.1, Nat.le_trans (by decide) hr.2.1⟩ rfl hl.1 rfl (Nat.le_of_ble_eq_true rfl) dJ5_append_2 (fun H locs hz => ?_)
  refine lv_pop hx hb dJ5_append_5 rfl ?_
  refine lv_aload_n hx hb dJ5_append_6 rfl (lv_at hl 0 rfl) ?_
  obtain rfl := Option.some.inj hf
  exact zg_aret C hz hk dJ5_append_7

theorem met_J5_append (l : Launch) (E : PEw) {h : HP} {x0 : Nat} {x1 : Int} {res : HP × Nat} (hf : f_J5_append h x0 x1 = some res) : Met l yJ5_append (ws_ yJ5_append cJ5_append 2 (some (.object "java/lang/StringBuilder"))) (rmP h 5 112) (PR E h [.ref x0, .int (zI x1)]) (QR E h res.1 (some (.ref res.2))) (pX res.1 - pX h) (pS res.1 - pS h) (eF E) := by
  refine Met.ofW (cc := cJ5_append) (maxL := 2) (ret := (some (.object "java/lang/StringBuilder"))) (by decide) rfl ?_
  intro p e s m args below meth c s₁ B hml hv
  obtain ⟨rfl, hP0⟩ := hv
  have hts := atoms_spec (ws := ws_ yJ5_append cJ5_append 2 (some (.object "java/lang/StringBuilder"))) B.pre
  have hts : ∀ w ∈ lw_all, w.before _ s = true := fun w h => hts w (List.mem_cons_of_mem _ h)
  have C : PC E p s m _ meth c RJ5 cJ5_append 2 (some (.object "java/lang/StringBuilder")) "append" := ⟨B.exec, B.bytes, B.returns, B.notSynchronized, hml, findClass_of_methodNamed B.named, hts, hP0.2, (name_of_methodNamed B.named B.method).1⟩
  have hz : ZR E s h h s.heap [] := ZG.start hP0.1
  have hl := lv_entry ([.ref x0, .int (zI x1)]) (n := 2) (Nat.le_of_ble_eq_true rfl)
  rw [lg_entry_eq]
  generalize (lg_sl ([.ref x0, .int (zI x1)]) ++ List.replicate (2 - (lg_sl ([.ref x0, .int (zI x1)])).length) Slot.unset).toArray = ls at hl ⊢
  have hl : lv_has ls 2 [(0, .ref x0), (1, .int (zI x1))] := hl
  refine W.cs (cells' := pX h - pX h) (slots' := pS h - pS h) (Nat.sub_self _).symm (Nat.sub_self _).symm ?_
  exact w_J5_append C ⟨Nat.le_refl _, Nat.le_refl _, RBw.rm⟩ hf hz hl rfl

theorem w_J4_length {p : Program} {l : Launch} {e : Env} {R : Room} {s : State} {m : MethodId} {args : Array Value} {below : List Frame} {meth : Method} {c : Code} {Q : State → Prop} {E : PEw} {h0 h : HP} {H : Heap} {locs : List Loc} (C : PC E p s m args meth c RJ4 cJ4_length 1 (some .int) "length") (hr : 0 ≤ R.frames ∧ 0 ≤ R.locals ∧ RBw R h0) {x0 : Nat} {res : Int} (hf : f_J4_length h x0 = some res) (hz : ZR E s h0 h H locs) {ls : Array Slot} (hl : lv_has ls 1 [(0, .ref x0)]) (hk : KR E below args s Q h0 h (some (.int (zI res)))) : W p l e R s m args below meth c H locs (pX h - pX h0) (pS h - pS h0) Q (F0 m 0 ls []) := by
  unfold f_J4_length at hf
  have hx := C.1
  have hb := C.2.1
  refine lv_aload_n hx hb dJ4_length_0 rfl (lv_at hl 0 rfl) ?_
  obtain ⟨hg, hf⟩ := gd_inv hf
  refine zg_geti gR C hz 9 3 (gks hg) (by decide) (by decide) (Or.inl (C.w q267)) (fun _ h => h) dJ4_length_1 ?_
  obtain rfl := Option.some.inj hf
  exact zg_iret C hz hk dJ4_length_4

theorem met_J4_length (l : Launch) (E : PEw) {h : HP} {x0 : Nat} {res : Int} (hf : f_J4_length h x0 = some res) : Met l yJ4_length (ws_ yJ4_length cJ4_length 1 (some .int)) (rmP h 0 0) (PR E h [.ref x0]) (QR E h h (some (.int (zI res)))) (pX h - pX h) (pS h - pS h) (eF E) := by
  refine Met.ofW (cc := cJ4_length) (maxL := 1) (ret := (some .int)) (by decide) rfl ?_
  intro p e s m args below meth c s₁ B hml hv
  obtain ⟨rfl, hP0⟩ := hv
  have hts := atoms_spec (ws := ws_ yJ4_length cJ4_length 1 (some .int)) B.pre
  have hts : ∀ w ∈ lw_all, w.before _ s = true := fun w h => hts w (List.mem_cons_of_mem _ h)
  have C : PC E p s m _ meth c RJ4 cJ4_length 1 (some .int) "length" := ⟨B.exec, B.bytes, B.returns, B.notSynchronized, hml, findClass_of_methodNamed B.named, hts, hP0.2, (name_of_methodNamed B.named B.method).1⟩
  have hz : ZR E s h h s.heap [] := ZG.start hP0.1
  have hl := lv_entry ([.ref x0]) (n := 1) (Nat.le_of_ble_eq_true rfl)
  rw [lg_entry_eq]
  generalize (lg_sl ([.ref x0]) ++ List.replicate (1 - (lg_sl ([.ref x0])).length) Slot.unset).toArray = ls at hl ⊢
  have hl : lv_has ls 1 [(0, .ref x0)] := hl
  refine W.cs (cells' := pX h - pX h) (slots' := pS h - pS h) (Nat.sub_self _).symm (Nat.sub_self _).symm ?_
  exact w_J4_length C ⟨Nat.le_refl _, Nat.le_refl _, RBw.rm⟩ hf hz hl rfl

