set_option maxRecDepth 100000
theorem w_J5_length {p : Program} {l : Launch} {e : Env} {R : Room} {s : State} {m : MethodId} {args : Array Value} {below : List Frame} {meth : Method} {c : Code} {Q : State → Prop} {E : PEw} {h0 h : HP} {H : Heap} {locs : List Loc} (C : PC E p s m args meth c RJ5 cJ5_length 1 (some .int) "length") (hr : 1 ≤ R.frames ∧ 20 ≤ R.locals ∧ RBw R h0) {x0 : Nat} {res : Int} (hf : f_J5_length h x0 = some res) (hz : ZR E s h0 h H locs) {ls : Array Slot} (hl : lv_has ls 1 [(0, .ref x0)]) (hk : KR E below args s Q h0 h (some (.int (zI res)))) : W p l e R s m args below meth c H locs (pX h - pX h0) (pS h - pS h0) Q (F0 m 0 ls []) := by
  unfold f_J5_length at hf
  have hx := C.1
  have hb := C.2.1
  refine lv_aload_n hx hb dJ5_length_0 rfl (lv_at hl 0 rfl) ?_
  obtain ⟨y1, ey1, hf⟩ := bd_inv hf
  obtain ⟨hg, hf⟩ := gd_inv hf
  refine zg_callSU gR C hz hr (n := 0) (rest := []) (gks (Or.inl hg)) (met_J4_length l E ey1) q756 q757 q1614 q276 q98 q758 (by decide +kernel) ⟨Nat.le_trans (by decide) hr.1, Nat.le_trans (by decide) hr.2.1⟩ rfl hl.1 rfl (Nat.le_of_ble_eq_true rfl) dJ5_length_1 (fun H locs hz => ?_)
  obtain rfl := Option.some.inj hf
  exact zg_iret C hz hk dJ5_length_4

theorem met_J5_length (l : Launch) (E : PEw) {h : HP} {x0 : Nat} {res : Int} (hf : f_J5_length h x0 = some res) : Met l yJ5_length (ws_ yJ5_length cJ5_length 1 (some .int)) (rmP h 1 20) (PR E h [.ref x0]) (QR E h h (some (.int (zI res)))) (pX h - pX h) (pS h - pS h) (eF E) := by
  refine Met.ofW (cc := cJ5_length) (maxL := 1) (ret := (some .int)) (by decide) rfl ?_
  intro p e s m args below meth c s₁ B hml hv
  obtain ⟨rfl, hP0⟩ := hv
  have hts := atoms_spec (ws := ws_ yJ5_length cJ5_length 1 (some .int)) B.pre
  have hts : ∀ w ∈ lw_all, w.before _ s = true := fun w h => hts w (List.mem_cons_of_mem _ h)
  have C : PC E p s m _ meth c RJ5 cJ5_length 1 (some .int) "length" := ⟨B.exec, B.bytes, B.returns, B.notSynchronized, hml, findClass_of_methodNamed B.named, hts, hP0.2, (name_of_methodNamed B.named B.method).1⟩
  have hz : ZR E s h h s.heap [] := ZG.start hP0.1
  have hl := lv_entry ([.ref x0]) (n := 1) (Nat.le_of_ble_eq_true rfl)
  rw [lg_entry_eq]
  generalize (lg_sl ([.ref x0]) ++ List.replicate (1 - (lg_sl ([.ref x0])).length) Slot.unset).toArray = ls at hl ⊢
  have hl : lv_has ls 1 [(0, .ref x0)] := hl
  refine W.cs (cells' := pX h - pX h) (slots' := pS h - pS h) (Nat.sub_self _).symm (Nat.sub_self _).symm ?_
  exact w_J5_length C ⟨Nat.le_refl _, Nat.le_refl _, RBw.rm⟩ hf hz hl rfl

theorem w_J2_fastRemove_34 {p : Program} {l : Launch} {e : Env} {R : Room} {s : State} {m : MethodId} {args : Array Value} {below : List Frame} {meth : Method} {c : Code} {Q : State → Prop} {E : PEw} {h0 h : HP} {H : Heap} {locs : List Loc} (C : PC E p s m args meth c RJ2 cJ2_fastRemove 4 none "fastRemove") (hr : 1 ≤ R.frames ∧ 44 ≤ R.locals ∧ RBw R h0) {x0 : Nat} {x1 : Nat} {x3 : Int} {res : HP} (hf : f_J2_fastRemove_34 h x0 x1 x3 = some res) (hz : ZR E s h0 h H locs) {ls : Array Slot} (hl : lv_has ls 4 [(0, .ref x0), (1, .ref x1), (3, .int (zI x3))]) (hk : KR E below args s Q h0 res none) : W p l e R s m args below meth c H locs (pX h - pX h0) (pS h - pS h0) Q (F0 m 34 ls []) := by
  unfold f_J2_fastRemove_34 at hf
  have hx := C.1
  have hb := C.2.1
  refine lv_aload_n hx hb dJ2_fastRemove_34 rfl (lv_at hl 1 rfl) ?_
  refine lv_aload_n hx hb dJ2_fastRemove_35 rfl (lv_at hl 0 rfl) ?_
  refine lv_iload_n hx hb dJ2_fastRemove_36 rfl (lv_at hl 2 rfl) ?_
  refine lv_dup_x1 hx hb dJ2_fastRemove_37 rfl rfl ?_
  obtain ⟨hg, hf⟩ := gd_inv hf
  obtain ⟨h1, eh1, hf⟩ := bnd_inv hf
  refine zg_puti gR C hz 8 2 (gkl hg) (by decide) (by decide) rfl (by decide) (Or.inl (C.w q148)) (fun _ h => h) dJ2_fastRemove_38 eh1 (fun H locs hz => ?_)
  refine lv_null hx hb dJ2_fastRemove_41 ?_
  obtain ⟨hg, hf⟩ := gd_inv hf
  obtain ⟨hi, hf⟩ := gd_inv hf
  obtain ⟨ho, hf⟩ := gd_inv hf
  obtain ⟨h2, eh2, hf⟩ := bnd_inv hf
  refine zg_aast gR (by decide) C hz hg hi ho dJ2_fastRemove_42 eh2 (fun H locs hz => ?_)
  obtain rfl := Option.some.inj hf
  exact zg_vret C hz hk dJ2_fastRemove_43

theorem w_J2_fastRemove {p : Program} {l : Launch} {e : Env} {R : Room} {s : State} {m : MethodId} {args : Array Value} {below : List Frame} {meth : Method} {c : Code} {Q : State → Prop} {E : PEw} {h0 h : HP} {H : Heap} {locs : List Loc} (C : PC E p s m args meth c RJ2 cJ2_fastRemove 4 none "fastRemove") (hr : 1 ≤ R.frames ∧ 44 ≤ R.locals ∧ RBw R h0) {x0 : Nat} {x1 : Nat} {x2 : Int} {res : HP} (hf : f_J2_fastRemove h x0 x1 x2 = some res) (hz : ZR E s h0 h H locs) {ls : Array Slot} (hl : lv_has ls 4 [(0, .ref x0), (1, .ref x1), (2, .int (zI x2))]) (hk : KR E below args s Q h0 res none) : W p l e R s m args below meth c H locs (pX h - pX h0) (pS h - pS h0) Q (F0 m 0 ls []) := by
  unfold f_J2_fastRemove at hf
  have hx := C.1
  have hb := C.2.1
  refine lv_aload_n hx hb dJ2_fastRemove_0 rfl (lv_at hl 0 rfl) ?_
  refine lv_dup hx hb dJ2_fastRemove_1 rfl ?_
  obtain ⟨hg, hf⟩ := gd_inv hf
  refine zg_geti gR C hz 8 0 (gkl hg) (by decide) (by decide) (Or.inl (C.w q150)) (C.sm q151) dJ2_fastRemove_2 ?_
  refine zl_iconst hx hb dJ2_fastRemove_5 ?_
  refine zl_iadd hx hb dJ2_fastRemove_6 ?_
  obtain ⟨hg, hf⟩ := gd_inv hf
  obtain ⟨h1, eh1, hf⟩ := bnd_inv hf
  refine zg_puti gR C hz 8 0 (gkl hg) (by decide) (by decide) rfl (by decide) (Or.inl (C.w q150)) (C.sm q151) dJ2_fastRemove_7 eh1 (fun H locs hz => ?_)
  refine lv_aload_n hx hb dJ2_fastRemove_10 rfl (lv_at hl 0 rfl) ?_
  obtain ⟨hg, hf⟩ := gd_inv hf
  refine zg_geti gR C hz 8 2 (gkl hg) (by decide) (by decide) (Or.inl (C.w q148)) (fun _ h => h) dJ2_fastRemove_11 ?_
  refine zl_iconst hx hb dJ2_fastRemove_14 ?_
  refine zl_isub hx hb dJ2_fastRemove_15 ?_
  obtain ⟨y2, ey2, hf⟩ := bnd_inv hf
  refine zl_topi ey2 ?_
  refine lv_dup hx hb dJ2_fastRemove_16 rfl ?_
  refine lv_istore_n (lv' := [(3, .int (zI y2)), (0, .ref x0), (1, .ref x1), (2, .int (zI x2))]) hx hb dJ2_fastRemove_17 rfl hl (by decide) rfl (fun ls hl => ?_)
  refine lv_iload_n hx hb dJ2_fastRemove_18 rfl (lv_at hl 3 rfl) ?_
  refine zl_icmp_le (tgt := 34) hx hb dJ2_fastRemove_19 (by decide) (fun hc => ?_) (fun hc => ?_)
  · rw [if_pos hc] at hf
    refine lv_aload_n hx hb dJ2_fastRemove_22 rfl (lv_at hl 2 rfl) ?_
    refine lv_iload_n hx hb dJ2_fastRemove_23 rfl (lv_at hl 3 rfl) ?_
    refine zl_iconst hx hb dJ2_fastRemove_24 ?_
    refine zl_iadd hx hb dJ2_fastRemove_25 ?_
    refine lv_aload_n hx hb dJ2_fastRemove_26 rfl (lv_at hl 2 rfl) ?_
    refine lv_iload_n hx hb dJ2_fastRemove_27 rfl (lv_at hl 3 rfl) ?_
    refine lv_iload_n hx hb dJ2_fastRemove_28 rfl (lv_at hl 0 rfl) ?_
    refine lv_iload_n hx hb dJ2_fastRemove_29 rfl (lv_at hl 3 rfl) ?_
    refine zl_isub hx hb dJ2_fastRemove_30 ?_
    obtain ⟨hg, hf⟩ := gd_inv hf
    obtain ⟨h3, eh3, hf⟩ := bnd_inv hf
    refine zg_copyP gR C hz hg q699 hl.1 ⟨Nat.le_trans (by decide) hr.1, Nat.le_trans (by decide) hr.2.1⟩ (Nat.le_of_ble_eq_true rfl) dJ2_fastRemove_31 eh3 (fun H locs hz => ?_)
    exact w_J2_fastRemove_34 C hr hf hz (lv_sub hl [1, 2, 0] rfl) hk
  · rw [if_neg hc] at hf
    exact w_J2_fastRemove_34 C hr hf hz (lv_sub hl [1, 2, 0] rfl) hk

theorem met_J2_fastRemove (l : Launch) (E : PEw) {h : HP} {x0 : Nat} {x1 : Nat} {x2 : Int} {res : HP} (hf : f_J2_fastRemove h x0 x1 x2 = some res) : Met l yJ2_fastRemove (ws_ yJ2_fastRemove cJ2_fastRemove 4 none) (rmP h 1 44) (PR E h [.ref x0, .ref x1, .int (zI x2)]) (QR E h res none) (pX res - pX h) (pS res - pS h) (eF E) := by
  refine Met.ofW (cc := cJ2_fastRemove) (maxL := 4) (ret := none) (by decide) rfl ?_
  intro p e s m args below meth c s₁ B hml hv
  obtain ⟨rfl, hP0⟩ := hv
  have hts := atoms_spec (ws := ws_ yJ2_fastRemove cJ2_fastRemove 4 none) B.pre
  have hts : ∀ w ∈ lw_all, w.before _ s = true := fun w h => hts w (List.mem_cons_of_mem _ h)
  have C : PC E p s m _ meth c RJ2 cJ2_fastRemove 4 none "fastRemove" := ⟨B.exec, B.bytes, B.returns, B.notSynchronized, hml, findClass_of_methodNamed B.named, hts, hP0.2, (name_of_methodNamed B.named B.method).1⟩
  have hz : ZR E s h h s.heap [] := ZG.start hP0.1
  have hl := lv_entry ([.ref x0, .ref x1, .int (zI x2)]) (n := 4) (Nat.le_of_ble_eq_true rfl)
  rw [lg_entry_eq]
  generalize (lg_sl ([.ref x0, .ref x1, .int (zI x2)]) ++ List.replicate (4 - (lg_sl ([.ref x0, .ref x1, .int (zI x2)])).length) Slot.unset).toArray = ls at hl ⊢
  have hl : lv_has ls 4 [(0, .ref x0), (1, .ref x1), (2, .int (zI x2))] := hl
  refine W.cs (cells' := pX h - pX h) (slots' := pS h - pS h) (Nat.sub_self _).symm (Nat.sub_self _).symm ?_
  exact w_J2_fastRemove C ⟨Nat.le_refl _, Nat.le_refl _, RBw.rm⟩ hf hz hl rfl

theorem w_J2_remove {p : Program} {l : Launch} {e : Env} {R : Room} {s : State} {m : MethodId} {args : Array Value} {below : List Frame} {meth : Method} {c : Code} {Q : State → Prop} {E : PEw} {h0 h : HP} {H : Heap} {locs : List Loc} (C : PC E p s m args meth c RJ2 cJ2_remove 4 (some (.object "java/lang/Object")) "remove") (hr : 2 ≤ R.frames ∧ 67 ≤ R.locals ∧ RBw R h0) {x0 : Nat} {x1 : Int} {res : HP × Option Nat} (hf : f_J2_remove h x0 x1 = some res) (hz : ZR E s h0 h H locs) {ls : Array Slot} (hl : lv_has ls 4 [(0, .ref x0), (1, .int (zI x1))]) (hk : KR E below args s Q h0 res.1 (some (va_rf res.2))) : W p l e R s m args below meth c H locs (pX h - pX h0) (pS h - pS h0) Q (F0 m 0 ls []) := by
  unfold f_J2_remove at hf
  have hx := C.1
  have hb := C.2.1
  refine lv_iload_n hx hb dJ2_remove_0 rfl (lv_at hl 1 rfl) ?_
  refine lv_aload_n hx hb dJ2_remove_1 rfl (lv_at hl 0 rfl) ?_
  obtain ⟨hg, hf⟩ := gd_inv hf
  refine zg_geti gR C hz 8 2 (gkl hg) (by decide) (by decide) (Or.inl (C.w q148)) (fun _ h => h) dJ2_remove_2 ?_
  obtain ⟨y1, ey1, hf⟩ := bd_inv hf
  refine zg_callS0 C (n := 2) (rest := []) (met_J11_checkIndex l ey1) q557 q558 q108 q559 rfl rfl (by decide +kernel) ⟨Nat.le_trans (by decide) hr.1, Nat.le_trans (by decide) hr.2.1⟩ rfl hl.1 rfl (Nat.le_of_ble_eq_true rfl) dJ2_remove_5 (RBw.have gR hz hr).1 (RBw.have gR hz hr).2 ?_
  refine lv_pop hx hb dJ2_remove_8 rfl ?_
  refine lv_aload_n hx hb dJ2_remove_9 rfl (lv_at hl 0 rfl) ?_
  obtain ⟨hg, hf⟩ := gd_inv hf
  refine zg_getp gR C hz 8 1 (gkl hg) (by decide) (by decide) (Or.inl (C.w q147)) (fun _ h => h) dJ2_remove_10 ?_
  obtain ⟨y2, ey2, hf⟩ := bnd_inv hf
  refine zl_topo ey2 ?_
  refine zl_astore_n_o (lv' := [(2, va_rf y2), (0, .ref x0), (1, .int (zI x1))]) hx hb dJ2_remove_13 rfl hl (by decide) rfl (fun ls hl => ?_)
  refine zl_aload_n_o hx hb dJ2_remove_14 rfl (lv_at hl 0 rfl) ?_
  refine lv_iload_n hx hb dJ2_remove_15 rfl (lv_at hl 2 rfl) ?_
  obtain ⟨a3, ea3, hf⟩ := bd_inv hf
  rw [zx_rf ea3] at hl ⊢
  obtain ⟨hg, hf⟩ := gd_inv hf
  obtain ⟨hi, hf⟩ := gd_inv hf
  refine zg_aald gR (by decide) C hz hg hi dJ2_remove_16 ?_
  obtain ⟨y4, ey4, hf⟩ := bnd_inv hf
  refine zl_topo ey4 ?_
  refine zl_astore_n_o (lv' := [(3, va_rf y4), (2, .ref a3), (0, .ref x0), (1, .int (zI x1))]) hx hb dJ2_remove_17 rfl hl (by decide) rfl (fun ls hl => ?_)
  refine lv_aload_n hx hb dJ2_remove_18 rfl (lv_at hl 2 rfl) ?_
  refine lv_aload_n hx hb dJ2_remove_19 rfl (lv_at hl 1 rfl) ?_
  refine lv_iload_n hx hb dJ2_remove_20 rfl (lv_at hl 3 rfl) ?_
  obtain ⟨hg, hf⟩ := gd_inv hf
  obtain ⟨y5, ey5, hf⟩ := bd_inv hf
  refine zg_callV gR C hz hr (n := 2) (rest := []) (gkl (Or.inl hg)) (met_J2_fastRemove l E ey5) q823 q825 (C.w qs22) q94 q826 (by decide +kernel) ⟨Nat.le_trans (by decide) hr.1, Nat.le_trans (by decide) hr.2.1⟩ rfl hl.1 rfl (Nat.le_of_ble_eq_true rfl) dJ2_remove_21 (fun H locs hz => ?_)
  refine zl_aload_n_o hx hb dJ2_remove_24 rfl (lv_at hl 0 rfl) ?_
  obtain rfl := Option.some.inj hf
  exact zg_aret_o C hz hk dJ2_remove_25

theorem met_J2_remove (l : Launch) (E : PEw) {h : HP} {x0 : Nat} {x1 : Int} {res : HP × Option Nat} (hf : f_J2_remove h x0 x1 = some res) : Met l yJ2_remove (ws_ yJ2_remove cJ2_remove 4 (some (.object "java/lang/Object"))) (rmP h 2 67) (PR E h [.ref x0, .int (zI x1)]) (QR E h res.1 (some (va_rf res.2))) (pX res.1 - pX h) (pS res.1 - pS h) (eF E) := by
  refine Met.ofW (cc := cJ2_remove) (maxL := 4) (ret := (some (.object "java/lang/Object"))) (by decide) rfl ?_
  intro p e s m args below meth c s₁ B hml hv
  obtain ⟨rfl, hP0⟩ := hv
  have hts := atoms_spec (ws := ws_ yJ2_remove cJ2_remove 4 (some (.object "java/lang/Object"))) B.pre
  have hts : ∀ w ∈ lw_all, w.before _ s = true := fun w h => hts w (List.mem_cons_of_mem _ h)
  have C : PC E p s m _ meth c RJ2 cJ2_remove 4 (some (.object "java/lang/Object")) "remove" := ⟨B.exec, B.bytes, B.returns, B.notSynchronized, hml, findClass_of_methodNamed B.named, hts, hP0.2, (name_of_methodNamed B.named B.method).1⟩
  have hz : ZR E s h h s.heap [] := ZG.start hP0.1
  have hl := lv_entry ([.ref x0, .int (zI x1)]) (n := 4) (Nat.le_of_ble_eq_true rfl)
  rw [lg_entry_eq]
  generalize (lg_sl ([.ref x0, .int (zI x1)]) ++ List.replicate (4 - (lg_sl ([.ref x0, .int (zI x1)])).length) Slot.unset).toArray = ls at hl ⊢
  have hl : lv_has ls 4 [(0, .ref x0), (1, .int (zI x1))] := hl
  refine W.cs (cells' := pX h - pX h) (slots' := pS h - pS h) (Nat.sub_self _).symm (Nat.sub_self _).symm ?_
  exact w_J2_remove C ⟨Nat.le_refl _, Nat.le_refl _, RBw.rm⟩ hf hz hl rfl

theorem w_J6_checkIndex {p : Program} {l : Launch} {e : Env} {R : Room} {s : State} {m : MethodId} {args : Array Value} {below : List Frame} {meth : Method} {c : Code} {Q : State → Prop} {E : PEw} {h0 h : HP} {H : Heap} {locs : List Loc} (C : PC E p s m args meth c RJ6 cJ6_checkIndex 2 none "checkIndex") (hr : 1 ≤ R.frames ∧ 22 ≤ R.locals ∧ RBw R h0) {x0 : Int} {x1 : Int} {res : Unit} (hf : f_J6_checkIndex h x0 x1 = some res) (hz : ZR E s h0 h H locs) {ls : Array Slot} (hl : lv_has ls 2 [(0, .int (zI x0)), (1, .int (zI x1))]) (hk : KR E below args s Q h0 h none) : W p l e R s m args below meth c H locs (pX h - pX h0) (pS h - pS h0) Q (F0 m 0 ls []) := by
  unfold f_J6_checkIndex at hf
  have hx := C.1
  have hb := C.2.1
  refine lv_iload_n hx hb dJ6_checkIndex_0 rfl (lv_at hl 0 rfl) ?_
  refine lv_iload_n hx hb dJ6_checkIndex_1 rfl (lv_at hl 1 rfl) ?_
  refine zc_fmt C hz q634 dJ6_checkIndex_2 ?_
  obtain ⟨y1, ey1, hf⟩ := bd_inv hf
  refine zg_callS0 C (n := 3) (rest := []) (met_J12_checkIndex l C.fmt ey1) q751 q561 q109 q562 rfl rfl (by decide +kernel) ⟨Nat.le_trans (by decide) hr.1, Nat.le_trans (by decide) hr.2.1⟩ rfl hl.1 rfl (Nat.le_of_ble_eq_true rfl) dJ6_checkIndex_5 (RBw.have gR hz hr).1 (RBw.have gR hz hr).2 ?_
  refine lv_pop hx hb dJ6_checkIndex_8 rfl ?_
  obtain rfl := Option.some.inj hf
  exact zg_vret C hz hk dJ6_checkIndex_9

theorem met_J6_checkIndex (l : Launch) (E : PEw) {h : HP} {x0 : Int} {x1 : Int} {res : Unit} (hf : f_J6_checkIndex h x0 x1 = some res) : Met l yJ6_checkIndex (ws_ yJ6_checkIndex cJ6_checkIndex 2 none) (rmP h 1 22) (PR E h [.int (zI x0), .int (zI x1)]) (QR E h h none) (pX h - pX h) (pS h - pS h) (eF E) := by
  refine Met.ofW (cc := cJ6_checkIndex) (maxL := 2) (ret := none) (by decide) rfl ?_
  intro p e s m args below meth c s₁ B hml hv
  obtain ⟨rfl, hP0⟩ := hv
  have hts := atoms_spec (ws := ws_ yJ6_checkIndex cJ6_checkIndex 2 none) B.pre
  have hts : ∀ w ∈ lw_all, w.before _ s = true := fun w h => hts w (List.mem_cons_of_mem _ h)
  have C : PC E p s m _ meth c RJ6 cJ6_checkIndex 2 none "checkIndex" := ⟨B.exec, B.bytes, B.returns, B.notSynchronized, hml, findClass_of_methodNamed B.named, hts, hP0.2, (name_of_methodNamed B.named B.method).1⟩
  have hz : ZR E s h h s.heap [] := ZG.start hP0.1
  have hl := lv_entry ([.int (zI x0), .int (zI x1)]) (n := 2) (Nat.le_of_ble_eq_true rfl)
  rw [lg_entry_eq]
  generalize (lg_sl ([.int (zI x0), .int (zI x1)]) ++ List.replicate (2 - (lg_sl ([.int (zI x0), .int (zI x1)])).length) Slot.unset).toArray = ls at hl ⊢
  have hl : lv_has ls 2 [(0, .int (zI x0)), (1, .int (zI x1))] := hl
  refine W.cs (cells' := pX h - pX h) (slots' := pS h - pS h) (Nat.sub_self _).symm (Nat.sub_self _).symm ?_
  exact w_J6_checkIndex C ⟨Nat.le_refl _, Nat.le_refl _, RBw.rm⟩ hf hz hl rfl

theorem w_J4_charAt {p : Program} {l : Launch} {e : Env} {R : Room} {s : State} {m : MethodId} {args : Array Value} {below : List Frame} {meth : Method} {c : Code} {Q : State → Prop} {E : PEw} {h0 h : HP} {H : Heap} {locs : List Loc} (C : PC E p s m args meth c RJ4 cJ4_charAt 5 (some .char) "charAt") (hr : 2 ≤ R.frames ∧ 43 ≤ R.locals ∧ RBw R h0) {x0 : Nat} {x1 : Int} {res : Int} (hf : f_J4_charAt h x0 x1 = some res) (hz : ZR E s h0 h H locs) {ls : Array Slot} (hl : lv_has ls 5 [(0, .ref x0), (1, .int (zI x1))]) (hk : KR E below args s Q h0 h (some (.int (zI res)))) : W p l e R s m args below meth c H locs (pX h - pX h0) (pS h - pS h0) Q (F0 m 0 ls []) := by
  unfold f_J4_charAt at hf
  have hx := C.1
  have hb := C.2.1
  refine lv_aload_n hx hb dJ4_charAt_0 rfl (lv_at hl 0 rfl) ?_
  obtain ⟨hg, hf⟩ := gd_inv hf
  refine zg_geti gR C hz 9 1 (gks hg) (by decide) (by decide) (Or.inl (C.w q265)) (fun _ h => h) dJ4_charAt_1 ?_
  obtain ⟨y1, ey1, hf⟩ := bnd_inv hf
  refine zl_topi ey1 ?_
  refine lv_istore_n (lv' := [(2, .int (zI y1)), (0, .ref x0), (1, .int (zI x1))]) hx hb dJ4_charAt_4 rfl hl (by decide) rfl (fun ls hl => ?_)
  refine lv_aload_n hx hb dJ4_charAt_5 rfl (lv_at hl 1 rfl) ?_
  obtain ⟨hg, hf⟩ := gd_inv hf
  refine zg_getp gR C hz 9 0 (gks hg) (by decide) (by decide) (Or.inl (C.w q264)) (fun _ h => h) dJ4_charAt_6 ?_
  obtain ⟨y2, ey2, hf⟩ := bnd_inv hf
  refine zl_topo ey2 ?_
  refine zl_astore_n_o (lv' := [(3, va_rf y2), (2, .int (zI y1)), (0, .ref x0), (1, .int (zI x1))]) hx hb dJ4_charAt_9 rfl hl (by decide) rfl (fun ls hl => ?_)
  refine lv_aload_n hx hb dJ4_charAt_10 rfl (lv_at hl 2 rfl) ?_
  obtain ⟨hg, hf⟩ := gd_inv hf
  refine zg_geti gR C hz 9 3 (gks hg) (by decide) (by decide) (Or.inl (C.w q267)) (fun _ h => h) dJ4_charAt_11 ?_
  refine zl_aload_n_o hx hb dJ4_charAt_14 rfl (lv_at hl 0 rfl) ?_
  obtain ⟨a3, ea3, hf⟩ := bd_inv hf
  rw [zx_rf ea3] at hl ⊢
  obtain ⟨hg, hf⟩ := gd_inv hf
  refine zg_alenR gR C hz hg dJ4_charAt_15 ?_
  refine lv_iload_n hx hb dJ4_charAt_16 rfl (lv_at hl 1 rfl) ?_
  refine zl_ishr hx hb dJ4_charAt_17 ?_
  refine zl_mmin hx hb C.2.2.2.2.1 hl.1 C.2.2.2.2.2.1 (fun _ h => C.w h) q891 ⟨Nat.le_trans (by decide) hr.1, Nat.le_trans (by decide) hr.2.1⟩ (Nat.le_of_ble_eq_true rfl) (RBw.have gR hz hr).1 (RBw.have gR hz hr).2 dJ4_charAt_18 ?_
  obtain ⟨y4, ey4, hf⟩ := bnd_inv hf
  refine zl_topi ey4 ?_
  refine lv_istore (lv' := [(4, .int (zI y4)), (3, .ref a3), (2, .int (zI y1)), (0, .ref x0), (1, .int (zI x1))]) hx hb dJ4_charAt_21 hl (by decide) rfl (fun ls hl => ?_)
  refine lv_iload_n hx hb dJ4_charAt_23 rfl (lv_at hl 4 rfl) ?_
  refine lv_iload hx hb dJ4_charAt_24 (lv_at hl 0 rfl) ?_
  obtain ⟨y5, ey5, hf⟩ := bd_inv hf
  refine zg_callS gR C hz hr (n := 2) (rest := []) (met_J6_checkIndex l E ey5) q892 q749 q100 q750 (by decide +kernel) ⟨Nat.le_trans (by decide) hr.1, Nat.le_trans (by decide) hr.2.1⟩ rfl hl.1 rfl (Nat.le_of_ble_eq_true rfl) dJ4_charAt_26 (fun H locs hz => ?_)
  refine lv_iload_n hx hb dJ4_charAt_29 rfl (lv_at hl 2 rfl) ?_
  refine zl_if_ne (tgt := 42) hx hb dJ4_charAt_30 (by decide) (fun hc => ?_) (fun hc => ?_)
  · rw [if_pos hc] at hf
    refine lv_aload_n hx hb dJ4_charAt_33 rfl (lv_at hl 1 rfl) ?_
    refine lv_iload_n hx hb dJ4_charAt_34 rfl (lv_at hl 4 rfl) ?_
    obtain ⟨hg, hf⟩ := gd_inv hf
    obtain ⟨hi, hf⟩ := gd_inv hf
    refine zg_bald gR (by decide) C hz hg hi dJ4_charAt_35 ?_
    refine zl_sipush hx hb dJ4_charAt_36 (by decide) ?_
    refine zl_iand hx hb dJ4_charAt_39 ?_
    refine zl_i2c hx hb dJ4_charAt_40 ?_
    obtain ⟨hg, hf⟩ := gd_inv hf
    obtain rfl := Option.some.inj hf
    exact zg_cret C hz hg hk dJ4_charAt_41
  · rw [if_neg hc] at hf
    cases hf

theorem met_J4_charAt (l : Launch) (E : PEw) {h : HP} {x0 : Nat} {x1 : Int} {res : Int} (hf : f_J4_charAt h x0 x1 = some res) : Met l yJ4_charAt (ws_ yJ4_charAt cJ4_charAt 5 (some .char)) (rmP h 2 43) (PR E h [.ref x0, .int (zI x1)]) (QR E h h (some (.int (zI res)))) (pX h - pX h) (pS h - pS h) (eF E) := by
  refine Met.ofW (cc := cJ4_charAt) (maxL := 5) (ret := (some .char)) (by decide) rfl ?_
  intro p e s m args below meth c s₁ B hml hv
  obtain ⟨rfl, hP0⟩ := hv
  have hts := atoms_spec (ws := ws_ yJ4_charAt cJ4_charAt 5 (some .char)) B.pre
  have hts : ∀ w ∈ lw_all, w.before _ s = true := fun w h => hts w (List.mem_cons_of_mem _ h)
  have C : PC E p s m _ meth c RJ4 cJ4_charAt 5 (some .char) "charAt" := ⟨B.exec, B.bytes, B.returns, B.notSynchronized, hml, findClass_of_methodNamed B.named, hts, hP0.2, (name_of_methodNamed B.named B.method).1⟩
  have hz : ZR E s h h s.heap [] := ZG.start hP0.1
  have hl := lv_entry ([.ref x0, .int (zI x1)]) (n := 5) (Nat.le_of_ble_eq_true rfl)
  rw [lg_entry_eq]
  generalize (lg_sl ([.ref x0, .int (zI x1)]) ++ List.replicate (5 - (lg_sl ([.ref x0, .int (zI x1)])).length) Slot.unset).toArray = ls at hl ⊢
  have hl : lv_has ls 5 [(0, .ref x0), (1, .int (zI x1))] := hl
  refine W.cs (cells' := pX h - pX h) (slots' := pS h - pS h) (Nat.sub_self _).symm (Nat.sub_self _).symm ?_
  exact w_J4_charAt C ⟨Nat.le_refl _, Nat.le_refl _, RBw.rm⟩ hf hz hl rfl

theorem w_J5_charAt {p : Program} {l : Launch} {e : Env} {R : Room} {s : State} {m : MethodId} {args : Array Value} {below : List Frame} {meth : Method} {c : Code} {Q : State → Prop} {E : PEw} {h0 h : HP} {H : Heap} {locs : List Loc} (C : PC E p s m args meth c RJ5 cJ5_charAt 2 (some .char) "charAt") (hr : 3 ≤ R.frames ∧ 67 ≤ R.locals ∧ RBw R h0) {x0 : Nat} {x1 : Int} {res : Int} (hf : f_J5_charAt h x0 x1 = some res) (hz : ZR E s h0 h H locs) {ls : Array Slot} (hl : lv_has ls 2 [(0, .ref x0), (1, .int (zI x1))]) (hk : KR E below args s Q h0 h (some (.int (zI res)))) : W p l e R s m args below meth c H locs (pX h - pX h0) (pS h - pS h0) Q (F0 m 0 ls []) := by
  unfold f_J5_charAt at hf
  have hx := C.1
  have hb := C.2.1
  refine lv_aload_n hx hb dJ5_charAt_0 rfl (lv_at hl 0 rfl) ?_
  refine lv_iload_n hx hb dJ5_charAt_1 rfl (lv_at hl 1 rfl) ?_
  obtain ⟨y1, ey1, hf⟩ := bd_inv hf
  obtain ⟨hg, hf⟩ := gd_inv hf
  refine zg_callSU gR C hz hr (n := 1) (rest := []) (gks (Or.inl hg)) (met_J4_charAt l E ey1) q888 q889 q1615 q276 q98 q890 (by decide +kernel) ⟨Nat.le_trans (by decide) hr.1, Nat.le_trans (by decide) hr.2.1⟩ rfl hl.1 rfl (Nat.le_of_ble_eq_true rfl) dJ5_charAt_2 (fun H locs hz => ?_)
  obtain ⟨hg, hf⟩ := gd_inv hf
  obtain rfl := Option.some.inj hf
  exact zg_cret C hz hg hk dJ5_charAt_5

theorem met_J5_charAt (l : Launch) (E : PEw) {h : HP} {x0 : Nat} {x1 : Int} {res : Int} (hf : f_J5_charAt h x0 x1 = some res) : Met l yJ5_charAt (ws_ yJ5_charAt cJ5_charAt 2 (some .char)) (rmP h 3 67) (PR E h [.ref x0, .int (zI x1)]) (QR E h h (some (.int (zI res)))) (pX h - pX h) (pS h - pS h) (eF E) := by
  refine Met.ofW (cc := cJ5_charAt) (maxL := 2) (ret := (some .char)) (by decide) rfl ?_
  intro p e s m args below meth c s₁ B hml hv
  obtain ⟨rfl, hP0⟩ := hv
  have hts := atoms_spec (ws := ws_ yJ5_charAt cJ5_charAt 2 (some .char)) B.pre
  have hts : ∀ w ∈ lw_all, w.before _ s = true := fun w h => hts w (List.mem_cons_of_mem _ h)
  have C : PC E p s m _ meth c RJ5 cJ5_charAt 2 (some .char) "charAt" := ⟨B.exec, B.bytes, B.returns, B.notSynchronized, hml, findClass_of_methodNamed B.named, hts, hP0.2, (name_of_methodNamed B.named B.method).1⟩
  have hz : ZR E s h h s.heap [] := ZG.start hP0.1
  have hl := lv_entry ([.ref x0, .int (zI x1)]) (n := 2) (Nat.le_of_ble_eq_true rfl)
  rw [lg_entry_eq]
  generalize (lg_sl ([.ref x0, .int (zI x1)]) ++ List.replicate (2 - (lg_sl ([.ref x0, .int (zI x1)])).length) Slot.unset).toArray = ls at hl ⊢
  have hl : lv_has ls 2 [(0, .ref x0), (1, .int (zI x1))] := hl
  refine W.cs (cells' := pX h - pX h) (slots' := pS h - pS h) (Nat.sub_self _).symm (Nat.sub_self _).symm ?_
  exact w_J5_charAt C ⟨Nat.le_refl _, Nat.le_refl _, RBw.rm⟩ hf hz hl rfl

