set_option maxRecDepth 100000
theorem w_X0_parent_17 {p : Program} {l : Launch} {e : Env} {R : Room} {s : State} {m : MethodId} {args : Array Value} {below : List Frame} {meth : Method} {c : Code} {Q : State → Prop} {E : PEw} {h0 h : HP} {H : Heap} {locs : List Loc} (C : PC E p s m args meth c RX0 cX0_parent 3 (some .int) "parent") (hr : 333 ≤ R.frames ∧ 7595 ≤ R.locals ∧ RBw R h0) {res : HP × Int} (hf : f_X0_parent_17 h = some res) (hz : ZP E s h0 h H locs) {ls : Array Slot} (hl : lv_has ls 3 []) (hk : KP E below args s Q h0 res.1 (some (.int (zI res.2)))) : W p l e R s m args below meth c H locs (pX h - pX h0) (pS h - pS h0) Q (F0 m 17 ls []) := by
  unfold f_X0_parent_17 at hf
  have hx := C.1
  have hb := C.2.1
  refine zl_iconst hx hb dX0_parent_17 ?_
  refine lv_goto (tgt := 28) hx hb dX0_parent_18 (by decide) ?_
  obtain rfl := Option.some.inj hf
  exact zg_iret C hz hk dX0_parent_28

theorem w_X0_parent {p : Program} {l : Launch} {e : Env} {R : Room} {s : State} {m : MethodId} {args : Array Value} {below : List Frame} {meth : Method} {c : Code} {Q : State → Prop} {E : PEw} {h0 h : HP} {H : Heap} {locs : List Loc} (C : PC E p s m args meth c RX0 cX0_parent 3 (some .int) "parent") (hr : 333 ≤ R.frames ∧ 7595 ≤ R.locals ∧ RBw R h0) {x0 : Nat} {x1 : Int} {res : HP × Int} (hf : f_X0_parent h x0 x1 = some res) (hz : ZP E s h0 h H locs) {ls : Array Slot} (hl : lv_has ls 3 [(0, .ref x0), (1, .int (zI x1))]) (hk : KP E below args s Q h0 res.1 (some (.int (zI res.2)))) : W p l e R s m args below meth c H locs (pX h - pX h0) (pS h - pS h0) Q (F0 m 0 ls []) := by
  unfold f_X0_parent at hf
  have hx := C.1
  have hb := C.2.1
  refine lv_aload_n hx hb dX0_parent_0 rfl (lv_at hl 0 rfl) ?_
  refine lv_iload_n hx hb dX0_parent_1 rfl (lv_at hl 1 rfl) ?_
  obtain ⟨hg, hf⟩ := gd_inv hf
  obtain ⟨y1, ey1, hf⟩ := bd_inv hf
  refine zg_callV gP C hz hr (n := 1) (rest := []) (gkp (by decide) hg) (met_X0_node l E ey1) q1061 q1063 (C.w qs33) q89 q1064 (by decide +kernel) ⟨Nat.le_trans (by decide) hr.1, Nat.le_trans (by decide) hr.2.1⟩ rfl hl.1 rfl (Nat.le_of_ble_eq_true rfl) dX0_parent_2 (fun H locs hz => ?_)
  refine zl_astore_n_o (lv' := [(2, va_rf y1.2), (0, .ref x0), (1, .int (zI x1))]) hx hb dX0_parent_5 rfl hl (by decide) rfl (fun ls hl => ?_)
  refine zl_aload_n_o hx hb dX0_parent_6 rfl (lv_at hl 0 rfl) ?_
  rcases nl_inv hf with ⟨ho, hf⟩ | ⟨a2, ho, hf⟩
  · rw [zx_nul ho]
    refine lv_ifnullN (tgt := 17) hx hb dX0_parent_7 (by decide) ?_
    exact w_X0_parent_17 C hr hf hz (lv_sub hl [] rfl) hk
  · rw [zx_rf ho] at hl ⊢
    refine lv_ifnull hx hb dX0_parent_7 ?_
    refine lv_aload_n hx hb dX0_parent_10 rfl (lv_at hl 0 rfl) ?_
    obtain ⟨hg, hf⟩ := gd_inv hf
    refine zg_getp_nd gP C hz 2 0 hg (by decide) (by decide) (Or.inl (C.w q194)) (fun _ h => h) dX0_parent_11 ?_
    rcases nl_inv hf with ⟨ho, hf⟩ | ⟨a3, ho, hf⟩
    · rw [zx_nul ho]
      refine lv_ifnonnullN hx hb dX0_parent_14 ?_
      exact w_X0_parent_17 C hr hf hz (lv_sub hl [] rfl) hk
    · rw [zx_rf ho]
      refine lv_ifnonnull (tgt := 21) hx hb dX0_parent_14 (by decide) ?_
      refine lv_aload_n hx hb dX0_parent_21 rfl (lv_at hl 0 rfl) ?_
      obtain ⟨hg, hf⟩ := gd_inv hf
      refine zg_getp_nd gP C hz 2 0 hg (by decide) (by decide) (Or.inl (C.w q194)) (fun _ h => h) dX0_parent_22 ?_
      obtain ⟨a4, ea4, hf⟩ := bd_inv hf
      rw [zx_rf ea4]
      obtain ⟨hg, hf⟩ := gd_inv hf
      refine zg_geti gP C hz 2 1 (gkp (by decide) hg) (by decide) (by decide) (Or.inl (C.w q196)) (C.sm q197) dX0_parent_25 ?_
      obtain rfl := Option.some.inj hf
      exact zg_iret C hz hk dX0_parent_28

theorem met_X0_parent (l : Launch) (E : PEw) {h : HP} {x0 : Nat} {x1 : Int} {res : HP × Int} (hf : f_X0_parent h x0 x1 = some res) : Met l yX0_parent (ws_ yX0_parent cX0_parent 3 (some .int)) (rmP h 333 7595) (PP E h [.ref x0, .int (zI x1)]) (QP E h res.1 (some (.int (zI res.2)))) (pX res.1 - pX h) (pS res.1 - pS h) (eF E) := by
  refine Met.ofW (cc := cX0_parent) (maxL := 3) (ret := (some .int)) (by decide) rfl ?_
  intro p e s m args below meth c s₁ B hml hv
  obtain ⟨rfl, hP0⟩ := hv
  have hts := atoms_spec (ws := ws_ yX0_parent cX0_parent 3 (some .int)) B.pre
  have hts : ∀ w ∈ lw_all, w.before _ s = true := fun w h => hts w (List.mem_cons_of_mem _ h)
  have C : PC E p s m _ meth c RX0 cX0_parent 3 (some .int) "parent" := ⟨B.exec, B.bytes, B.returns, B.notSynchronized, hml, findClass_of_methodNamed B.named, hts, hP0.2, (name_of_methodNamed B.named B.method).1⟩
  have hz : ZP E s h h s.heap [] := ZG.start hP0.1
  have hl := lv_entry ([.ref x0, .int (zI x1)]) (n := 3) (Nat.le_of_ble_eq_true rfl)
  rw [lg_entry_eq]
  generalize (lg_sl ([.ref x0, .int (zI x1)]) ++ List.replicate (3 - (lg_sl ([.ref x0, .int (zI x1)])).length) Slot.unset).toArray = ls at hl ⊢
  have hl : lv_has ls 3 [(0, .ref x0), (1, .int (zI x1))] := hl
  refine W.cs (cells' := pX h - pX h) (slots' := pS h - pS h) (Nat.sub_self _).symm (Nat.sub_self _).symm ?_
  exact w_X0_parent C ⟨Nat.le_refl _, Nat.le_refl _, RBw.rm⟩ hf hz hl rfl

theorem w_X2_classes {p : Program} {l : Launch} {e : Env} {R : Room} {s : State} {m : MethodId} {args : Array Value} {below : List Frame} {meth : Method} {c : Code} {Q : State → Prop} {E : PEw} {h0 h : HP} {H : Heap} {locs : List Loc} (C : PC E p s m args meth c RX2 cX2_classes 1 (some .int) "classes") (hr : 0 ≤ R.frames ∧ 0 ≤ R.locals ∧ RBw R h0) {x0 : Nat} {res : Int} (hf : f_X2_classes h x0 = some res) (hz : ZP E s h0 h H locs) {ls : Array Slot} (hl : lv_has ls 1 [(0, .ref x0)]) (hk : KP E below args s Q h0 h (some (.int (zI res)))) : W p l e R s m args below meth c H locs (pX h - pX h0) (pS h - pS h0) Q (F0 m 0 ls []) := by
  unfold f_X2_classes at hf
  have hx := C.1
  have hb := C.2.1
  refine lv_aload_n hx hb dX2_classes_0 rfl (lv_at hl 0 rfl) ?_
  obtain ⟨hg, hf⟩ := gd_inv hf
  refine zg_geti gP C hz 2 3 (gkp (by decide) hg) (by decide) (by decide) (Or.inl (C.w q162)) (fun _ h => h) dX2_classes_1 ?_
  obtain rfl := Option.some.inj hf
  exact zg_iret C hz hk dX2_classes_4

theorem met_X2_classes (l : Launch) (E : PEw) {h : HP} {x0 : Nat} {res : Int} (hf : f_X2_classes h x0 = some res) : Met l yX2_classes (ws_ yX2_classes cX2_classes 1 (some .int)) (rmP h 0 0) (PP E h [.ref x0]) (QP E h h (some (.int (zI res)))) (pX h - pX h) (pS h - pS h) (eF E) := by
  refine Met.ofW (cc := cX2_classes) (maxL := 1) (ret := (some .int)) (by decide) rfl ?_
  intro p e s m args below meth c s₁ B hml hv
  obtain ⟨rfl, hP0⟩ := hv
  have hts := atoms_spec (ws := ws_ yX2_classes cX2_classes 1 (some .int)) B.pre
  have hts : ∀ w ∈ lw_all, w.before _ s = true := fun w h => hts w (List.mem_cons_of_mem _ h)
  have C : PC E p s m _ meth c RX2 cX2_classes 1 (some .int) "classes" := ⟨B.exec, B.bytes, B.returns, B.notSynchronized, hml, findClass_of_methodNamed B.named, hts, hP0.2, (name_of_methodNamed B.named B.method).1⟩
  have hz : ZP E s h h s.heap [] := ZG.start hP0.1
  have hl := lv_entry ([.ref x0]) (n := 1) (Nat.le_of_ble_eq_true rfl)
  rw [lg_entry_eq]
  generalize (lg_sl ([.ref x0]) ++ List.replicate (1 - (lg_sl ([.ref x0])).length) Slot.unset).toArray = ls at hl ⊢
  have hl : lv_has ls 1 [(0, .ref x0)] := hl
  refine W.cs (cells' := pX h - pX h) (slots' := pS h - pS h) (Nat.sub_self _).symm (Nat.sub_self _).symm ?_
  exact w_X2_classes C ⟨Nat.le_refl _, Nat.le_refl _, RBw.rm⟩ hf hz hl rfl

theorem w_X6_classes {p : Program} {l : Launch} {e : Env} {R : Room} {s : State} {m : MethodId} {args : Array Value} {below : List Frame} {meth : Method} {c : Code} {Q : State → Prop} {E : PEw} {h0 h : HP} {H : Heap} {locs : List Loc} (C : PC E p s m args meth c RX6 cX6_classes 1 (some .int) "classes") (hr : 0 ≤ R.frames ∧ 0 ≤ R.locals ∧ RBw R h0) {x0 : Nat} {res : Int} (hf : f_X6_classes h x0 = some res) (hz : ZP E s h0 h H locs) {ls : Array Slot} (hl : lv_has ls 1 [(0, .ref x0)]) (hk : KP E below args s Q h0 h (some (.int (zI res)))) : W p l e R s m args below meth c H locs (pX h - pX h0) (pS h - pS h0) Q (F0 m 0 ls []) := by
  unfold f_X6_classes at hf
  have hx := C.1
  have hb := C.2.1
  refine zl_iconst hx hb dX6_classes_0 ?_
  obtain rfl := Option.some.inj hf
  exact zg_iret C hz hk dX6_classes_1

theorem met_X6_classes (l : Launch) (E : PEw) {h : HP} {x0 : Nat} {res : Int} (hf : f_X6_classes h x0 = some res) : Met l yX6_classes (ws_ yX6_classes cX6_classes 1 (some .int)) (rmP h 0 0) (PP E h [.ref x0]) (QP E h h (some (.int (zI res)))) (pX h - pX h) (pS h - pS h) (eF E) := by
  refine Met.ofW (cc := cX6_classes) (maxL := 1) (ret := (some .int)) (by decide) rfl ?_
  intro p e s m args below meth c s₁ B hml hv
  obtain ⟨rfl, hP0⟩ := hv
  have hts := atoms_spec (ws := ws_ yX6_classes cX6_classes 1 (some .int)) B.pre
  have hts : ∀ w ∈ lw_all, w.before _ s = true := fun w h => hts w (List.mem_cons_of_mem _ h)
  have C : PC E p s m _ meth c RX6 cX6_classes 1 (some .int) "classes" := ⟨B.exec, B.bytes, B.returns, B.notSynchronized, hml, findClass_of_methodNamed B.named, hts, hP0.2, (name_of_methodNamed B.named B.method).1⟩
  have hz : ZP E s h h s.heap [] := ZG.start hP0.1
  have hl := lv_entry ([.ref x0]) (n := 1) (Nat.le_of_ble_eq_true rfl)
  rw [lg_entry_eq]
  generalize (lg_sl ([.ref x0]) ++ List.replicate (1 - (lg_sl ([.ref x0])).length) Slot.unset).toArray = ls at hl ⊢
  have hl : lv_has ls 1 [(0, .ref x0)] := hl
  refine W.cs (cells' := pX h - pX h) (slots' := pS h - pS h) (Nat.sub_self _).symm (Nat.sub_self _).symm ?_
  exact w_X6_classes C ⟨Nat.le_refl _, Nat.le_refl _, RBw.rm⟩ hf hz hl rfl

theorem zp_virt_classes {p : Program} {l : Launch} {e : Env} {R : Room} {s : State} {m : MethodId} {args : Array Value} {below : List Frame} {meth : Method} {c : Code} {H : Heap} {locs : List Loc} {Q : State → Prop} {cc : ByteArray} {pc index : Nat} {ls : Array Slot} {rest : List Value} {E : PEw} {own : String} {nL : Nat} {ret : Option FieldType} {nm : String} {h0 h : HP} {a : Nat} {y : Int} (C : PC E p s m args meth c own cc nL ret nm) (hz : ZP E s h0 h H locs) {F1 F2 : Prop} (hr : F1 ∧ F2 ∧ RBw R h0) (hg : isN (pK h a)) (ey : v_classes h a = some y) (q1 : Cond.methodLink own index ⟨"PlainPage$Node", "classes", "()I"⟩ ∈ lw_all) (hl : ls.size = nL) (hR : 0 + 1 ≤ R.frames ∧ 8 + (1 + 11) + 0 ≤ R.locals) (hcat : (rest.map fun v => v.category).sum ≤ 8) (hdg : decode cc pc = .ok (.invokevirtual index, 3)) (kk : ∀ (H : Heap) (locs : List Loc), ZP E s h0 h H locs → W p l e R s m args below meth c H locs (pX h - pX h0) (pS h - pS h0) Q (F0 m (pc + 3) ls (.int (zI y) :: rest))) : W p l e R s m args below meth c H locs (pX h - pX h0) (pS h - pS h0) Q (F0 m pc ls (.ref a :: rest)) := by
  unfold v_classes at ey
  rcases hg with hg | hg
  · rw [if_neg (by omega)] at ey
    exact zg_callO (v := some (.int (zI y))) (As := []) (n := 0) (cl := 2) gP C hz hr (gkp (by decide) hg) (met_X2_classes l E ey) q1 q1086 q1084 q1085 q1083 q91 q1087 (by decide +kernel) hR rfl hl rfl hcat hdg kk
  · rw [if_pos hg] at ey
    exact zg_callO (v := some (.int (zI y))) (As := []) (n := 0) (cl := 3) gP C hz hr (gkp (by decide) hg) (met_X6_classes l E ey) q1 q1089 q1084 q1088 q1083 q112 q1090 (by decide +kernel) hR rfl hl rfl hcat hdg kk

theorem w_X0_classes {p : Program} {l : Launch} {e : Env} {R : Room} {s : State} {m : MethodId} {args : Array Value} {below : List Frame} {meth : Method} {c : Code} {Q : State → Prop} {E : PEw} {h0 h : HP} {H : Heap} {locs : List Loc} (C : PC E p s m args meth c RX0 cX0_classes 3 (some .int) "classes") (hr : 333 ≤ R.frames ∧ 7595 ≤ R.locals ∧ RBw R h0) {x0 : Nat} {x1 : Int} {res : HP × Int} (hf : f_X0_classes h x0 x1 = some res) (hz : ZP E s h0 h H locs) {ls : Array Slot} (hl : lv_has ls 3 [(0, .ref x0), (1, .int (zI x1))]) (hk : KP E below args s Q h0 res.1 (some (.int (zI res.2)))) : W p l e R s m args below meth c H locs (pX h - pX h0) (pS h - pS h0) Q (F0 m 0 ls []) := by
  unfold f_X0_classes at hf
  have hx := C.1
  have hb := C.2.1
  refine lv_aload_n hx hb dX0_classes_0 rfl (lv_at hl 0 rfl) ?_
  refine lv_iload_n hx hb dX0_classes_1 rfl (lv_at hl 1 rfl) ?_
  obtain ⟨hg, hf⟩ := gd_inv hf
  obtain ⟨y1, ey1, hf⟩ := bd_inv hf
  refine zg_callV gP C hz hr (n := 1) (rest := []) (gkp (by decide) hg) (met_X0_node l E ey1) q1061 q1063 (C.w qs33) q89 q1064 (by decide +kernel) ⟨Nat.le_trans (by decide) hr.1, Nat.le_trans (by decide) hr.2.1⟩ rfl hl.1 rfl (Nat.le_of_ble_eq_true rfl) dX0_classes_2 (fun H locs hz => ?_)
  refine zl_astore_n_o (lv' := [(2, va_rf y1.2), (0, .ref x0), (1, .int (zI x1))]) hx hb dX0_classes_5 rfl hl (by decide) rfl (fun ls hl => ?_)
  refine zl_aload_n_o hx hb dX0_classes_6 rfl (lv_at hl 0 rfl) ?_
  rcases nl_inv hf with ⟨ho, hf⟩ | ⟨a2, ho, hf⟩
  · rw [zx_nul ho]
    refine lv_ifnonnullN hx hb dX0_classes_7 ?_
    refine zl_iconst hx hb dX0_classes_10 ?_
    refine lv_goto (tgt := 18) hx hb dX0_classes_11 (by decide) ?_
    obtain rfl := Option.some.inj hf
    exact zg_iret C hz hk dX0_classes_18
  · rw [zx_rf ho] at hl ⊢
    refine lv_ifnonnull (tgt := 14) hx hb dX0_classes_7 (by decide) ?_
    refine lv_aload_n hx hb dX0_classes_14 rfl (lv_at hl 0 rfl) ?_
    obtain ⟨hg, hf⟩ := gd_inv hf
    obtain ⟨y3, ey3, hf⟩ := bd_inv hf
    refine zp_virt_classes C hz hr hg ey3 q1082 hl.1 ⟨Nat.le_trans (by decide) hr.1, Nat.le_trans (by decide) hr.2.1⟩ (Nat.le_of_ble_eq_true rfl) dX0_classes_15 (fun H locs hz => ?_)
    obtain rfl := Option.some.inj hf
    exact zg_iret C hz hk dX0_classes_18

theorem met_X0_classes (l : Launch) (E : PEw) {h : HP} {x0 : Nat} {x1 : Int} {res : HP × Int} (hf : f_X0_classes h x0 x1 = some res) : Met l yX0_classes (ws_ yX0_classes cX0_classes 3 (some .int)) (rmP h 333 7595) (PP E h [.ref x0, .int (zI x1)]) (QP E h res.1 (some (.int (zI res.2)))) (pX res.1 - pX h) (pS res.1 - pS h) (eF E) := by
  refine Met.ofW (cc := cX0_classes) (maxL := 3) (ret := (some .int)) (by decide) rfl ?_
  intro p e s m args below meth c s₁ B hml hv
  obtain ⟨rfl, hP0⟩ := hv
  have hts := atoms_spec (ws := ws_ yX0_classes cX0_classes 3 (some .int)) B.pre
  have hts : ∀ w ∈ lw_all, w.before _ s = true := fun w h => hts w (List.mem_cons_of_mem _ h)
  have C : PC E p s m _ meth c RX0 cX0_classes 3 (some .int) "classes" := ⟨B.exec, B.bytes, B.returns, B.notSynchronized, hml, findClass_of_methodNamed B.named, hts, hP0.2, (name_of_methodNamed B.named B.method).1⟩
  have hz : ZP E s h h s.heap [] := ZG.start hP0.1
  have hl := lv_entry ([.ref x0, .int (zI x1)]) (n := 3) (Nat.le_of_ble_eq_true rfl)
  rw [lg_entry_eq]
  generalize (lg_sl ([.ref x0, .int (zI x1)]) ++ List.replicate (3 - (lg_sl ([.ref x0, .int (zI x1)])).length) Slot.unset).toArray = ls at hl ⊢
  have hl : lv_has ls 3 [(0, .ref x0), (1, .int (zI x1))] := hl
  refine W.cs (cells' := pX h - pX h) (slots' := pS h - pS h) (Nat.sub_self _).symm (Nat.sub_self _).symm ?_
  exact w_X0_classes C ⟨Nat.le_refl _, Nat.le_refl _, RBw.rm⟩ hf hz hl rfl

theorem w_X0_text {p : Program} {l : Launch} {e : Env} {R : Room} {s : State} {m : MethodId} {args : Array Value} {below : List Frame} {meth : Method} {c : Code} {Q : State → Prop} {E : PEw} {h0 h : HP} {H : Heap} {locs : List Loc} (C : PC E p s m args meth c RX0 cX0_text 3 (some (.object "PlainPage$Text")) "text") (hr : 333 ≤ R.frames ∧ 7595 ≤ R.locals ∧ RBw R h0) {x0 : Nat} {x1 : Int} {res : HP × Option Nat} (hf : f_X0_text h x0 x1 = some res) (hz : ZP E s h0 h H locs) {ls : Array Slot} (hl : lv_has ls 3 [(0, .ref x0), (1, .int (zI x1))]) (hk : KP E below args s Q h0 res.1 (some (va_rf res.2))) : W p l e R s m args below meth c H locs (pX h - pX h0) (pS h - pS h0) Q (F0 m 0 ls []) := by
  unfold f_X0_text at hf
  have hx := C.1
  have hb := C.2.1
  refine lv_aload_n hx hb dX0_text_0 rfl (lv_at hl 0 rfl) ?_
  refine lv_iload_n hx hb dX0_text_1 rfl (lv_at hl 1 rfl) ?_
  obtain ⟨hg, hf⟩ := gd_inv hf
  obtain ⟨y1, ey1, hf⟩ := bd_inv hf
  refine zg_callV gP C hz hr (n := 1) (rest := []) (gkp (by decide) hg) (met_X0_node l E ey1) q1061 q1063 (C.w qs33) q89 q1064 (by decide +kernel) ⟨Nat.le_trans (by decide) hr.1, Nat.le_trans (by decide) hr.2.1⟩ rfl hl.1 rfl (Nat.le_of_ble_eq_true rfl) dX0_text_2 (fun H locs hz => ?_)
  refine zl_astore_n_o (lv' := [(2, va_rf y1.2), (0, .ref x0), (1, .int (zI x1))]) hx hb dX0_text_5 rfl hl (by decide) rfl (fun ls hl => ?_)
  refine zl_aload_n_o hx hb dX0_text_6 rfl (lv_at hl 0 rfl) ?_
  obtain ⟨hg, hf⟩ := gd_inv hf
  refine zg_inst3_o gP C hz hg q705 dX0_text_7 ?_
  refine zl_if_eq (tgt := 20) hx hb dX0_text_10 (by decide) (fun hc => ?_) (fun hc => ?_)
  · rw [if_pos hc] at hf
    refine lv_null hx hb dX0_text_20 ?_
    obtain rfl := Option.some.inj hf
    exact zg_aret_o C hz hk dX0_text_21
  · rw [if_neg hc] at hf
    refine zl_aload_n_o hx hb dX0_text_13 rfl (lv_at hl 0 rfl) ?_
    obtain ⟨hg, hf⟩ := gd_inv hf
    refine zg_cast3_o gP C hz hg q705 dX0_text_14 ?_
    refine lv_goto (tgt := 21) hx hb dX0_text_17 (by decide) ?_
    obtain rfl := Option.some.inj hf
    exact zg_aret_o C hz hk dX0_text_21

theorem met_X0_text (l : Launch) (E : PEw) {h : HP} {x0 : Nat} {x1 : Int} {res : HP × Option Nat} (hf : f_X0_text h x0 x1 = some res) : Met l yX0_text (ws_ yX0_text cX0_text 3 (some (.object "PlainPage$Text"))) (rmP h 333 7595) (PP E h [.ref x0, .int (zI x1)]) (QP E h res.1 (some (va_rf res.2))) (pX res.1 - pX h) (pS res.1 - pS h) (eF E) := by
  refine Met.ofW (cc := cX0_text) (maxL := 3) (ret := (some (.object "PlainPage$Text"))) (by decide) rfl ?_
  intro p e s m args below meth c s₁ B hml hv
  obtain ⟨rfl, hP0⟩ := hv
  have hts := atoms_spec (ws := ws_ yX0_text cX0_text 3 (some (.object "PlainPage$Text"))) B.pre
  have hts : ∀ w ∈ lw_all, w.before _ s = true := fun w h => hts w (List.mem_cons_of_mem _ h)
  have C : PC E p s m _ meth c RX0 cX0_text 3 (some (.object "PlainPage$Text")) "text" := ⟨B.exec, B.bytes, B.returns, B.notSynchronized, hml, findClass_of_methodNamed B.named, hts, hP0.2, (name_of_methodNamed B.named B.method).1⟩
  have hz : ZP E s h h s.heap [] := ZG.start hP0.1
  have hl := lv_entry ([.ref x0, .int (zI x1)]) (n := 3) (Nat.le_of_ble_eq_true rfl)
  rw [lg_entry_eq]
  generalize (lg_sl ([.ref x0, .int (zI x1)]) ++ List.replicate (3 - (lg_sl ([.ref x0, .int (zI x1)])).length) Slot.unset).toArray = ls at hl ⊢
  have hl : lv_has ls 3 [(0, .ref x0), (1, .int (zI x1))] := hl
  refine W.cs (cells' := pX h - pX h) (slots' := pS h - pS h) (Nat.sub_self _).symm (Nat.sub_self _).symm ?_
  exact w_X0_text C ⟨Nat.le_refl _, Nat.le_refl _, RBw.rm⟩ hf hz hl rfl

theorem w_X0_letter_25 {p : Program} {l : Launch} {e : Env} {R : Room} {s : State} {m : MethodId} {args : Array Value} {below : List Frame} {meth : Method} {c : Code} {Q : State → Prop} {E : PEw} {h0 h : HP} {H : Heap} {locs : List Loc} (C : PC E p s m args meth c RX0 cX0_letter 4 (some .int) "letter") (hr : 334 ≤ R.frames ∧ 7617 ≤ R.locals ∧ RBw R h0) {res : HP × Int} (hf : f_X0_letter_25 h = some res) (hz : ZP E s h0 h H locs) {ls : Array Slot} (hl : lv_has ls 4 []) (hk : KP E below args s Q h0 res.1 (some (.int (zI res.2)))) : W p l e R s m args below meth c H locs (pX h - pX h0) (pS h - pS h0) Q (F0 m 25 ls []) := by
  unfold f_X0_letter_25 at hf
  have hx := C.1
  have hb := C.2.1
  refine zl_iconst hx hb dX0_letter_25 ?_
  refine lv_goto (tgt := 37) hx hb dX0_letter_26 (by decide) ?_
  obtain rfl := Option.some.inj hf
  exact zg_iret C hz hk dX0_letter_37

theorem w_X0_letter {p : Program} {l : Launch} {e : Env} {R : Room} {s : State} {m : MethodId} {args : Array Value} {below : List Frame} {meth : Method} {c : Code} {Q : State → Prop} {E : PEw} {h0 h : HP} {H : Heap} {locs : List Loc} (C : PC E p s m args meth c RX0 cX0_letter 4 (some .int) "letter") (hr : 334 ≤ R.frames ∧ 7617 ≤ R.locals ∧ RBw R h0) {x0 : Nat} {x1 : Int} {x2 : Int} {res : HP × Int} (hf : f_X0_letter h x0 x1 x2 = some res) (hz : ZP E s h0 h H locs) {ls : Array Slot} (hl : lv_has ls 4 [(0, .ref x0), (1, .int (zI x1)), (2, .int (zI x2))]) (hk : KP E below args s Q h0 res.1 (some (.int (zI res.2)))) : W p l e R s m args below meth c H locs (pX h - pX h0) (pS h - pS h0) Q (F0 m 0 ls []) := by
  unfold f_X0_letter at hf
  have hx := C.1
  have hb := C.2.1
  refine lv_aload_n hx hb dX0_letter_0 rfl (lv_at hl 0 rfl) ?_
  refine lv_iload_n hx hb dX0_letter_1 rfl (lv_at hl 1 rfl) ?_
  obtain ⟨hg, hf⟩ := gd_inv hf
  obtain ⟨y1, ey1, hf⟩ := bd_inv hf
  refine zg_callV gP C hz hr (n := 1) (rest := []) (gkp (by decide) hg) (met_X0_text l E ey1) q1095 q1097 (C.w qs34) q89 q1098 (by decide +kernel) ⟨Nat.le_trans (by decide) hr.1, Nat.le_trans (by decide) hr.2.1⟩ rfl hl.1 rfl (Nat.le_of_ble_eq_true rfl) dX0_letter_2 (fun H locs hz => ?_)
  refine zl_astore_n_o (lv' := [(3, va_rf y1.2), (0, .ref x0), (1, .int (zI x1)), (2, .int (zI x2))]) hx hb dX0_letter_5 rfl hl (by decide) rfl (fun ls hl => ?_)
  refine zl_aload_n_o hx hb dX0_letter_6 rfl (lv_at hl 0 rfl) ?_
  rcases nl_inv hf with ⟨ho, hf⟩ | ⟨a2, ho, hf⟩
  · rw [zx_nul ho]
    refine lv_ifnullN (tgt := 25) hx hb dX0_letter_7 (by decide) ?_
    exact w_X0_letter_25 C hr hf hz (lv_sub hl [] rfl) hk
  · rw [zx_rf ho] at hl ⊢
    refine lv_ifnull hx hb dX0_letter_7 ?_
    refine lv_iload_n hx hb dX0_letter_10 rfl (lv_at hl 3 rfl) ?_
    refine zl_if_lt (tgt := 25) hx hb dX0_letter_11 (by decide) (fun hc => ?_) (fun hc => ?_)
    · rw [if_pos hc] at hf
      exact w_X0_letter_25 C hr hf hz (lv_sub hl [] rfl) hk
    · rw [if_neg hc] at hf
      refine lv_iload_n hx hb dX0_letter_14 rfl (lv_at hl 3 rfl) ?_
      refine lv_aload_n hx hb dX0_letter_15 rfl (lv_at hl 0 rfl) ?_
      obtain ⟨hg, hf⟩ := gd_inv hf
      refine zg_getp gP C hz 3 2 (gkp (by decide) hg) (by decide) (by decide) (Or.inr ⟨_, C.nw q776⟩) (fun _ h => h) dX0_letter_16 ?_
      obtain ⟨a3, ea3, hf⟩ := bd_inv hf
      rw [zx_rf ea3]
      obtain ⟨y4, ey4, hf⟩ := bd_inv hf
      refine zj_sLen C hz hr ey4 (rest := [.int (zI x2)]) q883 q753 (C.w q754) q99 q755 hl.1 ⟨Nat.le_trans (by decide) hr.1, Nat.le_trans (by decide) hr.2.1⟩ (Nat.le_of_ble_eq_true rfl) dX0_letter_19 (fun H locs hz => ?_)
      refine zl_icmp_lt (tgt := 29) hx hb dX0_letter_22 (by decide) (fun hc => ?_) (fun hc => ?_)
      · rw [if_pos hc] at hf
        refine lv_aload_n hx hb dX0_letter_29 rfl (lv_at hl 0 rfl) ?_
        obtain ⟨hg, hf⟩ := gd_inv hf
        refine zg_getp gP C hz 3 2 (gkp (by decide) hg) (by decide) (by decide) (Or.inr ⟨_, C.nw q776⟩) (fun _ h => h) dX0_letter_30 ?_
        refine lv_iload_n hx hb dX0_letter_33 rfl (lv_at hl 3 rfl) ?_
        obtain ⟨a5, ea5, hf⟩ := bd_inv hf
        rw [zx_rf ea5]
        obtain ⟨y6, ey6, hf⟩ := bd_inv hf
        refine zj_sAt C hz hr ey6 (rest := []) q884 q885 (C.w q886) q99 q887 hl.1 ⟨Nat.le_trans (by decide) hr.1, Nat.le_trans (by decide) hr.2.1⟩ (Nat.le_of_ble_eq_true rfl) dX0_letter_34 (fun H locs hz => ?_)
        obtain rfl := Option.some.inj hf
        exact zg_iret C hz hk dX0_letter_37
      · rw [if_neg hc] at hf
        exact w_X0_letter_25 C hr hf hz (lv_sub hl [] rfl) hk

theorem met_X0_letter (l : Launch) (E : PEw) {h : HP} {x0 : Nat} {x1 : Int} {x2 : Int} {res : HP × Int} (hf : f_X0_letter h x0 x1 x2 = some res) : Met l yX0_letter (ws_ yX0_letter cX0_letter 4 (some .int)) (rmP h 334 7617) (PP E h [.ref x0, .int (zI x1), .int (zI x2)]) (QP E h res.1 (some (.int (zI res.2)))) (pX res.1 - pX h) (pS res.1 - pS h) (eF E) := by
  refine Met.ofW (cc := cX0_letter) (maxL := 4) (ret := (some .int)) (by decide) rfl ?_
  intro p e s m args below meth c s₁ B hml hv
  obtain ⟨rfl, hP0⟩ := hv
  have hts := atoms_spec (ws := ws_ yX0_letter cX0_letter 4 (some .int)) B.pre
  have hts : ∀ w ∈ lw_all, w.before _ s = true := fun w h => hts w (List.mem_cons_of_mem _ h)
  have C : PC E p s m _ meth c RX0 cX0_letter 4 (some .int) "letter" := ⟨B.exec, B.bytes, B.returns, B.notSynchronized, hml, findClass_of_methodNamed B.named, hts, hP0.2, (name_of_methodNamed B.named B.method).1⟩
  have hz : ZP E s h h s.heap [] := ZG.start hP0.1
  have hl := lv_entry ([.ref x0, .int (zI x1), .int (zI x2)]) (n := 4) (Nat.le_of_ble_eq_true rfl)
  rw [lg_entry_eq]
  generalize (lg_sl ([.ref x0, .int (zI x1), .int (zI x2)]) ++ List.replicate (4 - (lg_sl ([.ref x0, .int (zI x1), .int (zI x2)])).length) Slot.unset).toArray = ls at hl ⊢
  have hl : lv_has ls 4 [(0, .ref x0), (1, .int (zI x1)), (2, .int (zI x2))] := hl
  refine W.cs (cells' := pX h - pX h) (slots' := pS h - pS h) (Nat.sub_self _).symm (Nat.sub_self _).symm ?_
  exact w_X0_letter C ⟨Nat.le_refl _, Nat.le_refl _, RBw.rm⟩ hf hz hl rfl

theorem w_X0_open {p : Program} {l : Launch} {e : Env} {R : Room} {s : State} {m : MethodId} {args : Array Value} {below : List Frame} {meth : Method} {c : Code} {Q : State → Prop} {E : PEw} {h0 h : HP} {H : Heap} {locs : List Loc} (C : PC E p s m args meth c RX0 cX0_open 1 (some .int) "open") (hr : 1 ≤ R.frames ∧ 20 ≤ R.locals ∧ RBw R h0) {x0 : Nat} {res : Int} (hf : f_X0_open h x0 = some res) (hz : ZP E s h0 h H locs) {ls : Array Slot} (hl : lv_has ls 1 [(0, .ref x0)]) (hk : KP E below args s Q h0 h (some (.int (zI res)))) : W p l e R s m args below meth c H locs (pX h - pX h0) (pS h - pS h0) Q (F0 m 0 ls []) := by
  unfold f_X0_open at hf
  have hx := C.1
  have hb := C.2.1
  refine lv_aload_n hx hb dX0_open_0 rfl (lv_at hl 0 rfl) ?_
  obtain ⟨hg, hf⟩ := gd_inv hf
  refine zg_geti gP C hz 1 7 (gkp (by decide) hg) (by decide) (by decide) (Or.inl (C.w q407)) (fun _ h => h) dX0_open_1 ?_
  refine zl_if_eq (tgt := 11) hx hb dX0_open_4 (by decide) (fun hc => ?_) (fun hc => ?_)
  · rw [if_pos hc] at hf
    refine lv_aload_n hx hb dX0_open_11 rfl (lv_at hl 0 rfl) ?_
    obtain ⟨hg, hf⟩ := gd_inv hf
    refine zg_getp gP C hz 1 5 (gkp (by decide) hg) (by decide) (by decide) (Or.inl (C.w q405)) (fun _ h => h) dX0_open_12 ?_
    obtain ⟨a1, ea1, hf⟩ := bd_inv hf
    rw [zx_rf ea1]
    obtain ⟨y2, ey2, hf⟩ := bd_inv hf
    refine zj_lLen C hz hr ey2 (rest := []) q549 q550 (C.w q551) q94 q552 hl.1 ⟨Nat.le_trans (by decide) hr.1, Nat.le_trans (by decide) hr.2.1⟩ (Nat.le_of_ble_eq_true rfl) dX0_open_15 (fun H locs hz => ?_)
    obtain rfl := Option.some.inj hf
    exact zg_iret C hz hk dX0_open_18
  · rw [if_neg hc] at hf
    refine zl_iconst hx hb dX0_open_7 ?_
    refine lv_goto (tgt := 18) hx hb dX0_open_8 (by decide) ?_
    obtain rfl := Option.some.inj hf
    exact zg_iret C hz hk dX0_open_18

theorem met_X0_open (l : Launch) (E : PEw) {h : HP} {x0 : Nat} {res : Int} (hf : f_X0_open h x0 = some res) : Met l yX0_open (ws_ yX0_open cX0_open 1 (some .int)) (rmP h 1 20) (PP E h [.ref x0]) (QP E h h (some (.int (zI res)))) (pX h - pX h) (pS h - pS h) (eF E) := by
  refine Met.ofW (cc := cX0_open) (maxL := 1) (ret := (some .int)) (by decide) rfl ?_
  intro p e s m args below meth c s₁ B hml hv
  obtain ⟨rfl, hP0⟩ := hv
  have hts := atoms_spec (ws := ws_ yX0_open cX0_open 1 (some .int)) B.pre
  have hts : ∀ w ∈ lw_all, w.before _ s = true := fun w h => hts w (List.mem_cons_of_mem _ h)
  have C : PC E p s m _ meth c RX0 cX0_open 1 (some .int) "open" := ⟨B.exec, B.bytes, B.returns, B.notSynchronized, hml, findClass_of_methodNamed B.named, hts, hP0.2, (name_of_methodNamed B.named B.method).1⟩
  have hz : ZP E s h h s.heap [] := ZG.start hP0.1
  have hl := lv_entry ([.ref x0]) (n := 1) (Nat.le_of_ble_eq_true rfl)
  rw [lg_entry_eq]
  generalize (lg_sl ([.ref x0]) ++ List.replicate (1 - (lg_sl ([.ref x0])).length) Slot.unset).toArray = ls at hl ⊢
  have hl : lv_has ls 1 [(0, .ref x0)] := hl
  refine W.cs (cells' := pX h - pX h) (slots' := pS h - pS h) (Nat.sub_self _).symm (Nat.sub_self _).symm ?_
  exact w_X0_open C ⟨Nat.le_refl _, Nat.le_refl _, RBw.rm⟩ hf hz hl rfl

theorem w_X0_rules {p : Program} {l : Launch} {e : Env} {R : Room} {s : State} {m : MethodId} {args : Array Value} {below : List Frame} {meth : Method} {c : Code} {Q : State → Prop} {E : PEw} {h0 h : HP} {H : Heap} {locs : List Loc} (C : PC E p s m args meth c RX0 cX0_rules 1 (some .int) "rules") (hr : 1 ≤ R.frames ∧ 20 ≤ R.locals ∧ RBw R h0) {x0 : Nat} {res : Int} (hf : f_X0_rules h x0 = some res) (hz : ZP E s h0 h H locs) {ls : Array Slot} (hl : lv_has ls 1 [(0, .ref x0)]) (hk : KP E below args s Q h0 h (some (.int (zI res)))) : W p l e R s m args below meth c H locs (pX h - pX h0) (pS h - pS h0) Q (F0 m 0 ls []) := by
  unfold f_X0_rules at hf
  have hx := C.1
  have hb := C.2.1
  refine lv_aload_n hx hb dX0_rules_0 rfl (lv_at hl 0 rfl) ?_
  obtain ⟨hg, hf⟩ := gd_inv hf
  refine zg_getp gP C hz 1 14 (gkp (by decide) hg) (by decide) (by decide) (Or.inl (C.w q414)) (fun _ h => h) dX0_rules_1 ?_
  obtain ⟨a1, ea1, hf⟩ := bd_inv hf
  rw [zx_rf ea1]
  obtain ⟨hg, hf⟩ := gd_inv hf
  refine zg_getp gP C hz 4 0 (gkp (by decide) hg) (by decide) (by decide) (Or.inr ⟨_, C.nw q279⟩) (fun _ h => h) dX0_rules_4 ?_
  obtain ⟨a2, ea2, hf⟩ := bd_inv hf
  rw [zx_rf ea2]
  obtain ⟨y3, ey3, hf⟩ := bd_inv hf
  refine zj_lLen C hz hr ey3 (rest := []) q549 q550 (C.w q551) q94 q552 hl.1 ⟨Nat.le_trans (by decide) hr.1, Nat.le_trans (by decide) hr.2.1⟩ (Nat.le_of_ble_eq_true rfl) dX0_rules_7 (fun H locs hz => ?_)
  obtain rfl := Option.some.inj hf
  exact zg_iret C hz hk dX0_rules_10

theorem met_X0_rules (l : Launch) (E : PEw) {h : HP} {x0 : Nat} {res : Int} (hf : f_X0_rules h x0 = some res) : Met l yX0_rules (ws_ yX0_rules cX0_rules 1 (some .int)) (rmP h 1 20) (PP E h [.ref x0]) (QP E h h (some (.int (zI res)))) (pX h - pX h) (pS h - pS h) (eF E) := by
  refine Met.ofW (cc := cX0_rules) (maxL := 1) (ret := (some .int)) (by decide) rfl ?_
  intro p e s m args below meth c s₁ B hml hv
  obtain ⟨rfl, hP0⟩ := hv
  have hts := atoms_spec (ws := ws_ yX0_rules cX0_rules 1 (some .int)) B.pre
  have hts : ∀ w ∈ lw_all, w.before _ s = true := fun w h => hts w (List.mem_cons_of_mem _ h)
  have C : PC E p s m _ meth c RX0 cX0_rules 1 (some .int) "rules" := ⟨B.exec, B.bytes, B.returns, B.notSynchronized, hml, findClass_of_methodNamed B.named, hts, hP0.2, (name_of_methodNamed B.named B.method).1⟩
  have hz : ZP E s h h s.heap [] := ZG.start hP0.1
  have hl := lv_entry ([.ref x0]) (n := 1) (Nat.le_of_ble_eq_true rfl)
  rw [lg_entry_eq]
  generalize (lg_sl ([.ref x0]) ++ List.replicate (1 - (lg_sl ([.ref x0])).length) Slot.unset).toArray = ls at hl ⊢
  have hl : lv_has ls 1 [(0, .ref x0)] := hl
  refine W.cs (cells' := pX h - pX h) (slots' := pS h - pS h) (Nat.sub_self _).symm (Nat.sub_self _).symm ?_
  exact w_X0_rules C ⟨Nat.le_refl _, Nat.le_refl _, RBw.rm⟩ hf hz hl rfl

theorem w_X0_inner {p : Program} {l : Launch} {e : Env} {R : Room} {s : State} {m : MethodId} {args : Array Value} {below : List Frame} {meth : Method} {c : Code} {Q : State → Prop} {E : PEw} {h0 h : HP} {H : Heap} {locs : List Loc} (C : PC E p s m args meth c RX0 cX0_inner 3 (some (.object "PlainPage$Element")) "inner") (hr : 333 ≤ R.frames ∧ 7595 ≤ R.locals ∧ RBw R h0) {x0 : Nat} {x1 : Int} {res : HP × Option Nat} (hf : f_X0_inner h x0 x1 = some res) (hz : ZP E s h0 h H locs) {ls : Array Slot} (hl : lv_has ls 3 [(0, .ref x0), (1, .int (zI x1))]) (hk : KP E below args s Q h0 res.1 (some (va_rf res.2))) : W p l e R s m args below meth c H locs (pX h - pX h0) (pS h - pS h0) Q (F0 m 0 ls []) := by
  unfold f_X0_inner at hf
  have hx := C.1
  have hb := C.2.1
  refine lv_aload_n hx hb dX0_inner_0 rfl (lv_at hl 0 rfl) ?_
  refine lv_iload_n hx hb dX0_inner_1 rfl (lv_at hl 1 rfl) ?_
  obtain ⟨hg, hf⟩ := gd_inv hf
  obtain ⟨y1, ey1, hf⟩ := bd_inv hf
  refine zg_callV gP C hz hr (n := 1) (rest := []) (gkp (by decide) hg) (met_X0_node l E ey1) q1061 q1063 (C.w qs33) q89 q1064 (by decide +kernel) ⟨Nat.le_trans (by decide) hr.1, Nat.le_trans (by decide) hr.2.1⟩ rfl hl.1 rfl (Nat.le_of_ble_eq_true rfl) dX0_inner_2 (fun H locs hz => ?_)
  refine zl_astore_n_o (lv' := [(2, va_rf y1.2), (0, .ref x0), (1, .int (zI x1))]) hx hb dX0_inner_5 rfl hl (by decide) rfl (fun ls hl => ?_)
  refine zl_aload_n_o hx hb dX0_inner_6 rfl (lv_at hl 0 rfl) ?_
  obtain ⟨hg, hf⟩ := gd_inv hf
  refine zg_inst2_o gP C hz hg q124 dX0_inner_7 ?_
  refine zl_if_eq (tgt := 20) hx hb dX0_inner_10 (by decide) (fun hc => ?_) (fun hc => ?_)
  · rw [if_pos hc] at hf
    refine lv_null hx hb dX0_inner_20 ?_
    obtain rfl := Option.some.inj hf
    exact zg_aret_o C hz hk dX0_inner_21
  · rw [if_neg hc] at hf
    refine zl_aload_n_o hx hb dX0_inner_13 rfl (lv_at hl 0 rfl) ?_
    obtain ⟨hg, hf⟩ := gd_inv hf
    refine zg_cast2_o gP C hz hg q124 dX0_inner_14 ?_
    refine lv_goto (tgt := 21) hx hb dX0_inner_17 (by decide) ?_
    obtain rfl := Option.some.inj hf
    exact zg_aret_o C hz hk dX0_inner_21

theorem met_X0_inner (l : Launch) (E : PEw) {h : HP} {x0 : Nat} {x1 : Int} {res : HP × Option Nat} (hf : f_X0_inner h x0 x1 = some res) : Met l yX0_inner (ws_ yX0_inner cX0_inner 3 (some (.object "PlainPage$Element"))) (rmP h 333 7595) (PP E h [.ref x0, .int (zI x1)]) (QP E h res.1 (some (va_rf res.2))) (pX res.1 - pX h) (pS res.1 - pS h) (eF E) := by
  refine Met.ofW (cc := cX0_inner) (maxL := 3) (ret := (some (.object "PlainPage$Element"))) (by decide) rfl ?_
  intro p e s m args below meth c s₁ B hml hv
  obtain ⟨rfl, hP0⟩ := hv
  have hts := atoms_spec (ws := ws_ yX0_inner cX0_inner 3 (some (.object "PlainPage$Element"))) B.pre
  have hts : ∀ w ∈ lw_all, w.before _ s = true := fun w h => hts w (List.mem_cons_of_mem _ h)
  have C : PC E p s m _ meth c RX0 cX0_inner 3 (some (.object "PlainPage$Element")) "inner" := ⟨B.exec, B.bytes, B.returns, B.notSynchronized, hml, findClass_of_methodNamed B.named, hts, hP0.2, (name_of_methodNamed B.named B.method).1⟩
  have hz : ZP E s h h s.heap [] := ZG.start hP0.1
  have hl := lv_entry ([.ref x0, .int (zI x1)]) (n := 3) (Nat.le_of_ble_eq_true rfl)
  rw [lg_entry_eq]
  generalize (lg_sl ([.ref x0, .int (zI x1)]) ++ List.replicate (3 - (lg_sl ([.ref x0, .int (zI x1)])).length) Slot.unset).toArray = ls at hl ⊢
  have hl : lv_has ls 3 [(0, .ref x0), (1, .int (zI x1))] := hl
  refine W.cs (cells' := pX h - pX h) (slots' := pS h - pS h) (Nat.sub_self _).symm (Nat.sub_self _).symm ?_
  exact w_X0_inner C ⟨Nat.le_refl _, Nat.le_refl _, RBw.rm⟩ hf hz hl rfl

theorem w_X0_value_32 {p : Program} {l : Launch} {e : Env} {R : Room} {s : State} {m : MethodId} {args : Array Value} {below : List Frame} {meth : Method} {c : Code} {Q : State → Prop} {E : PEw} {h0 h : HP} {H : Heap} {locs : List Loc} (C : PC E p s m args meth c RX0 cX0_value 5 (some .int) "value") (hr : 334 ≤ R.frames ∧ 7617 ≤ R.locals ∧ RBw R h0) {res : HP × Int} (hf : f_X0_value_32 h = some res) (hz : ZP E s h0 h H locs) {ls : Array Slot} (hl : lv_has ls 5 []) (hk : KP E below args s Q h0 res.1 (some (.int (zI res.2)))) : W p l e R s m args below meth c H locs (pX h - pX h0) (pS h - pS h0) Q (F0 m 32 ls []) := by
  unfold f_X0_value_32 at hf
  have hx := C.1
  have hb := C.2.1
  refine zl_iconst hx hb dX0_value_32 ?_
  refine lv_goto (tgt := 43) hx hb dX0_value_33 (by decide) ?_
  obtain rfl := Option.some.inj hf
  exact zg_iret C hz hk dX0_value_43

theorem w_X0_value {p : Program} {l : Launch} {e : Env} {R : Room} {s : State} {m : MethodId} {args : Array Value} {below : List Frame} {meth : Method} {c : Code} {Q : State → Prop} {E : PEw} {h0 h : HP} {H : Heap} {locs : List Loc} (C : PC E p s m args meth c RX0 cX0_value 5 (some .int) "value") (hr : 334 ≤ R.frames ∧ 7617 ≤ R.locals ∧ RBw R h0) {x0 : Nat} {x1 : Int} {x2 : Int} {res : HP × Int} (hf : f_X0_value h x0 x1 x2 = some res) (hz : ZP E s h0 h H locs) {ls : Array Slot} (hl : lv_has ls 5 [(0, .ref x0), (1, .int (zI x1)), (2, .int (zI x2))]) (hk : KP E below args s Q h0 res.1 (some (.int (zI res.2)))) : W p l e R s m args below meth c H locs (pX h - pX h0) (pS h - pS h0) Q (F0 m 0 ls []) := by
  unfold f_X0_value at hf
  have hx := C.1
  have hb := C.2.1
  refine lv_aload_n hx hb dX0_value_0 rfl (lv_at hl 0 rfl) ?_
  refine lv_iload_n hx hb dX0_value_1 rfl (lv_at hl 1 rfl) ?_
  obtain ⟨hg, hf⟩ := gd_inv hf
  obtain ⟨y1, ey1, hf⟩ := bd_inv hf
  refine zg_callV gP C hz hr (n := 1) (rest := []) (gkp (by decide) hg) (met_X0_inner l E ey1) q1111 q1113 (C.w qs35) q89 q1114 (by decide +kernel) ⟨Nat.le_trans (by decide) hr.1, Nat.le_trans (by decide) hr.2.1⟩ rfl hl.1 rfl (Nat.le_of_ble_eq_true rfl) dX0_value_2 (fun H locs hz => ?_)
  refine zl_astore_n_o (lv' := [(3, va_rf y1.2), (0, .ref x0), (1, .int (zI x1)), (2, .int (zI x2))]) hx hb dX0_value_5 rfl hl (by decide) rfl (fun ls hl => ?_)
  refine zc_strW C 7 (by decide) rfl rfl dX0_value_6 ?_
  refine lv_iload_n hx hb dX0_value_9 rfl (lv_at hl 3 rfl) ?_
  obtain ⟨hg, hf⟩ := gd_inv hf
  obtain ⟨y2, ey2, hf⟩ := bd_inv hf
  refine zg_callQ gP C hz hr (n := 1) (rest := []) hg (met_J6_indexOf l E ey2) q584 q585 (C.w q586) q100 q587 (by decide +kernel) ⟨Nat.le_trans (by decide) hr.1, Nat.le_trans (by decide) hr.2.1⟩ rfl hl.1 rfl (Nat.le_of_ble_eq_true rfl) dX0_value_10 (fun H locs hz => ?_)
  refine lv_istore (lv' := [(4, .int (zI y2)), (3, va_rf y1.2), (0, .ref x0), (1, .int (zI x1)), (2, .int (zI x2))]) hx hb dX0_value_13 hl (by decide) (by simp [zx_cat]) (fun ls hl => ?_)
  refine zl_aload_n_o hx hb dX0_value_15 rfl (lv_at hl 1 rfl) ?_
  rcases nl_inv hf with ⟨ho, hf⟩ | ⟨a3, ho, hf⟩
  · rw [zx_nul ho]
    refine lv_ifnullN (tgt := 32) hx hb dX0_value_16 (by decide) ?_
    exact w_X0_value_32 C hr hf hz (lv_sub hl [] rfl) hk
  · rw [zx_rf ho] at hl ⊢
    refine lv_ifnull hx hb dX0_value_16 ?_
    refine lv_aload_n hx hb dX0_value_19 rfl (lv_at hl 1 rfl) ?_
    refine lv_aload_n hx hb dX0_value_20 rfl (lv_at hl 2 rfl) ?_
    obtain ⟨hg, hf⟩ := gd_inv hf
    refine zg_getp gP C hz 1 0 (gkp (by decide) hg) (by decide) (by decide) (Or.inl (C.w q400)) (fun _ h => h) dX0_value_21 ?_
    refine zl_acmp_eq (rx := some a3) (ry := pP y1.1 x0 0) hx hb (tgt := 32) dX0_value_24 (by decide) (fun hc => ?_) (fun hc => ?_)
    · rw [if_pos hc] at hf
      exact w_X0_value_32 C hr hf hz (lv_sub hl [] rfl) hk
    · rw [if_neg hc] at hf
      refine lv_iload hx hb dX0_value_27 (lv_at hl 0 rfl) ?_
      refine zl_if_ge (tgt := 36) hx hb dX0_value_29 (by decide) (fun hc => ?_) (fun hc => ?_)
      · rw [if_pos hc] at hf
        exact w_X0_value_32 C hr hf hz (lv_sub hl [] rfl) hk
      · rw [if_neg hc] at hf
        refine lv_aload_n hx hb dX0_value_36 rfl (lv_at hl 1 rfl) ?_
        obtain ⟨hg, hf⟩ := gd_inv hf
        refine zg_getp gP C hz 2 7 (gkp (by decide) hg) (by decide) (by decide) (Or.inr ⟨_, C.nw q173⟩) (fun _ h => h) dX0_value_37 ?_
        refine lv_iload hx hb dX0_value_40 (lv_at hl 0 rfl) ?_
        obtain ⟨a4, ea4, hf⟩ := bd_inv hf
        rw [zx_rf ea4]
        obtain ⟨hg, hf⟩ := gd_inv hf
        obtain ⟨hi, hf⟩ := gd_inv hf
        refine zg_iald gP C hz hg hi dX0_value_42 ?_
        obtain rfl := Option.some.inj hf
        exact zg_iret C hz hk dX0_value_43

theorem met_X0_value (l : Launch) (E : PEw) {h : HP} {x0 : Nat} {x1 : Int} {x2 : Int} {res : HP × Int} (hf : f_X0_value h x0 x1 x2 = some res) : Met l yX0_value (ws_ yX0_value cX0_value 5 (some .int)) (rmP h 334 7617) (PP E h [.ref x0, .int (zI x1), .int (zI x2)]) (QP E h res.1 (some (.int (zI res.2)))) (pX res.1 - pX h) (pS res.1 - pS h) (eF E) := by
  refine Met.ofW (cc := cX0_value) (maxL := 5) (ret := (some .int)) (by decide) rfl ?_
  intro p e s m args below meth c s₁ B hml hv
  obtain ⟨rfl, hP0⟩ := hv
  have hts := atoms_spec (ws := ws_ yX0_value cX0_value 5 (some .int)) B.pre
  have hts : ∀ w ∈ lw_all, w.before _ s = true := fun w h => hts w (List.mem_cons_of_mem _ h)
  have C : PC E p s m _ meth c RX0 cX0_value 5 (some .int) "value" := ⟨B.exec, B.bytes, B.returns, B.notSynchronized, hml, findClass_of_methodNamed B.named, hts, hP0.2, (name_of_methodNamed B.named B.method).1⟩
  have hz : ZP E s h h s.heap [] := ZG.start hP0.1
  have hl := lv_entry ([.ref x0, .int (zI x1), .int (zI x2)]) (n := 5) (Nat.le_of_ble_eq_true rfl)
  rw [lg_entry_eq]
  generalize (lg_sl ([.ref x0, .int (zI x1), .int (zI x2)]) ++ List.replicate (5 - (lg_sl ([.ref x0, .int (zI x1), .int (zI x2)])).length) Slot.unset).toArray = ls at hl ⊢
  have hl : lv_has ls 5 [(0, .ref x0), (1, .int (zI x1)), (2, .int (zI x2))] := hl
  refine W.cs (cells' := pX h - pX h) (slots' := pS h - pS h) (Nat.sub_self _).symm (Nat.sub_self _).symm ?_
  exact w_X0_value C ⟨Nat.le_refl _, Nat.le_refl _, RBw.rm⟩ hf hz hl rfl

theorem w_X0_box_16 {p : Program} {l : Launch} {e : Env} {R : Room} {s : State} {m : MethodId} {args : Array Value} {below : List Frame} {meth : Method} {c : Code} {Q : State → Prop} {E : PEw} {h0 h : HP} {H : Heap} {locs : List Loc} (C : PC E p s m args meth c RX0 cX0_box 4 (some .int) "box") (hr : 334 ≤ R.frames ∧ 7617 ≤ R.locals ∧ RBw R h0) {x2 : Int} {t0 : Option Nat} {res : HP × Int} (hf : f_X0_box_16 h x2 t0 = some res) (hz : ZP E s h0 h H locs) {ls : Array Slot} (hl : lv_has ls 4 [(2, .int (zI x2))]) (hk : KP E below args s Q h0 res.1 (some (.int (zI res.2)))) : W p l e R s m args below meth c H locs (pX h - pX h0) (pS h - pS h0) Q (F0 m 16 ls [va_rf t0]) := by
  unfold f_X0_box_16 at hf
  have hx := C.1
  have hb := C.2.1
  refine zl_astore_n_o (lv' := [(3, va_rf t0), (2, .int (zI x2))]) hx hb dX0_box_16 rfl hl (by decide) rfl (fun ls hl => ?_)
  refine zl_aload_n_o hx hb dX0_box_17 rfl (lv_at hl 0 rfl) ?_
  rcases nl_inv hf with ⟨ho, hf⟩ | ⟨a1, ho, hf⟩
  · rw [zx_nul ho]
    refine lv_ifnullN (tgt := 28) hx hb dX0_box_18 (by decide) ?_
    refine zl_iconst hx hb dX0_box_28 ?_
    obtain rfl := Option.some.inj hf
    exact zg_iret C hz hk dX0_box_29
  · rw [zx_rf ho] at hl ⊢
    refine lv_ifnull hx hb dX0_box_18 ?_
    refine lv_aload_n hx hb dX0_box_21 rfl (lv_at hl 0 rfl) ?_
    obtain ⟨hg, hf⟩ := gd_inv hf
    obtain ⟨y2, ey2, hf⟩ := bd_inv hf
    refine zg_callV gP C hz hr (n := 0) (rest := []) (gkp (by decide) hg) (met_X2_box l E ey2) q995 q996 (C.w q997) q91 q998 (by decide +kernel) ⟨Nat.le_trans (by decide) hr.1, Nat.le_trans (by decide) hr.2.1⟩ rfl hl.1 rfl (Nat.le_of_ble_eq_true rfl) dX0_box_22 (fun H locs hz => ?_)
    refine zl_if_ne (tgt := 30) hx hb dX0_box_25 (by decide) (fun hc => ?_) (fun hc => ?_)
    · rw [if_pos hc] at hf
      refine zl_iconst hx hb dX0_box_28 ?_
      obtain rfl := Option.some.inj hf
      exact zg_iret C hz hk dX0_box_29
    · rw [if_neg hc] at hf
      refine lv_iload_n hx hb dX0_box_30 rfl (lv_at hl 1 rfl) ?_
      by_cases hc : zI x2 = zI 0
      · rw [if_pos hc] at hf
        refine zl_tab (tgt := 60) (v := 0) hx hb dX0_box_31 hc (by decide) (by decide) (by decide) rfl (by decide) ?_
        refine lv_aload_n hx hb dX0_box_60 rfl (lv_at hl 0 rfl) ?_
        obtain ⟨hg, hf⟩ := gd_inv hf
        refine zg_geti gP C hz 2 9 (gkp (by decide) hg) (by decide) (by decide) (Or.inr ⟨_, C.nw q176⟩) (fun _ h => h) dX0_box_61 ?_
        obtain rfl := Option.some.inj hf
        exact zg_iret C hz hk dX0_box_64
      rw [if_neg hc] at hf
      have hc0 := hc
      by_cases hc : zI x2 = zI 1
      · rw [if_pos hc] at hf
        refine zl_tab (tgt := 65) (v := 1) hx hb dX0_box_31 hc (by decide) (by decide) (by decide) rfl (by decide) ?_
        refine lv_aload_n hx hb dX0_box_65 rfl (lv_at hl 0 rfl) ?_
        obtain ⟨hg, hf⟩ := gd_inv hf
        refine zg_geti gP C hz 2 10 (gkp (by decide) hg) (by decide) (by decide) (Or.inr ⟨_, C.nw q178⟩) (fun _ h => h) dX0_box_66 ?_
        obtain rfl := Option.some.inj hf
        exact zg_iret C hz hk dX0_box_69
      rw [if_neg hc] at hf
      have hc1 := hc
      by_cases hc : zI x2 = zI 2
      · rw [if_pos hc] at hf
        refine zl_tab (tgt := 70) (v := 2) hx hb dX0_box_31 hc (by decide) (by decide) (by decide) rfl (by decide) ?_
        refine lv_aload_n hx hb dX0_box_70 rfl (lv_at hl 0 rfl) ?_
        obtain ⟨hg, hf⟩ := gd_inv hf
        refine zg_geti gP C hz 2 11 (gkp (by decide) hg) (by decide) (by decide) (Or.inr ⟨_, C.nw q179⟩) (fun _ h => h) dX0_box_71 ?_
        obtain rfl := Option.some.inj hf
        exact zg_iret C hz hk dX0_box_74
      rw [if_neg hc] at hf
      have hc2 := hc
      by_cases hc : zI x2 = zI 3
      · rw [if_pos hc] at hf
        refine zl_tab (tgt := 75) (v := 3) hx hb dX0_box_31 hc (by decide) (by decide) (by decide) rfl (by decide) ?_
        refine lv_aload_n hx hb dX0_box_75 rfl (lv_at hl 0 rfl) ?_
        obtain ⟨hg, hf⟩ := gd_inv hf
        refine zg_geti gP C hz 2 12 (gkp (by decide) hg) (by decide) (by decide) (Or.inr ⟨_, C.nw q181⟩) (fun _ h => h) dX0_box_76 ?_
        obtain rfl := Option.some.inj hf
        exact zg_iret C hz hk dX0_box_79
      rw [if_neg hc] at hf
      have hc3 := hc
      refine zl_tabD (tgt := 80) (vs := [0, 1, 2, 3]) hx hb dX0_box_31 (by decide) (by simp only [List.mem_cons, List.not_mem_nil, or_false, forall_eq_or_imp, forall_eq]; exact ⟨hc0, hc1, hc2, hc3⟩) (by decide) (by decide) ?_
      refine zl_iconst hx hb dX0_box_80 ?_
      obtain rfl := Option.some.inj hf
      exact zg_iret C hz hk dX0_box_81

theorem w_X0_box {p : Program} {l : Launch} {e : Env} {R : Room} {s : State} {m : MethodId} {args : Array Value} {below : List Frame} {meth : Method} {c : Code} {Q : State → Prop} {E : PEw} {h0 h : HP} {H : Heap} {locs : List Loc} (C : PC E p s m args meth c RX0 cX0_box 4 (some .int) "box") (hr : 334 ≤ R.frames ∧ 7617 ≤ R.locals ∧ RBw R h0) {x0 : Nat} {x1 : Int} {x2 : Int} {res : HP × Int} (hf : f_X0_box h x0 x1 x2 = some res) (hz : ZP E s h0 h H locs) {ls : Array Slot} (hl : lv_has ls 4 [(0, .ref x0), (1, .int (zI x1)), (2, .int (zI x2))]) (hk : KP E below args s Q h0 res.1 (some (.int (zI res.2)))) : W p l e R s m args below meth c H locs (pX h - pX h0) (pS h - pS h0) Q (F0 m 0 ls []) := by
  unfold f_X0_box at hf
  have hx := C.1
  have hb := C.2.1
  refine lv_aload_n hx hb dX0_box_0 rfl (lv_at hl 0 rfl) ?_
  obtain ⟨hg, hf⟩ := gd_inv hf
  refine zg_geti gP C hz 1 17 (gkp (by decide) hg) (by decide) (by decide) (Or.inl (C.w q417)) (fun _ h => h) dX0_box_1 ?_
  refine zl_if_le (tgt := 15) hx hb dX0_box_4 (by decide) (fun hc => ?_) (fun hc => ?_)
  · rw [if_pos hc] at hf
    refine lv_aload_n hx hb dX0_box_7 rfl (lv_at hl 0 rfl) ?_
    refine lv_iload_n hx hb dX0_box_8 rfl (lv_at hl 1 rfl) ?_
    obtain ⟨hg, hf⟩ := gd_inv hf
    obtain ⟨y1, ey1, hf⟩ := bd_inv hf
    refine zg_callV gP C hz hr (n := 1) (rest := []) (gkp (by decide) hg) (met_X0_inner l E ey1) q1111 q1113 (C.w qs35) q89 q1114 (by decide +kernel) ⟨Nat.le_trans (by decide) hr.1, Nat.le_trans (by decide) hr.2.1⟩ rfl hl.1 rfl (Nat.le_of_ble_eq_true rfl) dX0_box_9 (fun H locs hz => ?_)
    refine lv_goto (tgt := 16) hx hb dX0_box_12 (by decide) ?_
    exact w_X0_box_16 C hr hf hz (lv_sub hl [2] rfl) hk
  · rw [if_neg hc] at hf
    refine lv_null hx hb dX0_box_15 ?_
    exact w_X0_box_16 C hr hf hz (lv_sub hl [2] rfl) hk

theorem met_X0_box (l : Launch) (E : PEw) {h : HP} {x0 : Nat} {x1 : Int} {x2 : Int} {res : HP × Int} (hf : f_X0_box h x0 x1 x2 = some res) : Met l yX0_box (ws_ yX0_box cX0_box 4 (some .int)) (rmP h 334 7617) (PP E h [.ref x0, .int (zI x1), .int (zI x2)]) (QP E h res.1 (some (.int (zI res.2)))) (pX res.1 - pX h) (pS res.1 - pS h) (eF E) := by
  refine Met.ofW (cc := cX0_box) (maxL := 4) (ret := (some .int)) (by decide) rfl ?_
  intro p e s m args below meth c s₁ B hml hv
  obtain ⟨rfl, hP0⟩ := hv
  have hts := atoms_spec (ws := ws_ yX0_box cX0_box 4 (some .int)) B.pre
  have hts : ∀ w ∈ lw_all, w.before _ s = true := fun w h => hts w (List.mem_cons_of_mem _ h)
  have C : PC E p s m _ meth c RX0 cX0_box 4 (some .int) "box" := ⟨B.exec, B.bytes, B.returns, B.notSynchronized, hml, findClass_of_methodNamed B.named, hts, hP0.2, (name_of_methodNamed B.named B.method).1⟩
  have hz : ZP E s h h s.heap [] := ZG.start hP0.1
  have hl := lv_entry ([.ref x0, .int (zI x1), .int (zI x2)]) (n := 4) (Nat.le_of_ble_eq_true rfl)
  rw [lg_entry_eq]
  generalize (lg_sl ([.ref x0, .int (zI x1), .int (zI x2)]) ++ List.replicate (4 - (lg_sl ([.ref x0, .int (zI x1), .int (zI x2)])).length) Slot.unset).toArray = ls at hl ⊢
  have hl : lv_has ls 4 [(0, .ref x0), (1, .int (zI x1)), (2, .int (zI x2))] := hl
  refine W.cs (cells' := pX h - pX h) (slots' := pS h - pS h) (Nat.sub_self _).symm (Nat.sub_self _).symm ?_
  exact w_X0_box C ⟨Nat.le_refl _, Nat.le_refl _, RBw.rm⟩ hf hz hl rfl

theorem w_X0_place_36 {p : Program} {l : Launch} {e : Env} {R : Room} {s : State} {m : MethodId} {args : Array Value} {below : List Frame} {meth : Method} {c : Code} {Q : State → Prop} {E : PEw} {h0 h : HP} {H : Heap} {locs : List Loc} (C : PC E p s m args meth c RX0 cX0_place 4 (some .int) "place") (hr : 334 ≤ R.frames ∧ 7617 ≤ R.locals ∧ RBw R h0) {res : HP × Int} (hf : f_X0_place_36 h = some res) (hz : ZP E s h0 h H locs) {ls : Array Slot} (hl : lv_has ls 4 []) (hk : KP E below args s Q h0 res.1 (some (.int (zI res.2)))) : W p l e R s m args below meth c H locs (pX h - pX h0) (pS h - pS h0) Q (F0 m 36 ls []) := by
  unfold f_X0_place_36 at hf
  have hx := C.1
  have hb := C.2.1
  refine zl_iconst hx hb dX0_place_36 ?_
  refine lv_goto (tgt := 46) hx hb dX0_place_37 (by decide) ?_
  obtain rfl := Option.some.inj hf
  exact zg_iret C hz hk dX0_place_46

theorem w_X0_place_16 {p : Program} {l : Launch} {e : Env} {R : Room} {s : State} {m : MethodId} {args : Array Value} {below : List Frame} {meth : Method} {c : Code} {Q : State → Prop} {E : PEw} {h0 h : HP} {H : Heap} {locs : List Loc} (C : PC E p s m args meth c RX0 cX0_place 4 (some .int) "place") (hr : 334 ≤ R.frames ∧ 7617 ≤ R.locals ∧ RBw R h0) {x2 : Int} {t0 : Option Nat} {res : HP × Int} (hf : f_X0_place_16 h x2 t0 = some res) (hz : ZP E s h0 h H locs) {ls : Array Slot} (hl : lv_has ls 4 [(2, .int (zI x2))]) (hk : KP E below args s Q h0 res.1 (some (.int (zI res.2)))) : W p l e R s m args below meth c H locs (pX h - pX h0) (pS h - pS h0) Q (F0 m 16 ls [va_rf t0]) := by
  unfold f_X0_place_16 at hf
  have hx := C.1
  have hb := C.2.1
  refine zl_astore_n_o (lv' := [(3, va_rf t0), (2, .int (zI x2))]) hx hb dX0_place_16 rfl hl (by decide) rfl (fun ls hl => ?_)
  refine zl_aload_n_o hx hb dX0_place_17 rfl (lv_at hl 0 rfl) ?_
  rcases nl_inv hf with ⟨ho, hf⟩ | ⟨a1, ho, hf⟩
  · rw [zx_nul ho]
    refine lv_ifnullN (tgt := 36) hx hb dX0_place_18 (by decide) ?_
    exact w_X0_place_36 C hr hf hz (lv_sub hl [] rfl) hk
  · rw [zx_rf ho] at hl ⊢
    refine lv_ifnull hx hb dX0_place_18 ?_
    refine lv_iload_n hx hb dX0_place_21 rfl (lv_at hl 1 rfl) ?_
    refine zl_if_lt (tgt := 36) hx hb dX0_place_22 (by decide) (fun hc => ?_) (fun hc => ?_)
    · rw [if_pos hc] at hf
      exact w_X0_place_36 C hr hf hz (lv_sub hl [] rfl) hk
    · rw [if_neg hc] at hf
      refine lv_iload_n hx hb dX0_place_25 rfl (lv_at hl 1 rfl) ?_
      refine lv_aload_n hx hb dX0_place_26 rfl (lv_at hl 0 rfl) ?_
      obtain ⟨hg, hf⟩ := gd_inv hf
      refine zg_getp gP C hz 3 2 (gkp (by decide) hg) (by decide) (by decide) (Or.inr ⟨_, C.nw q776⟩) (fun _ h => h) dX0_place_27 ?_
      obtain ⟨a2, ea2, hf⟩ := bd_inv hf
      rw [zx_rf ea2]
      obtain ⟨y3, ey3, hf⟩ := bd_inv hf
      refine zj_sLen C hz hr ey3 (rest := [.int (zI x2)]) q883 q753 (C.w q754) q99 q755 hl.1 ⟨Nat.le_trans (by decide) hr.1, Nat.le_trans (by decide) hr.2.1⟩ (Nat.le_of_ble_eq_true rfl) dX0_place_30 (fun H locs hz => ?_)
      refine zl_icmp_lt (tgt := 40) hx hb dX0_place_33 (by decide) (fun hc => ?_) (fun hc => ?_)
      · rw [if_pos hc] at hf
        refine lv_aload_n hx hb dX0_place_40 rfl (lv_at hl 0 rfl) ?_
        obtain ⟨hg, hf⟩ := gd_inv hf
        refine zg_getp gP C hz 3 3 (gkp (by decide) hg) (by decide) (by decide) (Or.inr ⟨_, C.nw q779⟩) (fun _ h => h) dX0_place_41 ?_
        refine lv_iload_n hx hb dX0_place_44 rfl (lv_at hl 1 rfl) ?_
        obtain ⟨a4, ea4, hf⟩ := bd_inv hf
        rw [zx_rf ea4]
        obtain ⟨hg, hf⟩ := gd_inv hf
        obtain ⟨hi, hf⟩ := gd_inv hf
        refine zg_iald gP C hz hg hi dX0_place_45 ?_
        obtain rfl := Option.some.inj hf
        exact zg_iret C hz hk dX0_place_46
      · rw [if_neg hc] at hf
        exact w_X0_place_36 C hr hf hz (lv_sub hl [] rfl) hk

theorem w_X0_place {p : Program} {l : Launch} {e : Env} {R : Room} {s : State} {m : MethodId} {args : Array Value} {below : List Frame} {meth : Method} {c : Code} {Q : State → Prop} {E : PEw} {h0 h : HP} {H : Heap} {locs : List Loc} (C : PC E p s m args meth c RX0 cX0_place 4 (some .int) "place") (hr : 334 ≤ R.frames ∧ 7617 ≤ R.locals ∧ RBw R h0) {x0 : Nat} {x1 : Int} {x2 : Int} {res : HP × Int} (hf : f_X0_place h x0 x1 x2 = some res) (hz : ZP E s h0 h H locs) {ls : Array Slot} (hl : lv_has ls 4 [(0, .ref x0), (1, .int (zI x1)), (2, .int (zI x2))]) (hk : KP E below args s Q h0 res.1 (some (.int (zI res.2)))) : W p l e R s m args below meth c H locs (pX h - pX h0) (pS h - pS h0) Q (F0 m 0 ls []) := by
  unfold f_X0_place at hf
  have hx := C.1
  have hb := C.2.1
  refine lv_aload_n hx hb dX0_place_0 rfl (lv_at hl 0 rfl) ?_
  obtain ⟨hg, hf⟩ := gd_inv hf
  refine zg_geti gP C hz 1 17 (gkp (by decide) hg) (by decide) (by decide) (Or.inl (C.w q417)) (fun _ h => h) dX0_place_1 ?_
  refine zl_if_le (tgt := 15) hx hb dX0_place_4 (by decide) (fun hc => ?_) (fun hc => ?_)
  · rw [if_pos hc] at hf
    refine lv_aload_n hx hb dX0_place_7 rfl (lv_at hl 0 rfl) ?_
    refine lv_iload_n hx hb dX0_place_8 rfl (lv_at hl 1 rfl) ?_
    obtain ⟨hg, hf⟩ := gd_inv hf
    obtain ⟨y1, ey1, hf⟩ := bd_inv hf
    refine zg_callV gP C hz hr (n := 1) (rest := []) (gkp (by decide) hg) (met_X0_text l E ey1) q1095 q1097 (C.w qs34) q89 q1098 (by decide +kernel) ⟨Nat.le_trans (by decide) hr.1, Nat.le_trans (by decide) hr.2.1⟩ rfl hl.1 rfl (Nat.le_of_ble_eq_true rfl) dX0_place_9 (fun H locs hz => ?_)
    refine lv_goto (tgt := 16) hx hb dX0_place_12 (by decide) ?_
    exact w_X0_place_16 C hr hf hz (lv_sub hl [2] rfl) hk
  · rw [if_neg hc] at hf
    refine lv_null hx hb dX0_place_15 ?_
    exact w_X0_place_16 C hr hf hz (lv_sub hl [2] rfl) hk

theorem met_X0_place (l : Launch) (E : PEw) {h : HP} {x0 : Nat} {x1 : Int} {x2 : Int} {res : HP × Int} (hf : f_X0_place h x0 x1 x2 = some res) : Met l yX0_place (ws_ yX0_place cX0_place 4 (some .int)) (rmP h 334 7617) (PP E h [.ref x0, .int (zI x1), .int (zI x2)]) (QP E h res.1 (some (.int (zI res.2)))) (pX res.1 - pX h) (pS res.1 - pS h) (eF E) := by
  refine Met.ofW (cc := cX0_place) (maxL := 4) (ret := (some .int)) (by decide) rfl ?_
  intro p e s m args below meth c s₁ B hml hv
  obtain ⟨rfl, hP0⟩ := hv
  have hts := atoms_spec (ws := ws_ yX0_place cX0_place 4 (some .int)) B.pre
  have hts : ∀ w ∈ lw_all, w.before _ s = true := fun w h => hts w (List.mem_cons_of_mem _ h)
  have C : PC E p s m _ meth c RX0 cX0_place 4 (some .int) "place" := ⟨B.exec, B.bytes, B.returns, B.notSynchronized, hml, findClass_of_methodNamed B.named, hts, hP0.2, (name_of_methodNamed B.named B.method).1⟩
  have hz : ZP E s h h s.heap [] := ZG.start hP0.1
  have hl := lv_entry ([.ref x0, .int (zI x1), .int (zI x2)]) (n := 4) (Nat.le_of_ble_eq_true rfl)
  rw [lg_entry_eq]
  generalize (lg_sl ([.ref x0, .int (zI x1), .int (zI x2)]) ++ List.replicate (4 - (lg_sl ([.ref x0, .int (zI x1), .int (zI x2)])).length) Slot.unset).toArray = ls at hl ⊢
  have hl : lv_has ls 4 [(0, .ref x0), (1, .int (zI x1)), (2, .int (zI x2))] := hl
  refine W.cs (cells' := pX h - pX h) (slots' := pS h - pS h) (Nat.sub_self _).symm (Nat.sub_self _).symm ?_
  exact w_X0_place C ⟨Nat.le_refl _, Nat.le_refl _, RBw.rm⟩ hf hz hl rfl

theorem w_X0_lines {p : Program} {l : Launch} {e : Env} {R : Room} {s : State} {m : MethodId} {args : Array Value} {below : List Frame} {meth : Method} {c : Code} {Q : State → Prop} {E : PEw} {h0 h : HP} {H : Heap} {locs : List Loc} (C : PC E p s m args meth c RX0 cX0_lines 1 (some .int) "lines") (hr : 0 ≤ R.frames ∧ 0 ≤ R.locals ∧ RBw R h0) {x0 : Nat} {res : Int} (hf : f_X0_lines h x0 = some res) (hz : ZP E s h0 h H locs) {ls : Array Slot} (hl : lv_has ls 1 [(0, .ref x0)]) (hk : KP E below args s Q h0 h (some (.int (zI res)))) : W p l e R s m args below meth c H locs (pX h - pX h0) (pS h - pS h0) Q (F0 m 0 ls []) := by
  unfold f_X0_lines at hf
  have hx := C.1
  have hb := C.2.1
  refine lv_aload_n hx hb dX0_lines_0 rfl (lv_at hl 0 rfl) ?_
  obtain ⟨hg, hf⟩ := gd_inv hf
  refine zg_geti gP C hz 1 17 (gkp (by decide) hg) (by decide) (by decide) (Or.inl (C.w q417)) (fun _ h => h) dX0_lines_1 ?_
  refine zl_if_le (tgt := 17) hx hb dX0_lines_4 (by decide) (fun hc => ?_) (fun hc => ?_)
  · rw [if_pos hc] at hf
    refine lv_aload_n hx hb dX0_lines_7 rfl (lv_at hl 0 rfl) ?_
    obtain ⟨hg, hf⟩ := gd_inv hf
    refine zg_getp gP C hz 1 18 (gkp (by decide) hg) (by decide) (by decide) (Or.inl (C.w q418)) (fun _ h => h) dX0_lines_8 ?_
    obtain ⟨a1, ea1, hf⟩ := bd_inv hf
    rw [zx_rf ea1]
    obtain ⟨hg, hf⟩ := gd_inv hf
    refine zg_geti gP C hz 5 3 (gkp (by decide) hg) (by decide) (by decide) (Or.inr ⟨_, C.nw q311⟩) (fun _ h => h) dX0_lines_11 ?_
    refine lv_goto (tgt := 18) hx hb dX0_lines_14 (by decide) ?_
    obtain rfl := Option.some.inj hf
    exact zg_iret C hz hk dX0_lines_18
  · rw [if_neg hc] at hf
    refine zl_iconst hx hb dX0_lines_17 ?_
    obtain rfl := Option.some.inj hf
    exact zg_iret C hz hk dX0_lines_18

theorem met_X0_lines (l : Launch) (E : PEw) {h : HP} {x0 : Nat} {res : Int} (hf : f_X0_lines h x0 = some res) : Met l yX0_lines (ws_ yX0_lines cX0_lines 1 (some .int)) (rmP h 0 0) (PP E h [.ref x0]) (QP E h h (some (.int (zI res)))) (pX h - pX h) (pS h - pS h) (eF E) := by
  refine Met.ofW (cc := cX0_lines) (maxL := 1) (ret := (some .int)) (by decide) rfl ?_
  intro p e s m args below meth c s₁ B hml hv
  obtain ⟨rfl, hP0⟩ := hv
  have hts := atoms_spec (ws := ws_ yX0_lines cX0_lines 1 (some .int)) B.pre
  have hts : ∀ w ∈ lw_all, w.before _ s = true := fun w h => hts w (List.mem_cons_of_mem _ h)
  have C : PC E p s m _ meth c RX0 cX0_lines 1 (some .int) "lines" := ⟨B.exec, B.bytes, B.returns, B.notSynchronized, hml, findClass_of_methodNamed B.named, hts, hP0.2, (name_of_methodNamed B.named B.method).1⟩
  have hz : ZP E s h h s.heap [] := ZG.start hP0.1
  have hl := lv_entry ([.ref x0]) (n := 1) (Nat.le_of_ble_eq_true rfl)
  rw [lg_entry_eq]
  generalize (lg_sl ([.ref x0]) ++ List.replicate (1 - (lg_sl ([.ref x0])).length) Slot.unset).toArray = ls at hl ⊢
  have hl : lv_has ls 1 [(0, .ref x0)] := hl
  refine W.cs (cells' := pX h - pX h) (slots' := pS h - pS h) (Nat.sub_self _).symm (Nat.sub_self _).symm ?_
  exact w_X0_lines C ⟨Nat.le_refl _, Nat.le_refl _, RBw.rm⟩ hf hz hl rfl

theorem w_X0_pixel_22 {p : Program} {l : Launch} {e : Env} {R : Room} {s : State} {m : MethodId} {args : Array Value} {below : List Frame} {meth : Method} {c : Code} {Q : State → Prop} {E : PEw} {h0 h : HP} {H : Heap} {locs : List Loc} (C : PC E p s m args meth c RX0 cX0_pixel 3 (some .int) "pixel") (hr : 0 ≤ R.frames ∧ 0 ≤ R.locals ∧ RBw R h0) {res : Int} (hf : f_X0_pixel_22 h = some res) (hz : ZP E s h0 h H locs) {ls : Array Slot} (hl : lv_has ls 3 []) (hk : KP E below args s Q h0 h (some (.int (zI res)))) : W p l e R s m args below meth c H locs (pX h - pX h0) (pS h - pS h0) Q (F0 m 22 ls []) := by
  unfold f_X0_pixel_22 at hf
  have hx := C.1
  have hb := C.2.1
  refine zl_iconst hx hb dX0_pixel_22 ?_
  refine lv_goto (tgt := 37) hx hb dX0_pixel_23 (by decide) ?_
  obtain rfl := Option.some.inj hf
  exact zg_iret C hz hk dX0_pixel_37

theorem w_X0_pixel {p : Program} {l : Launch} {e : Env} {R : Room} {s : State} {m : MethodId} {args : Array Value} {below : List Frame} {meth : Method} {c : Code} {Q : State → Prop} {E : PEw} {h0 h : HP} {H : Heap} {locs : List Loc} (C : PC E p s m args meth c RX0 cX0_pixel 3 (some .int) "pixel") (hr : 0 ≤ R.frames ∧ 0 ≤ R.locals ∧ RBw R h0) {x0 : Nat} {x1 : Int} {x2 : Int} {res : Int} (hf : f_X0_pixel h x0 x1 x2 = some res) (hz : ZP E s h0 h H locs) {ls : Array Slot} (hl : lv_has ls 3 [(0, .ref x0), (1, .int (zI x1)), (2, .int (zI x2))]) (hk : KP E below args s Q h0 h (some (.int (zI res)))) : W p l e R s m args below meth c H locs (pX h - pX h0) (pS h - pS h0) Q (F0 m 0 ls []) := by
  unfold f_X0_pixel at hf
  have hx := C.1
  have hb := C.2.1
  refine lv_iload_n hx hb dX0_pixel_0 rfl (lv_at hl 1 rfl) ?_
  refine zl_if_lt (tgt := 22) hx hb dX0_pixel_1 (by decide) (fun hc => ?_) (fun hc => ?_)
  · rw [if_pos hc] at hf
    exact w_X0_pixel_22 C hr hf hz (lv_sub hl [] rfl) hk
  · rw [if_neg hc] at hf
    refine lv_iload_n hx hb dX0_pixel_4 rfl (lv_at hl 1 rfl) ?_
    refine lv_aload_n hx hb dX0_pixel_5 rfl (lv_at hl 0 rfl) ?_
    obtain ⟨hg, hf⟩ := gd_inv hf
    refine zg_geti gP C hz 1 17 (gkp (by decide) hg) (by decide) (by decide) (Or.inl (C.w q417)) (fun _ h => h) dX0_pixel_6 ?_
    refine zl_icmp_ge (tgt := 22) hx hb dX0_pixel_9 (by decide) (fun hc => ?_) (fun hc => ?_)
    · rw [if_pos hc] at hf
      refine lv_iload_n hx hb dX0_pixel_12 rfl (lv_at hl 2 rfl) ?_
      refine zl_if_lt (tgt := 22) hx hb dX0_pixel_13 (by decide) (fun hc => ?_) (fun hc => ?_)
      · rw [if_pos hc] at hf
        exact w_X0_pixel_22 C hr hf hz (lv_sub hl [] rfl) hk
      · rw [if_neg hc] at hf
        refine lv_iload_n hx hb dX0_pixel_16 rfl (lv_at hl 2 rfl) ?_
        refine zl_bipush hx hb dX0_pixel_17 (by decide) ?_
        refine zl_icmp_lt (tgt := 26) hx hb dX0_pixel_19 (by decide) (fun hc => ?_) (fun hc => ?_)
        · rw [if_pos hc] at hf
          refine lv_aload_n hx hb dX0_pixel_26 rfl (lv_at hl 0 rfl) ?_
          obtain ⟨hg, hf⟩ := gd_inv hf
          refine zg_getp gP C hz 1 19 (gkp (by decide) hg) (by decide) (by decide) (Or.inl (C.w q419)) (fun _ h => h) dX0_pixel_27 ?_
          refine zl_bipush hx hb dX0_pixel_30 (by decide) ?_
          refine lv_iload_n hx hb dX0_pixel_32 rfl (lv_at hl 2 rfl) ?_
          refine zl_imul hx hb dX0_pixel_33 ?_
          refine lv_iload_n hx hb dX0_pixel_34 rfl (lv_at hl 1 rfl) ?_
          refine zl_iadd hx hb dX0_pixel_35 ?_
          obtain ⟨a1, ea1, hf⟩ := bd_inv hf
          rw [zx_rf ea1]
          obtain ⟨hg, hf⟩ := gd_inv hf
          obtain ⟨hi, hf⟩ := gd_inv hf
          refine zg_bald gP (by decide) C hz hg hi dX0_pixel_36 ?_
          obtain rfl := Option.some.inj hf
          exact zg_iret C hz hk dX0_pixel_37
        · rw [if_neg hc] at hf
          exact w_X0_pixel_22 C hr hf hz (lv_sub hl [] rfl) hk
    · rw [if_neg hc] at hf
      exact w_X0_pixel_22 C hr hf hz (lv_sub hl [] rfl) hk

theorem met_X0_pixel (l : Launch) (E : PEw) {h : HP} {x0 : Nat} {x1 : Int} {x2 : Int} {res : Int} (hf : f_X0_pixel h x0 x1 x2 = some res) : Met l yX0_pixel (ws_ yX0_pixel cX0_pixel 3 (some .int)) (rmP h 0 0) (PP E h [.ref x0, .int (zI x1), .int (zI x2)]) (QP E h h (some (.int (zI res)))) (pX h - pX h) (pS h - pS h) (eF E) := by
  refine Met.ofW (cc := cX0_pixel) (maxL := 3) (ret := (some .int)) (by decide) rfl ?_
  intro p e s m args below meth c s₁ B hml hv
  obtain ⟨rfl, hP0⟩ := hv
  have hts := atoms_spec (ws := ws_ yX0_pixel cX0_pixel 3 (some .int)) B.pre
  have hts : ∀ w ∈ lw_all, w.before _ s = true := fun w h => hts w (List.mem_cons_of_mem _ h)
  have C : PC E p s m _ meth c RX0 cX0_pixel 3 (some .int) "pixel" := ⟨B.exec, B.bytes, B.returns, B.notSynchronized, hml, findClass_of_methodNamed B.named, hts, hP0.2, (name_of_methodNamed B.named B.method).1⟩
  have hz : ZP E s h h s.heap [] := ZG.start hP0.1
  have hl := lv_entry ([.ref x0, .int (zI x1), .int (zI x2)]) (n := 3) (Nat.le_of_ble_eq_true rfl)
  rw [lg_entry_eq]
  generalize (lg_sl ([.ref x0, .int (zI x1), .int (zI x2)]) ++ List.replicate (3 - (lg_sl ([.ref x0, .int (zI x1), .int (zI x2)])).length) Slot.unset).toArray = ls at hl ⊢
  have hl : lv_has ls 3 [(0, .ref x0), (1, .int (zI x1)), (2, .int (zI x2))] := hl
  refine W.cs (cells' := pX h - pX h) (slots' := pS h - pS h) (Nat.sub_self _).symm (Nat.sub_self _).symm ?_
  exact w_X0_pixel C ⟨Nat.le_refl _, Nat.le_refl _, RBw.rm⟩ hf hz hl rfl

