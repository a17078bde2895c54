set_option maxRecDepth 100000
theorem w_X0_inside_14s {p : Program} {l : Launch} {e : Env} {R : Room} {s : State} {m : MethodId} {args : Array Value} {below : List Frame} {meth : Method} {c : Code} {Q : State → Prop} {E : PEw} {h0 h : HP} {H : Heap} {locs : List Loc} (C : PC E p s m args meth c RX0 cX0_inside 4 (some (.object "PlainPage$Element")) "inside") (hr : 2 ≤ R.frames ∧ 40 ≤ R.locals ∧ RBw R h0) {x1 : Nat} {x2 : Nat} {x3 : Int} {res : (HP × Int) ⊕ (HP × Option Nat)} (hf : f_X0_inside_14s h x1 x2 x3 = some res) (hz : ZP E s h0 h H locs) {ls : Array Slot} (hl : lv_has ls 4 [(1, .ref x1), (2, .ref x2), (3, .int (zI x3))]) (hk : (Sum.elim (fun z => ∀ (H : Heap) (locs : List Loc) (ls : Array Slot), ZP E s h0 z.1 H locs → lv_has ls 4 [(1, .ref x1), (2, .ref x2), (3, .int (zI z.2))] → W p l e R s m args below meth c H locs (pX z.1 - pX h0) (pS z.1 - pS h0) Q (F0 m 14 ls [])) (fun r => KP E below args s Q h0 r.1 (some (va_rf r.2)))) res) : W p l e R s m args below meth c H locs (pX h - pX h0) (pS h - pS h0) Q (F0 m 14 ls []) := by
  unfold f_X0_inside_14s at hf
  have hx := C.1
  have hb := C.2.1
  refine lv_iload_n hx hb dX0_inside_14 rfl (lv_at hl 2 rfl) ?_
  refine lv_aload_n hx hb dX0_inside_15 rfl (lv_at hl 1 rfl) ?_
  obtain ⟨hg, hf⟩ := gd_inv hf
  refine zg_getp gP C hz 3 2 (gkp (by decide) hg) (by decide) (by decide) (Or.inr ⟨_, C.nw q776⟩) (fun _ h => h) dX0_inside_16 ?_
  obtain ⟨a1, ea1, hf⟩ := bd_inv hf
  rw [zx_rf ea1]
  obtain ⟨y2, ey2, hf⟩ := bd_inv hf
  refine zj_sLen C hz hr ey2 (rest := [.int (zI x3)]) q883 q753 (C.w q754) q99 q755 hl.1 ⟨Nat.le_trans (by decide) hr.1, Nat.le_trans (by decide) hr.2.1⟩ (Nat.le_of_ble_eq_true rfl) dX0_inside_19 (fun H locs hz => ?_)
  refine zl_icmp_ge (tgt := 37) hx hb dX0_inside_22 (by decide) (fun hc => ?_) (fun hc => ?_)
  · rw [if_pos hc] at hf
    refine lv_aload_n hx hb dX0_inside_25 rfl (lv_at hl 0 rfl) ?_
    refine lv_aload_n hx hb dX0_inside_26 rfl (lv_at hl 1 rfl) ?_
    refine lv_iload_n hx hb dX0_inside_27 rfl (lv_at hl 2 rfl) ?_
    obtain ⟨hg, hf⟩ := gd_inv hf
    obtain ⟨y3, ey3, hf⟩ := bd_inv hf
    refine zg_callV gP C hz hr (n := 2) (rest := []) (gkp (by decide) hg) (met_X4_add l E ey3) q1002 q1003 (C.w q1004) q102 q1005 (by decide +kernel) ⟨Nat.le_trans (by decide) hr.1, Nat.le_trans (by decide) hr.2.1⟩ rfl hl.1 rfl (Nat.le_of_ble_eq_true rfl) dX0_inside_28 (fun H locs hz => ?_)
    refine zl_iinc (x := x3) (n := 1) (lv' := [(3, .int (zI (x3 + 1))), (1, .ref x1), (2, .ref x2)]) (k := 2) hx hb dX0_inside_31 hl rfl (by decide) rfl (fun ls hl => ?_)
    refine lv_goto (tgt := 14) hx hb dX0_inside_34 (by decide) ?_
    obtain rfl := Option.some.inj hf
    exact hk _ _ _ hz (lv_sub hl [1, 2, 0] rfl)
  · rw [if_neg hc] at hf
    refine lv_null hx hb dX0_inside_37 ?_
    obtain rfl := Option.some.inj hf
    exact zg_aret_o C hz hk dX0_inside_38

theorem w_X0_inside_14 {p : Program} {l : Launch} {e : Env} {R : Room} {s : State} {m : MethodId} {args : Array Value} {below : List Frame} {meth : Method} {c : Code} {Q : State → Prop} {E : PEw} {h0 h : HP} {H : Heap} {locs : List Loc} (C : PC E p s m args meth c RX0 cX0_inside 4 (some (.object "PlainPage$Element")) "inside") (hr : 2 ≤ R.frames ∧ 40 ≤ R.locals ∧ RBw R h0) {x1 : Nat} {x2 : Nat} {x3 : Int} {res : HP × Option Nat} (hf : f_X0_inside_14 h x1 x2 x3 = some res) (hz : ZP E s h0 h H locs) {ls : Array Slot} (hl : lv_has ls 4 [(1, .ref x1), (2, .ref x2), (3, .int (zI x3))]) (hk : KP E below args s Q h0 res.1 (some (va_rf res.2))) : W p l e R s m args below meth c H locs (pX h - pX h0) (pS h - pS h0) Q (F0 m 14 ls []) := by
  unfold f_X0_inside_14 at hf
  refine iter_ind (P := fun z r => ∀ (H : Heap) (locs : List Loc) (ls : Array Slot), ZP E s h0 z.1 H locs → lv_has ls 4 [(1, .ref x1), (2, .ref x2), (3, .int (zI z.2))] → KP E below args s Q h0 r.1 (some (va_rf r.2)) → W p l e R s m args below meth c H locs (pX z.1 - pX h0) (pS z.1 - pS h0) Q (F0 m 14 ls [])) ?_ ?_ hf H locs ls hz hl hk
  · intro z r h1 H locs ls hz hl hk; exact w_X0_inside_14s C hr h1 hz hl hk
  · intro z z1 r h1 ih H locs ls hz hl hk; exact w_X0_inside_14s C hr h1 hz hl (fun H locs ls hz hl => ih H locs ls hz hl hk)

theorem w_X0_inside {p : Program} {l : Launch} {e : Env} {R : Room} {s : State} {m : MethodId} {args : Array Value} {below : List Frame} {meth : Method} {c : Code} {Q : State → Prop} {E : PEw} {h0 h : HP} {H : Heap} {locs : List Loc} (C : PC E p s m args meth c RX0 cX0_inside 4 (some (.object "PlainPage$Element")) "inside") (hr : 2 ≤ R.frames ∧ 40 ≤ R.locals ∧ RBw R h0) {x0 : Nat} {x1 : Nat} {res : HP × Option Nat} (hf : f_X0_inside h x0 x1 = some res) (hz : ZP E s h0 h H locs) {ls : Array Slot} (hl : lv_has ls 4 [(0, .ref x0), (1, .ref x1)]) (hk : KP E below args s Q h0 res.1 (some (va_rf res.2))) : W p l e R s m args below meth c H locs (pX h - pX h0) (pS h - pS h0) Q (F0 m 0 ls []) := by
  unfold f_X0_inside at hf
  have hx := C.1
  have hb := C.2.1
  refine lv_aload_n hx hb dX0_inside_0 rfl (lv_at hl 0 rfl) ?_
  obtain ⟨hg, hf⟩ := gd_inv hf
  refine zg_inst3 gP C hz hg q705 dX0_inside_1 ?_
  refine zl_if_eq (tgt := 39) hx hb dX0_inside_4 (by decide) (fun hc => ?_) (fun hc => ?_)
  · rw [if_pos hc] at hf
    refine lv_aload_n hx hb dX0_inside_39 rfl (lv_at hl 0 rfl) ?_
    obtain ⟨hg, hf⟩ := gd_inv hf
    refine zg_cast2 gP C hz hg q124 dX0_inside_40 ?_
    refine lv_astore_n (lv' := [(2, .ref x0), (0, .ref x0), (1, .ref x1)]) hx hb dX0_inside_43 rfl hl (by decide) rfl (fun ls hl => ?_)
    refine lv_aload_n hx hb dX0_inside_44 rfl (lv_at hl 0 rfl) ?_
    obtain ⟨hg, hf⟩ := gd_inv hf
    refine zg_geti gP C hz 2 8 (gkp (by decide) hg) (by decide) (by decide) (Or.inr ⟨_, C.nw q175⟩) (fun _ h => h) dX0_inside_45 ?_
    refine zl_if_ne (tgt := 53) hx hb dX0_inside_48 (by decide) (fun hc => ?_) (fun hc => ?_)
    · rw [if_pos hc] at hf
      refine lv_null hx hb dX0_inside_51 ?_
      obtain rfl := Option.some.inj hf
      exact zg_aret_o C hz hk dX0_inside_52
    · rw [if_neg hc] at hf
      refine lv_aload_n hx hb dX0_inside_53 rfl (lv_at hl 0 rfl) ?_
      obtain ⟨hg, hf⟩ := gd_inv hf
      obtain ⟨y1, ey1, hf⟩ := bd_inv hf
      refine zg_callV gP C hz hr (n := 0) (rest := []) (gkp (by decide) hg) (met_X2_box l E ey1) q995 q996 (C.w q997) q91 q998 (by decide +kernel) ⟨Nat.le_trans (by decide) hr.1, Nat.le_trans (by decide) hr.2.1⟩ rfl hl.1 rfl (Nat.le_of_ble_eq_true rfl) dX0_inside_54 (fun H locs hz => ?_)
      refine zl_if_ne (tgt := 69) hx hb dX0_inside_57 (by decide) (fun hc => ?_) (fun hc => ?_)
      · rw [if_pos hc] at hf
        refine lv_aload_n hx hb dX0_inside_60 rfl (lv_at hl 0 rfl) ?_
        refine zl_bipush hx hb dX0_inside_61 (by decide) ?_
        obtain ⟨hg, hf⟩ := gd_inv hf
        obtain ⟨y2, ey2, hf⟩ := bd_inv hf
        refine zg_callV gP C hz hr (n := 1) (rest := []) (gkp (by decide) hg) (met_X2_is l E ey2) q567 q568 (C.w q569) q91 q570 (by decide +kernel) ⟨Nat.le_trans (by decide) hr.1, Nat.le_trans (by decide) hr.2.1⟩ rfl hl.1 rfl (Nat.le_of_ble_eq_true rfl) dX0_inside_63 (fun H locs hz => ?_)
        refine zl_if_ne (tgt := 71) hx hb dX0_inside_66 (by decide) (fun hc => ?_) (fun hc => ?_)
        · rw [if_pos hc] at hf
          refine lv_aload_n hx hb dX0_inside_69 rfl (lv_at hl 0 rfl) ?_
          obtain rfl := Option.some.inj hf
          exact zg_aret_o C hz hk dX0_inside_70
        · rw [if_neg hc] at hf
          refine lv_aload_n hx hb dX0_inside_71 rfl (lv_at hl 2 rfl) ?_
          refine lv_null hx hb dX0_inside_72 ?_
          refine lv_aload_n hx hb dX0_inside_73 rfl (lv_at hl 0 rfl) ?_
          obtain ⟨hg, hf⟩ := gd_inv hf
          refine zg_getp gP C hz 2 7 (gkp (by decide) hg) (by decide) (by decide) (Or.inr ⟨_, C.nw q173⟩) (fun _ h => h) dX0_inside_74 ?_
          refine zl_iconst hx hb dX0_inside_77 ?_
          obtain ⟨a3, ea3, hf⟩ := bd_inv hf
          rw [zx_rf ea3]
          obtain ⟨hg, hf⟩ := gd_inv hf
          obtain ⟨hi, hf⟩ := gd_inv hf
          refine zg_iald gP C hz hg hi dX0_inside_78 ?_
          obtain ⟨hg, hf⟩ := gd_inv hf
          obtain ⟨y4, ey4, hf⟩ := bd_inv hf
          refine zg_callV gP C hz hr (n := 2) (rest := []) (gkp (by decide) hg) (met_X4_add l E ey4) q1002 q1003 (C.w q1004) q102 q1005 (by decide +kernel) ⟨Nat.le_trans (by decide) hr.1, Nat.le_trans (by decide) hr.2.1⟩ rfl hl.1 rfl (Nat.le_of_ble_eq_true rfl) dX0_inside_79 (fun H locs hz => ?_)
          refine lv_null hx hb dX0_inside_82 ?_
          obtain rfl := Option.some.inj hf
          exact zg_aret_o C hz hk dX0_inside_83
      · rw [if_neg hc] at hf
        refine lv_aload_n hx hb dX0_inside_69 rfl (lv_at hl 0 rfl) ?_
        obtain rfl := Option.some.inj hf
        exact zg_aret_o C hz hk dX0_inside_70
  · rw [if_neg hc] at hf
    refine lv_aload_n hx hb dX0_inside_7 rfl (lv_at hl 0 rfl) ?_
    obtain ⟨hg, hf⟩ := gd_inv hf
    refine zg_cast3 gP C hz hg q705 dX0_inside_8 ?_
    refine lv_astore_n (lv' := [(2, .ref x0), (0, .ref x0), (1, .ref x1)]) hx hb dX0_inside_11 rfl hl (by decide) rfl (fun ls hl => ?_)
    refine zl_iconst hx hb dX0_inside_12 ?_
    refine lv_istore_n (lv' := [(3, .int (zI 0)), (2, .ref x0), (0, .ref x0), (1, .ref x1)]) hx hb dX0_inside_13 rfl hl (by decide) rfl (fun ls hl => ?_)
    exact w_X0_inside_14 C hr hf hz (lv_sub hl [3, 1, 0] rfl) hk

theorem met_X0_inside (l : Launch) (E : PEw) {h : HP} {x0 : Nat} {x1 : Nat} {res : HP × Option Nat} (hf : f_X0_inside h x0 x1 = some res) : Met l yX0_inside (ws_ yX0_inside cX0_inside 4 (some (.object "PlainPage$Element"))) (rmP h 2 40) (PP E h [.ref x0, .ref x1]) (QP E h res.1 (some (va_rf res.2))) (pX res.1 - pX h) (pS res.1 - pS h) (eF E) := by
  refine Met.ofW (cc := cX0_inside) (maxL := 4) (ret := (some (.object "PlainPage$Element"))) (by decide) rfl ?_
  intro p e s m args below meth c s₁ B hml hv
  obtain ⟨rfl, hP0⟩ := hv
  have hts := atoms_spec (ws := ws_ yX0_inside cX0_inside 4 (some (.object "PlainPage$Element"))) B.pre
  have hts : ∀ w ∈ lw_all, w.before _ s = true := fun w h => hts w (List.mem_cons_of_mem _ h)
  have C : PC E p s m _ meth c RX0 cX0_inside 4 (some (.object "PlainPage$Element")) "inside" := ⟨B.exec, B.bytes, B.returns, B.notSynchronized, hml, findClass_of_methodNamed B.named, hts, hP0.2, (name_of_methodNamed B.named B.method).1⟩
  have hz : ZP E s h h s.heap [] := ZG.start hP0.1
  have hl := lv_entry ([.ref x0, .ref x1]) (n := 4) (Nat.le_of_ble_eq_true rfl)
  rw [lg_entry_eq]
  generalize (lg_sl ([.ref x0, .ref x1]) ++ List.replicate (4 - (lg_sl ([.ref x0, .ref x1])).length) Slot.unset).toArray = ls at hl ⊢
  have hl : lv_has ls 4 [(0, .ref x0), (1, .ref x1)] := hl
  refine W.cs (cells' := pX h - pX h) (slots' := pS h - pS h) (Nat.sub_self _).symm (Nat.sub_self _).symm ?_
  exact w_X0_inside C ⟨Nat.le_refl _, Nat.le_refl _, RBw.rm⟩ hf hz hl rfl

theorem w_X4_size {p : Program} {l : Launch} {e : Env} {R : Room} {s : State} {m : MethodId} {args : Array Value} {below : List Frame} {meth : Method} {c : Code} {Q : State → Prop} {E : PEw} {h0 h : HP} {H : Heap} {locs : List Loc} (C : PC E p s m args meth c RX4 cX4_size 2 (some .int) "size") (hr : 0 ≤ R.frames ∧ 0 ≤ R.locals ∧ RBw R h0) {x0 : Nat} {x1 : Int} {res : Int} (hf : f_X4_size h x0 x1 = some res) (hz : ZP E s h0 h H locs) {ls : Array Slot} (hl : lv_has ls 2 [(0, .ref x0), (1, .int (zI x1))]) (hk : KP E below args s Q h0 h (some (.int (zI res)))) : W p l e R s m args below meth c H locs (pX h - pX h0) (pS h - pS h0) Q (F0 m 0 ls []) := by
  unfold f_X4_size at hf
  have hx := C.1
  have hb := C.2.1
  refine lv_aload_n hx hb dX4_size_0 rfl (lv_at hl 0 rfl) ?_
  obtain ⟨hg, hf⟩ := gd_inv hf
  refine zg_getp gP C hz 5 0 (gkp (by decide) hg) (by decide) (by decide) (Or.inl (C.w q306)) (fun _ h => h) dX4_size_1 ?_
  refine lv_iload_n hx hb dX4_size_4 rfl (lv_at hl 1 rfl) ?_
  obtain ⟨a1, ea1, hf⟩ := bd_inv hf
  rw [zx_rf ea1]
  obtain ⟨hg, hf⟩ := gd_inv hf
  obtain ⟨hi, hf⟩ := gd_inv hf
  refine zg_aald gP (by decide) C hz hg hi dX4_size_5 ?_
  rcases nl_inv hf with ⟨ho, hf⟩ | ⟨a2, ho, hf⟩
  · rw [zx_nul ho]
    refine lv_ifnonnullN hx hb dX4_size_6 ?_
    refine lv_aload_n hx hb dX4_size_9 rfl (lv_at hl 0 rfl) ?_
    obtain ⟨hg, hf⟩ := gd_inv hf
    refine zg_getp gP C hz 5 1 (gkp (by decide) hg) (by decide) (by decide) (Or.inl (C.w q308)) (fun _ h => h) dX4_size_10 ?_
    refine lv_iload_n hx hb dX4_size_13 rfl (lv_at hl 1 rfl) ?_
    obtain ⟨a3, ea3, hf⟩ := bd_inv hf
    rw [zx_rf ea3]
    obtain ⟨hg, hf⟩ := gd_inv hf
    obtain ⟨hi, hf⟩ := gd_inv hf
    refine zg_iald gP C hz hg hi dX4_size_14 ?_
    refine lv_goto (tgt := 32) hx hb dX4_size_15 (by decide) ?_
    obtain rfl := Option.some.inj hf
    exact zg_iret C hz hk dX4_size_32
  · rw [zx_rf ho]
    refine lv_ifnonnull (tgt := 18) hx hb dX4_size_6 (by decide) ?_
    refine lv_aload_n hx hb dX4_size_18 rfl (lv_at hl 0 rfl) ?_
    obtain ⟨hg, hf⟩ := gd_inv hf
    refine zg_getp gP C hz 5 0 (gkp (by decide) hg) (by decide) (by decide) (Or.inl (C.w q306)) (fun _ h => h) dX4_size_19 ?_
    refine lv_iload_n hx hb dX4_size_22 rfl (lv_at hl 1 rfl) ?_
    obtain ⟨a4, ea4, hf⟩ := bd_inv hf
    rw [zx_rf ea4]
    obtain ⟨hg, hf⟩ := gd_inv hf
    obtain ⟨hi, hf⟩ := gd_inv hf
    refine zg_aald gP (by decide) C hz hg hi dX4_size_23 ?_
    obtain ⟨a5, ea5, hf⟩ := bd_inv hf
    rw [zx_rf ea5]
    obtain ⟨hg, hf⟩ := gd_inv hf
    refine zg_getp gP C hz 3 0 (gkp (by decide) hg) (by decide) (by decide) (Or.inl (C.w q188)) (C.sm q189) dX4_size_24 ?_
    obtain ⟨a6, ea6, hf⟩ := bd_inv hf
    rw [zx_rf ea6]
    obtain ⟨hg, hf⟩ := gd_inv hf
    refine zg_getp gP C hz 2 7 (gkp (by decide) hg) (by decide) (by decide) (Or.inr ⟨_, C.nw q172⟩) (fun _ h => h) dX4_size_27 ?_
    refine zl_iconst hx hb dX4_size_30 ?_
    obtain ⟨a7, ea7, hf⟩ := bd_inv hf
    rw [zx_rf ea7]
    obtain ⟨hg, hf⟩ := gd_inv hf
    obtain ⟨hi, hf⟩ := gd_inv hf
    refine zg_iald gP C hz hg hi dX4_size_31 ?_
    obtain rfl := Option.some.inj hf
    exact zg_iret C hz hk dX4_size_32

theorem met_X4_size (l : Launch) (E : PEw) {h : HP} {x0 : Nat} {x1 : Int} {res : Int} (hf : f_X4_size h x0 x1 = some res) : Met l yX4_size (ws_ yX4_size cX4_size 2 (some .int)) (rmP h 0 0) (PP E h [.ref x0, .int (zI x1)]) (QP E h h (some (.int (zI res)))) (pX h - pX h) (pS h - pS h) (eF E) := by
  refine Met.ofW (cc := cX4_size) (maxL := 2) (ret := (some .int)) (by decide) rfl ?_
  intro p e s m args below meth c s₁ B hml hv
  obtain ⟨rfl, hP0⟩ := hv
  have hts := atoms_spec (ws := ws_ yX4_size cX4_size 2 (some .int)) B.pre
  have hts : ∀ w ∈ lw_all, w.before _ s = true := fun w h => hts w (List.mem_cons_of_mem _ h)
  have C : PC E p s m _ meth c RX4 cX4_size 2 (some .int) "size" := ⟨B.exec, B.bytes, B.returns, B.notSynchronized, hml, findClass_of_methodNamed B.named, hts, hP0.2, (name_of_methodNamed B.named B.method).1⟩
  have hz : ZP E s h h s.heap [] := ZG.start hP0.1
  have hl := lv_entry ([.ref x0, .int (zI x1)]) (n := 2) (Nat.le_of_ble_eq_true rfl)
  rw [lg_entry_eq]
  generalize (lg_sl ([.ref x0, .int (zI x1)]) ++ List.replicate (2 - (lg_sl ([.ref x0, .int (zI x1)])).length) Slot.unset).toArray = ls at hl ⊢
  have hl : lv_has ls 2 [(0, .ref x0), (1, .int (zI x1))] := hl
  refine W.cs (cells' := pX h - pX h) (slots' := pS h - pS h) (Nat.sub_self _).symm (Nat.sub_self _).symm ?_
  exact w_X4_size C ⟨Nat.le_refl _, Nat.le_refl _, RBw.rm⟩ hf hz hl rfl

theorem w_X4_blank {p : Program} {l : Launch} {e : Env} {R : Room} {s : State} {m : MethodId} {args : Array Value} {below : List Frame} {meth : Method} {c : Code} {Q : State → Prop} {E : PEw} {h0 h : HP} {H : Heap} {locs : List Loc} (C : PC E p s m args meth c RX4 cX4_blank 2 (some .boolean) "blank") (hr : 4 ≤ R.frames ∧ 88 ≤ R.locals ∧ RBw R h0) {x0 : Nat} {x1 : Int} {res : Int} (hf : f_X4_blank h x0 x1 = some res) (hz : ZP E s h0 h H locs) {ls : Array Slot} (hl : lv_has ls 2 [(0, .ref x0), (1, .int (zI x1))]) (hk : KP E below args s Q h0 h (some (.int (zI res)))) : W p l e R s m args below meth c H locs (pX h - pX h0) (pS h - pS h0) Q (F0 m 0 ls []) := by
  unfold f_X4_blank at hf
  have hx := C.1
  have hb := C.2.1
  refine lv_aload_n hx hb dX4_blank_0 rfl (lv_at hl 0 rfl) ?_
  obtain ⟨hg, hf⟩ := gd_inv hf
  refine zg_getp gP C hz 5 0 (gkp (by decide) hg) (by decide) (by decide) (Or.inl (C.w q306)) (fun _ h => h) dX4_blank_1 ?_
  refine lv_iload_n hx hb dX4_blank_4 rfl (lv_at hl 1 rfl) ?_
  obtain ⟨a1, ea1, hf⟩ := bd_inv hf
  rw [zx_rf ea1]
  obtain ⟨hg, hf⟩ := gd_inv hf
  obtain ⟨hi, hf⟩ := gd_inv hf
  refine zg_aald gP (by decide) C hz hg hi dX4_blank_5 ?_
  obtain ⟨a2, ea2, hf⟩ := bd_inv hf
  rw [zx_rf ea2]
  obtain ⟨hg, hf⟩ := gd_inv hf
  refine zg_getp gP C hz 3 2 (gkp (by decide) hg) (by decide) (by decide) (Or.inr ⟨_, C.nw q775⟩) (fun _ h => h) dX4_blank_6 ?_
  refine lv_aload_n hx hb dX4_blank_9 rfl (lv_at hl 0 rfl) ?_
  obtain ⟨hg, hf⟩ := gd_inv hf
  refine zg_getp gP C hz 5 1 (gkp (by decide) hg) (by decide) (by decide) (Or.inl (C.w q308)) (fun _ h => h) dX4_blank_10 ?_
  refine lv_iload_n hx hb dX4_blank_13 rfl (lv_at hl 1 rfl) ?_
  obtain ⟨a3, ea3, hf⟩ := bd_inv hf
  rw [zx_rf ea3]
  obtain ⟨hg, hf⟩ := gd_inv hf
  obtain ⟨hi, hf⟩ := gd_inv hf
  refine zg_iald gP C hz hg hi dX4_blank_14 ?_
  obtain ⟨a4, ea4, hf⟩ := bd_inv hf
  rw [zx_rf ea4]
  obtain ⟨y5, ey5, hf⟩ := bd_inv hf
  refine zj_sAt C hz hr ey5 (rest := []) q1020 q885 (C.w q886) q99 q887 hl.1 ⟨Nat.le_trans (by decide) hr.1, Nat.le_trans (by decide) hr.2.1⟩ (Nat.le_of_ble_eq_true rfl) dX4_blank_15 (fun H locs hz => ?_)
  refine zl_bipush hx hb dX4_blank_18 (by decide) ?_
  refine zl_icmp_ne (tgt := 27) hx hb dX4_blank_20 (by decide) (fun hc => ?_) (fun hc => ?_)
  · rw [if_pos hc] at hf
    refine zl_iconst hx hb dX4_blank_23 ?_
    refine lv_goto (tgt := 28) hx hb dX4_blank_24 (by decide) ?_
    obtain rfl := Option.some.inj hf
    exact zg_zret C hz zisB_1 hk dX4_blank_28
  · rw [if_neg hc] at hf
    refine zl_iconst hx hb dX4_blank_27 ?_
    obtain rfl := Option.some.inj hf
    exact zg_zret C hz zisB_0 hk dX4_blank_28

theorem met_X4_blank (l : Launch) (E : PEw) {h : HP} {x0 : Nat} {x1 : Int} {res : Int} (hf : f_X4_blank h x0 x1 = some res) : Met l yX4_blank (ws_ yX4_blank cX4_blank 2 (some .boolean)) (rmP h 4 88) (PP E h [.ref x0, .int (zI x1)]) (QP E h h (some (.int (zI res)))) (pX h - pX h) (pS h - pS h) (eF E) := by
  refine Met.ofW (cc := cX4_blank) (maxL := 2) (ret := (some .boolean)) (by decide) rfl ?_
  intro p e s m args below meth c s₁ B hml hv
  obtain ⟨rfl, hP0⟩ := hv
  have hts := atoms_spec (ws := ws_ yX4_blank cX4_blank 2 (some .boolean)) B.pre
  have hts : ∀ w ∈ lw_all, w.before _ s = true := fun w h => hts w (List.mem_cons_of_mem _ h)
  have C : PC E p s m _ meth c RX4 cX4_blank 2 (some .boolean) "blank" := ⟨B.exec, B.bytes, B.returns, B.notSynchronized, hml, findClass_of_methodNamed B.named, hts, hP0.2, (name_of_methodNamed B.named B.method).1⟩
  have hz : ZP E s h h s.heap [] := ZG.start hP0.1
  have hl := lv_entry ([.ref x0, .int (zI x1)]) (n := 2) (Nat.le_of_ble_eq_true rfl)
  rw [lg_entry_eq]
  generalize (lg_sl ([.ref x0, .int (zI x1)]) ++ List.replicate (2 - (lg_sl ([.ref x0, .int (zI x1)])).length) Slot.unset).toArray = ls at hl ⊢
  have hl : lv_has ls 2 [(0, .ref x0), (1, .int (zI x1))] := hl
  refine W.cs (cells' := pX h - pX h) (slots' := pS h - pS h) (Nat.sub_self _).symm (Nat.sub_self _).symm ?_
  exact w_X4_blank C ⟨Nat.le_refl _, Nat.le_refl _, RBw.rm⟩ hf hz hl rfl

theorem w_X4_placed {p : Program} {l : Launch} {e : Env} {R : Room} {s : State} {m : MethodId} {args : Array Value} {below : List Frame} {meth : Method} {c : Code} {Q : State → Prop} {E : PEw} {h0 h : HP} {H : Heap} {locs : List Loc} (C : PC E p s m args meth c RX4 cX4_placed 2 (some .int) "placed") (hr : 0 ≤ R.frames ∧ 0 ≤ R.locals ∧ RBw R h0) {x0 : Nat} {x1 : Int} {res : Int} (hf : f_X4_placed h x0 x1 = some res) (hz : ZP E s h0 h H locs) {ls : Array Slot} (hl : lv_has ls 2 [(0, .ref x0), (1, .int (zI x1))]) (hk : KP E below args s Q h0 h (some (.int (zI res)))) : W p l e R s m args below meth c H locs (pX h - pX h0) (pS h - pS h0) Q (F0 m 0 ls []) := by
  unfold f_X4_placed at hf
  have hx := C.1
  have hb := C.2.1
  refine lv_aload_n hx hb dX4_placed_0 rfl (lv_at hl 0 rfl) ?_
  obtain ⟨hg, hf⟩ := gd_inv hf
  refine zg_getp gP C hz 5 0 (gkp (by decide) hg) (by decide) (by decide) (Or.inl (C.w q306)) (fun _ h => h) dX4_placed_1 ?_
  refine lv_iload_n hx hb dX4_placed_4 rfl (lv_at hl 1 rfl) ?_
  obtain ⟨a1, ea1, hf⟩ := bd_inv hf
  rw [zx_rf ea1]
  obtain ⟨hg, hf⟩ := gd_inv hf
  obtain ⟨hi, hf⟩ := gd_inv hf
  refine zg_aald gP (by decide) C hz hg hi dX4_placed_5 ?_
  obtain ⟨a2, ea2, hf⟩ := bd_inv hf
  rw [zx_rf ea2]
  obtain ⟨hg, hf⟩ := gd_inv hf
  refine zg_getp gP C hz 3 3 (gkp (by decide) hg) (by decide) (by decide) (Or.inr ⟨_, C.nw q778⟩) (fun _ h => h) dX4_placed_6 ?_
  refine lv_aload_n hx hb dX4_placed_9 rfl (lv_at hl 0 rfl) ?_
  obtain ⟨hg, hf⟩ := gd_inv hf
  refine zg_getp gP C hz 5 1 (gkp (by decide) hg) (by decide) (by decide) (Or.inl (C.w q308)) (fun _ h => h) dX4_placed_10 ?_
  refine lv_iload_n hx hb dX4_placed_13 rfl (lv_at hl 1 rfl) ?_
  obtain ⟨a3, ea3, hf⟩ := bd_inv hf
  rw [zx_rf ea3]
  obtain ⟨hg, hf⟩ := gd_inv hf
  obtain ⟨hi, hf⟩ := gd_inv hf
  refine zg_iald gP C hz hg hi dX4_placed_14 ?_
  obtain ⟨a4, ea4, hf⟩ := bd_inv hf
  rw [zx_rf ea4]
  obtain ⟨hg, hf⟩ := gd_inv hf
  obtain ⟨hi, hf⟩ := gd_inv hf
  refine zg_iald gP C hz hg hi dX4_placed_15 ?_
  obtain rfl := Option.some.inj hf
  exact zg_iret C hz hk dX4_placed_16

theorem met_X4_placed (l : Launch) (E : PEw) {h : HP} {x0 : Nat} {x1 : Int} {res : Int} (hf : f_X4_placed h x0 x1 = some res) : Met l yX4_placed (ws_ yX4_placed cX4_placed 2 (some .int)) (rmP h 0 0) (PP E h [.ref x0, .int (zI x1)]) (QP E h h (some (.int (zI res)))) (pX h - pX h) (pS h - pS h) (eF E) := by
  refine Met.ofW (cc := cX4_placed) (maxL := 2) (ret := (some .int)) (by decide) rfl ?_
  intro p e s m args below meth c s₁ B hml hv
  obtain ⟨rfl, hP0⟩ := hv
  have hts := atoms_spec (ws := ws_ yX4_placed cX4_placed 2 (some .int)) B.pre
  have hts : ∀ w ∈ lw_all, w.before _ s = true := fun w h => hts w (List.mem_cons_of_mem _ h)
  have C : PC E p s m _ meth c RX4 cX4_placed 2 (some .int) "placed" := ⟨B.exec, B.bytes, B.returns, B.notSynchronized, hml, findClass_of_methodNamed B.named, hts, hP0.2, (name_of_methodNamed B.named B.method).1⟩
  have hz : ZP E s h h s.heap [] := ZG.start hP0.1
  have hl := lv_entry ([.ref x0, .int (zI x1)]) (n := 2) (Nat.le_of_ble_eq_true rfl)
  rw [lg_entry_eq]
  generalize (lg_sl ([.ref x0, .int (zI x1)]) ++ List.replicate (2 - (lg_sl ([.ref x0, .int (zI x1)])).length) Slot.unset).toArray = ls at hl ⊢
  have hl : lv_has ls 2 [(0, .ref x0), (1, .int (zI x1))] := hl
  refine W.cs (cells' := pX h - pX h) (slots' := pS h - pS h) (Nat.sub_self _).symm (Nat.sub_self _).symm ?_
  exact w_X4_placed C ⟨Nat.le_refl _, Nat.le_refl _, RBw.rm⟩ hf hz hl rfl

theorem w_X4_put {p : Program} {l : Launch} {e : Env} {R : Room} {s : State} {m : MethodId} {args : Array Value} {below : List Frame} {meth : Method} {c : Code} {Q : State → Prop} {E : PEw} {h0 h : HP} {H : Heap} {locs : List Loc} (C : PC E p s m args meth c RX4 cX4_put 3 none "put") (hr : 0 ≤ R.frames ∧ 0 ≤ R.locals ∧ RBw R h0) {x0 : Nat} {x1 : Int} {x2 : Int} {res : HP} (hf : f_X4_put h x0 x1 x2 = some res) (hz : ZP E s h0 h H locs) {ls : Array Slot} (hl : lv_has ls 3 [(0, .ref x0), (1, .int (zI x1)), (2, .int (zI x2))]) (hk : KP E below args s Q h0 res none) : W p l e R s m args below meth c H locs (pX h - pX h0) (pS h - pS h0) Q (F0 m 0 ls []) := by
  unfold f_X4_put at hf
  have hx := C.1
  have hb := C.2.1
  refine lv_aload_n hx hb dX4_put_0 rfl (lv_at hl 0 rfl) ?_
  obtain ⟨hg, hf⟩ := gd_inv hf
  refine zg_getp gP C hz 5 0 (gkp (by decide) hg) (by decide) (by decide) (Or.inl (C.w q306)) (fun _ h => h) dX4_put_1 ?_
  refine lv_iload_n hx hb dX4_put_4 rfl (lv_at hl 1 rfl) ?_
  obtain ⟨a1, ea1, hf⟩ := bd_inv hf
  rw [zx_rf ea1]
  obtain ⟨hg, hf⟩ := gd_inv hf
  obtain ⟨hi, hf⟩ := gd_inv hf
  refine zg_aald gP (by decide) C hz hg hi dX4_put_5 ?_
  obtain ⟨a2, ea2, hf⟩ := bd_inv hf
  rw [zx_rf ea2]
  obtain ⟨hg, hf⟩ := gd_inv hf
  refine zg_getp gP C hz 3 3 (gkp (by decide) hg) (by decide) (by decide) (Or.inr ⟨_, C.nw q778⟩) (fun _ h => h) dX4_put_6 ?_
  refine lv_aload_n hx hb dX4_put_9 rfl (lv_at hl 0 rfl) ?_
  obtain ⟨hg, hf⟩ := gd_inv hf
  refine zg_getp gP C hz 5 1 (gkp (by decide) hg) (by decide) (by decide) (Or.inl (C.w q308)) (fun _ h => h) dX4_put_10 ?_
  refine lv_iload_n hx hb dX4_put_13 rfl (lv_at hl 1 rfl) ?_
  obtain ⟨a3, ea3, hf⟩ := bd_inv hf
  rw [zx_rf ea3]
  obtain ⟨hg, hf⟩ := gd_inv hf
  obtain ⟨hi, hf⟩ := gd_inv hf
  refine zg_iald gP C hz hg hi dX4_put_14 ?_
  refine lv_iload_n hx hb dX4_put_15 rfl (lv_at hl 2 rfl) ?_
  obtain ⟨a4, ea4, hf⟩ := bd_inv hf
  rw [zx_rf ea4]
  obtain ⟨hg, hf⟩ := gd_inv hf
  obtain ⟨hi, hf⟩ := gd_inv hf
  obtain ⟨h5, eh5, hf⟩ := bnd_inv hf
  refine zg_iast gP C hz hg hi dX4_put_16 eh5 (fun H locs hz => ?_)
  obtain rfl := Option.some.inj hf
  exact zg_vret C hz hk dX4_put_17

theorem met_X4_put (l : Launch) (E : PEw) {h : HP} {x0 : Nat} {x1 : Int} {x2 : Int} {res : HP} (hf : f_X4_put h x0 x1 x2 = some res) : Met l yX4_put (ws_ yX4_put cX4_put 3 none) (rmP h 0 0) (PP E h [.ref x0, .int (zI x1), .int (zI x2)]) (QP E h res none) (pX res - pX h) (pS res - pS h) (eF E) := by
  refine Met.ofW (cc := cX4_put) (maxL := 3) (ret := none) (by decide) rfl ?_
  intro p e s m args below meth c s₁ B hml hv
  obtain ⟨rfl, hP0⟩ := hv
  have hts := atoms_spec (ws := ws_ yX4_put cX4_put 3 none) B.pre
  have hts : ∀ w ∈ lw_all, w.before _ s = true := fun w h => hts w (List.mem_cons_of_mem _ h)
  have C : PC E p s m _ meth c RX4 cX4_put 3 none "put" := ⟨B.exec, B.bytes, B.returns, B.notSynchronized, hml, findClass_of_methodNamed B.named, hts, hP0.2, (name_of_methodNamed B.named B.method).1⟩
  have hz : ZP E s h h s.heap [] := ZG.start hP0.1
  have hl := lv_entry ([.ref x0, .int (zI x1), .int (zI x2)]) (n := 3) (Nat.le_of_ble_eq_true rfl)
  rw [lg_entry_eq]
  generalize (lg_sl ([.ref x0, .int (zI x1), .int (zI x2)]) ++ List.replicate (3 - (lg_sl ([.ref x0, .int (zI x1), .int (zI x2)])).length) Slot.unset).toArray = ls at hl ⊢
  have hl : lv_has ls 3 [(0, .ref x0), (1, .int (zI x1)), (2, .int (zI x2))] := hl
  refine W.cs (cells' := pX h - pX h) (slots' := pS h - pS h) (Nat.sub_self _).symm (Nat.sub_self _).symm ?_
  exact w_X4_put C ⟨Nat.le_refl _, Nat.le_refl _, RBw.rm⟩ hf hz hl rfl

theorem w_X0_line_35 {p : Program} {l : Launch} {e : Env} {R : Room} {s : State} {m : MethodId} {args : Array Value} {below : List Frame} {meth : Method} {c : Code} {Q : State → Prop} {E : PEw} {h0 h : HP} {H : Heap} {locs : List Loc} (C : PC E p s m args meth c RX0 cX0_line 7 none "line") (hr : 5 ≤ R.frames ∧ 109 ≤ R.locals ∧ RBw R h0) {x0 : Nat} {x1 : Nat} {x2 : Int} {x3 : Int} {x5 : Int} {x6 : Int} {res : (Int × Int) ⊕ (HP)} (hf : f_X0_line_35 h x0 x1 x2 x3 x5 x6 = some res) (hz : ZP E s h0 h H locs) {ls : Array Slot} (hl : lv_has ls 7 [(0, .ref x0), (1, .ref x1), (2, .int (zI x2)), (3, .int (zI x3)), (5, .int (zI x5)), (6, .int (zI x6))]) (hk : (Sum.elim (fun z => ∀ (H : Heap) (locs : List Loc) (ls : Array Slot), ZP E s h0 h H locs → lv_has ls 7 [(0, .ref x0), (1, .ref x1), (2, .int (zI x2)), (3, .int (zI x3)), (5, .int (zI z.1)), (6, .int (zI z.2))] → W p l e R s m args below meth c H locs (pX h - pX h0) (pS h - pS h0) Q (F0 m 7 ls [])) (fun r => KP E below args s Q h0 r none)) res) : W p l e R s m args below meth c H locs (pX h - pX h0) (pS h - pS h0) Q (F0 m 35 ls []) := by
  unfold f_X0_line_35 at hf
  have hx := C.1
  have hb := C.2.1
  refine zl_iinc (x := x6) (n := 1) (lv' := [(6, .int (zI (x6 + 1))), (0, .ref x0), (1, .ref x1), (2, .int (zI x2)), (3, .int (zI x3)), (5, .int (zI x5))]) (k := 5) hx hb dX0_line_35 hl rfl (by decide) rfl (fun ls hl => ?_)
  refine lv_goto (tgt := 7) hx hb dX0_line_38 (by decide) ?_
  obtain rfl := Option.some.inj hf
  exact hk _ _ _ hz (lv_sub hl [1, 2, 3, 4, 5, 0] rfl)

theorem w_X0_line_113 {p : Program} {l : Launch} {e : Env} {R : Room} {s : State} {m : MethodId} {args : Array Value} {below : List Frame} {meth : Method} {c : Code} {Q : State → Prop} {E : PEw} {h0 h : HP} {H : Heap} {locs : List Loc} (C : PC E p s m args meth c RX0 cX0_line 7 none "line") (hr : 5 ≤ R.frames ∧ 109 ≤ R.locals ∧ RBw R h0) {x0 : Nat} {x1 : Nat} {x3 : Int} {x5 : Int} {x6 : Int} {res : (HP × Int) ⊕ (HP)} (hf : f_X0_line_113 h x0 x1 x3 x5 x6 = some res) (hz : ZP E s h0 h H locs) {ls : Array Slot} (hl : lv_has ls 7 [(0, .ref x0), (1, .ref x1), (3, .int (zI x3)), (5, .int (zI x5)), (6, .int (zI x6))]) (hk : (Sum.elim (fun z => ∀ (H : Heap) (locs : List Loc) (ls : Array Slot), ZP E s h0 z.1 H locs → lv_has ls 7 [(0, .ref x0), (1, .ref x1), (3, .int (zI x3)), (5, .int (zI x5)), (6, .int (zI z.2))] → W p l e R s m args below meth c H locs (pX z.1 - pX h0) (pS z.1 - pS h0) Q (F0 m 62 ls [])) (fun r => KP E below args s Q h0 r none)) res) : W p l e R s m args below meth c H locs (pX h - pX h0) (pS h - pS h0) Q (F0 m 113 ls []) := by
  unfold f_X0_line_113 at hf
  have hx := C.1
  have hb := C.2.1
  refine zl_iinc (x := x6) (n := 1) (lv' := [(6, .int (zI (x6 + 1))), (0, .ref x0), (1, .ref x1), (3, .int (zI x3)), (5, .int (zI x5))]) (k := 4) hx hb dX0_line_113 hl rfl (by decide) rfl (fun ls hl => ?_)
  refine lv_goto (tgt := 62) hx hb dX0_line_116 (by decide) ?_
  obtain rfl := Option.some.inj hf
  exact hk _ _ _ hz (lv_sub hl [1, 2, 3, 4, 0] rfl)

theorem w_X0_line_119 {p : Program} {l : Launch} {e : Env} {R : Room} {s : State} {m : MethodId} {args : Array Value} {below : List Frame} {meth : Method} {c : Code} {Q : State → Prop} {E : PEw} {h0 h : HP} {H : Heap} {locs : List Loc} (C : PC E p s m args meth c RX0 cX0_line 7 none "line") (hr : 5 ≤ R.frames ∧ 109 ≤ R.locals ∧ RBw R h0) {x0 : Nat} {x1 : Nat} {x5 : Int} {res : HP} (hf : f_X0_line_119 h x0 x1 x5 = some res) (hz : ZP E s h0 h H locs) {ls : Array Slot} (hl : lv_has ls 7 [(0, .ref x0), (1, .ref x1), (5, .int (zI x5))]) (hk : KP E below args s Q h0 res none) : W p l e R s m args below meth c H locs (pX h - pX h0) (pS h - pS h0) Q (F0 m 119 ls []) := by
  unfold f_X0_line_119 at hf
  have hx := C.1
  have hb := C.2.1
  refine lv_aload_n hx hb dX0_line_119 rfl (lv_at hl 0 rfl) ?_
  refine lv_dup hx hb dX0_line_120 rfl ?_
  obtain ⟨hg, hf⟩ := gd_inv hf
  refine zg_geti gP C hz 2 15 (gkp (by decide) hg) (by decide) (by decide) (Or.inr ⟨_, C.nw q185⟩) (fun _ h => h) dX0_line_121 ?_
  refine lv_iload hx hb dX0_line_124 (lv_at hl 2 rfl) ?_
  refine zl_iadd hx hb dX0_line_126 ?_
  obtain ⟨hg, hf⟩ := gd_inv hf
  obtain ⟨h1, eh1, hf⟩ := bnd_inv hf
  refine zg_puti gP C hz 2 15 (gkp (by decide) hg) (by decide) (by decide) rfl (by decide) (Or.inr ⟨_, C.nw q185⟩) (fun _ h => h) dX0_line_127 eh1 (fun H locs hz => ?_)
  refine lv_aload_n hx hb dX0_line_130 rfl (lv_at hl 1 rfl) ?_
  refine lv_dup hx hb dX0_line_131 rfl ?_
  obtain ⟨hg, hf⟩ := gd_inv hf
  refine zg_geti gP C hz 5 3 (gkp (by decide) hg) (by decide) (by decide) (Or.inr ⟨_, C.nw q311⟩) (fun _ h => h) dX0_line_132 ?_
  refine zl_iconst hx hb dX0_line_135 ?_
  refine zl_iadd hx hb dX0_line_136 ?_
  obtain ⟨hg, hf⟩ := gd_inv hf
  obtain ⟨h2, eh2, hf⟩ := bnd_inv hf
  refine zg_puti gP C hz 5 3 (gkp (by decide) hg) (by decide) (by decide) rfl (by decide) (Or.inr ⟨_, C.nw q311⟩) (fun _ h => h) dX0_line_137 eh2 (fun H locs hz => ?_)
  obtain rfl := Option.some.inj hf
  exact zg_vret C hz hk dX0_line_140

theorem w_X0_line_62s {p : Program} {l : Launch} {e : Env} {R : Room} {s : State} {m : MethodId} {args : Array Value} {below : List Frame} {meth : Method} {c : Code} {Q : State → Prop} {E : PEw} {h0 h : HP} {H : Heap} {locs : List Loc} (C : PC E p s m args meth c RX0 cX0_line 7 none "line") (hr : 5 ≤ R.frames ∧ 109 ≤ R.locals ∧ RBw R h0) {x0 : Nat} {x1 : Nat} {x3 : Int} {x5 : Int} {x6 : Int} {res : (HP × Int) ⊕ (HP)} (hf : f_X0_line_62s h x0 x1 x3 x5 x6 = some res) (hz : ZP E s h0 h H locs) {ls : Array Slot} (hl : lv_has ls 7 [(0, .ref x0), (1, .ref x1), (3, .int (zI x3)), (5, .int (zI x5)), (6, .int (zI x6))]) (hk : (Sum.elim (fun z => ∀ (H : Heap) (locs : List Loc) (ls : Array Slot), ZP E s h0 z.1 H locs → lv_has ls 7 [(0, .ref x0), (1, .ref x1), (3, .int (zI x3)), (5, .int (zI x5)), (6, .int (zI z.2))] → W p l e R s m args below meth c H locs (pX z.1 - pX h0) (pS z.1 - pS h0) Q (F0 m 62 ls [])) (fun r => KP E below args s Q h0 r none)) res) : W p l e R s m args below meth c H locs (pX h - pX h0) (pS h - pS h0) Q (F0 m 62 ls []) := by
  unfold f_X0_line_62s at hf
  have hx := C.1
  have hb := C.2.1
  refine lv_iload hx hb dX0_line_62 (lv_at hl 4 rfl) ?_
  refine lv_iload_n hx hb dX0_line_64 rfl (lv_at hl 2 rfl) ?_
  refine zl_icmp_ge (tgt := 119) hx hb dX0_line_65 (by decide) (fun hc => ?_) (fun hc => ?_)
  · rw [if_pos hc] at hf
    refine lv_aload_n hx hb dX0_line_68 rfl (lv_at hl 1 rfl) ?_
    refine lv_iload hx hb dX0_line_69 (lv_at hl 4 rfl) ?_
    obtain ⟨hg, hf⟩ := gd_inv hf
    obtain ⟨y1, ey1, hf⟩ := bd_inv hf
    refine zg_callV gP C hz hr (n := 1) (rest := []) (gkp (by decide) hg) (met_X4_blank l E ey1) q1016 q1017 (C.w q1018) q102 q1019 (by decide +kernel) ⟨Nat.le_trans (by decide) hr.1, Nat.le_trans (by decide) hr.2.1⟩ rfl hl.1 rfl (Nat.le_of_ble_eq_true rfl) dX0_line_71 (fun H locs hz => ?_)
    refine zl_if_ne (tgt := 113) hx hb dX0_line_74 (by decide) (fun hc => ?_) (fun hc => ?_)
    · rw [if_pos hc] at hf
      refine lv_aload_n hx hb dX0_line_77 rfl (lv_at hl 1 rfl) ?_
      refine lv_iload hx hb dX0_line_78 (lv_at hl 4 rfl) ?_
      refine lv_aload_n hx hb dX0_line_80 rfl (lv_at hl 0 rfl) ?_
      obtain ⟨hg, hf⟩ := gd_inv hf
      refine zg_geti gP C hz 2 13 (gkp (by decide) hg) (by decide) (by decide) (Or.inr ⟨_, C.nw q182⟩) (fun _ h => h) dX0_line_81 ?_
      refine lv_aload_n hx hb dX0_line_84 rfl (lv_at hl 1 rfl) ?_
      refine lv_iload hx hb dX0_line_85 (lv_at hl 4 rfl) ?_
      obtain ⟨hg, hf⟩ := gd_inv hf
      obtain ⟨y2, ey2, hf⟩ := bd_inv hf
      refine zg_callV gP C hz hr (n := 1) (rest := [.int (zI (pI h x0 13)), .int (zI x6), .ref x1]) (gkp (by decide) hg) (met_X4_placed l E ey2) q1021 q1022 (C.w q1023) q102 q1024 (by decide +kernel) ⟨Nat.le_trans (by decide) hr.1, Nat.le_trans (by decide) hr.2.1⟩ rfl hl.1 rfl (Nat.le_of_ble_eq_true rfl) dX0_line_87 (fun H locs hz => ?_)
      refine zl_iadd hx hb dX0_line_90 ?_
      refine zl_ldcw (v := 65536) hx hb C.2.2.2.2.2.1 (C.w q1025) dX0_line_91 ?_
      refine lv_aload_n hx hb dX0_line_94 rfl (lv_at hl 0 rfl) ?_
      obtain ⟨hg, hf⟩ := gd_inv hf
      refine zg_geti gP C hz 2 15 (gkp (by decide) hg) (by decide) (by decide) (Or.inr ⟨_, C.nw q185⟩) (fun _ h => h) dX0_line_95 ?_
      refine lv_iload hx hb dX0_line_98 (lv_at hl 3 rfl) ?_
      refine zl_iadd hx hb dX0_line_100 ?_
      refine lv_aload_n hx hb dX0_line_101 rfl (lv_at hl 1 rfl) ?_
      refine lv_iload hx hb dX0_line_102 (lv_at hl 4 rfl) ?_
      obtain ⟨hg, hf⟩ := gd_inv hf
      obtain ⟨y3, ey3, hf⟩ := bd_inv hf
      refine zg_callV gP C hz hr (n := 1) (rest := [.int (zI ((pI h x0 15) + x5)), .int (zI 65536), .int (zI ((pI h x0 13) + y2)), .int (zI x6), .ref x1]) (gkp (by decide) hg) (met_X4_size l E ey3) q1009 q1010 (C.w q1011) q102 q1012 (by decide +kernel) ⟨Nat.le_trans (by decide) hr.1, Nat.le_trans (by decide) hr.2.1⟩ rfl hl.1 rfl (Nat.le_of_ble_eq_true rfl) dX0_line_104 (fun H locs hz => ?_)
      refine zl_isub hx hb dX0_line_107 ?_
      refine zl_imul hx hb dX0_line_108 ?_
      refine zl_iadd hx hb dX0_line_109 ?_
      obtain ⟨hg, hf⟩ := gd_inv hf
      obtain ⟨y4, ey4, hf⟩ := bd_inv hf
      refine zg_callV gP C hz hr (n := 2) (rest := []) (gkp (by decide) hg) (met_X4_put l E ey4) q1026 q1027 (C.w q1028) q102 q1029 (by decide +kernel) ⟨Nat.le_trans (by decide) hr.1, Nat.le_trans (by decide) hr.2.1⟩ rfl hl.1 rfl (Nat.le_of_ble_eq_true rfl) dX0_line_110 (fun H locs hz => ?_)
      exact w_X0_line_113 C hr hf hz (lv_sub hl [0, 1, 2, 3, 4] rfl) hk
    · rw [if_neg hc] at hf
      exact w_X0_line_113 C hr hf hz (lv_sub hl [0, 1, 2, 3, 4] rfl) hk
  · rw [if_neg hc] at hf
    obtain ⟨r0, hm0, rfl⟩ := mr_inv hf
    exact w_X0_line_119 C hr hm0 hz (lv_sub hl [0, 1, 3] rfl) hk

theorem w_X0_line_62 {p : Program} {l : Launch} {e : Env} {R : Room} {s : State} {m : MethodId} {args : Array Value} {below : List Frame} {meth : Method} {c : Code} {Q : State → Prop} {E : PEw} {h0 h : HP} {H : Heap} {locs : List Loc} (C : PC E p s m args meth c RX0 cX0_line 7 none "line") (hr : 5 ≤ R.frames ∧ 109 ≤ R.locals ∧ RBw R h0) {x0 : Nat} {x1 : Nat} {x3 : Int} {x5 : Int} {x6 : Int} {res : HP} (hf : f_X0_line_62 h x0 x1 x3 x5 x6 = some res) (hz : ZP E s h0 h H locs) {ls : Array Slot} (hl : lv_has ls 7 [(0, .ref x0), (1, .ref x1), (3, .int (zI x3)), (5, .int (zI x5)), (6, .int (zI x6))]) (hk : KP E below args s Q h0 res none) : W p l e R s m args below meth c H locs (pX h - pX h0) (pS h - pS h0) Q (F0 m 62 ls []) := by
  unfold f_X0_line_62 at hf
  refine iter_ind (P := fun z r => ∀ (H : Heap) (locs : List Loc) (ls : Array Slot), ZP E s h0 z.1 H locs → lv_has ls 7 [(0, .ref x0), (1, .ref x1), (3, .int (zI x3)), (5, .int (zI x5)), (6, .int (zI z.2))] → KP E below args s Q h0 r none → W p l e R s m args below meth c H locs (pX z.1 - pX h0) (pS z.1 - pS h0) Q (F0 m 62 ls [])) ?_ ?_ hf H locs ls hz hl hk
  · intro z r h1 H locs ls hz hl hk; exact w_X0_line_62s C hr h1 hz hl hk
  · intro z z1 r h1 ih H locs ls hz hl hk; exact w_X0_line_62s C hr h1 hz hl (fun H locs ls hz hl => ih H locs ls hz hl hk)

theorem w_X0_line_41 {p : Program} {l : Launch} {e : Env} {R : Room} {s : State} {m : MethodId} {args : Array Value} {below : List Frame} {meth : Method} {c : Code} {Q : State → Prop} {E : PEw} {h0 h : HP} {H : Heap} {locs : List Loc} (C : PC E p s m args meth c RX0 cX0_line 7 none "line") (hr : 5 ≤ R.frames ∧ 109 ≤ R.locals ∧ RBw R h0) {x0 : Nat} {x1 : Nat} {x2 : Int} {x3 : Int} {x5 : Int} {res : HP} (hf : f_X0_line_41 h x0 x1 x2 x3 x5 = some res) (hz : ZP E s h0 h H locs) {ls : Array Slot} (hl : lv_has ls 7 [(0, .ref x0), (1, .ref x1), (2, .int (zI x2)), (3, .int (zI x3)), (5, .int (zI x5))]) (hk : KP E below args s Q h0 res none) : W p l e R s m args below meth c H locs (pX h - pX h0) (pS h - pS h0) Q (F0 m 41 ls []) := by
  unfold f_X0_line_41 at hf
  have hx := C.1
  have hb := C.2.1
  refine lv_aload_n hx hb dX0_line_41 rfl (lv_at hl 0 rfl) ?_
  refine lv_dup hx hb dX0_line_42 rfl ?_
  obtain ⟨hg, hf⟩ := gd_inv hf
  refine zg_geti gP C hz 2 15 (gkp (by decide) hg) (by decide) (by decide) (Or.inr ⟨_, C.nw q185⟩) (fun _ h => h) dX0_line_43 ?_
  refine lv_aload_n hx hb dX0_line_46 rfl (lv_at hl 0 rfl) ?_
  obtain ⟨hg, hf⟩ := gd_inv hf
  refine zg_geti gP C hz 2 16 (gkp (by decide) hg) (by decide) (by decide) (Or.inr ⟨_, C.nw q187⟩) (fun _ h => h) dX0_line_47 ?_
  refine zl_iadd hx hb dX0_line_50 ?_
  obtain ⟨hg, hf⟩ := gd_inv hf
  obtain ⟨h1, eh1, hf⟩ := bnd_inv hf
  refine zg_puti gP C hz 2 15 (gkp (by decide) hg) (by decide) (by decide) rfl (by decide) (Or.inr ⟨_, C.nw q185⟩) (fun _ h => h) dX0_line_51 eh1 (fun H locs hz => ?_)
  refine lv_aload_n hx hb dX0_line_54 rfl (lv_at hl 0 rfl) ?_
  refine zl_iconst hx hb dX0_line_55 ?_
  obtain ⟨hg, hf⟩ := gd_inv hf
  obtain ⟨h2, eh2, hf⟩ := bnd_inv hf
  refine zg_puti gP C hz 2 16 (gkp (by decide) hg) (by decide) (by decide) rfl (by decide) (Or.inr ⟨_, C.nw q187⟩) (fun _ h => h) dX0_line_56 eh2 (fun H locs hz => ?_)
  refine lv_iload_n hx hb dX0_line_59 rfl (lv_at hl 2 rfl) ?_
  refine lv_istore (lv' := [(6, .int (zI x2)), (0, .ref x0), (1, .ref x1), (2, .int (zI x2)), (3, .int (zI x3)), (5, .int (zI x5))]) hx hb dX0_line_60 hl (by decide) rfl (fun ls hl => ?_)
  exact w_X0_line_62 C hr hf hz (lv_sub hl [1, 2, 4, 5, 0] rfl) hk

theorem w_X0_line_7s {p : Program} {l : Launch} {e : Env} {R : Room} {s : State} {m : MethodId} {args : Array Value} {below : List Frame} {meth : Method} {c : Code} {Q : State → Prop} {E : PEw} {h0 h : HP} {H : Heap} {locs : List Loc} (C : PC E p s m args meth c RX0 cX0_line 7 none "line") (hr : 5 ≤ R.frames ∧ 109 ≤ R.locals ∧ RBw R h0) {x0 : Nat} {x1 : Nat} {x2 : Int} {x3 : Int} {x5 : Int} {x6 : Int} {res : (Int × Int) ⊕ (HP)} (hf : f_X0_line_7s h x0 x1 x2 x3 x5 x6 = some res) (hz : ZP E s h0 h H locs) {ls : Array Slot} (hl : lv_has ls 7 [(0, .ref x0), (1, .ref x1), (2, .int (zI x2)), (3, .int (zI x3)), (5, .int (zI x5)), (6, .int (zI x6))]) (hk : (Sum.elim (fun z => ∀ (H : Heap) (locs : List Loc) (ls : Array Slot), ZP E s h0 h H locs → lv_has ls 7 [(0, .ref x0), (1, .ref x1), (2, .int (zI x2)), (3, .int (zI x3)), (5, .int (zI z.1)), (6, .int (zI z.2))] → W p l e R s m args below meth c H locs (pX h - pX h0) (pS h - pS h0) Q (F0 m 7 ls [])) (fun r => KP E below args s Q h0 r none)) res) : W p l e R s m args below meth c H locs (pX h - pX h0) (pS h - pS h0) Q (F0 m 7 ls []) := by
  unfold f_X0_line_7s at hf
  have hx := C.1
  have hb := C.2.1
  refine lv_iload hx hb dX0_line_7 (lv_at hl 5 rfl) ?_
  refine lv_iload_n hx hb dX0_line_9 rfl (lv_at hl 3 rfl) ?_
  refine zl_icmp_ge (tgt := 41) hx hb dX0_line_10 (by decide) (fun hc => ?_) (fun hc => ?_)
  · rw [if_pos hc] at hf
    refine lv_aload_n hx hb dX0_line_13 rfl (lv_at hl 1 rfl) ?_
    refine lv_iload hx hb dX0_line_14 (lv_at hl 5 rfl) ?_
    obtain ⟨hg, hf⟩ := gd_inv hf
    obtain ⟨y1, ey1, hf⟩ := bd_inv hf
    refine zg_callV gP C hz hr (n := 1) (rest := []) (gkp (by decide) hg) (met_X4_blank l E ey1) q1016 q1017 (C.w q1018) q102 q1019 (by decide +kernel) ⟨Nat.le_trans (by decide) hr.1, Nat.le_trans (by decide) hr.2.1⟩ rfl hl.1 rfl (Nat.le_of_ble_eq_true rfl) dX0_line_16 (fun H locs hz => ?_)
    refine zl_if_ne (tgt := 35) hx hb dX0_line_19 (by decide) (fun hc => ?_) (fun hc => ?_)
    · rw [if_pos hc] at hf
      refine lv_iload hx hb dX0_line_22 (lv_at hl 4 rfl) ?_
      refine lv_aload_n hx hb dX0_line_24 rfl (lv_at hl 1 rfl) ?_
      refine lv_iload hx hb dX0_line_25 (lv_at hl 5 rfl) ?_
      obtain ⟨hg, hf⟩ := gd_inv hf
      obtain ⟨y2, ey2, hf⟩ := bd_inv hf
      refine zg_callV gP C hz hr (n := 1) (rest := [.int (zI x5)]) (gkp (by decide) hg) (met_X4_size l E ey2) q1009 q1010 (C.w q1011) q102 q1012 (by decide +kernel) ⟨Nat.le_trans (by decide) hr.1, Nat.le_trans (by decide) hr.2.1⟩ rfl hl.1 rfl (Nat.le_of_ble_eq_true rfl) dX0_line_27 (fun H locs hz => ?_)
      refine zl_mmax hx hb C.2.2.2.2.1 hl.1 C.2.2.2.2.2.1 (fun _ h => C.w h) q991 ⟨Nat.le_trans (by decide) hr.1, Nat.le_trans (by decide) hr.2.1⟩ (Nat.le_of_ble_eq_true rfl) (RBw.have gP hz hr).1 (RBw.have gP hz hr).2 dX0_line_30 ?_
      obtain ⟨y3, ey3, hf⟩ := bnd_inv hf
      refine zl_topi ey3 ?_
      refine lv_istore (lv' := [(5, .int (zI y3)), (0, .ref x0), (1, .ref x1), (2, .int (zI x2)), (3, .int (zI x3)), (6, .int (zI x6))]) hx hb dX0_line_33 hl (by decide) rfl (fun ls hl => ?_)
      exact w_X0_line_35 C hr hf hz (lv_sub hl [1, 2, 3, 4, 0, 5] rfl) hk
    · rw [if_neg hc] at hf
      exact w_X0_line_35 C hr hf hz (lv_sub hl [0, 1, 2, 3, 4, 5] rfl) hk
  · rw [if_neg hc] at hf
    obtain ⟨r0, hm0, rfl⟩ := mr_inv hf
    exact w_X0_line_41 C hr hm0 hz (lv_sub hl [0, 1, 2, 3, 4] rfl) hk

theorem w_X0_line_7 {p : Program} {l : Launch} {e : Env} {R : Room} {s : State} {m : MethodId} {args : Array Value} {below : List Frame} {meth : Method} {c : Code} {Q : State → Prop} {E : PEw} {h0 h : HP} {H : Heap} {locs : List Loc} (C : PC E p s m args meth c RX0 cX0_line 7 none "line") (hr : 5 ≤ R.frames ∧ 109 ≤ R.locals ∧ RBw R h0) {x0 : Nat} {x1 : Nat} {x2 : Int} {x3 : Int} {x5 : Int} {x6 : Int} {res : HP} (hf : f_X0_line_7 h x0 x1 x2 x3 x5 x6 = some res) (hz : ZP E s h0 h H locs) {ls : Array Slot} (hl : lv_has ls 7 [(0, .ref x0), (1, .ref x1), (2, .int (zI x2)), (3, .int (zI x3)), (5, .int (zI x5)), (6, .int (zI x6))]) (hk : KP E below args s Q h0 res none) : W p l e R s m args below meth c H locs (pX h - pX h0) (pS h - pS h0) Q (F0 m 7 ls []) := by
  unfold f_X0_line_7 at hf
  refine iter_ind (P := fun z r => ∀ (H : Heap) (locs : List Loc) (ls : Array Slot), ZP E s h0 h H locs → lv_has ls 7 [(0, .ref x0), (1, .ref x1), (2, .int (zI x2)), (3, .int (zI x3)), (5, .int (zI z.1)), (6, .int (zI z.2))] → KP E below args s Q h0 r none → W p l e R s m args below meth c H locs (pX h - pX h0) (pS h - pS h0) Q (F0 m 7 ls [])) ?_ ?_ hf H locs ls hz hl hk
  · intro z r h1 H locs ls hz hl hk; exact w_X0_line_7s C hr h1 hz hl hk
  · intro z z1 r h1 ih H locs ls hz hl hk; exact w_X0_line_7s C hr h1 hz hl (fun H locs ls hz hl => ih H locs ls hz hl hk)

theorem w_X0_line {p : Program} {l : Launch} {e : Env} {R : Room} {s : State} {m : MethodId} {args : Array Value} {below : List Frame} {meth : Method} {c : Code} {Q : State → Prop} {E : PEw} {h0 h : HP} {H : Heap} {locs : List Loc} (C : PC E p s m args meth c RX0 cX0_line 7 none "line") (hr : 5 ≤ R.frames ∧ 109 ≤ R.locals ∧ RBw R h0) {x0 : Nat} {x1 : Nat} {x2 : Int} {x3 : Int} {x4 : Int} {res : HP} (hf : f_X0_line h x0 x1 x2 x3 x4 = some res) (hz : ZP E s h0 h H locs) {ls : Array Slot} (hl : lv_has ls 7 [(0, .ref x0), (1, .ref x1), (2, .int (zI x2)), (3, .int (zI x3)), (4, .int (zI x4))]) (hk : KP E below args s Q h0 res none) : W p l e R s m args below meth c H locs (pX h - pX h0) (pS h - pS h0) Q (F0 m 0 ls []) := by
  unfold f_X0_line at hf
  have hx := C.1
  have hb := C.2.1
  refine lv_iload hx hb dX0_line_0 (lv_at hl 4 rfl) ?_
  refine lv_istore (lv' := [(5, .int (zI x4)), (0, .ref x0), (1, .ref x1), (2, .int (zI x2)), (3, .int (zI x3)), (4, .int (zI x4))]) hx hb dX0_line_2 hl (by decide) rfl (fun ls hl => ?_)
  refine lv_iload_n hx hb dX0_line_4 rfl (lv_at hl 3 rfl) ?_
  refine lv_istore (lv' := [(6, .int (zI x2)), (5, .int (zI x4)), (0, .ref x0), (1, .ref x1), (2, .int (zI x2)), (3, .int (zI x3)), (4, .int (zI x4))]) hx hb dX0_line_5 hl (by decide) rfl (fun ls hl => ?_)
  exact w_X0_line_7 C hr hf hz (lv_sub hl [2, 3, 4, 5, 1, 0] rfl) hk

theorem met_X0_line (l : Launch) (E : PEw) {h : HP} {x0 : Nat} {x1 : Nat} {x2 : Int} {x3 : Int} {x4 : Int} {res : HP} (hf : f_X0_line h x0 x1 x2 x3 x4 = some res) : Met l yX0_line (ws_ yX0_line cX0_line 7 none) (rmP h 5 109) (PP E h [.ref x0, .ref x1, .int (zI x2), .int (zI x3), .int (zI x4)]) (QP E h res none) (pX res - pX h) (pS res - pS h) (eF E) := by
  refine Met.ofW (cc := cX0_line) (maxL := 7) (ret := none) (by decide) rfl ?_
  intro p e s m args below meth c s₁ B hml hv
  obtain ⟨rfl, hP0⟩ := hv
  have hts := atoms_spec (ws := ws_ yX0_line cX0_line 7 none) B.pre
  have hts : ∀ w ∈ lw_all, w.before _ s = true := fun w h => hts w (List.mem_cons_of_mem _ h)
  have C : PC E p s m _ meth c RX0 cX0_line 7 none "line" := ⟨B.exec, B.bytes, B.returns, B.notSynchronized, hml, findClass_of_methodNamed B.named, hts, hP0.2, (name_of_methodNamed B.named B.method).1⟩
  have hz : ZP E s h h s.heap [] := ZG.start hP0.1
  have hl := lv_entry ([.ref x0, .ref x1, .int (zI x2), .int (zI x3), .int (zI x4)]) (n := 7) (Nat.le_of_ble_eq_true rfl)
  rw [lg_entry_eq]
  generalize (lg_sl ([.ref x0, .ref x1, .int (zI x2), .int (zI x3), .int (zI x4)]) ++ List.replicate (7 - (lg_sl ([.ref x0, .ref x1, .int (zI x2), .int (zI x3), .int (zI x4)])).length) Slot.unset).toArray = ls at hl ⊢
  have hl : lv_has ls 7 [(0, .ref x0), (1, .ref x1), (2, .int (zI x2)), (3, .int (zI x3)), (4, .int (zI x4))] := hl
  refine W.cs (cells' := pX h - pX h) (slots' := pS h - pS h) (Nat.sub_self _).symm (Nat.sub_self _).symm ?_
  exact w_X0_line C ⟨Nat.le_refl _, Nat.le_refl _, RBw.rm⟩ hf hz hl rfl

theorem w_X0_flush_48 {p : Program} {l : Launch} {e : Env} {R : Room} {s : State} {m : MethodId} {args : Array Value} {below : List Frame} {meth : Method} {c : Code} {Q : State → Prop} {E : PEw} {h0 h : HP} {H : Heap} {locs : List Loc} (C : PC E p s m args meth c RX0 cX0_flush 9 none "flush") (hr : 6 ≤ R.frames ∧ 135 ≤ R.locals ∧ RBw R h0) {x0 : Nat} {x1 : Nat} {x5 : Int} {t0 : Int} {t1 : Int} {t2 : Int} {t3 : Nat} {t4 : Nat} {res : (HP × Int × Int × Int × Int) ⊕ (HP)} (hf : f_X0_flush_48 h x0 x1 x5 t0 t1 t2 t3 t4 = some res) (hz : ZP E s h0 h H locs) {ls : Array Slot} (hl : lv_has ls 9 [(0, .ref x0), (1, .ref x1), (5, .int (zI x5))]) (hk : (Sum.elim (fun z => ∀ (H : Heap) (locs : List Loc) (ls : Array Slot), ZP E s h0 z.1 H locs → lv_has ls 9 [(0, .ref x0), (1, .ref x1), (2, .int (zI z.2.1)), (3, .int (zI z.2.2.1)), (4, .int (zI z.2.2.2.1)), (5, .int (zI z.2.2.2.2))] → W p l e R s m args below meth c H locs (pX z.1 - pX h0) (pS z.1 - pS h0) Q (F0 m 10 ls [])) (fun r => KP E below args s Q h0 r none)) res) : W p l e R s m args below meth c H locs (pX h - pX h0) (pS h - pS h0) Q (F0 m 48 ls [.int (zI t0), .int (zI t1), .int (zI t2), .ref t3, .ref t4]) := by
  unfold f_X0_flush_48 at hf
  have hx := C.1
  have hb := C.2.1
  obtain ⟨y1, ey1, hf⟩ := bd_inv hf
  refine zg_callS gP C hz hr (n := 5) (rest := []) (met_X0_line l E ey1) q1013 q1014 q89 q1015 (by decide +kernel) ⟨Nat.le_trans (by decide) hr.1, Nat.le_trans (by decide) hr.2.1⟩ rfl hl.1 rfl (Nat.le_of_ble_eq_true rfl) dX0_flush_48 (fun H locs hz => ?_)
  refine lv_iload hx hb dX0_flush_51 (lv_at hl 2 rfl) ?_
  refine zl_iconst hx hb dX0_flush_53 ?_
  refine zl_iadd hx hb dX0_flush_54 ?_
  obtain ⟨y2, ey2, hf⟩ := bnd_inv hf
  refine zl_topi ey2 ?_
  refine lv_istore_n (lv' := [(2, .int (zI y2)), (0, .ref x0), (1, .ref x1), (5, .int (zI x5))]) hx hb dX0_flush_55 rfl hl (by decide) rfl (fun ls hl => ?_)
  refine zl_iconst hx hb dX0_flush_56 ?_
  refine lv_istore_n (lv' := [(3, .int (zI (-1))), (2, .int (zI y2)), (0, .ref x0), (1, .ref x1), (5, .int (zI x5))]) hx hb dX0_flush_57 rfl hl (by decide) rfl (fun ls hl => ?_)
  refine zl_iconst hx hb dX0_flush_58 ?_
  refine lv_istore (lv' := [(4, .int (zI (-1))), (3, .int (zI (-1))), (2, .int (zI y2)), (0, .ref x0), (1, .ref x1), (5, .int (zI x5))]) hx hb dX0_flush_59 hl (by decide) rfl (fun ls hl => ?_)
  refine zl_iinc (x := x5) (n := 1) (lv' := [(5, .int (zI (x5 + 1))), (4, .int (zI (-1))), (3, .int (zI (-1))), (2, .int (zI y2)), (0, .ref x0), (1, .ref x1)]) (k := 5) hx hb dX0_flush_61 hl rfl (by decide) rfl (fun ls hl => ?_)
  refine lv_goto (tgt := 10) hx hb dX0_flush_64 (by decide) ?_
  obtain rfl := Option.some.inj hf
  exact hk _ _ _ hz (lv_sub hl [4, 5, 3, 2, 1, 0] rfl)

theorem w_X0_flush_248 {p : Program} {l : Launch} {e : Env} {R : Room} {s : State} {m : MethodId} {args : Array Value} {below : List Frame} {meth : Method} {c : Code} {Q : State → Prop} {E : PEw} {h0 h : HP} {H : Heap} {locs : List Loc} (C : PC E p s m args meth c RX0 cX0_flush 9 none "flush") (hr : 6 ≤ R.frames ∧ 135 ≤ R.locals ∧ RBw R h0) {x0 : Nat} {x1 : Nat} {x2 : Int} {x3 : Int} {x5 : Int} {res : (HP × Int × Int × Int × Int) ⊕ (HP)} (hf : f_X0_flush_248 h x0 x1 x2 x3 x5 = some res) (hz : ZP E s h0 h H locs) {ls : Array Slot} (hl : lv_has ls 9 [(0, .ref x0), (1, .ref x1), (2, .int (zI x2)), (3, .int (zI x3)), (5, .int (zI x5))]) (hk : (Sum.elim (fun z => ∀ (H : Heap) (locs : List Loc) (ls : Array Slot), ZP E s h0 z.1 H locs → lv_has ls 9 [(0, .ref x0), (1, .ref x1), (2, .int (zI z.2.1)), (3, .int (zI z.2.2.1)), (4, .int (zI z.2.2.2.1)), (5, .int (zI z.2.2.2.2))] → W p l e R s m args below meth c H locs (pX z.1 - pX h0) (pS z.1 - pS h0) Q (F0 m 10 ls [])) (fun r => KP E below args s Q h0 r none)) res) : W p l e R s m args below meth c H locs (pX h - pX h0) (pS h - pS h0) Q (F0 m 248 ls []) := by
  unfold f_X0_flush_248 at hf
  have hx := C.1
  have hb := C.2.1
  refine zl_iconst hx hb dX0_flush_248 ?_
  refine lv_istore (lv' := [(4, .int (zI (-1))), (0, .ref x0), (1, .ref x1), (2, .int (zI x2)), (3, .int (zI x3)), (5, .int (zI x5))]) hx hb dX0_flush_249 hl (by decide) rfl (fun ls hl => ?_)
  refine lv_goto (tgt := 10) hx hb dX0_flush_251 (by decide) ?_
  obtain rfl := Option.some.inj hf
  exact hk _ _ _ hz (lv_sub hl [1, 2, 3, 4, 0, 5] rfl)

theorem w_X0_flush_219s {p : Program} {l : Launch} {e : Env} {R : Room} {s : State} {m : MethodId} {args : Array Value} {below : List Frame} {meth : Method} {c : Code} {Q : State → Prop} {E : PEw} {h0 h : HP} {H : Heap} {locs : List Loc} (C : PC E p s m args meth c RX0 cX0_flush 9 none "flush") (hr : 6 ≤ R.frames ∧ 135 ≤ R.locals ∧ RBw R h0) {x0 : Nat} {x1 : Nat} {x2 : Int} {x3 : Int} {x5 : Int} {x7 : Int} {res : (HP × Int × Int) ⊕ ((HP × Int × Int × Int × Int) ⊕ (HP))} (hf : f_X0_flush_219s h x0 x1 x2 x3 x5 x7 = some res) (hz : ZP E s h0 h H locs) {ls : Array Slot} (hl : lv_has ls 9 [(0, .ref x0), (1, .ref x1), (2, .int (zI x2)), (3, .int (zI x3)), (5, .int (zI x5)), (7, .int (zI x7))]) (hk : (Sum.elim (fun z => ∀ (H : Heap) (locs : List Loc) (ls : Array Slot), ZP E s h0 z.1 H locs → lv_has ls 9 [(0, .ref x0), (1, .ref x1), (2, .int (zI x2)), (3, .int (zI z.2.1)), (5, .int (zI z.2.2)), (7, .int (zI x7))] → W p l e R s m args below meth c H locs (pX z.1 - pX h0) (pS z.1 - pS h0) Q (F0 m 219 ls [])) (Sum.elim (fun z => ∀ (H : Heap) (locs : List Loc) (ls : Array Slot), ZP E s h0 z.1 H locs → lv_has ls 9 [(0, .ref x0), (1, .ref x1), (2, .int (zI z.2.1)), (3, .int (zI z.2.2.1)), (4, .int (zI z.2.2.2.1)), (5, .int (zI z.2.2.2.2))] → W p l e R s m args below meth c H locs (pX z.1 - pX h0) (pS z.1 - pS h0) Q (F0 m 10 ls [])) (fun r => KP E below args s Q h0 r none))) res) : W p l e R s m args below meth c H locs (pX h - pX h0) (pS h - pS h0) Q (F0 m 219 ls []) := by
  unfold f_X0_flush_219s at hf
  have hx := C.1
  have hb := C.2.1
  refine lv_iload hx hb dX0_flush_219 (lv_at hl 4 rfl) ?_
  refine lv_iload hx hb dX0_flush_221 (lv_at hl 5 rfl) ?_
  refine zl_icmp_ge (tgt := 248) hx hb dX0_flush_223 (by decide) (fun hc => ?_) (fun hc => ?_)
  · rw [if_pos hc] at hf
    refine lv_aload_n hx hb dX0_flush_226 rfl (lv_at hl 1 rfl) ?_
    refine lv_iload hx hb dX0_flush_227 (lv_at hl 4 rfl) ?_
    refine lv_iload_n hx hb dX0_flush_229 rfl (lv_at hl 3 rfl) ?_
    obtain ⟨hg, hf⟩ := gd_inv hf
    obtain ⟨y1, ey1, hf⟩ := bd_inv hf
    refine zg_callV gP C hz hr (n := 2) (rest := []) (gkp (by decide) hg) (met_X4_put l E ey1) q1026 q1027 (C.w q1028) q102 q1029 (by decide +kernel) ⟨Nat.le_trans (by decide) hr.1, Nat.le_trans (by decide) hr.2.1⟩ rfl hl.1 rfl (Nat.le_of_ble_eq_true rfl) dX0_flush_230 (fun H locs hz => ?_)
    refine lv_iload_n hx hb dX0_flush_233 rfl (lv_at hl 3 rfl) ?_
    refine lv_aload_n hx hb dX0_flush_234 rfl (lv_at hl 1 rfl) ?_
    refine lv_iload hx hb dX0_flush_235 (lv_at hl 4 rfl) ?_
    refine zl_iinc (x := x5) (n := 1) (lv' := [(5, .int (zI (x5 + 1))), (0, .ref x0), (1, .ref x1), (2, .int (zI x2)), (3, .int (zI x3)), (7, .int (zI x7))]) (k := 4) hx hb dX0_flush_237 hl rfl (by decide) rfl (fun ls hl => ?_)
    obtain ⟨hg, hf⟩ := gd_inv hf
    obtain ⟨y2, ey2, hf⟩ := bd_inv hf
    refine zg_callV gP C hz hr (n := 1) (rest := [.int (zI x3)]) (gkp (by decide) hg) (met_X4_size l E ey2) q1009 q1010 (C.w q1011) q102 q1012 (by decide +kernel) ⟨Nat.le_trans (by decide) hr.1, Nat.le_trans (by decide) hr.2.1⟩ rfl hl.1 rfl (Nat.le_of_ble_eq_true rfl) dX0_flush_240 (fun H locs hz => ?_)
    refine zl_iadd hx hb dX0_flush_243 ?_
    obtain ⟨y3, ey3, hf⟩ := bnd_inv hf
    refine zl_topi ey3 ?_
    refine lv_istore_n (lv' := [(3, .int (zI y3)), (5, .int (zI (x5 + 1))), (0, .ref x0), (1, .ref x1), (2, .int (zI x2)), (7, .int (zI x7))]) hx hb dX0_flush_244 rfl hl (by decide) rfl (fun ls hl => ?_)
    refine lv_goto (tgt := 219) hx hb dX0_flush_245 (by decide) ?_
    obtain rfl := Option.some.inj hf
    exact hk _ _ _ hz (lv_sub hl [2, 3, 4, 0, 1, 5] rfl)
  · rw [if_neg hc] at hf
    obtain ⟨r0, hm0, rfl⟩ := mr_inv hf
    exact w_X0_flush_248 C hr hm0 hz (lv_sub hl [0, 1, 2, 3, 4] rfl) hk

theorem w_X0_flush_219 {p : Program} {l : Launch} {e : Env} {R : Room} {s : State} {m : MethodId} {args : Array Value} {below : List Frame} {meth : Method} {c : Code} {Q : State → Prop} {E : PEw} {h0 h : HP} {H : Heap} {locs : List Loc} (C : PC E p s m args meth c RX0 cX0_flush 9 none "flush") (hr : 6 ≤ R.frames ∧ 135 ≤ R.locals ∧ RBw R h0) {x0 : Nat} {x1 : Nat} {x2 : Int} {x3 : Int} {x5 : Int} {x7 : Int} {res : (HP × Int × Int × Int × Int) ⊕ (HP)} (hf : f_X0_flush_219 h x0 x1 x2 x3 x5 x7 = some res) (hz : ZP E s h0 h H locs) {ls : Array Slot} (hl : lv_has ls 9 [(0, .ref x0), (1, .ref x1), (2, .int (zI x2)), (3, .int (zI x3)), (5, .int (zI x5)), (7, .int (zI x7))]) (hk : (Sum.elim (fun z => ∀ (H : Heap) (locs : List Loc) (ls : Array Slot), ZP E s h0 z.1 H locs → lv_has ls 9 [(0, .ref x0), (1, .ref x1), (2, .int (zI z.2.1)), (3, .int (zI z.2.2.1)), (4, .int (zI z.2.2.2.1)), (5, .int (zI z.2.2.2.2))] → W p l e R s m args below meth c H locs (pX z.1 - pX h0) (pS z.1 - pS h0) Q (F0 m 10 ls [])) (fun r => KP E below args s Q h0 r none)) res) : W p l e R s m args below meth c H locs (pX h - pX h0) (pS h - pS h0) Q (F0 m 219 ls []) := by
  unfold f_X0_flush_219 at hf
  refine iter_ind (P := fun z r => ∀ (H : Heap) (locs : List Loc) (ls : Array Slot), ZP E s h0 z.1 H locs → lv_has ls 9 [(0, .ref x0), (1, .ref x1), (2, .int (zI x2)), (3, .int (zI z.2.1)), (5, .int (zI z.2.2)), (7, .int (zI x7))] → (Sum.elim (fun z => ∀ (H : Heap) (locs : List Loc) (ls : Array Slot), ZP E s h0 z.1 H locs → lv_has ls 9 [(0, .ref x0), (1, .ref x1), (2, .int (zI z.2.1)), (3, .int (zI z.2.2.1)), (4, .int (zI z.2.2.2.1)), (5, .int (zI z.2.2.2.2))] → W p l e R s m args below meth c H locs (pX z.1 - pX h0) (pS z.1 - pS h0) Q (F0 m 10 ls [])) (fun r => KP E below args s Q h0 r none)) r → W p l e R s m args below meth c H locs (pX z.1 - pX h0) (pS z.1 - pS h0) Q (F0 m 219 ls [])) ?_ ?_ hf H locs ls hz hl hk
  · intro z r h1 H locs ls hz hl hk; exact w_X0_flush_219s C hr h1 hz hl hk
  · intro z z1 r h1 ih H locs ls hz hl hk; exact w_X0_flush_219s C hr h1 hz hl (fun H locs ls hz hl => ih H locs ls hz hl hk)

theorem w_X0_flush_218 {p : Program} {l : Launch} {e : Env} {R : Room} {s : State} {m : MethodId} {args : Array Value} {below : List Frame} {meth : Method} {c : Code} {Q : State → Prop} {E : PEw} {h0 h : HP} {H : Heap} {locs : List Loc} (C : PC E p s m args meth c RX0 cX0_flush 9 none "flush") (hr : 6 ≤ R.frames ∧ 135 ≤ R.locals ∧ RBw R h0) {x0 : Nat} {x1 : Nat} {x2 : Int} {x5 : Int} {x7 : Int} {t0 : Int} {res : (HP × Int × Int × Int × Int) ⊕ (HP)} (hf : f_X0_flush_218 h x0 x1 x2 x5 x7 t0 = some res) (hz : ZP E s h0 h H locs) {ls : Array Slot} (hl : lv_has ls 9 [(0, .ref x0), (1, .ref x1), (2, .int (zI x2)), (5, .int (zI x5)), (7, .int (zI x7))]) (hk : (Sum.elim (fun z => ∀ (H : Heap) (locs : List Loc) (ls : Array Slot), ZP E s h0 z.1 H locs → lv_has ls 9 [(0, .ref x0), (1, .ref x1), (2, .int (zI z.2.1)), (3, .int (zI z.2.2.1)), (4, .int (zI z.2.2.2.1)), (5, .int (zI z.2.2.2.2))] → W p l e R s m args below meth c H locs (pX z.1 - pX h0) (pS z.1 - pS h0) Q (F0 m 10 ls [])) (fun r => KP E below args s Q h0 r none)) res) : W p l e R s m args below meth c H locs (pX h - pX h0) (pS h - pS h0) Q (F0 m 218 ls [.int (zI t0)]) := by
  unfold f_X0_flush_218 at hf
  have hx := C.1
  have hb := C.2.1
  refine lv_istore_n (lv' := [(3, .int (zI t0)), (0, .ref x0), (1, .ref x1), (2, .int (zI x2)), (5, .int (zI x5)), (7, .int (zI x7))]) hx hb dX0_flush_218 rfl hl (by decide) rfl (fun ls hl => ?_)
  exact w_X0_flush_219 C hr hf hz (lv_sub hl [1, 2, 3, 0, 4, 5] rfl) hk

theorem w_X0_flush_210 {p : Program} {l : Launch} {e : Env} {R : Room} {s : State} {m : MethodId} {args : Array Value} {below : List Frame} {meth : Method} {c : Code} {Q : State → Prop} {E : PEw} {h0 h : HP} {H : Heap} {locs : List Loc} (C : PC E p s m args meth c RX0 cX0_flush 9 none "flush") (hr : 6 ≤ R.frames ∧ 135 ≤ R.locals ∧ RBw R h0) {x0 : Nat} {x1 : Nat} {x2 : Int} {x5 : Int} {x7 : Int} {res : (HP × Int × Int × Int × Int) ⊕ (HP)} (hf : f_X0_flush_210 h x0 x1 x2 x5 x7 = some res) (hz : ZP E s h0 h H locs) {ls : Array Slot} (hl : lv_has ls 9 [(0, .ref x0), (1, .ref x1), (2, .int (zI x2)), (5, .int (zI x5)), (7, .int (zI x7))]) (hk : (Sum.elim (fun z => ∀ (H : Heap) (locs : List Loc) (ls : Array Slot), ZP E s h0 z.1 H locs → lv_has ls 9 [(0, .ref x0), (1, .ref x1), (2, .int (zI z.2.1)), (3, .int (zI z.2.2.1)), (4, .int (zI z.2.2.2.1)), (5, .int (zI z.2.2.2.2))] → W p l e R s m args below meth c H locs (pX z.1 - pX h0) (pS z.1 - pS h0) Q (F0 m 10 ls [])) (fun r => KP E below args s Q h0 r none)) res) : W p l e R s m args below meth c H locs (pX h - pX h0) (pS h - pS h0) Q (F0 m 210 ls []) := by
  unfold f_X0_flush_210 at hf
  have hx := C.1
  have hb := C.2.1
  refine zl_iconst hx hb dX0_flush_210 ?_
  refine lv_goto (tgt := 218) hx hb dX0_flush_211 (by decide) ?_
  exact w_X0_flush_218 C hr hf hz (lv_sub hl [0, 1, 2, 3, 4] rfl) hk

theorem w_X0_flush_201 {p : Program} {l : Launch} {e : Env} {R : Room} {s : State} {m : MethodId} {args : Array Value} {below : List Frame} {meth : Method} {c : Code} {Q : State → Prop} {E : PEw} {h0 h : HP} {H : Heap} {locs : List Loc} (C : PC E p s m args meth c RX0 cX0_flush 9 none "flush") (hr : 6 ≤ R.frames ∧ 135 ≤ R.locals ∧ RBw R h0) {x0 : Nat} {x1 : Nat} {x2 : Int} {x3 : Int} {x4 : Int} {x5 : Int} {x7 : Int} {x8 : Int} {res : (HP × Int × Int × Int × Int) ⊕ (HP)} (hf : f_X0_flush_201 h x0 x1 x2 x3 x4 x5 x7 x8 = some res) (hz : ZP E s h0 h H locs) {ls : Array Slot} (hl : lv_has ls 9 [(0, .ref x0), (1, .ref x1), (2, .int (zI x2)), (3, .int (zI x3)), (4, .int (zI x4)), (5, .int (zI x5)), (7, .int (zI x7)), (8, .int (zI x8))]) (hk : (Sum.elim (fun z => ∀ (H : Heap) (locs : List Loc) (ls : Array Slot), ZP E s h0 z.1 H locs → lv_has ls 9 [(0, .ref x0), (1, .ref x1), (2, .int (zI z.2.1)), (3, .int (zI z.2.2.1)), (4, .int (zI z.2.2.2.1)), (5, .int (zI z.2.2.2.2))] → W p l e R s m args below meth c H locs (pX z.1 - pX h0) (pS z.1 - pS h0) Q (F0 m 10 ls [])) (fun r => KP E below args s Q h0 r none)) res) : W p l e R s m args below meth c H locs (pX h - pX h0) (pS h - pS h0) Q (F0 m 201 ls []) := by
  unfold f_X0_flush_201 at hf
  have hx := C.1
  have hb := C.2.1
  refine lv_iload_n hx hb dX0_flush_201 rfl (lv_at hl 3 rfl) ?_
  refine zl_if_lt (tgt := 210) hx hb dX0_flush_202 (by decide) (fun hc => ?_) (fun hc => ?_)
  · rw [if_pos hc] at hf
    exact w_X0_flush_210 C hr hf hz (lv_sub hl [0, 1, 2, 5, 6] rfl) hk
  · rw [if_neg hc] at hf
    refine lv_iload hx hb dX0_flush_205 (lv_at hl 7 rfl) ?_
    refine zl_if_eq (tgt := 214) hx hb dX0_flush_207 (by decide) (fun hc => ?_) (fun hc => ?_)
    · rw [if_pos hc] at hf
      refine lv_iload_n hx hb dX0_flush_214 rfl (lv_at hl 3 rfl) ?_
      refine lv_iload hx hb dX0_flush_215 (lv_at hl 4 rfl) ?_
      refine zl_iadd hx hb dX0_flush_217 ?_
      exact w_X0_flush_218 C hr hf hz (lv_sub hl [0, 1, 2, 5, 6] rfl) hk
    · rw [if_neg hc] at hf
      exact w_X0_flush_210 C hr hf hz (lv_sub hl [0, 1, 2, 5, 6] rfl) hk

theorem w_X0_flush_182 {p : Program} {l : Launch} {e : Env} {R : Room} {s : State} {m : MethodId} {args : Array Value} {below : List Frame} {meth : Method} {c : Code} {Q : State → Prop} {E : PEw} {h0 h : HP} {H : Heap} {locs : List Loc} (C : PC E p s m args meth c RX0 cX0_flush 9 none "flush") (hr : 6 ≤ R.frames ∧ 135 ≤ R.locals ∧ RBw R h0) {x0 : Nat} {x1 : Nat} {x2 : Int} {x3 : Int} {x4 : Int} {x5 : Int} {x7 : Int} {t0 : Int} {res : (HP × Int × Int × Int × Int) ⊕ (HP)} (hf : f_X0_flush_182 h x0 x1 x2 x3 x4 x5 x7 t0 = some res) (hz : ZP E s h0 h H locs) {ls : Array Slot} (hl : lv_has ls 9 [(0, .ref x0), (1, .ref x1), (2, .int (zI x2)), (3, .int (zI x3)), (4, .int (zI x4)), (5, .int (zI x5)), (7, .int (zI x7))]) (hk : (Sum.elim (fun z => ∀ (H : Heap) (locs : List Loc) (ls : Array Slot), ZP E s h0 z.1 H locs → lv_has ls 9 [(0, .ref x0), (1, .ref x1), (2, .int (zI z.2.1)), (3, .int (zI z.2.2.1)), (4, .int (zI z.2.2.2.1)), (5, .int (zI z.2.2.2.2))] → W p l e R s m args below meth c H locs (pX z.1 - pX h0) (pS z.1 - pS h0) Q (F0 m 10 ls [])) (fun r => KP E below args s Q h0 r none)) res) : W p l e R s m args below meth c H locs (pX h - pX h0) (pS h - pS h0) Q (F0 m 182 ls [.int (zI t0)]) := by
  unfold f_X0_flush_182 at hf
  have hx := C.1
  have hb := C.2.1
  refine lv_istore (lv' := [(8, .int (zI t0)), (0, .ref x0), (1, .ref x1), (2, .int (zI x2)), (3, .int (zI x3)), (4, .int (zI x4)), (5, .int (zI x5)), (7, .int (zI x7))]) hx hb dX0_flush_182 hl (by decide) rfl (fun ls hl => ?_)
  refine lv_iload hx hb dX0_flush_184 (lv_at hl 0 rfl) ?_
  refine zl_if_eq (tgt := 201) hx hb dX0_flush_186 (by decide) (fun hc => ?_) (fun hc => ?_)
  · rw [if_pos hc] at hf
    exact w_X0_flush_201 C hr hf hz (lv_sub hl [1, 2, 3, 4, 5, 6, 7, 0] rfl) hk
  · rw [if_neg hc] at hf
    refine lv_aload_n hx hb dX0_flush_189 rfl (lv_at hl 1 rfl) ?_
    refine lv_aload_n hx hb dX0_flush_190 rfl (lv_at hl 2 rfl) ?_
    refine lv_iload_n hx hb dX0_flush_191 rfl (lv_at hl 3 rfl) ?_
    refine lv_iload hx hb dX0_flush_192 (lv_at hl 6 rfl) ?_
    refine zl_iconst hx hb dX0_flush_194 ?_
    obtain ⟨y1, ey1, hf⟩ := bd_inv hf
    refine zg_callS gP C hz hr (n := 5) (rest := []) (met_X0_line l E ey1) q1013 q1014 q89 q1015 (by decide +kernel) ⟨Nat.le_trans (by decide) hr.1, Nat.le_trans (by decide) hr.2.1⟩ rfl hl.1 rfl (Nat.le_of_ble_eq_true rfl) dX0_flush_195 (fun H locs hz => ?_)
    refine lv_iload hx hb dX0_flush_198 (lv_at hl 6 rfl) ?_
    refine lv_istore_n (lv' := [(2, .int (zI x5)), (8, .int (zI t0)), (0, .ref x0), (1, .ref x1), (3, .int (zI x3)), (4, .int (zI x4)), (5, .int (zI x5)), (7, .int (zI x7))]) hx hb dX0_flush_200 rfl hl (by decide) rfl (fun ls hl => ?_)
    exact w_X0_flush_201 C hr hf hz (lv_sub hl [2, 3, 0, 4, 5, 6, 7, 1] rfl) hk

theorem w_X0_flush_181 {p : Program} {l : Launch} {e : Env} {R : Room} {s : State} {m : MethodId} {args : Array Value} {below : List Frame} {meth : Method} {c : Code} {Q : State → Prop} {E : PEw} {h0 h : HP} {H : Heap} {locs : List Loc} (C : PC E p s m args meth c RX0 cX0_flush 9 none "flush") (hr : 6 ≤ R.frames ∧ 135 ≤ R.locals ∧ RBw R h0) {x0 : Nat} {x1 : Nat} {x2 : Int} {x3 : Int} {x4 : Int} {x5 : Int} {x7 : Int} {res : (HP × Int × Int × Int × Int) ⊕ (HP)} (hf : f_X0_flush_181 h x0 x1 x2 x3 x4 x5 x7 = some res) (hz : ZP E s h0 h H locs) {ls : Array Slot} (hl : lv_has ls 9 [(0, .ref x0), (1, .ref x1), (2, .int (zI x2)), (3, .int (zI x3)), (4, .int (zI x4)), (5, .int (zI x5)), (7, .int (zI x7))]) (hk : (Sum.elim (fun z => ∀ (H : Heap) (locs : List Loc) (ls : Array Slot), ZP E s h0 z.1 H locs → lv_has ls 9 [(0, .ref x0), (1, .ref x1), (2, .int (zI z.2.1)), (3, .int (zI z.2.2.1)), (4, .int (zI z.2.2.2.1)), (5, .int (zI z.2.2.2.2))] → W p l e R s m args below meth c H locs (pX z.1 - pX h0) (pS z.1 - pS h0) Q (F0 m 10 ls [])) (fun r => KP E below args s Q h0 r none)) res) : W p l e R s m args below meth c H locs (pX h - pX h0) (pS h - pS h0) Q (F0 m 181 ls []) := by
  unfold f_X0_flush_181 at hf
  have hx := C.1
  have hb := C.2.1
  refine zl_iconst hx hb dX0_flush_181 ?_
  exact w_X0_flush_182 C hr hf hz (lv_sub hl [0, 1, 2, 3, 4, 5, 6] rfl) hk

theorem w_X0_flush_159 {p : Program} {l : Launch} {e : Env} {R : Room} {s : State} {m : MethodId} {args : Array Value} {below : List Frame} {meth : Method} {c : Code} {Q : State → Prop} {E : PEw} {h0 h : HP} {H : Heap} {locs : List Loc} (C : PC E p s m args meth c RX0 cX0_flush 9 none "flush") (hr : 6 ≤ R.frames ∧ 135 ≤ R.locals ∧ RBw R h0) {x0 : Nat} {x1 : Nat} {x2 : Int} {x3 : Int} {x4 : Int} {x5 : Int} {x6 : Int} {x7 : Int} {res : (HP × Int × Int × Int × Int) ⊕ (HP)} (hf : f_X0_flush_159 h x0 x1 x2 x3 x4 x5 x6 x7 = some res) (hz : ZP E s h0 h H locs) {ls : Array Slot} (hl : lv_has ls 9 [(0, .ref x0), (1, .ref x1), (2, .int (zI x2)), (3, .int (zI x3)), (4, .int (zI x4)), (5, .int (zI x5)), (6, .int (zI x6)), (7, .int (zI x7))]) (hk : (Sum.elim (fun z => ∀ (H : Heap) (locs : List Loc) (ls : Array Slot), ZP E s h0 z.1 H locs → lv_has ls 9 [(0, .ref x0), (1, .ref x1), (2, .int (zI z.2.1)), (3, .int (zI z.2.2.1)), (4, .int (zI z.2.2.2.1)), (5, .int (zI z.2.2.2.2))] → W p l e R s m args below meth c H locs (pX z.1 - pX h0) (pS z.1 - pS h0) Q (F0 m 10 ls [])) (fun r => KP E below args s Q h0 r none)) res) : W p l e R s m args below meth c H locs (pX h - pX h0) (pS h - pS h0) Q (F0 m 159 ls []) := by
  unfold f_X0_flush_159 at hf
  have hx := C.1
  have hb := C.2.1
  refine lv_iload_n hx hb dX0_flush_159 rfl (lv_at hl 3 rfl) ?_
  refine zl_if_lt (tgt := 181) hx hb dX0_flush_160 (by decide) (fun hc => ?_) (fun hc => ?_)
  · rw [if_pos hc] at hf
    exact w_X0_flush_181 C hr hf hz (lv_sub hl [0, 1, 2, 3, 4, 5, 7] rfl) hk
  · rw [if_neg hc] at hf
    refine lv_iload_n hx hb dX0_flush_163 rfl (lv_at hl 3 rfl) ?_
    refine lv_iload hx hb dX0_flush_164 (lv_at hl 4 rfl) ?_
    refine zl_iadd hx hb dX0_flush_166 ?_
    refine lv_iload hx hb dX0_flush_167 (lv_at hl 6 rfl) ?_
    refine zl_iadd hx hb dX0_flush_169 ?_
    refine lv_aload_n hx hb dX0_flush_170 rfl (lv_at hl 0 rfl) ?_
    obtain ⟨hg, hf⟩ := gd_inv hf
    refine zg_geti gP C hz 2 14 (gkp (by decide) hg) (by decide) (by decide) (Or.inr ⟨_, C.nw q183⟩) (fun _ h => h) dX0_flush_171 ?_
    refine zl_icmp_le (tgt := 181) hx hb dX0_flush_174 (by decide) (fun hc => ?_) (fun hc => ?_)
    · rw [if_pos hc] at hf
      refine zl_iconst hx hb dX0_flush_177 ?_
      refine lv_goto (tgt := 182) hx hb dX0_flush_178 (by decide) ?_
      exact w_X0_flush_182 C hr hf hz (lv_sub hl [0, 1, 2, 3, 4, 5, 7] rfl) hk
    · rw [if_neg hc] at hf
      exact w_X0_flush_181 C hr hf hz (lv_sub hl [0, 1, 2, 3, 4, 5, 7] rfl) hk

theorem w_X0_flush_114s {p : Program} {l : Launch} {e : Env} {R : Room} {s : State} {m : MethodId} {args : Array Value} {below : List Frame} {meth : Method} {c : Code} {Q : State → Prop} {E : PEw} {h0 h : HP} {H : Heap} {locs : List Loc} (C : PC E p s m args meth c RX0 cX0_flush 9 none "flush") (hr : 6 ≤ R.frames ∧ 135 ≤ R.locals ∧ RBw R h0) {x0 : Nat} {x1 : Nat} {x2 : Int} {x3 : Int} {x4 : Int} {x5 : Int} {x6 : Int} {x7 : Int} {res : (Int × Int) ⊕ ((HP × Int × Int × Int × Int) ⊕ (HP))} (hf : f_X0_flush_114s h x0 x1 x2 x3 x4 x5 x6 x7 = some res) (hz : ZP E s h0 h H locs) {ls : Array Slot} (hl : lv_has ls 9 [(0, .ref x0), (1, .ref x1), (2, .int (zI x2)), (3, .int (zI x3)), (4, .int (zI x4)), (5, .int (zI x5)), (6, .int (zI x6)), (7, .int (zI x7))]) (hk : (Sum.elim (fun z => ∀ (H : Heap) (locs : List Loc) (ls : Array Slot), ZP E s h0 h H locs → lv_has ls 9 [(0, .ref x0), (1, .ref x1), (2, .int (zI x2)), (3, .int (zI x3)), (4, .int (zI x4)), (5, .int (zI x5)), (6, .int (zI z.1)), (7, .int (zI z.2))] → W p l e R s m args below meth c H locs (pX h - pX h0) (pS h - pS h0) Q (F0 m 114 ls [])) (Sum.elim (fun z => ∀ (H : Heap) (locs : List Loc) (ls : Array Slot), ZP E s h0 z.1 H locs → lv_has ls 9 [(0, .ref x0), (1, .ref x1), (2, .int (zI z.2.1)), (3, .int (zI z.2.2.1)), (4, .int (zI z.2.2.2.1)), (5, .int (zI z.2.2.2.2))] → W p l e R s m args below meth c H locs (pX z.1 - pX h0) (pS z.1 - pS h0) Q (F0 m 10 ls [])) (fun r => KP E below args s Q h0 r none))) res) : W p l e R s m args below meth c H locs (pX h - pX h0) (pS h - pS h0) Q (F0 m 114 ls []) := by
  unfold f_X0_flush_114s at hf
  have hx := C.1
  have hb := C.2.1
  refine lv_iload hx hb dX0_flush_114 (lv_at hl 7 rfl) ?_
  refine lv_aload_n hx hb dX0_flush_116 rfl (lv_at hl 1 rfl) ?_
  obtain ⟨hg, hf⟩ := gd_inv hf
  refine zg_geti gP C hz 5 2 (gkp (by decide) hg) (by decide) (by decide) (Or.inr ⟨_, C.nw q310⟩) (fun _ h => h) dX0_flush_117 ?_
  refine zl_icmp_ge (tgt := 159) hx hb dX0_flush_120 (by decide) (fun hc => ?_) (fun hc => ?_)
  · rw [if_pos hc] at hf
    refine lv_aload_n hx hb dX0_flush_123 rfl (lv_at hl 1 rfl) ?_
    obtain ⟨hg, hf⟩ := gd_inv hf
    refine zg_getp gP C hz 5 0 (gkp (by decide) hg) (by decide) (by decide) (Or.inr ⟨_, C.nw q307⟩) (fun _ h => h) dX0_flush_124 ?_
    refine lv_iload hx hb dX0_flush_127 (lv_at hl 7 rfl) ?_
    obtain ⟨a1, ea1, hf⟩ := bd_inv hf
    rw [zx_rf ea1]
    obtain ⟨hg, hf⟩ := gd_inv hf
    obtain ⟨hi, hf⟩ := gd_inv hf
    refine zg_aald gP (by decide) C hz hg hi dX0_flush_129 ?_
    rcases nl_inv hf with ⟨ho, hf⟩ | ⟨a2, ho, hf⟩
    · rw [zx_nul ho]
      refine lv_ifnullN (tgt := 159) hx hb dX0_flush_130 (by decide) ?_
      obtain ⟨r0, hm0, rfl⟩ := mr_inv hf
      exact w_X0_flush_159 C hr hm0 hz (lv_sub hl [0, 1, 2, 3, 4, 5, 6, 7] rfl) hk
    · rw [zx_rf ho]
      refine lv_ifnull hx hb dX0_flush_130 ?_
      refine lv_aload_n hx hb dX0_flush_133 rfl (lv_at hl 1 rfl) ?_
      refine lv_iload hx hb dX0_flush_134 (lv_at hl 7 rfl) ?_
      obtain ⟨hg, hf⟩ := gd_inv hf
      obtain ⟨y3, ey3, hf⟩ := bd_inv hf
      refine zg_callV gP C hz hr (n := 1) (rest := []) (gkp (by decide) hg) (met_X4_blank l E ey3) q1016 q1017 (C.w q1018) q102 q1019 (by decide +kernel) ⟨Nat.le_trans (by decide) hr.1, Nat.le_trans (by decide) hr.2.1⟩ rfl hl.1 rfl (Nat.le_of_ble_eq_true rfl) dX0_flush_136 (fun H locs hz => ?_)
      refine zl_if_ne (tgt := 159) hx hb dX0_flush_139 (by decide) (fun hc => ?_) (fun hc => ?_)
      · rw [if_pos hc] at hf
        refine lv_iload hx hb dX0_flush_142 (lv_at hl 6 rfl) ?_
        refine lv_aload_n hx hb dX0_flush_144 rfl (lv_at hl 1 rfl) ?_
        refine lv_iload hx hb dX0_flush_145 (lv_at hl 7 rfl) ?_
        refine zl_iinc (x := x7) (n := 1) (lv' := [(7, .int (zI (x7 + 1))), (0, .ref x0), (1, .ref x1), (2, .int (zI x2)), (3, .int (zI x3)), (4, .int (zI x4)), (5, .int (zI x5)), (6, .int (zI x6))]) (k := 7) hx hb dX0_flush_147 hl rfl (by decide) rfl (fun ls hl => ?_)
        obtain ⟨hg, hf⟩ := gd_inv hf
        obtain ⟨y4, ey4, hf⟩ := bd_inv hf
        refine zg_callV gP C hz hr (n := 1) (rest := [.int (zI x6)]) (gkp (by decide) hg) (met_X4_size l E ey4) q1009 q1010 (C.w q1011) q102 q1012 (by decide +kernel) ⟨Nat.le_trans (by decide) hr.1, Nat.le_trans (by decide) hr.2.1⟩ rfl hl.1 rfl (Nat.le_of_ble_eq_true rfl) dX0_flush_150 (fun H locs hz => ?_)
        refine zl_iadd hx hb dX0_flush_153 ?_
        obtain ⟨y5, ey5, hf⟩ := bnd_inv hf
        refine zl_topi ey5 ?_
        refine lv_istore (lv' := [(6, .int (zI y5)), (7, .int (zI (x7 + 1))), (0, .ref x0), (1, .ref x1), (2, .int (zI x2)), (3, .int (zI x3)), (4, .int (zI x4)), (5, .int (zI x5))]) hx hb dX0_flush_154 hl (by decide) rfl (fun ls hl => ?_)
        refine lv_goto (tgt := 114) hx hb dX0_flush_156 (by decide) ?_
        obtain rfl := Option.some.inj hf
        exact hk _ _ _ hz (lv_sub hl [2, 3, 4, 5, 6, 7, 0, 1] rfl)
      · rw [if_neg hc] at hf
        obtain ⟨r0, hm0, rfl⟩ := mr_inv hf
        exact w_X0_flush_159 C hr hm0 hz (lv_sub hl [0, 1, 2, 3, 4, 5, 6, 7] rfl) hk
  · rw [if_neg hc] at hf
    obtain ⟨r0, hm0, rfl⟩ := mr_inv hf
    exact w_X0_flush_159 C hr hm0 hz (lv_sub hl [0, 1, 2, 3, 4, 5, 6, 7] rfl) hk

theorem w_X0_flush_114 {p : Program} {l : Launch} {e : Env} {R : Room} {s : State} {m : MethodId} {args : Array Value} {below : List Frame} {meth : Method} {c : Code} {Q : State → Prop} {E : PEw} {h0 h : HP} {H : Heap} {locs : List Loc} (C : PC E p s m args meth c RX0 cX0_flush 9 none "flush") (hr : 6 ≤ R.frames ∧ 135 ≤ R.locals ∧ RBw R h0) {x0 : Nat} {x1 : Nat} {x2 : Int} {x3 : Int} {x4 : Int} {x5 : Int} {x6 : Int} {x7 : Int} {res : (HP × Int × Int × Int × Int) ⊕ (HP)} (hf : f_X0_flush_114 h x0 x1 x2 x3 x4 x5 x6 x7 = some res) (hz : ZP E s h0 h H locs) {ls : Array Slot} (hl : lv_has ls 9 [(0, .ref x0), (1, .ref x1), (2, .int (zI x2)), (3, .int (zI x3)), (4, .int (zI x4)), (5, .int (zI x5)), (6, .int (zI x6)), (7, .int (zI x7))]) (hk : (Sum.elim (fun z => ∀ (H : Heap) (locs : List Loc) (ls : Array Slot), ZP E s h0 z.1 H locs → lv_has ls 9 [(0, .ref x0), (1, .ref x1), (2, .int (zI z.2.1)), (3, .int (zI z.2.2.1)), (4, .int (zI z.2.2.2.1)), (5, .int (zI z.2.2.2.2))] → W p l e R s m args below meth c H locs (pX z.1 - pX h0) (pS z.1 - pS h0) Q (F0 m 10 ls [])) (fun r => KP E below args s Q h0 r none)) res) : W p l e R s m args below meth c H locs (pX h - pX h0) (pS h - pS h0) Q (F0 m 114 ls []) := by
  unfold f_X0_flush_114 at hf
  refine iter_ind (P := fun z r => ∀ (H : Heap) (locs : List Loc) (ls : Array Slot), ZP E s h0 h H locs → lv_has ls 9 [(0, .ref x0), (1, .ref x1), (2, .int (zI x2)), (3, .int (zI x3)), (4, .int (zI x4)), (5, .int (zI x5)), (6, .int (zI z.1)), (7, .int (zI z.2))] → (Sum.elim (fun z => ∀ (H : Heap) (locs : List Loc) (ls : Array Slot), ZP E s h0 z.1 H locs → lv_has ls 9 [(0, .ref x0), (1, .ref x1), (2, .int (zI z.2.1)), (3, .int (zI z.2.2.1)), (4, .int (zI z.2.2.2.1)), (5, .int (zI z.2.2.2.2))] → W p l e R s m args below meth c H locs (pX z.1 - pX h0) (pS z.1 - pS h0) Q (F0 m 10 ls [])) (fun r => KP E below args s Q h0 r none)) r → W p l e R s m args below meth c H locs (pX h - pX h0) (pS h - pS h0) Q (F0 m 114 ls [])) ?_ ?_ hf H locs ls hz hl hk
  · intro z r h1 H locs ls hz hl hk; exact w_X0_flush_114s C hr h1 hz hl hk
  · intro z z1 r h1 ih H locs ls hz hl hk; exact w_X0_flush_114s C hr h1 hz hl (fun H locs ls hz hl => ih H locs ls hz hl hk)

theorem w_X0_flush_92 {p : Program} {l : Launch} {e : Env} {R : Room} {s : State} {m : MethodId} {args : Array Value} {below : List Frame} {meth : Method} {c : Code} {Q : State → Prop} {E : PEw} {h0 h : HP} {H : Heap} {locs : List Loc} (C : PC E p s m args meth c RX0 cX0_flush 9 none "flush") (hr : 6 ≤ R.frames ∧ 135 ≤ R.locals ∧ RBw R h0) {x0 : Nat} {x1 : Nat} {x2 : Int} {x3 : Int} {x5 : Int} {t0 : Int} {res : (HP × Int × Int × Int × Int) ⊕ (HP)} (hf : f_X0_flush_92 h x0 x1 x2 x3 x5 t0 = some res) (hz : ZP E s h0 h H locs) {ls : Array Slot} (hl : lv_has ls 9 [(0, .ref x0), (1, .ref x1), (2, .int (zI x2)), (3, .int (zI x3)), (5, .int (zI x5))]) (hk : (Sum.elim (fun z => ∀ (H : Heap) (locs : List Loc) (ls : Array Slot), ZP E s h0 z.1 H locs → lv_has ls 9 [(0, .ref x0), (1, .ref x1), (2, .int (zI z.2.1)), (3, .int (zI z.2.2.1)), (4, .int (zI z.2.2.2.1)), (5, .int (zI z.2.2.2.2))] → W p l e R s m args below meth c H locs (pX z.1 - pX h0) (pS z.1 - pS h0) Q (F0 m 10 ls [])) (fun r => KP E below args s Q h0 r none)) res) : W p l e R s m args below meth c H locs (pX h - pX h0) (pS h - pS h0) Q (F0 m 92 ls [.int (zI t0)]) := by
  unfold f_X0_flush_92 at hf
  have hx := C.1
  have hb := C.2.1
  refine lv_istore (lv' := [(4, .int (zI t0)), (0, .ref x0), (1, .ref x1), (2, .int (zI x2)), (3, .int (zI x3)), (5, .int (zI x5))]) hx hb dX0_flush_92 hl (by decide) rfl (fun ls hl => ?_)
  refine lv_aload_n hx hb dX0_flush_94 rfl (lv_at hl 2 rfl) ?_
  refine lv_iload hx hb dX0_flush_95 (lv_at hl 5 rfl) ?_
  refine zl_iconst hx hb dX0_flush_97 ?_
  obtain ⟨hg, hf⟩ := gd_inv hf
  obtain ⟨y1, ey1, hf⟩ := bd_inv hf
  refine zg_callV gP C hz hr (n := 2) (rest := []) (gkp (by decide) hg) (met_X4_put l E ey1) q1026 q1027 (C.w q1028) q102 q1029 (by decide +kernel) ⟨Nat.le_trans (by decide) hr.1, Nat.le_trans (by decide) hr.2.1⟩ rfl hl.1 rfl (Nat.le_of_ble_eq_true rfl) dX0_flush_98 (fun H locs hz => ?_)
  refine zl_iinc (x := x5) (n := 1) (lv' := [(5, .int (zI (x5 + 1))), (4, .int (zI t0)), (0, .ref x0), (1, .ref x1), (2, .int (zI x2)), (3, .int (zI x3))]) (k := 5) hx hb dX0_flush_101 hl rfl (by decide) rfl (fun ls hl => ?_)
  refine lv_goto (tgt := 10) hx hb dX0_flush_104 (by decide) ?_
  obtain rfl := Option.some.inj hf
  exact hk _ _ _ hz (lv_sub hl [2, 3, 4, 5, 1, 0] rfl)

theorem w_X0_flush_269 {p : Program} {l : Launch} {e : Env} {R : Room} {s : State} {m : MethodId} {args : Array Value} {below : List Frame} {meth : Method} {c : Code} {Q : State → Prop} {E : PEw} {h0 h : HP} {H : Heap} {locs : List Loc} (C : PC E p s m args meth c RX0 cX0_flush 9 none "flush") (hr : 6 ≤ R.frames ∧ 135 ≤ R.locals ∧ RBw R h0) {x1 : Nat} {res : HP} (hf : f_X0_flush_269 h x1 = some res) (hz : ZP E s h0 h H locs) {ls : Array Slot} (hl : lv_has ls 9 [(1, .ref x1)]) (hk : KP E below args s Q h0 res none) : W p l e R s m args below meth c H locs (pX h - pX h0) (pS h - pS h0) Q (F0 m 269 ls []) := by
  unfold f_X0_flush_269 at hf
  have hx := C.1
  have hb := C.2.1
  refine lv_aload_n hx hb dX0_flush_269 rfl (lv_at hl 0 rfl) ?_
  refine zl_iconst hx hb dX0_flush_270 ?_
  obtain ⟨hg, hf⟩ := gd_inv hf
  obtain ⟨h1, eh1, hf⟩ := bnd_inv hf
  refine zg_puti gP C hz 5 2 (gkp (by decide) hg) (by decide) (by decide) rfl (by decide) (Or.inr ⟨_, C.nw q310⟩) (fun _ h => h) dX0_flush_271 eh1 (fun H locs hz => ?_)
  obtain rfl := Option.some.inj hf
  exact zg_vret C hz hk dX0_flush_274

theorem w_X0_flush_254 {p : Program} {l : Launch} {e : Env} {R : Room} {s : State} {m : MethodId} {args : Array Value} {below : List Frame} {meth : Method} {c : Code} {Q : State → Prop} {E : PEw} {h0 h : HP} {H : Heap} {locs : List Loc} (C : PC E p s m args meth c RX0 cX0_flush 9 none "flush") (hr : 6 ≤ R.frames ∧ 135 ≤ R.locals ∧ RBw R h0) {x0 : Nat} {x1 : Nat} {x2 : Int} {x3 : Int} {res : HP} (hf : f_X0_flush_254 h x0 x1 x2 x3 = some res) (hz : ZP E s h0 h H locs) {ls : Array Slot} (hl : lv_has ls 9 [(0, .ref x0), (1, .ref x1), (2, .int (zI x2)), (3, .int (zI x3))]) (hk : KP E below args s Q h0 res none) : W p l e R s m args below meth c H locs (pX h - pX h0) (pS h - pS h0) Q (F0 m 254 ls []) := by
  unfold f_X0_flush_254 at hf
  have hx := C.1
  have hb := C.2.1
  refine lv_iload_n hx hb dX0_flush_254 rfl (lv_at hl 3 rfl) ?_
  refine zl_if_lt (tgt := 269) hx hb dX0_flush_255 (by decide) (fun hc => ?_) (fun hc => ?_)
  · rw [if_pos hc] at hf
    exact w_X0_flush_269 C hr hf hz (lv_sub hl [1] rfl) hk
  · rw [if_neg hc] at hf
    refine lv_aload_n hx hb dX0_flush_258 rfl (lv_at hl 0 rfl) ?_
    refine lv_aload_n hx hb dX0_flush_259 rfl (lv_at hl 1 rfl) ?_
    refine lv_iload_n hx hb dX0_flush_260 rfl (lv_at hl 2 rfl) ?_
    refine lv_aload_n hx hb dX0_flush_261 rfl (lv_at hl 1 rfl) ?_
    obtain ⟨hg, hf⟩ := gd_inv hf
    refine zg_geti gP C hz 5 2 (gkp (by decide) hg) (by decide) (by decide) (Or.inr ⟨_, C.nw q310⟩) (fun _ h => h) dX0_flush_262 ?_
    refine zl_iconst hx hb dX0_flush_265 ?_
    obtain ⟨y1, ey1, hf⟩ := bd_inv hf
    refine zg_callS gP C hz hr (n := 5) (rest := []) (met_X0_line l E ey1) q1013 q1014 q89 q1015 (by decide +kernel) ⟨Nat.le_trans (by decide) hr.1, Nat.le_trans (by decide) hr.2.1⟩ rfl hl.1 rfl (Nat.le_of_ble_eq_true rfl) dX0_flush_266 (fun H locs hz => ?_)
    exact w_X0_flush_269 C hr hf hz (lv_sub hl [1] rfl) hk

theorem w_X0_flush_10s {p : Program} {l : Launch} {e : Env} {R : Room} {s : State} {m : MethodId} {args : Array Value} {below : List Frame} {meth : Method} {c : Code} {Q : State → Prop} {E : PEw} {h0 h : HP} {H : Heap} {locs : List Loc} (C : PC E p s m args meth c RX0 cX0_flush 9 none "flush") (hr : 6 ≤ R.frames ∧ 135 ≤ R.locals ∧ RBw R h0) {x0 : Nat} {x1 : Nat} {x2 : Int} {x3 : Int} {x4 : Int} {x5 : Int} {res : (HP × Int × Int × Int × Int) ⊕ (HP)} (hf : f_X0_flush_10s h x0 x1 x2 x3 x4 x5 = some res) (hz : ZP E s h0 h H locs) {ls : Array Slot} (hl : lv_has ls 9 [(0, .ref x0), (1, .ref x1), (2, .int (zI x2)), (3, .int (zI x3)), (4, .int (zI x4)), (5, .int (zI x5))]) (hk : (Sum.elim (fun z => ∀ (H : Heap) (locs : List Loc) (ls : Array Slot), ZP E s h0 z.1 H locs → lv_has ls 9 [(0, .ref x0), (1, .ref x1), (2, .int (zI z.2.1)), (3, .int (zI z.2.2.1)), (4, .int (zI z.2.2.2.1)), (5, .int (zI z.2.2.2.2))] → W p l e R s m args below meth c H locs (pX z.1 - pX h0) (pS z.1 - pS h0) Q (F0 m 10 ls [])) (fun r => KP E below args s Q h0 r none)) res) : W p l e R s m args below meth c H locs (pX h - pX h0) (pS h - pS h0) Q (F0 m 10 ls []) := by
  unfold f_X0_flush_10s at hf
  have hx := C.1
  have hb := C.2.1
  refine lv_iload hx hb dX0_flush_10 (lv_at hl 5 rfl) ?_
  refine lv_aload_n hx hb dX0_flush_12 rfl (lv_at hl 1 rfl) ?_
  obtain ⟨hg, hf⟩ := gd_inv hf
  refine zg_geti gP C hz 5 2 (gkp (by decide) hg) (by decide) (by decide) (Or.inr ⟨_, C.nw q310⟩) (fun _ h => h) dX0_flush_13 ?_
  refine zl_icmp_ge (tgt := 254) hx hb dX0_flush_16 (by decide) (fun hc => ?_) (fun hc => ?_)
  · rw [if_pos hc] at hf
    refine lv_aload_n hx hb dX0_flush_19 rfl (lv_at hl 1 rfl) ?_
    obtain ⟨hg, hf⟩ := gd_inv hf
    refine zg_getp gP C hz 5 0 (gkp (by decide) hg) (by decide) (by decide) (Or.inr ⟨_, C.nw q307⟩) (fun _ h => h) dX0_flush_20 ?_
    refine lv_iload hx hb dX0_flush_23 (lv_at hl 5 rfl) ?_
    obtain ⟨a1, ea1, hf⟩ := bd_inv hf
    rw [zx_rf ea1]
    obtain ⟨hg, hf⟩ := gd_inv hf
    obtain ⟨hi, hf⟩ := gd_inv hf
    refine zg_aald gP (by decide) C hz hg hi dX0_flush_25 ?_
    rcases nl_inv hf with ⟨ho, hf⟩ | ⟨a2, ho, hf⟩
    · rw [zx_nul ho]
      refine lv_ifnonnullN hx hb dX0_flush_26 ?_
      refine lv_aload_n hx hb dX0_flush_29 rfl (lv_at hl 0 rfl) ?_
      refine lv_aload_n hx hb dX0_flush_30 rfl (lv_at hl 1 rfl) ?_
      refine lv_iload_n hx hb dX0_flush_31 rfl (lv_at hl 2 rfl) ?_
      refine lv_iload hx hb dX0_flush_32 (lv_at hl 5 rfl) ?_
      refine lv_iload_n hx hb dX0_flush_34 rfl (lv_at hl 3 rfl) ?_
      refine zl_if_lt (tgt := 42) hx hb dX0_flush_35 (by decide) (fun hc => ?_) (fun hc => ?_)
      · rw [if_pos hc] at hf
        refine lv_aload_n hx hb dX0_flush_42 rfl (lv_at hl 1 rfl) ?_
        refine lv_iload hx hb dX0_flush_43 (lv_at hl 5 rfl) ?_
        obtain ⟨hg, hf⟩ := gd_inv hf
        obtain ⟨y3, ey3, hf⟩ := bd_inv hf
        refine zg_callV gP C hz hr (n := 1) (rest := [.int (zI x5), .int (zI x2), .ref x1, .ref x0]) (gkp (by decide) hg) (met_X4_size l E ey3) q1009 q1010 (C.w q1011) q102 q1012 (by decide +kernel) ⟨Nat.le_trans (by decide) hr.1, Nat.le_trans (by decide) hr.2.1⟩ rfl hl.1 rfl (Nat.le_of_ble_eq_true rfl) dX0_flush_45 (fun H locs hz => ?_)
        exact w_X0_flush_48 C hr hf hz (lv_sub hl [0, 1, 5] rfl) hk
      · rw [if_neg hc] at hf
        refine zl_iconst hx hb dX0_flush_38 ?_
        refine lv_goto (tgt := 48) hx hb dX0_flush_39 (by decide) ?_
        exact w_X0_flush_48 C hr hf hz (lv_sub hl [0, 1, 5] rfl) hk
    · rw [zx_rf ho]
      refine lv_ifnonnull (tgt := 67) hx hb dX0_flush_26 (by decide) ?_
      refine lv_aload_n hx hb dX0_flush_67 rfl (lv_at hl 1 rfl) ?_
      refine lv_iload hx hb dX0_flush_68 (lv_at hl 5 rfl) ?_
      obtain ⟨hg, hf⟩ := gd_inv hf
      obtain ⟨y4, ey4, hf⟩ := bd_inv hf
      refine zg_callV gP C hz hr (n := 1) (rest := []) (gkp (by decide) hg) (met_X4_blank l E ey4) q1016 q1017 (C.w q1018) q102 q1019 (by decide +kernel) ⟨Nat.le_trans (by decide) hr.1, Nat.le_trans (by decide) hr.2.1⟩ rfl hl.1 rfl (Nat.le_of_ble_eq_true rfl) dX0_flush_70 (fun H locs hz => ?_)
      refine zl_if_eq (tgt := 107) hx hb dX0_flush_73 (by decide) (fun hc => ?_) (fun hc => ?_)
      · rw [if_pos hc] at hf
        refine zl_iconst hx hb dX0_flush_107 ?_
        refine lv_istore (lv' := [(6, .int (zI 0)), (0, .ref x0), (1, .ref x1), (2, .int (zI x2)), (3, .int (zI x3)), (4, .int (zI x4)), (5, .int (zI x5))]) hx hb dX0_flush_108 hl (by decide) rfl (fun ls hl => ?_)
        refine lv_iload hx hb dX0_flush_110 (lv_at hl 6 rfl) ?_
        refine lv_istore (lv' := [(7, .int (zI x5)), (6, .int (zI 0)), (0, .ref x0), (1, .ref x1), (2, .int (zI x2)), (3, .int (zI x3)), (4, .int (zI x4)), (5, .int (zI x5))]) hx hb dX0_flush_112 hl (by decide) rfl (fun ls hl => ?_)
        exact w_X0_flush_114 C hr hf hz (lv_sub hl [2, 3, 4, 5, 6, 7, 1, 0] rfl) hk
      · rw [if_neg hc] at hf
        refine lv_iload hx hb dX0_flush_76 (lv_at hl 4 rfl) ?_
        refine zl_if_ge (tgt := 90) hx hb dX0_flush_78 (by decide) (fun hc => ?_) (fun hc => ?_)
        · rw [if_pos hc] at hf
          refine lv_aload_n hx hb dX0_flush_81 rfl (lv_at hl 1 rfl) ?_
          refine lv_iload hx hb dX0_flush_82 (lv_at hl 5 rfl) ?_
          obtain ⟨hg, hf⟩ := gd_inv hf
          obtain ⟨y5, ey5, hf⟩ := bd_inv hf
          refine zg_callV gP C hz hr (n := 1) (rest := []) (gkp (by decide) hg) (met_X4_size l E ey5) q1009 q1010 (C.w q1011) q102 q1012 (by decide +kernel) ⟨Nat.le_trans (by decide) hr.1, Nat.le_trans (by decide) hr.2.1⟩ rfl hl.1 rfl (Nat.le_of_ble_eq_true rfl) dX0_flush_84 (fun H locs hz => ?_)
          refine lv_goto (tgt := 92) hx hb dX0_flush_87 (by decide) ?_
          exact w_X0_flush_92 C hr hf hz (lv_sub hl [0, 1, 2, 3, 5] rfl) hk
        · rw [if_neg hc] at hf
          refine lv_iload hx hb dX0_flush_90 (lv_at hl 4 rfl) ?_
          exact w_X0_flush_92 C hr hf hz (lv_sub hl [0, 1, 2, 3, 5] rfl) hk
  · rw [if_neg hc] at hf
    obtain ⟨r0, hm0, rfl⟩ := mr_inv hf
    exact w_X0_flush_254 C hr hm0 hz (lv_sub hl [0, 1, 2, 3] rfl) hk

theorem w_X0_flush_10 {p : Program} {l : Launch} {e : Env} {R : Room} {s : State} {m : MethodId} {args : Array Value} {below : List Frame} {meth : Method} {c : Code} {Q : State → Prop} {E : PEw} {h0 h : HP} {H : Heap} {locs : List Loc} (C : PC E p s m args meth c RX0 cX0_flush 9 none "flush") (hr : 6 ≤ R.frames ∧ 135 ≤ R.locals ∧ RBw R h0) {x0 : Nat} {x1 : Nat} {x2 : Int} {x3 : Int} {x4 : Int} {x5 : Int} {res : HP} (hf : f_X0_flush_10 h x0 x1 x2 x3 x4 x5 = some res) (hz : ZP E s h0 h H locs) {ls : Array Slot} (hl : lv_has ls 9 [(0, .ref x0), (1, .ref x1), (2, .int (zI x2)), (3, .int (zI x3)), (4, .int (zI x4)), (5, .int (zI x5))]) (hk : KP E below args s Q h0 res none) : W p l e R s m args below meth c H locs (pX h - pX h0) (pS h - pS h0) Q (F0 m 10 ls []) := by
  unfold f_X0_flush_10 at hf
  refine iter_ind (P := fun z r => ∀ (H : Heap) (locs : List Loc) (ls : Array Slot), ZP E s h0 z.1 H locs → lv_has ls 9 [(0, .ref x0), (1, .ref x1), (2, .int (zI z.2.1)), (3, .int (zI z.2.2.1)), (4, .int (zI z.2.2.2.1)), (5, .int (zI z.2.2.2.2))] → KP E below args s Q h0 r none → W p l e R s m args below meth c H locs (pX z.1 - pX h0) (pS z.1 - pS h0) Q (F0 m 10 ls [])) ?_ ?_ hf H locs ls hz hl hk
  · intro z r h1 H locs ls hz hl hk; exact w_X0_flush_10s C hr h1 hz hl hk
  · intro z z1 r h1 ih H locs ls hz hl hk; exact w_X0_flush_10s C hr h1 hz hl (fun H locs ls hz hl => ih H locs ls hz hl hk)

theorem w_X0_flush {p : Program} {l : Launch} {e : Env} {R : Room} {s : State} {m : MethodId} {args : Array Value} {below : List Frame} {meth : Method} {c : Code} {Q : State → Prop} {E : PEw} {h0 h : HP} {H : Heap} {locs : List Loc} (C : PC E p s m args meth c RX0 cX0_flush 9 none "flush") (hr : 6 ≤ R.frames ∧ 135 ≤ R.locals ∧ RBw R h0) {x0 : Nat} {x1 : Nat} {res : HP} (hf : f_X0_flush h x0 x1 = some res) (hz : ZP E s h0 h H locs) {ls : Array Slot} (hl : lv_has ls 9 [(0, .ref x0), (1, .ref x1)]) (hk : KP E below args s Q h0 res none) : W p l e R s m args below meth c H locs (pX h - pX h0) (pS h - pS h0) Q (F0 m 0 ls []) := by
  unfold f_X0_flush at hf
  have hx := C.1
  have hb := C.2.1
  refine zl_iconst hx hb dX0_flush_0 ?_
  refine lv_istore_n (lv' := [(2, .int (zI 0)), (0, .ref x0), (1, .ref x1)]) hx hb dX0_flush_1 rfl hl (by decide) rfl (fun ls hl => ?_)
  refine zl_iconst hx hb dX0_flush_2 ?_
  refine lv_istore_n (lv' := [(3, .int (zI (-1))), (2, .int (zI 0)), (0, .ref x0), (1, .ref x1)]) hx hb dX0_flush_3 rfl hl (by decide) rfl (fun ls hl => ?_)
  refine zl_iconst hx hb dX0_flush_4 ?_
  refine lv_istore (lv' := [(4, .int (zI (-1))), (3, .int (zI (-1))), (2, .int (zI 0)), (0, .ref x0), (1, .ref x1)]) hx hb dX0_flush_5 hl (by decide) rfl (fun ls hl => ?_)
  refine zl_iconst hx hb dX0_flush_7 ?_
  refine lv_istore (lv' := [(5, .int (zI 0)), (4, .int (zI (-1))), (3, .int (zI (-1))), (2, .int (zI 0)), (0, .ref x0), (1, .ref x1)]) hx hb dX0_flush_8 hl (by decide) rfl (fun ls hl => ?_)
  exact w_X0_flush_10 C hr hf hz (lv_sub hl [4, 5, 3, 2, 1, 0] rfl) hk

theorem met_X0_flush (l : Launch) (E : PEw) {h : HP} {x0 : Nat} {x1 : Nat} {res : HP} (hf : f_X0_flush h x0 x1 = some res) : Met l yX0_flush (ws_ yX0_flush cX0_flush 9 none) (rmP h 6 135) (PP E h [.ref x0, .ref x1]) (QP E h res none) (pX res - pX h) (pS res - pS h) (eF E) := by
  refine Met.ofW (cc := cX0_flush) (maxL := 9) (ret := none) (by decide) rfl ?_
  intro p e s m args below meth c s₁ B hml hv
  obtain ⟨rfl, hP0⟩ := hv
  have hts := atoms_spec (ws := ws_ yX0_flush cX0_flush 9 none) B.pre
  have hts : ∀ w ∈ lw_all, w.before _ s = true := fun w h => hts w (List.mem_cons_of_mem _ h)
  have C : PC E p s m _ meth c RX0 cX0_flush 9 none "flush" := ⟨B.exec, B.bytes, B.returns, B.notSynchronized, hml, findClass_of_methodNamed B.named, hts, hP0.2, (name_of_methodNamed B.named B.method).1⟩
  have hz : ZP E s h h s.heap [] := ZG.start hP0.1
  have hl := lv_entry ([.ref x0, .ref x1]) (n := 9) (Nat.le_of_ble_eq_true rfl)
  rw [lg_entry_eq]
  generalize (lg_sl ([.ref x0, .ref x1]) ++ List.replicate (9 - (lg_sl ([.ref x0, .ref x1])).length) Slot.unset).toArray = ls at hl ⊢
  have hl : lv_has ls 9 [(0, .ref x0), (1, .ref x1)] := hl
  refine W.cs (cells' := pX h - pX h) (slots' := pS h - pS h) (Nat.sub_self _).symm (Nat.sub_self _).symm ?_
  exact w_X0_flush C ⟨Nat.le_refl _, Nat.le_refl _, RBw.rm⟩ hf hz hl rfl

theorem w_X2_goOn {p : Program} {l : Launch} {e : Env} {R : Room} {s : State} {m : MethodId} {args : Array Value} {below : List Frame} {meth : Method} {c : Code} {Q : State → Prop} {E : PEw} {h0 h : HP} {H : Heap} {locs : List Loc} (C : PC E p s m args meth c RX2 cX2_goOn 2 none "goOn") (hr : 0 ≤ R.frames ∧ 0 ≤ R.locals ∧ RBw R h0) {x0 : Nat} {x1 : Nat} {res : HP} (hf : f_X2_goOn h x0 x1 = some res) (hz : ZP E s h0 h H locs) {ls : Array Slot} (hl : lv_has ls 2 [(0, .ref x0), (1, .ref x1)]) (hk : KP E below args s Q h0 res none) : W p l e R s m args below meth c H locs (pX h - pX h0) (pS h - pS h0) Q (F0 m 0 ls []) := by
  unfold f_X2_goOn at hf
  have hx := C.1
  have hb := C.2.1
  refine lv_aload_n hx hb dX2_goOn_0 rfl (lv_at hl 0 rfl) ?_
  refine lv_aload_n hx hb dX2_goOn_1 rfl (lv_at hl 1 rfl) ?_
  obtain ⟨hg, hf⟩ := gd_inv hf
  refine zg_geti gP C hz 2 10 (gkp (by decide) hg) (by decide) (by decide) (Or.inl (C.w q177)) (fun _ h => h) dX2_goOn_2 ?_
  refine lv_aload_n hx hb dX2_goOn_5 rfl (lv_at hl 1 rfl) ?_
  obtain ⟨hg, hf⟩ := gd_inv hf
  refine zg_geti gP C hz 2 12 (gkp (by decide) hg) (by decide) (by decide) (Or.inl (C.w q180)) (fun _ h => h) dX2_goOn_6 ?_
  refine zl_iadd hx hb dX2_goOn_9 ?_
  obtain ⟨hg, hf⟩ := gd_inv hf
  obtain ⟨h1, eh1, hf⟩ := bnd_inv hf
  refine zg_puti gP C hz 2 15 (gkp (by decide) hg) (by decide) (by decide) rfl (by decide) (Or.inl (C.w q184)) (fun _ h => h) dX2_goOn_10 eh1 (fun H locs hz => ?_)
  refine lv_aload_n hx hb dX2_goOn_13 rfl (lv_at hl 0 rfl) ?_
  refine lv_aload_n hx hb dX2_goOn_14 rfl (lv_at hl 1 rfl) ?_
  obtain ⟨hg, hf⟩ := gd_inv hf
  refine zg_getp gP C hz 2 7 (gkp (by decide) hg) (by decide) (by decide) (Or.inl (C.w q171)) (fun _ h => h) dX2_goOn_15 ?_
  refine zl_iconst hx hb dX2_goOn_18 ?_
  obtain ⟨a2, ea2, hf⟩ := bd_inv hf
  rw [zx_rf ea2]
  obtain ⟨hg, hf⟩ := gd_inv hf
  obtain ⟨hi, hf⟩ := gd_inv hf
  refine zg_iald gP C hz hg hi dX2_goOn_19 ?_
  obtain ⟨hg, hf⟩ := gd_inv hf
  obtain ⟨h3, eh3, hf⟩ := bnd_inv hf
  refine zg_puti gP C hz 2 16 (gkp (by decide) hg) (by decide) (by decide) rfl (by decide) (Or.inl (C.w q186)) (fun _ h => h) dX2_goOn_20 eh3 (fun H locs hz => ?_)
  obtain rfl := Option.some.inj hf
  exact zg_vret C hz hk dX2_goOn_23

theorem met_X2_goOn (l : Launch) (E : PEw) {h : HP} {x0 : Nat} {x1 : Nat} {res : HP} (hf : f_X2_goOn h x0 x1 = some res) : Met l yX2_goOn (ws_ yX2_goOn cX2_goOn 2 none) (rmP h 0 0) (PP E h [.ref x0, .ref x1]) (QP E h res none) (pX res - pX h) (pS res - pS h) (eF E) := by
  refine Met.ofW (cc := cX2_goOn) (maxL := 2) (ret := none) (by decide) rfl ?_
  intro p e s m args below meth c s₁ B hml hv
  obtain ⟨rfl, hP0⟩ := hv
  have hts := atoms_spec (ws := ws_ yX2_goOn cX2_goOn 2 none) B.pre
  have hts : ∀ w ∈ lw_all, w.before _ s = true := fun w h => hts w (List.mem_cons_of_mem _ h)
  have C : PC E p s m _ meth c RX2 cX2_goOn 2 none "goOn" := ⟨B.exec, B.bytes, B.returns, B.notSynchronized, hml, findClass_of_methodNamed B.named, hts, hP0.2, (name_of_methodNamed B.named B.method).1⟩
  have hz : ZP E s h h s.heap [] := ZG.start hP0.1
  have hl := lv_entry ([.ref x0, .ref x1]) (n := 2) (Nat.le_of_ble_eq_true rfl)
  rw [lg_entry_eq]
  generalize (lg_sl ([.ref x0, .ref x1]) ++ List.replicate (2 - (lg_sl ([.ref x0, .ref x1])).length) Slot.unset).toArray = ls at hl ⊢
  have hl : lv_has ls 2 [(0, .ref x0), (1, .ref x1)] := hl
  refine W.cs (cells' := pX h - pX h) (slots' := pS h - pS h) (Nat.sub_self _).symm (Nat.sub_self _).symm ?_
  exact w_X2_goOn C ⟨Nat.le_refl _, Nat.le_refl _, RBw.rm⟩ hf hz hl rfl

def RK_lay (l : Launch) (E : PEw) (N : Nat) (rc : RC_lay) : Prop := (∀ {h : HP} {x0 : Nat} {x1 : Int} {x2 : Int} {x3 : Int} {x4 : Nat} {res : HP}, rc.1 h x0 x1 x2 x3 x4 = some res → Met l yX0_lay (ws_ yX0_lay cX0_lay 10 none) (rmP h (7 * N) (163 * N)) (PP E h [.ref x0, .int (zI x1), .int (zI x2), .int (zI x3), .ref x4]) (QP E h res none) (pX res - pX h) (pS res - pS h) (eF E)) ∧ (∀ {h : HP} {x0 : Nat} {x1 : Nat} {res : HP}, rc.2.1 h x0 x1 = some res → Met l yX0_side (ws_ yX0_side cX0_side 9 none) (rmP h (7 * N) (163 * N)) (PP E h [.ref x0, .ref x1]) (QP E h res none) (pX res - pX h) (pS res - pS h) (eF E)) ∧ (∀ {h : HP} {x0 : Nat} {x1 : Nat} {x2 : Nat} {res : HP}, rc.2.2 h x0 x1 x2 = some res → Met l yX0_gather (ws_ yX0_gather cX0_gather 5 none) (rmP h (7 * N) (163 * N)) (PP E h [.ref x0, .ref x1, .ref x2]) (QP E h res none) (pX res - pX h) (pS res - pS h) (eF E))
theorem w_X0_lay_252 {p : Program} {l : Launch} {e : Env} {R : Room} {s : State} {m : MethodId} {args : Array Value} {below : List Frame} {meth : Method} {c : Code} {Q : State → Prop} {E : PEw} {h0 h : HP} {H : Heap} {locs : List Loc} {rc : RC_lay} (C : PC E p s m args meth c RX0 cX0_lay 10 none "lay") {N : Nat} (hrc : RK_lay l E N rc) (hr : 7 * (N + 1) ≤ R.frames ∧ 163 * (N + 1) ≤ R.locals ∧ RBw R h0) {x0 : Nat} {x2 : Int} {x4 : Nat} {x6 : Int} {x8 : Int} {res : (HP × Int) ⊕ (HP)} (hf : f_X0_lay_252 rc h x0 x2 x4 x6 x8 = some res) (hz : ZP E s h0 h H locs) {ls : Array Slot} (hl : lv_has ls 10 [(0, .ref x0), (2, .int (zI x2)), (4, .ref x4), (6, .int (zI x6)), (8, .int (zI x8))]) (hk : (Sum.elim (fun z => ∀ (H : Heap) (locs : List Loc) (ls : Array Slot), ZP E s h0 z.1 H locs → lv_has ls 10 [(0, .ref x0), (2, .int (zI x2)), (4, .ref x4), (6, .int (zI x6)), (8, .int (zI z.2))] → W p l e R s m args below meth c H locs (pX z.1 - pX h0) (pS z.1 - pS h0) Q (F0 m 148 ls [])) (fun r => KP E below args s Q h0 r none)) res) : W p l e R s m args below meth c H locs (pX h - pX h0) (pS h - pS h0) Q (F0 m 252 ls []) := by
  unfold f_X0_lay_252 at hf
  have hx := C.1
  have hb := C.2.1
  refine zl_iinc (x := x8) (n := 1) (lv' := [(8, .int (zI (x8 + 1))), (0, .ref x0), (2, .int (zI x2)), (4, .ref x4), (6, .int (zI x6))]) (k := 4) hx hb dX0_lay_252 hl rfl (by decide) rfl (fun ls hl => ?_)
  refine lv_goto (tgt := 148) hx hb dX0_lay_255 (by decide) ?_
  obtain rfl := Option.some.inj hf
  exact hk _ _ _ hz (lv_sub hl [1, 2, 3, 4, 0] rfl)

theorem w_X0_lay_264 {p : Program} {l : Launch} {e : Env} {R : Room} {s : State} {m : MethodId} {args : Array Value} {below : List Frame} {meth : Method} {c : Code} {Q : State → Prop} {E : PEw} {h0 h : HP} {H : Heap} {locs : List Loc} {rc : RC_lay} (C : PC E p s m args meth c RX0 cX0_lay 10 none "lay") {N : Nat} (hrc : RK_lay l E N rc) (hr : 7 * (N + 1) ≤ R.frames ∧ 163 * (N + 1) ≤ R.locals ∧ RBw R h0) {x0 : Nat} {x2 : Int} {x6 : Int} {res : HP} (hf : f_X0_lay_264 rc h x0 x2 x6 = some res) (hz : ZP E s h0 h H locs) {ls : Array Slot} (hl : lv_has ls 10 [(0, .ref x0), (2, .int (zI x2)), (6, .int (zI x6))]) (hk : KP E below args s Q h0 res none) : W p l e R s m args below meth c H locs (pX h - pX h0) (pS h - pS h0) Q (F0 m 264 ls []) := by
  unfold f_X0_lay_264 at hf
  have hx := C.1
  have hb := C.2.1
  refine lv_aload_n hx hb dX0_lay_264 rfl (lv_at hl 0 rfl) ?_
  refine lv_aload_n hx hb dX0_lay_265 rfl (lv_at hl 0 rfl) ?_
  obtain ⟨hg, hf⟩ := gd_inv hf
  refine zg_geti gP C hz 2 15 (gkp (by decide) hg) (by decide) (by decide) (Or.inr ⟨_, C.nw q185⟩) (fun _ h => h) dX0_lay_266 ?_
  refine lv_aload_n hx hb dX0_lay_269 rfl (lv_at hl 0 rfl) ?_
  obtain ⟨hg, hf⟩ := gd_inv hf
  refine zg_geti gP C hz 2 16 (gkp (by decide) hg) (by decide) (by decide) (Or.inr ⟨_, C.nw q187⟩) (fun _ h => h) dX0_lay_270 ?_
  refine zl_iadd hx hb dX0_lay_273 ?_
  refine lv_iload hx hb dX0_lay_274 (lv_at hl 2 rfl) ?_
  refine zl_iadd hx hb dX0_lay_276 ?_
  refine lv_iload_n hx hb dX0_lay_277 rfl (lv_at hl 1 rfl) ?_
  refine zl_isub hx hb dX0_lay_278 ?_
  obtain ⟨hg, hf⟩ := gd_inv hf
  obtain ⟨h1, eh1, hf⟩ := bnd_inv hf
  refine zg_puti gP C hz 2 12 (gkp (by decide) hg) (by decide) (by decide) rfl (by decide) (Or.inr ⟨_, C.nw q181⟩) (fun _ h => h) dX0_lay_279 eh1 (fun H locs hz => ?_)
  obtain rfl := Option.some.inj hf
  exact zg_vret C hz hk dX0_lay_282

theorem w_X0_lay_258 {p : Program} {l : Launch} {e : Env} {R : Room} {s : State} {m : MethodId} {args : Array Value} {below : List Frame} {meth : Method} {c : Code} {Q : State → Prop} {E : PEw} {h0 h : HP} {H : Heap} {locs : List Loc} {rc : RC_lay} (C : PC E p s m args meth c RX0 cX0_lay 10 none "lay") {N : Nat} (hrc : RK_lay l E N rc) (hr : 7 * (N + 1) ≤ R.frames ∧ 163 * (N + 1) ≤ R.locals ∧ RBw R h0) {x0 : Nat} {x2 : Int} {x4 : Nat} {x6 : Int} {res : HP} (hf : f_X0_lay_258 rc h x0 x2 x4 x6 = some res) (hz : ZP E s h0 h H locs) {ls : Array Slot} (hl : lv_has ls 10 [(0, .ref x0), (2, .int (zI x2)), (4, .ref x4), (6, .int (zI x6))]) (hk : KP E below args s Q h0 res none) : W p l e R s m args below meth c H locs (pX h - pX h0) (pS h - pS h0) Q (F0 m 258 ls []) := by
  unfold f_X0_lay_258 at hf
  have hx := C.1
  have hb := C.2.1
  refine lv_aload_n hx hb dX0_lay_258 rfl (lv_at hl 0 rfl) ?_
  refine lv_aload hx hb dX0_lay_259 (lv_at hl 2 rfl) ?_
  obtain ⟨y1, ey1, hf⟩ := bd_inv hf
  refine zg_callS gP C hz hr (n := 2) (rest := []) (met_X0_flush l E ey1) q1006 q1007 q89 q1008 (by decide +kernel) ⟨by have := hr.1; omega, by have := hr.2.1; omega⟩ rfl hl.1 rfl (Nat.le_of_ble_eq_true rfl) dX0_lay_261 (fun H locs hz => ?_)
  exact w_X0_lay_264 C hrc hr hf hz (lv_sub hl [0, 1, 3] rfl) hk

theorem w_X0_lay_148s {p : Program} {l : Launch} {e : Env} {R : Room} {s : State} {m : MethodId} {args : Array Value} {below : List Frame} {meth : Method} {c : Code} {Q : State → Prop} {E : PEw} {h0 h : HP} {H : Heap} {locs : List Loc} {rc : RC_lay} (C : PC E p s m args meth c RX0 cX0_lay 10 none "lay") {N : Nat} (hrc : RK_lay l E N rc) (hr : 7 * (N + 1) ≤ R.frames ∧ 163 * (N + 1) ≤ R.locals ∧ RBw R h0) {x0 : Nat} {x2 : Int} {x4 : Nat} {x6 : Int} {x8 : Int} {res : (HP × Int) ⊕ (HP)} (hf : f_X0_lay_148s rc h x0 x2 x4 x6 x8 = some res) (hz : ZP E s h0 h H locs) {ls : Array Slot} (hl : lv_has ls 10 [(0, .ref x0), (2, .int (zI x2)), (4, .ref x4), (6, .int (zI x6)), (8, .int (zI x8))]) (hk : (Sum.elim (fun z => ∀ (H : Heap) (locs : List Loc) (ls : Array Slot), ZP E s h0 z.1 H locs → lv_has ls 10 [(0, .ref x0), (2, .int (zI x2)), (4, .ref x4), (6, .int (zI x6)), (8, .int (zI z.2))] → W p l e R s m args below meth c H locs (pX z.1 - pX h0) (pS z.1 - pS h0) Q (F0 m 148 ls [])) (fun r => KP E below args s Q h0 r none)) res) : W p l e R s m args below meth c H locs (pX h - pX h0) (pS h - pS h0) Q (F0 m 148 ls []) := by
  unfold f_X0_lay_148s at hf
  have hx := C.1
  have hb := C.2.1
  refine lv_iload hx hb dX0_lay_148 (lv_at hl 4 rfl) ?_
  refine lv_aload_n hx hb dX0_lay_150 rfl (lv_at hl 0 rfl) ?_
  obtain ⟨hg, hf⟩ := gd_inv hf
  refine zg_getp gP C hz 2 4 (gkp (by decide) hg) (by decide) (by decide) (Or.inr ⟨_, C.nw q166⟩) (fun _ h => h) dX0_lay_151 ?_
  obtain ⟨a1, ea1, hf⟩ := bd_inv hf
  rw [zx_rf ea1]
  obtain ⟨y2, ey2, hf⟩ := bd_inv hf
  refine zj_lLen C hz hr ey2 (rest := [.int (zI x8)]) q549 q550 (C.w q551) q94 q552 hl.1 ⟨by have := hr.1; omega, by have := hr.2.1; omega⟩ (Nat.le_of_ble_eq_true rfl) dX0_lay_154 (fun H locs hz => ?_)
  refine zl_icmp_ge (tgt := 258) hx hb dX0_lay_157 (by decide) (fun hc => ?_) (fun hc => ?_)
  · rw [if_pos hc] at hf
    refine lv_aload_n hx hb dX0_lay_160 rfl (lv_at hl 0 rfl) ?_
    obtain ⟨hg, hf⟩ := gd_inv hf
    refine zg_getp gP C hz 2 4 (gkp (by decide) hg) (by decide) (by decide) (Or.inr ⟨_, C.nw q166⟩) (fun _ h => h) dX0_lay_161 ?_
    refine lv_iload hx hb dX0_lay_164 (lv_at hl 4 rfl) ?_
    obtain ⟨a3, ea3, hf⟩ := bd_inv hf
    rw [zx_rf ea3]
    obtain ⟨y4, ey4, hf⟩ := bd_inv hf
    refine zj_lGet C hz hr ey4 (rest := []) q553 q554 (C.w q555) q94 q556 hl.1 ⟨by have := hr.1; omega, by have := hr.2.1; omega⟩ (Nat.le_of_ble_eq_true rfl) dX0_lay_166 (fun H locs hz => ?_)
    obtain ⟨hg, hf⟩ := gd_inv hf
    refine zg_castN gP C hz hg q704 dX0_lay_169 ?_
    refine lv_aload hx hb dX0_lay_172 (lv_at hl 2 rfl) ?_
    obtain ⟨y5, ey5, hf⟩ := bd_inv hf
    refine zg_callS gP C hz hr (n := 2) (rest := []) (met_X0_inside l E ey5) q999 q1000 q89 q1001 (by decide +kernel) ⟨by have := hr.1; omega, by have := hr.2.1; omega⟩ rfl hl.1 rfl (Nat.le_of_ble_eq_true rfl) dX0_lay_174 (fun H locs hz => ?_)
    refine zl_astore_o (lv' := [(9, va_rf y5.2), (0, .ref x0), (2, .int (zI x2)), (4, .ref x4), (6, .int (zI x6)), (8, .int (zI x8))]) hx hb dX0_lay_177 hl (by decide) rfl (fun ls hl => ?_)
    refine zl_aload_o hx hb dX0_lay_179 (lv_at hl 0 rfl) ?_
    rcases nl_inv hf with ⟨ho, hf⟩ | ⟨a6, ho, hf⟩
    · rw [zx_nul ho]
      refine lv_ifnonnullN hx hb dX0_lay_181 ?_
      refine lv_goto (tgt := 252) hx hb dX0_lay_184 (by decide) ?_
      exact w_X0_lay_252 C hrc hr hf hz (lv_sub hl [1, 2, 3, 4, 5] rfl) hk
    · rw [zx_rf ho] at hl ⊢
      refine lv_ifnonnull (tgt := 187) hx hb dX0_lay_181 (by decide) ?_
      refine lv_aload hx hb dX0_lay_187 (lv_at hl 0 rfl) ?_
      obtain ⟨hg, hf⟩ := gd_inv hf
      obtain ⟨y7, ey7, hf⟩ := bd_inv hf
      refine zg_callV gP C hz hr (n := 0) (rest := []) (gkp (by decide) hg) (met_X2_box l E ey7) q995 q996 (C.w q997) q91 q998 (by decide +kernel) ⟨by have := hr.1; omega, by have := hr.2.1; omega⟩ rfl hl.1 rfl (Nat.le_of_ble_eq_true rfl) dX0_lay_189 (fun H locs hz => ?_)
      refine zl_if_eq (tgt := 244) hx hb dX0_lay_192 (by decide) (fun hc => ?_) (fun hc => ?_)
      · rw [if_pos hc] at hf
        refine lv_aload_n hx hb dX0_lay_244 rfl (lv_at hl 1 rfl) ?_
        refine lv_aload hx hb dX0_lay_245 (lv_at hl 0 rfl) ?_
        refine lv_aload hx hb dX0_lay_247 (lv_at hl 3 rfl) ?_
        obtain ⟨y8, ey8, hf⟩ := bd_inv hf
        refine zg_callS gP C hz hr (n := 3) (rest := []) (hrc.2.2 ey8) q1034 q1035 q89 q1036 (by decide +kernel) ⟨by have := hr.1; omega, by have := hr.2.1; omega⟩ rfl hl.1 rfl (Nat.le_of_ble_eq_true rfl) dX0_lay_249 (fun H locs hz => ?_)
        exact w_X0_lay_252 C hrc hr hf hz (lv_sub hl [1, 2, 3, 4, 5] rfl) hk
      · rw [if_neg hc] at hf
        refine lv_aload_n hx hb dX0_lay_195 rfl (lv_at hl 1 rfl) ?_
        refine lv_aload hx hb dX0_lay_196 (lv_at hl 3 rfl) ?_
        obtain ⟨y9, ey9, hf⟩ := bd_inv hf
        refine zg_callS gP C hz hr (n := 2) (rest := []) (met_X0_flush l E ey9) q1006 q1007 q89 q1008 (by decide +kernel) ⟨by have := hr.1; omega, by have := hr.2.1; omega⟩ rfl hl.1 rfl (Nat.le_of_ble_eq_true rfl) dX0_lay_198 (fun H locs hz => ?_)
        refine lv_aload hx hb dX0_lay_201 (lv_at hl 0 rfl) ?_
        refine lv_aload_n hx hb dX0_lay_203 rfl (lv_at hl 1 rfl) ?_
        obtain ⟨hg, hf⟩ := gd_inv hf
        refine zg_geti gP C hz 2 13 (gkp (by decide) hg) (by decide) (by decide) (Or.inr ⟨_, C.nw q182⟩) (fun _ h => h) dX0_lay_204 ?_
        refine lv_aload_n hx hb dX0_lay_207 rfl (lv_at hl 1 rfl) ?_
        obtain ⟨hg, hf⟩ := gd_inv hf
        refine zg_geti gP C hz 2 15 (gkp (by decide) hg) (by decide) (by decide) (Or.inr ⟨_, C.nw q185⟩) (fun _ h => h) dX0_lay_208 ?_
        refine lv_aload_n hx hb dX0_lay_211 rfl (lv_at hl 1 rfl) ?_
        obtain ⟨hg, hf⟩ := gd_inv hf
        refine zg_geti gP C hz 2 16 (gkp (by decide) hg) (by decide) (by decide) (Or.inr ⟨_, C.nw q187⟩) (fun _ h => h) dX0_lay_212 ?_
        refine lv_aload hx hb dX0_lay_215 (lv_at hl 0 rfl) ?_
        obtain ⟨hg, hf⟩ := gd_inv hf
        refine zg_getp gP C hz 2 7 (gkp (by decide) hg) (by decide) (by decide) (Or.inr ⟨_, C.nw q173⟩) (fun _ h => h) dX0_lay_217 ?_
        refine zl_iconst hx hb dX0_lay_220 ?_
        obtain ⟨a10, ea10, hf⟩ := bd_inv hf
        rw [zx_rf ea10]
        obtain ⟨hg, hf⟩ := gd_inv hf
        obtain ⟨hi, hf⟩ := gd_inv hf
        refine zg_iald gP C hz hg hi dX0_lay_221 ?_
        refine zl_mmax hx hb C.2.2.2.2.1 hl.1 C.2.2.2.2.2.1 (fun _ h => C.w h) q991 ⟨by have := hr.1; omega, by have := hr.2.1; omega⟩ (Nat.le_of_ble_eq_true rfl) (RBw.have gP hz hr).1 (RBw.have gP hz hr).2 dX0_lay_222 ?_
        refine zl_iadd hx hb dX0_lay_225 ?_
        refine lv_aload_n hx hb dX0_lay_226 rfl (lv_at hl 1 rfl) ?_
        obtain ⟨hg, hf⟩ := gd_inv hf
        refine zg_geti gP C hz 2 14 (gkp (by decide) hg) (by decide) (by decide) (Or.inr ⟨_, C.nw q183⟩) (fun _ h => h) dX0_lay_227 ?_
        refine lv_aload hx hb dX0_lay_230 (lv_at hl 3 rfl) ?_
        obtain ⟨y11, ey11, hf⟩ := bd_inv hf
        refine zg_callS gP C hz hr (n := 5) (rest := []) (hrc.1 ey11) q988 q989 q89 q990 (by decide +kernel) ⟨by have := hr.1; omega, by have := hr.2.1; omega⟩ rfl hl.1 rfl (Nat.le_of_ble_eq_true rfl) dX0_lay_232 (fun H locs hz => ?_)
        refine lv_aload_n hx hb dX0_lay_235 rfl (lv_at hl 1 rfl) ?_
        refine lv_aload hx hb dX0_lay_236 (lv_at hl 0 rfl) ?_
        obtain ⟨hg, hf⟩ := gd_inv hf
        obtain ⟨y12, ey12, hf⟩ := bd_inv hf
        refine zg_callV gP C hz hr (n := 1) (rest := []) (gkp (by decide) hg) (met_X2_goOn l E ey12) q1030 q1031 (C.w q1032) q91 q1033 (by decide +kernel) ⟨by have := hr.1; omega, by have := hr.2.1; omega⟩ rfl hl.1 rfl (Nat.le_of_ble_eq_true rfl) dX0_lay_238 (fun H locs hz => ?_)
        refine lv_goto (tgt := 252) hx hb dX0_lay_241 (by decide) ?_
        exact w_X0_lay_252 C hrc hr hf hz (lv_sub hl [1, 2, 3, 4, 5] rfl) hk
  · rw [if_neg hc] at hf
    obtain ⟨r0, hm0, rfl⟩ := mr_inv hf
    exact w_X0_lay_258 C hrc hr hm0 hz (lv_sub hl [0, 1, 2, 3] rfl) hk

theorem w_X0_lay_148 {p : Program} {l : Launch} {e : Env} {R : Room} {s : State} {m : MethodId} {args : Array Value} {below : List Frame} {meth : Method} {c : Code} {Q : State → Prop} {E : PEw} {h0 h : HP} {H : Heap} {locs : List Loc} {rc : RC_lay} (C : PC E p s m args meth c RX0 cX0_lay 10 none "lay") {N : Nat} (hrc : RK_lay l E N rc) (hr : 7 * (N + 1) ≤ R.frames ∧ 163 * (N + 1) ≤ R.locals ∧ RBw R h0) {x0 : Nat} {x2 : Int} {x4 : Nat} {x6 : Int} {x8 : Int} {res : HP} (hf : f_X0_lay_148 rc h x0 x2 x4 x6 x8 = some res) (hz : ZP E s h0 h H locs) {ls : Array Slot} (hl : lv_has ls 10 [(0, .ref x0), (2, .int (zI x2)), (4, .ref x4), (6, .int (zI x6)), (8, .int (zI x8))]) (hk : KP E below args s Q h0 res none) : W p l e R s m args below meth c H locs (pX h - pX h0) (pS h - pS h0) Q (F0 m 148 ls []) := by
  unfold f_X0_lay_148 at hf
  refine iter_ind (P := fun z r => ∀ (H : Heap) (locs : List Loc) (ls : Array Slot), ZP E s h0 z.1 H locs → lv_has ls 10 [(0, .ref x0), (2, .int (zI x2)), (4, .ref x4), (6, .int (zI x6)), (8, .int (zI z.2))] → KP E below args s Q h0 r none → W p l e R s m args below meth c H locs (pX z.1 - pX h0) (pS z.1 - pS h0) Q (F0 m 148 ls [])) ?_ ?_ hf H locs ls hz hl hk
  · intro z r h1 H locs ls hz hl hk; exact w_X0_lay_148s C hrc hr h1 hz hl hk
  · intro z z1 r h1 ih H locs ls hz hl hk; exact w_X0_lay_148s C hrc hr h1 hz hl (fun H locs ls hz hl => ih H locs ls hz hl hk)

theorem w_X0_lay_52 {p : Program} {l : Launch} {e : Env} {R : Room} {s : State} {m : MethodId} {args : Array Value} {below : List Frame} {meth : Method} {c : Code} {Q : State → Prop} {E : PEw} {h0 h : HP} {H : Heap} {locs : List Loc} {rc : RC_lay} (C : PC E p s m args meth c RX0 cX0_lay 10 none "lay") {N : Nat} (hrc : RK_lay l E N rc) (hr : 7 * (N + 1) ≤ R.frames ∧ 163 * (N + 1) ≤ R.locals ∧ RBw R h0) {x0 : Nat} {x1 : Int} {x2 : Int} {x4 : Nat} {x5 : Int} {x6 : Int} {t0 : Int} {t1 : Nat} {res : HP} (hf : f_X0_lay_52 rc h x0 x1 x2 x4 x5 x6 t0 t1 = some res) (hz : ZP E s h0 h H locs) {ls : Array Slot} (hl : lv_has ls 10 [(0, .ref x0), (1, .int (zI x1)), (2, .int (zI x2)), (4, .ref x4), (5, .int (zI x5)), (6, .int (zI x6))]) (hk : KP E below args s Q h0 res none) : W p l e R s m args below meth c H locs (pX h - pX h0) (pS h - pS h0) Q (F0 m 52 ls [.int (zI t0), .ref t1]) := by
  unfold f_X0_lay_52 at hf
  have hx := C.1
  have hb := C.2.1
  obtain ⟨hg, hf⟩ := gd_inv hf
  obtain ⟨h1, eh1, hf⟩ := bnd_inv hf
  refine zg_puti gP C hz 2 14 (gkp (by decide) hg) (by decide) (by decide) rfl (by decide) (Or.inr ⟨_, C.nw q183⟩) (fun _ h => h) dX0_lay_52 eh1 (fun H locs hz => ?_)
  refine lv_aload_n hx hb dX0_lay_55 rfl (lv_at hl 0 rfl) ?_
  refine lv_iload_n hx hb dX0_lay_56 rfl (lv_at hl 1 rfl) ?_
  refine lv_iload hx hb dX0_lay_57 (lv_at hl 4 rfl) ?_
  refine zl_iadd hx hb dX0_lay_59 ?_
  obtain ⟨hg, hf⟩ := gd_inv hf
  obtain ⟨h2, eh2, hf⟩ := bnd_inv hf
  refine zg_puti gP C hz 2 9 (gkp (by decide) hg) (by decide) (by decide) rfl (by decide) (Or.inr ⟨_, C.nw q176⟩) (fun _ h => h) dX0_lay_60 eh2 (fun H locs hz => ?_)
  refine lv_aload_n hx hb dX0_lay_63 rfl (lv_at hl 0 rfl) ?_
  refine lv_iload_n hx hb dX0_lay_64 rfl (lv_at hl 2 rfl) ?_
  obtain ⟨hg, hf⟩ := gd_inv hf
  obtain ⟨h3, eh3, hf⟩ := bnd_inv hf
  refine zg_puti gP C hz 2 10 (gkp (by decide) hg) (by decide) (by decide) rfl (by decide) (Or.inr ⟨_, C.nw q178⟩) (fun _ h => h) dX0_lay_65 eh3 (fun H locs hz => ?_)
  refine lv_aload_n hx hb dX0_lay_68 rfl (lv_at hl 0 rfl) ?_
  refine lv_aload_n hx hb dX0_lay_69 rfl (lv_at hl 0 rfl) ?_
  obtain ⟨hg, hf⟩ := gd_inv hf
  refine zg_geti gP C hz 2 9 (gkp (by decide) hg) (by decide) (by decide) (Or.inr ⟨_, C.nw q176⟩) (fun _ h => h) dX0_lay_70 ?_
  refine lv_iload hx hb dX0_lay_73 (lv_at hl 5 rfl) ?_
  refine zl_iadd hx hb dX0_lay_75 ?_
  obtain ⟨hg, hf⟩ := gd_inv hf
  obtain ⟨h4, eh4, hf⟩ := bnd_inv hf
  refine zg_puti gP C hz 2 13 (gkp (by decide) hg) (by decide) (by decide) rfl (by decide) (Or.inr ⟨_, C.nw q182⟩) (fun _ h => h) dX0_lay_76 eh4 (fun H locs hz => ?_)
  refine lv_aload_n hx hb dX0_lay_79 rfl (lv_at hl 0 rfl) ?_
  refine lv_aload_n hx hb dX0_lay_80 rfl (lv_at hl 0 rfl) ?_
  obtain ⟨hg, hf⟩ := gd_inv hf
  refine zg_geti gP C hz 2 14 (gkp (by decide) hg) (by decide) (by decide) (Or.inr ⟨_, C.nw q183⟩) (fun _ h => h) dX0_lay_81 ?_
  refine zl_iconst hx hb dX0_lay_84 ?_
  refine lv_iload hx hb dX0_lay_85 (lv_at hl 5 rfl) ?_
  refine zl_imul hx hb dX0_lay_87 ?_
  refine zl_iadd hx hb dX0_lay_88 ?_
  obtain ⟨hg, hf⟩ := gd_inv hf
  obtain ⟨h5, eh5, hf⟩ := bnd_inv hf
  refine zg_puti gP C hz 2 11 (gkp (by decide) hg) (by decide) (by decide) rfl (by decide) (Or.inr ⟨_, C.nw q179⟩) (fun _ h => h) dX0_lay_89 eh5 (fun H locs hz => ?_)
  refine lv_aload_n hx hb dX0_lay_92 rfl (lv_at hl 0 rfl) ?_
  refine lv_iload_n hx hb dX0_lay_93 rfl (lv_at hl 2 rfl) ?_
  refine lv_iload hx hb dX0_lay_94 (lv_at hl 5 rfl) ?_
  refine zl_iadd hx hb dX0_lay_96 ?_
  obtain ⟨hg, hf⟩ := gd_inv hf
  obtain ⟨h6, eh6, hf⟩ := bnd_inv hf
  refine zg_puti gP C hz 2 15 (gkp (by decide) hg) (by decide) (by decide) rfl (by decide) (Or.inr ⟨_, C.nw q185⟩) (fun _ h => h) dX0_lay_97 eh6 (fun H locs hz => ?_)
  refine lv_aload_n hx hb dX0_lay_100 rfl (lv_at hl 0 rfl) ?_
  refine zl_iconst hx hb dX0_lay_101 ?_
  obtain ⟨hg, hf⟩ := gd_inv hf
  obtain ⟨h7, eh7, hf⟩ := bnd_inv hf
  refine zg_puti gP C hz 2 16 (gkp (by decide) hg) (by decide) (by decide) rfl (by decide) (Or.inr ⟨_, C.nw q187⟩) (fun _ h => h) dX0_lay_102 eh7 (fun H locs hz => ?_)
  refine lv_aload_n hx hb dX0_lay_105 rfl (lv_at hl 0 rfl) ?_
  refine zl_bipush hx hb dX0_lay_106 (by decide) ?_
  obtain ⟨hg, hf⟩ := gd_inv hf
  obtain ⟨y8, ey8, hf⟩ := bd_inv hf
  refine zg_callV gP C hz hr (n := 1) (rest := []) (gkp (by decide) hg) (met_X2_is l E ey8) q567 q568 (C.w q569) q91 q570 (by decide +kernel) ⟨by have := hr.1; omega, by have := hr.2.1; omega⟩ rfl hl.1 rfl (Nat.le_of_ble_eq_true rfl) dX0_lay_108 (fun H locs hz => ?_)
  refine zl_if_eq (tgt := 127) hx hb dX0_lay_111 (by decide) (fun hc => ?_) (fun hc => ?_)
  · rw [if_pos hc] at hf
    refine lv_aload_n hx hb dX0_lay_127 rfl (lv_at hl 0 rfl) ?_
    refine zl_bipush hx hb dX0_lay_128 (by decide) ?_
    obtain ⟨hg, hf⟩ := gd_inv hf
    obtain ⟨y9, ey9, hf⟩ := bd_inv hf
    refine zg_callV gP C hz hr (n := 1) (rest := []) (gkp (by decide) hg) (met_X2_is l E ey9) q567 q568 (C.w q569) q91 q570 (by decide +kernel) ⟨by have := hr.1; omega, by have := hr.2.1; omega⟩ rfl hl.1 rfl (Nat.le_of_ble_eq_true rfl) dX0_lay_130 (fun H locs hz => ?_)
    refine zl_if_eq (tgt := 145) hx hb dX0_lay_133 (by decide) (fun hc => ?_) (fun hc => ?_)
    · rw [if_pos hc] at hf
      refine zl_iconst hx hb dX0_lay_145 ?_
      refine lv_istore (lv' := [(8, .int (zI 0)), (0, .ref x0), (1, .int (zI x1)), (2, .int (zI x2)), (4, .ref x4), (5, .int (zI x5)), (6, .int (zI x6))]) hx hb dX0_lay_146 hl (by decide) rfl (fun ls hl => ?_)
      exact w_X0_lay_148 C hrc hr hf hz (lv_sub hl [1, 3, 4, 6, 0] rfl) hk
    · rw [if_neg hc] at hf
      refine lv_aload_n hx hb dX0_lay_136 rfl (lv_at hl 0 rfl) ?_
      refine lv_aload hx hb dX0_lay_137 (lv_at hl 3 rfl) ?_
      obtain ⟨y10, ey10, hf⟩ := bd_inv hf
      refine zg_callS gP C hz hr (n := 2) (rest := []) (hrc.2.1 ey10) q992 q993 q89 q994 (by decide +kernel) ⟨by have := hr.1; omega, by have := hr.2.1; omega⟩ rfl hl.1 rfl (Nat.le_of_ble_eq_true rfl) dX0_lay_139 (fun H locs hz => ?_)
      refine lv_goto (tgt := 264) hx hb dX0_lay_142 (by decide) ?_
      exact w_X0_lay_264 C hrc hr hf hz (lv_sub hl [0, 2, 5] rfl) hk
  · rw [if_neg hc] at hf
    refine lv_aload_n hx hb dX0_lay_114 rfl (lv_at hl 0 rfl) ?_
    refine lv_dup hx hb dX0_lay_115 rfl ?_
    obtain ⟨hg, hf⟩ := gd_inv hf
    refine zg_geti gP C hz 2 15 (gkp (by decide) hg) (by decide) (by decide) (Or.inr ⟨_, C.nw q185⟩) (fun _ h => h) dX0_lay_116 ?_
    refine zl_iconst hx hb dX0_lay_119 ?_
    refine zl_iadd hx hb dX0_lay_120 ?_
    obtain ⟨hg, hf⟩ := gd_inv hf
    obtain ⟨h11, eh11, hf⟩ := bnd_inv hf
    refine zg_puti gP C hz 2 15 (gkp (by decide) hg) (by decide) (by decide) rfl (by decide) (Or.inr ⟨_, C.nw q185⟩) (fun _ h => h) dX0_lay_121 eh11 (fun H locs hz => ?_)
    refine lv_goto (tgt := 264) hx hb dX0_lay_124 (by decide) ?_
    exact w_X0_lay_264 C hrc hr hf hz (lv_sub hl [0, 2, 5] rfl) hk

theorem w_X0_lay_b {p : Program} {l : Launch} {e : Env} {R : Room} {s : State} {m : MethodId} {args : Array Value} {below : List Frame} {meth : Method} {c : Code} {Q : State → Prop} {E : PEw} {h0 h : HP} {H : Heap} {locs : List Loc} {rc : RC_lay} (C : PC E p s m args meth c RX0 cX0_lay 10 none "lay") {N : Nat} (hrc : RK_lay l E N rc) (hr : 7 * (N + 1) ≤ R.frames ∧ 163 * (N + 1) ≤ R.locals ∧ RBw R h0) {x0 : Nat} {x1 : Int} {x2 : Int} {x3 : Int} {x4 : Nat} {res : HP} (hf : f_X0_lay_b rc h x0 x1 x2 x3 x4 = some res) (hz : ZP E s h0 h H locs) {ls : Array Slot} (hl : lv_has ls 10 [(0, .ref x0), (1, .int (zI x1)), (2, .int (zI x2)), (3, .int (zI x3)), (4, .ref x4)]) (hk : KP E below args s Q h0 res none) : W p l e R s m args below meth c H locs (pX h - pX h0) (pS h - pS h0) Q (F0 m 0 ls []) := by
  unfold f_X0_lay_b at hf
  have hx := C.1
  have hb := C.2.1
  refine lv_aload_n hx hb dX0_lay_0 rfl (lv_at hl 0 rfl) ?_
  obtain ⟨hg, hf⟩ := gd_inv hf
  refine zg_getp gP C hz 2 7 (gkp (by decide) hg) (by decide) (by decide) (Or.inr ⟨_, C.nw q173⟩) (fun _ h => h) dX0_lay_1 ?_
  refine zl_iconst hx hb dX0_lay_4 ?_
  obtain ⟨a1, ea1, hf⟩ := bd_inv hf
  rw [zx_rf ea1]
  obtain ⟨hg, hf⟩ := gd_inv hf
  obtain ⟨hi, hf⟩ := gd_inv hf
  refine zg_iald gP C hz hg hi dX0_lay_5 ?_
  obtain ⟨y2, ey2, hf⟩ := bnd_inv hf
  refine zl_topi ey2 ?_
  refine lv_istore (lv' := [(5, .int (zI y2)), (0, .ref x0), (1, .int (zI x1)), (2, .int (zI x2)), (3, .int (zI x3)), (4, .ref x4)]) hx hb dX0_lay_6 hl (by decide) rfl (fun ls hl => ?_)
  refine lv_aload_n hx hb dX0_lay_8 rfl (lv_at hl 1 rfl) ?_
  obtain ⟨hg, hf⟩ := gd_inv hf
  refine zg_getp gP C hz 2 7 (gkp (by decide) hg) (by decide) (by decide) (Or.inr ⟨_, C.nw q173⟩) (fun _ h => h) dX0_lay_9 ?_
  refine zl_iconst hx hb dX0_lay_12 ?_
  obtain ⟨a3, ea3, hf⟩ := bd_inv hf
  rw [zx_rf ea3]
  obtain ⟨hg, hf⟩ := gd_inv hf
  obtain ⟨hi, hf⟩ := gd_inv hf
  refine zg_iald gP C hz hg hi dX0_lay_13 ?_
  obtain ⟨y4, ey4, hf⟩ := bnd_inv hf
  refine zl_topi ey4 ?_
  refine lv_istore (lv' := [(6, .int (zI y4)), (5, .int (zI y2)), (0, .ref x0), (1, .int (zI x1)), (2, .int (zI x2)), (3, .int (zI x3)), (4, .ref x4)]) hx hb dX0_lay_14 hl (by decide) rfl (fun ls hl => ?_)
  refine lv_aload_n hx hb dX0_lay_16 rfl (lv_at hl 2 rfl) ?_
  obtain ⟨hg, hf⟩ := gd_inv hf
  refine zg_getp gP C hz 2 7 (gkp (by decide) hg) (by decide) (by decide) (Or.inr ⟨_, C.nw q173⟩) (fun _ h => h) dX0_lay_17 ?_
  refine zl_bipush hx hb dX0_lay_20 (by decide) ?_
  obtain ⟨a5, ea5, hf⟩ := bd_inv hf
  rw [zx_rf ea5]
  obtain ⟨hg, hf⟩ := gd_inv hf
  obtain ⟨hi, hf⟩ := gd_inv hf
  refine zg_iald gP C hz hg hi dX0_lay_22 ?_
  obtain ⟨y6, ey6, hf⟩ := bnd_inv hf
  refine zl_topi ey6 ?_
  refine lv_istore (lv' := [(7, .int (zI y6)), (6, .int (zI y4)), (5, .int (zI y2)), (0, .ref x0), (1, .int (zI x1)), (2, .int (zI x2)), (3, .int (zI x3)), (4, .ref x4)]) hx hb dX0_lay_23 hl (by decide) rfl (fun ls hl => ?_)
  refine lv_aload_n hx hb dX0_lay_25 rfl (lv_at hl 3 rfl) ?_
  refine lv_iload hx hb dX0_lay_26 (lv_at hl 0 rfl) ?_
  refine zl_iconst hx hb dX0_lay_28 ?_
  refine zl_icmp_eq (tgt := 37) hx hb dX0_lay_29 (by decide) (fun hc => ?_) (fun hc => ?_)
  · rw [if_pos hc] at hf
    refine zl_iconst hx hb dX0_lay_37 ?_
    refine lv_iload_n hx hb dX0_lay_38 rfl (lv_at hl 6 rfl) ?_
    refine zl_iconst hx hb dX0_lay_39 ?_
    refine lv_iload hx hb dX0_lay_40 (lv_at hl 2 rfl) ?_
    refine zl_imul hx hb dX0_lay_42 ?_
    refine zl_isub hx hb dX0_lay_43 ?_
    refine zl_iconst hx hb dX0_lay_44 ?_
    refine lv_iload hx hb dX0_lay_45 (lv_at hl 1 rfl) ?_
    refine zl_imul hx hb dX0_lay_47 ?_
    refine zl_isub hx hb dX0_lay_48 ?_
    refine zl_mmax hx hb C.2.2.2.2.1 hl.1 C.2.2.2.2.2.1 (fun _ h => C.w h) q991 ⟨by have := hr.1; omega, by have := hr.2.1; omega⟩ (Nat.le_of_ble_eq_true rfl) (RBw.have gP hz hr).1 (RBw.have gP hz hr).2 dX0_lay_49 ?_
    exact w_X0_lay_52 C hrc hr hf hz (lv_sub hl [3, 4, 5, 7, 2, 1] rfl) hk
  · rw [if_neg hc] at hf
    refine lv_iload hx hb dX0_lay_32 (lv_at hl 0 rfl) ?_
    refine lv_goto (tgt := 52) hx hb dX0_lay_34 (by decide) ?_
    exact w_X0_lay_52 C hrc hr hf hz (lv_sub hl [3, 4, 5, 7, 2, 1] rfl) hk

