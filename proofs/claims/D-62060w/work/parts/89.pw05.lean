set_option maxRecDepth 100000
theorem w_X3_type_78 {p : Program} {l : Launch} {e : Env} {R : Room} {s : State} {m : MethodId} {args : Array Value} {below : List Frame} {meth : Method} {c : Code} {Q : State → Prop} {E : PEw} {h0 h : HP} {H : Heap} {locs : List Loc} (C : PC E p s m args meth c RX3 cX3_type 2 (some .boolean) "type") (hr : 8 ≤ R.frames ∧ 200 ≤ R.locals ∧ RBw R h0) {x0 : Nat} {x1 : Int} {res : HP × Int} (hf : f_X3_type_78 h x0 x1 = some res) (hz : ZP E s h0 h H locs) {ls : Array Slot} (hl : lv_has ls 2 [(0, .ref x0), (1, .int (zI x1))]) (hk : KP E below args s Q h0 res.1 (some (.int (zI res.2)))) : W p l e R s m args below meth c H locs (pX h - pX h0) (pS h - pS h0) Q (F0 m 78 ls []) := by
  unfold f_X3_type_78 at hf
  have hx := C.1
  have hb := C.2.1
  refine lv_aload_n hx hb dX3_type_78 rfl (lv_at hl 0 rfl) ?_
  obtain ⟨hg, hf⟩ := gd_inv hf
  refine zg_geti gP C hz 4 4 (gkp (by decide) hg) (by decide) (by decide) (Or.inl (C.w q283)) (fun _ h => h) dX3_type_79 ?_
  refine zl_if_eq (tgt := 97) hx hb dX3_type_82 (by decide) (fun hc => ?_) (fun hc => ?_)
  · rw [if_pos hc] at hf
    refine lv_aload_n hx hb dX3_type_97 rfl (lv_at hl 0 rfl) ?_
    obtain ⟨hg, hf⟩ := gd_inv hf
    refine zg_getp gP C hz 4 1 (gkp (by decide) hg) (by decide) (by decide) (Or.inl (C.w q280)) (fun _ h => h) dX3_type_98 ?_
    refine lv_iload_n hx hb dX3_type_101 rfl (lv_at hl 1 rfl) ?_
    obtain ⟨a1, ea1, hf⟩ := bd_inv hf
    rw [zx_rf ea1]
    obtain ⟨y2, ey2, hf⟩ := bd_inv hf
    refine zj_sApp C hz hr ey2 (rest := []) q956 q711 (C.w q712) q99 q713 hl.1 ⟨Nat.le_trans (by decide) hr.1, Nat.le_trans (by decide) hr.2.1⟩ (Nat.le_of_ble_eq_true rfl) dX3_type_102 (fun H locs hz => ?_)
    refine lv_pop hx hb dX3_type_105 rfl ?_
    refine zl_iconst hx hb dX3_type_106 ?_
    obtain rfl := Option.some.inj hf
    exact zg_zret C hz zisB_1 hk dX3_type_107
  · rw [if_neg hc] at hf
    refine lv_aload_n hx hb dX3_type_85 rfl (lv_at hl 0 rfl) ?_
    obtain ⟨hg, hf⟩ := gd_inv hf
    refine zg_getp gP C hz 4 2 (gkp (by decide) hg) (by decide) (by decide) (Or.inl (C.w q281)) (fun _ h => h) dX3_type_86 ?_
    refine lv_iload_n hx hb dX3_type_89 rfl (lv_at hl 1 rfl) ?_
    obtain ⟨a3, ea3, hf⟩ := bd_inv hf
    rw [zx_rf ea3]
    obtain ⟨y4, ey4, hf⟩ := bd_inv hf
    refine zj_sApp C hz hr ey4 (rest := []) q956 q711 (C.w q712) q99 q713 hl.1 ⟨Nat.le_trans (by decide) hr.1, Nat.le_trans (by decide) hr.2.1⟩ (Nat.le_of_ble_eq_true rfl) dX3_type_90 (fun H locs hz => ?_)
    refine lv_pop hx hb dX3_type_93 rfl ?_
    refine lv_goto (tgt := 106) hx hb dX3_type_94 (by decide) ?_
    refine zl_iconst hx hb dX3_type_106 ?_
    obtain rfl := Option.some.inj hf
    exact zg_zret C hz zisB_1 hk dX3_type_107

theorem w_X3_type_54 {p : Program} {l : Launch} {e : Env} {R : Room} {s : State} {m : MethodId} {args : Array Value} {below : List Frame} {meth : Method} {c : Code} {Q : State → Prop} {E : PEw} {h0 h : HP} {H : Heap} {locs : List Loc} (C : PC E p s m args meth c RX3 cX3_type 2 (some .boolean) "type") (hr : 8 ≤ R.frames ∧ 200 ≤ R.locals ∧ RBw R h0) {x0 : Nat} {x1 : Int} {res : HP × Int} (hf : f_X3_type_54 h x0 x1 = some res) (hz : ZP E s h0 h H locs) {ls : Array Slot} (hl : lv_has ls 2 [(0, .ref x0), (1, .int (zI x1))]) (hk : KP E below args s Q h0 res.1 (some (.int (zI res.2)))) : W p l e R s m args below meth c H locs (pX h - pX h0) (pS h - pS h0) Q (F0 m 54 ls []) := by
  unfold f_X3_type_54 at hf
  have hx := C.1
  have hb := C.2.1
  refine lv_aload_n hx hb dX3_type_54 rfl (lv_at hl 0 rfl) ?_
  obtain ⟨hg, hf⟩ := gd_inv hf
  refine zg_geti gP C hz 4 4 (gkp (by decide) hg) (by decide) (by decide) (Or.inl (C.w q283)) (fun _ h => h) dX3_type_55 ?_
  refine zl_if_eq (tgt := 78) hx hb dX3_type_58 (by decide) (fun hc => ?_) (fun hc => ?_)
  · rw [if_pos hc] at hf
    exact w_X3_type_78 C hr hf hz (lv_sub hl [0, 1] rfl) hk
  · rw [if_neg hc] at hf
    refine lv_iload_n hx hb dX3_type_61 rfl (lv_at hl 1 rfl) ?_
    refine zl_bipush hx hb dX3_type_62 (by decide) ?_
    refine zl_icmp_ne (tgt := 78) hx hb dX3_type_64 (by decide) (fun hc => ?_) (fun hc => ?_)
    · rw [if_pos hc] at hf
      refine lv_aload_n hx hb dX3_type_67 rfl (lv_at hl 0 rfl) ?_
      obtain ⟨hg, hf⟩ := gd_inv hf
      obtain ⟨y1, ey1, hf⟩ := bd_inv hf
      refine zg_callV gP C hz hr (n := 0) (rest := []) (gkp (by decide) hg) (met_X3_rule l E ey1) q873 q875 (C.w qs28) q97 q876 (by decide +kernel) ⟨Nat.le_trans (by decide) hr.1, Nat.le_trans (by decide) hr.2.1⟩ rfl hl.1 rfl (Nat.le_of_ble_eq_true rfl) dX3_type_68 (fun H locs hz => ?_)
      refine lv_aload_n hx hb dX3_type_71 rfl (lv_at hl 0 rfl) ?_
      obtain ⟨hg, hf⟩ := gd_inv hf
      obtain ⟨y2, ey2, hf⟩ := bd_inv hf
      refine zg_callV gP C hz hr (n := 0) (rest := []) (gkp (by decide) hg) (met_X3_next l E ey2) q470 q472 (C.w qs5) q97 q473 (by decide +kernel) ⟨Nat.le_trans (by decide) hr.1, Nat.le_trans (by decide) hr.2.1⟩ rfl hl.1 rfl (Nat.le_of_ble_eq_true rfl) dX3_type_72 (fun H locs hz => ?_)
      refine lv_goto (tgt := 106) hx hb dX3_type_75 (by decide) ?_
      refine zl_iconst hx hb dX3_type_106 ?_
      obtain rfl := Option.some.inj hf
      exact zg_zret C hz zisB_1 hk dX3_type_107
    · rw [if_neg hc] at hf
      exact w_X3_type_78 C hr hf hz (lv_sub hl [0, 1] rfl) hk

theorem w_X3_type {p : Program} {l : Launch} {e : Env} {R : Room} {s : State} {m : MethodId} {args : Array Value} {below : List Frame} {meth : Method} {c : Code} {Q : State → Prop} {E : PEw} {h0 h : HP} {H : Heap} {locs : List Loc} (C : PC E p s m args meth c RX3 cX3_type 2 (some .boolean) "type") (hr : 8 ≤ R.frames ∧ 200 ≤ R.locals ∧ RBw R h0) {x0 : Nat} {x1 : Int} {res : HP × Int} (hf : f_X3_type h x0 x1 = some res) (hz : ZP E s h0 h H locs) {ls : Array Slot} (hl : lv_has ls 2 [(0, .ref x0), (1, .int (zI x1))]) (hk : KP E below args s Q h0 res.1 (some (.int (zI res.2)))) : W p l e R s m args below meth c H locs (pX h - pX h0) (pS h - pS h0) Q (F0 m 0 ls []) := by
  unfold f_X3_type at hf
  have hx := C.1
  have hb := C.2.1
  refine lv_iload_n hx hb dX3_type_0 rfl (lv_at hl 1 rfl) ?_
  refine zl_bipush hx hb dX3_type_1 (by decide) ?_
  refine zl_icmp_lt (tgt := 21) hx hb dX3_type_3 (by decide) (fun hc => ?_) (fun hc => ?_)
  · rw [if_pos hc] at hf
    refine zl_iconst hx hb dX3_type_21 ?_
    obtain rfl := Option.some.inj hf
    exact zg_zret C hz zisB_0 hk dX3_type_22
  · rw [if_neg hc] at hf
    refine lv_iload_n hx hb dX3_type_6 rfl (lv_at hl 1 rfl) ?_
    refine zl_bipush hx hb dX3_type_7 (by decide) ?_
    refine zl_icmp_gt (tgt := 21) hx hb dX3_type_9 (by decide) (fun hc => ?_) (fun hc => ?_)
    · rw [if_pos hc] at hf
      refine zl_iconst hx hb dX3_type_21 ?_
      obtain rfl := Option.some.inj hf
      exact zg_zret C hz zisB_0 hk dX3_type_22
    · rw [if_neg hc] at hf
      refine lv_aload_n hx hb dX3_type_12 rfl (lv_at hl 0 rfl) ?_
      obtain ⟨hg, hf⟩ := gd_inv hf
      refine zg_geti gP C hz 4 5 (gkp (by decide) hg) (by decide) (by decide) (Or.inl (C.w q284)) (fun _ h => h) dX3_type_13 ?_
      refine zl_bipush hx hb dX3_type_16 (by decide) ?_
      refine zl_icmp_ne (tgt := 23) hx hb dX3_type_18 (by decide) (fun hc => ?_) (fun hc => ?_)
      · rw [if_pos hc] at hf
        refine zl_iconst hx hb dX3_type_21 ?_
        obtain rfl := Option.some.inj hf
        exact zg_zret C hz zisB_0 hk dX3_type_22
      · rw [if_neg hc] at hf
        refine lv_aload_n hx hb dX3_type_23 rfl (lv_at hl 0 rfl) ?_
        refine lv_dup hx hb dX3_type_24 rfl ?_
        obtain ⟨hg, hf⟩ := gd_inv hf
        refine zg_geti gP C hz 4 5 (gkp (by decide) hg) (by decide) (by decide) (Or.inl (C.w q284)) (fun _ h => h) dX3_type_25 ?_
        refine zl_iconst hx hb dX3_type_28 ?_
        refine zl_iadd hx hb dX3_type_29 ?_
        obtain ⟨hg, hf⟩ := gd_inv hf
        obtain ⟨h1, eh1, hf⟩ := bnd_inv hf
        refine zg_puti gP C hz 4 5 (gkp (by decide) hg) (by decide) (by decide) rfl (by decide) (Or.inl (C.w q284)) (fun _ h => h) dX3_type_30 eh1 (fun H locs hz => ?_)
        refine lv_aload_n hx hb dX3_type_33 rfl (lv_at hl 0 rfl) ?_
        obtain ⟨hg, hf⟩ := gd_inv hf
        refine zg_geti gP C hz 4 4 (gkp (by decide) hg) (by decide) (by decide) (Or.inl (C.w q283)) (fun _ h => h) dX3_type_34 ?_
        refine zl_if_ne (tgt := 54) hx hb dX3_type_37 (by decide) (fun hc => ?_) (fun hc => ?_)
        · rw [if_pos hc] at hf
          refine lv_iload_n hx hb dX3_type_40 rfl (lv_at hl 1 rfl) ?_
          refine zl_bipush hx hb dX3_type_41 (by decide) ?_
          refine zl_icmp_ne (tgt := 54) hx hb dX3_type_43 (by decide) (fun hc => ?_) (fun hc => ?_)
          · rw [if_pos hc] at hf
            refine lv_aload_n hx hb dX3_type_46 rfl (lv_at hl 0 rfl) ?_
            refine zl_iconst hx hb dX3_type_47 ?_
            obtain ⟨hg, hf⟩ := gd_inv hf
            obtain ⟨h2, eh2, hf⟩ := bnd_inv hf
            refine zg_putb gP C hz 4 4 (gkp (by decide) hg) (by decide) (by decide) rfl (by decide) zisB_1 (Or.inl (C.w q283)) (fun _ h => h) dX3_type_48 eh2 (fun H locs hz => ?_)
            refine lv_goto (tgt := 106) hx hb dX3_type_51 (by decide) ?_
            refine zl_iconst hx hb dX3_type_106 ?_
            obtain rfl := Option.some.inj hf
            exact zg_zret C hz zisB_1 hk dX3_type_107
          · rw [if_neg hc] at hf
            exact w_X3_type_54 C hr hf hz (lv_sub hl [0, 1] rfl) hk
        · rw [if_neg hc] at hf
          exact w_X3_type_54 C hr hf hz (lv_sub hl [0, 1] rfl) hk

theorem met_X3_type (l : Launch) (E : PEw) {h : HP} {x0 : Nat} {x1 : Int} {res : HP × Int} (hf : f_X3_type h x0 x1 = some res) : Met l yX3_type (ws_ yX3_type cX3_type 2 (some .boolean)) (rmP h 8 200) (PP E h [.ref x0, .int (zI x1)]) (QP E h res.1 (some (.int (zI res.2)))) (pX res.1 - pX h) (pS res.1 - pS h) (eF E) := by
  refine Met.ofW (cc := cX3_type) (maxL := 2) (ret := (some .boolean)) (by decide) rfl ?_
  intro p e s m args below meth c s₁ B hml hv
  obtain ⟨rfl, hP0⟩ := hv
  have hts := atoms_spec (ws := ws_ yX3_type cX3_type 2 (some .boolean)) B.pre
  have hts : ∀ w ∈ lw_all, w.before _ s = true := fun w h => hts w (List.mem_cons_of_mem _ h)
  have C : PC E p s m _ meth c RX3 cX3_type 2 (some .boolean) "type" := ⟨B.exec, B.bytes, B.returns, B.notSynchronized, hml, findClass_of_methodNamed B.named, hts, hP0.2, (name_of_methodNamed B.named B.method).1⟩
  have hz : ZP E s h h s.heap [] := ZG.start hP0.1
  have hl := lv_entry ([.ref x0, .int (zI x1)]) (n := 2) (Nat.le_of_ble_eq_true rfl)
  rw [lg_entry_eq]
  generalize (lg_sl ([.ref x0, .int (zI x1)]) ++ List.replicate (2 - (lg_sl ([.ref x0, .int (zI x1)])).length) Slot.unset).toArray = ls at hl ⊢
  have hl : lv_has ls 2 [(0, .ref x0), (1, .int (zI x1))] := hl
  refine W.cs (cells' := pX h - pX h) (slots' := pS h - pS h) (Nat.sub_self _).symm (Nat.sub_self _).symm ?_
  exact w_X3_type C ⟨Nat.le_refl _, Nat.le_refl _, RBw.rm⟩ hf hz hl rfl

theorem w_X0_css {p : Program} {l : Launch} {e : Env} {R : Room} {s : State} {m : MethodId} {args : Array Value} {below : List Frame} {meth : Method} {c : Code} {Q : State → Prop} {E : PEw} {h0 h : HP} {H : Heap} {locs : List Loc} (C : PC E p s m args meth c RX0 cX0_css 3 (some .boolean) "css") (hr : 9 ≤ R.frames ∧ 221 ≤ R.locals ∧ RBw R h0) {x0 : Nat} {x1 : Int} {res : HP × Int} (hf : f_X0_css h x0 x1 = some res) (hz : ZP E s h0 h H locs) {ls : Array Slot} (hl : lv_has ls 3 [(0, .ref x0), (1, .int (zI x1))]) (hk : KP E below args s Q h0 res.1 (some (.int (zI res.2)))) : W p l e R s m args below meth c H locs (pX h - pX h0) (pS h - pS h0) Q (F0 m 0 ls []) := by
  unfold f_X0_css at hf
  have hx := C.1
  have hb := C.2.1
  refine lv_aload_n hx hb dX0_css_0 rfl (lv_at hl 0 rfl) ?_
  obtain ⟨hg, hf⟩ := gd_inv hf
  refine zg_getp gP C hz 1 14 (gkp (by decide) hg) (by decide) (by decide) (Or.inl (C.w q414)) (fun _ h => h) dX0_css_1 ?_
  refine lv_iload_n hx hb dX0_css_4 rfl (lv_at hl 1 rfl) ?_
  obtain ⟨a1, ea1, hf⟩ := bd_inv hf
  rw [zx_rf ea1]
  obtain ⟨hg, hf⟩ := gd_inv hf
  obtain ⟨y2, ey2, hf⟩ := bd_inv hf
  refine zg_callV gP C hz hr (n := 1) (rest := []) (gkp (by decide) hg) (met_X3_type l E ey2) q869 q870 (C.w q871) q97 q872 (by decide +kernel) ⟨Nat.le_trans (by decide) hr.1, Nat.le_trans (by decide) hr.2.1⟩ rfl hl.1 rfl (Nat.le_of_ble_eq_true rfl) dX0_css_5 (fun H locs hz => ?_)
  refine lv_istore_n (lv' := [(2, .int (zI y2.2)), (0, .ref x0), (1, .int (zI x1))]) hx hb dX0_css_8 rfl hl (by decide) rfl (fun ls hl => ?_)
  refine lv_iload_n hx hb dX0_css_9 rfl (lv_at hl 0 rfl) ?_
  refine zl_if_eq (tgt := 17) hx hb dX0_css_10 (by decide) (fun hc => ?_) (fun hc => ?_)
  · rw [if_pos hc] at hf
    refine lv_iload_n hx hb dX0_css_17 rfl (lv_at hl 0 rfl) ?_
    obtain ⟨hg, hf⟩ := gd_inv hf
    obtain rfl := Option.some.inj hf
    exact zg_zret C hz hg hk dX0_css_18
  · rw [if_neg hc] at hf
    refine lv_aload_n hx hb dX0_css_13 rfl (lv_at hl 1 rfl) ?_
    obtain ⟨hg, hf⟩ := gd_inv hf
    obtain ⟨y3, ey3, hf⟩ := bd_inv hf
    refine zg_callV gP C hz hr (n := 0) (rest := []) (gkp (by decide) hg) (met_X0_changed l E ey3) q519 q521 (C.w qs6) q89 q522 (by decide +kernel) ⟨Nat.le_trans (by decide) hr.1, Nat.le_trans (by decide) hr.2.1⟩ rfl hl.1 rfl (Nat.le_of_ble_eq_true rfl) dX0_css_14 (fun H locs hz => ?_)
    refine lv_iload_n hx hb dX0_css_17 rfl (lv_at hl 0 rfl) ?_
    obtain ⟨hg, hf⟩ := gd_inv hf
    obtain rfl := Option.some.inj hf
    exact zg_zret C hz hg hk dX0_css_18

theorem met_X0_css (l : Launch) (E : PEw) {h : HP} {x0 : Nat} {x1 : Int} {res : HP × Int} (hf : f_X0_css h x0 x1 = some res) : Met l yX0_css (ws_ yX0_css cX0_css 3 (some .boolean)) (rmP h 9 221) (PP E h [.ref x0, .int (zI x1)]) (QP E h res.1 (some (.int (zI res.2)))) (pX res.1 - pX h) (pS res.1 - pS h) (eF E) := by
  refine Met.ofW (cc := cX0_css) (maxL := 3) (ret := (some .boolean)) (by decide) rfl ?_
  intro p e s m args below meth c s₁ B hml hv
  obtain ⟨rfl, hP0⟩ := hv
  have hts := atoms_spec (ws := ws_ yX0_css cX0_css 3 (some .boolean)) B.pre
  have hts : ∀ w ∈ lw_all, w.before _ s = true := fun w h => hts w (List.mem_cons_of_mem _ h)
  have C : PC E p s m _ meth c RX0 cX0_css 3 (some .boolean) "css" := ⟨B.exec, B.bytes, B.returns, B.notSynchronized, hml, findClass_of_methodNamed B.named, hts, hP0.2, (name_of_methodNamed B.named B.method).1⟩
  have hz : ZP E s h h s.heap [] := ZG.start hP0.1
  have hl := lv_entry ([.ref x0, .int (zI x1)]) (n := 3) (Nat.le_of_ble_eq_true rfl)
  rw [lg_entry_eq]
  generalize (lg_sl ([.ref x0, .int (zI x1)]) ++ List.replicate (3 - (lg_sl ([.ref x0, .int (zI x1)])).length) Slot.unset).toArray = ls at hl ⊢
  have hl : lv_has ls 3 [(0, .ref x0), (1, .int (zI x1))] := hl
  refine W.cs (cells' := pX h - pX h) (slots' := pS h - pS h) (Nat.sub_self _).symm (Nat.sub_self _).symm ?_
  exact w_X0_css C ⟨Nat.le_refl _, Nat.le_refl _, RBw.rm⟩ hf hz hl rfl

theorem w_X7_fits_34 {p : Program} {l : Launch} {e : Env} {R : Room} {s : State} {m : MethodId} {args : Array Value} {below : List Frame} {meth : Method} {c : Code} {Q : State → Prop} {E : PEw} {h0 h : HP} {H : Heap} {locs : List Loc} (C : PC E p s m args meth c RX7 cX7_fits 2 (some .boolean) "fits") (hr : 0 ≤ R.frames ∧ 0 ≤ R.locals ∧ RBw R h0) {x0 : Nat} {x1 : Nat} {res : Int} (hf : f_X7_fits_34 h x0 x1 = some res) (hz : ZP E s h0 h H locs) {ls : Array Slot} (hl : lv_has ls 2 [(0, .ref x0), (1, .ref x1)]) (hk : KP E below args s Q h0 h (some (.int (zI res)))) : W p l e R s m args below meth c H locs (pX h - pX h0) (pS h - pS h0) Q (F0 m 34 ls []) := by
  unfold f_X7_fits_34 at hf
  have hx := C.1
  have hb := C.2.1
  refine lv_aload_n hx hb dX7_fits_34 rfl (lv_at hl 0 rfl) ?_
  obtain ⟨hg, hf⟩ := gd_inv hf
  refine zg_geti gP C hz 6 1 (gkp (by decide) hg) (by decide) (by decide) (Or.inl (C.w q904)) (fun _ h => h) dX7_fits_35 ?_
  refine lv_aload_n hx hb dX7_fits_38 rfl (lv_at hl 1 rfl) ?_
  obtain ⟨hg, hf⟩ := gd_inv hf
  refine zg_geti gP C hz 2 3 (gkp (by decide) hg) (by decide) (by decide) (Or.inr ⟨_, C.nw q163⟩) (fun _ h => h) dX7_fits_39 ?_
  refine zl_iconst hx hb dX7_fits_42 ?_
  refine zl_ixor hx hb dX7_fits_43 ?_
  refine zl_iand hx hb dX7_fits_44 ?_
  refine zl_if_ne (tgt := 52) hx hb dX7_fits_45 (by decide) (fun hc => ?_) (fun hc => ?_)
  · rw [if_pos hc] at hf
    refine zl_iconst hx hb dX7_fits_48 ?_
    refine lv_goto (tgt := 53) hx hb dX7_fits_49 (by decide) ?_
    obtain rfl := Option.some.inj hf
    exact zg_zret C hz zisB_1 hk dX7_fits_53
  · rw [if_neg hc] at hf
    refine zl_iconst hx hb dX7_fits_52 ?_
    obtain rfl := Option.some.inj hf
    exact zg_zret C hz zisB_0 hk dX7_fits_53

theorem w_X7_fits {p : Program} {l : Launch} {e : Env} {R : Room} {s : State} {m : MethodId} {args : Array Value} {below : List Frame} {meth : Method} {c : Code} {Q : State → Prop} {E : PEw} {h0 h : HP} {H : Heap} {locs : List Loc} (C : PC E p s m args meth c RX7 cX7_fits 2 (some .boolean) "fits") (hr : 0 ≤ R.frames ∧ 0 ≤ R.locals ∧ RBw R h0) {x0 : Nat} {x1 : Nat} {res : Int} (hf : f_X7_fits h x0 x1 = some res) (hz : ZP E s h0 h H locs) {ls : Array Slot} (hl : lv_has ls 2 [(0, .ref x0), (1, .ref x1)]) (hk : KP E below args s Q h0 h (some (.int (zI res)))) : W p l e R s m args below meth c H locs (pX h - pX h0) (pS h - pS h0) Q (F0 m 0 ls []) := by
  unfold f_X7_fits at hf
  have hx := C.1
  have hb := C.2.1
  refine lv_aload_n hx hb dX7_fits_0 rfl (lv_at hl 1 rfl) ?_
  obtain ⟨hg, hf⟩ := gd_inv hf
  refine zg_geti gP C hz 2 2 (gkp (by decide) hg) (by decide) (by decide) (Or.inr ⟨_, C.nw q159⟩) (fun _ h => h) dX7_fits_1 ?_
  refine zl_if_eq (tgt := 52) hx hb dX7_fits_4 (by decide) (fun hc => ?_) (fun hc => ?_)
  · rw [if_pos hc] at hf
    refine zl_iconst hx hb dX7_fits_52 ?_
    obtain rfl := Option.some.inj hf
    exact zg_zret C hz zisB_0 hk dX7_fits_53
  · rw [if_neg hc] at hf
    refine lv_aload_n hx hb dX7_fits_7 rfl (lv_at hl 0 rfl) ?_
    obtain ⟨hg, hf⟩ := gd_inv hf
    refine zg_geti gP C hz 6 0 (gkp (by decide) hg) (by decide) (by decide) (Or.inl (C.w q903)) (fun _ h => h) dX7_fits_8 ?_
    refine zl_if_eq (tgt := 34) hx hb dX7_fits_11 (by decide) (fun hc => ?_) (fun hc => ?_)
    · rw [if_pos hc] at hf
      exact w_X7_fits_34 C hr hf hz (lv_sub hl [0, 1] rfl) hk
    · rw [if_neg hc] at hf
      refine lv_aload_n hx hb dX7_fits_14 rfl (lv_at hl 0 rfl) ?_
      obtain ⟨hg, hf⟩ := gd_inv hf
      refine zg_geti gP C hz 6 0 (gkp (by decide) hg) (by decide) (by decide) (Or.inl (C.w q903)) (fun _ h => h) dX7_fits_15 ?_
      refine zl_bipush hx hb dX7_fits_18 (by decide) ?_
      refine zl_icmp_eq (tgt := 34) hx hb dX7_fits_20 (by decide) (fun hc => ?_) (fun hc => ?_)
      · rw [if_pos hc] at hf
        exact w_X7_fits_34 C hr hf hz (lv_sub hl [0, 1] rfl) hk
      · rw [if_neg hc] at hf
        refine lv_aload_n hx hb dX7_fits_23 rfl (lv_at hl 0 rfl) ?_
        obtain ⟨hg, hf⟩ := gd_inv hf
        refine zg_geti gP C hz 6 0 (gkp (by decide) hg) (by decide) (by decide) (Or.inl (C.w q903)) (fun _ h => h) dX7_fits_24 ?_
        refine lv_aload_n hx hb dX7_fits_27 rfl (lv_at hl 1 rfl) ?_
        obtain ⟨hg, hf⟩ := gd_inv hf
        refine zg_geti gP C hz 2 2 (gkp (by decide) hg) (by decide) (by decide) (Or.inr ⟨_, C.nw q159⟩) (fun _ h => h) dX7_fits_28 ?_
        refine zl_icmp_ne (tgt := 52) hx hb dX7_fits_31 (by decide) (fun hc => ?_) (fun hc => ?_)
        · rw [if_pos hc] at hf
          exact w_X7_fits_34 C hr hf hz (lv_sub hl [0, 1] rfl) hk
        · rw [if_neg hc] at hf
          refine zl_iconst hx hb dX7_fits_52 ?_
          obtain rfl := Option.some.inj hf
          exact zg_zret C hz zisB_0 hk dX7_fits_53

theorem met_X7_fits (l : Launch) (E : PEw) {h : HP} {x0 : Nat} {x1 : Nat} {res : Int} (hf : f_X7_fits h x0 x1 = some res) : Met l yX7_fits (ws_ yX7_fits cX7_fits 2 (some .boolean)) (rmP h 0 0) (PP E h [.ref x0, .ref x1]) (QP E h h (some (.int (zI res)))) (pX h - pX h) (pS h - pS h) (eF E) := by
  refine Met.ofW (cc := cX7_fits) (maxL := 2) (ret := (some .boolean)) (by decide) rfl ?_
  intro p e s m args below meth c s₁ B hml hv
  obtain ⟨rfl, hP0⟩ := hv
  have hts := atoms_spec (ws := ws_ yX7_fits cX7_fits 2 (some .boolean)) B.pre
  have hts : ∀ w ∈ lw_all, w.before _ s = true := fun w h => hts w (List.mem_cons_of_mem _ h)
  have C : PC E p s m _ meth c RX7 cX7_fits 2 (some .boolean) "fits" := ⟨B.exec, B.bytes, B.returns, B.notSynchronized, hml, findClass_of_methodNamed B.named, hts, hP0.2, (name_of_methodNamed B.named B.method).1⟩
  have hz : ZP E s h h s.heap [] := ZG.start hP0.1
  have hl := lv_entry ([.ref x0, .ref x1]) (n := 2) (Nat.le_of_ble_eq_true rfl)
  rw [lg_entry_eq]
  generalize (lg_sl ([.ref x0, .ref x1]) ++ List.replicate (2 - (lg_sl ([.ref x0, .ref x1])).length) Slot.unset).toArray = ls at hl ⊢
  have hl : lv_has ls 2 [(0, .ref x0), (1, .ref x1)] := hl
  refine W.cs (cells' := pX h - pX h) (slots' := pS h - pS h) (Nat.sub_self _).symm (Nat.sub_self _).symm ?_
  exact w_X7_fits C ⟨Nat.le_refl _, Nat.le_refl _, RBw.rm⟩ hf hz hl rfl

def RK_fits (l : Launch) (E : PEw) (N : Nat) (rc : RC_fits) : Prop := ∀ {h : HP} {x0 : Nat} {x1 : Nat} {res : Int}, rc h x0 x1 = some res → Met l yX0_fits (ws_ yX0_fits cX0_fits 3 (some .boolean)) (rmP h (1 * N) (22 * N)) (PP E h [.ref x0, .ref x1]) (QP E h h (some (.int (zI res)))) (pX h - pX h) (pS h - pS h) (eF E)
theorem w_X0_fits_56 {p : Program} {l : Launch} {e : Env} {R : Room} {s : State} {m : MethodId} {args : Array Value} {below : List Frame} {meth : Method} {c : Code} {Q : State → Prop} {E : PEw} {h0 h : HP} {H : Heap} {locs : List Loc} {rc : RC_fits} (C : PC E p s m args meth c RX0 cX0_fits 3 (some .boolean) "fits") {N : Nat} (hrc : RK_fits l E N rc) (hr : 1 * (N + 1) ≤ R.frames ∧ 22 * (N + 1) ≤ R.locals ∧ RBw R h0) {x0 : Nat} {t0 : Option Nat} {res : ((Option Nat)) ⊕ (Int)} (hf : f_X0_fits_56 rc h x0 t0 = some res) (hz : ZP E s h0 h H locs) {ls : Array Slot} (hl : lv_has ls 3 [(0, .ref x0)]) (hk : (Sum.elim (fun z => ∀ (H : Heap) (locs : List Loc) (ls : Array Slot), ZP E s h0 h H locs → lv_has ls 3 [(0, .ref x0), (2, va_rf z)] → W p l e R s m args below meth c H locs (pX h - pX h0) (pS h - pS h0) Q (F0 m 24 ls [])) (fun r => KP E below args s Q h0 h (some (.int (zI r))))) res) : W p l e R s m args below meth c H locs (pX h - pX h0) (pS h - pS h0) Q (F0 m 56 ls [va_rf t0]) := by
  unfold f_X0_fits_56 at hf
  have hx := C.1
  have hb := C.2.1
  refine zl_astore_n_o (lv' := [(2, va_rf t0), (0, .ref x0)]) hx hb dX0_fits_56 rfl hl (by decide) rfl (fun ls hl => ?_)
  refine lv_goto (tgt := 24) hx hb dX0_fits_57 (by decide) ?_
  obtain rfl := Option.some.inj hf
  exact hk _ _ _ hz (lv_sub hl [1, 0] rfl)

theorem w_X0_fits_24s {p : Program} {l : Launch} {e : Env} {R : Room} {s : State} {m : MethodId} {args : Array Value} {below : List Frame} {meth : Method} {c : Code} {Q : State → Prop} {E : PEw} {h0 h : HP} {H : Heap} {locs : List Loc} {rc : RC_fits} (C : PC E p s m args meth c RX0 cX0_fits 3 (some .boolean) "fits") {N : Nat} (hrc : RK_fits l E N rc) (hr : 1 * (N + 1) ≤ R.frames ∧ 22 * (N + 1) ≤ R.locals ∧ RBw R h0) {x0 : Nat} {x2 : Option Nat} {res : ((Option Nat)) ⊕ (Int)} (hf : f_X0_fits_24s rc h x0 x2 = some res) (hz : ZP E s h0 h H locs) {ls : Array Slot} (hl : lv_has ls 3 [(0, .ref x0), (2, va_rf x2)]) (hk : (Sum.elim (fun z => ∀ (H : Heap) (locs : List Loc) (ls : Array Slot), ZP E s h0 h H locs → lv_has ls 3 [(0, .ref x0), (2, va_rf z)] → W p l e R s m args below meth c H locs (pX h - pX h0) (pS h - pS h0) Q (F0 m 24 ls [])) (fun r => KP E below args s Q h0 h (some (.int (zI r))))) res) : W p l e R s m args below meth c H locs (pX h - pX h0) (pS h - pS h0) Q (F0 m 24 ls []) := by
  unfold f_X0_fits_24s at hf
  have hx := C.1
  have hb := C.2.1
  refine zl_aload_n_o hx hb dX0_fits_24 rfl (lv_at hl 1 rfl) ?_
  rcases nl_inv hf with ⟨ho, hf⟩ | ⟨a1, ho, hf⟩
  · rw [zx_nul ho]
    refine lv_ifnullN (tgt := 60) hx hb dX0_fits_25 (by decide) ?_
    refine zl_iconst hx hb dX0_fits_60 ?_
    obtain rfl := Option.some.inj hf
    exact zg_zret C hz zisB_0 hk dX0_fits_61
  · rw [zx_rf ho] at hl ⊢
    refine lv_ifnull hx hb dX0_fits_25 ?_
    refine lv_aload_n hx hb dX0_fits_28 rfl (lv_at hl 0 rfl) ?_
    obtain ⟨hg, hf⟩ := gd_inv hf
    refine zg_getp gP C hz 6 3 (gkp (by decide) hg) (by decide) (by decide) (Or.inr ⟨_, C.nw q908⟩) (fun _ h => h) dX0_fits_29 ?_
    refine lv_aload_n hx hb dX0_fits_32 rfl (lv_at hl 1 rfl) ?_
    obtain ⟨a2, ea2, hf⟩ := bd_inv hf
    rw [zx_rf ea2]
    obtain ⟨y3, ey3, hf⟩ := bd_inv hf
    refine zg_callS gP C hz hr (n := 2) (rest := []) (hrc ey3) q975 q976 q89 q977 (by decide +kernel) ⟨by have := hr.1; omega, by have := hr.2.1; omega⟩ rfl hl.1 rfl (Nat.le_of_ble_eq_true rfl) dX0_fits_33 (fun H locs hz => ?_)
    refine zl_if_eq (tgt := 41) hx hb dX0_fits_36 (by decide) (fun hc => ?_) (fun hc => ?_)
    · rw [if_pos hc] at hf
      refine lv_aload_n hx hb dX0_fits_41 rfl (lv_at hl 0 rfl) ?_
      obtain ⟨hg, hf⟩ := gd_inv hf
      refine zg_geti gP C hz 6 2 (gkp (by decide) hg) (by decide) (by decide) (Or.inr ⟨_, C.nw q906⟩) (fun _ h => h) dX0_fits_42 ?_
      refine zl_if_eq (tgt := 52) hx hb dX0_fits_45 (by decide) (fun hc => ?_) (fun hc => ?_)
      · rw [if_pos hc] at hf
        refine lv_aload_n hx hb dX0_fits_52 rfl (lv_at hl 1 rfl) ?_
        obtain ⟨hg, hf⟩ := gd_inv hf
        refine zg_getp gP C hz 2 0 (gkp (by decide) hg) (by decide) (by decide) (Or.inl (C.w q191)) (C.sm q192) dX0_fits_53 ?_
        exact w_X0_fits_56 C hrc hr hf hz (lv_sub hl [0] rfl) hk
      · rw [if_neg hc] at hf
        refine lv_null hx hb dX0_fits_48 ?_
        refine lv_goto (tgt := 56) hx hb dX0_fits_49 (by decide) ?_
        exact w_X0_fits_56 C hrc hr hf hz (lv_sub hl [0] rfl) hk
    · rw [if_neg hc] at hf
      refine zl_iconst hx hb dX0_fits_39 ?_
      obtain rfl := Option.some.inj hf
      exact zg_zret C hz zisB_1 hk dX0_fits_40

theorem w_X0_fits_24 {p : Program} {l : Launch} {e : Env} {R : Room} {s : State} {m : MethodId} {args : Array Value} {below : List Frame} {meth : Method} {c : Code} {Q : State → Prop} {E : PEw} {h0 h : HP} {H : Heap} {locs : List Loc} {rc : RC_fits} (C : PC E p s m args meth c RX0 cX0_fits 3 (some .boolean) "fits") {N : Nat} (hrc : RK_fits l E N rc) (hr : 1 * (N + 1) ≤ R.frames ∧ 22 * (N + 1) ≤ R.locals ∧ RBw R h0) {x0 : Nat} {x2 : Option Nat} {res : Int} (hf : f_X0_fits_24 rc h x0 x2 = some res) (hz : ZP E s h0 h H locs) {ls : Array Slot} (hl : lv_has ls 3 [(0, .ref x0), (2, va_rf x2)]) (hk : KP E below args s Q h0 h (some (.int (zI res)))) : W p l e R s m args below meth c H locs (pX h - pX h0) (pS h - pS h0) Q (F0 m 24 ls []) := by
  unfold f_X0_fits_24 at hf
  refine iter_ind (P := fun z r => ∀ (H : Heap) (locs : List Loc) (ls : Array Slot), ZP E s h0 h H locs → lv_has ls 3 [(0, .ref x0), (2, va_rf z)] → KP E below args s Q h0 h (some (.int (zI r))) → W p l e R s m args below meth c H locs (pX h - pX h0) (pS h - pS h0) Q (F0 m 24 ls [])) ?_ ?_ hf H locs ls hz hl hk
  · intro z r h1 H locs ls hz hl hk; exact w_X0_fits_24s C hrc hr h1 hz hl hk
  · intro z z1 r h1 ih H locs ls hz hl hk; exact w_X0_fits_24s C hrc hr h1 hz hl (fun H locs ls hz hl => ih H locs ls hz hl hk)

theorem w_X0_fits_b {p : Program} {l : Launch} {e : Env} {R : Room} {s : State} {m : MethodId} {args : Array Value} {below : List Frame} {meth : Method} {c : Code} {Q : State → Prop} {E : PEw} {h0 h : HP} {H : Heap} {locs : List Loc} {rc : RC_fits} (C : PC E p s m args meth c RX0 cX0_fits 3 (some .boolean) "fits") {N : Nat} (hrc : RK_fits l E N rc) (hr : 1 * (N + 1) ≤ R.frames ∧ 22 * (N + 1) ≤ R.locals ∧ RBw R h0) {x0 : Nat} {x1 : Nat} {res : Int} (hf : f_X0_fits_b rc h x0 x1 = some res) (hz : ZP E s h0 h H locs) {ls : Array Slot} (hl : lv_has ls 3 [(0, .ref x0), (1, .ref x1)]) (hk : KP E below args s Q h0 h (some (.int (zI res)))) : W p l e R s m args below meth c H locs (pX h - pX h0) (pS h - pS h0) Q (F0 m 0 ls []) := by
  unfold f_X0_fits_b at hf
  have hx := C.1
  have hb := C.2.1
  refine lv_aload_n hx hb dX0_fits_0 rfl (lv_at hl 0 rfl) ?_
  refine lv_aload_n hx hb dX0_fits_1 rfl (lv_at hl 1 rfl) ?_
  obtain ⟨hg, hf⟩ := gd_inv hf
  obtain ⟨y1, ey1, hf⟩ := bd_inv hf
  refine zg_callV gP C hz hr (n := 1) (rest := []) (gkp (by decide) hg) (met_X7_fits l E ey1) q978 q979 (C.w q980) q114 q981 (by decide +kernel) ⟨by have := hr.1; omega, by have := hr.2.1; omega⟩ rfl hl.1 rfl (Nat.le_of_ble_eq_true rfl) dX0_fits_2 (fun H locs hz => ?_)
  refine zl_if_ne (tgt := 10) hx hb dX0_fits_5 (by decide) (fun hc => ?_) (fun hc => ?_)
  · rw [if_pos hc] at hf
    refine zl_iconst hx hb dX0_fits_8 ?_
    obtain rfl := Option.some.inj hf
    exact zg_zret C hz zisB_0 hk dX0_fits_9
  · rw [if_neg hc] at hf
    refine lv_aload_n hx hb dX0_fits_10 rfl (lv_at hl 0 rfl) ?_
    obtain ⟨hg, hf⟩ := gd_inv hf
    refine zg_getp gP C hz 6 3 (gkp (by decide) hg) (by decide) (by decide) (Or.inr ⟨_, C.nw q908⟩) (fun _ h => h) dX0_fits_11 ?_
    rcases nl_inv hf with ⟨ho, hf⟩ | ⟨a2, ho, hf⟩
    · rw [zx_nul ho]
      refine lv_ifnonnullN hx hb dX0_fits_14 ?_
      refine zl_iconst hx hb dX0_fits_17 ?_
      obtain rfl := Option.some.inj hf
      exact zg_zret C hz zisB_1 hk dX0_fits_18
    · rw [zx_rf ho]
      refine lv_ifnonnull (tgt := 19) hx hb dX0_fits_14 (by decide) ?_
      refine lv_aload_n hx hb dX0_fits_19 rfl (lv_at hl 1 rfl) ?_
      obtain ⟨hg, hf⟩ := gd_inv hf
      refine zg_getp gP C hz 2 0 (gkp (by decide) hg) (by decide) (by decide) (Or.inl (C.w q191)) (C.sm q192) dX0_fits_20 ?_
      obtain ⟨y3, ey3, hf⟩ := bnd_inv hf
      refine zl_topo ey3 ?_
      refine zl_astore_n_o (lv' := [(2, va_rf y3), (0, .ref x0), (1, .ref x1)]) hx hb dX0_fits_23 rfl hl (by decide) rfl (fun ls hl => ?_)
      exact w_X0_fits_24 C hrc hr hf hz (lv_sub hl [1, 0] rfl) hk

theorem mets_X0_fits (l : Launch) (E : PEw) {N : Nat} (hrc : RK_fits l E N (F_fits N)) : ∀ {h : HP} {x0 : Nat} {x1 : Nat} {res : Int}, f_X0_fits_b (F_fits N) h x0 x1 = some res → Met l yX0_fits (ws_ yX0_fits cX0_fits 3 (some .boolean)) (rmP h (1 * (N + 1)) (22 * (N + 1))) (PP E h [.ref x0, .ref x1]) (QP E h h (some (.int (zI res)))) (pX h - pX h) (pS h - pS h) (eF E) := by
  intro h x0 x1 res hf
  refine Met.ofW (cc := cX0_fits) (maxL := 3) (ret := (some .boolean)) (by decide) rfl ?_
  intro p e s m args below meth c s₁ B hml hv
  obtain ⟨rfl, hP0⟩ := hv
  have hts := atoms_spec (ws := ws_ yX0_fits cX0_fits 3 (some .boolean)) B.pre
  have hts : ∀ w ∈ lw_all, w.before _ s = true := fun w h => hts w (List.mem_cons_of_mem _ h)
  have C : PC E p s m _ meth c RX0 cX0_fits 3 (some .boolean) "fits" := ⟨B.exec, B.bytes, B.returns, B.notSynchronized, hml, findClass_of_methodNamed B.named, hts, hP0.2, (name_of_methodNamed B.named B.method).1⟩
  have hz : ZP E s h h s.heap [] := ZG.start hP0.1
  have hl := lv_entry ([.ref x0, .ref x1]) (n := 3) (Nat.le_of_ble_eq_true rfl)
  rw [lg_entry_eq]
  generalize (lg_sl ([.ref x0, .ref x1]) ++ List.replicate (3 - (lg_sl ([.ref x0, .ref x1])).length) Slot.unset).toArray = ls at hl ⊢
  have hl : lv_has ls 3 [(0, .ref x0), (1, .ref x1)] := hl
  refine W.cs (cells' := pX h - pX h) (slots' := pS h - pS h) (Nat.sub_self _).symm (Nat.sub_self _).symm ?_
  exact w_X0_fits_b C hrc ⟨Nat.le_refl _, Nat.le_refl _, RBw.rm⟩ hf hz hl rfl
theorem RK_fits.all (l : Launch) (E : PEw) : ∀ N, RK_fits l E N (F_fits N) := by
  intro N
  induction N with
  | zero => exact (by intro h x0 x1 res hf; cases hf)
  | succ N ih => exact mets_X0_fits l E ih
theorem met_X0_fits (l : Launch) (E : PEw) : ∀ {h : HP} {x0 : Nat} {x1 : Nat} {res : Int}, f_X0_fits 8 h x0 x1 = some res → Met l yX0_fits (ws_ yX0_fits cX0_fits 3 (some .boolean)) (rmP h (8) (176)) (PP E h [.ref x0, .ref x1]) (QP E h h (some (.int (zI res)))) (pX h - pX h) (pS h - pS h) (eF E) := (RK_fits.all l E 8)
theorem w_X0_given_186 {p : Program} {l : Launch} {e : Env} {R : Room} {s : State} {m : MethodId} {args : Array Value} {below : List Frame} {meth : Method} {c : Code} {Q : State → Prop} {E : PEw} {h0 h : HP} {H : Heap} {locs : List Loc} (C : PC E p s m args meth c RX0 cX0_given 11 (some .int) "given") (hr : 9 ≤ R.frames ∧ 198 ≤ R.locals ∧ RBw R h0) {x0 : Nat} {x1 : Int} {x2 : Nat} {x3 : Int} {x4 : Int} {x5 : Int} {x6 : Int} {x7 : Int} {res : (Int × Int × Int × Int × Int) ⊕ (Int)} (hf : f_X0_given_186 h x0 x1 x2 x3 x4 x5 x6 x7 = some res) (hz : ZP E s h0 h H locs) {ls : Array Slot} (hl : lv_has ls 11 [(0, .ref x0), (1, .int (zI x1)), (2, .ref x2), (3, .int (zI x3)), (4, .int (zI x4)), (5, .int (zI x5)), (6, .int (zI x6)), (7, .int (zI x7))]) (hk : (Sum.elim (fun z => ∀ (H : Heap) (locs : List Loc) (ls : Array Slot), ZP E s h0 h H locs → lv_has ls 11 [(0, .ref x0), (1, .int (zI x1)), (2, .ref x2), (3, .int (zI z.1)), (4, .int (zI z.2.1)), (5, .int (zI z.2.2.1)), (6, .int (zI z.2.2.2.1)), (7, .int (zI z.2.2.2.2))] → W p l e R s m args below meth c H locs (pX h - pX h0) (pS h - pS h0) Q (F0 m 16 ls [])) (fun r => KP E below args s Q h0 h (some (.int (zI r))))) res) : W p l e R s m args below meth c H locs (pX h - pX h0) (pS h - pS h0) Q (F0 m 186 ls []) := by
  unfold f_X0_given_186 at hf
  have hx := C.1
  have hb := C.2.1
  refine zl_iinc (x := x7) (n := 1) (lv' := [(7, .int (zI (x7 + 1))), (0, .ref x0), (1, .int (zI x1)), (2, .ref x2), (3, .int (zI x3)), (4, .int (zI x4)), (5, .int (zI x5)), (6, .int (zI x6))]) (k := 7) hx hb dX0_given_186 hl rfl (by decide) rfl (fun ls hl => ?_)
  refine lv_goto (tgt := 16) hx hb dX0_given_189 (by decide) ?_
  obtain rfl := Option.some.inj hf
  exact hk _ _ _ hz (lv_sub hl [1, 2, 3, 4, 5, 6, 7, 0] rfl)

theorem w_X0_given_184 {p : Program} {l : Launch} {e : Env} {R : Room} {s : State} {m : MethodId} {args : Array Value} {below : List Frame} {meth : Method} {c : Code} {Q : State → Prop} {E : PEw} {h0 h : HP} {H : Heap} {locs : List Loc} (C : PC E p s m args meth c RX0 cX0_given 11 (some .int) "given") (hr : 9 ≤ R.frames ∧ 198 ≤ R.locals ∧ RBw R h0) {x0 : Nat} {x1 : Int} {x2 : Nat} {x3 : Int} {x4 : Int} {x5 : Int} {x7 : Int} {t0 : Int} {res : (Int × Int × Int × Int × Int) ⊕ (Int)} (hf : f_X0_given_184 h x0 x1 x2 x3 x4 x5 x7 t0 = some res) (hz : ZP E s h0 h H locs) {ls : Array Slot} (hl : lv_has ls 11 [(0, .ref x0), (1, .int (zI x1)), (2, .ref x2), (3, .int (zI x3)), (4, .int (zI x4)), (5, .int (zI x5)), (7, .int (zI x7))]) (hk : (Sum.elim (fun z => ∀ (H : Heap) (locs : List Loc) (ls : Array Slot), ZP E s h0 h H locs → lv_has ls 11 [(0, .ref x0), (1, .int (zI x1)), (2, .ref x2), (3, .int (zI z.1)), (4, .int (zI z.2.1)), (5, .int (zI z.2.2.1)), (6, .int (zI z.2.2.2.1)), (7, .int (zI z.2.2.2.2))] → W p l e R s m args below meth c H locs (pX h - pX h0) (pS h - pS h0) Q (F0 m 16 ls [])) (fun r => KP E below args s Q h0 h (some (.int (zI r))))) res) : W p l e R s m args below meth c H locs (pX h - pX h0) (pS h - pS h0) Q (F0 m 184 ls [.int (zI t0)]) := by
  unfold f_X0_given_184 at hf
  have hx := C.1
  have hb := C.2.1
  refine lv_istore (lv' := [(6, .int (zI t0)), (0, .ref x0), (1, .int (zI x1)), (2, .ref x2), (3, .int (zI x3)), (4, .int (zI x4)), (5, .int (zI x5)), (7, .int (zI x7))]) hx hb dX0_given_184 hl (by decide) rfl (fun ls hl => ?_)
  exact w_X0_given_186 C hr hf hz (lv_sub hl [1, 2, 3, 4, 5, 6, 0, 7] rfl) hk

theorem w_X0_given_167 {p : Program} {l : Launch} {e : Env} {R : Room} {s : State} {m : MethodId} {args : Array Value} {below : List Frame} {meth : Method} {c : Code} {Q : State → Prop} {E : PEw} {h0 h : HP} {H : Heap} {locs : List Loc} (C : PC E p s m args meth c RX0 cX0_given 11 (some .int) "given") (hr : 9 ≤ R.frames ∧ 198 ≤ R.locals ∧ RBw R h0) {x0 : Nat} {x1 : Int} {x2 : Nat} {x3 : Int} {x5 : Int} {x6 : Int} {x7 : Int} {x8 : Nat} {x10 : Int} {t0 : Int} {res : (Int × Int × Int × Int × Int) ⊕ (Int)} (hf : f_X0_given_167 h x0 x1 x2 x3 x5 x6 x7 x8 x10 t0 = some res) (hz : ZP E s h0 h H locs) {ls : Array Slot} (hl : lv_has ls 11 [(0, .ref x0), (1, .int (zI x1)), (2, .ref x2), (3, .int (zI x3)), (5, .int (zI x5)), (6, .int (zI x6)), (7, .int (zI x7)), (8, .ref x8), (10, .int (zI x10))]) (hk : (Sum.elim (fun z => ∀ (H : Heap) (locs : List Loc) (ls : Array Slot), ZP E s h0 h H locs → lv_has ls 11 [(0, .ref x0), (1, .int (zI x1)), (2, .ref x2), (3, .int (zI z.1)), (4, .int (zI z.2.1)), (5, .int (zI z.2.2.1)), (6, .int (zI z.2.2.2.1)), (7, .int (zI z.2.2.2.2))] → W p l e R s m args below meth c H locs (pX h - pX h0) (pS h - pS h0) Q (F0 m 16 ls [])) (fun r => KP E below args s Q h0 h (some (.int (zI r))))) res) : W p l e R s m args below meth c H locs (pX h - pX h0) (pS h - pS h0) Q (F0 m 167 ls [.int (zI t0)]) := by
  unfold f_X0_given_167 at hf
  have hx := C.1
  have hb := C.2.1
  refine lv_istore (lv' := [(4, .int (zI t0)), (0, .ref x0), (1, .int (zI x1)), (2, .ref x2), (3, .int (zI x3)), (5, .int (zI x5)), (6, .int (zI x6)), (7, .int (zI x7)), (8, .ref x8), (10, .int (zI x10))]) hx hb dX0_given_167 hl (by decide) rfl (fun ls hl => ?_)
  refine lv_iload hx hb dX0_given_169 (lv_at hl 9 rfl) ?_
  refine zl_if_eq (tgt := 182) hx hb dX0_given_171 (by decide) (fun hc => ?_) (fun hc => ?_)
  · rw [if_pos hc] at hf
    refine lv_iload hx hb dX0_given_182 (lv_at hl 6 rfl) ?_
    exact w_X0_given_184 C hr hf hz (lv_sub hl [1, 2, 3, 4, 0, 5, 7] rfl) hk
  · rw [if_neg hc] at hf
    refine lv_aload hx hb dX0_given_174 (lv_at hl 8 rfl) ?_
    obtain ⟨hg, hf⟩ := gd_inv hf
    refine zg_geti gP C hz 7 1 (gkp (by decide) hg) (by decide) (by decide) (Or.inr ⟨_, C.nw q932⟩) (fun _ h => h) dX0_given_176 ?_
    refine lv_goto (tgt := 184) hx hb dX0_given_179 (by decide) ?_
    exact w_X0_given_184 C hr hf hz (lv_sub hl [1, 2, 3, 4, 0, 5, 7] rfl) hk

theorem w_X0_given_148 {p : Program} {l : Launch} {e : Env} {R : Room} {s : State} {m : MethodId} {args : Array Value} {below : List Frame} {meth : Method} {c : Code} {Q : State → Prop} {E : PEw} {h0 h : HP} {H : Heap} {locs : List Loc} (C : PC E p s m args meth c RX0 cX0_given 11 (some .int) "given") (hr : 9 ≤ R.frames ∧ 198 ≤ R.locals ∧ RBw R h0) {x0 : Nat} {x1 : Int} {x2 : Nat} {x3 : Int} {x4 : Int} {x6 : Int} {x7 : Int} {x8 : Nat} {x10 : Int} {t0 : Int} {res : (Int × Int × Int × Int × Int) ⊕ (Int)} (hf : f_X0_given_148 h x0 x1 x2 x3 x4 x6 x7 x8 x10 t0 = some res) (hz : ZP E s h0 h H locs) {ls : Array Slot} (hl : lv_has ls 11 [(0, .ref x0), (1, .int (zI x1)), (2, .ref x2), (3, .int (zI x3)), (4, .int (zI x4)), (6, .int (zI x6)), (7, .int (zI x7)), (8, .ref x8), (10, .int (zI x10))]) (hk : (Sum.elim (fun z => ∀ (H : Heap) (locs : List Loc) (ls : Array Slot), ZP E s h0 h H locs → lv_has ls 11 [(0, .ref x0), (1, .int (zI x1)), (2, .ref x2), (3, .int (zI z.1)), (4, .int (zI z.2.1)), (5, .int (zI z.2.2.1)), (6, .int (zI z.2.2.2.1)), (7, .int (zI z.2.2.2.2))] → W p l e R s m args below meth c H locs (pX h - pX h0) (pS h - pS h0) Q (F0 m 16 ls [])) (fun r => KP E below args s Q h0 h (some (.int (zI r))))) res) : W p l e R s m args below meth c H locs (pX h - pX h0) (pS h - pS h0) Q (F0 m 148 ls [.int (zI t0)]) := by
  unfold f_X0_given_148 at hf
  have hx := C.1
  have hb := C.2.1
  refine lv_istore (lv' := [(5, .int (zI t0)), (0, .ref x0), (1, .int (zI x1)), (2, .ref x2), (3, .int (zI x3)), (4, .int (zI x4)), (6, .int (zI x6)), (7, .int (zI x7)), (8, .ref x8), (10, .int (zI x10))]) hx hb dX0_given_148 hl (by decide) rfl (fun ls hl => ?_)
  refine lv_iload hx hb dX0_given_150 (lv_at hl 9 rfl) ?_
  refine zl_if_eq (tgt := 165) hx hb dX0_given_152 (by decide) (fun hc => ?_) (fun hc => ?_)
  · rw [if_pos hc] at hf
    refine lv_iload hx hb dX0_given_165 (lv_at hl 5 rfl) ?_
    exact w_X0_given_167 C hr hf hz (lv_sub hl [1, 2, 3, 4, 0, 6, 7, 8, 9] rfl) hk
  · rw [if_neg hc] at hf
    refine lv_aload hx hb dX0_given_155 (lv_at hl 8 rfl) ?_
    obtain ⟨hg, hf⟩ := gd_inv hf
    refine zg_getp gP C hz 7 3 (gkp (by decide) hg) (by decide) (by decide) (Or.inr ⟨_, C.nw q936⟩) (fun _ h => h) dX0_given_157 ?_
    refine lv_iload_n hx hb dX0_given_160 rfl (lv_at hl 2 rfl) ?_
    obtain ⟨a1, ea1, hf⟩ := bd_inv hf
    rw [zx_rf ea1]
    obtain ⟨hg, hf⟩ := gd_inv hf
    obtain ⟨hi, hf⟩ := gd_inv hf
    refine zg_iald gP C hz hg hi dX0_given_161 ?_
    refine lv_goto (tgt := 167) hx hb dX0_given_162 (by decide) ?_
    exact w_X0_given_167 C hr hf hz (lv_sub hl [1, 2, 3, 4, 0, 6, 7, 8, 9] rfl) hk

theorem w_X0_given_132 {p : Program} {l : Launch} {e : Env} {R : Room} {s : State} {m : MethodId} {args : Array Value} {below : List Frame} {meth : Method} {c : Code} {Q : State → Prop} {E : PEw} {h0 h : HP} {H : Heap} {locs : List Loc} (C : PC E p s m args meth c RX0 cX0_given 11 (some .int) "given") (hr : 9 ≤ R.frames ∧ 198 ≤ R.locals ∧ RBw R h0) {x0 : Nat} {x1 : Int} {x2 : Nat} {x4 : Int} {x5 : Int} {x6 : Int} {x7 : Int} {x8 : Nat} {x9 : Int} {x10 : Int} {t0 : Int} {res : (Int × Int × Int × Int × Int) ⊕ (Int)} (hf : f_X0_given_132 h x0 x1 x2 x4 x5 x6 x7 x8 x9 x10 t0 = some res) (hz : ZP E s h0 h H locs) {ls : Array Slot} (hl : lv_has ls 11 [(0, .ref x0), (1, .int (zI x1)), (2, .ref x2), (4, .int (zI x4)), (5, .int (zI x5)), (6, .int (zI x6)), (7, .int (zI x7)), (8, .ref x8), (9, .int (zI x9)), (10, .int (zI x10))]) (hk : (Sum.elim (fun z => ∀ (H : Heap) (locs : List Loc) (ls : Array Slot), ZP E s h0 h H locs → lv_has ls 11 [(0, .ref x0), (1, .int (zI x1)), (2, .ref x2), (3, .int (zI z.1)), (4, .int (zI z.2.1)), (5, .int (zI z.2.2.1)), (6, .int (zI z.2.2.2.1)), (7, .int (zI z.2.2.2.2))] → W p l e R s m args below meth c H locs (pX h - pX h0) (pS h - pS h0) Q (F0 m 16 ls [])) (fun r => KP E below args s Q h0 h (some (.int (zI r))))) res) : W p l e R s m args below meth c H locs (pX h - pX h0) (pS h - pS h0) Q (F0 m 132 ls [.int (zI t0)]) := by
  unfold f_X0_given_132 at hf
  have hx := C.1
  have hb := C.2.1
  refine lv_istore_n (lv' := [(3, .int (zI t0)), (0, .ref x0), (1, .int (zI x1)), (2, .ref x2), (4, .int (zI x4)), (5, .int (zI x5)), (6, .int (zI x6)), (7, .int (zI x7)), (8, .ref x8), (9, .int (zI x9)), (10, .int (zI x10))]) hx hb dX0_given_132 rfl hl (by decide) rfl (fun ls hl => ?_)
  refine lv_iload hx hb dX0_given_133 (lv_at hl 9 rfl) ?_
  refine zl_if_eq (tgt := 146) hx hb dX0_given_135 (by decide) (fun hc => ?_) (fun hc => ?_)
  · rw [if_pos hc] at hf
    refine lv_iload hx hb dX0_given_146 (lv_at hl 5 rfl) ?_
    exact w_X0_given_148 C hr hf hz (lv_sub hl [1, 2, 3, 0, 4, 6, 7, 8, 10] rfl) hk
  · rw [if_neg hc] at hf
    refine lv_aload hx hb dX0_given_138 (lv_at hl 8 rfl) ?_
    obtain ⟨hg, hf⟩ := gd_inv hf
    refine zg_geti gP C hz 7 1 (gkp (by decide) hg) (by decide) (by decide) (Or.inr ⟨_, C.nw q932⟩) (fun _ h => h) dX0_given_140 ?_
    refine lv_goto (tgt := 148) hx hb dX0_given_143 (by decide) ?_
    exact w_X0_given_148 C hr hf hz (lv_sub hl [1, 2, 3, 0, 4, 6, 7, 8, 10] rfl) hk

theorem w_X0_given_104 {p : Program} {l : Launch} {e : Env} {R : Room} {s : State} {m : MethodId} {args : Array Value} {below : List Frame} {meth : Method} {c : Code} {Q : State → Prop} {E : PEw} {h0 h : HP} {H : Heap} {locs : List Loc} (C : PC E p s m args meth c RX0 cX0_given 11 (some .int) "given") (hr : 9 ≤ R.frames ∧ 198 ≤ R.locals ∧ RBw R h0) {x0 : Nat} {x1 : Int} {x2 : Nat} {x3 : Int} {x4 : Int} {x5 : Int} {x6 : Int} {x7 : Int} {x8 : Nat} {x9 : Int} {x10 : Int} {res : (Int × Int × Int × Int × Int) ⊕ (Int)} (hf : f_X0_given_104 h x0 x1 x2 x3 x4 x5 x6 x7 x8 x9 x10 = some res) (hz : ZP E s h0 h H locs) {ls : Array Slot} (hl : lv_has ls 11 [(0, .ref x0), (1, .int (zI x1)), (2, .ref x2), (3, .int (zI x3)), (4, .int (zI x4)), (5, .int (zI x5)), (6, .int (zI x6)), (7, .int (zI x7)), (8, .ref x8), (9, .int (zI x9)), (10, .int (zI x10))]) (hk : (Sum.elim (fun z => ∀ (H : Heap) (locs : List Loc) (ls : Array Slot), ZP E s h0 h H locs → lv_has ls 11 [(0, .ref x0), (1, .int (zI x1)), (2, .ref x2), (3, .int (zI z.1)), (4, .int (zI z.2.1)), (5, .int (zI z.2.2.1)), (6, .int (zI z.2.2.2.1)), (7, .int (zI z.2.2.2.2))] → W p l e R s m args below meth c H locs (pX h - pX h0) (pS h - pS h0) Q (F0 m 16 ls [])) (fun r => KP E below args s Q h0 h (some (.int (zI r))))) res) : W p l e R s m args below meth c H locs (pX h - pX h0) (pS h - pS h0) Q (F0 m 104 ls []) := by
  unfold f_X0_given_104 at hf
  have hx := C.1
  have hb := C.2.1
  refine lv_aload hx hb dX0_given_104 (lv_at hl 8 rfl) ?_
  obtain ⟨hg, hf⟩ := gd_inv hf
  refine zg_getp gP C hz 7 0 (gkp (by decide) hg) (by decide) (by decide) (Or.inr ⟨_, C.nw q930⟩) (fun _ h => h) dX0_given_106 ?_
  refine lv_aload_n hx hb dX0_given_109 rfl (lv_at hl 0 rfl) ?_
  obtain ⟨a1, ea1, hf⟩ := bd_inv hf
  rw [zx_rf ea1]
  obtain ⟨y2, ey2, hf⟩ := bd_inv hf
  refine zg_callS gP C hz hr (n := 2) (rest := []) (met_X0_fits l E ey2) q975 q976 q89 q977 (by decide +kernel) ⟨Nat.le_trans (by decide) hr.1, Nat.le_trans (by decide) hr.2.1⟩ rfl hl.1 rfl (Nat.le_of_ble_eq_true rfl) dX0_given_110 (fun H locs hz => ?_)
  refine zl_if_eq (tgt := 186) hx hb dX0_given_113 (by decide) (fun hc => ?_) (fun hc => ?_)
  · rw [if_pos hc] at hf
    exact w_X0_given_186 C hr hf hz (lv_sub hl [0, 1, 2, 3, 4, 5, 6, 7] rfl) hk
  · rw [if_neg hc] at hf
    refine lv_iload hx hb dX0_given_116 (lv_at hl 9 rfl) ?_
    refine zl_if_eq (tgt := 131) hx hb dX0_given_118 (by decide) (fun hc => ?_) (fun hc => ?_)
    · rw [if_pos hc] at hf
      refine lv_iload_n hx hb dX0_given_131 rfl (lv_at hl 3 rfl) ?_
      exact w_X0_given_132 C hr hf hz (lv_sub hl [0, 1, 2, 4, 5, 6, 7, 8, 9, 10] rfl) hk
    · rw [if_neg hc] at hf
      refine lv_aload hx hb dX0_given_121 (lv_at hl 8 rfl) ?_
      obtain ⟨hg, hf⟩ := gd_inv hf
      refine zg_getp gP C hz 7 2 (gkp (by decide) hg) (by decide) (by decide) (Or.inr ⟨_, C.nw q934⟩) (fun _ h => h) dX0_given_123 ?_
      refine lv_iload_n hx hb dX0_given_126 rfl (lv_at hl 1 rfl) ?_
      obtain ⟨a3, ea3, hf⟩ := bd_inv hf
      rw [zx_rf ea3]
      obtain ⟨hg, hf⟩ := gd_inv hf
      obtain ⟨hi, hf⟩ := gd_inv hf
      refine zg_iald gP C hz hg hi dX0_given_127 ?_
      refine lv_goto (tgt := 132) hx hb dX0_given_128 (by decide) ?_
      exact w_X0_given_132 C hr hf hz (lv_sub hl [0, 1, 2, 4, 5, 6, 7, 8, 9, 10] rfl) hk

theorem w_X0_given_92 {p : Program} {l : Launch} {e : Env} {R : Room} {s : State} {m : MethodId} {args : Array Value} {below : List Frame} {meth : Method} {c : Code} {Q : State → Prop} {E : PEw} {h0 h : HP} {H : Heap} {locs : List Loc} (C : PC E p s m args meth c RX0 cX0_given 11 (some .int) "given") (hr : 9 ≤ R.frames ∧ 198 ≤ R.locals ∧ RBw R h0) {x0 : Nat} {x1 : Int} {x2 : Nat} {x3 : Int} {x4 : Int} {x5 : Int} {x6 : Int} {x7 : Int} {x8 : Nat} {x9 : Int} {t0 : Int} {res : (Int × Int × Int × Int × Int) ⊕ (Int)} (hf : f_X0_given_92 h x0 x1 x2 x3 x4 x5 x6 x7 x8 x9 t0 = some res) (hz : ZP E s h0 h H locs) {ls : Array Slot} (hl : lv_has ls 11 [(0, .ref x0), (1, .int (zI x1)), (2, .ref x2), (3, .int (zI x3)), (4, .int (zI x4)), (5, .int (zI x5)), (6, .int (zI x6)), (7, .int (zI x7)), (8, .ref x8), (9, .int (zI x9))]) (hk : (Sum.elim (fun z => ∀ (H : Heap) (locs : List Loc) (ls : Array Slot), ZP E s h0 h H locs → lv_has ls 11 [(0, .ref x0), (1, .int (zI x1)), (2, .ref x2), (3, .int (zI z.1)), (4, .int (zI z.2.1)), (5, .int (zI z.2.2.1)), (6, .int (zI z.2.2.2.1)), (7, .int (zI z.2.2.2.2))] → W p l e R s m args below meth c H locs (pX h - pX h0) (pS h - pS h0) Q (F0 m 16 ls [])) (fun r => KP E below args s Q h0 h (some (.int (zI r))))) res) : W p l e R s m args below meth c H locs (pX h - pX h0) (pS h - pS h0) Q (F0 m 92 ls [.int (zI t0)]) := by
  unfold f_X0_given_92 at hf
  have hx := C.1
  have hb := C.2.1
  refine lv_istore (lv' := [(10, .int (zI t0)), (0, .ref x0), (1, .int (zI x1)), (2, .ref x2), (3, .int (zI x3)), (4, .int (zI x4)), (5, .int (zI x5)), (6, .int (zI x6)), (7, .int (zI x7)), (8, .ref x8), (9, .int (zI x9))]) hx hb dX0_given_92 hl (by decide) rfl (fun ls hl => ?_)
  refine lv_iload hx hb dX0_given_94 (lv_at hl 10 rfl) ?_
  refine zl_if_ne (tgt := 104) hx hb dX0_given_96 (by decide) (fun hc => ?_) (fun hc => ?_)
  · rw [if_pos hc] at hf
    refine lv_iload hx hb dX0_given_99 (lv_at hl 0 rfl) ?_
    refine zl_if_eq (tgt := 186) hx hb dX0_given_101 (by decide) (fun hc => ?_) (fun hc => ?_)
    · rw [if_pos hc] at hf
      exact w_X0_given_186 C hr hf hz (lv_sub hl [1, 2, 3, 4, 5, 6, 7, 8] rfl) hk
    · rw [if_neg hc] at hf
      exact w_X0_given_104 C hr hf hz (lv_sub hl [1, 2, 3, 4, 5, 6, 7, 8, 9, 10, 0] rfl) hk
  · rw [if_neg hc] at hf
    exact w_X0_given_104 C hr hf hz (lv_sub hl [1, 2, 3, 4, 5, 6, 7, 8, 9, 10, 0] rfl) hk

theorem w_X0_given_91 {p : Program} {l : Launch} {e : Env} {R : Room} {s : State} {m : MethodId} {args : Array Value} {below : List Frame} {meth : Method} {c : Code} {Q : State → Prop} {E : PEw} {h0 h : HP} {H : Heap} {locs : List Loc} (C : PC E p s m args meth c RX0 cX0_given 11 (some .int) "given") (hr : 9 ≤ R.frames ∧ 198 ≤ R.locals ∧ RBw R h0) {x0 : Nat} {x1 : Int} {x2 : Nat} {x3 : Int} {x4 : Int} {x5 : Int} {x6 : Int} {x7 : Int} {x8 : Nat} {x9 : Int} {res : (Int × Int × Int × Int × Int) ⊕ (Int)} (hf : f_X0_given_91 h x0 x1 x2 x3 x4 x5 x6 x7 x8 x9 = some res) (hz : ZP E s h0 h H locs) {ls : Array Slot} (hl : lv_has ls 11 [(0, .ref x0), (1, .int (zI x1)), (2, .ref x2), (3, .int (zI x3)), (4, .int (zI x4)), (5, .int (zI x5)), (6, .int (zI x6)), (7, .int (zI x7)), (8, .ref x8), (9, .int (zI x9))]) (hk : (Sum.elim (fun z => ∀ (H : Heap) (locs : List Loc) (ls : Array Slot), ZP E s h0 h H locs → lv_has ls 11 [(0, .ref x0), (1, .int (zI x1)), (2, .ref x2), (3, .int (zI z.1)), (4, .int (zI z.2.1)), (5, .int (zI z.2.2.1)), (6, .int (zI z.2.2.2.1)), (7, .int (zI z.2.2.2.2))] → W p l e R s m args below meth c H locs (pX h - pX h0) (pS h - pS h0) Q (F0 m 16 ls [])) (fun r => KP E below args s Q h0 h (some (.int (zI r))))) res) : W p l e R s m args below meth c H locs (pX h - pX h0) (pS h - pS h0) Q (F0 m 91 ls []) := by
  unfold f_X0_given_91 at hf
  have hx := C.1
  have hb := C.2.1
  refine zl_iconst hx hb dX0_given_91 ?_
  exact w_X0_given_92 C hr hf hz (lv_sub hl [0, 1, 2, 3, 4, 5, 6, 7, 8, 9] rfl) hk

theorem w_X0_given_63 {p : Program} {l : Launch} {e : Env} {R : Room} {s : State} {m : MethodId} {args : Array Value} {below : List Frame} {meth : Method} {c : Code} {Q : State → Prop} {E : PEw} {h0 h : HP} {H : Heap} {locs : List Loc} (C : PC E p s m args meth c RX0 cX0_given 11 (some .int) "given") (hr : 9 ≤ R.frames ∧ 198 ≤ R.locals ∧ RBw R h0) {x0 : Nat} {x1 : Int} {x2 : Nat} {x3 : Int} {x4 : Int} {x5 : Int} {x6 : Int} {x7 : Int} {x8 : Nat} {t0 : Int} {res : (Int × Int × Int × Int × Int) ⊕ (Int)} (hf : f_X0_given_63 h x0 x1 x2 x3 x4 x5 x6 x7 x8 t0 = some res) (hz : ZP E s h0 h H locs) {ls : Array Slot} (hl : lv_has ls 11 [(0, .ref x0), (1, .int (zI x1)), (2, .ref x2), (3, .int (zI x3)), (4, .int (zI x4)), (5, .int (zI x5)), (6, .int (zI x6)), (7, .int (zI x7)), (8, .ref x8)]) (hk : (Sum.elim (fun z => ∀ (H : Heap) (locs : List Loc) (ls : Array Slot), ZP E s h0 h H locs → lv_has ls 11 [(0, .ref x0), (1, .int (zI x1)), (2, .ref x2), (3, .int (zI z.1)), (4, .int (zI z.2.1)), (5, .int (zI z.2.2.1)), (6, .int (zI z.2.2.2.1)), (7, .int (zI z.2.2.2.2))] → W p l e R s m args below meth c H locs (pX h - pX h0) (pS h - pS h0) Q (F0 m 16 ls [])) (fun r => KP E below args s Q h0 h (some (.int (zI r))))) res) : W p l e R s m args below meth c H locs (pX h - pX h0) (pS h - pS h0) Q (F0 m 63 ls [.int (zI t0)]) := by
  unfold f_X0_given_63 at hf
  have hx := C.1
  have hb := C.2.1
  refine lv_istore (lv' := [(9, .int (zI t0)), (0, .ref x0), (1, .int (zI x1)), (2, .ref x2), (3, .int (zI x3)), (4, .int (zI x4)), (5, .int (zI x5)), (6, .int (zI x6)), (7, .int (zI x7)), (8, .ref x8)]) hx hb dX0_given_63 hl (by decide) rfl (fun ls hl => ?_)
  refine lv_aload hx hb dX0_given_65 (lv_at hl 9 rfl) ?_
  obtain ⟨hg, hf⟩ := gd_inv hf
  refine zg_getp gP C hz 7 3 (gkp (by decide) hg) (by decide) (by decide) (Or.inr ⟨_, C.nw q936⟩) (fun _ h => h) dX0_given_67 ?_
  refine lv_iload_n hx hb dX0_given_70 rfl (lv_at hl 2 rfl) ?_
  obtain ⟨a1, ea1, hf⟩ := bd_inv hf
  rw [zx_rf ea1]
  obtain ⟨hg, hf⟩ := gd_inv hf
  obtain ⟨hi, hf⟩ := gd_inv hf
  refine zg_iald gP C hz hg hi dX0_given_71 ?_
  refine zl_bipush hx hb dX0_given_72 (by decide) ?_
  refine zl_icmp_eq (tgt := 91) hx hb dX0_given_74 (by decide) (fun hc => ?_) (fun hc => ?_)
  · rw [if_pos hc] at hf
    exact w_X0_given_91 C hr hf hz (lv_sub hl [1, 2, 3, 4, 5, 6, 7, 8, 9, 0] rfl) hk
  · rw [if_neg hc] at hf
    refine lv_aload hx hb dX0_given_77 (lv_at hl 9 rfl) ?_
    obtain ⟨hg, hf⟩ := gd_inv hf
    refine zg_geti gP C hz 7 1 (gkp (by decide) hg) (by decide) (by decide) (Or.inr ⟨_, C.nw q932⟩) (fun _ h => h) dX0_given_79 ?_
    refine lv_iload hx hb dX0_given_82 (lv_at hl 7 rfl) ?_
    refine zl_icmp_lt (tgt := 91) hx hb dX0_given_84 (by decide) (fun hc => ?_) (fun hc => ?_)
    · rw [if_pos hc] at hf
      exact w_X0_given_91 C hr hf hz (lv_sub hl [1, 2, 3, 4, 5, 6, 7, 8, 9, 0] rfl) hk
    · rw [if_neg hc] at hf
      refine zl_iconst hx hb dX0_given_87 ?_
      refine lv_goto (tgt := 92) hx hb dX0_given_88 (by decide) ?_
      exact w_X0_given_92 C hr hf hz (lv_sub hl [1, 2, 3, 4, 5, 6, 7, 8, 9, 0] rfl) hk

theorem w_X0_given_62 {p : Program} {l : Launch} {e : Env} {R : Room} {s : State} {m : MethodId} {args : Array Value} {below : List Frame} {meth : Method} {c : Code} {Q : State → Prop} {E : PEw} {h0 h : HP} {H : Heap} {locs : List Loc} (C : PC E p s m args meth c RX0 cX0_given 11 (some .int) "given") (hr : 9 ≤ R.frames ∧ 198 ≤ R.locals ∧ RBw R h0) {x0 : Nat} {x1 : Int} {x2 : Nat} {x3 : Int} {x4 : Int} {x5 : Int} {x6 : Int} {x7 : Int} {x8 : Nat} {res : (Int × Int × Int × Int × Int) ⊕ (Int)} (hf : f_X0_given_62 h x0 x1 x2 x3 x4 x5 x6 x7 x8 = some res) (hz : ZP E s h0 h H locs) {ls : Array Slot} (hl : lv_has ls 11 [(0, .ref x0), (1, .int (zI x1)), (2, .ref x2), (3, .int (zI x3)), (4, .int (zI x4)), (5, .int (zI x5)), (6, .int (zI x6)), (7, .int (zI x7)), (8, .ref x8)]) (hk : (Sum.elim (fun z => ∀ (H : Heap) (locs : List Loc) (ls : Array Slot), ZP E s h0 h H locs → lv_has ls 11 [(0, .ref x0), (1, .int (zI x1)), (2, .ref x2), (3, .int (zI z.1)), (4, .int (zI z.2.1)), (5, .int (zI z.2.2.1)), (6, .int (zI z.2.2.2.1)), (7, .int (zI z.2.2.2.2))] → W p l e R s m args below meth c H locs (pX h - pX h0) (pS h - pS h0) Q (F0 m 16 ls [])) (fun r => KP E below args s Q h0 h (some (.int (zI r))))) res) : W p l e R s m args below meth c H locs (pX h - pX h0) (pS h - pS h0) Q (F0 m 62 ls []) := by
  unfold f_X0_given_62 at hf
  have hx := C.1
  have hb := C.2.1
  refine zl_iconst hx hb dX0_given_62 ?_
  exact w_X0_given_63 C hr hf hz (lv_sub hl [0, 1, 2, 3, 4, 5, 6, 7, 8] rfl) hk

theorem w_X0_given_192 {p : Program} {l : Launch} {e : Env} {R : Room} {s : State} {m : MethodId} {args : Array Value} {below : List Frame} {meth : Method} {c : Code} {Q : State → Prop} {E : PEw} {h0 h : HP} {H : Heap} {locs : List Loc} (C : PC E p s m args meth c RX0 cX0_given 11 (some .int) "given") (hr : 9 ≤ R.frames ∧ 198 ≤ R.locals ∧ RBw R h0) {x3 : Int} {x4 : Int} {res : Int} (hf : f_X0_given_192 h x3 x4 = some res) (hz : ZP E s h0 h H locs) {ls : Array Slot} (hl : lv_has ls 11 [(3, .int (zI x3)), (4, .int (zI x4))]) (hk : KP E below args s Q h0 h (some (.int (zI res)))) : W p l e R s m args below meth c H locs (pX h - pX h0) (pS h - pS h0) Q (F0 m 192 ls []) := by
  unfold f_X0_given_192 at hf
  have hx := C.1
  have hb := C.2.1
  refine lv_iload hx hb dX0_given_192 (lv_at hl 1 rfl) ?_
  refine zl_bipush hx hb dX0_given_194 (by decide) ?_
  refine zl_icmp_eq (tgt := 204) hx hb dX0_given_196 (by decide) (fun hc => ?_) (fun hc => ?_)
  · rw [if_pos hc] at hf
    refine lv_iload_n hx hb dX0_given_204 rfl (lv_at hl 0 rfl) ?_
    obtain rfl := Option.some.inj hf
    exact zg_iret C hz hk dX0_given_205
  · rw [if_neg hc] at hf
    refine lv_iload hx hb dX0_given_199 (lv_at hl 1 rfl) ?_
    refine lv_goto (tgt := 205) hx hb dX0_given_201 (by decide) ?_
    obtain rfl := Option.some.inj hf
    exact zg_iret C hz hk dX0_given_205

theorem w_X0_given_16s {p : Program} {l : Launch} {e : Env} {R : Room} {s : State} {m : MethodId} {args : Array Value} {below : List Frame} {meth : Method} {c : Code} {Q : State → Prop} {E : PEw} {h0 h : HP} {H : Heap} {locs : List Loc} (C : PC E p s m args meth c RX0 cX0_given 11 (some .int) "given") (hr : 9 ≤ R.frames ∧ 198 ≤ R.locals ∧ RBw R h0) {x0 : Nat} {x1 : Int} {x2 : Nat} {x3 : Int} {x4 : Int} {x5 : Int} {x6 : Int} {x7 : Int} {res : (Int × Int × Int × Int × Int) ⊕ (Int)} (hf : f_X0_given_16s h x0 x1 x2 x3 x4 x5 x6 x7 = some res) (hz : ZP E s h0 h H locs) {ls : Array Slot} (hl : lv_has ls 11 [(0, .ref x0), (1, .int (zI x1)), (2, .ref x2), (3, .int (zI x3)), (4, .int (zI x4)), (5, .int (zI x5)), (6, .int (zI x6)), (7, .int (zI x7))]) (hk : (Sum.elim (fun z => ∀ (H : Heap) (locs : List Loc) (ls : Array Slot), ZP E s h0 h H locs → lv_has ls 11 [(0, .ref x0), (1, .int (zI x1)), (2, .ref x2), (3, .int (zI z.1)), (4, .int (zI z.2.1)), (5, .int (zI z.2.2.1)), (6, .int (zI z.2.2.2.1)), (7, .int (zI z.2.2.2.2))] → W p l e R s m args below meth c H locs (pX h - pX h0) (pS h - pS h0) Q (F0 m 16 ls [])) (fun r => KP E below args s Q h0 h (some (.int (zI r))))) res) : W p l e R s m args below meth c H locs (pX h - pX h0) (pS h - pS h0) Q (F0 m 16 ls []) := by
  unfold f_X0_given_16s at hf
  have hx := C.1
  have hb := C.2.1
  refine lv_iload hx hb dX0_given_16 (lv_at hl 7 rfl) ?_
  refine lv_aload_n hx hb dX0_given_18 rfl (lv_at hl 2 rfl) ?_
  obtain ⟨y1, ey1, hf⟩ := bd_inv hf
  refine zj_lLen C hz hr ey1 (rest := [.int (zI x7)]) q549 q550 (C.w q551) q94 q552 hl.1 ⟨Nat.le_trans (by decide) hr.1, Nat.le_trans (by decide) hr.2.1⟩ (Nat.le_of_ble_eq_true rfl) dX0_given_19 (fun H locs hz => ?_)
  refine zl_icmp_ge (tgt := 192) hx hb dX0_given_22 (by decide) (fun hc => ?_) (fun hc => ?_)
  · rw [if_pos hc] at hf
    refine lv_aload_n hx hb dX0_given_25 rfl (lv_at hl 2 rfl) ?_
    refine lv_iload hx hb dX0_given_26 (lv_at hl 7 rfl) ?_
    obtain ⟨y2, ey2, hf⟩ := bd_inv hf
    refine zj_lGet C hz hr ey2 (rest := []) q553 q554 (C.w q555) q94 q556 hl.1 ⟨Nat.le_trans (by decide) hr.1, Nat.le_trans (by decide) hr.2.1⟩ (Nat.le_of_ble_eq_true rfl) dX0_given_28 (fun H locs hz => ?_)
    obtain ⟨hg, hf⟩ := gd_inv hf
    refine zg_cast7 gP C hz hg q974 dX0_given_31 ?_
    refine lv_astore (lv' := [(8, .ref y2), (0, .ref x0), (1, .int (zI x1)), (2, .ref x2), (3, .int (zI x3)), (4, .int (zI x4)), (5, .int (zI x5)), (6, .int (zI x6)), (7, .int (zI x7))]) hx hb dX0_given_34 hl (by decide) rfl (fun ls hl => ?_)
    refine lv_aload hx hb dX0_given_36 (lv_at hl 0 rfl) ?_
    obtain ⟨hg, hf⟩ := gd_inv hf
    refine zg_getp gP C hz 7 2 (gkp (by decide) hg) (by decide) (by decide) (Or.inr ⟨_, C.nw q934⟩) (fun _ h => h) dX0_given_38 ?_
    refine lv_iload_n hx hb dX0_given_41 rfl (lv_at hl 2 rfl) ?_
    obtain ⟨a3, ea3, hf⟩ := bd_inv hf
    rw [zx_rf ea3]
    obtain ⟨hg, hf⟩ := gd_inv hf
    obtain ⟨hi, hf⟩ := gd_inv hf
    refine zg_iald gP C hz hg hi dX0_given_42 ?_
    refine zl_bipush hx hb dX0_given_43 (by decide) ?_
    refine zl_icmp_eq (tgt := 62) hx hb dX0_given_45 (by decide) (fun hc => ?_) (fun hc => ?_)
    · rw [if_pos hc] at hf
      exact w_X0_given_62 C hr hf hz (lv_sub hl [1, 2, 3, 4, 5, 6, 7, 8, 0] rfl) hk
    · rw [if_neg hc] at hf
      refine lv_aload hx hb dX0_given_48 (lv_at hl 0 rfl) ?_
      obtain ⟨hg, hf⟩ := gd_inv hf
      refine zg_geti gP C hz 7 1 (gkp (by decide) hg) (by decide) (by decide) (Or.inr ⟨_, C.nw q932⟩) (fun _ h => h) dX0_given_50 ?_
      refine lv_iload hx hb dX0_given_53 (lv_at hl 6 rfl) ?_
      refine zl_icmp_lt (tgt := 62) hx hb dX0_given_55 (by decide) (fun hc => ?_) (fun hc => ?_)
      · rw [if_pos hc] at hf
        exact w_X0_given_62 C hr hf hz (lv_sub hl [1, 2, 3, 4, 5, 6, 7, 8, 0] rfl) hk
      · rw [if_neg hc] at hf
        refine zl_iconst hx hb dX0_given_58 ?_
        refine lv_goto (tgt := 63) hx hb dX0_given_59 (by decide) ?_
        exact w_X0_given_63 C hr hf hz (lv_sub hl [1, 2, 3, 4, 5, 6, 7, 8, 0] rfl) hk
  · rw [if_neg hc] at hf
    obtain ⟨r0, hm0, rfl⟩ := mr_inv hf
    exact w_X0_given_192 C hr hm0 hz (lv_sub hl [3, 4] rfl) hk

theorem w_X0_given_16 {p : Program} {l : Launch} {e : Env} {R : Room} {s : State} {m : MethodId} {args : Array Value} {below : List Frame} {meth : Method} {c : Code} {Q : State → Prop} {E : PEw} {h0 h : HP} {H : Heap} {locs : List Loc} (C : PC E p s m args meth c RX0 cX0_given 11 (some .int) "given") (hr : 9 ≤ R.frames ∧ 198 ≤ R.locals ∧ RBw R h0) {x0 : Nat} {x1 : Int} {x2 : Nat} {x3 : Int} {x4 : Int} {x5 : Int} {x6 : Int} {x7 : Int} {res : Int} (hf : f_X0_given_16 h x0 x1 x2 x3 x4 x5 x6 x7 = some res) (hz : ZP E s h0 h H locs) {ls : Array Slot} (hl : lv_has ls 11 [(0, .ref x0), (1, .int (zI x1)), (2, .ref x2), (3, .int (zI x3)), (4, .int (zI x4)), (5, .int (zI x5)), (6, .int (zI x6)), (7, .int (zI x7))]) (hk : KP E below args s Q h0 h (some (.int (zI res)))) : W p l e R s m args below meth c H locs (pX h - pX h0) (pS h - pS h0) Q (F0 m 16 ls []) := by
  unfold f_X0_given_16 at hf
  refine iter_ind (P := fun z r => ∀ (H : Heap) (locs : List Loc) (ls : Array Slot), ZP E s h0 h H locs → lv_has ls 11 [(0, .ref x0), (1, .int (zI x1)), (2, .ref x2), (3, .int (zI z.1)), (4, .int (zI z.2.1)), (5, .int (zI z.2.2.1)), (6, .int (zI z.2.2.2.1)), (7, .int (zI z.2.2.2.2))] → KP E below args s Q h0 h (some (.int (zI r))) → W p l e R s m args below meth c H locs (pX h - pX h0) (pS h - pS h0) Q (F0 m 16 ls [])) ?_ ?_ hf H locs ls hz hl hk
  · intro z r h1 H locs ls hz hl hk; exact w_X0_given_16s C hr h1 hz hl hk
  · intro z z1 r h1 ih H locs ls hz hl hk; exact w_X0_given_16s C hr h1 hz hl (fun H locs ls hz hl => ih H locs ls hz hl hk)

theorem w_X0_given {p : Program} {l : Launch} {e : Env} {R : Room} {s : State} {m : MethodId} {args : Array Value} {below : List Frame} {meth : Method} {c : Code} {Q : State → Prop} {E : PEw} {h0 h : HP} {H : Heap} {locs : List Loc} (C : PC E p s m args meth c RX0 cX0_given 11 (some .int) "given") (hr : 9 ≤ R.frames ∧ 198 ≤ R.locals ∧ RBw R h0) {x0 : Nat} {x1 : Int} {x2 : Nat} {res : Int} (hf : f_X0_given h x0 x1 x2 = some res) (hz : ZP E s h0 h H locs) {ls : Array Slot} (hl : lv_has ls 11 [(0, .ref x0), (1, .int (zI x1)), (2, .ref x2)]) (hk : KP E below args s Q h0 h (some (.int (zI res)))) : W p l e R s m args below meth c H locs (pX h - pX h0) (pS h - pS h0) Q (F0 m 0 ls []) := by
  unfold f_X0_given at hf
  have hx := C.1
  have hb := C.2.1
  refine zl_bipush hx hb dX0_given_0 (by decide) ?_
  refine lv_istore_n (lv' := [(3, .int (zI (-2))), (0, .ref x0), (1, .int (zI x1)), (2, .ref x2)]) hx hb dX0_given_2 rfl hl (by decide) rfl (fun ls hl => ?_)
  refine zl_bipush hx hb dX0_given_3 (by decide) ?_
  refine lv_istore (lv' := [(4, .int (zI (-2))), (3, .int (zI (-2))), (0, .ref x0), (1, .int (zI x1)), (2, .ref x2)]) hx hb dX0_given_5 hl (by decide) rfl (fun ls hl => ?_)
  refine zl_iconst hx hb dX0_given_7 ?_
  refine lv_istore (lv' := [(5, .int (zI (-1))), (4, .int (zI (-2))), (3, .int (zI (-2))), (0, .ref x0), (1, .int (zI x1)), (2, .ref x2)]) hx hb dX0_given_8 hl (by decide) rfl (fun ls hl => ?_)
  refine zl_iconst hx hb dX0_given_10 ?_
  refine lv_istore (lv' := [(6, .int (zI (-1))), (5, .int (zI (-1))), (4, .int (zI (-2))), (3, .int (zI (-2))), (0, .ref x0), (1, .int (zI x1)), (2, .ref x2)]) hx hb dX0_given_11 hl (by decide) rfl (fun ls hl => ?_)
  refine zl_iconst hx hb dX0_given_13 ?_
  refine lv_istore (lv' := [(7, .int (zI 0)), (6, .int (zI (-1))), (5, .int (zI (-1))), (4, .int (zI (-2))), (3, .int (zI (-2))), (0, .ref x0), (1, .int (zI x1)), (2, .ref x2)]) hx hb dX0_given_14 hl (by decide) rfl (fun ls hl => ?_)
  exact w_X0_given_16 C hr hf hz (lv_sub hl [5, 6, 7, 4, 3, 2, 1, 0] rfl) hk

theorem met_X0_given (l : Launch) (E : PEw) {h : HP} {x0 : Nat} {x1 : Int} {x2 : Nat} {res : Int} (hf : f_X0_given h x0 x1 x2 = some res) : Met l yX0_given (ws_ yX0_given cX0_given 11 (some .int)) (rmP h 9 198) (PP E h [.ref x0, .int (zI x1), .ref x2]) (QP E h h (some (.int (zI res)))) (pX h - pX h) (pS h - pS h) (eF E) := by
  refine Met.ofW (cc := cX0_given) (maxL := 11) (ret := (some .int)) (by decide) rfl ?_
  intro p e s m args below meth c s₁ B hml hv
  obtain ⟨rfl, hP0⟩ := hv
  have hts := atoms_spec (ws := ws_ yX0_given cX0_given 11 (some .int)) B.pre
  have hts : ∀ w ∈ lw_all, w.before _ s = true := fun w h => hts w (List.mem_cons_of_mem _ h)
  have C : PC E p s m _ meth c RX0 cX0_given 11 (some .int) "given" := ⟨B.exec, B.bytes, B.returns, B.notSynchronized, hml, findClass_of_methodNamed B.named, hts, hP0.2, (name_of_methodNamed B.named B.method).1⟩
  have hz : ZP E s h h s.heap [] := ZG.start hP0.1
  have hl := lv_entry ([.ref x0, .int (zI x1), .ref x2]) (n := 11) (Nat.le_of_ble_eq_true rfl)
  rw [lg_entry_eq]
  generalize (lg_sl ([.ref x0, .int (zI x1), .ref x2]) ++ List.replicate (11 - (lg_sl ([.ref x0, .int (zI x1), .ref x2])).length) Slot.unset).toArray = ls at hl ⊢
  have hl : lv_has ls 11 [(0, .ref x0), (1, .int (zI x1)), (2, .ref x2)] := hl
  refine W.cs (cells' := pX h - pX h) (slots' := pS h - pS h) (Nat.sub_self _).symm (Nat.sub_self _).symm ?_
  exact w_X0_given C ⟨Nat.le_refl _, Nat.le_refl _, RBw.rm⟩ hf hz hl rfl

theorem w_X0_initial_115 {p : Program} {l : Launch} {e : Env} {R : Room} {s : State} {m : MethodId} {args : Array Value} {below : List Frame} {meth : Method} {c : Code} {Q : State → Prop} {E : PEw} {h0 h : HP} {H : Heap} {locs : List Loc} (C : PC E p s m args meth c RX0 cX0_initial 3 (some .int) "initial") (hr : 5 ≤ R.frames ∧ 111 ≤ R.locals ∧ RBw R h0) {res : Int} (hf : f_X0_initial_115 h = some res) (hz : ZP E s h0 h H locs) {ls : Array Slot} (hl : lv_has ls 3 []) (hk : KP E below args s Q h0 h (some (.int (zI res)))) : W p l e R s m args below meth c H locs (pX h - pX h0) (pS h - pS h0) Q (F0 m 115 ls []) := by
  unfold f_X0_initial_115 at hf
  have hx := C.1
  have hb := C.2.1
  refine zl_bipush hx hb dX0_initial_115 (by decide) ?_
  refine lv_goto (tgt := 122) hx hb dX0_initial_117 (by decide) ?_
  obtain rfl := Option.some.inj hf
  exact zg_iret C hz hk dX0_initial_122

theorem w_X0_initial_32 {p : Program} {l : Launch} {e : Env} {R : Room} {s : State} {m : MethodId} {args : Array Value} {below : List Frame} {meth : Method} {c : Code} {Q : State → Prop} {E : PEw} {h0 h : HP} {H : Heap} {locs : List Loc} (C : PC E p s m args meth c RX0 cX0_initial 3 (some .int) "initial") (hr : 5 ≤ R.frames ∧ 111 ≤ R.locals ∧ RBw R h0) {x0 : Nat} {x1 : Int} {t0 : Int} {res : Int} (hf : f_X0_initial_32 h x0 x1 t0 = some res) (hz : ZP E s h0 h H locs) {ls : Array Slot} (hl : lv_has ls 3 [(0, .ref x0), (1, .int (zI x1))]) (hk : KP E below args s Q h0 h (some (.int (zI res)))) : W p l e R s m args below meth c H locs (pX h - pX h0) (pS h - pS h0) Q (F0 m 32 ls [.int (zI t0)]) := by
  unfold f_X0_initial_32 at hf
  have hx := C.1
  have hb := C.2.1
  refine lv_istore_n (lv' := [(2, .int (zI t0)), (0, .ref x0), (1, .int (zI x1))]) hx hb dX0_initial_32 rfl hl (by decide) rfl (fun ls hl => ?_)
  refine lv_iload_n hx hb dX0_initial_33 rfl (lv_at hl 2 rfl) ?_
  by_cases hc : zI x1 = zI 0
  · rw [if_pos hc] at hf
    refine zl_tab (tgt := 76) (v := 0) hx hb dX0_initial_34 hc (by decide) (by decide) (by decide) rfl (by decide) ?_
    refine lv_aload_n hx hb dX0_initial_76 rfl (lv_at hl 1 rfl) ?_
    obtain ⟨hg, hf⟩ := gd_inv hf
    refine zg_getp gP C hz 2 0 (gkp (by decide) hg) (by decide) (by decide) (Or.inl (C.w q191)) (C.sm q192) dX0_initial_77 ?_
    rcases nl_inv hf with ⟨ho, hf⟩ | ⟨a1, ho, hf⟩
    · rw [zx_nul ho]
      refine lv_ifnonnullN hx hb dX0_initial_80 ?_
      refine zl_iconst hx hb dX0_initial_83 ?_
      refine lv_goto (tgt := 96) hx hb dX0_initial_84 (by decide) ?_
      obtain rfl := Option.some.inj hf
      exact zg_iret C hz hk dX0_initial_96
    · rw [zx_rf ho]
      refine lv_ifnonnull (tgt := 87) hx hb dX0_initial_80 (by decide) ?_
      refine lv_aload_n hx hb dX0_initial_87 rfl (lv_at hl 1 rfl) ?_
      obtain ⟨hg, hf⟩ := gd_inv hf
      refine zg_getp gP C hz 2 0 (gkp (by decide) hg) (by decide) (by decide) (Or.inl (C.w q191)) (C.sm q192) dX0_initial_88 ?_
      obtain ⟨a2, ea2, hf⟩ := bd_inv hf
      rw [zx_rf ea2]
      obtain ⟨hg, hf⟩ := gd_inv hf
      refine zg_getp gP C hz 2 7 (gkp (by decide) hg) (by decide) (by decide) (Or.inr ⟨_, C.nw q173⟩) (fun _ h => h) dX0_initial_91 ?_
      refine lv_iload_n hx hb dX0_initial_94 rfl (lv_at hl 2 rfl) ?_
      obtain ⟨a3, ea3, hf⟩ := bd_inv hf
      rw [zx_rf ea3]
      obtain ⟨hg, hf⟩ := gd_inv hf
      obtain ⟨hi, hf⟩ := gd_inv hf
      refine zg_iald gP C hz hg hi dX0_initial_95 ?_
      obtain rfl := Option.some.inj hf
      exact zg_iret C hz hk dX0_initial_96
  rw [if_neg hc] at hf
  have hc0 := hc
  by_cases hc : zI x1 = zI 2
  · rw [if_pos hc] at hf
    refine zl_tab (tgt := 76) (v := 2) hx hb dX0_initial_34 hc (by decide) (by decide) (by decide) rfl (by decide) ?_
    refine lv_aload_n hx hb dX0_initial_76 rfl (lv_at hl 1 rfl) ?_
    obtain ⟨hg, hf⟩ := gd_inv hf
    refine zg_getp gP C hz 2 0 (gkp (by decide) hg) (by decide) (by decide) (Or.inl (C.w q191)) (C.sm q192) dX0_initial_77 ?_
    rcases nl_inv hf with ⟨ho, hf⟩ | ⟨a4, ho, hf⟩
    · rw [zx_nul ho]
      refine lv_ifnonnullN hx hb dX0_initial_80 ?_
      refine zl_iconst hx hb dX0_initial_83 ?_
      refine lv_goto (tgt := 96) hx hb dX0_initial_84 (by decide) ?_
      obtain rfl := Option.some.inj hf
      exact zg_iret C hz hk dX0_initial_96
    · rw [zx_rf ho]
      refine lv_ifnonnull (tgt := 87) hx hb dX0_initial_80 (by decide) ?_
      refine lv_aload_n hx hb dX0_initial_87 rfl (lv_at hl 1 rfl) ?_
      obtain ⟨hg, hf⟩ := gd_inv hf
      refine zg_getp gP C hz 2 0 (gkp (by decide) hg) (by decide) (by decide) (Or.inl (C.w q191)) (C.sm q192) dX0_initial_88 ?_
      obtain ⟨a5, ea5, hf⟩ := bd_inv hf
      rw [zx_rf ea5]
      obtain ⟨hg, hf⟩ := gd_inv hf
      refine zg_getp gP C hz 2 7 (gkp (by decide) hg) (by decide) (by decide) (Or.inr ⟨_, C.nw q173⟩) (fun _ h => h) dX0_initial_91 ?_
      refine lv_iload_n hx hb dX0_initial_94 rfl (lv_at hl 2 rfl) ?_
      obtain ⟨a6, ea6, hf⟩ := bd_inv hf
      rw [zx_rf ea6]
      obtain ⟨hg, hf⟩ := gd_inv hf
      obtain ⟨hi, hf⟩ := gd_inv hf
      refine zg_iald gP C hz hg hi dX0_initial_95 ?_
      obtain rfl := Option.some.inj hf
      exact zg_iret C hz hk dX0_initial_96
  rw [if_neg hc] at hf
  have hc1 := hc
  by_cases hc : zI x1 = zI 3
  · rw [if_pos hc] at hf
    refine zl_tab (tgt := 97) (v := 3) hx hb dX0_initial_34 hc (by decide) (by decide) (by decide) rfl (by decide) ?_
    refine lv_aload_n hx hb dX0_initial_97 rfl (lv_at hl 1 rfl) ?_
    obtain ⟨hg, hf⟩ := gd_inv hf
    refine zg_getp gP C hz 2 0 (gkp (by decide) hg) (by decide) (by decide) (Or.inl (C.w q191)) (C.sm q192) dX0_initial_98 ?_
    rcases nl_inv hf with ⟨ho, hf⟩ | ⟨a7, ho, hf⟩
    · rw [zx_nul ho]
      refine lv_ifnullN (tgt := 115) hx hb dX0_initial_101 (by decide) ?_
      exact w_X0_initial_115 C hr hf hz (lv_sub hl [] rfl) hk
    · rw [zx_rf ho]
      refine lv_ifnull hx hb dX0_initial_101 ?_
      refine lv_iload_n hx hb dX0_initial_104 rfl (lv_at hl 0 rfl) ?_
      refine zl_if_ne (tgt := 115) hx hb dX0_initial_105 (by decide) (fun hc => ?_) (fun hc => ?_)
      · rw [if_pos hc] at hf
        refine lv_aload_n hx hb dX0_initial_108 rfl (lv_at hl 1 rfl) ?_
        obtain ⟨hg, hf⟩ := gd_inv hf
        obtain ⟨y8, ey8, hf⟩ := bd_inv hf
        refine zg_callV gP C hz hr (n := 0) (rest := []) (gkp (by decide) hg) (met_X2_block l E ey8) q834 q835 (C.w q836) q91 q837 (by decide +kernel) ⟨Nat.le_trans (by decide) hr.1, Nat.le_trans (by decide) hr.2.1⟩ rfl hl.1 rfl (Nat.le_of_ble_eq_true rfl) dX0_initial_109 (fun H locs hz => ?_)
        refine zl_if_eq (tgt := 120) hx hb dX0_initial_112 (by decide) (fun hc => ?_) (fun hc => ?_)
        · rw [if_pos hc] at hf
          refine zl_bipush hx hb dX0_initial_120 (by decide) ?_
          obtain rfl := Option.some.inj hf
          exact zg_iret C hz hk dX0_initial_122
        · rw [if_neg hc] at hf
          exact w_X0_initial_115 C hr hf hz (lv_sub hl [] rfl) hk
      · rw [if_neg hc] at hf
        exact w_X0_initial_115 C hr hf hz (lv_sub hl [] rfl) hk
  rw [if_neg hc] at hf
  have hc2 := hc
  by_cases hc : zI x1 = zI 6
  · rw [if_pos hc] at hf
    refine zl_tab (tgt := 123) (v := 6) hx hb dX0_initial_34 hc (by decide) (by decide) (by decide) rfl (by decide) ?_
    refine zl_iconst hx hb dX0_initial_123 ?_
    obtain rfl := Option.some.inj hf
    exact zg_iret C hz hk dX0_initial_124
  rw [if_neg hc] at hf
  have hc3 := hc
  refine zl_tabD (tgt := 125) (vs := [0, 2, 3, 6]) hx hb dX0_initial_34 (by decide) (by simp only [List.mem_cons, List.not_mem_nil, or_false, forall_eq_or_imp, forall_eq]; exact ⟨hc0, hc1, hc2, hc3⟩) (by decide) (by decide) ?_
  refine zl_iconst hx hb dX0_initial_125 ?_
  obtain rfl := Option.some.inj hf
  exact zg_iret C hz hk dX0_initial_126

theorem w_X0_initial_27 {p : Program} {l : Launch} {e : Env} {R : Room} {s : State} {m : MethodId} {args : Array Value} {below : List Frame} {meth : Method} {c : Code} {Q : State → Prop} {E : PEw} {h0 h : HP} {H : Heap} {locs : List Loc} (C : PC E p s m args meth c RX0 cX0_initial 3 (some .int) "initial") (hr : 5 ≤ R.frames ∧ 111 ≤ R.locals ∧ RBw R h0) {x0 : Nat} {x1 : Int} {res : Int} (hf : f_X0_initial_27 h x0 x1 = some res) (hz : ZP E s h0 h H locs) {ls : Array Slot} (hl : lv_has ls 3 [(0, .ref x0), (1, .int (zI x1))]) (hk : KP E below args s Q h0 h (some (.int (zI res)))) : W p l e R s m args below meth c H locs (pX h - pX h0) (pS h - pS h0) Q (F0 m 27 ls []) := by
  unfold f_X0_initial_27 at hf
  have hx := C.1
  have hb := C.2.1
  refine zl_iconst hx hb dX0_initial_27 ?_
  refine lv_goto (tgt := 32) hx hb dX0_initial_28 (by decide) ?_
  exact w_X0_initial_32 C hr hf hz (lv_sub hl [0, 1] rfl) hk

theorem w_X0_initial {p : Program} {l : Launch} {e : Env} {R : Room} {s : State} {m : MethodId} {args : Array Value} {below : List Frame} {meth : Method} {c : Code} {Q : State → Prop} {E : PEw} {h0 h : HP} {H : Heap} {locs : List Loc} (C : PC E p s m args meth c RX0 cX0_initial 3 (some .int) "initial") (hr : 5 ≤ R.frames ∧ 111 ≤ R.locals ∧ RBw R h0) {x0 : Nat} {x1 : Int} {res : Int} (hf : f_X0_initial h x0 x1 = some res) (hz : ZP E s h0 h H locs) {ls : Array Slot} (hl : lv_has ls 3 [(0, .ref x0), (1, .int (zI x1))]) (hk : KP E below args s Q h0 h (some (.int (zI res)))) : W p l e R s m args below meth c H locs (pX h - pX h0) (pS h - pS h0) Q (F0 m 0 ls []) := by
  unfold f_X0_initial at hf
  have hx := C.1
  have hb := C.2.1
  refine lv_aload_n hx hb dX0_initial_0 rfl (lv_at hl 0 rfl) ?_
  refine zl_bipush hx hb dX0_initial_1 (by decide) ?_
  obtain ⟨hg, hf⟩ := gd_inv hf
  obtain ⟨y1, ey1, hf⟩ := bd_inv hf
  refine zg_callV gP C hz hr (n := 1) (rest := []) (gkp (by decide) hg) (met_X2_is l E ey1) q567 q568 (C.w q569) q91 q570 (by decide +kernel) ⟨Nat.le_trans (by decide) hr.1, Nat.le_trans (by decide) hr.2.1⟩ rfl hl.1 rfl (Nat.le_of_ble_eq_true rfl) dX0_initial_3 (fun H locs hz => ?_)
  refine zl_if_ne (tgt := 27) hx hb dX0_initial_6 (by decide) (fun hc => ?_) (fun hc => ?_)
  · rw [if_pos hc] at hf
    refine lv_aload_n hx hb dX0_initial_9 rfl (lv_at hl 0 rfl) ?_
    refine zl_bipush hx hb dX0_initial_10 (by decide) ?_
    obtain ⟨hg, hf⟩ := gd_inv hf
    obtain ⟨y2, ey2, hf⟩ := bd_inv hf
    refine zg_callV gP C hz hr (n := 1) (rest := []) (gkp (by decide) hg) (met_X2_is l E ey2) q567 q568 (C.w q569) q91 q570 (by decide +kernel) ⟨Nat.le_trans (by decide) hr.1, Nat.le_trans (by decide) hr.2.1⟩ rfl hl.1 rfl (Nat.le_of_ble_eq_true rfl) dX0_initial_12 (fun H locs hz => ?_)
    refine zl_if_ne (tgt := 27) hx hb dX0_initial_15 (by decide) (fun hc => ?_) (fun hc => ?_)
    · rw [if_pos hc] at hf
      refine lv_aload_n hx hb dX0_initial_18 rfl (lv_at hl 0 rfl) ?_
      refine zl_bipush hx hb dX0_initial_19 (by decide) ?_
      obtain ⟨hg, hf⟩ := gd_inv hf
      obtain ⟨y3, ey3, hf⟩ := bd_inv hf
      refine zg_callV gP C hz hr (n := 1) (rest := []) (gkp (by decide) hg) (met_X2_is l E ey3) q567 q568 (C.w q569) q91 q570 (by decide +kernel) ⟨Nat.le_trans (by decide) hr.1, Nat.le_trans (by decide) hr.2.1⟩ rfl hl.1 rfl (Nat.le_of_ble_eq_true rfl) dX0_initial_21 (fun H locs hz => ?_)
      refine zl_if_eq (tgt := 31) hx hb dX0_initial_24 (by decide) (fun hc => ?_) (fun hc => ?_)
      · rw [if_pos hc] at hf
        refine zl_iconst hx hb dX0_initial_31 ?_
        exact w_X0_initial_32 C hr hf hz (lv_sub hl [0, 1] rfl) hk
      · rw [if_neg hc] at hf
        exact w_X0_initial_27 C hr hf hz (lv_sub hl [0, 1] rfl) hk
    · rw [if_neg hc] at hf
      exact w_X0_initial_27 C hr hf hz (lv_sub hl [0, 1] rfl) hk
  · rw [if_neg hc] at hf
    exact w_X0_initial_27 C hr hf hz (lv_sub hl [0, 1] rfl) hk

theorem met_X0_initial (l : Launch) (E : PEw) {h : HP} {x0 : Nat} {x1 : Int} {res : Int} (hf : f_X0_initial h x0 x1 = some res) : Met l yX0_initial (ws_ yX0_initial cX0_initial 3 (some .int)) (rmP h 5 111) (PP E h [.ref x0, .int (zI x1)]) (QP E h h (some (.int (zI res)))) (pX h - pX h) (pS h - pS h) (eF E) := by
  refine Met.ofW (cc := cX0_initial) (maxL := 3) (ret := (some .int)) (by decide) rfl ?_
  intro p e s m args below meth c s₁ B hml hv
  obtain ⟨rfl, hP0⟩ := hv
  have hts := atoms_spec (ws := ws_ yX0_initial cX0_initial 3 (some .int)) B.pre
  have hts : ∀ w ∈ lw_all, w.before _ s = true := fun w h => hts w (List.mem_cons_of_mem _ h)
  have C : PC E p s m _ meth c RX0 cX0_initial 3 (some .int) "initial" := ⟨B.exec, B.bytes, B.returns, B.notSynchronized, hml, findClass_of_methodNamed B.named, hts, hP0.2, (name_of_methodNamed B.named B.method).1⟩
  have hz : ZP E s h h s.heap [] := ZG.start hP0.1
  have hl := lv_entry ([.ref x0, .int (zI x1)]) (n := 3) (Nat.le_of_ble_eq_true rfl)
  rw [lg_entry_eq]
  generalize (lg_sl ([.ref x0, .int (zI x1)]) ++ List.replicate (3 - (lg_sl ([.ref x0, .int (zI x1)])).length) Slot.unset).toArray = ls at hl ⊢
  have hl : lv_has ls 3 [(0, .ref x0), (1, .int (zI x1))] := hl
  refine W.cs (cells' := pX h - pX h) (slots' := pS h - pS h) (Nat.sub_self _).symm (Nat.sub_self _).symm ?_
  exact w_X0_initial C ⟨Nat.le_refl _, Nat.le_refl _, RBw.rm⟩ hf hz hl rfl

theorem w_X0_evaluate_35 {p : Program} {l : Launch} {e : Env} {R : Room} {s : State} {m : MethodId} {args : Array Value} {below : List Frame} {meth : Method} {c : Code} {Q : State → Prop} {E : PEw} {h0 h : HP} {H : Heap} {locs : List Loc} (C : PC E p s m args meth c RX0 cX0_evaluate 4 none "evaluate") (hr : 10 ≤ R.frames ∧ 228 ≤ R.locals ∧ RBw R h0) {x0 : Nat} {x1 : Nat} {x2 : Int} {t0 : Int} {t1 : Int} {t2 : Option Nat} {res : (HP × Int) ⊕ (HP)} (hf : f_X0_evaluate_35 h x0 x1 x2 t0 t1 t2 = some res) (hz : ZP E s h0 h H locs) {ls : Array Slot} (hl : lv_has ls 4 [(0, .ref x0), (1, .ref x1), (2, .int (zI x2))]) (hk : (Sum.elim (fun z => ∀ (H : Heap) (locs : List Loc) (ls : Array Slot), ZP E s h0 z.1 H locs → lv_has ls 4 [(0, .ref x0), (1, .ref x1), (2, .int (zI z.2))] → W p l e R s m args below meth c H locs (pX z.1 - pX h0) (pS z.1 - pS h0) Q (F0 m 2 ls [])) (fun r => KP E below args s Q h0 r none)) res) : W p l e R s m args below meth c H locs (pX h - pX h0) (pS h - pS h0) Q (F0 m 35 ls [.int (zI t0), .int (zI t1), va_rf t2]) := by
  unfold f_X0_evaluate_35 at hf
  have hx := C.1
  have hb := C.2.1
  obtain ⟨a1, ea1, hf⟩ := bd_inv hf
  rw [zx_rf ea1]
  obtain ⟨hg, hf⟩ := gd_inv hf
  obtain ⟨hi, hf⟩ := gd_inv hf
  obtain ⟨h2, eh2, hf⟩ := bnd_inv hf
  refine zg_iast gP C hz hg hi dX0_evaluate_35 eh2 (fun H locs hz => ?_)
  refine zl_iinc (x := x2) (n := 1) (lv' := [(2, .int (zI (x2 + 1))), (0, .ref x0), (1, .ref x1)]) (k := 2) hx hb dX0_evaluate_36 hl rfl (by decide) rfl (fun ls hl => ?_)
  refine lv_goto (tgt := 2) hx hb dX0_evaluate_39 (by decide) ?_
  obtain rfl := Option.some.inj hf
  exact hk _ _ _ hz (lv_sub hl [1, 2, 0] rfl)

theorem w_X0_evaluate_122 {p : Program} {l : Launch} {e : Env} {R : Room} {s : State} {m : MethodId} {args : Array Value} {below : List Frame} {meth : Method} {c : Code} {Q : State → Prop} {E : PEw} {h0 h : HP} {H : Heap} {locs : List Loc} (C : PC E p s m args meth c RX0 cX0_evaluate 4 none "evaluate") (hr : 10 ≤ R.frames ∧ 228 ≤ R.locals ∧ RBw R h0) {t0 : Int} {t1 : Nat} {res : HP} (hf : f_X0_evaluate_122 h t0 t1 = some res) (hz : ZP E s h0 h H locs) {ls : Array Slot} (hl : lv_has ls 4 []) (hk : KP E below args s Q h0 res none) : W p l e R s m args below meth c H locs (pX h - pX h0) (pS h - pS h0) Q (F0 m 122 ls [.int (zI t0), .ref t1]) := by
  unfold f_X0_evaluate_122 at hf
  have hx := C.1
  have hb := C.2.1
  obtain ⟨hg, hf⟩ := gd_inv hf
  obtain ⟨hv, hf⟩ := gd_inv hf
  obtain ⟨h1, eh1, hf⟩ := bnd_inv hf
  refine zg_putb gP C hz 2 8 (gkp (by decide) hg) (by decide) (by decide) rfl (by decide) hv (Or.inr ⟨_, C.nw q175⟩) (fun _ h => h) dX0_evaluate_122 eh1 (fun H locs hz => ?_)
  obtain rfl := Option.some.inj hf
  exact zg_vret C hz hk dX0_evaluate_125

theorem w_X0_evaluate_121 {p : Program} {l : Launch} {e : Env} {R : Room} {s : State} {m : MethodId} {args : Array Value} {below : List Frame} {meth : Method} {c : Code} {Q : State → Prop} {E : PEw} {h0 h : HP} {H : Heap} {locs : List Loc} (C : PC E p s m args meth c RX0 cX0_evaluate 4 none "evaluate") (hr : 10 ≤ R.frames ∧ 228 ≤ R.locals ∧ RBw R h0) {t0 : Nat} {res : HP} (hf : f_X0_evaluate_121 h t0 = some res) (hz : ZP E s h0 h H locs) {ls : Array Slot} (hl : lv_has ls 4 []) (hk : KP E below args s Q h0 res none) : W p l e R s m args below meth c H locs (pX h - pX h0) (pS h - pS h0) Q (F0 m 121 ls [.ref t0]) := by
  unfold f_X0_evaluate_121 at hf
  have hx := C.1
  have hb := C.2.1
  refine zl_iconst hx hb dX0_evaluate_121 ?_
  exact w_X0_evaluate_122 C hr hf hz (lv_sub hl [] rfl) hk

theorem w_X0_evaluate_106 {p : Program} {l : Launch} {e : Env} {R : Room} {s : State} {m : MethodId} {args : Array Value} {below : List Frame} {meth : Method} {c : Code} {Q : State → Prop} {E : PEw} {h0 h : HP} {H : Heap} {locs : List Loc} (C : PC E p s m args meth c RX0 cX0_evaluate 4 none "evaluate") (hr : 10 ≤ R.frames ∧ 228 ≤ R.locals ∧ RBw R h0) {x0 : Nat} {t0 : Nat} {res : HP} (hf : f_X0_evaluate_106 h x0 t0 = some res) (hz : ZP E s h0 h H locs) {ls : Array Slot} (hl : lv_has ls 4 [(0, .ref x0)]) (hk : KP E below args s Q h0 res none) : W p l e R s m args below meth c H locs (pX h - pX h0) (pS h - pS h0) Q (F0 m 106 ls [.ref t0]) := by
  unfold f_X0_evaluate_106 at hf
  have hx := C.1
  have hb := C.2.1
  refine lv_aload_n hx hb dX0_evaluate_106 rfl (lv_at hl 0 rfl) ?_
  obtain ⟨hg, hf⟩ := gd_inv hf
  refine zg_getp gP C hz 2 7 (gkp (by decide) hg) (by decide) (by decide) (Or.inr ⟨_, C.nw q173⟩) (fun _ h => h) dX0_evaluate_107 ?_
  refine zl_iconst hx hb dX0_evaluate_110 ?_
  obtain ⟨a1, ea1, hf⟩ := bd_inv hf
  rw [zx_rf ea1]
  obtain ⟨hg, hf⟩ := gd_inv hf
  obtain ⟨hi, hf⟩ := gd_inv hf
  refine zg_iald gP C hz hg hi dX0_evaluate_111 ?_
  refine zl_bipush hx hb dX0_evaluate_112 (by decide) ?_
  refine zl_icmp_eq (tgt := 121) hx hb dX0_evaluate_114 (by decide) (fun hc => ?_) (fun hc => ?_)
  · rw [if_pos hc] at hf
    exact w_X0_evaluate_121 C hr hf hz (lv_sub hl [] rfl) hk
  · rw [if_neg hc] at hf
    refine zl_iconst hx hb dX0_evaluate_117 ?_
    refine lv_goto (tgt := 122) hx hb dX0_evaluate_118 (by decide) ?_
    exact w_X0_evaluate_122 C hr hf hz (lv_sub hl [] rfl) hk

theorem w_X0_evaluate_88 {p : Program} {l : Launch} {e : Env} {R : Room} {s : State} {m : MethodId} {args : Array Value} {below : List Frame} {meth : Method} {c : Code} {Q : State → Prop} {E : PEw} {h0 h : HP} {H : Heap} {locs : List Loc} (C : PC E p s m args meth c RX0 cX0_evaluate 4 none "evaluate") (hr : 10 ≤ R.frames ∧ 228 ≤ R.locals ∧ RBw R h0) {x0 : Nat} {res : HP} (hf : f_X0_evaluate_88 h x0 = some res) (hz : ZP E s h0 h H locs) {ls : Array Slot} (hl : lv_has ls 4 [(0, .ref x0)]) (hk : KP E below args s Q h0 res none) : W p l e R s m args below meth c H locs (pX h - pX h0) (pS h - pS h0) Q (F0 m 88 ls []) := by
  unfold f_X0_evaluate_88 at hf
  have hx := C.1
  have hb := C.2.1
  refine lv_aload_n hx hb dX0_evaluate_88 rfl (lv_at hl 0 rfl) ?_
  refine lv_aload_n hx hb dX0_evaluate_89 rfl (lv_at hl 0 rfl) ?_
  obtain ⟨hg, hf⟩ := gd_inv hf
  refine zg_getp gP C hz 2 0 (gkp (by decide) hg) (by decide) (by decide) (Or.inl (C.w q191)) (C.sm q192) dX0_evaluate_90 ?_
  rcases nl_inv hf with ⟨ho, hf⟩ | ⟨a1, ho, hf⟩
  · rw [zx_nul ho]
    refine lv_ifnullN (tgt := 106) hx hb dX0_evaluate_93 (by decide) ?_
    exact w_X0_evaluate_106 C hr hf hz (lv_sub hl [0] rfl) hk
  · rw [zx_rf ho]
    refine lv_ifnull hx hb dX0_evaluate_93 ?_
    refine lv_aload_n hx hb dX0_evaluate_96 rfl (lv_at hl 0 rfl) ?_
    obtain ⟨hg, hf⟩ := gd_inv hf
    refine zg_getp gP C hz 2 0 (gkp (by decide) hg) (by decide) (by decide) (Or.inl (C.w q191)) (C.sm q192) dX0_evaluate_97 ?_
    obtain ⟨a2, ea2, hf⟩ := bd_inv hf
    rw [zx_rf ea2]
    obtain ⟨hg, hf⟩ := gd_inv hf
    refine zg_geti gP C hz 2 8 (gkp (by decide) hg) (by decide) (by decide) (Or.inr ⟨_, C.nw q175⟩) (fun _ h => h) dX0_evaluate_100 ?_
    refine zl_if_eq (tgt := 121) hx hb dX0_evaluate_103 (by decide) (fun hc => ?_) (fun hc => ?_)
    · rw [if_pos hc] at hf
      exact w_X0_evaluate_121 C hr hf hz (lv_sub hl [] rfl) hk
    · rw [if_neg hc] at hf
      exact w_X0_evaluate_106 C hr hf hz (lv_sub hl [0] rfl) hk

theorem w_X0_evaluate_69 {p : Program} {l : Launch} {e : Env} {R : Room} {s : State} {m : MethodId} {args : Array Value} {below : List Frame} {meth : Method} {c : Code} {Q : State → Prop} {E : PEw} {h0 h : HP} {H : Heap} {locs : List Loc} (C : PC E p s m args meth c RX0 cX0_evaluate 4 none "evaluate") (hr : 10 ≤ R.frames ∧ 228 ≤ R.locals ∧ RBw R h0) {x0 : Nat} {res : HP} (hf : f_X0_evaluate_69 h x0 = some res) (hz : ZP E s h0 h H locs) {ls : Array Slot} (hl : lv_has ls 4 [(0, .ref x0)]) (hk : KP E below args s Q h0 res none) : W p l e R s m args below meth c H locs (pX h - pX h0) (pS h - pS h0) Q (F0 m 69 ls []) := by
  unfold f_X0_evaluate_69 at hf
  have hx := C.1
  have hb := C.2.1
  refine lv_aload_n hx hb dX0_evaluate_69 rfl (lv_at hl 0 rfl) ?_
  obtain ⟨hg, hf⟩ := gd_inv hf
  refine zg_getp gP C hz 2 7 (gkp (by decide) hg) (by decide) (by decide) (Or.inr ⟨_, C.nw q173⟩) (fun _ h => h) dX0_evaluate_70 ?_
  refine zl_iconst hx hb dX0_evaluate_73 ?_
  obtain ⟨a1, ea1, hf⟩ := bd_inv hf
  rw [zx_rf ea1]
  obtain ⟨hg, hf⟩ := gd_inv hf
  obtain ⟨hi, hf⟩ := gd_inv hf
  refine zg_iald gP C hz hg hi dX0_evaluate_74 ?_
  refine zl_bipush hx hb dX0_evaluate_75 (by decide) ?_
  refine zl_icmp_ne (tgt := 88) hx hb dX0_evaluate_77 (by decide) (fun hc => ?_) (fun hc => ?_)
  · rw [if_pos hc] at hf
    refine lv_aload_n hx hb dX0_evaluate_80 rfl (lv_at hl 0 rfl) ?_
    obtain ⟨hg, hf⟩ := gd_inv hf
    refine zg_getp gP C hz 2 7 (gkp (by decide) hg) (by decide) (by decide) (Or.inr ⟨_, C.nw q173⟩) (fun _ h => h) dX0_evaluate_81 ?_
    refine zl_iconst hx hb dX0_evaluate_84 ?_
    refine zl_bipush hx hb dX0_evaluate_85 (by decide) ?_
    obtain ⟨a2, ea2, hf⟩ := bd_inv hf
    rw [zx_rf ea2]
    obtain ⟨hg, hf⟩ := gd_inv hf
    obtain ⟨hi, hf⟩ := gd_inv hf
    obtain ⟨h3, eh3, hf⟩ := bnd_inv hf
    refine zg_iast gP C hz hg hi dX0_evaluate_87 eh3 (fun H locs hz => ?_)
    exact w_X0_evaluate_88 C hr hf hz (lv_sub hl [0] rfl) hk
  · rw [if_neg hc] at hf
    exact w_X0_evaluate_88 C hr hf hz (lv_sub hl [0] rfl) hk

theorem w_X0_evaluate_42 {p : Program} {l : Launch} {e : Env} {R : Room} {s : State} {m : MethodId} {args : Array Value} {below : List Frame} {meth : Method} {c : Code} {Q : State → Prop} {E : PEw} {h0 h : HP} {H : Heap} {locs : List Loc} (C : PC E p s m args meth c RX0 cX0_evaluate 4 none "evaluate") (hr : 10 ≤ R.frames ∧ 228 ≤ R.locals ∧ RBw R h0) {x0 : Nat} {res : HP} (hf : f_X0_evaluate_42 h x0 = some res) (hz : ZP E s h0 h H locs) {ls : Array Slot} (hl : lv_has ls 4 [(0, .ref x0)]) (hk : KP E below args s Q h0 res none) : W p l e R s m args below meth c H locs (pX h - pX h0) (pS h - pS h0) Q (F0 m 42 ls []) := by
  unfold f_X0_evaluate_42 at hf
  have hx := C.1
  have hb := C.2.1
  refine lv_aload_n hx hb dX0_evaluate_42 rfl (lv_at hl 0 rfl) ?_
  refine zl_bipush hx hb dX0_evaluate_43 (by decide) ?_
  obtain ⟨hg, hf⟩ := gd_inv hf
  obtain ⟨y1, ey1, hf⟩ := bd_inv hf
  refine zg_callV gP C hz hr (n := 1) (rest := []) (gkp (by decide) hg) (met_X2_is l E ey1) q567 q568 (C.w q569) q91 q570 (by decide +kernel) ⟨Nat.le_trans (by decide) hr.1, Nat.le_trans (by decide) hr.2.1⟩ rfl hl.1 rfl (Nat.le_of_ble_eq_true rfl) dX0_evaluate_45 (fun H locs hz => ?_)
  refine zl_if_ne (tgt := 69) hx hb dX0_evaluate_48 (by decide) (fun hc => ?_) (fun hc => ?_)
  · rw [if_pos hc] at hf
    refine lv_aload_n hx hb dX0_evaluate_51 rfl (lv_at hl 0 rfl) ?_
    refine zl_bipush hx hb dX0_evaluate_52 (by decide) ?_
    obtain ⟨hg, hf⟩ := gd_inv hf
    obtain ⟨y2, ey2, hf⟩ := bd_inv hf
    refine zg_callV gP C hz hr (n := 1) (rest := []) (gkp (by decide) hg) (met_X2_is l E ey2) q567 q568 (C.w q569) q91 q570 (by decide +kernel) ⟨Nat.le_trans (by decide) hr.1, Nat.le_trans (by decide) hr.2.1⟩ rfl hl.1 rfl (Nat.le_of_ble_eq_true rfl) dX0_evaluate_54 (fun H locs hz => ?_)
    refine zl_if_ne (tgt := 69) hx hb dX0_evaluate_57 (by decide) (fun hc => ?_) (fun hc => ?_)
    · rw [if_pos hc] at hf
      refine lv_aload_n hx hb dX0_evaluate_60 rfl (lv_at hl 0 rfl) ?_
      refine zl_bipush hx hb dX0_evaluate_61 (by decide) ?_
      obtain ⟨hg, hf⟩ := gd_inv hf
      obtain ⟨y3, ey3, hf⟩ := bd_inv hf
      refine zg_callV gP C hz hr (n := 1) (rest := []) (gkp (by decide) hg) (met_X2_is l E ey3) q567 q568 (C.w q569) q91 q570 (by decide +kernel) ⟨Nat.le_trans (by decide) hr.1, Nat.le_trans (by decide) hr.2.1⟩ rfl hl.1 rfl (Nat.le_of_ble_eq_true rfl) dX0_evaluate_63 (fun H locs hz => ?_)
      refine zl_if_eq (tgt := 88) hx hb dX0_evaluate_66 (by decide) (fun hc => ?_) (fun hc => ?_)
      · rw [if_pos hc] at hf
        exact w_X0_evaluate_88 C hr hf hz (lv_sub hl [0] rfl) hk
      · rw [if_neg hc] at hf
        exact w_X0_evaluate_69 C hr hf hz (lv_sub hl [0] rfl) hk
    · rw [if_neg hc] at hf
      exact w_X0_evaluate_69 C hr hf hz (lv_sub hl [0] rfl) hk
  · rw [if_neg hc] at hf
    exact w_X0_evaluate_69 C hr hf hz (lv_sub hl [0] rfl) hk

theorem w_X0_evaluate_2s {p : Program} {l : Launch} {e : Env} {R : Room} {s : State} {m : MethodId} {args : Array Value} {below : List Frame} {meth : Method} {c : Code} {Q : State → Prop} {E : PEw} {h0 h : HP} {H : Heap} {locs : List Loc} (C : PC E p s m args meth c RX0 cX0_evaluate 4 none "evaluate") (hr : 10 ≤ R.frames ∧ 228 ≤ R.locals ∧ RBw R h0) {x0 : Nat} {x1 : Nat} {x2 : Int} {res : (HP × Int) ⊕ (HP)} (hf : f_X0_evaluate_2s h x0 x1 x2 = some res) (hz : ZP E s h0 h H locs) {ls : Array Slot} (hl : lv_has ls 4 [(0, .ref x0), (1, .ref x1), (2, .int (zI x2))]) (hk : (Sum.elim (fun z => ∀ (H : Heap) (locs : List Loc) (ls : Array Slot), ZP E s h0 z.1 H locs → lv_has ls 4 [(0, .ref x0), (1, .ref x1), (2, .int (zI z.2))] → W p l e R s m args below meth c H locs (pX z.1 - pX h0) (pS z.1 - pS h0) Q (F0 m 2 ls [])) (fun r => KP E below args s Q h0 r none)) res) : W p l e R s m args below meth c H locs (pX h - pX h0) (pS h - pS h0) Q (F0 m 2 ls []) := by
  unfold f_X0_evaluate_2s at hf
  have hx := C.1
  have hb := C.2.1
  refine lv_iload_n hx hb dX0_evaluate_2 rfl (lv_at hl 2 rfl) ?_
  refine zl_bipush hx hb dX0_evaluate_3 (by decide) ?_
  refine zl_icmp_ge (tgt := 42) hx hb dX0_evaluate_5 (by decide) (fun hc => ?_) (fun hc => ?_)
  · rw [if_pos hc] at hf
    refine lv_aload_n hx hb dX0_evaluate_8 rfl (lv_at hl 0 rfl) ?_
    refine lv_iload_n hx hb dX0_evaluate_9 rfl (lv_at hl 2 rfl) ?_
    refine lv_aload_n hx hb dX0_evaluate_10 rfl (lv_at hl 1 rfl) ?_
    obtain ⟨y1, ey1, hf⟩ := bd_inv hf
    refine zg_callS gP C hz hr (n := 3) (rest := []) (met_X0_given l E ey1) q971 q972 q89 q973 (by decide +kernel) ⟨Nat.le_trans (by decide) hr.1, Nat.le_trans (by decide) hr.2.1⟩ rfl hl.1 rfl (Nat.le_of_ble_eq_true rfl) dX0_evaluate_11 (fun H locs hz => ?_)
    refine lv_istore_n (lv' := [(3, .int (zI y1)), (0, .ref x0), (1, .ref x1), (2, .int (zI x2))]) hx hb dX0_evaluate_14 rfl hl (by decide) rfl (fun ls hl => ?_)
    refine lv_aload_n hx hb dX0_evaluate_15 rfl (lv_at hl 1 rfl) ?_
    obtain ⟨hg, hf⟩ := gd_inv hf
    refine zg_getp gP C hz 2 7 (gkp (by decide) hg) (by decide) (by decide) (Or.inr ⟨_, C.nw q173⟩) (fun _ h => h) dX0_evaluate_16 ?_
    refine lv_iload_n hx hb dX0_evaluate_19 rfl (lv_at hl 3 rfl) ?_
    refine lv_iload_n hx hb dX0_evaluate_20 rfl (lv_at hl 0 rfl) ?_
    refine zl_bipush hx hb dX0_evaluate_21 (by decide) ?_
    refine zl_icmp_eq (tgt := 30) hx hb dX0_evaluate_23 (by decide) (fun hc => ?_) (fun hc => ?_)
    · rw [if_pos hc] at hf
      refine lv_aload_n hx hb dX0_evaluate_30 rfl (lv_at hl 1 rfl) ?_
      refine lv_iload_n hx hb dX0_evaluate_31 rfl (lv_at hl 3 rfl) ?_
      obtain ⟨y2, ey2, hf⟩ := bd_inv hf
      refine zg_callS gP C hz hr (n := 2) (rest := [.int (zI x2), va_rf (pP h x0 7)]) (met_X0_initial l E ey2) q982 q983 q89 q984 (by decide +kernel) ⟨Nat.le_trans (by decide) hr.1, Nat.le_trans (by decide) hr.2.1⟩ rfl hl.1 rfl (by simp only [List.map_cons, List.map_nil, zx_cat]; exact Nat.le_of_ble_eq_true rfl) dX0_evaluate_32 (fun H locs hz => ?_)
      exact w_X0_evaluate_35 C hr hf hz (lv_sub hl [1, 2, 3] rfl) hk
    · rw [if_neg hc] at hf
      refine lv_iload_n hx hb dX0_evaluate_26 rfl (lv_at hl 0 rfl) ?_
      refine lv_goto (tgt := 35) hx hb dX0_evaluate_27 (by decide) ?_
      exact w_X0_evaluate_35 C hr hf hz (lv_sub hl [1, 2, 3] rfl) hk
  · rw [if_neg hc] at hf
    obtain ⟨r0, hm0, rfl⟩ := mr_inv hf
    exact w_X0_evaluate_42 C hr hm0 hz (lv_sub hl [0] rfl) hk

theorem w_X0_evaluate_2 {p : Program} {l : Launch} {e : Env} {R : Room} {s : State} {m : MethodId} {args : Array Value} {below : List Frame} {meth : Method} {c : Code} {Q : State → Prop} {E : PEw} {h0 h : HP} {H : Heap} {locs : List Loc} (C : PC E p s m args meth c RX0 cX0_evaluate 4 none "evaluate") (hr : 10 ≤ R.frames ∧ 228 ≤ R.locals ∧ RBw R h0) {x0 : Nat} {x1 : Nat} {x2 : Int} {res : HP} (hf : f_X0_evaluate_2 h x0 x1 x2 = some res) (hz : ZP E s h0 h H locs) {ls : Array Slot} (hl : lv_has ls 4 [(0, .ref x0), (1, .ref x1), (2, .int (zI x2))]) (hk : KP E below args s Q h0 res none) : W p l e R s m args below meth c H locs (pX h - pX h0) (pS h - pS h0) Q (F0 m 2 ls []) := by
  unfold f_X0_evaluate_2 at hf
  refine iter_ind (P := fun z r => ∀ (H : Heap) (locs : List Loc) (ls : Array Slot), ZP E s h0 z.1 H locs → lv_has ls 4 [(0, .ref x0), (1, .ref x1), (2, .int (zI z.2))] → KP E below args s Q h0 r none → W p l e R s m args below meth c H locs (pX z.1 - pX h0) (pS z.1 - pS h0) Q (F0 m 2 ls [])) ?_ ?_ hf H locs ls hz hl hk
  · intro z r h1 H locs ls hz hl hk; exact w_X0_evaluate_2s C hr h1 hz hl hk
  · intro z z1 r h1 ih H locs ls hz hl hk; exact w_X0_evaluate_2s C hr h1 hz hl (fun H locs ls hz hl => ih H locs ls hz hl hk)

theorem w_X0_evaluate {p : Program} {l : Launch} {e : Env} {R : Room} {s : State} {m : MethodId} {args : Array Value} {below : List Frame} {meth : Method} {c : Code} {Q : State → Prop} {E : PEw} {h0 h : HP} {H : Heap} {locs : List Loc} (C : PC E p s m args meth c RX0 cX0_evaluate 4 none "evaluate") (hr : 10 ≤ R.frames ∧ 228 ≤ R.locals ∧ RBw R h0) {x0 : Nat} {x1 : Nat} {res : HP} (hf : f_X0_evaluate h x0 x1 = some res) (hz : ZP E s h0 h H locs) {ls : Array Slot} (hl : lv_has ls 4 [(0, .ref x0), (1, .ref x1)]) (hk : KP E below args s Q h0 res none) : W p l e R s m args below meth c H locs (pX h - pX h0) (pS h - pS h0) Q (F0 m 0 ls []) := by
  unfold f_X0_evaluate at hf
  have hx := C.1
  have hb := C.2.1
  refine zl_iconst hx hb dX0_evaluate_0 ?_
  refine lv_istore_n (lv' := [(2, .int (zI 0)), (0, .ref x0), (1, .ref x1)]) hx hb dX0_evaluate_1 rfl hl (by decide) rfl (fun ls hl => ?_)
  exact w_X0_evaluate_2 C hr hf hz (lv_sub hl [1, 2, 0] rfl) hk

theorem met_X0_evaluate (l : Launch) (E : PEw) {h : HP} {x0 : Nat} {x1 : Nat} {res : HP} (hf : f_X0_evaluate h x0 x1 = some res) : Met l yX0_evaluate (ws_ yX0_evaluate cX0_evaluate 4 none) (rmP h 10 228) (PP E h [.ref x0, .ref x1]) (QP E h res none) (pX res - pX h) (pS res - pS h) (eF E) := by
  refine Met.ofW (cc := cX0_evaluate) (maxL := 4) (ret := none) (by decide) rfl ?_
  intro p e s m args below meth c s₁ B hml hv
  obtain ⟨rfl, hP0⟩ := hv
  have hts := atoms_spec (ws := ws_ yX0_evaluate cX0_evaluate 4 none) B.pre
  have hts : ∀ w ∈ lw_all, w.before _ s = true := fun w h => hts w (List.mem_cons_of_mem _ h)
  have C : PC E p s m _ meth c RX0 cX0_evaluate 4 none "evaluate" := ⟨B.exec, B.bytes, B.returns, B.notSynchronized, hml, findClass_of_methodNamed B.named, hts, hP0.2, (name_of_methodNamed B.named B.method).1⟩
  have hz : ZP E s h h s.heap [] := ZG.start hP0.1
  have hl := lv_entry ([.ref x0, .ref x1]) (n := 4) (Nat.le_of_ble_eq_true rfl)
  rw [lg_entry_eq]
  generalize (lg_sl ([.ref x0, .ref x1]) ++ List.replicate (4 - (lg_sl ([.ref x0, .ref x1])).length) Slot.unset).toArray = ls at hl ⊢
  have hl : lv_has ls 4 [(0, .ref x0), (1, .ref x1)] := hl
  refine W.cs (cells' := pX h - pX h) (slots' := pS h - pS h) (Nat.sub_self _).symm (Nat.sub_self _).symm ?_
  exact w_X0_evaluate C ⟨Nat.le_refl _, Nat.le_refl _, RBw.rm⟩ hf hz hl rfl

def RK_visit (l : Launch) (E : PEw) (N : Nat) (rc : RC_visit) : Prop := ∀ {h : HP} {x0 : Nat} {x1 : Nat} {x2 : Nat} {res : HP}, rc h x0 x1 x2 = some res → Met l yX0_visit (ws_ yX0_visit cX0_visit 5 none) (rmP h (11 * N) (251 * N)) (PP E h [.ref x0, .ref x1, .ref x2]) (QP E h res none) (pX res - pX h) (pS res - pS h) (eF E)
theorem w_X0_visit_44s {p : Program} {l : Launch} {e : Env} {R : Room} {s : State} {m : MethodId} {args : Array Value} {below : List Frame} {meth : Method} {c : Code} {Q : State → Prop} {E : PEw} {h0 h : HP} {H : Heap} {locs : List Loc} {rc : RC_visit} (C : PC E p s m args meth c RX0 cX0_visit 5 none "visit") {N : Nat} (hrc : RK_visit l E N rc) (hr : 11 * (N + 1) ≤ R.frames ∧ 251 * (N + 1) ≤ R.locals ∧ RBw R h0) {x1 : Nat} {x2 : Nat} {x3 : Nat} {x4 : Int} {res : (HP × Int) ⊕ (HP)} (hf : f_X0_visit_44s rc h x1 x2 x3 x4 = some res) (hz : ZP E s h0 h H locs) {ls : Array Slot} (hl : lv_has ls 5 [(1, .ref x1), (2, .ref x2), (3, .ref x3), (4, .int (zI x4))]) (hk : (Sum.elim (fun z => ∀ (H : Heap) (locs : List Loc) (ls : Array Slot), ZP E s h0 z.1 H locs → lv_has ls 5 [(1, .ref x1), (2, .ref x2), (3, .ref x3), (4, .int (zI z.2))] → W p l e R s m args below meth c H locs (pX z.1 - pX h0) (pS z.1 - pS h0) Q (F0 m 44 ls [])) (fun r => KP E below args s Q h0 r none)) res) : W p l e R s m args below meth c H locs (pX h - pX h0) (pS h - pS h0) Q (F0 m 44 ls []) := by
  unfold f_X0_visit_44s at hf
  have hx := C.1
  have hb := C.2.1
  refine lv_iload hx hb dX0_visit_44 (lv_at hl 3 rfl) ?_
  refine lv_aload_n hx hb dX0_visit_46 rfl (lv_at hl 2 rfl) ?_
  obtain ⟨hg, hf⟩ := gd_inv hf
  refine zg_getp gP C hz 2 4 (gkp (by decide) hg) (by decide) (by decide) (Or.inr ⟨_, C.nw q166⟩) (fun _ h => h) dX0_visit_47 ?_
  obtain ⟨a1, ea1, hf⟩ := bd_inv hf
  rw [zx_rf ea1]
  obtain ⟨y2, ey2, hf⟩ := bd_inv hf
  refine zj_lLen C hz hr ey2 (rest := [.int (zI x4)]) q549 q550 (C.w q551) q94 q552 hl.1 ⟨by have := hr.1; omega, by have := hr.2.1; omega⟩ (Nat.le_of_ble_eq_true rfl) dX0_visit_50 (fun H locs hz => ?_)
  refine zl_icmp_ge (tgt := 79) hx hb dX0_visit_53 (by decide) (fun hc => ?_) (fun hc => ?_)
  · rw [if_pos hc] at hf
    refine lv_aload_n hx hb dX0_visit_56 rfl (lv_at hl 2 rfl) ?_
    obtain ⟨hg, hf⟩ := gd_inv hf
    refine zg_getp gP C hz 2 4 (gkp (by decide) hg) (by decide) (by decide) (Or.inr ⟨_, C.nw q166⟩) (fun _ h => h) dX0_visit_57 ?_
    refine lv_iload hx hb dX0_visit_60 (lv_at hl 3 rfl) ?_
    obtain ⟨a3, ea3, hf⟩ := bd_inv hf
    rw [zx_rf ea3]
    obtain ⟨y4, ey4, hf⟩ := bd_inv hf
    refine zj_lGet C hz hr ey4 (rest := []) q553 q554 (C.w q555) q94 q556 hl.1 ⟨by have := hr.1; omega, by have := hr.2.1; omega⟩ (Nat.le_of_ble_eq_true rfl) dX0_visit_62 (fun H locs hz => ?_)
    obtain ⟨hg, hf⟩ := gd_inv hf
    refine zg_castN gP C hz hg q704 dX0_visit_65 ?_
    refine lv_aload_n hx hb dX0_visit_68 rfl (lv_at hl 0 rfl) ?_
    refine lv_aload_n hx hb dX0_visit_69 rfl (lv_at hl 1 rfl) ?_
    obtain ⟨y5, ey5, hf⟩ := bd_inv hf
    refine zg_callS gP C hz hr (n := 3) (rest := []) (hrc ey5) q965 q966 q89 q967 (by decide +kernel) ⟨by have := hr.1; omega, by have := hr.2.1; omega⟩ rfl hl.1 rfl (Nat.le_of_ble_eq_true rfl) dX0_visit_70 (fun H locs hz => ?_)
    refine zl_iinc (x := x4) (n := 1) (lv' := [(4, .int (zI (x4 + 1))), (1, .ref x1), (2, .ref x2), (3, .ref x3)]) (k := 3) hx hb dX0_visit_73 hl rfl (by decide) rfl (fun ls hl => ?_)
    refine lv_goto (tgt := 44) hx hb dX0_visit_76 (by decide) ?_
    obtain rfl := Option.some.inj hf
    exact hk _ _ _ hz (lv_sub hl [1, 2, 3, 0] rfl)
  · rw [if_neg hc] at hf
    obtain rfl := Option.some.inj hf
    exact zg_vret C hz hk dX0_visit_79

theorem w_X0_visit_44 {p : Program} {l : Launch} {e : Env} {R : Room} {s : State} {m : MethodId} {args : Array Value} {below : List Frame} {meth : Method} {c : Code} {Q : State → Prop} {E : PEw} {h0 h : HP} {H : Heap} {locs : List Loc} {rc : RC_visit} (C : PC E p s m args meth c RX0 cX0_visit 5 none "visit") {N : Nat} (hrc : RK_visit l E N rc) (hr : 11 * (N + 1) ≤ R.frames ∧ 251 * (N + 1) ≤ R.locals ∧ RBw R h0) {x1 : Nat} {x2 : Nat} {x3 : Nat} {x4 : Int} {res : HP} (hf : f_X0_visit_44 rc h x1 x2 x3 x4 = some res) (hz : ZP E s h0 h H locs) {ls : Array Slot} (hl : lv_has ls 5 [(1, .ref x1), (2, .ref x2), (3, .ref x3), (4, .int (zI x4))]) (hk : KP E below args s Q h0 res none) : W p l e R s m args below meth c H locs (pX h - pX h0) (pS h - pS h0) Q (F0 m 44 ls []) := by
  unfold f_X0_visit_44 at hf
  refine iter_ind (P := fun z r => ∀ (H : Heap) (locs : List Loc) (ls : Array Slot), ZP E s h0 z.1 H locs → lv_has ls 5 [(1, .ref x1), (2, .ref x2), (3, .ref x3), (4, .int (zI z.2))] → KP E below args s Q h0 r none → W p l e R s m args below meth c H locs (pX z.1 - pX h0) (pS z.1 - pS h0) Q (F0 m 44 ls [])) ?_ ?_ hf H locs ls hz hl hk
  · intro z r h1 H locs ls hz hl hk; exact w_X0_visit_44s C hrc hr h1 hz hl hk
  · intro z z1 r h1 ih H locs ls hz hl hk; exact w_X0_visit_44s C hrc hr h1 hz hl (fun H locs ls hz hl => ih H locs ls hz hl hk)

theorem w_X0_visit_b {p : Program} {l : Launch} {e : Env} {R : Room} {s : State} {m : MethodId} {args : Array Value} {below : List Frame} {meth : Method} {c : Code} {Q : State → Prop} {E : PEw} {h0 h : HP} {H : Heap} {locs : List Loc} {rc : RC_visit} (C : PC E p s m args meth c RX0 cX0_visit 5 none "visit") {N : Nat} (hrc : RK_visit l E N rc) (hr : 11 * (N + 1) ≤ R.frames ∧ 251 * (N + 1) ≤ R.locals ∧ RBw R h0) {x0 : Nat} {x1 : Nat} {x2 : Nat} {res : HP} (hf : f_X0_visit_b rc h x0 x1 x2 = some res) (hz : ZP E s h0 h H locs) {ls : Array Slot} (hl : lv_has ls 5 [(0, .ref x0), (1, .ref x1), (2, .ref x2)]) (hk : KP E below args s Q h0 res none) : W p l e R s m args below meth c H locs (pX h - pX h0) (pS h - pS h0) Q (F0 m 0 ls []) := by
  unfold f_X0_visit_b at hf
  have hx := C.1
  have hb := C.2.1
  refine lv_aload_n hx hb dX0_visit_0 rfl (lv_at hl 0 rfl) ?_
  refine lv_aload_n hx hb dX0_visit_1 rfl (lv_at hl 1 rfl) ?_
  obtain ⟨y1, ey1, hf⟩ := bd_inv hf
  refine zj_lLen C hz hr ey1 (rest := [.ref x0]) q549 q550 (C.w q551) q94 q552 hl.1 ⟨by have := hr.1; omega, by have := hr.2.1; omega⟩ (Nat.le_of_ble_eq_true rfl) dX0_visit_2 (fun H locs hz => ?_)
  obtain ⟨hg, hf⟩ := gd_inv hf
  obtain ⟨h2, eh2, hf⟩ := bnd_inv hf
  refine zg_puti_nd gP C hz 2 1 hg (by decide) (by decide) rfl (by decide) (Or.inl (C.w q195)) (fun _ h => h) dX0_visit_5 eh2 (fun H locs hz => ?_)
  refine lv_aload_n hx hb dX0_visit_8 rfl (lv_at hl 1 rfl) ?_
  refine lv_aload_n hx hb dX0_visit_9 rfl (lv_at hl 0 rfl) ?_
  obtain ⟨y3, ey3, hf⟩ := bd_inv hf
  refine zj_lAdd C hz hr ey3 (rest := []) q338 q339 (C.w q340) q94 q341 hl.1 ⟨by have := hr.1; omega, by have := hr.2.1; omega⟩ (Nat.le_of_ble_eq_true rfl) dX0_visit_10 (fun H locs hz => ?_)
  refine lv_pop hx hb dX0_visit_13 rfl ?_
  refine lv_aload_n hx hb dX0_visit_14 rfl (lv_at hl 0 rfl) ?_
  obtain ⟨hg, hf⟩ := gd_inv hf
  refine zg_inst2 gP C hz hg q124 dX0_visit_15 ?_
  refine zl_if_eq (tgt := 30) hx hb dX0_visit_18 (by decide) (fun hc => ?_) (fun hc => ?_)
  · rw [if_pos hc] at hf
    obtain rfl := Option.some.inj hf
    exact zg_vret C hz hk dX0_visit_30
  · rw [if_neg hc] at hf
    refine lv_aload_n hx hb dX0_visit_21 rfl (lv_at hl 1 rfl) ?_
    obtain ⟨y4, ey4, hf⟩ := bd_inv hf
    refine zj_lLen C hz hr ey4 (rest := []) q549 q550 (C.w q551) q94 q552 hl.1 ⟨by have := hr.1; omega, by have := hr.2.1; omega⟩ (Nat.le_of_ble_eq_true rfl) dX0_visit_22 (fun H locs hz => ?_)
    refine zl_bipush hx hb dX0_visit_25 (by decide) ?_
    refine zl_icmp_le (tgt := 31) hx hb dX0_visit_27 (by decide) (fun hc => ?_) (fun hc => ?_)
    · rw [if_pos hc] at hf
      obtain rfl := Option.some.inj hf
      exact zg_vret C hz hk dX0_visit_30
    · rw [if_neg hc] at hf
      refine lv_aload_n hx hb dX0_visit_31 rfl (lv_at hl 0 rfl) ?_
      obtain ⟨hg, hf⟩ := gd_inv hf
      refine zg_cast2 gP C hz hg q124 dX0_visit_32 ?_
      refine lv_astore_n (lv' := [(3, .ref x0), (0, .ref x0), (1, .ref x1), (2, .ref x2)]) hx hb dX0_visit_35 rfl hl (by decide) rfl (fun ls hl => ?_)
      refine lv_aload_n hx hb dX0_visit_36 rfl (lv_at hl 0 rfl) ?_
      refine lv_aload_n hx hb dX0_visit_37 rfl (lv_at hl 3 rfl) ?_
      obtain ⟨y5, ey5, hf⟩ := bd_inv hf
      refine zg_callS gP C hz hr (n := 2) (rest := []) (met_X0_evaluate l E ey5) q968 q969 q89 q970 (by decide +kernel) ⟨by have := hr.1; omega, by have := hr.2.1; omega⟩ rfl hl.1 rfl (Nat.le_of_ble_eq_true rfl) dX0_visit_38 (fun H locs hz => ?_)
      refine zl_iconst hx hb dX0_visit_41 ?_
      refine lv_istore (lv' := [(4, .int (zI 0)), (3, .ref x0), (0, .ref x0), (1, .ref x1), (2, .ref x2)]) hx hb dX0_visit_42 hl (by decide) rfl (fun ls hl => ?_)
      exact w_X0_visit_44 C hrc hr hf hz (lv_sub hl [3, 4, 1, 0] rfl) hk

theorem mets_X0_visit (l : Launch) (E : PEw) {N : Nat} (hrc : RK_visit l E N (F_visit N)) : ∀ {h : HP} {x0 : Nat} {x1 : Nat} {x2 : Nat} {res : HP}, f_X0_visit_b (F_visit N) h x0 x1 x2 = some res → Met l yX0_visit (ws_ yX0_visit cX0_visit 5 none) (rmP h (11 * (N + 1)) (251 * (N + 1))) (PP E h [.ref x0, .ref x1, .ref x2]) (QP E h res none) (pX res - pX h) (pS res - pS h) (eF E) := by
  intro h x0 x1 x2 res hf
  refine Met.ofW (cc := cX0_visit) (maxL := 5) (ret := none) (by decide) rfl ?_
  intro p e s m args below meth c s₁ B hml hv
  obtain ⟨rfl, hP0⟩ := hv
  have hts := atoms_spec (ws := ws_ yX0_visit cX0_visit 5 none) B.pre
  have hts : ∀ w ∈ lw_all, w.before _ s = true := fun w h => hts w (List.mem_cons_of_mem _ h)
  have C : PC E p s m _ meth c RX0 cX0_visit 5 none "visit" := ⟨B.exec, B.bytes, B.returns, B.notSynchronized, hml, findClass_of_methodNamed B.named, hts, hP0.2, (name_of_methodNamed B.named B.method).1⟩
  have hz : ZP E s h h s.heap [] := ZG.start hP0.1
  have hl := lv_entry ([.ref x0, .ref x1, .ref x2]) (n := 5) (Nat.le_of_ble_eq_true rfl)
  rw [lg_entry_eq]
  generalize (lg_sl ([.ref x0, .ref x1, .ref x2]) ++ List.replicate (5 - (lg_sl ([.ref x0, .ref x1, .ref x2])).length) Slot.unset).toArray = ls at hl ⊢
  have hl : lv_has ls 5 [(0, .ref x0), (1, .ref x1), (2, .ref x2)] := hl
  refine W.cs (cells' := pX h - pX h) (slots' := pS h - pS h) (Nat.sub_self _).symm (Nat.sub_self _).symm ?_
  exact w_X0_visit_b C hrc ⟨Nat.le_refl _, Nat.le_refl _, RBw.rm⟩ hf hz hl rfl
theorem RK_visit.all (l : Launch) (E : PEw) : ∀ N, RK_visit l E N (F_visit N) := by
  intro N
  induction N with
  | zero => exact (by intro h x0 x1 x2 res hf; cases hf)
  | succ N ih => exact mets_X0_visit l E ih
theorem met_X0_visit (l : Launch) (E : PEw) : ∀ {h : HP} {x0 : Nat} {x1 : Nat} {x2 : Nat} {res : HP}, f_X0_visit 30 h x0 x1 x2 = some res → Met l yX0_visit (ws_ yX0_visit cX0_visit 5 none) (rmP h (330) (7530)) (PP E h [.ref x0, .ref x1, .ref x2]) (QP E h res none) (pX res - pX h) (pS res - pS h) (eF E) := (RK_visit.all l E 30)
theorem w_X0_refresh_40 {p : Program} {l : Launch} {e : Env} {R : Room} {s : State} {m : MethodId} {args : Array Value} {below : List Frame} {meth : Method} {c : Code} {Q : State → Prop} {E : PEw} {h0 h : HP} {H : Heap} {locs : List Loc} (C : PC E p s m args meth c RX0 cX0_refresh 1 none "refresh") (hr : 331 ≤ R.frames ∧ 7554 ≤ R.locals ∧ RBw R h0) {x0 : Nat} {res : HP} (hf : f_X0_refresh_40 h x0 = some res) (hz : ZP E s h0 h H locs) {ls : Array Slot} (hl : lv_has ls 1 [(0, .ref x0)]) (hk : KP E below args s Q h0 res none) : W p l e R s m args below meth c H locs (pX h - pX h0) (pS h - pS h0) Q (F0 m 40 ls []) := by
  unfold f_X0_refresh_40 at hf
  have hx := C.1
  have hb := C.2.1
  refine lv_aload_n hx hb dX0_refresh_40 rfl (lv_at hl 0 rfl) ?_
  refine zl_iconst hx hb dX0_refresh_41 ?_
  obtain ⟨hg, hf⟩ := gd_inv hf
  obtain ⟨h1, eh1, hf⟩ := bnd_inv hf
  refine zg_putb gP C hz 1 16 (gkp (by decide) hg) (by decide) (by decide) rfl (by decide) zisB_1 (Or.inl (C.w q416)) (fun _ h => h) dX0_refresh_42 eh1 (fun H locs hz => ?_)
  obtain rfl := Option.some.inj hf
  exact zg_vret C hz hk dX0_refresh_45

theorem w_X0_refresh {p : Program} {l : Launch} {e : Env} {R : Room} {s : State} {m : MethodId} {args : Array Value} {below : List Frame} {meth : Method} {c : Code} {Q : State → Prop} {E : PEw} {h0 h : HP} {H : Heap} {locs : List Loc} (C : PC E p s m args meth c RX0 cX0_refresh 1 none "refresh") (hr : 331 ≤ R.frames ∧ 7554 ≤ R.locals ∧ RBw R h0) {x0 : Nat} {res : HP} (hf : f_X0_refresh h x0 = some res) (hz : ZP E s h0 h H locs) {ls : Array Slot} (hl : lv_has ls 1 [(0, .ref x0)]) (hk : KP E below args s Q h0 res none) : W p l e R s m args below meth c H locs (pX h - pX h0) (pS h - pS h0) Q (F0 m 0 ls []) := by
  unfold f_X0_refresh at hf
  have hx := C.1
  have hb := C.2.1
  refine lv_aload_n hx hb dX0_refresh_0 rfl (lv_at hl 0 rfl) ?_
  obtain ⟨hg, hf⟩ := gd_inv hf
  refine zg_geti gP C hz 1 16 (gkp (by decide) hg) (by decide) (by decide) (Or.inl (C.w q416)) (fun _ h => h) dX0_refresh_1 ?_
  refine zl_if_eq (tgt := 8) hx hb dX0_refresh_4 (by decide) (fun hc => ?_) (fun hc => ?_)
  · rw [if_pos hc] at hf
    refine lv_aload_n hx hb dX0_refresh_8 rfl (lv_at hl 0 rfl) ?_
    obtain ⟨hg, hf⟩ := gd_inv hf
    refine zg_getp gP C hz 1 15 (gkp (by decide) hg) (by decide) (by decide) (Or.inl (C.w q415)) (fun _ h => h) dX0_refresh_9 ?_
    obtain ⟨a1, ea1, hf⟩ := bd_inv hf
    rw [zx_rf ea1]
    obtain ⟨y2, ey2, hf⟩ := bd_inv hf
    refine zj_lClr C hz hr ey2 (rest := []) q333 q330 (C.w q331) q94 q332 hl.1 ⟨Nat.le_trans (by decide) hr.1, Nat.le_trans (by decide) hr.2.1⟩ (Nat.le_of_ble_eq_true rfl) dX0_refresh_12 (fun H locs hz => ?_)
    refine lv_aload_n hx hb dX0_refresh_15 rfl (lv_at hl 0 rfl) ?_
    obtain ⟨hg, hf⟩ := gd_inv hf
    refine zg_geti gP C hz 1 7 (gkp (by decide) hg) (by decide) (by decide) (Or.inl (C.w q407)) (fun _ h => h) dX0_refresh_16 ?_
    refine zl_if_ne (tgt := 40) hx hb dX0_refresh_19 (by decide) (fun hc => ?_) (fun hc => ?_)
    · rw [if_pos hc] at hf
      refine lv_aload_n hx hb dX0_refresh_22 rfl (lv_at hl 0 rfl) ?_
      obtain ⟨hg, hf⟩ := gd_inv hf
      refine zg_getp gP C hz 1 0 (gkp (by decide) hg) (by decide) (by decide) (Or.inl (C.w q400)) (fun _ h => h) dX0_refresh_23 ?_
      refine lv_aload_n hx hb dX0_refresh_26 rfl (lv_at hl 0 rfl) ?_
      obtain ⟨hg, hf⟩ := gd_inv hf
      refine zg_getp gP C hz 1 15 (gkp (by decide) hg) (by decide) (by decide) (Or.inl (C.w q415)) (fun _ h => h) dX0_refresh_27 ?_
      refine lv_aload_n hx hb dX0_refresh_30 rfl (lv_at hl 0 rfl) ?_
      obtain ⟨hg, hf⟩ := gd_inv hf
      refine zg_getp gP C hz 1 14 (gkp (by decide) hg) (by decide) (by decide) (Or.inl (C.w q414)) (fun _ h => h) dX0_refresh_31 ?_
      obtain ⟨a3, ea3, hf⟩ := bd_inv hf
      rw [zx_rf ea3]
      obtain ⟨hg, hf⟩ := gd_inv hf
      refine zg_getp gP C hz 4 0 (gkp (by decide) hg) (by decide) (by decide) (Or.inr ⟨_, C.nw q279⟩) (fun _ h => h) dX0_refresh_34 ?_
      obtain ⟨a4, ea4, hf⟩ := bd_inv hf
      rw [zx_rf ea4]
      obtain ⟨a5, ea5, hf⟩ := bd_inv hf
      rw [zx_rf ea5]
      obtain ⟨a6, ea6, hf⟩ := bd_inv hf
      rw [zx_rf ea6]
      obtain ⟨y7, ey7, hf⟩ := bd_inv hf
      refine zg_callS gP C hz hr (n := 3) (rest := []) (met_X0_visit l E ey7) q965 q966 q89 q967 (by decide +kernel) ⟨Nat.le_trans (by decide) hr.1, Nat.le_trans (by decide) hr.2.1⟩ rfl hl.1 rfl (Nat.le_of_ble_eq_true rfl) dX0_refresh_37 (fun H locs hz => ?_)
      exact w_X0_refresh_40 C hr hf hz (lv_sub hl [0] rfl) hk
    · rw [if_neg hc] at hf
      exact w_X0_refresh_40 C hr hf hz (lv_sub hl [0] rfl) hk
  · rw [if_neg hc] at hf
    obtain rfl := Option.some.inj hf
    exact zg_vret C hz hk dX0_refresh_7

theorem met_X0_refresh (l : Launch) (E : PEw) {h : HP} {x0 : Nat} {res : HP} (hf : f_X0_refresh h x0 = some res) : Met l yX0_refresh (ws_ yX0_refresh cX0_refresh 1 none) (rmP h 331 7554) (PP E h [.ref x0]) (QP E h res none) (pX res - pX h) (pS res - pS h) (eF E) := by
  refine Met.ofW (cc := cX0_refresh) (maxL := 1) (ret := none) (by decide) rfl ?_
  intro p e s m args below meth c s₁ B hml hv
  obtain ⟨rfl, hP0⟩ := hv
  have hts := atoms_spec (ws := ws_ yX0_refresh cX0_refresh 1 none) B.pre
  have hts : ∀ w ∈ lw_all, w.before _ s = true := fun w h => hts w (List.mem_cons_of_mem _ h)
  have C : PC E p s m _ meth c RX0 cX0_refresh 1 none "refresh" := ⟨B.exec, B.bytes, B.returns, B.notSynchronized, hml, findClass_of_methodNamed B.named, hts, hP0.2, (name_of_methodNamed B.named B.method).1⟩
  have hz : ZP E s h h s.heap [] := ZG.start hP0.1
  have hl := lv_entry ([.ref x0]) (n := 1) (Nat.le_of_ble_eq_true rfl)
  rw [lg_entry_eq]
  generalize (lg_sl ([.ref x0]) ++ List.replicate (1 - (lg_sl ([.ref x0])).length) Slot.unset).toArray = ls at hl ⊢
  have hl : lv_has ls 1 [(0, .ref x0)] := hl
  refine W.cs (cells' := pX h - pX h) (slots' := pS h - pS h) (Nat.sub_self _).symm (Nat.sub_self _).symm ?_
  exact w_X0_refresh C ⟨Nat.le_refl _, Nat.le_refl _, RBw.rm⟩ hf hz hl rfl

theorem w_J10_fill_2_5s {p : Program} {l : Launch} {e : Env} {R : Room} {s : State} {m : MethodId} {args : Array Value} {below : List Frame} {meth : Method} {c : Code} {Q : State → Prop} {E : PEw} {h0 h : HP} {H : Heap} {locs : List Loc} (C : PC E p s m args meth c RJ10 cJ10_fill_2 4 none "fill") (hr : 0 ≤ R.frames ∧ 0 ≤ R.locals ∧ RBw R h0) {x0 : Nat} {x1 : Int} {x2 : Int} {x3 : Int} {res : (HP × Int) ⊕ (HP)} (hf : f_J10_fill_2_5s h x0 x1 x2 x3 = some res) (hz : ZP E s h0 h H locs) {ls : Array Slot} (hl : lv_has ls 4 [(0, .ref x0), (1, .int (zI x1)), (2, .int (zI x2)), (3, .int (zI x3))]) (hk : (Sum.elim (fun z => ∀ (H : Heap) (locs : List Loc) (ls : Array Slot), ZP E s h0 z.1 H locs → lv_has ls 4 [(0, .ref x0), (1, .int (zI x1)), (2, .int (zI z.2)), (3, .int (zI x3))] → W p l e R s m args below meth c H locs (pX z.1 - pX h0) (pS z.1 - pS h0) Q (F0 m 5 ls [])) (fun r => KP E below args s Q h0 r none)) res) : W p l e R s m args below meth c H locs (pX h - pX h0) (pS h - pS h0) Q (F0 m 5 ls []) := by
  unfold f_J10_fill_2_5s at hf
  have hx := C.1
  have hb := C.2.1
  refine lv_iload_n hx hb dJ10_fill_2_5 rfl (lv_at hl 2 rfl) ?_
  refine lv_iload_n hx hb dJ10_fill_2_6 rfl (lv_at hl 3 rfl) ?_
  refine zl_icmp_ge (tgt := 20) hx hb dJ10_fill_2_7 (by decide) (fun hc => ?_) (fun hc => ?_)
  · rw [if_pos hc] at hf
    refine lv_aload_n hx hb dJ10_fill_2_10 rfl (lv_at hl 0 rfl) ?_
    refine lv_iload_n hx hb dJ10_fill_2_11 rfl (lv_at hl 2 rfl) ?_
    refine lv_iload_n hx hb dJ10_fill_2_12 rfl (lv_at hl 1 rfl) ?_
    obtain ⟨hg, hf⟩ := gd_inv hf
    obtain ⟨hi, hf⟩ := gd_inv hf
    obtain ⟨h1, eh1, hf⟩ := bnd_inv hf
    refine zg_iast gP C hz hg hi dJ10_fill_2_13 eh1 (fun H locs hz => ?_)
    refine zl_iinc (x := x2) (n := 1) (lv' := [(2, .int (zI (x2 + 1))), (0, .ref x0), (1, .int (zI x1)), (3, .int (zI x3))]) (k := 2) hx hb dJ10_fill_2_14 hl rfl (by decide) rfl (fun ls hl => ?_)
    refine lv_goto (tgt := 5) hx hb dJ10_fill_2_17 (by decide) ?_
    obtain rfl := Option.some.inj hf
    exact hk _ _ _ hz (lv_sub hl [1, 2, 0, 3] rfl)
  · rw [if_neg hc] at hf
    obtain rfl := Option.some.inj hf
    exact zg_vret C hz hk dJ10_fill_2_20

theorem w_J10_fill_2_5 {p : Program} {l : Launch} {e : Env} {R : Room} {s : State} {m : MethodId} {args : Array Value} {below : List Frame} {meth : Method} {c : Code} {Q : State → Prop} {E : PEw} {h0 h : HP} {H : Heap} {locs : List Loc} (C : PC E p s m args meth c RJ10 cJ10_fill_2 4 none "fill") (hr : 0 ≤ R.frames ∧ 0 ≤ R.locals ∧ RBw R h0) {x0 : Nat} {x1 : Int} {x2 : Int} {x3 : Int} {res : HP} (hf : f_J10_fill_2_5 h x0 x1 x2 x3 = some res) (hz : ZP E s h0 h H locs) {ls : Array Slot} (hl : lv_has ls 4 [(0, .ref x0), (1, .int (zI x1)), (2, .int (zI x2)), (3, .int (zI x3))]) (hk : KP E below args s Q h0 res none) : W p l e R s m args below meth c H locs (pX h - pX h0) (pS h - pS h0) Q (F0 m 5 ls []) := by
  unfold f_J10_fill_2_5 at hf
  refine iter_ind (P := fun z r => ∀ (H : Heap) (locs : List Loc) (ls : Array Slot), ZP E s h0 z.1 H locs → lv_has ls 4 [(0, .ref x0), (1, .int (zI x1)), (2, .int (zI z.2)), (3, .int (zI x3))] → KP E below args s Q h0 r none → W p l e R s m args below meth c H locs (pX z.1 - pX h0) (pS z.1 - pS h0) Q (F0 m 5 ls [])) ?_ ?_ hf H locs ls hz hl hk
  · intro z r h1 H locs ls hz hl hk; exact w_J10_fill_2_5s C hr h1 hz hl hk
  · intro z z1 r h1 ih H locs ls hz hl hk; exact w_J10_fill_2_5s C hr h1 hz hl (fun H locs ls hz hl => ih H locs ls hz hl hk)

theorem w_J10_fill_2 {p : Program} {l : Launch} {e : Env} {R : Room} {s : State} {m : MethodId} {args : Array Value} {below : List Frame} {meth : Method} {c : Code} {Q : State → Prop} {E : PEw} {h0 h : HP} {H : Heap} {locs : List Loc} (C : PC E p s m args meth c RJ10 cJ10_fill_2 4 none "fill") (hr : 0 ≤ R.frames ∧ 0 ≤ R.locals ∧ RBw R h0) {x0 : Nat} {x1 : Int} {res : HP} (hf : f_J10_fill_2 h x0 x1 = some res) (hz : ZP E s h0 h H locs) {ls : Array Slot} (hl : lv_has ls 4 [(0, .ref x0), (1, .int (zI x1))]) (hk : KP E below args s Q h0 res none) : W p l e R s m args below meth c H locs (pX h - pX h0) (pS h - pS h0) Q (F0 m 0 ls []) := by
  unfold f_J10_fill_2 at hf
  have hx := C.1
  have hb := C.2.1
  refine zl_iconst hx hb dJ10_fill_2_0 ?_
  refine lv_istore_n (lv' := [(2, .int (zI 0)), (0, .ref x0), (1, .int (zI x1))]) hx hb dJ10_fill_2_1 rfl hl (by decide) rfl (fun ls hl => ?_)
  refine lv_aload_n hx hb dJ10_fill_2_2 rfl (lv_at hl 1 rfl) ?_
  obtain ⟨hg, hf⟩ := gd_inv hf
  refine zg_alenP gP C hz hg dJ10_fill_2_3 ?_
  obtain ⟨y1, ey1, hf⟩ := bnd_inv hf
  refine zl_topi ey1 ?_
  refine lv_istore_n (lv' := [(3, .int (zI y1)), (2, .int (zI 0)), (0, .ref x0), (1, .int (zI x1))]) hx hb dJ10_fill_2_4 rfl hl (by decide) rfl (fun ls hl => ?_)
  exact w_J10_fill_2_5 C hr hf hz (lv_sub hl [2, 3, 1, 0] rfl) hk

theorem met_J10_fill_2 (l : Launch) (E : PEw) {h : HP} {x0 : Nat} {x1 : Int} {res : HP} (hf : f_J10_fill_2 h x0 x1 = some res) : Met l yJ10_fill_2 (ws_ yJ10_fill_2 cJ10_fill_2 4 none) (rmP h 0 0) (PP E h [.ref x0, .int (zI x1)]) (QP E h res none) (pX res - pX h) (pS res - pS h) (eF E) := by
  refine Met.ofW (cc := cJ10_fill_2) (maxL := 4) (ret := none) (by decide) rfl ?_
  intro p e s m args below meth c s₁ B hml hv
  obtain ⟨rfl, hP0⟩ := hv
  have hts := atoms_spec (ws := ws_ yJ10_fill_2 cJ10_fill_2 4 none) B.pre
  have hts : ∀ w ∈ lw_all, w.before _ s = true := fun w h => hts w (List.mem_cons_of_mem _ h)
  have C : PC E p s m _ meth c RJ10 cJ10_fill_2 4 none "fill" := ⟨B.exec, B.bytes, B.returns, B.notSynchronized, hml, findClass_of_methodNamed B.named, hts, hP0.2, (name_of_methodNamed B.named B.method).1⟩
  have hz : ZP E s h h s.heap [] := ZG.start hP0.1
  have hl := lv_entry ([.ref x0, .int (zI x1)]) (n := 4) (Nat.le_of_ble_eq_true rfl)
  rw [lg_entry_eq]
  generalize (lg_sl ([.ref x0, .int (zI x1)]) ++ List.replicate (4 - (lg_sl ([.ref x0, .int (zI x1)])).length) Slot.unset).toArray = ls at hl ⊢
  have hl : lv_has ls 4 [(0, .ref x0), (1, .int (zI x1))] := hl
  refine W.cs (cells' := pX h - pX h) (slots' := pS h - pS h) (Nat.sub_self _).symm (Nat.sub_self _).symm ?_
  exact w_J10_fill_2 C ⟨Nat.le_refl _, Nat.le_refl _, RBw.rm⟩ hf hz hl rfl

theorem w_X4_add {p : Program} {l : Launch} {e : Env} {R : Room} {s : State} {m : MethodId} {args : Array Value} {below : List Frame} {meth : Method} {c : Code} {Q : State → Prop} {E : PEw} {h0 h : HP} {H : Heap} {locs : List Loc} (C : PC E p s m args meth c RX4 cX4_add 3 none "add") (hr : 0 ≤ R.frames ∧ 0 ≤ R.locals ∧ RBw R h0) {x0 : Nat} {x1 : Option Nat} {x2 : Int} {res : HP} (hf : f_X4_add h x0 x1 x2 = some res) (hz : ZP E s h0 h H locs) {ls : Array Slot} (hl : lv_has ls 3 [(0, .ref x0), (1, va_rf x1), (2, .int (zI x2))]) (hk : KP E below args s Q h0 res none) : W p l e R s m args below meth c H locs (pX h - pX h0) (pS h - pS h0) Q (F0 m 0 ls []) := by
  unfold f_X4_add at hf
  have hx := C.1
  have hb := C.2.1
  refine lv_aload_n hx hb dX4_add_0 rfl (lv_at hl 0 rfl) ?_
  obtain ⟨hg, hf⟩ := gd_inv hf
  refine zg_geti gP C hz 5 2 (gkp (by decide) hg) (by decide) (by decide) (Or.inl (C.w q309)) (fun _ h => h) dX4_add_1 ?_
  refine zl_sipush hx hb dX4_add_4 (by decide) ?_
  refine zl_icmp_ne (tgt := 11) hx hb dX4_add_7 (by decide) (fun hc => ?_) (fun hc => ?_)
  · rw [if_pos hc] at hf
    obtain rfl := Option.some.inj hf
    exact zg_vret C hz hk dX4_add_10
  · rw [if_neg hc] at hf
    refine lv_aload_n hx hb dX4_add_11 rfl (lv_at hl 0 rfl) ?_
    obtain ⟨hg, hf⟩ := gd_inv hf
    refine zg_getp gP C hz 5 0 (gkp (by decide) hg) (by decide) (by decide) (Or.inl (C.w q306)) (fun _ h => h) dX4_add_12 ?_
    refine lv_aload_n hx hb dX4_add_15 rfl (lv_at hl 0 rfl) ?_
    obtain ⟨hg, hf⟩ := gd_inv hf
    refine zg_geti gP C hz 5 2 (gkp (by decide) hg) (by decide) (by decide) (Or.inl (C.w q309)) (fun _ h => h) dX4_add_16 ?_
    refine zl_aload_n_o hx hb dX4_add_19 rfl (lv_at hl 1 rfl) ?_
    obtain ⟨a1, ea1, hf⟩ := bd_inv hf
    rw [zx_rf ea1]
    obtain ⟨hg, hf⟩ := gd_inv hf
    obtain ⟨hi, hf⟩ := gd_inv hf
    obtain ⟨ho, hf⟩ := gd_inv hf
    obtain ⟨h2, eh2, hf⟩ := bnd_inv hf
    refine zg_aast gP (by decide) C hz hg hi ho dX4_add_20 eh2 (fun H locs hz => ?_)
    refine lv_aload_n hx hb dX4_add_21 rfl (lv_at hl 0 rfl) ?_
    obtain ⟨hg, hf⟩ := gd_inv hf
    refine zg_getp gP C hz 5 1 (gkp (by decide) hg) (by decide) (by decide) (Or.inl (C.w q308)) (fun _ h => h) dX4_add_22 ?_
    refine lv_aload_n hx hb dX4_add_25 rfl (lv_at hl 0 rfl) ?_
    obtain ⟨hg, hf⟩ := gd_inv hf
    refine zg_geti gP C hz 5 2 (gkp (by decide) hg) (by decide) (by decide) (Or.inl (C.w q309)) (fun _ h => h) dX4_add_26 ?_
    refine lv_iload_n hx hb dX4_add_29 rfl (lv_at hl 2 rfl) ?_
    obtain ⟨a3, ea3, hf⟩ := bd_inv hf
    rw [zx_rf ea3]
    obtain ⟨hg, hf⟩ := gd_inv hf
    obtain ⟨hi, hf⟩ := gd_inv hf
    obtain ⟨h4, eh4, hf⟩ := bnd_inv hf
    refine zg_iast gP C hz hg hi dX4_add_30 eh4 (fun H locs hz => ?_)
    refine lv_aload_n hx hb dX4_add_31 rfl (lv_at hl 0 rfl) ?_
    refine lv_dup hx hb dX4_add_32 rfl ?_
    obtain ⟨hg, hf⟩ := gd_inv hf
    refine zg_geti gP C hz 5 2 (gkp (by decide) hg) (by decide) (by decide) (Or.inl (C.w q309)) (fun _ h => h) dX4_add_33 ?_
    refine zl_iconst hx hb dX4_add_36 ?_
    refine zl_iadd hx hb dX4_add_37 ?_
    obtain ⟨hg, hf⟩ := gd_inv hf
    obtain ⟨h5, eh5, hf⟩ := bnd_inv hf
    refine zg_puti gP C hz 5 2 (gkp (by decide) hg) (by decide) (by decide) rfl (by decide) (Or.inl (C.w q309)) (fun _ h => h) dX4_add_38 eh5 (fun H locs hz => ?_)
    obtain rfl := Option.some.inj hf
    exact zg_vret C hz hk dX4_add_41

theorem met_X4_add (l : Launch) (E : PEw) {h : HP} {x0 : Nat} {x1 : Option Nat} {x2 : Int} {res : HP} (hf : f_X4_add h x0 x1 x2 = some res) : Met l yX4_add (ws_ yX4_add cX4_add 3 none) (rmP h 0 0) (PP E h [.ref x0, va_rf x1, .int (zI x2)]) (QP E h res none) (pX res - pX h) (pS res - pS h) (eF E) := by
  refine Met.ofW (cc := cX4_add) (maxL := 3) (ret := none) (by decide) rfl ?_
  intro p e s m args below meth c s₁ B hml hv
  obtain ⟨rfl, hP0⟩ := hv
  have hts := atoms_spec (ws := ws_ yX4_add cX4_add 3 none) B.pre
  have hts : ∀ w ∈ lw_all, w.before _ s = true := fun w h => hts w (List.mem_cons_of_mem _ h)
  have C : PC E p s m _ meth c RX4 cX4_add 3 none "add" := ⟨B.exec, B.bytes, B.returns, B.notSynchronized, hml, findClass_of_methodNamed B.named, hts, hP0.2, (name_of_methodNamed B.named B.method).1⟩
  have hz : ZP E s h h s.heap [] := ZG.start hP0.1
  rcases x1 with _ | av
  · have hl := lv_entry ([.ref x0, va_rf none, .int (zI x2)]) (n := 3) (Nat.le_of_ble_eq_true rfl)
    rw [lg_entry_eq]
    generalize (lg_sl ([.ref x0, va_rf none, .int (zI x2)]) ++ List.replicate (3 - (lg_sl ([.ref x0, va_rf none, .int (zI x2)])).length) Slot.unset).toArray = ls at hl ⊢
    have hl : lv_has ls 3 [(0, .ref x0), (1, va_rf none), (2, .int (zI x2))] := hl
    refine W.cs (cells' := pX h - pX h) (slots' := pS h - pS h) (Nat.sub_self _).symm (Nat.sub_self _).symm ?_
    exact w_X4_add C ⟨Nat.le_refl _, Nat.le_refl _, RBw.rm⟩ hf hz hl rfl
  · have hl := lv_entry ([.ref x0, va_rf (some av), .int (zI x2)]) (n := 3) (Nat.le_of_ble_eq_true rfl)
    rw [lg_entry_eq]
    generalize (lg_sl ([.ref x0, va_rf (some av), .int (zI x2)]) ++ List.replicate (3 - (lg_sl ([.ref x0, va_rf (some av), .int (zI x2)])).length) Slot.unset).toArray = ls at hl ⊢
    have hl : lv_has ls 3 [(0, .ref x0), (1, va_rf (some av)), (2, .int (zI x2))] := hl
    refine W.cs (cells' := pX h - pX h) (slots' := pS h - pS h) (Nat.sub_self _).symm (Nat.sub_self _).symm ?_
    exact w_X4_add C ⟨Nat.le_refl _, Nat.le_refl _, RBw.rm⟩ hf hz hl rfl

theorem w_X2_box {p : Program} {l : Launch} {e : Env} {R : Room} {s : State} {m : MethodId} {args : Array Value} {below : List Frame} {meth : Method} {c : Code} {Q : State → Prop} {E : PEw} {h0 h : HP} {H : Heap} {locs : List Loc} (C : PC E p s m args meth c RX2 cX2_box 1 (some .boolean) "box") (hr : 0 ≤ R.frames ∧ 0 ≤ R.locals ∧ RBw R h0) {x0 : Nat} {res : Int} (hf : f_X2_box h x0 = some res) (hz : ZP E s h0 h H locs) {ls : Array Slot} (hl : lv_has ls 1 [(0, .ref x0)]) (hk : KP E below args s Q h0 h (some (.int (zI res)))) : W p l e R s m args below meth c H locs (pX h - pX h0) (pS h - pS h0) Q (F0 m 0 ls []) := by
  unfold f_X2_box at hf
  have hx := C.1
  have hb := C.2.1
  refine lv_aload_n hx hb dX2_box_0 rfl (lv_at hl 0 rfl) ?_
  obtain ⟨hg, hf⟩ := gd_inv hf
  refine zg_geti gP C hz 2 8 (gkp (by decide) hg) (by decide) (by decide) (Or.inl (C.w q174)) (fun _ h => h) dX2_box_1 ?_
  refine zl_if_eq (tgt := 22) hx hb dX2_box_4 (by decide) (fun hc => ?_) (fun hc => ?_)
  · rw [if_pos hc] at hf
    refine zl_iconst hx hb dX2_box_22 ?_
    obtain rfl := Option.some.inj hf
    exact zg_zret C hz zisB_0 hk dX2_box_23
  · rw [if_neg hc] at hf
    refine lv_aload_n hx hb dX2_box_7 rfl (lv_at hl 0 rfl) ?_
    obtain ⟨hg, hf⟩ := gd_inv hf
    refine zg_getp gP C hz 2 7 (gkp (by decide) hg) (by decide) (by decide) (Or.inl (C.w q171)) (fun _ h => h) dX2_box_8 ?_
    refine zl_iconst hx hb dX2_box_11 ?_
    obtain ⟨a1, ea1, hf⟩ := bd_inv hf
    rw [zx_rf ea1]
    obtain ⟨hg, hf⟩ := gd_inv hf
    obtain ⟨hi, hf⟩ := gd_inv hf
    refine zg_iald gP C hz hg hi dX2_box_12 ?_
    refine zl_bipush hx hb dX2_box_13 (by decide) ?_
    refine zl_icmp_ne (tgt := 22) hx hb dX2_box_15 (by decide) (fun hc => ?_) (fun hc => ?_)
    · rw [if_pos hc] at hf
      refine zl_iconst hx hb dX2_box_18 ?_
      refine lv_goto (tgt := 23) hx hb dX2_box_19 (by decide) ?_
      obtain rfl := Option.some.inj hf
      exact zg_zret C hz zisB_1 hk dX2_box_23
    · rw [if_neg hc] at hf
      refine zl_iconst hx hb dX2_box_22 ?_
      obtain rfl := Option.some.inj hf
      exact zg_zret C hz zisB_0 hk dX2_box_23

theorem met_X2_box (l : Launch) (E : PEw) {h : HP} {x0 : Nat} {res : Int} (hf : f_X2_box h x0 = some res) : Met l yX2_box (ws_ yX2_box cX2_box 1 (some .boolean)) (rmP h 0 0) (PP E h [.ref x0]) (QP E h h (some (.int (zI res)))) (pX h - pX h) (pS h - pS h) (eF E) := by
  refine Met.ofW (cc := cX2_box) (maxL := 1) (ret := (some .boolean)) (by decide) rfl ?_
  intro p e s m args below meth c s₁ B hml hv
  obtain ⟨rfl, hP0⟩ := hv
  have hts := atoms_spec (ws := ws_ yX2_box cX2_box 1 (some .boolean)) B.pre
  have hts : ∀ w ∈ lw_all, w.before _ s = true := fun w h => hts w (List.mem_cons_of_mem _ h)
  have C : PC E p s m _ meth c RX2 cX2_box 1 (some .boolean) "box" := ⟨B.exec, B.bytes, B.returns, B.notSynchronized, hml, findClass_of_methodNamed B.named, hts, hP0.2, (name_of_methodNamed B.named B.method).1⟩
  have hz : ZP E s h h s.heap [] := ZG.start hP0.1
  have hl := lv_entry ([.ref x0]) (n := 1) (Nat.le_of_ble_eq_true rfl)
  rw [lg_entry_eq]
  generalize (lg_sl ([.ref x0]) ++ List.replicate (1 - (lg_sl ([.ref x0])).length) Slot.unset).toArray = ls at hl ⊢
  have hl : lv_has ls 1 [(0, .ref x0)] := hl
  refine W.cs (cells' := pX h - pX h) (slots' := pS h - pS h) (Nat.sub_self _).symm (Nat.sub_self _).symm ?_
  exact w_X2_box C ⟨Nat.le_refl _, Nat.le_refl _, RBw.rm⟩ hf hz hl rfl

