set_option maxRecDepth 100000
theorem w_place_27 {p : Program} {l : Launch} {e : Env} {R : Room} {s : State} {m : MethodId} {args : Array Value} {below : List Frame} {meth : Method} {c : Code} {Q : State → Prop} {D : va_G} {cI cZ : ClassId} {mo : Nat} {ad : Nat → Nat} {H : Heap} {locs : List Loc} {M : MS} (C : MC p s m args meth c D cI cZ cX5_place 4 (some .int)) (hR : 2 ≤ R.frames ∧ 45 ≤ R.locals) {res : Int} (hf : m_place_27 M = some res) (hZ : ZM D cI cZ mo ad s.heap M H locs) {ls : Array Slot} (hl : lv_has ls 4 []) (hK : KM below D cI cZ mo ad args s Q M (some (.int (zI res)))) : W p l e R s m args below meth c H locs 0 0 Q (F0 m 27 ls []) := by
  unfold m_place_27 at hf
  have hx := C.1
  have hb := C.2.1
  have hts := C.2.2.2.2.2.2.1
  refine zl_iconst hx hb dX5_place_27 ?_
  refine lv_goto (tgt := 48) hx hb dX5_place_28 (by decide) ?_
  obtain rfl := Option.some.inj hf
  exact zm_iret C hZ hK dX5_place_48

theorem w_place {p : Program} {l : Launch} {e : Env} {R : Room} {s : State} {m : MethodId} {args : Array Value} {below : List Frame} {meth : Method} {c : Code} {Q : State → Prop} {D : va_G} {cI cZ : ClassId} {mo : Nat} {ad : Nat → Nat} {H : Heap} {locs : List Loc} {M : MS} (C : MC p s m args meth c D cI cZ cX5_place 4 (some .int)) (hR : 2 ≤ R.frames ∧ 45 ≤ R.locals) {x1 x2 : Int} {res : Int} (hf : m_place M x1 x2 = some res) (hZ : ZM D cI cZ mo ad s.heap M H locs) {ls : Array Slot} (hl : lv_has ls 4 [(0, .ref mo), (1, .int (zI x1)), (2, .int (zI x2))]) (hK : KM below D cI cZ mo ad args s Q M (some (.int (zI res)))) : W p l e R s m args below meth c H locs 0 0 Q (F0 m 0 ls []) := by
  unfold m_place at hf
  have hx := C.1
  have hb := C.2.1
  have hts := C.2.2.2.2.2.2.1
  refine lv_aload_n hx hb dX5_place_0 rfl (lv_at hl 0 rfl) ?_
  refine lv_iload_n hx hb dX5_place_1 rfl (lv_at hl 1 rfl) ?_
  refine lv_iload_n hx hb dX5_place_2 rfl (lv_at hl 2 rfl) ?_
  obtain ⟨y1, ey1, hf⟩ := bd_inv hf
  refine zm_callV C hZ (n := 2) (rest := []) (met_find l D cI cZ mo ad ey1) (lw_V q1476 q1478 qs65 q107 q1479) rfl rfl (by decide +kernel) ⟨Nat.le_trans (by decide) hR.1, Nat.le_trans (by decide) hR.2⟩ rfl hl.1 rfl (Nat.le_of_ble_eq_true rfl) dX5_place_3 (fun H locs hZ => ?_)
  refine lv_istore_n (lv' := [(3, .int (zI y1)), (0, .ref mo), (1, .int (zI x1)), (2, .int (zI x2))]) hx hb dX5_place_6 rfl hl (by decide) rfl (fun ls hl => ?_)
  refine lv_aload_n hx hb dX5_place_7 rfl (lv_at hl 1 rfl) ?_
  refine zm_geti C hZ 37 (by decide) rfl q1178 dX5_place_8 ?_
  refine zl_if_eq (tgt := 27) hx hb dX5_place_11 (by decide) (fun hc => ?_) (fun hc => ?_)
  · rw [if_pos hc] at hf
    exact w_place_27 C hR hf hZ (lv_sub hl [] rfl) hK
  · rw [if_neg hc] at hf
    refine lv_iload_n hx hb dX5_place_14 rfl (lv_at hl 0 rfl) ?_
    refine zl_if_lt (tgt := 27) hx hb dX5_place_15 (by decide) (fun hc => ?_) (fun hc => ?_)
    · rw [if_pos hc] at hf
      exact w_place_27 C hR hf hZ (lv_sub hl [] rfl) hK
    · rw [if_neg hc] at hf
      refine lv_aload_n hx hb dX5_place_18 rfl (lv_at hl 1 rfl) ?_
      refine zm_geta C hZ 47 (by decide) (by decide) q1188 dX5_place_19 ?_
      refine lv_iload_n hx hb dX5_place_22 rfl (lv_at hl 0 rfl) ?_
      obtain ⟨hg, hf⟩ := gd_inv hf
      refine zm_zald C hZ 47 (by decide) rfl rfl hg dX5_place_23 ?_
      refine zl_if_ne (tgt := 31) hx hb dX5_place_24 (by decide) (fun hc => ?_) (fun hc => ?_)
      · rw [if_pos hc] at hf
        exact w_place_27 C hR hf hZ (lv_sub hl [] rfl) hK
      · rw [if_neg hc] at hf
        refine lv_aload_n hx hb dX5_place_31 rfl (lv_at hl 1 rfl) ?_
        refine zm_geta C hZ 48 (by decide) (by decide) q1189 dX5_place_32 ?_
        refine lv_iload_n hx hb dX5_place_35 rfl (lv_at hl 0 rfl) ?_
        obtain ⟨hg, hf⟩ := gd_inv hf
        refine zm_iald C hZ 48 (by decide) rfl rfl hg dX5_place_36 ?_
        refine zl_ldcw (v := 65536) hx hb C.2.2.2.2.2.1 (hts _ q1596) dX5_place_37 ?_
        refine lv_aload_n hx hb dX5_place_40 rfl (lv_at hl 1 rfl) ?_
        refine zm_geta C hZ 49 (by decide) (by decide) q1190 dX5_place_41 ?_
        refine lv_iload_n hx hb dX5_place_44 rfl (lv_at hl 0 rfl) ?_
        obtain ⟨hg, hf⟩ := gd_inv hf
        refine zm_iald C hZ 49 (by decide) rfl rfl hg dX5_place_45 ?_
        refine zl_imul hx hb dX5_place_46 ?_
        refine zl_iadd hx hb dX5_place_47 ?_
        obtain rfl := Option.some.inj hf
        exact zm_iret C hZ hK dX5_place_48

theorem met_place (l : Launch) (D : va_G) (cI cZ : ClassId) (mo : Nat) (ad : Nat → Nat) {M : MS} {x1 x2 : Int} {res : Int} (hf : m_place M x1 x2 = some res) : Met l yX5_place (ws_ yX5_place cX5_place 4 (some .int)) ({ frames := 2, cells := 0, slots := 0, locals := 45 }) (PM D cI cZ mo ad M [.int (zI x1), .int (zI x2)]) (QM D cI cZ mo ad M (some (.int (zI res)))) 0 0 (MA mo ad) := by
  refine Met.ofW (cc := cX5_place) (maxL := 4) (ret := (some .int)) (by decide) rfl ?_
  intro p e s m args below meth c s₁ B hml hv
  obtain ⟨rfl, hRM, hK0⟩ := hv
  have hts := atoms_spec (ws := ws_ yX5_place cX5_place 4 (some .int)) B.pre
  have hts : ∀ w ∈ lw_all, w.before _ s = true := fun w h => hts w (List.mem_cons_of_mem _ h)
  have C : MC p s m _ meth c D cI cZ cX5_place 4 (some .int) := ⟨B.exec, B.bytes, B.returns, B.notSynchronized, hml, findClass_of_methodNamed B.named, hts, hK0⟩
  have hZ : ZM D cI cZ mo ad s.heap M s.heap [] := ⟨hRM, rfl, fun _ _ => rfl, fun _ h => by cases h⟩
  have hl := lv_entry ([.ref mo, .int (zI x1), .int (zI x2)]) (n := 4) (Nat.le_of_ble_eq_true rfl)
  rw [lg_entry_eq]
  generalize (lg_sl ([.ref mo, .int (zI x1), .int (zI x2)]) ++ List.replicate (4 - (lg_sl ([.ref mo, .int (zI x1), .int (zI x2)])).length) Slot.unset).toArray = ls at hl ⊢
  have hl : lv_has ls 4 [(0, .ref mo), (1, .int (zI x1)), (2, .int (zI x2))] := hl
  exact w_place C ⟨Nat.le_refl _, Nat.le_refl _⟩ hf hZ hl rfl

theorem w_lines {p : Program} {l : Launch} {e : Env} {R : Room} {s : State} {m : MethodId} {args : Array Value} {below : List Frame} {meth : Method} {c : Code} {Q : State → Prop} {D : va_G} {cI cZ : ClassId} {mo : Nat} {ad : Nat → Nat} {H : Heap} {locs : List Loc} {M : MS} (C : MC p s m args meth c D cI cZ cX5_lines 1 (some .int)) (hR : 0 ≤ R.frames ∧ 0 ≤ R.locals) {res : Int} (hf : m_lines M = some res) (hZ : ZM D cI cZ mo ad s.heap M H locs) {ls : Array Slot} (hl : lv_has ls 1 [(0, .ref mo)]) (hK : KM below D cI cZ mo ad args s Q M (some (.int (zI res)))) : W p l e R s m args below meth c H locs 0 0 Q (F0 m 0 ls []) := by
  unfold m_lines at hf
  have hx := C.1
  have hb := C.2.1
  have hts := C.2.2.2.2.2.2.1
  refine lv_aload_n hx hb dX5_lines_0 rfl (lv_at hl 0 rfl) ?_
  refine zm_geti C hZ 37 (by decide) rfl q1178 dX5_lines_1 ?_
  refine zl_if_eq (tgt := 14) hx hb dX5_lines_4 (by decide) (fun hc => ?_) (fun hc => ?_)
  · rw [if_pos hc] at hf
    refine zl_iconst hx hb dX5_lines_14 ?_
    obtain rfl := Option.some.inj hf
    exact zm_iret C hZ hK dX5_lines_15
  · rw [if_neg hc] at hf
    refine lv_aload_n hx hb dX5_lines_7 rfl (lv_at hl 0 rfl) ?_
    refine zm_geti C hZ 39 (by decide) rfl q1180 dX5_lines_8 ?_
    refine lv_goto (tgt := 15) hx hb dX5_lines_11 (by decide) ?_
    obtain rfl := Option.some.inj hf
    exact zm_iret C hZ hK dX5_lines_15

theorem met_lines (l : Launch) (D : va_G) (cI cZ : ClassId) (mo : Nat) (ad : Nat → Nat) {M : MS} {res : Int} (hf : m_lines M = some res) : Met l yX5_lines (ws_ yX5_lines cX5_lines 1 (some .int)) ({ frames := 0, cells := 0, slots := 0, locals := 0 }) (PM D cI cZ mo ad M []) (QM D cI cZ mo ad M (some (.int (zI res)))) 0 0 (MA mo ad) := by
  refine Met.ofW (cc := cX5_lines) (maxL := 1) (ret := (some .int)) (by decide) rfl ?_
  intro p e s m args below meth c s₁ B hml hv
  obtain ⟨rfl, hRM, hK0⟩ := hv
  have hts := atoms_spec (ws := ws_ yX5_lines cX5_lines 1 (some .int)) B.pre
  have hts : ∀ w ∈ lw_all, w.before _ s = true := fun w h => hts w (List.mem_cons_of_mem _ h)
  have C : MC p s m _ meth c D cI cZ cX5_lines 1 (some .int) := ⟨B.exec, B.bytes, B.returns, B.notSynchronized, hml, findClass_of_methodNamed B.named, hts, hK0⟩
  have hZ : ZM D cI cZ mo ad s.heap M s.heap [] := ⟨hRM, rfl, fun _ _ => rfl, fun _ h => by cases h⟩
  have hl := lv_entry ([.ref mo]) (n := 1) (Nat.le_of_ble_eq_true rfl)
  rw [lg_entry_eq]
  generalize (lg_sl ([.ref mo]) ++ List.replicate (1 - (lg_sl ([.ref mo])).length) Slot.unset).toArray = ls at hl ⊢
  have hl : lv_has ls 1 [(0, .ref mo)] := hl
  exact w_lines C ⟨Nat.le_refl _, Nat.le_refl _⟩ hf hZ hl rfl

theorem w_inked {p : Program} {l : Launch} {e : Env} {R : Room} {s : State} {m : MethodId} {args : Array Value} {below : List Frame} {meth : Method} {c : Code} {Q : State → Prop} {D : va_G} {cI cZ : ClassId} {mo : Nat} {ad : Nat → Nat} {H : Heap} {locs : List Loc} {M : MS} (C : MC p s m args meth c D cI cZ cX5_inked 7 (some .boolean)) (hR : 0 ≤ R.frames ∧ 0 ≤ R.locals) {x1 x2 x3 x4 : Int} {res : Int} (hf : m_inked M x1 x2 x3 x4 = some res) (hZ : ZM D cI cZ mo ad s.heap M H locs) {ls : Array Slot} (hl : lv_has ls 7 [(0, .ref mo), (1, .int (zI x1)), (2, .int (zI x2)), (3, .int (zI x3)), (4, .int (zI x4))]) (hK : KM below D cI cZ mo ad args s Q M (some (.int (zI res)))) : W p l e R s m args below meth c H locs 0 0 Q (F0 m 0 ls []) := by
  unfold m_inked at hf
  have hx := C.1
  have hb := C.2.1
  have hts := C.2.2.2.2.2.2.1
  refine lv_iload_n hx hb dX5_inked_0 rfl (lv_at hl 2 rfl) ?_
  refine lv_aload_n hx hb dX5_inked_1 rfl (lv_at hl 0 rfl) ?_
  refine zm_geta C hZ 48 (by decide) (by decide) q1189 dX5_inked_2 ?_
  refine lv_iload_n hx hb dX5_inked_5 rfl (lv_at hl 1 rfl) ?_
  obtain ⟨hg, hf⟩ := gd_inv hf
  refine zm_iald C hZ 48 (by decide) rfl rfl hg dX5_inked_6 ?_
  refine zl_isub hx hb dX5_inked_7 ?_
  obtain ⟨y1, ey1, hf⟩ := bnd_inv hf
  refine zl_top ey1 ?_
  refine lv_istore (lv' := [(5, .int (zI y1)), (0, .ref mo), (1, .int (zI x1)), (2, .int (zI x2)), (3, .int (zI x3)), (4, .int (zI x4))]) hx hb dX5_inked_8 hl (by decide) rfl (fun ls hl => ?_)
  refine lv_iload_n hx hb dX5_inked_10 rfl (lv_at hl 4 rfl) ?_
  refine lv_aload_n hx hb dX5_inked_11 rfl (lv_at hl 1 rfl) ?_
  refine zm_geta C hZ 49 (by decide) (by decide) q1190 dX5_inked_12 ?_
  refine lv_iload_n hx hb dX5_inked_15 rfl (lv_at hl 2 rfl) ?_
  obtain ⟨hg, hf⟩ := gd_inv hf
  refine zm_iald C hZ 49 (by decide) rfl rfl hg dX5_inked_16 ?_
  refine zl_isub hx hb dX5_inked_17 ?_
  obtain ⟨y2, ey2, hf⟩ := bnd_inv hf
  refine zl_top ey2 ?_
  refine lv_istore (lv' := [(6, .int (zI y2)), (5, .int (zI y1)), (0, .ref mo), (1, .int (zI x1)), (2, .int (zI x2)), (3, .int (zI x3)), (4, .int (zI x4))]) hx hb dX5_inked_18 hl (by decide) rfl (fun ls hl => ?_)
  refine lv_iload hx hb dX5_inked_20 (lv_at hl 1 rfl) ?_
  refine zl_if_lt (tgt := 44) hx hb dX5_inked_22 (by decide) (fun hc => ?_) (fun hc => ?_)
  · rw [if_pos hc] at hf
    refine zl_iconst hx hb dX5_inked_44 ?_
    obtain rfl := Option.some.inj hf
    exact zm_zret C hZ zisB_0 hK dX5_inked_45
  · rw [if_neg hc] at hf
    refine lv_iload hx hb dX5_inked_25 (lv_at hl 1 rfl) ?_
    refine lv_iload hx hb dX5_inked_27 (lv_at hl 6 rfl) ?_
    refine zl_icmp_ge (tgt := 44) hx hb dX5_inked_29 (by decide) (fun hc => ?_) (fun hc => ?_)
    · rw [if_pos hc] at hf
      refine lv_iload hx hb dX5_inked_32 (lv_at hl 0 rfl) ?_
      refine zl_if_lt (tgt := 44) hx hb dX5_inked_34 (by decide) (fun hc => ?_) (fun hc => ?_)
      · rw [if_pos hc] at hf
        refine zl_iconst hx hb dX5_inked_44 ?_
        obtain rfl := Option.some.inj hf
        exact zm_zret C hZ zisB_0 hK dX5_inked_45
      · rw [if_neg hc] at hf
        refine lv_iload hx hb dX5_inked_37 (lv_at hl 0 rfl) ?_
        refine lv_iload hx hb dX5_inked_39 (lv_at hl 6 rfl) ?_
        refine zl_icmp_lt (tgt := 46) hx hb dX5_inked_41 (by decide) (fun hc => ?_) (fun hc => ?_)
        · rw [if_pos hc] at hf
          refine lv_aload_n hx hb dX5_inked_46 rfl (lv_at hl 2 rfl) ?_
          refine zm_geta C hZ 18 (by decide) (by decide) q1159 dX5_inked_47 ?_
          refine lv_iload_n hx hb dX5_inked_50 rfl (lv_at hl 3 rfl) ?_
          obtain ⟨hg, hf⟩ := gd_inv hf
          refine zm_iald C hZ 18 (by decide) rfl rfl hg dX5_inked_51 ?_
          refine zl_iconst hx hb dX5_inked_52 ?_
          refine zl_iconst hx hb dX5_inked_53 ?_
          refine lv_iload hx hb dX5_inked_54 (lv_at hl 0 rfl) ?_
          refine zl_imul hx hb dX5_inked_56 ?_
          refine lv_iload hx hb dX5_inked_57 (lv_at hl 6 rfl) ?_
          obtain ⟨hg, hf⟩ := gd_inv hf
          refine zl_idiv hx hb hg dX5_inked_59 ?_
          refine zl_imul hx hb dX5_inked_60 ?_
          refine zl_iconst hx hb dX5_inked_61 ?_
          refine lv_iload hx hb dX5_inked_62 (lv_at hl 1 rfl) ?_
          refine zl_imul hx hb dX5_inked_64 ?_
          refine lv_iload hx hb dX5_inked_65 (lv_at hl 6 rfl) ?_
          obtain ⟨hg, hf⟩ := gd_inv hf
          refine zl_idiv hx hb hg dX5_inked_67 ?_
          refine zl_iadd hx hb dX5_inked_68 ?_
          refine zl_ishr hx hb dX5_inked_69 ?_
          refine zl_iconst hx hb dX5_inked_70 ?_
          refine zl_iand hx hb dX5_inked_71 ?_
          refine zl_iconst hx hb dX5_inked_72 ?_
          refine zl_icmp_ne (tgt := 80) hx hb dX5_inked_73 (by decide) (fun hc => ?_) (fun hc => ?_)
          · rw [if_pos hc] at hf
            refine zl_iconst hx hb dX5_inked_76 ?_
            refine lv_goto (tgt := 81) hx hb dX5_inked_77 (by decide) ?_
            obtain rfl := Option.some.inj hf
            exact zm_zret C hZ zisB_1 hK dX5_inked_81
          · rw [if_neg hc] at hf
            refine zl_iconst hx hb dX5_inked_80 ?_
            obtain rfl := Option.some.inj hf
            exact zm_zret C hZ zisB_0 hK dX5_inked_81
        · rw [if_neg hc] at hf
          refine zl_iconst hx hb dX5_inked_44 ?_
          obtain rfl := Option.some.inj hf
          exact zm_zret C hZ zisB_0 hK dX5_inked_45
    · rw [if_neg hc] at hf
      refine zl_iconst hx hb dX5_inked_44 ?_
      obtain rfl := Option.some.inj hf
      exact zm_zret C hZ zisB_0 hK dX5_inked_45

theorem met_inked (l : Launch) (D : va_G) (cI cZ : ClassId) (mo : Nat) (ad : Nat → Nat) {M : MS} {x1 x2 x3 x4 : Int} {res : Int} (hf : m_inked M x1 x2 x3 x4 = some res) : Met l yX5_inked (ws_ yX5_inked cX5_inked 7 (some .boolean)) ({ frames := 0, cells := 0, slots := 0, locals := 0 }) (PM D cI cZ mo ad M [.int (zI x1), .int (zI x2), .int (zI x3), .int (zI x4)]) (QM D cI cZ mo ad M (some (.int (zI res)))) 0 0 (MA mo ad) := by
  refine Met.ofW (cc := cX5_inked) (maxL := 7) (ret := (some .boolean)) (by decide) rfl ?_
  intro p e s m args below meth c s₁ B hml hv
  obtain ⟨rfl, hRM, hK0⟩ := hv
  have hts := atoms_spec (ws := ws_ yX5_inked cX5_inked 7 (some .boolean)) B.pre
  have hts : ∀ w ∈ lw_all, w.before _ s = true := fun w h => hts w (List.mem_cons_of_mem _ h)
  have C : MC p s m _ meth c D cI cZ cX5_inked 7 (some .boolean) := ⟨B.exec, B.bytes, B.returns, B.notSynchronized, hml, findClass_of_methodNamed B.named, hts, hK0⟩
  have hZ : ZM D cI cZ mo ad s.heap M s.heap [] := ⟨hRM, rfl, fun _ _ => rfl, fun _ h => by cases h⟩
  have hl := lv_entry ([.ref mo, .int (zI x1), .int (zI x2), .int (zI x3), .int (zI x4)]) (n := 7) (Nat.le_of_ble_eq_true rfl)
  rw [lg_entry_eq]
  generalize (lg_sl ([.ref mo, .int (zI x1), .int (zI x2), .int (zI x3), .int (zI x4)]) ++ List.replicate (7 - (lg_sl ([.ref mo, .int (zI x1), .int (zI x2), .int (zI x3), .int (zI x4)])).length) Slot.unset).toArray = ls at hl ⊢
  have hl : lv_has ls 7 [(0, .ref mo), (1, .int (zI x1)), (2, .int (zI x2)), (3, .int (zI x3)), (4, .int (zI x4))] := hl
  exact w_inked C ⟨Nat.le_refl _, Nat.le_refl _⟩ hf hZ hl rfl

theorem w_pixel_165 {p : Program} {l : Launch} {e : Env} {R : Room} {s : State} {m : MethodId} {args : Array Value} {below : List Frame} {meth : Method} {c : Code} {Q : State → Prop} {D : va_G} {cI cZ : ClassId} {mo : Nat} {ad : Nat → Nat} {H : Heap} {locs : List Loc} {M : MS} (C : MC p s m args meth c D cI cZ cX5_pixel 6 (some .int)) (hR : 1 ≤ R.frames ∧ 26 ≤ R.locals) {x1 x2 x3 x4 : Int} {res : (Int × Int) ⊕ (Int)} (hf : m_pixel_165 M x1 x2 x3 x4 = some res) (hZ : ZM D cI cZ mo ad s.heap M H locs) {ls : Array Slot} (hl : lv_has ls 6 [(0, .ref mo), (1, .int (zI x1)), (2, .int (zI x2)), (3, .int (zI x3)), (4, .int (zI x4))]) (hK : (Sum.elim (fun z => ∀ (H : Heap) (locs : List Loc) (ls : Array Slot), ZM D cI cZ mo ad s.heap M H locs → lv_has ls 6 [(0, .ref mo), (1, .int (zI x1)), (2, .int (zI x2)), (3, .int (zI z.1)), (4, .int (zI z.2))] → W p l e R s m args below meth c H locs 0 0 Q (F0 m 36 ls [])) (fun r => KM below D cI cZ mo ad args s Q M (some (.int (zI r))))) res) : W p l e R s m args below meth c H locs 0 0 Q (F0 m 165 ls []) := by
  unfold m_pixel_165 at hf
  have hx := C.1
  have hb := C.2.1
  have hts := C.2.2.2.2.2.2.1
  refine zl_iinc (x := x4) (n := 1) (lv' := [(4, .int (zI (x4 + 1))), (0, .ref mo), (1, .int (zI x1)), (2, .int (zI x2)), (3, .int (zI x3))]) (k := 4) hx hb dX5_pixel_165 hl rfl (by decide) rfl (fun ls hl => ?_)
  refine lv_goto (tgt := 36) hx hb dX5_pixel_168 (by decide) ?_
  obtain rfl := Option.some.inj hf
  exact hK _ _ _ hZ (lv_sub hl [1, 2, 3, 4, 0] rfl)

theorem w_pixel_134 {p : Program} {l : Launch} {e : Env} {R : Room} {s : State} {m : MethodId} {args : Array Value} {below : List Frame} {meth : Method} {c : Code} {Q : State → Prop} {D : va_G} {cI cZ : ClassId} {mo : Nat} {ad : Nat → Nat} {H : Heap} {locs : List Loc} {M : MS} (C : MC p s m args meth c D cI cZ cX5_pixel 6 (some .int)) (hR : 1 ≤ R.frames ∧ 26 ≤ R.locals) {x1 x2 x3 x4 t0 : Int} {res : (Int × Int) ⊕ (Int)} (hf : m_pixel_134 M x1 x2 x3 x4 t0 = some res) (hZ : ZM D cI cZ mo ad s.heap M H locs) {ls : Array Slot} (hl : lv_has ls 6 [(0, .ref mo), (1, .int (zI x1)), (2, .int (zI x2)), (3, .int (zI x3)), (4, .int (zI x4))]) (hK : (Sum.elim (fun z => ∀ (H : Heap) (locs : List Loc) (ls : Array Slot), ZM D cI cZ mo ad s.heap M H locs → lv_has ls 6 [(0, .ref mo), (1, .int (zI x1)), (2, .int (zI x2)), (3, .int (zI z.1)), (4, .int (zI z.2))] → W p l e R s m args below meth c H locs 0 0 Q (F0 m 36 ls [])) (fun r => KM below D cI cZ mo ad args s Q M (some (.int (zI r))))) res) : W p l e R s m args below meth c H locs 0 0 Q (F0 m 134 ls [.int (zI t0)]) := by
  unfold m_pixel_134 at hf
  have hx := C.1
  have hb := C.2.1
  have hts := C.2.2.2.2.2.2.1
  refine lv_istore (lv' := [(5, .int (zI t0)), (0, .ref mo), (1, .int (zI x1)), (2, .int (zI x2)), (3, .int (zI x3)), (4, .int (zI x4))]) hx hb dX5_pixel_134 hl (by decide) rfl (fun ls hl => ?_)
  refine lv_iload hx hb dX5_pixel_136 (lv_at hl 0 rfl) ?_
  refine zl_if_eq (tgt := 165) hx hb dX5_pixel_138 (by decide) (fun hc => ?_) (fun hc => ?_)
  · rw [if_pos hc] at hf
    exact w_pixel_165 C hR hf hZ (lv_sub hl [1, 2, 3, 4, 5] rfl) hK
  · rw [if_neg hc] at hf
    refine lv_aload_n hx hb dX5_pixel_141 rfl (lv_at hl 1 rfl) ?_
    refine zm_geta C hZ 36 (by decide) (by decide) q1177 dX5_pixel_142 ?_
    refine zl_bipush hx hb dX5_pixel_145 (by decide) ?_
    refine lv_iload hx hb dX5_pixel_147 (lv_at hl 5 rfl) ?_
    refine zl_iadd hx hb dX5_pixel_149 ?_
    obtain ⟨hg, hf⟩ := gd_inv hf
    refine zm_iald C hZ 36 (by decide) rfl rfl hg dX5_pixel_150 ?_
    refine zl_if_eq (tgt := 165) hx hb dX5_pixel_151 (by decide) (fun hc => ?_) (fun hc => ?_)
    · rw [if_pos hc] at hf
      exact w_pixel_165 C hR hf hZ (lv_sub hl [1, 2, 3, 4, 5] rfl) hK
    · rw [if_neg hc] at hf
      refine lv_aload_n hx hb dX5_pixel_154 rfl (lv_at hl 1 rfl) ?_
      refine zm_geta C hZ 36 (by decide) (by decide) q1177 dX5_pixel_155 ?_
      refine zl_bipush hx hb dX5_pixel_158 (by decide) ?_
      refine lv_iload hx hb dX5_pixel_160 (lv_at hl 5 rfl) ?_
      refine zl_iadd hx hb dX5_pixel_162 ?_
      obtain ⟨hg, hf⟩ := gd_inv hf
      refine zm_iald C hZ 36 (by decide) rfl rfl hg dX5_pixel_163 ?_
      obtain ⟨y1, ey1, hf⟩ := bnd_inv hf
      refine zl_top ey1 ?_
      refine lv_istore_n (lv' := [(3, .int (zI y1)), (5, .int (zI t0)), (0, .ref mo), (1, .int (zI x1)), (2, .int (zI x2)), (4, .int (zI x4))]) hx hb dX5_pixel_164 rfl hl (by decide) rfl (fun ls hl => ?_)
      exact w_pixel_165 C hR hf hZ (lv_sub hl [2, 3, 4, 0, 5] rfl) hK

theorem w_pixel_133 {p : Program} {l : Launch} {e : Env} {R : Room} {s : State} {m : MethodId} {args : Array Value} {below : List Frame} {meth : Method} {c : Code} {Q : State → Prop} {D : va_G} {cI cZ : ClassId} {mo : Nat} {ad : Nat → Nat} {H : Heap} {locs : List Loc} {M : MS} (C : MC p s m args meth c D cI cZ cX5_pixel 6 (some .int)) (hR : 1 ≤ R.frames ∧ 26 ≤ R.locals) {x1 x2 x3 x4 : Int} {res : (Int × Int) ⊕ (Int)} (hf : m_pixel_133 M x1 x2 x3 x4 = some res) (hZ : ZM D cI cZ mo ad s.heap M H locs) {ls : Array Slot} (hl : lv_has ls 6 [(0, .ref mo), (1, .int (zI x1)), (2, .int (zI x2)), (3, .int (zI x3)), (4, .int (zI x4))]) (hK : (Sum.elim (fun z => ∀ (H : Heap) (locs : List Loc) (ls : Array Slot), ZM D cI cZ mo ad s.heap M H locs → lv_has ls 6 [(0, .ref mo), (1, .int (zI x1)), (2, .int (zI x2)), (3, .int (zI z.1)), (4, .int (zI z.2))] → W p l e R s m args below meth c H locs 0 0 Q (F0 m 36 ls [])) (fun r => KM below D cI cZ mo ad args s Q M (some (.int (zI r))))) res) : W p l e R s m args below meth c H locs 0 0 Q (F0 m 133 ls []) := by
  unfold m_pixel_133 at hf
  have hx := C.1
  have hb := C.2.1
  have hts := C.2.2.2.2.2.2.1
  refine zl_iconst hx hb dX5_pixel_133 ?_
  exact w_pixel_134 C hR hf hZ (lv_sub hl [0, 1, 2, 3, 4] rfl) hK

theorem w_pixel_277 {p : Program} {l : Launch} {e : Env} {R : Room} {s : State} {m : MethodId} {args : Array Value} {below : List Frame} {meth : Method} {c : Code} {Q : State → Prop} {D : va_G} {cI cZ : ClassId} {mo : Nat} {ad : Nat → Nat} {H : Heap} {locs : List Loc} {M : MS} (C : MC p s m args meth c D cI cZ cX5_pixel 6 (some .int)) (hR : 1 ≤ R.frames ∧ 26 ≤ R.locals) {x1 x2 x3 x4 x5 : Int} {res : (Int × Int) ⊕ ((Int × Int) ⊕ (Int))} (hf : m_pixel_277 M x1 x2 x3 x4 x5 = some res) (hZ : ZM D cI cZ mo ad s.heap M H locs) {ls : Array Slot} (hl : lv_has ls 6 [(0, .ref mo), (1, .int (zI x1)), (2, .int (zI x2)), (3, .int (zI x3)), (4, .int (zI x4)), (5, .int (zI x5))]) (hK : (Sum.elim (fun z => ∀ (H : Heap) (locs : List Loc) (ls : Array Slot), ZM D cI cZ mo ad s.heap M H locs → lv_has ls 6 [(0, .ref mo), (1, .int (zI x1)), (2, .int (zI x2)), (3, .int (zI z.1)), (4, .int (zI x4)), (5, .int (zI z.2))] → W p l e R s m args below meth c H locs 0 0 Q (F0 m 186 ls [])) (Sum.elim (fun z => ∀ (H : Heap) (locs : List Loc) (ls : Array Slot), ZM D cI cZ mo ad s.heap M H locs → lv_has ls 6 [(0, .ref mo), (1, .int (zI x1)), (2, .int (zI x2)), (3, .int (zI z.1)), (4, .int (zI z.2))] → W p l e R s m args below meth c H locs 0 0 Q (F0 m 174 ls [])) (fun r => KM below D cI cZ mo ad args s Q M (some (.int (zI r)))))) res) : W p l e R s m args below meth c H locs 0 0 Q (F0 m 277 ls []) := by
  unfold m_pixel_277 at hf
  have hx := C.1
  have hb := C.2.1
  have hts := C.2.2.2.2.2.2.1
  refine zl_iinc (x := x5) (n := 1) (lv' := [(5, .int (zI (x5 + 1))), (0, .ref mo), (1, .int (zI x1)), (2, .int (zI x2)), (3, .int (zI x3)), (4, .int (zI x4))]) (k := 5) hx hb dX5_pixel_277 hl rfl (by decide) rfl (fun ls hl => ?_)
  refine lv_goto (tgt := 186) hx hb dX5_pixel_280 (by decide) ?_
  obtain rfl := Option.some.inj hf
  exact hK _ _ _ hZ (lv_sub hl [1, 2, 3, 4, 5, 0] rfl)

theorem w_pixel_283 {p : Program} {l : Launch} {e : Env} {R : Room} {s : State} {m : MethodId} {args : Array Value} {below : List Frame} {meth : Method} {c : Code} {Q : State → Prop} {D : va_G} {cI cZ : ClassId} {mo : Nat} {ad : Nat → Nat} {H : Heap} {locs : List Loc} {M : MS} (C : MC p s m args meth c D cI cZ cX5_pixel 6 (some .int)) (hR : 1 ≤ R.frames ∧ 26 ≤ R.locals) {x1 x2 x3 x4 : Int} {res : (Int × Int) ⊕ (Int)} (hf : m_pixel_283 M x1 x2 x3 x4 = some res) (hZ : ZM D cI cZ mo ad s.heap M H locs) {ls : Array Slot} (hl : lv_has ls 6 [(0, .ref mo), (1, .int (zI x1)), (2, .int (zI x2)), (3, .int (zI x3)), (4, .int (zI x4))]) (hK : (Sum.elim (fun z => ∀ (H : Heap) (locs : List Loc) (ls : Array Slot), ZM D cI cZ mo ad s.heap M H locs → lv_has ls 6 [(0, .ref mo), (1, .int (zI x1)), (2, .int (zI x2)), (3, .int (zI z.1)), (4, .int (zI z.2))] → W p l e R s m args below meth c H locs 0 0 Q (F0 m 174 ls [])) (fun r => KM below D cI cZ mo ad args s Q M (some (.int (zI r))))) res) : W p l e R s m args below meth c H locs 0 0 Q (F0 m 283 ls []) := by
  unfold m_pixel_283 at hf
  have hx := C.1
  have hb := C.2.1
  have hts := C.2.2.2.2.2.2.1
  refine zl_iinc (x := x4) (n := 1) (lv' := [(4, .int (zI (x4 + 1))), (0, .ref mo), (1, .int (zI x1)), (2, .int (zI x2)), (3, .int (zI x3))]) (k := 4) hx hb dX5_pixel_283 hl rfl (by decide) rfl (fun ls hl => ?_)
  refine lv_goto (tgt := 174) hx hb dX5_pixel_286 (by decide) ?_
  obtain rfl := Option.some.inj hf
  exact hK _ _ _ hZ (lv_sub hl [1, 2, 3, 4, 0] rfl)

theorem w_pixel_186s {p : Program} {l : Launch} {e : Env} {R : Room} {s : State} {m : MethodId} {args : Array Value} {below : List Frame} {meth : Method} {c : Code} {Q : State → Prop} {D : va_G} {cI cZ : ClassId} {mo : Nat} {ad : Nat → Nat} {H : Heap} {locs : List Loc} {M : MS} (C : MC p s m args meth c D cI cZ cX5_pixel 6 (some .int)) (hR : 1 ≤ R.frames ∧ 26 ≤ R.locals) {x1 x2 x3 x4 x5 : Int} {res : (Int × Int) ⊕ ((Int × Int) ⊕ (Int))} (hf : m_pixel_186s M x1 x2 x3 x4 x5 = some res) (hZ : ZM D cI cZ mo ad s.heap M H locs) {ls : Array Slot} (hl : lv_has ls 6 [(0, .ref mo), (1, .int (zI x1)), (2, .int (zI x2)), (3, .int (zI x3)), (4, .int (zI x4)), (5, .int (zI x5))]) (hK : (Sum.elim (fun z => ∀ (H : Heap) (locs : List Loc) (ls : Array Slot), ZM D cI cZ mo ad s.heap M H locs → lv_has ls 6 [(0, .ref mo), (1, .int (zI x1)), (2, .int (zI x2)), (3, .int (zI z.1)), (4, .int (zI x4)), (5, .int (zI z.2))] → W p l e R s m args below meth c H locs 0 0 Q (F0 m 186 ls [])) (Sum.elim (fun z => ∀ (H : Heap) (locs : List Loc) (ls : Array Slot), ZM D cI cZ mo ad s.heap M H locs → lv_has ls 6 [(0, .ref mo), (1, .int (zI x1)), (2, .int (zI x2)), (3, .int (zI z.1)), (4, .int (zI z.2))] → W p l e R s m args below meth c H locs 0 0 Q (F0 m 174 ls [])) (fun r => KM below D cI cZ mo ad args s Q M (some (.int (zI r)))))) res) : W p l e R s m args below meth c H locs 0 0 Q (F0 m 186 ls []) := by
  unfold m_pixel_186s at hf
  have hx := C.1
  have hb := C.2.1
  have hts := C.2.2.2.2.2.2.1
  refine lv_iload hx hb dX5_pixel_186 (lv_at hl 5 rfl) ?_
  refine lv_aload_n hx hb dX5_pixel_188 rfl (lv_at hl 0 rfl) ?_
  refine zm_geti C hZ 17 (by decide) rfl q1158 dX5_pixel_189 ?_
  refine zl_icmp_ge (tgt := 283) hx hb dX5_pixel_192 (by decide) (fun hc => ?_) (fun hc => ?_)
  · rw [if_pos hc] at hf
    refine lv_aload_n hx hb dX5_pixel_195 rfl (lv_at hl 0 rfl) ?_
    refine zm_geta C hZ 8 (by decide) (by decide) q1149 dX5_pixel_196 ?_
    refine lv_aload_n hx hb dX5_pixel_199 rfl (lv_at hl 0 rfl) ?_
    refine zm_geta C hZ 6 (by decide) (by decide) q1147 dX5_pixel_200 ?_
    refine lv_iload hx hb dX5_pixel_203 (lv_at hl 4 rfl) ?_
    obtain ⟨hg, hf⟩ := gd_inv hf
    refine zm_iald C hZ 6 (by decide) rfl rfl hg dX5_pixel_205 ?_
    obtain ⟨hg, hf⟩ := gd_inv hf
    refine zm_iald C hZ 8 (by decide) rfl rfl hg dX5_pixel_206 ?_
    refine zl_iconst hx hb dX5_pixel_207 ?_
    refine zl_icmp_ne (tgt := 283) hx hb dX5_pixel_208 (by decide) (fun hc => ?_) (fun hc => ?_)
    · rw [if_pos hc] at hf
      refine lv_aload_n hx hb dX5_pixel_211 rfl (lv_at hl 0 rfl) ?_
      refine zm_geta C hZ 19 (by decide) (by decide) q1160 dX5_pixel_212 ?_
      refine lv_iload hx hb dX5_pixel_215 (lv_at hl 5 rfl) ?_
      obtain ⟨hg, hf⟩ := gd_inv hf
      refine zm_iald C hZ 19 (by decide) rfl rfl hg dX5_pixel_217 ?_
      refine lv_aload_n hx hb dX5_pixel_218 rfl (lv_at hl 0 rfl) ?_
      refine zm_geta C hZ 6 (by decide) (by decide) q1147 dX5_pixel_219 ?_
      refine lv_iload hx hb dX5_pixel_222 (lv_at hl 4 rfl) ?_
      obtain ⟨hg, hf⟩ := gd_inv hf
      refine zm_iald C hZ 6 (by decide) rfl rfl hg dX5_pixel_224 ?_
      refine zl_icmp_ne (tgt := 277) hx hb dX5_pixel_225 (by decide) (fun hc => ?_) (fun hc => ?_)
      · rw [if_pos hc] at hf
        refine lv_aload_n hx hb dX5_pixel_228 rfl (lv_at hl 0 rfl) ?_
        refine zm_geta C hZ 47 (by decide) (by decide) q1188 dX5_pixel_229 ?_
        refine lv_iload hx hb dX5_pixel_232 (lv_at hl 5 rfl) ?_
        obtain ⟨hg, hf⟩ := gd_inv hf
        refine zm_zald C hZ 47 (by decide) rfl rfl hg dX5_pixel_234 ?_
        refine zl_if_eq (tgt := 277) hx hb dX5_pixel_235 (by decide) (fun hc => ?_) (fun hc => ?_)
        · rw [if_pos hc] at hf
          exact w_pixel_277 C hR hf hZ (lv_sub hl [0, 1, 2, 3, 4, 5] rfl) hK
        · rw [if_neg hc] at hf
          refine lv_aload_n hx hb dX5_pixel_238 rfl (lv_at hl 0 rfl) ?_
          refine lv_iload hx hb dX5_pixel_239 (lv_at hl 5 rfl) ?_
          refine lv_iload_n hx hb dX5_pixel_241 rfl (lv_at hl 1 rfl) ?_
          refine lv_iload_n hx hb dX5_pixel_242 rfl (lv_at hl 2 rfl) ?_
          refine lv_aload_n hx hb dX5_pixel_243 rfl (lv_at hl 0 rfl) ?_
          refine zm_geta C hZ 36 (by decide) (by decide) q1177 dX5_pixel_244 ?_
          refine zl_bipush hx hb dX5_pixel_247 (by decide) ?_
          refine lv_aload_n hx hb dX5_pixel_249 rfl (lv_at hl 0 rfl) ?_
          refine zm_geta C hZ 33 (by decide) (by decide) q1174 dX5_pixel_250 ?_
          refine lv_iload hx hb dX5_pixel_253 (lv_at hl 4 rfl) ?_
          obtain ⟨hg, hf⟩ := gd_inv hf
          refine zm_iald C hZ 33 (by decide) rfl rfl hg dX5_pixel_255 ?_
          refine zl_iadd hx hb dX5_pixel_256 ?_
          obtain ⟨hg, hf⟩ := gd_inv hf
          refine zm_iald C hZ 36 (by decide) rfl rfl hg dX5_pixel_257 ?_
          obtain ⟨y1, ey1, hf⟩ := bd_inv hf
          refine zm_callV C hZ (n := 4) (rest := []) (met_inked l D cI cZ mo ad ey1) (lw_V q1605 q1607 qs87 q107 q1608) rfl rfl (by decide +kernel) ⟨Nat.le_trans (by decide) hR.1, Nat.le_trans (by decide) hR.2⟩ rfl hl.1 rfl (Nat.le_of_ble_eq_true rfl) dX5_pixel_258 (fun H locs hZ => ?_)
          refine zl_if_eq (tgt := 277) hx hb dX5_pixel_261 (by decide) (fun hc => ?_) (fun hc => ?_)
          · rw [if_pos hc] at hf
            exact w_pixel_277 C hR hf hZ (lv_sub hl [0, 1, 2, 3, 4, 5] rfl) hK
          · rw [if_neg hc] at hf
            refine lv_aload_n hx hb dX5_pixel_264 rfl (lv_at hl 0 rfl) ?_
            refine zm_geta C hZ 36 (by decide) (by decide) q1177 dX5_pixel_265 ?_
            refine lv_aload_n hx hb dX5_pixel_268 rfl (lv_at hl 0 rfl) ?_
            refine zm_geta C hZ 33 (by decide) (by decide) q1174 dX5_pixel_269 ?_
            refine lv_iload hx hb dX5_pixel_272 (lv_at hl 4 rfl) ?_
            obtain ⟨hg, hf⟩ := gd_inv hf
            refine zm_iald C hZ 33 (by decide) rfl rfl hg dX5_pixel_274 ?_
            obtain ⟨hg, hf⟩ := gd_inv hf
            refine zm_iald C hZ 36 (by decide) rfl rfl hg dX5_pixel_275 ?_
            obtain ⟨y2, ey2, hf⟩ := bnd_inv hf
            refine zl_top ey2 ?_
            refine lv_istore_n (lv' := [(3, .int (zI y2)), (0, .ref mo), (1, .int (zI x1)), (2, .int (zI x2)), (4, .int (zI x4)), (5, .int (zI x5))]) hx hb dX5_pixel_276 rfl hl (by decide) rfl (fun ls hl => ?_)
            exact w_pixel_277 C hR hf hZ (lv_sub hl [1, 2, 3, 0, 4, 5] rfl) hK
      · rw [if_neg hc] at hf
        exact w_pixel_277 C hR hf hZ (lv_sub hl [0, 1, 2, 3, 4, 5] rfl) hK
    · rw [if_neg hc] at hf
      obtain ⟨r0, hm0, rfl⟩ := mr_inv hf
      exact w_pixel_283 C hR hm0 hZ (lv_sub hl [0, 1, 2, 3, 4] rfl) hK
  · rw [if_neg hc] at hf
    obtain ⟨r0, hm0, rfl⟩ := mr_inv hf
    exact w_pixel_283 C hR hm0 hZ (lv_sub hl [0, 1, 2, 3, 4] rfl) hK

theorem w_pixel_186 {p : Program} {l : Launch} {e : Env} {R : Room} {s : State} {m : MethodId} {args : Array Value} {below : List Frame} {meth : Method} {c : Code} {Q : State → Prop} {D : va_G} {cI cZ : ClassId} {mo : Nat} {ad : Nat → Nat} {H : Heap} {locs : List Loc} {M : MS} (C : MC p s m args meth c D cI cZ cX5_pixel 6 (some .int)) (hR : 1 ≤ R.frames ∧ 26 ≤ R.locals) {x1 x2 x3 x4 x5 : Int} {res : (Int × Int) ⊕ (Int)} (hf : m_pixel_186 M x1 x2 x3 x4 x5 = some res) (hZ : ZM D cI cZ mo ad s.heap M H locs) {ls : Array Slot} (hl : lv_has ls 6 [(0, .ref mo), (1, .int (zI x1)), (2, .int (zI x2)), (3, .int (zI x3)), (4, .int (zI x4)), (5, .int (zI x5))]) (hK : (Sum.elim (fun z => ∀ (H : Heap) (locs : List Loc) (ls : Array Slot), ZM D cI cZ mo ad s.heap M H locs → lv_has ls 6 [(0, .ref mo), (1, .int (zI x1)), (2, .int (zI x2)), (3, .int (zI z.1)), (4, .int (zI z.2))] → W p l e R s m args below meth c H locs 0 0 Q (F0 m 174 ls [])) (fun r => KM below D cI cZ mo ad args s Q M (some (.int (zI r))))) res) : W p l e R s m args below meth c H locs 0 0 Q (F0 m 186 ls []) := by
  unfold m_pixel_186 at hf
  refine iter_ind (P := fun z r => ∀ (H : Heap) (locs : List Loc) (ls : Array Slot), ZM D cI cZ mo ad s.heap M H locs → lv_has ls 6 [(0, .ref mo), (1, .int (zI x1)), (2, .int (zI x2)), (3, .int (zI z.1)), (4, .int (zI x4)), (5, .int (zI z.2))] → (Sum.elim (fun z => ∀ (H : Heap) (locs : List Loc) (ls : Array Slot), ZM D cI cZ mo ad s.heap M H locs → lv_has ls 6 [(0, .ref mo), (1, .int (zI x1)), (2, .int (zI x2)), (3, .int (zI z.1)), (4, .int (zI z.2))] → W p l e R s m args below meth c H locs 0 0 Q (F0 m 174 ls [])) (fun r => KM below D cI cZ mo ad args s Q M (some (.int (zI r))))) r → W p l e R s m args below meth c H locs 0 0 Q (F0 m 186 ls [])) ?_ ?_ hf H locs ls hZ hl hK
  · intro z r h1 H locs ls hZ hl hK; exact w_pixel_186s C hR h1 hZ hl hK
  · intro z z1 r h1 ih H locs ls hZ hl hK; exact w_pixel_186s C hR h1 hZ hl (fun H locs ls hZ hl => ih H locs ls hZ hl hK)

theorem w_pixel_174s {p : Program} {l : Launch} {e : Env} {R : Room} {s : State} {m : MethodId} {args : Array Value} {below : List Frame} {meth : Method} {c : Code} {Q : State → Prop} {D : va_G} {cI cZ : ClassId} {mo : Nat} {ad : Nat → Nat} {H : Heap} {locs : List Loc} {M : MS} (C : MC p s m args meth c D cI cZ cX5_pixel 6 (some .int)) (hR : 1 ≤ R.frames ∧ 26 ≤ R.locals) {x1 x2 x3 x4 : Int} {res : (Int × Int) ⊕ (Int)} (hf : m_pixel_174s M x1 x2 x3 x4 = some res) (hZ : ZM D cI cZ mo ad s.heap M H locs) {ls : Array Slot} (hl : lv_has ls 6 [(0, .ref mo), (1, .int (zI x1)), (2, .int (zI x2)), (3, .int (zI x3)), (4, .int (zI x4))]) (hK : (Sum.elim (fun z => ∀ (H : Heap) (locs : List Loc) (ls : Array Slot), ZM D cI cZ mo ad s.heap M H locs → lv_has ls 6 [(0, .ref mo), (1, .int (zI x1)), (2, .int (zI x2)), (3, .int (zI z.1)), (4, .int (zI z.2))] → W p l e R s m args below meth c H locs 0 0 Q (F0 m 174 ls [])) (fun r => KM below D cI cZ mo ad args s Q M (some (.int (zI r))))) res) : W p l e R s m args below meth c H locs 0 0 Q (F0 m 174 ls []) := by
  unfold m_pixel_174s at hf
  have hx := C.1
  have hb := C.2.1
  have hts := C.2.2.2.2.2.2.1
  refine lv_iload hx hb dX5_pixel_174 (lv_at hl 4 rfl) ?_
  refine lv_aload_n hx hb dX5_pixel_176 rfl (lv_at hl 0 rfl) ?_
  refine zm_geti C hZ 5 (by decide) rfl q1146 dX5_pixel_177 ?_
  refine zl_icmp_ge (tgt := 289) hx hb dX5_pixel_180 (by decide) (fun hc => ?_) (fun hc => ?_)
  · rw [if_pos hc] at hf
    refine zl_iconst hx hb dX5_pixel_183 ?_
    refine lv_istore (lv' := [(5, .int (zI 0)), (0, .ref mo), (1, .int (zI x1)), (2, .int (zI x2)), (3, .int (zI x3)), (4, .int (zI x4))]) hx hb dX5_pixel_184 hl (by decide) rfl (fun ls hl => ?_)
    exact w_pixel_186 C hR hf hZ (lv_sub hl [1, 2, 3, 4, 5, 0] rfl) hK
  · rw [if_neg hc] at hf
    refine lv_iload_n hx hb dX5_pixel_289 rfl (lv_at hl 3 rfl) ?_
    obtain rfl := Option.some.inj hf
    exact zm_iret C hZ hK dX5_pixel_290

theorem w_pixel_174 {p : Program} {l : Launch} {e : Env} {R : Room} {s : State} {m : MethodId} {args : Array Value} {below : List Frame} {meth : Method} {c : Code} {Q : State → Prop} {D : va_G} {cI cZ : ClassId} {mo : Nat} {ad : Nat → Nat} {H : Heap} {locs : List Loc} {M : MS} (C : MC p s m args meth c D cI cZ cX5_pixel 6 (some .int)) (hR : 1 ≤ R.frames ∧ 26 ≤ R.locals) {x1 x2 x3 x4 : Int} {res : Int} (hf : m_pixel_174 M x1 x2 x3 x4 = some res) (hZ : ZM D cI cZ mo ad s.heap M H locs) {ls : Array Slot} (hl : lv_has ls 6 [(0, .ref mo), (1, .int (zI x1)), (2, .int (zI x2)), (3, .int (zI x3)), (4, .int (zI x4))]) (hK : KM below D cI cZ mo ad args s Q M (some (.int (zI res)))) : W p l e R s m args below meth c H locs 0 0 Q (F0 m 174 ls []) := by
  unfold m_pixel_174 at hf
  refine iter_ind (P := fun z r => ∀ (H : Heap) (locs : List Loc) (ls : Array Slot), ZM D cI cZ mo ad s.heap M H locs → lv_has ls 6 [(0, .ref mo), (1, .int (zI x1)), (2, .int (zI x2)), (3, .int (zI z.1)), (4, .int (zI z.2))] → KM below D cI cZ mo ad args s Q M (some (.int (zI r))) → W p l e R s m args below meth c H locs 0 0 Q (F0 m 174 ls [])) ?_ ?_ hf H locs ls hZ hl hK
  · intro z r h1 H locs ls hZ hl hK; exact w_pixel_174s C hR h1 hZ hl hK
  · intro z z1 r h1 ih H locs ls hZ hl hK; exact w_pixel_174s C hR h1 hZ hl (fun H locs ls hZ hl => ih H locs ls hZ hl hK)

theorem w_pixel_171 {p : Program} {l : Launch} {e : Env} {R : Room} {s : State} {m : MethodId} {args : Array Value} {below : List Frame} {meth : Method} {c : Code} {Q : State → Prop} {D : va_G} {cI cZ : ClassId} {mo : Nat} {ad : Nat → Nat} {H : Heap} {locs : List Loc} {M : MS} (C : MC p s m args meth c D cI cZ cX5_pixel 6 (some .int)) (hR : 1 ≤ R.frames ∧ 26 ≤ R.locals) {x1 x2 x3 : Int} {res : Int} (hf : m_pixel_171 M x1 x2 x3 = some res) (hZ : ZM D cI cZ mo ad s.heap M H locs) {ls : Array Slot} (hl : lv_has ls 6 [(0, .ref mo), (1, .int (zI x1)), (2, .int (zI x2)), (3, .int (zI x3))]) (hK : KM below D cI cZ mo ad args s Q M (some (.int (zI res)))) : W p l e R s m args below meth c H locs 0 0 Q (F0 m 171 ls []) := by
  unfold m_pixel_171 at hf
  have hx := C.1
  have hb := C.2.1
  have hts := C.2.2.2.2.2.2.1
  refine zl_iconst hx hb dX5_pixel_171 ?_
  refine lv_istore (lv' := [(4, .int (zI 1)), (0, .ref mo), (1, .int (zI x1)), (2, .int (zI x2)), (3, .int (zI x3))]) hx hb dX5_pixel_172 hl (by decide) rfl (fun ls hl => ?_)
  exact w_pixel_174 C hR hf hZ (lv_sub hl [1, 2, 3, 4, 0] rfl) hK

theorem w_pixel_36s {p : Program} {l : Launch} {e : Env} {R : Room} {s : State} {m : MethodId} {args : Array Value} {below : List Frame} {meth : Method} {c : Code} {Q : State → Prop} {D : va_G} {cI cZ : ClassId} {mo : Nat} {ad : Nat → Nat} {H : Heap} {locs : List Loc} {M : MS} (C : MC p s m args meth c D cI cZ cX5_pixel 6 (some .int)) (hR : 1 ≤ R.frames ∧ 26 ≤ R.locals) {x1 x2 x3 x4 : Int} {res : (Int × Int) ⊕ (Int)} (hf : m_pixel_36s M x1 x2 x3 x4 = some res) (hZ : ZM D cI cZ mo ad s.heap M H locs) {ls : Array Slot} (hl : lv_has ls 6 [(0, .ref mo), (1, .int (zI x1)), (2, .int (zI x2)), (3, .int (zI x3)), (4, .int (zI x4))]) (hK : (Sum.elim (fun z => ∀ (H : Heap) (locs : List Loc) (ls : Array Slot), ZM D cI cZ mo ad s.heap M H locs → lv_has ls 6 [(0, .ref mo), (1, .int (zI x1)), (2, .int (zI x2)), (3, .int (zI z.1)), (4, .int (zI z.2))] → W p l e R s m args below meth c H locs 0 0 Q (F0 m 36 ls [])) (fun r => KM below D cI cZ mo ad args s Q M (some (.int (zI r))))) res) : W p l e R s m args below meth c H locs 0 0 Q (F0 m 36 ls []) := by
  unfold m_pixel_36s at hf
  have hx := C.1
  have hb := C.2.1
  have hts := C.2.2.2.2.2.2.1
  refine lv_iload hx hb dX5_pixel_36 (lv_at hl 4 rfl) ?_
  refine lv_aload_n hx hb dX5_pixel_38 rfl (lv_at hl 0 rfl) ?_
  refine zm_geti C hZ 5 (by decide) rfl q1146 dX5_pixel_39 ?_
  refine zl_icmp_ge (tgt := 171) hx hb dX5_pixel_42 (by decide) (fun hc => ?_) (fun hc => ?_)
  · rw [if_pos hc] at hf
    refine lv_aload_n hx hb dX5_pixel_45 rfl (lv_at hl 0 rfl) ?_
    refine zm_geta C hZ 41 (by decide) (by decide) q1182 dX5_pixel_46 ?_
    refine lv_iload hx hb dX5_pixel_49 (lv_at hl 4 rfl) ?_
    obtain ⟨hg, hf⟩ := gd_inv hf
    refine zm_zald C hZ 41 (by decide) rfl rfl hg dX5_pixel_51 ?_
    refine zl_if_eq (tgt := 133) hx hb dX5_pixel_52 (by decide) (fun hc => ?_) (fun hc => ?_)
    · rw [if_pos hc] at hf
      exact w_pixel_133 C hR hf hZ (lv_sub hl [0, 1, 2, 3, 4] rfl) hK
    · rw [if_neg hc] at hf
      refine lv_iload_n hx hb dX5_pixel_55 rfl (lv_at hl 1 rfl) ?_
      refine lv_aload_n hx hb dX5_pixel_56 rfl (lv_at hl 0 rfl) ?_
      refine zm_geta C hZ 43 (by decide) (by decide) q1184 dX5_pixel_57 ?_
      refine lv_iload hx hb dX5_pixel_60 (lv_at hl 4 rfl) ?_
      obtain ⟨hg, hf⟩ := gd_inv hf
      refine zm_iald C hZ 43 (by decide) rfl rfl hg dX5_pixel_62 ?_
      refine zl_icmp_lt (tgt := 133) hx hb dX5_pixel_63 (by decide) (fun hc => ?_) (fun hc => ?_)
      · rw [if_pos hc] at hf
        exact w_pixel_133 C hR hf hZ (lv_sub hl [0, 1, 2, 3, 4] rfl) hK
      · rw [if_neg hc] at hf
        refine lv_iload_n hx hb dX5_pixel_66 rfl (lv_at hl 1 rfl) ?_
        refine lv_aload_n hx hb dX5_pixel_67 rfl (lv_at hl 0 rfl) ?_
        refine zm_geta C hZ 43 (by decide) (by decide) q1184 dX5_pixel_68 ?_
        refine lv_iload hx hb dX5_pixel_71 (lv_at hl 4 rfl) ?_
        obtain ⟨hg, hf⟩ := gd_inv hf
        refine zm_iald C hZ 43 (by decide) rfl rfl hg dX5_pixel_73 ?_
        refine lv_aload_n hx hb dX5_pixel_74 rfl (lv_at hl 0 rfl) ?_
        refine zm_geta C hZ 44 (by decide) (by decide) q1185 dX5_pixel_75 ?_
        refine lv_iload hx hb dX5_pixel_78 (lv_at hl 4 rfl) ?_
        obtain ⟨hg, hf⟩ := gd_inv hf
        refine zm_iald C hZ 44 (by decide) rfl rfl hg dX5_pixel_80 ?_
        refine zl_iadd hx hb dX5_pixel_81 ?_
        refine zl_iconst hx hb dX5_pixel_82 ?_
        refine lv_aload_n hx hb dX5_pixel_83 rfl (lv_at hl 0 rfl) ?_
        refine zm_geta C hZ 36 (by decide) (by decide) q1177 dX5_pixel_84 ?_
        refine zl_sipush hx hb dX5_pixel_87 (by decide) ?_
        refine lv_iload hx hb dX5_pixel_90 (lv_at hl 4 rfl) ?_
        refine zl_iadd hx hb dX5_pixel_92 ?_
        obtain ⟨hg, hf⟩ := gd_inv hf
        refine zm_iald C hZ 36 (by decide) rfl rfl hg dX5_pixel_93 ?_
        refine zl_imul hx hb dX5_pixel_94 ?_
        refine zl_iadd hx hb dX5_pixel_95 ?_
        refine zl_icmp_ge (tgt := 133) hx hb dX5_pixel_96 (by decide) (fun hc => ?_) (fun hc => ?_)
        · rw [if_pos hc] at hf
          refine lv_iload_n hx hb dX5_pixel_99 rfl (lv_at hl 2 rfl) ?_
          refine lv_aload_n hx hb dX5_pixel_100 rfl (lv_at hl 0 rfl) ?_
          refine zm_geta C hZ 46 (by decide) (by decide) q1187 dX5_pixel_101 ?_
          refine lv_iload hx hb dX5_pixel_104 (lv_at hl 4 rfl) ?_
          obtain ⟨hg, hf⟩ := gd_inv hf
          refine zm_iald C hZ 46 (by decide) rfl rfl hg dX5_pixel_106 ?_
          refine zl_icmp_lt (tgt := 133) hx hb dX5_pixel_107 (by decide) (fun hc => ?_) (fun hc => ?_)
          · rw [if_pos hc] at hf
            exact w_pixel_133 C hR hf hZ (lv_sub hl [0, 1, 2, 3, 4] rfl) hK
          · rw [if_neg hc] at hf
            refine lv_iload_n hx hb dX5_pixel_110 rfl (lv_at hl 2 rfl) ?_
            refine lv_aload_n hx hb dX5_pixel_111 rfl (lv_at hl 0 rfl) ?_
            refine zm_geta C hZ 46 (by decide) (by decide) q1187 dX5_pixel_112 ?_
            refine lv_iload hx hb dX5_pixel_115 (lv_at hl 4 rfl) ?_
            obtain ⟨hg, hf⟩ := gd_inv hf
            refine zm_iald C hZ 46 (by decide) rfl rfl hg dX5_pixel_117 ?_
            refine lv_aload_n hx hb dX5_pixel_118 rfl (lv_at hl 0 rfl) ?_
            refine zm_geta C hZ 45 (by decide) (by decide) q1186 dX5_pixel_119 ?_
            refine lv_iload hx hb dX5_pixel_122 (lv_at hl 4 rfl) ?_
            obtain ⟨hg, hf⟩ := gd_inv hf
            refine zm_iald C hZ 45 (by decide) rfl rfl hg dX5_pixel_124 ?_
            refine zl_iadd hx hb dX5_pixel_125 ?_
            refine zl_icmp_ge (tgt := 133) hx hb dX5_pixel_126 (by decide) (fun hc => ?_) (fun hc => ?_)
            · rw [if_pos hc] at hf
              refine zl_iconst hx hb dX5_pixel_129 ?_
              refine lv_goto (tgt := 134) hx hb dX5_pixel_130 (by decide) ?_
              exact w_pixel_134 C hR hf hZ (lv_sub hl [0, 1, 2, 3, 4] rfl) hK
            · rw [if_neg hc] at hf
              exact w_pixel_133 C hR hf hZ (lv_sub hl [0, 1, 2, 3, 4] rfl) hK
        · rw [if_neg hc] at hf
          exact w_pixel_133 C hR hf hZ (lv_sub hl [0, 1, 2, 3, 4] rfl) hK
  · rw [if_neg hc] at hf
    obtain ⟨r0, hm0, rfl⟩ := mr_inv hf
    exact w_pixel_171 C hR hm0 hZ (lv_sub hl [0, 1, 2, 3] rfl) hK

theorem w_pixel_36 {p : Program} {l : Launch} {e : Env} {R : Room} {s : State} {m : MethodId} {args : Array Value} {below : List Frame} {meth : Method} {c : Code} {Q : State → Prop} {D : va_G} {cI cZ : ClassId} {mo : Nat} {ad : Nat → Nat} {H : Heap} {locs : List Loc} {M : MS} (C : MC p s m args meth c D cI cZ cX5_pixel 6 (some .int)) (hR : 1 ≤ R.frames ∧ 26 ≤ R.locals) {x1 x2 x3 x4 : Int} {res : Int} (hf : m_pixel_36 M x1 x2 x3 x4 = some res) (hZ : ZM D cI cZ mo ad s.heap M H locs) {ls : Array Slot} (hl : lv_has ls 6 [(0, .ref mo), (1, .int (zI x1)), (2, .int (zI x2)), (3, .int (zI x3)), (4, .int (zI x4))]) (hK : KM below D cI cZ mo ad args s Q M (some (.int (zI res)))) : W p l e R s m args below meth c H locs 0 0 Q (F0 m 36 ls []) := by
  unfold m_pixel_36 at hf
  refine iter_ind (P := fun z r => ∀ (H : Heap) (locs : List Loc) (ls : Array Slot), ZM D cI cZ mo ad s.heap M H locs → lv_has ls 6 [(0, .ref mo), (1, .int (zI x1)), (2, .int (zI x2)), (3, .int (zI z.1)), (4, .int (zI z.2))] → KM below D cI cZ mo ad args s Q M (some (.int (zI r))) → W p l e R s m args below meth c H locs 0 0 Q (F0 m 36 ls [])) ?_ ?_ hf H locs ls hZ hl hK
  · intro z r h1 H locs ls hZ hl hK; exact w_pixel_36s C hR h1 hZ hl hK
  · intro z z1 r h1 ih H locs ls hZ hl hK; exact w_pixel_36s C hR h1 hZ hl (fun H locs ls hZ hl => ih H locs ls hZ hl hK)

theorem w_pixel {p : Program} {l : Launch} {e : Env} {R : Room} {s : State} {m : MethodId} {args : Array Value} {below : List Frame} {meth : Method} {c : Code} {Q : State → Prop} {D : va_G} {cI cZ : ClassId} {mo : Nat} {ad : Nat → Nat} {H : Heap} {locs : List Loc} {M : MS} (C : MC p s m args meth c D cI cZ cX5_pixel 6 (some .int)) (hR : 1 ≤ R.frames ∧ 26 ≤ R.locals) {x1 x2 : Int} {res : Int} (hf : m_pixel M x1 x2 = some res) (hZ : ZM D cI cZ mo ad s.heap M H locs) {ls : Array Slot} (hl : lv_has ls 6 [(0, .ref mo), (1, .int (zI x1)), (2, .int (zI x2))]) (hK : KM below D cI cZ mo ad args s Q M (some (.int (zI res)))) : W p l e R s m args below meth c H locs 0 0 Q (F0 m 0 ls []) := by
  unfold m_pixel at hf
  have hx := C.1
  have hb := C.2.1
  have hts := C.2.2.2.2.2.2.1
  refine lv_aload_n hx hb dX5_pixel_0 rfl (lv_at hl 0 rfl) ?_
  refine zm_geti C hZ 37 (by decide) rfl q1178 dX5_pixel_1 ?_
  refine zl_if_eq (tgt := 29) hx hb dX5_pixel_4 (by decide) (fun hc => ?_) (fun hc => ?_)
  · rw [if_pos hc] at hf
    refine zl_iconst hx hb dX5_pixel_29 ?_
    obtain rfl := Option.some.inj hf
    exact zm_iret C hZ hK dX5_pixel_30
  · rw [if_neg hc] at hf
    refine lv_iload_n hx hb dX5_pixel_7 rfl (lv_at hl 1 rfl) ?_
    refine zl_if_lt (tgt := 29) hx hb dX5_pixel_8 (by decide) (fun hc => ?_) (fun hc => ?_)
    · rw [if_pos hc] at hf
      refine zl_iconst hx hb dX5_pixel_29 ?_
      obtain rfl := Option.some.inj hf
      exact zm_iret C hZ hK dX5_pixel_30
    · rw [if_neg hc] at hf
      refine lv_iload_n hx hb dX5_pixel_11 rfl (lv_at hl 1 rfl) ?_
      refine lv_aload_n hx hb dX5_pixel_12 rfl (lv_at hl 0 rfl) ?_
      refine zm_geti C hZ 38 (by decide) rfl q1179 dX5_pixel_13 ?_
      refine zl_icmp_ge (tgt := 29) hx hb dX5_pixel_16 (by decide) (fun hc => ?_) (fun hc => ?_)
      · rw [if_pos hc] at hf
        refine lv_iload_n hx hb dX5_pixel_19 rfl (lv_at hl 2 rfl) ?_
        refine zl_if_lt (tgt := 29) hx hb dX5_pixel_20 (by decide) (fun hc => ?_) (fun hc => ?_)
        · rw [if_pos hc] at hf
          refine zl_iconst hx hb dX5_pixel_29 ?_
          obtain rfl := Option.some.inj hf
          exact zm_iret C hZ hK dX5_pixel_30
        · rw [if_neg hc] at hf
          refine lv_iload_n hx hb dX5_pixel_23 rfl (lv_at hl 2 rfl) ?_
          refine zl_bipush hx hb dX5_pixel_24 (by decide) ?_
          refine zl_icmp_le (tgt := 31) hx hb dX5_pixel_26 (by decide) (fun hc => ?_) (fun hc => ?_)
          · rw [if_pos hc] at hf
            refine zl_iconst hx hb dX5_pixel_29 ?_
            obtain rfl := Option.some.inj hf
            exact zm_iret C hZ hK dX5_pixel_30
          · rw [if_neg hc] at hf
            refine zl_iconst hx hb dX5_pixel_31 ?_
            refine lv_istore_n (lv' := [(3, .int (zI 0)), (0, .ref mo), (1, .int (zI x1)), (2, .int (zI x2))]) hx hb dX5_pixel_32 rfl hl (by decide) rfl (fun ls hl => ?_)
            refine zl_iconst hx hb dX5_pixel_33 ?_
            refine lv_istore (lv' := [(4, .int (zI 1)), (3, .int (zI 0)), (0, .ref mo), (1, .int (zI x1)), (2, .int (zI x2))]) hx hb dX5_pixel_34 hl (by decide) rfl (fun ls hl => ?_)
            exact w_pixel_36 C hR hf hZ (lv_sub hl [2, 3, 4, 1, 0] rfl) hK
      · rw [if_neg hc] at hf
        refine zl_iconst hx hb dX5_pixel_29 ?_
        obtain rfl := Option.some.inj hf
        exact zm_iret C hZ hK dX5_pixel_30

theorem met_pixel (l : Launch) (D : va_G) (cI cZ : ClassId) (mo : Nat) (ad : Nat → Nat) {M : MS} {x1 x2 : Int} {res : Int} (hf : m_pixel M x1 x2 = some res) : Met l yX5_pixel (ws_ yX5_pixel cX5_pixel 6 (some .int)) ({ frames := 1, cells := 0, slots := 0, locals := 26 }) (PM D cI cZ mo ad M [.int (zI x1), .int (zI x2)]) (QM D cI cZ mo ad M (some (.int (zI res)))) 0 0 (MA mo ad) := by
  refine Met.ofW (cc := cX5_pixel) (maxL := 6) (ret := (some .int)) (by decide) rfl ?_
  intro p e s m args below meth c s₁ B hml hv
  obtain ⟨rfl, hRM, hK0⟩ := hv
  have hts := atoms_spec (ws := ws_ yX5_pixel cX5_pixel 6 (some .int)) B.pre
  have hts : ∀ w ∈ lw_all, w.before _ s = true := fun w h => hts w (List.mem_cons_of_mem _ h)
  have C : MC p s m _ meth c D cI cZ cX5_pixel 6 (some .int) := ⟨B.exec, B.bytes, B.returns, B.notSynchronized, hml, findClass_of_methodNamed B.named, hts, hK0⟩
  have hZ : ZM D cI cZ mo ad s.heap M s.heap [] := ⟨hRM, rfl, fun _ _ => rfl, fun _ h => by cases h⟩
  have hl := lv_entry ([.ref mo, .int (zI x1), .int (zI x2)]) (n := 6) (Nat.le_of_ble_eq_true rfl)
  rw [lg_entry_eq]
  generalize (lg_sl ([.ref mo, .int (zI x1), .int (zI x2)]) ++ List.replicate (6 - (lg_sl ([.ref mo, .int (zI x1), .int (zI x2)])).length) Slot.unset).toArray = ls at hl ⊢
  have hl : lv_has ls 6 [(0, .ref mo), (1, .int (zI x1)), (2, .int (zI x2))] := hl
  exact w_pixel C ⟨Nat.le_refl _, Nat.le_refl _⟩ hf hZ hl rfl

