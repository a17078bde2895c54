set_option maxRecDepth 100000
theorem w_reset {p : Program} {l : Launch} {e : Env} {R : Room} {s : State} {m : MethodId} {args : Array Value} {below : List Frame} {meth : Method} {c : Code} {Q : State → Prop} {D : va_G} {cI cZ : ClassId} {mo : Nat} {ad : Nat → Nat} {H : Heap} {locs : List Loc} {M : MS} (C : MC p s m args meth c D cI cZ cX5_reset 1 none) (hR : 0 ≤ R.frames ∧ 0 ≤ R.locals) {res : MS} (hf : m_reset M = some res) (hZ : ZM D cI cZ mo ad s.heap M H locs) {ls : Array Slot} (hl : lv_has ls 1 [(0, .ref mo)]) (hK : KM below D cI cZ mo ad args s Q res none) : W p l e R s m args below meth c H locs 0 0 Q (F0 m 0 ls []) := by
  unfold m_reset at hf
  have hx := C.1
  have hb := C.2.1
  have hts := C.2.2.2.2.2.2.1
  refine lv_aload_n hx hb dX5_reset_0 rfl (lv_at hl 0 rfl) ?_
  refine zl_iconst hx hb dX5_reset_1 ?_
  obtain ⟨M1, eM1, hf⟩ := bnd_inv hf
  refine zm_putb C hZ 4 (by decide) rfl rfl zisB_0 q1145 dX5_reset_2 (fun H locs hZ => ?_)
  rw [← eM1] at hZ
  refine lv_aload_n hx hb dX5_reset_5 rfl (lv_at hl 0 rfl) ?_
  refine zl_iconst hx hb dX5_reset_6 ?_
  obtain ⟨M2, eM2, hf⟩ := bnd_inv hf
  refine zm_puti C hZ 5 (by decide) rfl rfl q1146 dX5_reset_7 (fun H locs hZ => ?_)
  rw [← eM2] at hZ
  refine lv_aload_n hx hb dX5_reset_10 rfl (lv_at hl 0 rfl) ?_
  refine zm_geta C hZ 6 (by decide) (by decide) q1147 dX5_reset_11 ?_
  refine zl_iconst hx hb dX5_reset_14 ?_
  refine zl_iconst hx hb dX5_reset_15 ?_
  obtain ⟨hg, hf⟩ := gd_inv hf
  obtain ⟨M3, eM3, hf⟩ := bnd_inv hf
  refine zm_iast C hZ 6 (by decide) rfl rfl hg dX5_reset_16 (fun H locs hZ => ?_)
  rw [← eM3] at hZ
  refine lv_aload_n hx hb dX5_reset_17 rfl (lv_at hl 0 rfl) ?_
  refine zl_iconst hx hb dX5_reset_18 ?_
  obtain ⟨M4, eM4, hf⟩ := bnd_inv hf
  refine zm_puti C hZ 7 (by decide) rfl rfl q1148 dX5_reset_19 (fun H locs hZ => ?_)
  rw [← eM4] at hZ
  refine lv_aload_n hx hb dX5_reset_22 rfl (lv_at hl 0 rfl) ?_
  refine zm_geta C hZ 8 (by decide) (by decide) q1149 dX5_reset_23 ?_
  refine zl_iconst hx hb dX5_reset_26 ?_
  refine zl_iconst hx hb dX5_reset_27 ?_
  obtain ⟨hg, hf⟩ := gd_inv hf
  obtain ⟨M5, eM5, hf⟩ := bnd_inv hf
  refine zm_iast C hZ 8 (by decide) rfl rfl hg dX5_reset_28 (fun H locs hZ => ?_)
  rw [← eM5] at hZ
  refine lv_aload_n hx hb dX5_reset_29 rfl (lv_at hl 0 rfl) ?_
  refine zm_geta C hZ 9 (by decide) (by decide) q1150 dX5_reset_30 ?_
  refine zl_iconst hx hb dX5_reset_33 ?_
  refine zl_iconst hx hb dX5_reset_34 ?_
  obtain ⟨hg, hf⟩ := gd_inv hf
  obtain ⟨M6, eM6, hf⟩ := bnd_inv hf
  refine zm_iast C hZ 9 (by decide) rfl rfl hg dX5_reset_35 (fun H locs hZ => ?_)
  rw [← eM6] at hZ
  refine lv_aload_n hx hb dX5_reset_36 rfl (lv_at hl 0 rfl) ?_
  refine zm_geta C hZ 10 (by decide) (by decide) q1151 dX5_reset_37 ?_
  refine zl_iconst hx hb dX5_reset_40 ?_
  refine zl_iconst hx hb dX5_reset_41 ?_
  obtain ⟨hg, hf⟩ := gd_inv hf
  obtain ⟨M7, eM7, hf⟩ := bnd_inv hf
  refine zm_iast C hZ 10 (by decide) rfl rfl hg dX5_reset_42 (fun H locs hZ => ?_)
  rw [← eM7] at hZ
  refine lv_aload_n hx hb dX5_reset_43 rfl (lv_at hl 0 rfl) ?_
  refine zm_geta C hZ 12 (by decide) (by decide) q1153 dX5_reset_44 ?_
  refine zl_iconst hx hb dX5_reset_47 ?_
  refine zl_iconst hx hb dX5_reset_48 ?_
  obtain ⟨hg, hf⟩ := gd_inv hf
  obtain ⟨M8, eM8, hf⟩ := bnd_inv hf
  refine zm_iast C hZ 12 (by decide) rfl rfl hg dX5_reset_49 (fun H locs hZ => ?_)
  rw [← eM8] at hZ
  refine lv_aload_n hx hb dX5_reset_50 rfl (lv_at hl 0 rfl) ?_
  refine zl_iconst hx hb dX5_reset_51 ?_
  obtain ⟨M9, eM9, hf⟩ := bnd_inv hf
  refine zm_puti C hZ 13 (by decide) rfl rfl q1154 dX5_reset_52 (fun H locs hZ => ?_)
  rw [← eM9] at hZ
  refine lv_aload_n hx hb dX5_reset_55 rfl (lv_at hl 0 rfl) ?_
  refine zl_iconst hx hb dX5_reset_56 ?_
  obtain ⟨M10, eM10, hf⟩ := bnd_inv hf
  refine zm_puti C hZ 16 (by decide) rfl rfl q1157 dX5_reset_57 (fun H locs hZ => ?_)
  rw [← eM10] at hZ
  refine lv_aload_n hx hb dX5_reset_60 rfl (lv_at hl 0 rfl) ?_
  refine zl_iconst hx hb dX5_reset_61 ?_
  obtain ⟨M11, eM11, hf⟩ := bnd_inv hf
  refine zm_puti C hZ 17 (by decide) rfl rfl q1158 dX5_reset_62 (fun H locs hZ => ?_)
  rw [← eM11] at hZ
  obtain rfl := Option.some.inj hf
  exact zm_vret C hZ hK dX5_reset_65

theorem met_reset (l : Launch) (D : va_G) (cI cZ : ClassId) (mo : Nat) (ad : Nat → Nat) {M : MS} {res : MS} (hf : m_reset M = some res) : Met l yX5_reset (ws_ yX5_reset cX5_reset 1 none) ({ frames := 0, cells := 0, slots := 0, locals := 0 }) (PM D cI cZ mo ad M []) (QM D cI cZ mo ad res none) 0 0 (MA mo ad) := by
  refine Met.ofW (cc := cX5_reset) (maxL := 1) (ret := none) (by decide) rfl ?_
  intro p e s m args below meth c s₁ B hml hv
  obtain ⟨rfl, hRM, hK0⟩ := hv
  have hts := atoms_spec (ws := ws_ yX5_reset cX5_reset 1 none) B.pre
  have hts : ∀ w ∈ lw_all, w.before _ s = true := fun w h => hts w (List.mem_cons_of_mem _ h)
  have C : MC p s m _ meth c D cI cZ cX5_reset 1 none := ⟨B.exec, B.bytes, B.returns, B.notSynchronized, hml, findClass_of_methodNamed B.named, hts, hK0⟩
  have hZ : ZM D cI cZ mo ad s.heap M s.heap [] := ⟨hRM, rfl, fun _ _ => rfl, fun _ h => by cases h⟩
  have hl := lv_entry ([.ref mo]) (n := 1) (Nat.le_of_ble_eq_true rfl)
  rw [lg_entry_eq]
  generalize (lg_sl ([.ref mo]) ++ List.replicate (1 - (lg_sl ([.ref mo])).length) Slot.unset).toArray = ls at hl ⊢
  have hl : lv_has ls 1 [(0, .ref mo)] := hl
  exact w_reset C ⟨Nat.le_refl _, Nat.le_refl _⟩ hf hZ hl rfl

theorem w_peek {p : Program} {l : Launch} {e : Env} {R : Room} {s : State} {m : MethodId} {args : Array Value} {below : List Frame} {meth : Method} {c : Code} {Q : State → Prop} {D : va_G} {cI cZ : ClassId} {mo : Nat} {ad : Nat → Nat} {H : Heap} {locs : List Loc} {M : MS} (C : MC p s m args meth c D cI cZ cX5_peek 2 (some .int)) (hR : 0 ≤ R.frames ∧ 0 ≤ R.locals) {x1 : Int} {res : Int} (hf : m_peek M x1 = some res) (hZ : ZM D cI cZ mo ad s.heap M H locs) {ls : Array Slot} (hl : lv_has ls 2 [(0, .ref mo), (1, .int (zI x1))]) (hK : KM below D cI cZ mo ad args s Q M (some (.int (zI res)))) : W p l e R s m args below meth c H locs 0 0 Q (F0 m 0 ls []) := by
  unfold m_peek at hf
  have hx := C.1
  have hb := C.2.1
  have hts := C.2.2.2.2.2.2.1
  refine lv_iload_n hx hb dX5_peek_0 rfl (lv_at hl 1 rfl) ?_
  refine lv_aload_n hx hb dX5_peek_1 rfl (lv_at hl 0 rfl) ?_
  refine zm_geti C hZ 0 (by decide) rfl q1141 dX5_peek_2 ?_
  refine zl_icmp_ge (tgt := 17) hx hb dX5_peek_5 (by decide) (fun hc => ?_) (fun hc => ?_)
  · rw [if_pos hc] at hf
    refine lv_aload_n hx hb dX5_peek_8 rfl (lv_at hl 0 rfl) ?_
    refine zm_geta C hZ 1 (by decide) (by decide) q1142 dX5_peek_9 ?_
    refine lv_iload_n hx hb dX5_peek_12 rfl (lv_at hl 1 rfl) ?_
    obtain ⟨hg, hf⟩ := gd_inv hf
    refine zm_iald C hZ 1 (by decide) rfl rfl hg dX5_peek_13 ?_
    refine lv_goto (tgt := 18) hx hb dX5_peek_14 (by decide) ?_
    obtain rfl := Option.some.inj hf
    exact zm_iret C hZ hK dX5_peek_18
  · rw [if_neg hc] at hf
    refine zl_iconst hx hb dX5_peek_17 ?_
    obtain rfl := Option.some.inj hf
    exact zm_iret C hZ hK dX5_peek_18

theorem met_peek (l : Launch) (D : va_G) (cI cZ : ClassId) (mo : Nat) (ad : Nat → Nat) {M : MS} {x1 : Int} {res : Int} (hf : m_peek M x1 = some res) : Met l yX5_peek (ws_ yX5_peek cX5_peek 2 (some .int)) ({ frames := 0, cells := 0, slots := 0, locals := 0 }) (PM D cI cZ mo ad M [.int (zI x1)]) (QM D cI cZ mo ad M (some (.int (zI res)))) 0 0 (MA mo ad) := by
  refine Met.ofW (cc := cX5_peek) (maxL := 2) (ret := (some .int)) (by decide) rfl ?_
  intro p e s m args below meth c s₁ B hml hv
  obtain ⟨rfl, hRM, hK0⟩ := hv
  have hts := atoms_spec (ws := ws_ yX5_peek cX5_peek 2 (some .int)) B.pre
  have hts : ∀ w ∈ lw_all, w.before _ s = true := fun w h => hts w (List.mem_cons_of_mem _ h)
  have C : MC p s m _ meth c D cI cZ cX5_peek 2 (some .int) := ⟨B.exec, B.bytes, B.returns, B.notSynchronized, hml, findClass_of_methodNamed B.named, hts, hK0⟩
  have hZ : ZM D cI cZ mo ad s.heap M s.heap [] := ⟨hRM, rfl, fun _ _ => rfl, fun _ h => by cases h⟩
  have hl := lv_entry ([.ref mo, .int (zI x1)]) (n := 2) (Nat.le_of_ble_eq_true rfl)
  rw [lg_entry_eq]
  generalize (lg_sl ([.ref mo, .int (zI x1)]) ++ List.replicate (2 - (lg_sl ([.ref mo, .int (zI x1)])).length) Slot.unset).toArray = ls at hl ⊢
  have hl : lv_has ls 2 [(0, .ref mo), (1, .int (zI x1))] := hl
  exact w_peek C ⟨Nat.le_refl _, Nat.le_refl _⟩ hf hZ hl rfl

theorem w_small {p : Program} {l : Launch} {e : Env} {R : Room} {s : State} {m : MethodId} {args : Array Value} {below : List Frame} {meth : Method} {c : Code} {Q : State → Prop} (C : SC p s m args meth c cX5_small 1 (some .boolean)) (hR : 0 ≤ R.frames ∧ 0 ≤ R.locals) {x0 : Int} {res : Int} (hf : m_small x0 = some res) {ls : Array Slot} (hl : lv_has ls 1 [(0, .int (zI x0))]) (hK : KS below args s Q (some (.int (zI res)))) : W p l e R s m args below meth c s.heap [] 0 0 Q (F0 m 0 ls []) := by
  unfold m_small at hf
  have hx := C.1
  have hb := C.2.1
  have hts := C.2.2.2.2.2.2
  refine lv_iload_n hx hb dX5_small_0 rfl (lv_at hl 0 rfl) ?_
  refine zl_bipush hx hb dX5_small_1 (by decide) ?_
  refine zl_icmp_lt (tgt := 16) hx hb dX5_small_3 (by decide) (fun hc => ?_) (fun hc => ?_)
  · rw [if_pos hc] at hf
    refine zl_iconst hx hb dX5_small_16 ?_
    obtain rfl := Option.some.inj hf
    exact zs_zret C zisB_0 hK dX5_small_17
  · rw [if_neg hc] at hf
    refine lv_iload_n hx hb dX5_small_6 rfl (lv_at hl 0 rfl) ?_
    refine zl_bipush hx hb dX5_small_7 (by decide) ?_
    refine zl_icmp_gt (tgt := 16) hx hb dX5_small_9 (by decide) (fun hc => ?_) (fun hc => ?_)
    · rw [if_pos hc] at hf
      refine zl_iconst hx hb dX5_small_16 ?_
      obtain rfl := Option.some.inj hf
      exact zs_zret C zisB_0 hK dX5_small_17
    · rw [if_neg hc] at hf
      refine zl_iconst hx hb dX5_small_12 ?_
      refine lv_goto (tgt := 17) hx hb dX5_small_13 (by decide) ?_
      obtain rfl := Option.some.inj hf
      exact zs_zret C zisB_1 hK dX5_small_17

theorem met_small (l : Launch) {x0 : Int} {res : Int} (hf : m_small x0 = some res) : Met l yX5_small (ws_ yX5_small cX5_small 1 (some .boolean)) ({ frames := 0, cells := 0, slots := 0, locals := 0 }) (va_Pc [.int (zI x0)] (fun _ => True)) (QS (some (.int (zI res)))) 0 0 (fun _ => False) := by
  refine Met.ofW (cc := cX5_small) (maxL := 1) (ret := (some .boolean)) (by decide) rfl ?_
  intro p e s m args below meth c s₁ B hml hv
  obtain ⟨rfl, -⟩ := hv
  have hts := atoms_spec (ws := ws_ yX5_small cX5_small 1 (some .boolean)) B.pre
  have hts : ∀ w ∈ lw_all, w.before _ s = true := fun w h => hts w (List.mem_cons_of_mem _ h)
  have C : SC p s m _ meth c cX5_small 1 (some .boolean) := ⟨B.exec, B.bytes, B.returns, B.notSynchronized, hml, findClass_of_methodNamed B.named, hts⟩
  have hl := lv_entry ([.int (zI x0)]) (n := 1) (Nat.le_of_ble_eq_true rfl)
  rw [lg_entry_eq]
  generalize (lg_sl ([.int (zI x0)]) ++ List.replicate (1 - (lg_sl ([.int (zI x0)])).length) Slot.unset).toArray = ls at hl ⊢
  have hl : lv_has ls 1 [(0, .int (zI x0))] := hl
  exact w_small C ⟨Nat.le_refl _, Nat.le_refl _⟩ hf hl rfl

theorem w_closed_2s {p : Program} {l : Launch} {e : Env} {R : Room} {s : State} {m : MethodId} {args : Array Value} {below : List Frame} {meth : Method} {c : Code} {Q : State → Prop} {D : va_G} {cI cZ : ClassId} {mo : Nat} {ad : Nat → Nat} {H : Heap} {locs : List Loc} {M : MS} (C : MC p s m args meth c D cI cZ cX5_closed 3 (some .int)) (hR : 0 ≤ R.frames ∧ 0 ≤ R.locals) {x2 : Int} {res : (Int) ⊕ (Int)} (hf : m_closed_2s M x2 = some res) (hZ : ZM D cI cZ mo ad s.heap M H locs) {ls : Array Slot} (hl : lv_has ls 3 [(0, .ref mo), (2, .int (zI x2))]) (hK : (Sum.elim (fun z => ∀ (H : Heap) (locs : List Loc) (ls : Array Slot), ZM D cI cZ mo ad s.heap M H locs → lv_has ls 3 [(0, .ref mo), (2, .int (zI z))] → W p l e R s m args below meth c H locs 0 0 Q (F0 m 2 ls [])) (fun r => KM below D cI cZ mo ad args s Q M (some (.int (zI r))))) res) : W p l e R s m args below meth c H locs 0 0 Q (F0 m 2 ls []) := by
  unfold m_closed_2s at hf
  have hx := C.1
  have hb := C.2.1
  have hts := C.2.2.2.2.2.2.1
  refine lv_iload_n hx hb dX5_closed_2 rfl (lv_at hl 1 rfl) ?_
  refine lv_aload_n hx hb dX5_closed_3 rfl (lv_at hl 0 rfl) ?_
  refine zm_geti C hZ 0 (by decide) rfl q1141 dX5_closed_4 ?_
  refine zl_icmp_ge (tgt := 29) hx hb dX5_closed_7 (by decide) (fun hc => ?_) (fun hc => ?_)
  · rw [if_pos hc] at hf
    refine lv_aload_n hx hb dX5_closed_10 rfl (lv_at hl 0 rfl) ?_
    refine zm_geta C hZ 1 (by decide) (by decide) q1142 dX5_closed_11 ?_
    refine lv_iload_n hx hb dX5_closed_14 rfl (lv_at hl 1 rfl) ?_
    obtain ⟨hg, hf⟩ := gd_inv hf
    refine zm_iald C hZ 1 (by decide) rfl rfl hg dX5_closed_15 ?_
    refine zl_bipush hx hb dX5_closed_16 (by decide) ?_
    refine zl_icmp_ne (tgt := 23) hx hb dX5_closed_18 (by decide) (fun hc => ?_) (fun hc => ?_)
    · rw [if_pos hc] at hf
      refine lv_iload_n hx hb dX5_closed_21 rfl (lv_at hl 1 rfl) ?_
      obtain rfl := Option.some.inj hf
      exact zm_iret C hZ hK dX5_closed_22
    · rw [if_neg hc] at hf
      refine zl_iinc (x := x2) (n := 1) (lv' := [(2, .int (zI (x2 + 1))), (0, .ref mo)]) (k := 1) hx hb dX5_closed_23 hl rfl (by decide) rfl (fun ls hl => ?_)
      refine lv_goto (tgt := 2) hx hb dX5_closed_26 (by decide) ?_
      obtain rfl := Option.some.inj hf
      exact hK _ _ _ hZ (lv_sub hl [1, 0] rfl)
  · rw [if_neg hc] at hf
    refine zl_iconst hx hb dX5_closed_29 ?_
    obtain rfl := Option.some.inj hf
    exact zm_iret C hZ hK dX5_closed_30

theorem w_closed_2 {p : Program} {l : Launch} {e : Env} {R : Room} {s : State} {m : MethodId} {args : Array Value} {below : List Frame} {meth : Method} {c : Code} {Q : State → Prop} {D : va_G} {cI cZ : ClassId} {mo : Nat} {ad : Nat → Nat} {H : Heap} {locs : List Loc} {M : MS} (C : MC p s m args meth c D cI cZ cX5_closed 3 (some .int)) (hR : 0 ≤ R.frames ∧ 0 ≤ R.locals) {x2 : Int} {res : Int} (hf : m_closed_2 M x2 = some res) (hZ : ZM D cI cZ mo ad s.heap M H locs) {ls : Array Slot} (hl : lv_has ls 3 [(0, .ref mo), (2, .int (zI x2))]) (hK : KM below D cI cZ mo ad args s Q M (some (.int (zI res)))) : W p l e R s m args below meth c H locs 0 0 Q (F0 m 2 ls []) := by
  unfold m_closed_2 at hf
  refine iter_ind (P := fun z r => ∀ (H : Heap) (locs : List Loc) (ls : Array Slot), ZM D cI cZ mo ad s.heap M H locs → lv_has ls 3 [(0, .ref mo), (2, .int (zI z))] → KM below D cI cZ mo ad args s Q M (some (.int (zI r))) → W p l e R s m args below meth c H locs 0 0 Q (F0 m 2 ls [])) ?_ ?_ hf H locs ls hZ hl hK
  · intro z r h1 H locs ls hZ hl hK; exact w_closed_2s C hR h1 hZ hl hK
  · intro z z1 r h1 ih H locs ls hZ hl hK; exact w_closed_2s C hR h1 hZ hl (fun H locs ls hZ hl => ih H locs ls hZ hl hK)

theorem w_closed {p : Program} {l : Launch} {e : Env} {R : Room} {s : State} {m : MethodId} {args : Array Value} {below : List Frame} {meth : Method} {c : Code} {Q : State → Prop} {D : va_G} {cI cZ : ClassId} {mo : Nat} {ad : Nat → Nat} {H : Heap} {locs : List Loc} {M : MS} (C : MC p s m args meth c D cI cZ cX5_closed 3 (some .int)) (hR : 0 ≤ R.frames ∧ 0 ≤ R.locals) {x1 : Int} {res : Int} (hf : m_closed M x1 = some res) (hZ : ZM D cI cZ mo ad s.heap M H locs) {ls : Array Slot} (hl : lv_has ls 3 [(0, .ref mo), (1, .int (zI x1))]) (hK : KM below D cI cZ mo ad args s Q M (some (.int (zI res)))) : W p l e R s m args below meth c H locs 0 0 Q (F0 m 0 ls []) := by
  unfold m_closed at hf
  have hx := C.1
  have hb := C.2.1
  have hts := C.2.2.2.2.2.2.1
  refine lv_iload_n hx hb dX5_closed_0 rfl (lv_at hl 1 rfl) ?_
  refine lv_istore_n (lv' := [(2, .int (zI x1)), (0, .ref mo), (1, .int (zI x1))]) hx hb dX5_closed_1 rfl hl (by decide) rfl (fun ls hl => ?_)
  exact w_closed_2 C hR hf hZ (lv_sub hl [1, 0] rfl) hK

theorem met_closed (l : Launch) (D : va_G) (cI cZ : ClassId) (mo : Nat) (ad : Nat → Nat) {M : MS} {x1 : Int} {res : Int} (hf : m_closed M x1 = some res) : Met l yX5_closed (ws_ yX5_closed cX5_closed 3 (some .int)) ({ frames := 0, cells := 0, slots := 0, locals := 0 }) (PM D cI cZ mo ad M [.int (zI x1)]) (QM D cI cZ mo ad M (some (.int (zI res)))) 0 0 (MA mo ad) := by
  refine Met.ofW (cc := cX5_closed) (maxL := 3) (ret := (some .int)) (by decide) rfl ?_
  intro p e s m args below meth c s₁ B hml hv
  obtain ⟨rfl, hRM, hK0⟩ := hv
  have hts := atoms_spec (ws := ws_ yX5_closed cX5_closed 3 (some .int)) B.pre
  have hts : ∀ w ∈ lw_all, w.before _ s = true := fun w h => hts w (List.mem_cons_of_mem _ h)
  have C : MC p s m _ meth c D cI cZ cX5_closed 3 (some .int) := ⟨B.exec, B.bytes, B.returns, B.notSynchronized, hml, findClass_of_methodNamed B.named, hts, hK0⟩
  have hZ : ZM D cI cZ mo ad s.heap M s.heap [] := ⟨hRM, rfl, fun _ _ => rfl, fun _ h => by cases h⟩
  have hl := lv_entry ([.ref mo, .int (zI x1)]) (n := 3) (Nat.le_of_ble_eq_true rfl)
  rw [lg_entry_eq]
  generalize (lg_sl ([.ref mo, .int (zI x1)]) ++ List.replicate (3 - (lg_sl ([.ref mo, .int (zI x1)])).length) Slot.unset).toArray = ls at hl ⊢
  have hl : lv_has ls 3 [(0, .ref mo), (1, .int (zI x1))] := hl
  exact w_closed C ⟨Nat.le_refl _, Nat.le_refl _⟩ hf hZ hl rfl

theorem w_capital {p : Program} {l : Launch} {e : Env} {R : Room} {s : State} {m : MethodId} {args : Array Value} {below : List Frame} {meth : Method} {c : Code} {Q : State → Prop} (C : SC p s m args meth c cX5_capital 1 (some .boolean)) (hR : 0 ≤ R.frames ∧ 0 ≤ R.locals) {x0 : Int} {res : Int} (hf : m_capital x0 = some res) {ls : Array Slot} (hl : lv_has ls 1 [(0, .int (zI x0))]) (hK : KS below args s Q (some (.int (zI res)))) : W p l e R s m args below meth c s.heap [] 0 0 Q (F0 m 0 ls []) := by
  unfold m_capital at hf
  have hx := C.1
  have hb := C.2.1
  have hts := C.2.2.2.2.2.2
  refine lv_iload_n hx hb dX5_capital_0 rfl (lv_at hl 0 rfl) ?_
  refine zl_bipush hx hb dX5_capital_1 (by decide) ?_
  refine zl_icmp_lt (tgt := 16) hx hb dX5_capital_3 (by decide) (fun hc => ?_) (fun hc => ?_)
  · rw [if_pos hc] at hf
    refine zl_iconst hx hb dX5_capital_16 ?_
    obtain rfl := Option.some.inj hf
    exact zs_zret C zisB_0 hK dX5_capital_17
  · rw [if_neg hc] at hf
    refine lv_iload_n hx hb dX5_capital_6 rfl (lv_at hl 0 rfl) ?_
    refine zl_bipush hx hb dX5_capital_7 (by decide) ?_
    refine zl_icmp_gt (tgt := 16) hx hb dX5_capital_9 (by decide) (fun hc => ?_) (fun hc => ?_)
    · rw [if_pos hc] at hf
      refine zl_iconst hx hb dX5_capital_16 ?_
      obtain rfl := Option.some.inj hf
      exact zs_zret C zisB_0 hK dX5_capital_17
    · rw [if_neg hc] at hf
      refine zl_iconst hx hb dX5_capital_12 ?_
      refine lv_goto (tgt := 17) hx hb dX5_capital_13 (by decide) ?_
      obtain rfl := Option.some.inj hf
      exact zs_zret C zisB_1 hK dX5_capital_17

theorem met_capital (l : Launch) {x0 : Int} {res : Int} (hf : m_capital x0 = some res) : Met l yX5_capital (ws_ yX5_capital cX5_capital 1 (some .boolean)) ({ frames := 0, cells := 0, slots := 0, locals := 0 }) (va_Pc [.int (zI x0)] (fun _ => True)) (QS (some (.int (zI res)))) 0 0 (fun _ => False) := by
  refine Met.ofW (cc := cX5_capital) (maxL := 1) (ret := (some .boolean)) (by decide) rfl ?_
  intro p e s m args below meth c s₁ B hml hv
  obtain ⟨rfl, -⟩ := hv
  have hts := atoms_spec (ws := ws_ yX5_capital cX5_capital 1 (some .boolean)) B.pre
  have hts : ∀ w ∈ lw_all, w.before _ s = true := fun w h => hts w (List.mem_cons_of_mem _ h)
  have C : SC p s m _ meth c cX5_capital 1 (some .boolean) := ⟨B.exec, B.bytes, B.returns, B.notSynchronized, hml, findClass_of_methodNamed B.named, hts⟩
  have hl := lv_entry ([.int (zI x0)]) (n := 1) (Nat.le_of_ble_eq_true rfl)
  rw [lg_entry_eq]
  generalize (lg_sl ([.int (zI x0)]) ++ List.replicate (1 - (lg_sl ([.int (zI x0)])).length) Slot.unset).toArray = ls at hl ⊢
  have hl : lv_has ls 1 [(0, .int (zI x0))] := hl
  exact w_capital C ⟨Nat.le_refl _, Nat.le_refl _⟩ hf hl rfl

theorem w_bit {p : Program} {l : Launch} {e : Env} {R : Room} {s : State} {m : MethodId} {args : Array Value} {below : List Frame} {meth : Method} {c : Code} {Q : State → Prop} (C : SC p s m args meth c cX5_bit 1 (some .int)) (hR : 1 ≤ R.frames ∧ 20 ≤ R.locals) {x0 : Int} {res : Int} (hf : m_bit x0 = some res) {ls : Array Slot} (hl : lv_has ls 1 [(0, .int (zI x0))]) (hK : KS below args s Q (some (.int (zI res)))) : W p l e R s m args below meth c s.heap [] 0 0 Q (F0 m 0 ls []) := by
  unfold m_bit at hf
  have hx := C.1
  have hb := C.2.1
  have hts := C.2.2.2.2.2.2
  refine lv_iload_n hx hb dX5_bit_0 rfl (lv_at hl 0 rfl) ?_
  obtain ⟨y1, ey1, hf⟩ := bd_inv hf
  refine zs_callS C (n := 1) (rest := []) (met_small l ey1) (lw_S q1329 q1330 q107 q1331) rfl rfl (by decide +kernel) ⟨Nat.le_trans (by decide) hR.1, Nat.le_trans (by decide) hR.2⟩ rfl hl.1 rfl (Nat.le_of_ble_eq_true rfl) dX5_bit_1 (Nat.zero_le _) (Nat.zero_le _) ?_
  refine zl_if_eq (tgt := 16) hx hb dX5_bit_4 (by decide) (fun hc => ?_) (fun hc => ?_)
  · rw [if_pos hc] at hf
    refine zl_iconst hx hb dX5_bit_16 ?_
    obtain rfl := Option.some.inj hf
    exact zs_iret C hK dX5_bit_17
  · rw [if_neg hc] at hf
    refine zl_iconst hx hb dX5_bit_7 ?_
    refine lv_iload_n hx hb dX5_bit_8 rfl (lv_at hl 0 rfl) ?_
    refine zl_bipush hx hb dX5_bit_9 (by decide) ?_
    refine zl_isub hx hb dX5_bit_11 ?_
    refine zl_ishl hx hb dX5_bit_12 ?_
    refine lv_goto (tgt := 17) hx hb dX5_bit_13 (by decide) ?_
    obtain rfl := Option.some.inj hf
    exact zs_iret C hK dX5_bit_17

theorem met_bit (l : Launch) {x0 : Int} {res : Int} (hf : m_bit x0 = some res) : Met l yX5_bit (ws_ yX5_bit cX5_bit 1 (some .int)) ({ frames := 1, cells := 0, slots := 0, locals := 20 }) (va_Pc [.int (zI x0)] (fun _ => True)) (QS (some (.int (zI res)))) 0 0 (fun _ => False) := by
  refine Met.ofW (cc := cX5_bit) (maxL := 1) (ret := (some .int)) (by decide) rfl ?_
  intro p e s m args below meth c s₁ B hml hv
  obtain ⟨rfl, -⟩ := hv
  have hts := atoms_spec (ws := ws_ yX5_bit cX5_bit 1 (some .int)) B.pre
  have hts : ∀ w ∈ lw_all, w.before _ s = true := fun w h => hts w (List.mem_cons_of_mem _ h)
  have C : SC p s m _ meth c cX5_bit 1 (some .int) := ⟨B.exec, B.bytes, B.returns, B.notSynchronized, hml, findClass_of_methodNamed B.named, hts⟩
  have hl := lv_entry ([.int (zI x0)]) (n := 1) (Nat.le_of_ble_eq_true rfl)
  rw [lg_entry_eq]
  generalize (lg_sl ([.int (zI x0)]) ++ List.replicate (1 - (lg_sl ([.int (zI x0)])).length) Slot.unset).toArray = ls at hl ⊢
  have hl : lv_has ls 1 [(0, .int (zI x0))] := hl
  exact w_bit C ⟨Nat.le_refl _, Nat.le_refl _⟩ hf hl rfl

theorem w_topmost_32 {p : Program} {l : Launch} {e : Env} {R : Room} {s : State} {m : MethodId} {args : Array Value} {below : List Frame} {meth : Method} {c : Code} {Q : State → Prop} {D : va_G} {cI cZ : ClassId} {mo : Nat} {ad : Nat → Nat} {H : Heap} {locs : List Loc} {M : MS} (C : MC p s m args meth c D cI cZ cX5_topmost 4 (some .int)) (hR : 0 ≤ R.frames ∧ 0 ≤ R.locals) {x1 x3 t0 : Int} {res : (Int × Int) ⊕ (Int)} (hf : m_topmost_32 M x1 x3 t0 = some res) (hZ : ZM D cI cZ mo ad s.heap M H locs) {ls : Array Slot} (hl : lv_has ls 4 [(0, .ref mo), (1, .int (zI x1)), (3, .int (zI x3))]) (hK : (Sum.elim (fun z => ∀ (H : Heap) (locs : List Loc) (ls : Array Slot), ZM D cI cZ mo ad s.heap M H locs → lv_has ls 4 [(0, .ref mo), (1, .int (zI x1)), (2, .int (zI z.1)), (3, .int (zI z.2))] → W p l e R s m args below meth c H locs 0 0 Q (F0 m 4 ls [])) (fun r => KM below D cI cZ mo ad args s Q M (some (.int (zI r))))) res) : W p l e R s m args below meth c H locs 0 0 Q (F0 m 32 ls [.int (zI t0)]) := by
  unfold m_topmost_32 at hf
  have hx := C.1
  have hb := C.2.1
  have hts := C.2.2.2.2.2.2.1
  refine lv_istore_n (lv' := [(2, .int (zI t0)), (0, .ref mo), (1, .int (zI x1)), (3, .int (zI x3))]) hx hb dX5_topmost_32 rfl hl (by decide) rfl (fun ls hl => ?_)
  refine zl_iinc (x := x3) (n := 1) (lv' := [(3, .int (zI (x3 + 1))), (2, .int (zI t0)), (0, .ref mo), (1, .int (zI x1))]) (k := 3) hx hb dX5_topmost_33 hl rfl (by decide) rfl (fun ls hl => ?_)
  refine lv_goto (tgt := 4) hx hb dX5_topmost_36 (by decide) ?_
  obtain rfl := Option.some.inj hf
  exact hK _ _ _ hZ (lv_sub hl [2, 3, 1, 0] rfl)

theorem w_topmost_4s {p : Program} {l : Launch} {e : Env} {R : Room} {s : State} {m : MethodId} {args : Array Value} {below : List Frame} {meth : Method} {c : Code} {Q : State → Prop} {D : va_G} {cI cZ : ClassId} {mo : Nat} {ad : Nat → Nat} {H : Heap} {locs : List Loc} {M : MS} (C : MC p s m args meth c D cI cZ cX5_topmost 4 (some .int)) (hR : 0 ≤ R.frames ∧ 0 ≤ R.locals) {x1 x2 x3 : Int} {res : (Int × Int) ⊕ (Int)} (hf : m_topmost_4s M x1 x2 x3 = some res) (hZ : ZM D cI cZ mo ad s.heap M H locs) {ls : Array Slot} (hl : lv_has ls 4 [(0, .ref mo), (1, .int (zI x1)), (2, .int (zI x2)), (3, .int (zI x3))]) (hK : (Sum.elim (fun z => ∀ (H : Heap) (locs : List Loc) (ls : Array Slot), ZM D cI cZ mo ad s.heap M H locs → lv_has ls 4 [(0, .ref mo), (1, .int (zI x1)), (2, .int (zI z.1)), (3, .int (zI z.2))] → W p l e R s m args below meth c H locs 0 0 Q (F0 m 4 ls [])) (fun r => KM below D cI cZ mo ad args s Q M (some (.int (zI r))))) res) : W p l e R s m args below meth c H locs 0 0 Q (F0 m 4 ls []) := by
  unfold m_topmost_4s at hf
  have hx := C.1
  have hb := C.2.1
  have hts := C.2.2.2.2.2.2.1
  refine lv_iload_n hx hb dX5_topmost_4 rfl (lv_at hl 3 rfl) ?_
  refine lv_aload_n hx hb dX5_topmost_5 rfl (lv_at hl 0 rfl) ?_
  refine zm_geti C hZ 13 (by decide) rfl q1154 dX5_topmost_6 ?_
  refine zl_icmp_ge (tgt := 39) hx hb dX5_topmost_9 (by decide) (fun hc => ?_) (fun hc => ?_)
  · rw [if_pos hc] at hf
    refine lv_aload_n hx hb dX5_topmost_12 rfl (lv_at hl 0 rfl) ?_
    refine zm_geta C hZ 8 (by decide) (by decide) q1149 dX5_topmost_13 ?_
    refine lv_aload_n hx hb dX5_topmost_16 rfl (lv_at hl 0 rfl) ?_
    refine zm_geta C hZ 12 (by decide) (by decide) q1153 dX5_topmost_17 ?_
    refine lv_iload_n hx hb dX5_topmost_20 rfl (lv_at hl 3 rfl) ?_
    obtain ⟨hg, hf⟩ := gd_inv hf
    refine zm_iald C hZ 12 (by decide) rfl rfl hg dX5_topmost_21 ?_
    obtain ⟨hg, hf⟩ := gd_inv hf
    refine zm_iald C hZ 8 (by decide) rfl rfl hg dX5_topmost_22 ?_
    refine lv_iload_n hx hb dX5_topmost_23 rfl (lv_at hl 1 rfl) ?_
    refine zl_icmp_ne (tgt := 31) hx hb dX5_topmost_24 (by decide) (fun hc => ?_) (fun hc => ?_)
    · rw [if_pos hc] at hf
      refine lv_iload_n hx hb dX5_topmost_27 rfl (lv_at hl 3 rfl) ?_
      refine lv_goto (tgt := 32) hx hb dX5_topmost_28 (by decide) ?_
      exact w_topmost_32 C hR hf hZ (lv_sub hl [0, 1, 3] rfl) hK
    · rw [if_neg hc] at hf
      refine lv_iload_n hx hb dX5_topmost_31 rfl (lv_at hl 2 rfl) ?_
      exact w_topmost_32 C hR hf hZ (lv_sub hl [0, 1, 3] rfl) hK
  · rw [if_neg hc] at hf
    refine lv_iload_n hx hb dX5_topmost_39 rfl (lv_at hl 2 rfl) ?_
    obtain rfl := Option.some.inj hf
    exact zm_iret C hZ hK dX5_topmost_40

theorem w_topmost_4 {p : Program} {l : Launch} {e : Env} {R : Room} {s : State} {m : MethodId} {args : Array Value} {below : List Frame} {meth : Method} {c : Code} {Q : State → Prop} {D : va_G} {cI cZ : ClassId} {mo : Nat} {ad : Nat → Nat} {H : Heap} {locs : List Loc} {M : MS} (C : MC p s m args meth c D cI cZ cX5_topmost 4 (some .int)) (hR : 0 ≤ R.frames ∧ 0 ≤ R.locals) {x1 x2 x3 : Int} {res : Int} (hf : m_topmost_4 M x1 x2 x3 = some res) (hZ : ZM D cI cZ mo ad s.heap M H locs) {ls : Array Slot} (hl : lv_has ls 4 [(0, .ref mo), (1, .int (zI x1)), (2, .int (zI x2)), (3, .int (zI x3))]) (hK : KM below D cI cZ mo ad args s Q M (some (.int (zI res)))) : W p l e R s m args below meth c H locs 0 0 Q (F0 m 4 ls []) := by
  unfold m_topmost_4 at hf
  refine iter_ind (P := fun z r => ∀ (H : Heap) (locs : List Loc) (ls : Array Slot), ZM D cI cZ mo ad s.heap M H locs → lv_has ls 4 [(0, .ref mo), (1, .int (zI x1)), (2, .int (zI z.1)), (3, .int (zI z.2))] → KM below D cI cZ mo ad args s Q M (some (.int (zI r))) → W p l e R s m args below meth c H locs 0 0 Q (F0 m 4 ls [])) ?_ ?_ hf H locs ls hZ hl hK
  · intro z r h1 H locs ls hZ hl hK; exact w_topmost_4s C hR h1 hZ hl hK
  · intro z z1 r h1 ih H locs ls hZ hl hK; exact w_topmost_4s C hR h1 hZ hl (fun H locs ls hZ hl => ih H locs ls hZ hl hK)

theorem w_topmost {p : Program} {l : Launch} {e : Env} {R : Room} {s : State} {m : MethodId} {args : Array Value} {below : List Frame} {meth : Method} {c : Code} {Q : State → Prop} {D : va_G} {cI cZ : ClassId} {mo : Nat} {ad : Nat → Nat} {H : Heap} {locs : List Loc} {M : MS} (C : MC p s m args meth c D cI cZ cX5_topmost 4 (some .int)) (hR : 0 ≤ R.frames ∧ 0 ≤ R.locals) {x1 : Int} {res : Int} (hf : m_topmost M x1 = some res) (hZ : ZM D cI cZ mo ad s.heap M H locs) {ls : Array Slot} (hl : lv_has ls 4 [(0, .ref mo), (1, .int (zI x1))]) (hK : KM below D cI cZ mo ad args s Q M (some (.int (zI res)))) : W p l e R s m args below meth c H locs 0 0 Q (F0 m 0 ls []) := by
  unfold m_topmost at hf
  have hx := C.1
  have hb := C.2.1
  have hts := C.2.2.2.2.2.2.1
  refine zl_iconst hx hb dX5_topmost_0 ?_
  refine lv_istore_n (lv' := [(2, .int (zI (-1))), (0, .ref mo), (1, .int (zI x1))]) hx hb dX5_topmost_1 rfl hl (by decide) rfl (fun ls hl => ?_)
  refine zl_iconst hx hb dX5_topmost_2 ?_
  refine lv_istore_n (lv' := [(3, .int (zI 1)), (2, .int (zI (-1))), (0, .ref mo), (1, .int (zI x1))]) hx hb dX5_topmost_3 rfl hl (by decide) rfl (fun ls hl => ?_)
  exact w_topmost_4 C hR hf hZ (lv_sub hl [2, 3, 1, 0] rfl) hK

theorem met_topmost (l : Launch) (D : va_G) (cI cZ : ClassId) (mo : Nat) (ad : Nat → Nat) {M : MS} {x1 : Int} {res : Int} (hf : m_topmost M x1 = some res) : Met l yX5_topmost (ws_ yX5_topmost cX5_topmost 4 (some .int)) ({ frames := 0, cells := 0, slots := 0, locals := 0 }) (PM D cI cZ mo ad M [.int (zI x1)]) (QM D cI cZ mo ad M (some (.int (zI res)))) 0 0 (MA mo ad) := by
  refine Met.ofW (cc := cX5_topmost) (maxL := 4) (ret := (some .int)) (by decide) rfl ?_
  intro p e s m args below meth c s₁ B hml hv
  obtain ⟨rfl, hRM, hK0⟩ := hv
  have hts := atoms_spec (ws := ws_ yX5_topmost cX5_topmost 4 (some .int)) B.pre
  have hts : ∀ w ∈ lw_all, w.before _ s = true := fun w h => hts w (List.mem_cons_of_mem _ h)
  have C : MC p s m _ meth c D cI cZ cX5_topmost 4 (some .int) := ⟨B.exec, B.bytes, B.returns, B.notSynchronized, hml, findClass_of_methodNamed B.named, hts, hK0⟩
  have hZ : ZM D cI cZ mo ad s.heap M s.heap [] := ⟨hRM, rfl, fun _ _ => rfl, fun _ h => by cases h⟩
  have hl := lv_entry ([.ref mo, .int (zI x1)]) (n := 4) (Nat.le_of_ble_eq_true rfl)
  rw [lg_entry_eq]
  generalize (lg_sl ([.ref mo, .int (zI x1)]) ++ List.replicate (4 - (lg_sl ([.ref mo, .int (zI x1)])).length) Slot.unset).toArray = ls at hl ⊢
  have hl : lv_has ls 4 [(0, .ref mo), (1, .int (zI x1))] := hl
  exact w_topmost C ⟨Nat.le_refl _, Nat.le_refl _⟩ hf hZ hl rfl

theorem w_named {p : Program} {l : Launch} {e : Env} {R : Room} {s : State} {m : MethodId} {args : Array Value} {below : List Frame} {meth : Method} {c : Code} {Q : State → Prop} {D : va_G} {cI cZ : ClassId} {mo : Nat} {ad : Nat → Nat} {H : Heap} {locs : List Loc} {M : MS} (C : MC p s m args meth c D cI cZ cX5_named 3 (some .boolean)) (hR : 2 ≤ R.frames ∧ 40 ≤ R.locals) {x1 x2 : Int} {res : Int} (hf : m_named M x1 x2 = some res) (hZ : ZM D cI cZ mo ad s.heap M H locs) {ls : Array Slot} (hl : lv_has ls 3 [(0, .ref mo), (1, .int (zI x1)), (2, .int (zI x2))]) (hK : KM below D cI cZ mo ad args s Q M (some (.int (zI res)))) : W p l e R s m args below meth c H locs 0 0 Q (F0 m 0 ls []) := by
  unfold m_named at hf
  have hx := C.1
  have hb := C.2.1
  have hts := C.2.2.2.2.2.2.1
  refine lv_aload_n hx hb dX5_named_0 rfl (lv_at hl 0 rfl) ?_
  refine zm_geta C hZ 8 (by decide) (by decide) q1149 dX5_named_1 ?_
  refine lv_iload_n hx hb dX5_named_4 rfl (lv_at hl 1 rfl) ?_
  obtain ⟨hg, hf⟩ := gd_inv hf
  refine zm_iald C hZ 8 (by decide) rfl rfl hg dX5_named_5 ?_
  obtain ⟨y1, ey1, hf⟩ := bd_inv hf
  refine zm_callS C (n := 1) (rest := []) (met_bit l ey1) (lw_S q1351 q1352 q107 q1353) rfl rfl (by decide +kernel) ⟨Nat.le_trans (by decide) hR.1, Nat.le_trans (by decide) hR.2⟩ rfl hl.1 rfl (Nat.le_of_ble_eq_true rfl) dX5_named_6 (Nat.zero_le _) (Nat.zero_le _) ?_
  refine lv_iload_n hx hb dX5_named_9 rfl (lv_at hl 2 rfl) ?_
  refine zl_iand hx hb dX5_named_10 ?_
  refine zl_if_eq (tgt := 18) hx hb dX5_named_11 (by decide) (fun hc => ?_) (fun hc => ?_)
  · rw [if_pos hc] at hf
    refine zl_iconst hx hb dX5_named_18 ?_
    obtain rfl := Option.some.inj hf
    exact zm_zret C hZ zisB_0 hK dX5_named_19
  · rw [if_neg hc] at hf
    refine zl_iconst hx hb dX5_named_14 ?_
    refine lv_goto (tgt := 19) hx hb dX5_named_15 (by decide) ?_
    obtain rfl := Option.some.inj hf
    exact zm_zret C hZ zisB_1 hK dX5_named_19

theorem met_named (l : Launch) (D : va_G) (cI cZ : ClassId) (mo : Nat) (ad : Nat → Nat) {M : MS} {x1 x2 : Int} {res : Int} (hf : m_named M x1 x2 = some res) : Met l yX5_named (ws_ yX5_named cX5_named 3 (some .boolean)) ({ frames := 2, cells := 0, slots := 0, locals := 40 }) (PM D cI cZ mo ad M [.int (zI x1), .int (zI x2)]) (QM D cI cZ mo ad M (some (.int (zI res)))) 0 0 (MA mo ad) := by
  refine Met.ofW (cc := cX5_named) (maxL := 3) (ret := (some .boolean)) (by decide) rfl ?_
  intro p e s m args below meth c s₁ B hml hv
  obtain ⟨rfl, hRM, hK0⟩ := hv
  have hts := atoms_spec (ws := ws_ yX5_named cX5_named 3 (some .boolean)) B.pre
  have hts : ∀ w ∈ lw_all, w.before _ s = true := fun w h => hts w (List.mem_cons_of_mem _ h)
  have C : MC p s m _ meth c D cI cZ cX5_named 3 (some .boolean) := ⟨B.exec, B.bytes, B.returns, B.notSynchronized, hml, findClass_of_methodNamed B.named, hts, hK0⟩
  have hZ : ZM D cI cZ mo ad s.heap M s.heap [] := ⟨hRM, rfl, fun _ _ => rfl, fun _ h => by cases h⟩
  have hl := lv_entry ([.ref mo, .int (zI x1), .int (zI x2)]) (n := 3) (Nat.le_of_ble_eq_true rfl)
  rw [lg_entry_eq]
  generalize (lg_sl ([.ref mo, .int (zI x1), .int (zI x2)]) ++ List.replicate (3 - (lg_sl ([.ref mo, .int (zI x1), .int (zI x2)])).length) Slot.unset).toArray = ls at hl ⊢
  have hl : lv_has ls 3 [(0, .ref mo), (1, .int (zI x1)), (2, .int (zI x2))] := hl
  exact w_named C ⟨Nat.le_refl _, Nat.le_refl _⟩ hf hZ hl rfl

theorem w_above_40 {p : Program} {l : Launch} {e : Env} {R : Room} {s : State} {m : MethodId} {args : Array Value} {below : List Frame} {meth : Method} {c : Code} {Q : State → Prop} {D : va_G} {cI cZ : ClassId} {mo : Nat} {ad : Nat → Nat} {H : Heap} {locs : List Loc} {M : MS} (C : MC p s m args meth c D cI cZ cX5_above 5 (some .boolean)) (hR : 3 ≤ R.frames ∧ 62 ≤ R.locals) {x2 x4 t0 : Int} {res : (Int × Int) ⊕ (Int)} (hf : m_above_40 M x2 x4 t0 = some res) (hZ : ZM D cI cZ mo ad s.heap M H locs) {ls : Array Slot} (hl : lv_has ls 5 [(0, .ref mo), (2, .int (zI x2)), (4, .int (zI x4))]) (hK : (Sum.elim (fun z => ∀ (H : Heap) (locs : List Loc) (ls : Array Slot), ZM D cI cZ mo ad s.heap M H locs → lv_has ls 5 [(0, .ref mo), (2, .int (zI x2)), (3, .int (zI z.1)), (4, .int (zI z.2))] → W p l e R s m args below meth c H locs 0 0 Q (F0 m 7 ls [])) (fun r => KM below D cI cZ mo ad args s Q M (some (.int (zI r))))) res) : W p l e R s m args below meth c H locs 0 0 Q (F0 m 40 ls [.int (zI t0)]) := by
  unfold m_above_40 at hf
  have hx := C.1
  have hb := C.2.1
  have hts := C.2.2.2.2.2.2.1
  refine lv_istore_n (lv' := [(3, .int (zI t0)), (0, .ref mo), (2, .int (zI x2)), (4, .int (zI x4))]) hx hb dX5_above_40 rfl hl (by decide) rfl (fun ls hl => ?_)
  refine zl_iinc (x := x4) (n := 1) (lv' := [(4, .int (zI (x4 + 1))), (3, .int (zI t0)), (0, .ref mo), (2, .int (zI x2))]) (k := 3) hx hb dX5_above_41 hl rfl (by decide) rfl (fun ls hl => ?_)
  refine lv_goto (tgt := 7) hx hb dX5_above_44 (by decide) ?_
  obtain rfl := Option.some.inj hf
  exact hK _ _ _ hZ (lv_sub hl [2, 3, 1, 0] rfl)

theorem w_above_35 {p : Program} {l : Launch} {e : Env} {R : Room} {s : State} {m : MethodId} {args : Array Value} {below : List Frame} {meth : Method} {c : Code} {Q : State → Prop} {D : va_G} {cI cZ : ClassId} {mo : Nat} {ad : Nat → Nat} {H : Heap} {locs : List Loc} {M : MS} (C : MC p s m args meth c D cI cZ cX5_above 5 (some .boolean)) (hR : 3 ≤ R.frames ∧ 62 ≤ R.locals) {x2 x4 : Int} {res : (Int × Int) ⊕ (Int)} (hf : m_above_35 M x2 x4 = some res) (hZ : ZM D cI cZ mo ad s.heap M H locs) {ls : Array Slot} (hl : lv_has ls 5 [(0, .ref mo), (2, .int (zI x2)), (4, .int (zI x4))]) (hK : (Sum.elim (fun z => ∀ (H : Heap) (locs : List Loc) (ls : Array Slot), ZM D cI cZ mo ad s.heap M H locs → lv_has ls 5 [(0, .ref mo), (2, .int (zI x2)), (3, .int (zI z.1)), (4, .int (zI z.2))] → W p l e R s m args below meth c H locs 0 0 Q (F0 m 7 ls [])) (fun r => KM below D cI cZ mo ad args s Q M (some (.int (zI r))))) res) : W p l e R s m args below meth c H locs 0 0 Q (F0 m 35 ls []) := by
  unfold m_above_35 at hf
  have hx := C.1
  have hb := C.2.1
  have hts := C.2.2.2.2.2.2.1
  refine zl_iconst hx hb dX5_above_35 ?_
  refine lv_goto (tgt := 40) hx hb dX5_above_36 (by decide) ?_
  exact w_above_40 C hR hf hZ (lv_sub hl [0, 1, 2] rfl) hK

theorem w_above_7s {p : Program} {l : Launch} {e : Env} {R : Room} {s : State} {m : MethodId} {args : Array Value} {below : List Frame} {meth : Method} {c : Code} {Q : State → Prop} {D : va_G} {cI cZ : ClassId} {mo : Nat} {ad : Nat → Nat} {H : Heap} {locs : List Loc} {M : MS} (C : MC p s m args meth c D cI cZ cX5_above 5 (some .boolean)) (hR : 3 ≤ R.frames ∧ 62 ≤ R.locals) {x2 x3 x4 : Int} {res : (Int × Int) ⊕ (Int)} (hf : m_above_7s M x2 x3 x4 = some res) (hZ : ZM D cI cZ mo ad s.heap M H locs) {ls : Array Slot} (hl : lv_has ls 5 [(0, .ref mo), (2, .int (zI x2)), (3, .int (zI x3)), (4, .int (zI x4))]) (hK : (Sum.elim (fun z => ∀ (H : Heap) (locs : List Loc) (ls : Array Slot), ZM D cI cZ mo ad s.heap M H locs → lv_has ls 5 [(0, .ref mo), (2, .int (zI x2)), (3, .int (zI z.1)), (4, .int (zI z.2))] → W p l e R s m args below meth c H locs 0 0 Q (F0 m 7 ls [])) (fun r => KM below D cI cZ mo ad args s Q M (some (.int (zI r))))) res) : W p l e R s m args below meth c H locs 0 0 Q (F0 m 7 ls []) := by
  unfold m_above_7s at hf
  have hx := C.1
  have hb := C.2.1
  have hts := C.2.2.2.2.2.2.1
  refine lv_iload hx hb dX5_above_7 (lv_at hl 3 rfl) ?_
  refine lv_aload_n hx hb dX5_above_9 rfl (lv_at hl 0 rfl) ?_
  refine zm_geti C hZ 13 (by decide) rfl q1154 dX5_above_10 ?_
  refine zl_icmp_ge (tgt := 47) hx hb dX5_above_13 (by decide) (fun hc => ?_) (fun hc => ?_)
  · rw [if_pos hc] at hf
    refine lv_iload_n hx hb dX5_above_16 rfl (lv_at hl 2 rfl) ?_
    refine zl_if_ne (tgt := 35) hx hb dX5_above_17 (by decide) (fun hc => ?_) (fun hc => ?_)
    · rw [if_pos hc] at hf
      refine lv_aload_n hx hb dX5_above_20 rfl (lv_at hl 0 rfl) ?_
      refine lv_aload_n hx hb dX5_above_21 rfl (lv_at hl 0 rfl) ?_
      refine zm_geta C hZ 12 (by decide) (by decide) q1153 dX5_above_22 ?_
      refine lv_iload hx hb dX5_above_25 (lv_at hl 3 rfl) ?_
      obtain ⟨hg, hf⟩ := gd_inv hf
      refine zm_iald C hZ 12 (by decide) rfl rfl hg dX5_above_27 ?_
      refine lv_iload_n hx hb dX5_above_28 rfl (lv_at hl 1 rfl) ?_
      obtain ⟨y2, ey2, hf⟩ := bd_inv hf
      refine zm_callV C hZ (n := 2) (rest := []) (met_named l D cI cZ mo ad ey2) (lw_V q1367 q1369 qs46 q107 q1370) rfl rfl (by decide +kernel) ⟨Nat.le_trans (by decide) hR.1, Nat.le_trans (by decide) hR.2⟩ rfl hl.1 rfl (Nat.le_of_ble_eq_true rfl) dX5_above_29 (fun H locs hZ => ?_)
      refine zl_if_eq (tgt := 39) hx hb dX5_above_32 (by decide) (fun hc => ?_) (fun hc => ?_)
      · rw [if_pos hc] at hf
        refine zl_iconst hx hb dX5_above_39 ?_
        exact w_above_40 C hR hf hZ (lv_sub hl [0, 1, 3] rfl) hK
      · rw [if_neg hc] at hf
        exact w_above_35 C hR hf hZ (lv_sub hl [0, 1, 3] rfl) hK
    · rw [if_neg hc] at hf
      exact w_above_35 C hR hf hZ (lv_sub hl [0, 1, 3] rfl) hK
  · rw [if_neg hc] at hf
    refine lv_iload_n hx hb dX5_above_47 rfl (lv_at hl 2 rfl) ?_
    obtain ⟨hg, hf⟩ := gd_inv hf
    obtain rfl := Option.some.inj hf
    exact zm_zret C hZ hg hK dX5_above_48

theorem w_above_7 {p : Program} {l : Launch} {e : Env} {R : Room} {s : State} {m : MethodId} {args : Array Value} {below : List Frame} {meth : Method} {c : Code} {Q : State → Prop} {D : va_G} {cI cZ : ClassId} {mo : Nat} {ad : Nat → Nat} {H : Heap} {locs : List Loc} {M : MS} (C : MC p s m args meth c D cI cZ cX5_above 5 (some .boolean)) (hR : 3 ≤ R.frames ∧ 62 ≤ R.locals) {x2 x3 x4 : Int} {res : Int} (hf : m_above_7 M x2 x3 x4 = some res) (hZ : ZM D cI cZ mo ad s.heap M H locs) {ls : Array Slot} (hl : lv_has ls 5 [(0, .ref mo), (2, .int (zI x2)), (3, .int (zI x3)), (4, .int (zI x4))]) (hK : KM below D cI cZ mo ad args s Q M (some (.int (zI res)))) : W p l e R s m args below meth c H locs 0 0 Q (F0 m 7 ls []) := by
  unfold m_above_7 at hf
  refine iter_ind (P := fun z r => ∀ (H : Heap) (locs : List Loc) (ls : Array Slot), ZM D cI cZ mo ad s.heap M H locs → lv_has ls 5 [(0, .ref mo), (2, .int (zI x2)), (3, .int (zI z.1)), (4, .int (zI z.2))] → KM below D cI cZ mo ad args s Q M (some (.int (zI r))) → W p l e R s m args below meth c H locs 0 0 Q (F0 m 7 ls [])) ?_ ?_ hf H locs ls hZ hl hK
  · intro z r h1 H locs ls hZ hl hK; exact w_above_7s C hR h1 hZ hl hK
  · intro z z1 r h1 ih H locs ls hZ hl hK; exact w_above_7s C hR h1 hZ hl (fun H locs ls hZ hl => ih H locs ls hZ hl hK)

theorem w_above {p : Program} {l : Launch} {e : Env} {R : Room} {s : State} {m : MethodId} {args : Array Value} {below : List Frame} {meth : Method} {c : Code} {Q : State → Prop} {D : va_G} {cI cZ : ClassId} {mo : Nat} {ad : Nat → Nat} {H : Heap} {locs : List Loc} {M : MS} (C : MC p s m args meth c D cI cZ cX5_above 5 (some .boolean)) (hR : 3 ≤ R.frames ∧ 62 ≤ R.locals) {x1 x2 : Int} {res : Int} (hf : m_above M x1 x2 = some res) (hZ : ZM D cI cZ mo ad s.heap M H locs) {ls : Array Slot} (hl : lv_has ls 5 [(0, .ref mo), (1, .int (zI x1)), (2, .int (zI x2))]) (hK : KM below D cI cZ mo ad args s Q M (some (.int (zI res)))) : W p l e R s m args below meth c H locs 0 0 Q (F0 m 0 ls []) := by
  unfold m_above at hf
  have hx := C.1
  have hb := C.2.1
  have hts := C.2.2.2.2.2.2.1
  refine zl_iconst hx hb dX5_above_0 ?_
  refine lv_istore_n (lv' := [(3, .int (zI 0)), (0, .ref mo), (1, .int (zI x1)), (2, .int (zI x2))]) hx hb dX5_above_1 rfl hl (by decide) rfl (fun ls hl => ?_)
  refine lv_iload_n hx hb dX5_above_2 rfl (lv_at hl 2 rfl) ?_
  refine zl_iconst hx hb dX5_above_3 ?_
  refine zl_iadd hx hb dX5_above_4 ?_
  obtain ⟨y1, ey1, hf⟩ := bnd_inv hf
  refine zl_top ey1 ?_
  refine lv_istore (lv' := [(4, .int (zI y1)), (3, .int (zI 0)), (0, .ref mo), (1, .int (zI x1)), (2, .int (zI x2))]) hx hb dX5_above_5 hl (by decide) rfl (fun ls hl => ?_)
  exact w_above_7 C hR hf hZ (lv_sub hl [2, 4, 1, 0] rfl) hK

theorem met_above (l : Launch) (D : va_G) (cI cZ : ClassId) (mo : Nat) (ad : Nat → Nat) {M : MS} {x1 x2 : Int} {res : Int} (hf : m_above M x1 x2 = some res) : Met l yX5_above (ws_ yX5_above cX5_above 5 (some .boolean)) ({ frames := 3, cells := 0, slots := 0, locals := 62 }) (PM D cI cZ mo ad M [.int (zI x1), .int (zI x2)]) (QM D cI cZ mo ad M (some (.int (zI res)))) 0 0 (MA mo ad) := by
  refine Met.ofW (cc := cX5_above) (maxL := 5) (ret := (some .boolean)) (by decide) rfl ?_
  intro p e s m args below meth c s₁ B hml hv
  obtain ⟨rfl, hRM, hK0⟩ := hv
  have hts := atoms_spec (ws := ws_ yX5_above cX5_above 5 (some .boolean)) B.pre
  have hts : ∀ w ∈ lw_all, w.before _ s = true := fun w h => hts w (List.mem_cons_of_mem _ h)
  have C : MC p s m _ meth c D cI cZ cX5_above 5 (some .boolean) := ⟨B.exec, B.bytes, B.returns, B.notSynchronized, hml, findClass_of_methodNamed B.named, hts, hK0⟩
  have hZ : ZM D cI cZ mo ad s.heap M s.heap [] := ⟨hRM, rfl, fun _ _ => rfl, fun _ h => by cases h⟩
  have hl := lv_entry ([.ref mo, .int (zI x1), .int (zI x2)]) (n := 5) (Nat.le_of_ble_eq_true rfl)
  rw [lg_entry_eq]
  generalize (lg_sl ([.ref mo, .int (zI x1), .int (zI x2)]) ++ List.replicate (5 - (lg_sl ([.ref mo, .int (zI x1), .int (zI x2)])).length) Slot.unset).toArray = ls at hl ⊢
  have hl : lv_has ls 5 [(0, .ref mo), (1, .int (zI x1)), (2, .int (zI x2))] := hl
  exact w_above C ⟨Nat.le_refl _, Nat.le_refl _⟩ hf hZ hl rfl

theorem w_reach {p : Program} {l : Launch} {e : Env} {R : Room} {s : State} {m : MethodId} {args : Array Value} {below : List Frame} {meth : Method} {c : Code} {Q : State → Prop} {D : va_G} {cI cZ : ClassId} {mo : Nat} {ad : Nat → Nat} {H : Heap} {locs : List Loc} {M : MS} (C : MC p s m args meth c D cI cZ cX5_reach 4 (some .boolean)) (hR : 4 ≤ R.frames ∧ 86 ≤ R.locals) {x1 x2 : Int} {res : Int} (hf : m_reach M x1 x2 = some res) (hZ : ZM D cI cZ mo ad s.heap M H locs) {ls : Array Slot} (hl : lv_has ls 4 [(0, .ref mo), (1, .int (zI x1)), (2, .int (zI x2))]) (hK : KM below D cI cZ mo ad args s Q M (some (.int (zI res)))) : W p l e R s m args below meth c H locs 0 0 Q (F0 m 0 ls []) := by
  unfold m_reach at hf
  have hx := C.1
  have hb := C.2.1
  have hts := C.2.2.2.2.2.2.1
  refine lv_aload_n hx hb dX5_reach_0 rfl (lv_at hl 0 rfl) ?_
  refine lv_iload_n hx hb dX5_reach_1 rfl (lv_at hl 1 rfl) ?_
  obtain ⟨y1, ey1, hf⟩ := bd_inv hf
  refine zm_callV C hZ (n := 1) (rest := []) (met_topmost l D cI cZ mo ad ey1) (lw_V q1355 q1357 qs43 q107 q1358) rfl rfl (by decide +kernel) ⟨Nat.le_trans (by decide) hR.1, Nat.le_trans (by decide) hR.2⟩ rfl hl.1 rfl (Nat.le_of_ble_eq_true rfl) dX5_reach_2 (fun H locs hZ => ?_)
  refine lv_istore_n (lv' := [(3, .int (zI y1)), (0, .ref mo), (1, .int (zI x1)), (2, .int (zI x2))]) hx hb dX5_reach_5 rfl hl (by decide) rfl (fun ls hl => ?_)
  refine lv_iload_n hx hb dX5_reach_6 rfl (lv_at hl 0 rfl) ?_
  refine zl_if_lt (tgt := 23) hx hb dX5_reach_7 (by decide) (fun hc => ?_) (fun hc => ?_)
  · rw [if_pos hc] at hf
    refine zl_iconst hx hb dX5_reach_23 ?_
    obtain rfl := Option.some.inj hf
    exact zm_zret C hZ zisB_0 hK dX5_reach_24
  · rw [if_neg hc] at hf
    refine lv_aload_n hx hb dX5_reach_10 rfl (lv_at hl 1 rfl) ?_
    refine lv_iload_n hx hb dX5_reach_11 rfl (lv_at hl 0 rfl) ?_
    refine lv_iload_n hx hb dX5_reach_12 rfl (lv_at hl 3 rfl) ?_
    obtain ⟨y2, ey2, hf⟩ := bd_inv hf
    refine zm_callV C hZ (n := 2) (rest := []) (met_above l D cI cZ mo ad ey2) (lw_V q1363 q1365 qs45 q107 q1366) rfl rfl (by decide +kernel) ⟨Nat.le_trans (by decide) hR.1, Nat.le_trans (by decide) hR.2⟩ rfl hl.1 rfl (Nat.le_of_ble_eq_true rfl) dX5_reach_13 (fun H locs hZ => ?_)
    refine zl_if_ne (tgt := 23) hx hb dX5_reach_16 (by decide) (fun hc => ?_) (fun hc => ?_)
    · rw [if_pos hc] at hf
      refine zl_iconst hx hb dX5_reach_19 ?_
      refine lv_goto (tgt := 24) hx hb dX5_reach_20 (by decide) ?_
      obtain rfl := Option.some.inj hf
      exact zm_zret C hZ zisB_1 hK dX5_reach_24
    · rw [if_neg hc] at hf
      refine zl_iconst hx hb dX5_reach_23 ?_
      obtain rfl := Option.some.inj hf
      exact zm_zret C hZ zisB_0 hK dX5_reach_24

theorem met_reach (l : Launch) (D : va_G) (cI cZ : ClassId) (mo : Nat) (ad : Nat → Nat) {M : MS} {x1 x2 : Int} {res : Int} (hf : m_reach M x1 x2 = some res) : Met l yX5_reach (ws_ yX5_reach cX5_reach 4 (some .boolean)) ({ frames := 4, cells := 0, slots := 0, locals := 86 }) (PM D cI cZ mo ad M [.int (zI x1), .int (zI x2)]) (QM D cI cZ mo ad M (some (.int (zI res)))) 0 0 (MA mo ad) := by
  refine Met.ofW (cc := cX5_reach) (maxL := 4) (ret := (some .boolean)) (by decide) rfl ?_
  intro p e s m args below meth c s₁ B hml hv
  obtain ⟨rfl, hRM, hK0⟩ := hv
  have hts := atoms_spec (ws := ws_ yX5_reach cX5_reach 4 (some .boolean)) B.pre
  have hts : ∀ w ∈ lw_all, w.before _ s = true := fun w h => hts w (List.mem_cons_of_mem _ h)
  have C : MC p s m _ meth c D cI cZ cX5_reach 4 (some .boolean) := ⟨B.exec, B.bytes, B.returns, B.notSynchronized, hml, findClass_of_methodNamed B.named, hts, hK0⟩
  have hZ : ZM D cI cZ mo ad s.heap M s.heap [] := ⟨hRM, rfl, fun _ _ => rfl, fun _ h => by cases h⟩
  have hl := lv_entry ([.ref mo, .int (zI x1), .int (zI x2)]) (n := 4) (Nat.le_of_ble_eq_true rfl)
  rw [lg_entry_eq]
  generalize (lg_sl ([.ref mo, .int (zI x1), .int (zI x2)]) ++ List.replicate (4 - (lg_sl ([.ref mo, .int (zI x1), .int (zI x2)])).length) Slot.unset).toArray = ls at hl ⊢
  have hl : lv_has ls 4 [(0, .ref mo), (1, .int (zI x1)), (2, .int (zI x2))] := hl
  exact w_reach C ⟨Nat.le_refl _, Nat.le_refl _⟩ hf hZ hl rfl

theorem w_seat_27 {p : Program} {l : Launch} {e : Env} {R : Room} {s : State} {m : MethodId} {args : Array Value} {below : List Frame} {meth : Method} {c : Code} {Q : State → Prop} {D : va_G} {cI cZ : ClassId} {mo : Nat} {ad : Nat → Nat} {H : Heap} {locs : List Loc} {M : MS} (C : MC p s m args meth c D cI cZ cX5_seat 4 (some .int)) (hR : 0 ≤ R.frames ∧ 0 ≤ R.locals) {x1 x3 t0 : Int} {res : (Int × Int) ⊕ (Int)} (hf : m_seat_27 M x1 x3 t0 = some res) (hZ : ZM D cI cZ mo ad s.heap M H locs) {ls : Array Slot} (hl : lv_has ls 4 [(0, .ref mo), (1, .int (zI x1)), (3, .int (zI x3))]) (hK : (Sum.elim (fun z => ∀ (H : Heap) (locs : List Loc) (ls : Array Slot), ZM D cI cZ mo ad s.heap M H locs → lv_has ls 4 [(0, .ref mo), (1, .int (zI x1)), (2, .int (zI z.1)), (3, .int (zI z.2))] → W p l e R s m args below meth c H locs 0 0 Q (F0 m 4 ls [])) (fun r => KM below D cI cZ mo ad args s Q M (some (.int (zI r))))) res) : W p l e R s m args below meth c H locs 0 0 Q (F0 m 27 ls [.int (zI t0)]) := by
  unfold m_seat_27 at hf
  have hx := C.1
  have hb := C.2.1
  have hts := C.2.2.2.2.2.2.1
  refine lv_istore_n (lv' := [(2, .int (zI t0)), (0, .ref mo), (1, .int (zI x1)), (3, .int (zI x3))]) hx hb dX5_seat_27 rfl hl (by decide) rfl (fun ls hl => ?_)
  refine zl_iinc (x := x3) (n := 1) (lv' := [(3, .int (zI (x3 + 1))), (2, .int (zI t0)), (0, .ref mo), (1, .int (zI x1))]) (k := 3) hx hb dX5_seat_28 hl rfl (by decide) rfl (fun ls hl => ?_)
  refine lv_goto (tgt := 4) hx hb dX5_seat_31 (by decide) ?_
  obtain rfl := Option.some.inj hf
  exact hK _ _ _ hZ (lv_sub hl [2, 3, 1, 0] rfl)

theorem w_seat_4s {p : Program} {l : Launch} {e : Env} {R : Room} {s : State} {m : MethodId} {args : Array Value} {below : List Frame} {meth : Method} {c : Code} {Q : State → Prop} {D : va_G} {cI cZ : ClassId} {mo : Nat} {ad : Nat → Nat} {H : Heap} {locs : List Loc} {M : MS} (C : MC p s m args meth c D cI cZ cX5_seat 4 (some .int)) (hR : 0 ≤ R.frames ∧ 0 ≤ R.locals) {x1 x2 x3 : Int} {res : (Int × Int) ⊕ (Int)} (hf : m_seat_4s M x1 x2 x3 = some res) (hZ : ZM D cI cZ mo ad s.heap M H locs) {ls : Array Slot} (hl : lv_has ls 4 [(0, .ref mo), (1, .int (zI x1)), (2, .int (zI x2)), (3, .int (zI x3))]) (hK : (Sum.elim (fun z => ∀ (H : Heap) (locs : List Loc) (ls : Array Slot), ZM D cI cZ mo ad s.heap M H locs → lv_has ls 4 [(0, .ref mo), (1, .int (zI x1)), (2, .int (zI z.1)), (3, .int (zI z.2))] → W p l e R s m args below meth c H locs 0 0 Q (F0 m 4 ls [])) (fun r => KM below D cI cZ mo ad args s Q M (some (.int (zI r))))) res) : W p l e R s m args below meth c H locs 0 0 Q (F0 m 4 ls []) := by
  unfold m_seat_4s at hf
  have hx := C.1
  have hb := C.2.1
  have hts := C.2.2.2.2.2.2.1
  refine lv_iload_n hx hb dX5_seat_4 rfl (lv_at hl 3 rfl) ?_
  refine lv_aload_n hx hb dX5_seat_5 rfl (lv_at hl 0 rfl) ?_
  refine zm_geti C hZ 5 (by decide) rfl q1146 dX5_seat_6 ?_
  refine zl_icmp_ge (tgt := 34) hx hb dX5_seat_9 (by decide) (fun hc => ?_) (fun hc => ?_)
  · rw [if_pos hc] at hf
    refine lv_aload_n hx hb dX5_seat_12 rfl (lv_at hl 0 rfl) ?_
    refine zm_geta C hZ 6 (by decide) (by decide) q1147 dX5_seat_13 ?_
    refine lv_iload_n hx hb dX5_seat_16 rfl (lv_at hl 3 rfl) ?_
    obtain ⟨hg, hf⟩ := gd_inv hf
    refine zm_iald C hZ 6 (by decide) rfl rfl hg dX5_seat_17 ?_
    refine lv_iload_n hx hb dX5_seat_18 rfl (lv_at hl 1 rfl) ?_
    refine zl_icmp_ne (tgt := 26) hx hb dX5_seat_19 (by decide) (fun hc => ?_) (fun hc => ?_)
    · rw [if_pos hc] at hf
      refine lv_iload_n hx hb dX5_seat_22 rfl (lv_at hl 3 rfl) ?_
      refine lv_goto (tgt := 27) hx hb dX5_seat_23 (by decide) ?_
      exact w_seat_27 C hR hf hZ (lv_sub hl [0, 1, 3] rfl) hK
    · rw [if_neg hc] at hf
      refine lv_iload_n hx hb dX5_seat_26 rfl (lv_at hl 2 rfl) ?_
      exact w_seat_27 C hR hf hZ (lv_sub hl [0, 1, 3] rfl) hK
  · rw [if_neg hc] at hf
    refine lv_iload_n hx hb dX5_seat_34 rfl (lv_at hl 2 rfl) ?_
    obtain rfl := Option.some.inj hf
    exact zm_iret C hZ hK dX5_seat_35

theorem w_seat_4 {p : Program} {l : Launch} {e : Env} {R : Room} {s : State} {m : MethodId} {args : Array Value} {below : List Frame} {meth : Method} {c : Code} {Q : State → Prop} {D : va_G} {cI cZ : ClassId} {mo : Nat} {ad : Nat → Nat} {H : Heap} {locs : List Loc} {M : MS} (C : MC p s m args meth c D cI cZ cX5_seat 4 (some .int)) (hR : 0 ≤ R.frames ∧ 0 ≤ R.locals) {x1 x2 x3 : Int} {res : Int} (hf : m_seat_4 M x1 x2 x3 = some res) (hZ : ZM D cI cZ mo ad s.heap M H locs) {ls : Array Slot} (hl : lv_has ls 4 [(0, .ref mo), (1, .int (zI x1)), (2, .int (zI x2)), (3, .int (zI x3))]) (hK : KM below D cI cZ mo ad args s Q M (some (.int (zI res)))) : W p l e R s m args below meth c H locs 0 0 Q (F0 m 4 ls []) := by
  unfold m_seat_4 at hf
  refine iter_ind (P := fun z r => ∀ (H : Heap) (locs : List Loc) (ls : Array Slot), ZM D cI cZ mo ad s.heap M H locs → lv_has ls 4 [(0, .ref mo), (1, .int (zI x1)), (2, .int (zI z.1)), (3, .int (zI z.2))] → KM below D cI cZ mo ad args s Q M (some (.int (zI r))) → W p l e R s m args below meth c H locs 0 0 Q (F0 m 4 ls [])) ?_ ?_ hf H locs ls hZ hl hK
  · intro z r h1 H locs ls hZ hl hK; exact w_seat_4s C hR h1 hZ hl hK
  · intro z z1 r h1 ih H locs ls hZ hl hK; exact w_seat_4s C hR h1 hZ hl (fun H locs ls hZ hl => ih H locs ls hZ hl hK)

theorem w_seat {p : Program} {l : Launch} {e : Env} {R : Room} {s : State} {m : MethodId} {args : Array Value} {below : List Frame} {meth : Method} {c : Code} {Q : State → Prop} {D : va_G} {cI cZ : ClassId} {mo : Nat} {ad : Nat → Nat} {H : Heap} {locs : List Loc} {M : MS} (C : MC p s m args meth c D cI cZ cX5_seat 4 (some .int)) (hR : 0 ≤ R.frames ∧ 0 ≤ R.locals) {x1 : Int} {res : Int} (hf : m_seat M x1 = some res) (hZ : ZM D cI cZ mo ad s.heap M H locs) {ls : Array Slot} (hl : lv_has ls 4 [(0, .ref mo), (1, .int (zI x1))]) (hK : KM below D cI cZ mo ad args s Q M (some (.int (zI res)))) : W p l e R s m args below meth c H locs 0 0 Q (F0 m 0 ls []) := by
  unfold m_seat at hf
  have hx := C.1
  have hb := C.2.1
  have hts := C.2.2.2.2.2.2.1
  refine zl_iconst hx hb dX5_seat_0 ?_
  refine lv_istore_n (lv' := [(2, .int (zI 0)), (0, .ref mo), (1, .int (zI x1))]) hx hb dX5_seat_1 rfl hl (by decide) rfl (fun ls hl => ?_)
  refine zl_iconst hx hb dX5_seat_2 ?_
  refine lv_istore_n (lv' := [(3, .int (zI 0)), (2, .int (zI 0)), (0, .ref mo), (1, .int (zI x1))]) hx hb dX5_seat_3 rfl hl (by decide) rfl (fun ls hl => ?_)
  exact w_seat_4 C hR hf hZ (lv_sub hl [2, 3, 1, 0] rfl) hK

theorem met_seat (l : Launch) (D : va_G) (cI cZ : ClassId) (mo : Nat) (ad : Nat → Nat) {M : MS} {x1 : Int} {res : Int} (hf : m_seat M x1 = some res) : Met l yX5_seat (ws_ yX5_seat cX5_seat 4 (some .int)) ({ frames := 0, cells := 0, slots := 0, locals := 0 }) (PM D cI cZ mo ad M [.int (zI x1)]) (QM D cI cZ mo ad M (some (.int (zI res)))) 0 0 (MA mo ad) := by
  refine Met.ofW (cc := cX5_seat) (maxL := 4) (ret := (some .int)) (by decide) rfl ?_
  intro p e s m args below meth c s₁ B hml hv
  obtain ⟨rfl, hRM, hK0⟩ := hv
  have hts := atoms_spec (ws := ws_ yX5_seat cX5_seat 4 (some .int)) B.pre
  have hts : ∀ w ∈ lw_all, w.before _ s = true := fun w h => hts w (List.mem_cons_of_mem _ h)
  have C : MC p s m _ meth c D cI cZ cX5_seat 4 (some .int) := ⟨B.exec, B.bytes, B.returns, B.notSynchronized, hml, findClass_of_methodNamed B.named, hts, hK0⟩
  have hZ : ZM D cI cZ mo ad s.heap M s.heap [] := ⟨hRM, rfl, fun _ _ => rfl, fun _ h => by cases h⟩
  have hl := lv_entry ([.ref mo, .int (zI x1)]) (n := 4) (Nat.le_of_ble_eq_true rfl)
  rw [lg_entry_eq]
  generalize (lg_sl ([.ref mo, .int (zI x1)]) ++ List.replicate (4 - (lg_sl ([.ref mo, .int (zI x1)])).length) Slot.unset).toArray = ls at hl ⊢
  have hl : lv_has ls 4 [(0, .ref mo), (1, .int (zI x1))] := hl
  exact w_seat C ⟨Nat.le_refl _, Nat.le_refl _⟩ hf hZ hl rfl

theorem w_behind_4s {p : Program} {l : Launch} {e : Env} {R : Room} {s : State} {m : MethodId} {args : Array Value} {below : List Frame} {meth : Method} {c : Code} {Q : State → Prop} {D : va_G} {cI cZ : ClassId} {mo : Nat} {ad : Nat → Nat} {H : Heap} {locs : List Loc} {M : MS} (C : MC p s m args meth c D cI cZ cX5_behind 3 (some .int)) (hR : 0 ≤ R.frames ∧ 0 ≤ R.locals) {x1 x2 : Int} {res : (Int) ⊕ (Int)} (hf : m_behind_4s M x1 x2 = some res) (hZ : ZM D cI cZ mo ad s.heap M H locs) {ls : Array Slot} (hl : lv_has ls 3 [(0, .ref mo), (1, .int (zI x1)), (2, .int (zI x2))]) (hK : (Sum.elim (fun z => ∀ (H : Heap) (locs : List Loc) (ls : Array Slot), ZM D cI cZ mo ad s.heap M H locs → lv_has ls 3 [(0, .ref mo), (1, .int (zI x1)), (2, .int (zI z))] → W p l e R s m args below meth c H locs 0 0 Q (F0 m 4 ls [])) (fun r => KM below D cI cZ mo ad args s Q M (some (.int (zI r))))) res) : W p l e R s m args below meth c H locs 0 0 Q (F0 m 4 ls []) := by
  unfold m_behind_4s at hf
  have hx := C.1
  have hb := C.2.1
  have hts := C.2.2.2.2.2.2.1
  refine lv_iload_n hx hb dX5_behind_4 rfl (lv_at hl 2 rfl) ?_
  refine lv_aload_n hx hb dX5_behind_5 rfl (lv_at hl 0 rfl) ?_
  refine zm_geti C hZ 5 (by decide) rfl q1146 dX5_behind_6 ?_
  refine zl_icmp_ge (tgt := 43) hx hb dX5_behind_9 (by decide) (fun hc => ?_) (fun hc => ?_)
  · rw [if_pos hc] at hf
    refine lv_aload_n hx hb dX5_behind_12 rfl (lv_at hl 0 rfl) ?_
    refine zm_geta C hZ 10 (by decide) (by decide) q1151 dX5_behind_13 ?_
    refine lv_aload_n hx hb dX5_behind_16 rfl (lv_at hl 0 rfl) ?_
    refine zm_geta C hZ 6 (by decide) (by decide) q1147 dX5_behind_17 ?_
    refine lv_iload_n hx hb dX5_behind_20 rfl (lv_at hl 2 rfl) ?_
    obtain ⟨hg, hf⟩ := gd_inv hf
    refine zm_iald C hZ 6 (by decide) rfl rfl hg dX5_behind_21 ?_
    obtain ⟨hg, hf⟩ := gd_inv hf
    refine zm_iald C hZ 10 (by decide) rfl rfl hg dX5_behind_22 ?_
    refine lv_aload_n hx hb dX5_behind_23 rfl (lv_at hl 0 rfl) ?_
    refine zm_geta C hZ 10 (by decide) (by decide) q1151 dX5_behind_24 ?_
    refine lv_aload_n hx hb dX5_behind_27 rfl (lv_at hl 0 rfl) ?_
    refine zm_geta C hZ 6 (by decide) (by decide) q1147 dX5_behind_28 ?_
    refine lv_iload_n hx hb dX5_behind_31 rfl (lv_at hl 1 rfl) ?_
    obtain ⟨hg, hf⟩ := gd_inv hf
    refine zm_iald C hZ 6 (by decide) rfl rfl hg dX5_behind_32 ?_
    obtain ⟨hg, hf⟩ := gd_inv hf
    refine zm_iald C hZ 10 (by decide) rfl rfl hg dX5_behind_33 ?_
    refine zl_icmp_le (tgt := 43) hx hb dX5_behind_34 (by decide) (fun hc => ?_) (fun hc => ?_)
    · rw [if_pos hc] at hf
      refine zl_iinc (x := x2) (n := 1) (lv' := [(2, .int (zI (x2 + 1))), (0, .ref mo), (1, .int (zI x1))]) (k := 2) hx hb dX5_behind_37 hl rfl (by decide) rfl (fun ls hl => ?_)
      refine lv_goto (tgt := 4) hx hb dX5_behind_40 (by decide) ?_
      obtain rfl := Option.some.inj hf
      exact hK _ _ _ hZ (lv_sub hl [1, 2, 0] rfl)
    · rw [if_neg hc] at hf
      refine lv_iload_n hx hb dX5_behind_43 rfl (lv_at hl 2 rfl) ?_
      obtain rfl := Option.some.inj hf
      exact zm_iret C hZ hK dX5_behind_44
  · rw [if_neg hc] at hf
    refine lv_iload_n hx hb dX5_behind_43 rfl (lv_at hl 2 rfl) ?_
    obtain rfl := Option.some.inj hf
    exact zm_iret C hZ hK dX5_behind_44

theorem w_behind_4 {p : Program} {l : Launch} {e : Env} {R : Room} {s : State} {m : MethodId} {args : Array Value} {below : List Frame} {meth : Method} {c : Code} {Q : State → Prop} {D : va_G} {cI cZ : ClassId} {mo : Nat} {ad : Nat → Nat} {H : Heap} {locs : List Loc} {M : MS} (C : MC p s m args meth c D cI cZ cX5_behind 3 (some .int)) (hR : 0 ≤ R.frames ∧ 0 ≤ R.locals) {x1 x2 : Int} {res : Int} (hf : m_behind_4 M x1 x2 = some res) (hZ : ZM D cI cZ mo ad s.heap M H locs) {ls : Array Slot} (hl : lv_has ls 3 [(0, .ref mo), (1, .int (zI x1)), (2, .int (zI x2))]) (hK : KM below D cI cZ mo ad args s Q M (some (.int (zI res)))) : W p l e R s m args below meth c H locs 0 0 Q (F0 m 4 ls []) := by
  unfold m_behind_4 at hf
  refine iter_ind (P := fun z r => ∀ (H : Heap) (locs : List Loc) (ls : Array Slot), ZM D cI cZ mo ad s.heap M H locs → lv_has ls 3 [(0, .ref mo), (1, .int (zI x1)), (2, .int (zI z))] → KM below D cI cZ mo ad args s Q M (some (.int (zI r))) → W p l e R s m args below meth c H locs 0 0 Q (F0 m 4 ls [])) ?_ ?_ hf H locs ls hZ hl hK
  · intro z r h1 H locs ls hZ hl hK; exact w_behind_4s C hR h1 hZ hl hK
  · intro z z1 r h1 ih H locs ls hZ hl hK; exact w_behind_4s C hR h1 hZ hl (fun H locs ls hZ hl => ih H locs ls hZ hl hK)

theorem w_behind {p : Program} {l : Launch} {e : Env} {R : Room} {s : State} {m : MethodId} {args : Array Value} {below : List Frame} {meth : Method} {c : Code} {Q : State → Prop} {D : va_G} {cI cZ : ClassId} {mo : Nat} {ad : Nat → Nat} {H : Heap} {locs : List Loc} {M : MS} (C : MC p s m args meth c D cI cZ cX5_behind 3 (some .int)) (hR : 0 ≤ R.frames ∧ 0 ≤ R.locals) {x1 : Int} {res : Int} (hf : m_behind M x1 = some res) (hZ : ZM D cI cZ mo ad s.heap M H locs) {ls : Array Slot} (hl : lv_has ls 3 [(0, .ref mo), (1, .int (zI x1))]) (hK : KM below D cI cZ mo ad args s Q M (some (.int (zI res)))) : W p l e R s m args below meth c H locs 0 0 Q (F0 m 0 ls []) := by
  unfold m_behind at hf
  have hx := C.1
  have hb := C.2.1
  have hts := C.2.2.2.2.2.2.1
  refine lv_iload_n hx hb dX5_behind_0 rfl (lv_at hl 1 rfl) ?_
  refine zl_iconst hx hb dX5_behind_1 ?_
  refine zl_iadd hx hb dX5_behind_2 ?_
  obtain ⟨y1, ey1, hf⟩ := bnd_inv hf
  refine zl_top ey1 ?_
  refine lv_istore_n (lv' := [(2, .int (zI y1)), (0, .ref mo), (1, .int (zI x1))]) hx hb dX5_behind_3 rfl hl (by decide) rfl (fun ls hl => ?_)
  exact w_behind_4 C hR hf hZ (lv_sub hl [1, 2, 0] rfl) hK

theorem met_behind (l : Launch) (D : va_G) (cI cZ : ClassId) (mo : Nat) (ad : Nat → Nat) {M : MS} {x1 : Int} {res : Int} (hf : m_behind M x1 = some res) : Met l yX5_behind (ws_ yX5_behind cX5_behind 3 (some .int)) ({ frames := 0, cells := 0, slots := 0, locals := 0 }) (PM D cI cZ mo ad M [.int (zI x1)]) (QM D cI cZ mo ad M (some (.int (zI res)))) 0 0 (MA mo ad) := by
  refine Met.ofW (cc := cX5_behind) (maxL := 3) (ret := (some .int)) (by decide) rfl ?_
  intro p e s m args below meth c s₁ B hml hv
  obtain ⟨rfl, hRM, hK0⟩ := hv
  have hts := atoms_spec (ws := ws_ yX5_behind cX5_behind 3 (some .int)) B.pre
  have hts : ∀ w ∈ lw_all, w.before _ s = true := fun w h => hts w (List.mem_cons_of_mem _ h)
  have C : MC p s m _ meth c D cI cZ cX5_behind 3 (some .int) := ⟨B.exec, B.bytes, B.returns, B.notSynchronized, hml, findClass_of_methodNamed B.named, hts, hK0⟩
  have hZ : ZM D cI cZ mo ad s.heap M s.heap [] := ⟨hRM, rfl, fun _ _ => rfl, fun _ h => by cases h⟩
  have hl := lv_entry ([.ref mo, .int (zI x1)]) (n := 3) (Nat.le_of_ble_eq_true rfl)
  rw [lg_entry_eq]
  generalize (lg_sl ([.ref mo, .int (zI x1)]) ++ List.replicate (3 - (lg_sl ([.ref mo, .int (zI x1)])).length) Slot.unset).toArray = ls at hl ⊢
  have hl : lv_has ls 3 [(0, .ref mo), (1, .int (zI x1))] := hl
  exact w_behind C ⟨Nat.le_refl _, Nat.le_refl _⟩ hf hZ hl rfl

theorem w_insideTop {p : Program} {l : Launch} {e : Env} {R : Room} {s : State} {m : MethodId} {args : Array Value} {below : List Frame} {meth : Method} {c : Code} {Q : State → Prop} {D : va_G} {cI cZ : ClassId} {mo : Nat} {ad : Nat → Nat} {H : Heap} {locs : List Loc} {M : MS} (C : MC p s m args meth c D cI cZ cX5_insideTop 3 none) (hR : 1 ≤ R.frames ∧ 23 ≤ R.locals) {x1 : Int} {res : MS} (hf : m_insideTop M x1 = some res) (hZ : ZM D cI cZ mo ad s.heap M H locs) {ls : Array Slot} (hl : lv_has ls 3 [(0, .ref mo), (1, .int (zI x1))]) (hK : KM below D cI cZ mo ad args s Q res none) : W p l e R s m args below meth c H locs 0 0 Q (F0 m 0 ls []) := by
  unfold m_insideTop at hf
  have hx := C.1
  have hb := C.2.1
  have hts := C.2.2.2.2.2.2.1
  refine lv_aload_n hx hb dX5_insideTop_0 rfl (lv_at hl 0 rfl) ?_
  refine lv_iload_n hx hb dX5_insideTop_1 rfl (lv_at hl 1 rfl) ?_
  obtain ⟨y1, ey1, hf⟩ := bd_inv hf
  refine zm_callV C hZ (n := 1) (rest := []) (met_seat l D cI cZ mo ad ey1) (lw_V q1376 q1378 qs48 q107 q1379) rfl rfl (by decide +kernel) ⟨Nat.le_trans (by decide) hR.1, Nat.le_trans (by decide) hR.2⟩ rfl hl.1 rfl (Nat.le_of_ble_eq_true rfl) dX5_insideTop_2 (fun H locs hZ => ?_)
  refine lv_istore_n (lv' := [(2, .int (zI y1)), (0, .ref mo), (1, .int (zI x1))]) hx hb dX5_insideTop_5 rfl hl (by decide) rfl (fun ls hl => ?_)
  refine lv_aload_n hx hb dX5_insideTop_6 rfl (lv_at hl 1 rfl) ?_
  refine lv_aload_n hx hb dX5_insideTop_7 rfl (lv_at hl 1 rfl) ?_
  refine lv_iload_n hx hb dX5_insideTop_8 rfl (lv_at hl 0 rfl) ?_
  obtain ⟨y2, ey2, hf⟩ := bd_inv hf
  refine zm_callV C hZ (n := 1) (rest := [.ref mo]) (met_behind l D cI cZ mo ad ey2) (lw_V q1380 q1382 qs49 q107 q1383) rfl rfl (by decide +kernel) ⟨Nat.le_trans (by decide) hR.1, Nat.le_trans (by decide) hR.2⟩ rfl hl.1 rfl (Nat.le_of_ble_eq_true rfl) dX5_insideTop_9 (fun H locs hZ => ?_)
  obtain ⟨M3, eM3, hf⟩ := bnd_inv hf
  refine zm_puti C hZ 20 (by decide) rfl rfl q1161 dX5_insideTop_12 (fun H locs hZ => ?_)
  rw [← eM3] at hZ
  refine lv_aload_n hx hb dX5_insideTop_15 rfl (lv_at hl 1 rfl) ?_
  refine lv_aload_n hx hb dX5_insideTop_16 rfl (lv_at hl 1 rfl) ?_
  refine zm_geta C hZ 10 (by decide) (by decide) q1151 dX5_insideTop_17 ?_
  refine lv_iload_n hx hb dX5_insideTop_20 rfl (lv_at hl 2 rfl) ?_
  obtain ⟨hg, hf⟩ := gd_inv hf
  refine zm_iald C hZ 10 (by decide) rfl rfl hg dX5_insideTop_21 ?_
  refine zl_iconst hx hb dX5_insideTop_22 ?_
  refine zl_iadd hx hb dX5_insideTop_23 ?_
  obtain ⟨M4, eM4, hf⟩ := bnd_inv hf
  refine zm_puti C hZ 21 (by decide) rfl rfl q1162 dX5_insideTop_24 (fun H locs hZ => ?_)
  rw [← eM4] at hZ
  obtain rfl := Option.some.inj hf
  exact zm_vret C hZ hK dX5_insideTop_27

theorem met_insideTop (l : Launch) (D : va_G) (cI cZ : ClassId) (mo : Nat) (ad : Nat → Nat) {M : MS} {x1 : Int} {res : MS} (hf : m_insideTop M x1 = some res) : Met l yX5_insideTop (ws_ yX5_insideTop cX5_insideTop 3 none) ({ frames := 1, cells := 0, slots := 0, locals := 23 }) (PM D cI cZ mo ad M [.int (zI x1)]) (QM D cI cZ mo ad res none) 0 0 (MA mo ad) := by
  refine Met.ofW (cc := cX5_insideTop) (maxL := 3) (ret := none) (by decide) rfl ?_
  intro p e s m args below meth c s₁ B hml hv
  obtain ⟨rfl, hRM, hK0⟩ := hv
  have hts := atoms_spec (ws := ws_ yX5_insideTop cX5_insideTop 3 none) B.pre
  have hts : ∀ w ∈ lw_all, w.before _ s = true := fun w h => hts w (List.mem_cons_of_mem _ h)
  have C : MC p s m _ meth c D cI cZ cX5_insideTop 3 none := ⟨B.exec, B.bytes, B.returns, B.notSynchronized, hml, findClass_of_methodNamed B.named, hts, hK0⟩
  have hZ : ZM D cI cZ mo ad s.heap M s.heap [] := ⟨hRM, rfl, fun _ _ => rfl, fun _ h => by cases h⟩
  have hl := lv_entry ([.ref mo, .int (zI x1)]) (n := 3) (Nat.le_of_ble_eq_true rfl)
  rw [lg_entry_eq]
  generalize (lg_sl ([.ref mo, .int (zI x1)]) ++ List.replicate (3 - (lg_sl ([.ref mo, .int (zI x1)])).length) Slot.unset).toArray = ls at hl ⊢
  have hl : lv_has ls 3 [(0, .ref mo), (1, .int (zI x1))] := hl
  exact w_insideTop C ⟨Nat.le_refl _, Nat.le_refl _⟩ hf hZ hl rfl

theorem w_create_49 {p : Program} {l : Launch} {e : Env} {R : Room} {s : State} {m : MethodId} {args : Array Value} {below : List Frame} {meth : Method} {c : Code} {Q : State → Prop} {D : va_G} {cI cZ : ClassId} {mo : Nat} {ad : Nat → Nat} {H : Heap} {locs : List Loc} {M : MS} (C : MC p s m args meth c D cI cZ cX5_create 4 (some .int)) (hR : 0 ≤ R.frames ∧ 0 ≤ R.locals) {x1 x2 : Int} {res : MS × Int} (hf : m_create_49 M x1 x2 = some res) (hZ : ZM D cI cZ mo ad s.heap M H locs) {ls : Array Slot} (hl : lv_has ls 4 [(0, .ref mo), (1, .int (zI x1)), (2, .int (zI x2))]) (hK : KM below D cI cZ mo ad args s Q res.1 (some (.int (zI res.2)))) : W p l e R s m args below meth c H locs 0 0 Q (F0 m 49 ls []) := by
  unfold m_create_49 at hf
  have hx := C.1
  have hb := C.2.1
  have hts := C.2.2.2.2.2.2.1
  refine lv_aload_n hx hb dX5_create_49 rfl (lv_at hl 0 rfl) ?_
  refine zm_geta C hZ 6 (by decide) (by decide) q1147 dX5_create_50 ?_
  refine lv_aload_n hx hb dX5_create_53 rfl (lv_at hl 0 rfl) ?_
  refine zm_geti C hZ 20 (by decide) rfl q1161 dX5_create_54 ?_
  refine lv_aload_n hx hb dX5_create_57 rfl (lv_at hl 0 rfl) ?_
  refine zm_geti C hZ 7 (by decide) rfl q1148 dX5_create_58 ?_
  obtain ⟨hg, hf⟩ := gd_inv hf
  obtain ⟨M4, eM4, hf⟩ := bnd_inv hf
  refine zm_iast C hZ 6 (by decide) rfl rfl hg dX5_create_61 (fun H locs hZ => ?_)
  rw [← eM4] at hZ
  refine lv_aload_n hx hb dX5_create_62 rfl (lv_at hl 0 rfl) ?_
  refine lv_dup hx hb dX5_create_63 rfl ?_
  refine zm_geti C hZ 5 (by decide) rfl q1146 dX5_create_64 ?_
  refine zl_iconst hx hb dX5_create_67 ?_
  refine zl_iadd hx hb dX5_create_68 ?_
  obtain ⟨M5, eM5, hf⟩ := bnd_inv hf
  refine zm_puti C hZ 5 (by decide) rfl rfl q1146 dX5_create_69 (fun H locs hZ => ?_)
  rw [← eM5] at hZ
  refine lv_aload_n hx hb dX5_create_72 rfl (lv_at hl 0 rfl) ?_
  refine zm_geta C hZ 8 (by decide) (by decide) q1149 dX5_create_73 ?_
  refine lv_aload_n hx hb dX5_create_76 rfl (lv_at hl 0 rfl) ?_
  refine zm_geti C hZ 7 (by decide) rfl q1148 dX5_create_77 ?_
  refine lv_iload_n hx hb dX5_create_80 rfl (lv_at hl 1 rfl) ?_
  obtain ⟨hg, hf⟩ := gd_inv hf
  obtain ⟨M6, eM6, hf⟩ := bnd_inv hf
  refine zm_iast C hZ 8 (by decide) rfl rfl hg dX5_create_81 (fun H locs hZ => ?_)
  rw [← eM6] at hZ
  refine lv_aload_n hx hb dX5_create_82 rfl (lv_at hl 0 rfl) ?_
  refine zm_geta C hZ 9 (by decide) (by decide) q1150 dX5_create_83 ?_
  refine lv_aload_n hx hb dX5_create_86 rfl (lv_at hl 0 rfl) ?_
  refine zm_geti C hZ 7 (by decide) rfl q1148 dX5_create_87 ?_
  refine lv_iload_n hx hb dX5_create_90 rfl (lv_at hl 2 rfl) ?_
  obtain ⟨hg, hf⟩ := gd_inv hf
  obtain ⟨M7, eM7, hf⟩ := bnd_inv hf
  refine zm_iast C hZ 9 (by decide) rfl rfl hg dX5_create_91 (fun H locs hZ => ?_)
  rw [← eM7] at hZ
  refine lv_aload_n hx hb dX5_create_92 rfl (lv_at hl 0 rfl) ?_
  refine zm_geta C hZ 10 (by decide) (by decide) q1151 dX5_create_93 ?_
  refine lv_aload_n hx hb dX5_create_96 rfl (lv_at hl 0 rfl) ?_
  refine zm_geti C hZ 7 (by decide) rfl q1148 dX5_create_97 ?_
  refine lv_aload_n hx hb dX5_create_100 rfl (lv_at hl 0 rfl) ?_
  refine zm_geti C hZ 21 (by decide) rfl q1162 dX5_create_101 ?_
  obtain ⟨hg, hf⟩ := gd_inv hf
  obtain ⟨M8, eM8, hf⟩ := bnd_inv hf
  refine zm_iast C hZ 10 (by decide) rfl rfl hg dX5_create_104 (fun H locs hZ => ?_)
  rw [← eM8] at hZ
  refine lv_aload_n hx hb dX5_create_105 rfl (lv_at hl 0 rfl) ?_
  refine lv_dup hx hb dX5_create_106 rfl ?_
  refine zm_geti C hZ 7 (by decide) rfl q1148 dX5_create_107 ?_
  refine zl_iconst hx hb dX5_create_110 ?_
  refine zl_iadd hx hb dX5_create_111 ?_
  obtain ⟨M9, eM9, hf⟩ := bnd_inv hf
  refine zm_puti C hZ 7 (by decide) rfl rfl q1148 dX5_create_112 (fun H locs hZ => ?_)
  rw [← eM9] at hZ
  refine lv_aload_n hx hb dX5_create_115 rfl (lv_at hl 0 rfl) ?_
  refine zm_geti C hZ 7 (by decide) rfl q1148 dX5_create_116 ?_
  refine zl_iconst hx hb dX5_create_119 ?_
  refine zl_isub hx hb dX5_create_120 ?_
  obtain rfl := Option.some.inj hf
  exact zm_iret C hZ hK dX5_create_121

theorem w_create_21s {p : Program} {l : Launch} {e : Env} {R : Room} {s : State} {m : MethodId} {args : Array Value} {below : List Frame} {meth : Method} {c : Code} {Q : State → Prop} {D : va_G} {cI cZ : ClassId} {mo : Nat} {ad : Nat → Nat} {H : Heap} {locs : List Loc} {M : MS} (C : MC p s m args meth c D cI cZ cX5_create 4 (some .int)) (hR : 0 ≤ R.frames ∧ 0 ≤ R.locals) {x1 x2 x3 : Int} {res : (MS × Int) ⊕ (MS × Int)} (hf : m_create_21s M x1 x2 x3 = some res) (hZ : ZM D cI cZ mo ad s.heap M H locs) {ls : Array Slot} (hl : lv_has ls 4 [(0, .ref mo), (1, .int (zI x1)), (2, .int (zI x2)), (3, .int (zI x3))]) (hK : (Sum.elim (fun z => ∀ (H : Heap) (locs : List Loc) (ls : Array Slot), ZM D cI cZ mo ad s.heap z.1 H locs → lv_has ls 4 [(0, .ref mo), (1, .int (zI x1)), (2, .int (zI x2)), (3, .int (zI z.2))] → W p l e R s m args below meth c H locs 0 0 Q (F0 m 21 ls [])) (fun r => KM below D cI cZ mo ad args s Q r.1 (some (.int (zI r.2))))) res) : W p l e R s m args below meth c H locs 0 0 Q (F0 m 21 ls []) := by
  unfold m_create_21s at hf
  have hx := C.1
  have hb := C.2.1
  have hts := C.2.2.2.2.2.2.1
  refine lv_iload_n hx hb dX5_create_21 rfl (lv_at hl 3 rfl) ?_
  refine lv_aload_n hx hb dX5_create_22 rfl (lv_at hl 0 rfl) ?_
  refine zm_geti C hZ 20 (by decide) rfl q1161 dX5_create_23 ?_
  refine zl_icmp_le (tgt := 49) hx hb dX5_create_26 (by decide) (fun hc => ?_) (fun hc => ?_)
  · rw [if_pos hc] at hf
    refine lv_aload_n hx hb dX5_create_29 rfl (lv_at hl 0 rfl) ?_
    refine zm_geta C hZ 6 (by decide) (by decide) q1147 dX5_create_30 ?_
    refine lv_iload_n hx hb dX5_create_33 rfl (lv_at hl 3 rfl) ?_
    refine lv_aload_n hx hb dX5_create_34 rfl (lv_at hl 0 rfl) ?_
    refine zm_geta C hZ 6 (by decide) (by decide) q1147 dX5_create_35 ?_
    refine lv_iload_n hx hb dX5_create_38 rfl (lv_at hl 3 rfl) ?_
    refine zl_iconst hx hb dX5_create_39 ?_
    refine zl_isub hx hb dX5_create_40 ?_
    obtain ⟨hg, hf⟩ := gd_inv hf
    refine zm_iald C hZ 6 (by decide) rfl rfl hg dX5_create_41 ?_
    obtain ⟨hg, hf⟩ := gd_inv hf
    obtain ⟨M3, eM3, hf⟩ := bnd_inv hf
    refine zm_iast C hZ 6 (by decide) rfl rfl hg dX5_create_42 (fun H locs hZ => ?_)
    rw [← eM3] at hZ
    refine zl_iinc (x := x3) (n := (-1)) (lv' := [(3, .int (zI (x3 + (-1)))), (0, .ref mo), (1, .int (zI x1)), (2, .int (zI x2))]) (k := 3) hx hb dX5_create_43 hl rfl (by decide) rfl (fun ls hl => ?_)
    refine lv_goto (tgt := 21) hx hb dX5_create_46 (by decide) ?_
    obtain rfl := Option.some.inj hf
    exact hK _ _ _ hZ (lv_sub hl [1, 2, 3, 0] rfl)
  · rw [if_neg hc] at hf
    obtain ⟨r0, hm0, rfl⟩ := mr_inv hf
    exact w_create_49 C hR hm0 hZ (lv_sub hl [0, 1, 2] rfl) hK

theorem w_create_21 {p : Program} {l : Launch} {e : Env} {R : Room} {s : State} {m : MethodId} {args : Array Value} {below : List Frame} {meth : Method} {c : Code} {Q : State → Prop} {D : va_G} {cI cZ : ClassId} {mo : Nat} {ad : Nat → Nat} {H : Heap} {locs : List Loc} {M : MS} (C : MC p s m args meth c D cI cZ cX5_create 4 (some .int)) (hR : 0 ≤ R.frames ∧ 0 ≤ R.locals) {x1 x2 x3 : Int} {res : MS × Int} (hf : m_create_21 M x1 x2 x3 = some res) (hZ : ZM D cI cZ mo ad s.heap M H locs) {ls : Array Slot} (hl : lv_has ls 4 [(0, .ref mo), (1, .int (zI x1)), (2, .int (zI x2)), (3, .int (zI x3))]) (hK : KM below D cI cZ mo ad args s Q res.1 (some (.int (zI res.2)))) : W p l e R s m args below meth c H locs 0 0 Q (F0 m 21 ls []) := by
  unfold m_create_21 at hf
  refine iter_ind (P := fun z r => ∀ (H : Heap) (locs : List Loc) (ls : Array Slot), ZM D cI cZ mo ad s.heap z.1 H locs → lv_has ls 4 [(0, .ref mo), (1, .int (zI x1)), (2, .int (zI x2)), (3, .int (zI z.2))] → KM below D cI cZ mo ad args s Q r.1 (some (.int (zI r.2))) → W p l e R s m args below meth c H locs 0 0 Q (F0 m 21 ls [])) ?_ ?_ hf H locs ls hZ hl hK
  · intro z r h1 H locs ls hZ hl hK; exact w_create_21s C hR h1 hZ hl hK
  · intro z z1 r h1 ih H locs ls hZ hl hK; exact w_create_21s C hR h1 hZ hl (fun H locs ls hZ hl => ih H locs ls hZ hl hK)

theorem w_create {p : Program} {l : Launch} {e : Env} {R : Room} {s : State} {m : MethodId} {args : Array Value} {below : List Frame} {meth : Method} {c : Code} {Q : State → Prop} {D : va_G} {cI cZ : ClassId} {mo : Nat} {ad : Nat → Nat} {H : Heap} {locs : List Loc} {M : MS} (C : MC p s m args meth c D cI cZ cX5_create 4 (some .int)) (hR : 0 ≤ R.frames ∧ 0 ≤ R.locals) {x1 x2 : Int} {res : MS × Int} (hf : m_create M x1 x2 = some res) (hZ : ZM D cI cZ mo ad s.heap M H locs) {ls : Array Slot} (hl : lv_has ls 4 [(0, .ref mo), (1, .int (zI x1)), (2, .int (zI x2))]) (hK : KM below D cI cZ mo ad args s Q res.1 (some (.int (zI res.2)))) : W p l e R s m args below meth c H locs 0 0 Q (F0 m 0 ls []) := by
  unfold m_create at hf
  have hx := C.1
  have hb := C.2.1
  have hts := C.2.2.2.2.2.2.1
  refine lv_aload_n hx hb dX5_create_0 rfl (lv_at hl 0 rfl) ?_
  refine zm_geti C hZ 7 (by decide) rfl q1148 dX5_create_1 ?_
  refine zl_bipush hx hb dX5_create_4 (by decide) ?_
  refine zl_icmp_ne (tgt := 16) hx hb dX5_create_6 (by decide) (fun hc => ?_) (fun hc => ?_)
  · rw [if_pos hc] at hf
    refine lv_aload_n hx hb dX5_create_9 rfl (lv_at hl 0 rfl) ?_
    refine zl_iconst hx hb dX5_create_10 ?_
    obtain ⟨M1, eM1, hf⟩ := bnd_inv hf
    refine zm_putb C hZ 4 (by decide) rfl rfl zisB_1 q1145 dX5_create_11 (fun H locs hZ => ?_)
    rw [← eM1] at hZ
    refine zl_iconst hx hb dX5_create_14 ?_
    obtain rfl := Option.some.inj hf
    exact zm_iret C hZ hK dX5_create_15
  · rw [if_neg hc] at hf
    refine lv_aload_n hx hb dX5_create_16 rfl (lv_at hl 0 rfl) ?_
    refine zm_geti C hZ 5 (by decide) rfl q1146 dX5_create_17 ?_
    obtain ⟨y2, ey2, hf⟩ := bnd_inv hf
    refine zl_top ey2 ?_
    refine lv_istore_n (lv' := [(3, .int (zI y2)), (0, .ref mo), (1, .int (zI x1)), (2, .int (zI x2))]) hx hb dX5_create_20 rfl hl (by decide) rfl (fun ls hl => ?_)
    exact w_create_21 C hR hf hZ (lv_sub hl [1, 2, 3, 0] rfl) hK

theorem met_create (l : Launch) (D : va_G) (cI cZ : ClassId) (mo : Nat) (ad : Nat → Nat) {M : MS} {x1 x2 : Int} {res : MS × Int} (hf : m_create M x1 x2 = some res) : Met l yX5_create (ws_ yX5_create cX5_create 4 (some .int)) ({ frames := 0, cells := 0, slots := 0, locals := 0 }) (PM D cI cZ mo ad M [.int (zI x1), .int (zI x2)]) (QM D cI cZ mo ad res.1 (some (.int (zI res.2)))) 0 0 (MA mo ad) := by
  refine Met.ofW (cc := cX5_create) (maxL := 4) (ret := (some .int)) (by decide) rfl ?_
  intro p e s m args below meth c s₁ B hml hv
  obtain ⟨rfl, hRM, hK0⟩ := hv
  have hts := atoms_spec (ws := ws_ yX5_create cX5_create 4 (some .int)) B.pre
  have hts : ∀ w ∈ lw_all, w.before _ s = true := fun w h => hts w (List.mem_cons_of_mem _ h)
  have C : MC p s m _ meth c D cI cZ cX5_create 4 (some .int) := ⟨B.exec, B.bytes, B.returns, B.notSynchronized, hml, findClass_of_methodNamed B.named, hts, hK0⟩
  have hZ : ZM D cI cZ mo ad s.heap M s.heap [] := ⟨hRM, rfl, fun _ _ => rfl, fun _ h => by cases h⟩
  have hl := lv_entry ([.ref mo, .int (zI x1), .int (zI x2)]) (n := 4) (Nat.le_of_ble_eq_true rfl)
  rw [lg_entry_eq]
  generalize (lg_sl ([.ref mo, .int (zI x1), .int (zI x2)]) ++ List.replicate (4 - (lg_sl ([.ref mo, .int (zI x1), .int (zI x2)])).length) Slot.unset).toArray = ls at hl ⊢
  have hl : lv_has ls 4 [(0, .ref mo), (1, .int (zI x1)), (2, .int (zI x2))] := hl
  exact w_create C ⟨Nat.le_refl _, Nat.le_refl _⟩ hf hZ hl rfl

theorem w_push {p : Program} {l : Launch} {e : Env} {R : Room} {s : State} {m : MethodId} {args : Array Value} {below : List Frame} {meth : Method} {c : Code} {Q : State → Prop} {D : va_G} {cI cZ : ClassId} {mo : Nat} {ad : Nat → Nat} {H : Heap} {locs : List Loc} {M : MS} (C : MC p s m args meth c D cI cZ cX5_push 2 none) (hR : 0 ≤ R.frames ∧ 0 ≤ R.locals) {x1 : Int} {res : MS} (hf : m_push M x1 = some res) (hZ : ZM D cI cZ mo ad s.heap M H locs) {ls : Array Slot} (hl : lv_has ls 2 [(0, .ref mo), (1, .int (zI x1))]) (hK : KM below D cI cZ mo ad args s Q res none) : W p l e R s m args below meth c H locs 0 0 Q (F0 m 0 ls []) := by
  unfold m_push at hf
  have hx := C.1
  have hb := C.2.1
  have hts := C.2.2.2.2.2.2.1
  refine lv_aload_n hx hb dX5_push_0 rfl (lv_at hl 0 rfl) ?_
  refine zm_geti C hZ 4 (by decide) rfl q1145 dX5_push_1 ?_
  refine zl_if_eq (tgt := 8) hx hb dX5_push_4 (by decide) (fun hc => ?_) (fun hc => ?_)
  · rw [if_pos hc] at hf
    refine lv_aload_n hx hb dX5_push_8 rfl (lv_at hl 0 rfl) ?_
    refine zm_geta C hZ 12 (by decide) (by decide) q1153 dX5_push_9 ?_
    refine lv_aload_n hx hb dX5_push_12 rfl (lv_at hl 0 rfl) ?_
    refine zm_geti C hZ 13 (by decide) rfl q1154 dX5_push_13 ?_
    refine lv_iload_n hx hb dX5_push_16 rfl (lv_at hl 1 rfl) ?_
    obtain ⟨hg, hf⟩ := gd_inv hf
    obtain ⟨M1, eM1, hf⟩ := bnd_inv hf
    refine zm_iast C hZ 12 (by decide) rfl rfl hg dX5_push_17 (fun H locs hZ => ?_)
    rw [← eM1] at hZ
    refine lv_aload_n hx hb dX5_push_18 rfl (lv_at hl 0 rfl) ?_
    refine lv_dup hx hb dX5_push_19 rfl ?_
    refine zm_geti C hZ 13 (by decide) rfl q1154 dX5_push_20 ?_
    refine zl_iconst hx hb dX5_push_23 ?_
    refine zl_iadd hx hb dX5_push_24 ?_
    obtain ⟨M2, eM2, hf⟩ := bnd_inv hf
    refine zm_puti C hZ 13 (by decide) rfl rfl q1154 dX5_push_25 (fun H locs hZ => ?_)
    rw [← eM2] at hZ
    obtain rfl := Option.some.inj hf
    exact zm_vret C hZ hK dX5_push_28
  · rw [if_neg hc] at hf
    obtain rfl := Option.some.inj hf
    exact zm_vret C hZ hK dX5_push_7

theorem met_push (l : Launch) (D : va_G) (cI cZ : ClassId) (mo : Nat) (ad : Nat → Nat) {M : MS} {x1 : Int} {res : MS} (hf : m_push M x1 = some res) : Met l yX5_push (ws_ yX5_push cX5_push 2 none) ({ frames := 0, cells := 0, slots := 0, locals := 0 }) (PM D cI cZ mo ad M [.int (zI x1)]) (QM D cI cZ mo ad res none) 0 0 (MA mo ad) := by
  refine Met.ofW (cc := cX5_push) (maxL := 2) (ret := none) (by decide) rfl ?_
  intro p e s m args below meth c s₁ B hml hv
  obtain ⟨rfl, hRM, hK0⟩ := hv
  have hts := atoms_spec (ws := ws_ yX5_push cX5_push 2 none) B.pre
  have hts : ∀ w ∈ lw_all, w.before _ s = true := fun w h => hts w (List.mem_cons_of_mem _ h)
  have C : MC p s m _ meth c D cI cZ cX5_push 2 none := ⟨B.exec, B.bytes, B.returns, B.notSynchronized, hml, findClass_of_methodNamed B.named, hts, hK0⟩
  have hZ : ZM D cI cZ mo ad s.heap M s.heap [] := ⟨hRM, rfl, fun _ _ => rfl, fun _ h => by cases h⟩
  have hl := lv_entry ([.ref mo, .int (zI x1)]) (n := 2) (Nat.le_of_ble_eq_true rfl)
  rw [lg_entry_eq]
  generalize (lg_sl ([.ref mo, .int (zI x1)]) ++ List.replicate (2 - (lg_sl ([.ref mo, .int (zI x1)])).length) Slot.unset).toArray = ls at hl ⊢
  have hl : lv_has ls 2 [(0, .ref mo), (1, .int (zI x1))] := hl
  exact w_push C ⟨Nat.le_refl _, Nat.le_refl _⟩ hf hZ hl rfl

theorem w_listOwner {p : Program} {l : Launch} {e : Env} {R : Room} {s : State} {m : MethodId} {args : Array Value} {below : List Frame} {meth : Method} {c : Code} {Q : State → Prop} {D : va_G} {cI cZ : ClassId} {mo : Nat} {ad : Nat → Nat} {H : Heap} {locs : List Loc} {M : MS} (C : MC p s m args meth c D cI cZ cX5_listOwner 2 (some .int)) (hR : 1 ≤ R.frames ∧ 23 ≤ R.locals) {res : Int} (hf : m_listOwner M = some res) (hZ : ZM D cI cZ mo ad s.heap M H locs) {ls : Array Slot} (hl : lv_has ls 2 [(0, .ref mo)]) (hK : KM below D cI cZ mo ad args s Q M (some (.int (zI res)))) : W p l e R s m args below meth c H locs 0 0 Q (F0 m 0 ls []) := by
  unfold m_listOwner at hf
  have hx := C.1
  have hb := C.2.1
  have hts := C.2.2.2.2.2.2.1
  refine lv_aload_n hx hb dX5_listOwner_0 rfl (lv_at hl 0 rfl) ?_
  refine zl_bipush hx hb dX5_listOwner_1 (by decide) ?_
  obtain ⟨y1, ey1, hf⟩ := bd_inv hf
  refine zm_callV C hZ (n := 1) (rest := []) (met_topmost l D cI cZ mo ad ey1) (lw_V q1355 q1357 qs43 q107 q1358) rfl rfl (by decide +kernel) ⟨Nat.le_trans (by decide) hR.1, Nat.le_trans (by decide) hR.2⟩ rfl hl.1 rfl (Nat.le_of_ble_eq_true rfl) dX5_listOwner_3 (fun H locs hZ => ?_)
  refine lv_istore_n (lv' := [(1, .int (zI y1)), (0, .ref mo)]) hx hb dX5_listOwner_6 rfl hl (by decide) rfl (fun ls hl => ?_)
  refine lv_iload_n hx hb dX5_listOwner_7 rfl (lv_at hl 0 rfl) ?_
  refine zl_if_ge (tgt := 15) hx hb dX5_listOwner_8 (by decide) (fun hc => ?_) (fun hc => ?_)
  · rw [if_pos hc] at hf
    refine zl_iconst hx hb dX5_listOwner_11 ?_
    refine lv_goto (tgt := 21) hx hb dX5_listOwner_12 (by decide) ?_
    obtain rfl := Option.some.inj hf
    exact zm_iret C hZ hK dX5_listOwner_21
  · rw [if_neg hc] at hf
    refine lv_aload_n hx hb dX5_listOwner_15 rfl (lv_at hl 1 rfl) ?_
    refine zm_geta C hZ 12 (by decide) (by decide) q1153 dX5_listOwner_16 ?_
    refine lv_iload_n hx hb dX5_listOwner_19 rfl (lv_at hl 0 rfl) ?_
    obtain ⟨hg, hf⟩ := gd_inv hf
    refine zm_iald C hZ 12 (by decide) rfl rfl hg dX5_listOwner_20 ?_
    obtain rfl := Option.some.inj hf
    exact zm_iret C hZ hK dX5_listOwner_21

theorem met_listOwner (l : Launch) (D : va_G) (cI cZ : ClassId) (mo : Nat) (ad : Nat → Nat) {M : MS} {res : Int} (hf : m_listOwner M = some res) : Met l yX5_listOwner (ws_ yX5_listOwner cX5_listOwner 2 (some .int)) ({ frames := 1, cells := 0, slots := 0, locals := 23 }) (PM D cI cZ mo ad M []) (QM D cI cZ mo ad M (some (.int (zI res)))) 0 0 (MA mo ad) := by
  refine Met.ofW (cc := cX5_listOwner) (maxL := 2) (ret := (some .int)) (by decide) rfl ?_
  intro p e s m args below meth c s₁ B hml hv
  obtain ⟨rfl, hRM, hK0⟩ := hv
  have hts := atoms_spec (ws := ws_ yX5_listOwner cX5_listOwner 2 (some .int)) B.pre
  have hts : ∀ w ∈ lw_all, w.before _ s = true := fun w h => hts w (List.mem_cons_of_mem _ h)
  have C : MC p s m _ meth c D cI cZ cX5_listOwner 2 (some .int) := ⟨B.exec, B.bytes, B.returns, B.notSynchronized, hml, findClass_of_methodNamed B.named, hts, hK0⟩
  have hZ : ZM D cI cZ mo ad s.heap M s.heap [] := ⟨hRM, rfl, fun _ _ => rfl, fun _ h => by cases h⟩
  have hl := lv_entry ([.ref mo]) (n := 2) (Nat.le_of_ble_eq_true rfl)
  rw [lg_entry_eq]
  generalize (lg_sl ([.ref mo]) ++ List.replicate (2 - (lg_sl ([.ref mo])).length) Slot.unset).toArray = ls at hl ⊢
  have hl : lv_has ls 2 [(0, .ref mo)] := hl
  exact w_listOwner C ⟨Nat.le_refl _, Nat.le_refl _⟩ hf hZ hl rfl

theorem w_opened_27 {p : Program} {l : Launch} {e : Env} {R : Room} {s : State} {m : MethodId} {args : Array Value} {below : List Frame} {meth : Method} {c : Code} {Q : State → Prop} {D : va_G} {cI cZ : ClassId} {mo : Nat} {ad : Nat → Nat} {H : Heap} {locs : List Loc} {M : MS} (C : MC p s m args meth c D cI cZ cX5_opened 4 (some .int)) (hR : 0 ≤ R.frames ∧ 0 ≤ R.locals) {x1 x3 t0 : Int} {res : (Int × Int) ⊕ (Int)} (hf : m_opened_27 M x1 x3 t0 = some res) (hZ : ZM D cI cZ mo ad s.heap M H locs) {ls : Array Slot} (hl : lv_has ls 4 [(0, .ref mo), (1, .int (zI x1)), (3, .int (zI x3))]) (hK : (Sum.elim (fun z => ∀ (H : Heap) (locs : List Loc) (ls : Array Slot), ZM D cI cZ mo ad s.heap M H locs → lv_has ls 4 [(0, .ref mo), (1, .int (zI x1)), (2, .int (zI z.1)), (3, .int (zI z.2))] → W p l e R s m args below meth c H locs 0 0 Q (F0 m 4 ls [])) (fun r => KM below D cI cZ mo ad args s Q M (some (.int (zI r))))) res) : W p l e R s m args below meth c H locs 0 0 Q (F0 m 27 ls [.int (zI t0)]) := by
  unfold m_opened_27 at hf
  have hx := C.1
  have hb := C.2.1
  have hts := C.2.2.2.2.2.2.1
  refine lv_istore_n (lv' := [(2, .int (zI t0)), (0, .ref mo), (1, .int (zI x1)), (3, .int (zI x3))]) hx hb dX5_opened_27 rfl hl (by decide) rfl (fun ls hl => ?_)
  refine zl_iinc (x := x3) (n := 1) (lv' := [(3, .int (zI (x3 + 1))), (2, .int (zI t0)), (0, .ref mo), (1, .int (zI x1))]) (k := 3) hx hb dX5_opened_28 hl rfl (by decide) rfl (fun ls hl => ?_)
  refine lv_goto (tgt := 4) hx hb dX5_opened_31 (by decide) ?_
  obtain rfl := Option.some.inj hf
  exact hK _ _ _ hZ (lv_sub hl [2, 3, 1, 0] rfl)

theorem w_opened_4s {p : Program} {l : Launch} {e : Env} {R : Room} {s : State} {m : MethodId} {args : Array Value} {below : List Frame} {meth : Method} {c : Code} {Q : State → Prop} {D : va_G} {cI cZ : ClassId} {mo : Nat} {ad : Nat → Nat} {H : Heap} {locs : List Loc} {M : MS} (C : MC p s m args meth c D cI cZ cX5_opened 4 (some .int)) (hR : 0 ≤ R.frames ∧ 0 ≤ R.locals) {x1 x2 x3 : Int} {res : (Int × Int) ⊕ (Int)} (hf : m_opened_4s M x1 x2 x3 = some res) (hZ : ZM D cI cZ mo ad s.heap M H locs) {ls : Array Slot} (hl : lv_has ls 4 [(0, .ref mo), (1, .int (zI x1)), (2, .int (zI x2)), (3, .int (zI x3))]) (hK : (Sum.elim (fun z => ∀ (H : Heap) (locs : List Loc) (ls : Array Slot), ZM D cI cZ mo ad s.heap M H locs → lv_has ls 4 [(0, .ref mo), (1, .int (zI x1)), (2, .int (zI z.1)), (3, .int (zI z.2))] → W p l e R s m args below meth c H locs 0 0 Q (F0 m 4 ls [])) (fun r => KM below D cI cZ mo ad args s Q M (some (.int (zI r))))) res) : W p l e R s m args below meth c H locs 0 0 Q (F0 m 4 ls []) := by
  unfold m_opened_4s at hf
  have hx := C.1
  have hb := C.2.1
  have hts := C.2.2.2.2.2.2.1
  refine lv_iload_n hx hb dX5_opened_4 rfl (lv_at hl 3 rfl) ?_
  refine lv_aload_n hx hb dX5_opened_5 rfl (lv_at hl 0 rfl) ?_
  refine zm_geti C hZ 13 (by decide) rfl q1154 dX5_opened_6 ?_
  refine zl_icmp_ge (tgt := 34) hx hb dX5_opened_9 (by decide) (fun hc => ?_) (fun hc => ?_)
  · rw [if_pos hc] at hf
    refine lv_aload_n hx hb dX5_opened_12 rfl (lv_at hl 0 rfl) ?_
    refine zm_geta C hZ 12 (by decide) (by decide) q1153 dX5_opened_13 ?_
    refine lv_iload_n hx hb dX5_opened_16 rfl (lv_at hl 3 rfl) ?_
    obtain ⟨hg, hf⟩ := gd_inv hf
    refine zm_iald C hZ 12 (by decide) rfl rfl hg dX5_opened_17 ?_
    refine lv_iload_n hx hb dX5_opened_18 rfl (lv_at hl 1 rfl) ?_
    refine zl_icmp_ne (tgt := 26) hx hb dX5_opened_19 (by decide) (fun hc => ?_) (fun hc => ?_)
    · rw [if_pos hc] at hf
      refine lv_iload_n hx hb dX5_opened_22 rfl (lv_at hl 3 rfl) ?_
      refine lv_goto (tgt := 27) hx hb dX5_opened_23 (by decide) ?_
      exact w_opened_27 C hR hf hZ (lv_sub hl [0, 1, 3] rfl) hK
    · rw [if_neg hc] at hf
      refine lv_iload_n hx hb dX5_opened_26 rfl (lv_at hl 2 rfl) ?_
      exact w_opened_27 C hR hf hZ (lv_sub hl [0, 1, 3] rfl) hK
  · rw [if_neg hc] at hf
    refine lv_iload_n hx hb dX5_opened_34 rfl (lv_at hl 2 rfl) ?_
    obtain rfl := Option.some.inj hf
    exact zm_iret C hZ hK dX5_opened_35

theorem w_opened_4 {p : Program} {l : Launch} {e : Env} {R : Room} {s : State} {m : MethodId} {args : Array Value} {below : List Frame} {meth : Method} {c : Code} {Q : State → Prop} {D : va_G} {cI cZ : ClassId} {mo : Nat} {ad : Nat → Nat} {H : Heap} {locs : List Loc} {M : MS} (C : MC p s m args meth c D cI cZ cX5_opened 4 (some .int)) (hR : 0 ≤ R.frames ∧ 0 ≤ R.locals) {x1 x2 x3 : Int} {res : Int} (hf : m_opened_4 M x1 x2 x3 = some res) (hZ : ZM D cI cZ mo ad s.heap M H locs) {ls : Array Slot} (hl : lv_has ls 4 [(0, .ref mo), (1, .int (zI x1)), (2, .int (zI x2)), (3, .int (zI x3))]) (hK : KM below D cI cZ mo ad args s Q M (some (.int (zI res)))) : W p l e R s m args below meth c H locs 0 0 Q (F0 m 4 ls []) := by
  unfold m_opened_4 at hf
  refine iter_ind (P := fun z r => ∀ (H : Heap) (locs : List Loc) (ls : Array Slot), ZM D cI cZ mo ad s.heap M H locs → lv_has ls 4 [(0, .ref mo), (1, .int (zI x1)), (2, .int (zI z.1)), (3, .int (zI z.2))] → KM below D cI cZ mo ad args s Q M (some (.int (zI r))) → W p l e R s m args below meth c H locs 0 0 Q (F0 m 4 ls [])) ?_ ?_ hf H locs ls hZ hl hK
  · intro z r h1 H locs ls hZ hl hK; exact w_opened_4s C hR h1 hZ hl hK
  · intro z z1 r h1 ih H locs ls hZ hl hK; exact w_opened_4s C hR h1 hZ hl (fun H locs ls hZ hl => ih H locs ls hZ hl hK)

theorem w_opened {p : Program} {l : Launch} {e : Env} {R : Room} {s : State} {m : MethodId} {args : Array Value} {below : List Frame} {meth : Method} {c : Code} {Q : State → Prop} {D : va_G} {cI cZ : ClassId} {mo : Nat} {ad : Nat → Nat} {H : Heap} {locs : List Loc} {M : MS} (C : MC p s m args meth c D cI cZ cX5_opened 4 (some .int)) (hR : 0 ≤ R.frames ∧ 0 ≤ R.locals) {x1 : Int} {res : Int} (hf : m_opened M x1 = some res) (hZ : ZM D cI cZ mo ad s.heap M H locs) {ls : Array Slot} (hl : lv_has ls 4 [(0, .ref mo), (1, .int (zI x1))]) (hK : KM below D cI cZ mo ad args s Q M (some (.int (zI res)))) : W p l e R s m args below meth c H locs 0 0 Q (F0 m 0 ls []) := by
  unfold m_opened at hf
  have hx := C.1
  have hb := C.2.1
  have hts := C.2.2.2.2.2.2.1
  refine zl_iconst hx hb dX5_opened_0 ?_
  refine lv_istore_n (lv' := [(2, .int (zI (-1))), (0, .ref mo), (1, .int (zI x1))]) hx hb dX5_opened_1 rfl hl (by decide) rfl (fun ls hl => ?_)
  refine zl_iconst hx hb dX5_opened_2 ?_
  refine lv_istore_n (lv' := [(3, .int (zI 0)), (2, .int (zI (-1))), (0, .ref mo), (1, .int (zI x1))]) hx hb dX5_opened_3 rfl hl (by decide) rfl (fun ls hl => ?_)
  exact w_opened_4 C hR hf hZ (lv_sub hl [2, 3, 1, 0] rfl) hK

theorem met_opened (l : Launch) (D : va_G) (cI cZ : ClassId) (mo : Nat) (ad : Nat → Nat) {M : MS} {x1 : Int} {res : Int} (hf : m_opened M x1 = some res) : Met l yX5_opened (ws_ yX5_opened cX5_opened 4 (some .int)) ({ frames := 0, cells := 0, slots := 0, locals := 0 }) (PM D cI cZ mo ad M [.int (zI x1)]) (QM D cI cZ mo ad M (some (.int (zI res)))) 0 0 (MA mo ad) := by
  refine Met.ofW (cc := cX5_opened) (maxL := 4) (ret := (some .int)) (by decide) rfl ?_
  intro p e s m args below meth c s₁ B hml hv
  obtain ⟨rfl, hRM, hK0⟩ := hv
  have hts := atoms_spec (ws := ws_ yX5_opened cX5_opened 4 (some .int)) B.pre
  have hts : ∀ w ∈ lw_all, w.before _ s = true := fun w h => hts w (List.mem_cons_of_mem _ h)
  have C : MC p s m _ meth c D cI cZ cX5_opened 4 (some .int) := ⟨B.exec, B.bytes, B.returns, B.notSynchronized, hml, findClass_of_methodNamed B.named, hts, hK0⟩
  have hZ : ZM D cI cZ mo ad s.heap M s.heap [] := ⟨hRM, rfl, fun _ _ => rfl, fun _ h => by cases h⟩
  have hl := lv_entry ([.ref mo, .int (zI x1)]) (n := 4) (Nat.le_of_ble_eq_true rfl)
  rw [lg_entry_eq]
  generalize (lg_sl ([.ref mo, .int (zI x1)]) ++ List.replicate (4 - (lg_sl ([.ref mo, .int (zI x1)])).length) Slot.unset).toArray = ls at hl ⊢
  have hl : lv_has ls 4 [(0, .ref mo), (1, .int (zI x1))] := hl
  exact w_opened C ⟨Nat.le_refl _, Nat.le_refl _⟩ hf hZ hl rfl

theorem w_findPlace_47 {p : Program} {l : Launch} {e : Env} {R : Room} {s : State} {m : MethodId} {args : Array Value} {below : List Frame} {meth : Method} {c : Code} {Q : State → Prop} {D : va_G} {cI cZ : ClassId} {mo : Nat} {ad : Nat → Nat} {H : Heap} {locs : List Loc} {M : MS} (C : MC p s m args meth c D cI cZ cX5_findPlace 5 none) (hR : 3 ≤ R.frames ∧ 62 ≤ R.locals) {x1 x2 x4 t0 : Int} {res : (Int × Int) ⊕ (MS)} (hf : m_findPlace_47 M x1 x2 x4 t0 = some res) (hZ : ZM D cI cZ mo ad s.heap M H locs) {ls : Array Slot} (hl : lv_has ls 5 [(0, .ref mo), (1, .int (zI x1)), (2, .int (zI x2)), (4, .int (zI x4))]) (hK : (Sum.elim (fun z => ∀ (H : Heap) (locs : List Loc) (ls : Array Slot), ZM D cI cZ mo ad s.heap M H locs → lv_has ls 5 [(0, .ref mo), (1, .int (zI x1)), (2, .int (zI x2)), (3, .int (zI z.1)), (4, .int (zI z.2))] → W p l e R s m args below meth c H locs 0 0 Q (F0 m 14 ls [])) (fun r => KM below D cI cZ mo ad args s Q r none)) res) : W p l e R s m args below meth c H locs 0 0 Q (F0 m 47 ls [.int (zI t0)]) := by
  unfold m_findPlace_47 at hf
  have hx := C.1
  have hb := C.2.1
  have hts := C.2.2.2.2.2.2.1
  refine lv_istore_n (lv' := [(3, .int (zI t0)), (0, .ref mo), (1, .int (zI x1)), (2, .int (zI x2)), (4, .int (zI x4))]) hx hb dX5_findPlace_47 rfl hl (by decide) rfl (fun ls hl => ?_)
  refine zl_iinc (x := x4) (n := 1) (lv' := [(4, .int (zI (x4 + 1))), (3, .int (zI t0)), (0, .ref mo), (1, .int (zI x1)), (2, .int (zI x2))]) (k := 4) hx hb dX5_findPlace_48 hl rfl (by decide) rfl (fun ls hl => ?_)
  refine lv_goto (tgt := 14) hx hb dX5_findPlace_51 (by decide) ?_
  obtain rfl := Option.some.inj hf
  exact hK _ _ _ hZ (lv_sub hl [2, 3, 4, 1, 0] rfl)

theorem w_findPlace_90 {p : Program} {l : Launch} {e : Env} {R : Room} {s : State} {m : MethodId} {args : Array Value} {below : List Frame} {meth : Method} {c : Code} {Q : State → Prop} {D : va_G} {cI cZ : ClassId} {mo : Nat} {ad : Nat → Nat} {H : Heap} {locs : List Loc} {M : MS} (C : MC p s m args meth c D cI cZ cX5_findPlace 5 none) (hR : 3 ≤ R.frames ∧ 62 ≤ R.locals) {x2 : Int} {res : MS} (hf : m_findPlace_90 M x2 = some res) (hZ : ZM D cI cZ mo ad s.heap M H locs) {ls : Array Slot} (hl : lv_has ls 5 [(0, .ref mo), (2, .int (zI x2))]) (hK : KM below D cI cZ mo ad args s Q res none) : W p l e R s m args below meth c H locs 0 0 Q (F0 m 90 ls []) := by
  unfold m_findPlace_90 at hf
  have hx := C.1
  have hb := C.2.1
  have hts := C.2.2.2.2.2.2.1
  refine lv_aload_n hx hb dX5_findPlace_90 rfl (lv_at hl 0 rfl) ?_
  refine lv_iload_n hx hb dX5_findPlace_91 rfl (lv_at hl 1 rfl) ?_
  obtain ⟨y4, ey4, hf⟩ := bd_inv hf
  refine zm_callV C hZ (n := 1) (rest := []) (met_insideTop l D cI cZ mo ad ey4) (lw_V q1372 q1374 qs47 q107 q1375) rfl rfl (by decide +kernel) ⟨Nat.le_trans (by decide) hR.1, Nat.le_trans (by decide) hR.2⟩ rfl hl.1 rfl (Nat.le_of_ble_eq_true rfl) dX5_findPlace_92 (fun H locs hZ => ?_)
  obtain rfl := Option.some.inj hf
  exact zm_vret C hZ hK dX5_findPlace_95

theorem w_findPlace_54 {p : Program} {l : Launch} {e : Env} {R : Room} {s : State} {m : MethodId} {args : Array Value} {below : List Frame} {meth : Method} {c : Code} {Q : State → Prop} {D : va_G} {cI cZ : ClassId} {mo : Nat} {ad : Nat → Nat} {H : Heap} {locs : List Loc} {M : MS} (C : MC p s m args meth c D cI cZ cX5_findPlace 5 none) (hR : 3 ≤ R.frames ∧ 62 ≤ R.locals) {x2 x3 : Int} {res : MS} (hf : m_findPlace_54 M x2 x3 = some res) (hZ : ZM D cI cZ mo ad s.heap M H locs) {ls : Array Slot} (hl : lv_has ls 5 [(0, .ref mo), (2, .int (zI x2)), (3, .int (zI x3))]) (hK : KM below D cI cZ mo ad args s Q res none) : W p l e R s m args below meth c H locs 0 0 Q (F0 m 54 ls []) := by
  unfold m_findPlace_54 at hf
  have hx := C.1
  have hb := C.2.1
  have hts := C.2.2.2.2.2.2.1
  refine lv_aload_n hx hb dX5_findPlace_54 rfl (lv_at hl 0 rfl) ?_
  refine lv_iload_n hx hb dX5_findPlace_55 rfl (lv_at hl 1 rfl) ?_
  refine zl_ldc (v := 655360) hx hb C.2.2.2.2.2.1 (hts _ q1409) dX5_findPlace_56 ?_
  obtain ⟨y3, ey3, hf⟩ := bd_inv hf
  refine zm_callV C hZ (n := 2) (rest := []) (met_named l D cI cZ mo ad ey3) (lw_V q1367 q1369 qs46 q107 q1370) rfl rfl (by decide +kernel) ⟨Nat.le_trans (by decide) hR.1, Nat.le_trans (by decide) hR.2⟩ rfl hl.1 rfl (Nat.le_of_ble_eq_true rfl) dX5_findPlace_58 (fun H locs hZ => ?_)
  refine zl_if_eq (tgt := 90) hx hb dX5_findPlace_61 (by decide) (fun hc => ?_) (fun hc => ?_)
  · rw [if_pos hc] at hf
    exact w_findPlace_90 C hR hf hZ (lv_sub hl [0, 1] rfl) hK
  · rw [if_neg hc] at hf
    refine lv_iload_n hx hb dX5_findPlace_64 rfl (lv_at hl 2 rfl) ?_
    refine zl_if_lt (tgt := 90) hx hb dX5_findPlace_65 (by decide) (fun hc => ?_) (fun hc => ?_)
    · rw [if_pos hc] at hf
      exact w_findPlace_90 C hR hf hZ (lv_sub hl [0, 1] rfl) hK
    · rw [if_neg hc] at hf
      refine lv_aload_n hx hb dX5_findPlace_68 rfl (lv_at hl 0 rfl) ?_
      refine lv_aload_n hx hb dX5_findPlace_69 rfl (lv_at hl 0 rfl) ?_
      refine lv_iload_n hx hb dX5_findPlace_70 rfl (lv_at hl 2 rfl) ?_
      obtain ⟨y4, ey4, hf⟩ := bd_inv hf
      refine zm_callV C hZ (n := 1) (rest := [.ref mo]) (met_seat l D cI cZ mo ad ey4) (lw_V q1376 q1378 qs48 q107 q1379) rfl rfl (by decide +kernel) ⟨Nat.le_trans (by decide) hR.1, Nat.le_trans (by decide) hR.2⟩ rfl hl.1 rfl (Nat.le_of_ble_eq_true rfl) dX5_findPlace_71 (fun H locs hZ => ?_)
      obtain ⟨M5, eM5, hf⟩ := bnd_inv hf
      refine zm_puti C hZ 20 (by decide) rfl rfl q1161 dX5_findPlace_74 (fun H locs hZ => ?_)
      rw [← eM5] at hZ
      refine lv_aload_n hx hb dX5_findPlace_77 rfl (lv_at hl 0 rfl) ?_
      refine lv_aload_n hx hb dX5_findPlace_78 rfl (lv_at hl 0 rfl) ?_
      refine zm_geta C hZ 10 (by decide) (by decide) q1151 dX5_findPlace_79 ?_
      refine lv_iload_n hx hb dX5_findPlace_82 rfl (lv_at hl 2 rfl) ?_
      obtain ⟨hg, hf⟩ := gd_inv hf
      refine zm_iald C hZ 10 (by decide) rfl rfl hg dX5_findPlace_83 ?_
      obtain ⟨M6, eM6, hf⟩ := bnd_inv hf
      refine zm_puti C hZ 21 (by decide) rfl rfl q1162 dX5_findPlace_84 (fun H locs hZ => ?_)
      rw [← eM6] at hZ
      refine lv_goto (tgt := 95) hx hb dX5_findPlace_87 (by decide) ?_
      obtain rfl := Option.some.inj hf
      exact zm_vret C hZ hK dX5_findPlace_95

theorem w_findPlace_14s {p : Program} {l : Launch} {e : Env} {R : Room} {s : State} {m : MethodId} {args : Array Value} {below : List Frame} {meth : Method} {c : Code} {Q : State → Prop} {D : va_G} {cI cZ : ClassId} {mo : Nat} {ad : Nat → Nat} {H : Heap} {locs : List Loc} {M : MS} (C : MC p s m args meth c D cI cZ cX5_findPlace 5 none) (hR : 3 ≤ R.frames ∧ 62 ≤ R.locals) {x1 x2 x3 x4 : Int} {res : (Int × Int) ⊕ (MS)} (hf : m_findPlace_14s M x1 x2 x3 x4 = some res) (hZ : ZM D cI cZ mo ad s.heap M H locs) {ls : Array Slot} (hl : lv_has ls 5 [(0, .ref mo), (1, .int (zI x1)), (2, .int (zI x2)), (3, .int (zI x3)), (4, .int (zI x4))]) (hK : (Sum.elim (fun z => ∀ (H : Heap) (locs : List Loc) (ls : Array Slot), ZM D cI cZ mo ad s.heap M H locs → lv_has ls 5 [(0, .ref mo), (1, .int (zI x1)), (2, .int (zI x2)), (3, .int (zI z.1)), (4, .int (zI z.2))] → W p l e R s m args below meth c H locs 0 0 Q (F0 m 14 ls [])) (fun r => KM below D cI cZ mo ad args s Q r none)) res) : W p l e R s m args below meth c H locs 0 0 Q (F0 m 14 ls []) := by
  unfold m_findPlace_14s at hf
  have hx := C.1
  have hb := C.2.1
  have hts := C.2.2.2.2.2.2.1
  refine lv_iload hx hb dX5_findPlace_14 (lv_at hl 4 rfl) ?_
  refine lv_iload_n hx hb dX5_findPlace_16 rfl (lv_at hl 1 rfl) ?_
  refine zl_icmp_ge (tgt := 54) hx hb dX5_findPlace_17 (by decide) (fun hc => ?_) (fun hc => ?_)
  · rw [if_pos hc] at hf
    refine lv_aload_n hx hb dX5_findPlace_20 rfl (lv_at hl 0 rfl) ?_
    refine lv_aload_n hx hb dX5_findPlace_21 rfl (lv_at hl 0 rfl) ?_
    refine zm_geta C hZ 12 (by decide) (by decide) q1153 dX5_findPlace_22 ?_
    refine lv_iload hx hb dX5_findPlace_25 (lv_at hl 4 rfl) ?_
    obtain ⟨hg, hf⟩ := gd_inv hf
    refine zm_iald C hZ 12 (by decide) rfl rfl hg dX5_findPlace_27 ?_
    refine zl_ldc (v := 524288) hx hb C.2.2.2.2.2.1 (hts _ q1408) dX5_findPlace_28 ?_
    obtain ⟨y2, ey2, hf⟩ := bd_inv hf
    refine zm_callV C hZ (n := 2) (rest := []) (met_named l D cI cZ mo ad ey2) (lw_V q1367 q1369 qs46 q107 q1370) rfl rfl (by decide +kernel) ⟨Nat.le_trans (by decide) hR.1, Nat.le_trans (by decide) hR.2⟩ rfl hl.1 rfl (Nat.le_of_ble_eq_true rfl) dX5_findPlace_30 (fun H locs hZ => ?_)
    refine zl_if_eq (tgt := 46) hx hb dX5_findPlace_33 (by decide) (fun hc => ?_) (fun hc => ?_)
    · rw [if_pos hc] at hf
      refine lv_iload_n hx hb dX5_findPlace_46 rfl (lv_at hl 3 rfl) ?_
      exact w_findPlace_47 C hR hf hZ (lv_sub hl [0, 1, 2, 4] rfl) hK
    · rw [if_neg hc] at hf
      refine lv_aload_n hx hb dX5_findPlace_36 rfl (lv_at hl 0 rfl) ?_
      refine zm_geta C hZ 12 (by decide) (by decide) q1153 dX5_findPlace_37 ?_
      refine lv_iload hx hb dX5_findPlace_40 (lv_at hl 4 rfl) ?_
      obtain ⟨hg, hf⟩ := gd_inv hf
      refine zm_iald C hZ 12 (by decide) rfl rfl hg dX5_findPlace_42 ?_
      refine lv_goto (tgt := 47) hx hb dX5_findPlace_43 (by decide) ?_
      exact w_findPlace_47 C hR hf hZ (lv_sub hl [0, 1, 2, 4] rfl) hK
  · rw [if_neg hc] at hf
    obtain ⟨r0, hm0, rfl⟩ := mr_inv hf
    exact w_findPlace_54 C hR hm0 hZ (lv_sub hl [0, 2, 3] rfl) hK

theorem w_findPlace_14 {p : Program} {l : Launch} {e : Env} {R : Room} {s : State} {m : MethodId} {args : Array Value} {below : List Frame} {meth : Method} {c : Code} {Q : State → Prop} {D : va_G} {cI cZ : ClassId} {mo : Nat} {ad : Nat → Nat} {H : Heap} {locs : List Loc} {M : MS} (C : MC p s m args meth c D cI cZ cX5_findPlace 5 none) (hR : 3 ≤ R.frames ∧ 62 ≤ R.locals) {x1 x2 x3 x4 : Int} {res : MS} (hf : m_findPlace_14 M x1 x2 x3 x4 = some res) (hZ : ZM D cI cZ mo ad s.heap M H locs) {ls : Array Slot} (hl : lv_has ls 5 [(0, .ref mo), (1, .int (zI x1)), (2, .int (zI x2)), (3, .int (zI x3)), (4, .int (zI x4))]) (hK : KM below D cI cZ mo ad args s Q res none) : W p l e R s m args below meth c H locs 0 0 Q (F0 m 14 ls []) := by
  unfold m_findPlace_14 at hf
  refine iter_ind (P := fun z r => ∀ (H : Heap) (locs : List Loc) (ls : Array Slot), ZM D cI cZ mo ad s.heap M H locs → lv_has ls 5 [(0, .ref mo), (1, .int (zI x1)), (2, .int (zI x2)), (3, .int (zI z.1)), (4, .int (zI z.2))] → KM below D cI cZ mo ad args s Q r none → W p l e R s m args below meth c H locs 0 0 Q (F0 m 14 ls [])) ?_ ?_ hf H locs ls hZ hl hK
  · intro z r h1 H locs ls hZ hl hK; exact w_findPlace_14s C hR h1 hZ hl hK
  · intro z z1 r h1 ih H locs ls hZ hl hK; exact w_findPlace_14s C hR h1 hZ hl (fun H locs ls hZ hl => ih H locs ls hZ hl hK)

theorem w_findPlace {p : Program} {l : Launch} {e : Env} {R : Room} {s : State} {m : MethodId} {args : Array Value} {below : List Frame} {meth : Method} {c : Code} {Q : State → Prop} {D : va_G} {cI cZ : ClassId} {mo : Nat} {ad : Nat → Nat} {H : Heap} {locs : List Loc} {M : MS} (C : MC p s m args meth c D cI cZ cX5_findPlace 5 none) (hR : 3 ≤ R.frames ∧ 62 ≤ R.locals) {x1 : Int} {res : MS} (hf : m_findPlace M x1 = some res) (hZ : ZM D cI cZ mo ad s.heap M H locs) {ls : Array Slot} (hl : lv_has ls 5 [(0, .ref mo), (1, .int (zI x1))]) (hK : KM below D cI cZ mo ad args s Q res none) : W p l e R s m args below meth c H locs 0 0 Q (F0 m 0 ls []) := by
  unfold m_findPlace at hf
  have hx := C.1
  have hb := C.2.1
  have hts := C.2.2.2.2.2.2.1
  refine lv_aload_n hx hb dX5_findPlace_0 rfl (lv_at hl 0 rfl) ?_
  refine zm_geta C hZ 12 (by decide) (by decide) q1153 dX5_findPlace_1 ?_
  refine lv_iload_n hx hb dX5_findPlace_4 rfl (lv_at hl 1 rfl) ?_
  refine zl_iconst hx hb dX5_findPlace_5 ?_
  refine zl_isub hx hb dX5_findPlace_6 ?_
  obtain ⟨hg, hf⟩ := gd_inv hf
  refine zm_iald C hZ 12 (by decide) rfl rfl hg dX5_findPlace_7 ?_
  obtain ⟨y1, ey1, hf⟩ := bnd_inv hf
  refine zl_top ey1 ?_
  refine lv_istore_n (lv' := [(2, .int (zI y1)), (0, .ref mo), (1, .int (zI x1))]) hx hb dX5_findPlace_8 rfl hl (by decide) rfl (fun ls hl => ?_)
  refine zl_iconst hx hb dX5_findPlace_9 ?_
  refine lv_istore_n (lv' := [(3, .int (zI (-1))), (2, .int (zI y1)), (0, .ref mo), (1, .int (zI x1))]) hx hb dX5_findPlace_10 rfl hl (by decide) rfl (fun ls hl => ?_)
  refine zl_iconst hx hb dX5_findPlace_11 ?_
  refine lv_istore (lv' := [(4, .int (zI 1)), (3, .int (zI (-1))), (2, .int (zI y1)), (0, .ref mo), (1, .int (zI x1))]) hx hb dX5_findPlace_12 hl (by decide) rfl (fun ls hl => ?_)
  exact w_findPlace_14 C hR hf hZ (lv_sub hl [3, 4, 2, 1, 0] rfl) hK

theorem met_findPlace (l : Launch) (D : va_G) (cI cZ : ClassId) (mo : Nat) (ad : Nat → Nat) {M : MS} {x1 : Int} {res : MS} (hf : m_findPlace M x1 = some res) : Met l yX5_findPlace (ws_ yX5_findPlace cX5_findPlace 5 none) ({ frames := 3, cells := 0, slots := 0, locals := 62 }) (PM D cI cZ mo ad M [.int (zI x1)]) (QM D cI cZ mo ad res none) 0 0 (MA mo ad) := by
  refine Met.ofW (cc := cX5_findPlace) (maxL := 5) (ret := none) (by decide) rfl ?_
  intro p e s m args below meth c s₁ B hml hv
  obtain ⟨rfl, hRM, hK0⟩ := hv
  have hts := atoms_spec (ws := ws_ yX5_findPlace cX5_findPlace 5 none) B.pre
  have hts : ∀ w ∈ lw_all, w.before _ s = true := fun w h => hts w (List.mem_cons_of_mem _ h)
  have C : MC p s m _ meth c D cI cZ cX5_findPlace 5 none := ⟨B.exec, B.bytes, B.returns, B.notSynchronized, hml, findClass_of_methodNamed B.named, hts, hK0⟩
  have hZ : ZM D cI cZ mo ad s.heap M s.heap [] := ⟨hRM, rfl, fun _ _ => rfl, fun _ h => by cases h⟩
  have hl := lv_entry ([.ref mo, .int (zI x1)]) (n := 5) (Nat.le_of_ble_eq_true rfl)
  rw [lg_entry_eq]
  generalize (lg_sl ([.ref mo, .int (zI x1)]) ++ List.replicate (5 - (lg_sl ([.ref mo, .int (zI x1)])).length) Slot.unset).toArray = ls at hl ⊢
  have hl : lv_has ls 5 [(0, .ref mo), (1, .int (zI x1))] := hl
  exact w_findPlace C ⟨Nat.le_refl _, Nat.le_refl _⟩ hf hZ hl rfl

theorem w_renew_44 {p : Program} {l : Launch} {e : Env} {R : Room} {s : State} {m : MethodId} {args : Array Value} {below : List Frame} {meth : Method} {c : Code} {Q : State → Prop} {D : va_G} {cI cZ : ClassId} {mo : Nat} {ad : Nat → Nat} {H : Heap} {locs : List Loc} {M : MS} (C : MC p s m args meth c D cI cZ cX5_renew 5 none) (hR : 4 ≤ R.frames ∧ 86 ≤ R.locals) {x1 x2 x3 : Int} {res : (Int × Int) ⊕ (MS)} (hf : m_renew_44 M x1 x2 x3 = some res) (hZ : ZM D cI cZ mo ad s.heap M H locs) {ls : Array Slot} (hl : lv_has ls 5 [(0, .ref mo), (1, .int (zI x1)), (2, .int (zI x2)), (3, .int (zI x3))]) (hK : (Sum.elim (fun z => ∀ (H : Heap) (locs : List Loc) (ls : Array Slot), ZM D cI cZ mo ad s.heap M H locs → lv_has ls 5 [(0, .ref mo), (1, .int (zI x1)), (2, .int (zI z.1)), (3, .int (zI z.2))] → W p l e R s m args below meth c H locs 0 0 Q (F0 m 9 ls [])) (fun r => KM below D cI cZ mo ad args s Q r none)) res) : W p l e R s m args below meth c H locs 0 0 Q (F0 m 44 ls []) := by
  unfold m_renew_44 at hf
  have hx := C.1
  have hb := C.2.1
  have hts := C.2.2.2.2.2.2.1
  refine zl_iinc (x := x3) (n := 1) (lv' := [(3, .int (zI (x3 + 1))), (0, .ref mo), (1, .int (zI x1)), (2, .int (zI x2))]) (k := 3) hx hb dX5_renew_44 hl rfl (by decide) rfl (fun ls hl => ?_)
  refine lv_goto (tgt := 9) hx hb dX5_renew_47 (by decide) ?_
  obtain rfl := Option.some.inj hf
  exact hK _ _ _ hZ (lv_sub hl [1, 2, 3, 0] rfl)

theorem w_renew_127 {p : Program} {l : Launch} {e : Env} {R : Room} {s : State} {m : MethodId} {args : Array Value} {below : List Frame} {meth : Method} {c : Code} {Q : State → Prop} {D : va_G} {cI cZ : ClassId} {mo : Nat} {ad : Nat → Nat} {H : Heap} {locs : List Loc} {M : MS} (C : MC p s m args meth c D cI cZ cX5_renew 5 none) (hR : 4 ≤ R.frames ∧ 86 ≤ R.locals) {x1 x3 : Int} {res : (MS × Int) ⊕ (MS)} (hf : m_renew_127 M x1 x3 = some res) (hZ : ZM D cI cZ mo ad s.heap M H locs) {ls : Array Slot} (hl : lv_has ls 5 [(0, .ref mo), (1, .int (zI x1)), (3, .int (zI x3))]) (hK : (Sum.elim (fun z => ∀ (H : Heap) (locs : List Loc) (ls : Array Slot), ZM D cI cZ mo ad s.heap z.1 H locs → lv_has ls 5 [(0, .ref mo), (1, .int (zI x1)), (3, .int (zI z.2))] → W p l e R s m args below meth c H locs 0 0 Q (F0 m 52 ls [])) (fun r => KM below D cI cZ mo ad args s Q r none)) res) : W p l e R s m args below meth c H locs 0 0 Q (F0 m 127 ls []) := by
  unfold m_renew_127 at hf
  have hx := C.1
  have hb := C.2.1
  have hts := C.2.2.2.2.2.2.1
  refine zl_iinc (x := x3) (n := 1) (lv' := [(3, .int (zI (x3 + 1))), (0, .ref mo), (1, .int (zI x1))]) (k := 2) hx hb dX5_renew_127 hl rfl (by decide) rfl (fun ls hl => ?_)
  refine lv_goto (tgt := 52) hx hb dX5_renew_130 (by decide) ?_
  obtain rfl := Option.some.inj hf
  exact hK _ _ _ hZ (lv_sub hl [1, 2, 0] rfl)

theorem w_renew_52s {p : Program} {l : Launch} {e : Env} {R : Room} {s : State} {m : MethodId} {args : Array Value} {below : List Frame} {meth : Method} {c : Code} {Q : State → Prop} {D : va_G} {cI cZ : ClassId} {mo : Nat} {ad : Nat → Nat} {H : Heap} {locs : List Loc} {M : MS} (C : MC p s m args meth c D cI cZ cX5_renew 5 none) (hR : 4 ≤ R.frames ∧ 86 ≤ R.locals) {x1 x3 : Int} {res : (MS × Int) ⊕ (MS)} (hf : m_renew_52s M x1 x3 = some res) (hZ : ZM D cI cZ mo ad s.heap M H locs) {ls : Array Slot} (hl : lv_has ls 5 [(0, .ref mo), (1, .int (zI x1)), (3, .int (zI x3))]) (hK : (Sum.elim (fun z => ∀ (H : Heap) (locs : List Loc) (ls : Array Slot), ZM D cI cZ mo ad s.heap z.1 H locs → lv_has ls 5 [(0, .ref mo), (1, .int (zI x1)), (3, .int (zI z.2))] → W p l e R s m args below meth c H locs 0 0 Q (F0 m 52 ls [])) (fun r => KM below D cI cZ mo ad args s Q r none)) res) : W p l e R s m args below meth c H locs 0 0 Q (F0 m 52 ls []) := by
  unfold m_renew_52s at hf
  have hx := C.1
  have hb := C.2.1
  have hts := C.2.2.2.2.2.2.1
  refine lv_iload_n hx hb dX5_renew_52 rfl (lv_at hl 2 rfl) ?_
  refine lv_aload_n hx hb dX5_renew_53 rfl (lv_at hl 0 rfl) ?_
  refine zm_geti C hZ 16 (by decide) rfl q1157 dX5_renew_54 ?_
  refine zl_icmp_ge (tgt := 133) hx hb dX5_renew_57 (by decide) (fun hc => ?_) (fun hc => ?_)
  · rw [if_pos hc] at hf
    refine lv_aload_n hx hb dX5_renew_60 rfl (lv_at hl 0 rfl) ?_
    refine zm_geti C hZ 4 (by decide) rfl q1145 dX5_renew_61 ?_
    refine zl_if_ne (tgt := 133) hx hb dX5_renew_64 (by decide) (fun hc => ?_) (fun hc => ?_)
    · rw [if_pos hc] at hf
      refine lv_aload_n hx hb dX5_renew_67 rfl (lv_at hl 0 rfl) ?_
      refine zm_geta C hZ 15 (by decide) (by decide) q1156 dX5_renew_68 ?_
      refine lv_iload_n hx hb dX5_renew_71 rfl (lv_at hl 2 rfl) ?_
      obtain ⟨hg, hf⟩ := gd_inv hf
      refine zm_iald C hZ 15 (by decide) rfl rfl hg dX5_renew_72 ?_
      refine lv_iload_n hx hb dX5_renew_73 rfl (lv_at hl 1 rfl) ?_
      refine zl_icmp_ne (tgt := 127) hx hb dX5_renew_74 (by decide) (fun hc => ?_) (fun hc => ?_)
      · rw [if_pos hc] at hf
        refine lv_aload_n hx hb dX5_renew_77 rfl (lv_at hl 0 rfl) ?_
        refine lv_aload_n hx hb dX5_renew_78 rfl (lv_at hl 0 rfl) ?_
        refine zm_geti C hZ 13 (by decide) rfl q1154 dX5_renew_79 ?_
        obtain ⟨y4, ey4, hf⟩ := bd_inv hf
        refine zm_callV C hZ (n := 1) (rest := []) (met_findPlace l D cI cZ mo ad ey4) (lw_V q1404 q1406 qs55 q107 q1407) rfl rfl (by decide +kernel) ⟨Nat.le_trans (by decide) hR.1, Nat.le_trans (by decide) hR.2⟩ rfl hl.1 rfl (Nat.le_of_ble_eq_true rfl) dX5_renew_82 (fun H locs hZ => ?_)
        refine lv_aload_n hx hb dX5_renew_85 rfl (lv_at hl 0 rfl) ?_
        refine lv_aload_n hx hb dX5_renew_86 rfl (lv_at hl 0 rfl) ?_
        refine zm_geta C hZ 8 (by decide) (by decide) q1149 dX5_renew_87 ?_
        refine lv_aload_n hx hb dX5_renew_90 rfl (lv_at hl 0 rfl) ?_
        refine zm_geta C hZ 14 (by decide) (by decide) q1155 dX5_renew_91 ?_
        refine lv_iload_n hx hb dX5_renew_94 rfl (lv_at hl 2 rfl) ?_
        obtain ⟨hg, hf⟩ := gd_inv hf
        refine zm_iald C hZ 14 (by decide) rfl rfl hg dX5_renew_95 ?_
        obtain ⟨hg, hf⟩ := gd_inv hf
        refine zm_iald C hZ 8 (by decide) rfl rfl hg dX5_renew_96 ?_
        refine lv_aload_n hx hb dX5_renew_97 rfl (lv_at hl 0 rfl) ?_
        refine zm_geta C hZ 9 (by decide) (by decide) q1150 dX5_renew_98 ?_
        refine lv_aload_n hx hb dX5_renew_101 rfl (lv_at hl 0 rfl) ?_
        refine zm_geta C hZ 14 (by decide) (by decide) q1155 dX5_renew_102 ?_
        refine lv_iload_n hx hb dX5_renew_105 rfl (lv_at hl 2 rfl) ?_
        obtain ⟨hg, hf⟩ := gd_inv hf
        refine zm_iald C hZ 14 (by decide) rfl rfl hg dX5_renew_106 ?_
        obtain ⟨hg, hf⟩ := gd_inv hf
        refine zm_iald C hZ 9 (by decide) rfl rfl hg dX5_renew_107 ?_
        obtain ⟨y5, ey5, hf⟩ := bd_inv hf
        refine zm_callV C hZ (n := 2) (rest := []) (met_create l D cI cZ mo ad ey5) (lw_V q1384 q1386 qs50 q107 q1387) rfl rfl (by decide +kernel) ⟨Nat.le_trans (by decide) hR.1, Nat.le_trans (by decide) hR.2⟩ rfl hl.1 rfl (Nat.le_of_ble_eq_true rfl) dX5_renew_108 (fun H locs hZ => ?_)
        refine lv_istore (lv' := [(4, .int (zI y5.2)), (0, .ref mo), (1, .int (zI x1)), (3, .int (zI x3))]) hx hb dX5_renew_111 hl (by decide) rfl (fun ls hl => ?_)
        refine lv_aload_n hx hb dX5_renew_113 rfl (lv_at hl 1 rfl) ?_
        refine lv_iload hx hb dX5_renew_114 (lv_at hl 0 rfl) ?_
        obtain ⟨y6, ey6, hf⟩ := bd_inv hf
        refine zm_callV C hZ (n := 1) (rest := []) (met_push l D cI cZ mo ad ey6) (lw_V q1388 q1390 qs51 q107 q1391) rfl rfl (by decide +kernel) ⟨Nat.le_trans (by decide) hR.1, Nat.le_trans (by decide) hR.2⟩ rfl hl.1 rfl (Nat.le_of_ble_eq_true rfl) dX5_renew_116 (fun H locs hZ => ?_)
        refine lv_aload_n hx hb dX5_renew_119 rfl (lv_at hl 1 rfl) ?_
        refine zm_geta C hZ 14 (by decide) (by decide) q1155 dX5_renew_120 ?_
        refine lv_iload_n hx hb dX5_renew_123 rfl (lv_at hl 3 rfl) ?_
        refine lv_iload hx hb dX5_renew_124 (lv_at hl 0 rfl) ?_
        obtain ⟨hg, hf⟩ := gd_inv hf
        obtain ⟨M7, eM7, hf⟩ := bnd_inv hf
        refine zm_iast C hZ 14 (by decide) rfl rfl hg dX5_renew_126 (fun H locs hZ => ?_)
        rw [← eM7] at hZ
        exact w_renew_127 C hR hf hZ (lv_sub hl [1, 2, 3] rfl) hK
      · rw [if_neg hc] at hf
        exact w_renew_127 C hR hf hZ (lv_sub hl [0, 1, 2] rfl) hK
    · rw [if_neg hc] at hf
      obtain rfl := Option.some.inj hf
      exact zm_vret C hZ hK dX5_renew_133
  · rw [if_neg hc] at hf
    obtain rfl := Option.some.inj hf
    exact zm_vret C hZ hK dX5_renew_133

theorem w_renew_52 {p : Program} {l : Launch} {e : Env} {R : Room} {s : State} {m : MethodId} {args : Array Value} {below : List Frame} {meth : Method} {c : Code} {Q : State → Prop} {D : va_G} {cI cZ : ClassId} {mo : Nat} {ad : Nat → Nat} {H : Heap} {locs : List Loc} {M : MS} (C : MC p s m args meth c D cI cZ cX5_renew 5 none) (hR : 4 ≤ R.frames ∧ 86 ≤ R.locals) {x1 x3 : Int} {res : MS} (hf : m_renew_52 M x1 x3 = some res) (hZ : ZM D cI cZ mo ad s.heap M H locs) {ls : Array Slot} (hl : lv_has ls 5 [(0, .ref mo), (1, .int (zI x1)), (3, .int (zI x3))]) (hK : KM below D cI cZ mo ad args s Q res none) : W p l e R s m args below meth c H locs 0 0 Q (F0 m 52 ls []) := by
  unfold m_renew_52 at hf
  refine iter_ind (P := fun z r => ∀ (H : Heap) (locs : List Loc) (ls : Array Slot), ZM D cI cZ mo ad s.heap z.1 H locs → lv_has ls 5 [(0, .ref mo), (1, .int (zI x1)), (3, .int (zI z.2))] → KM below D cI cZ mo ad args s Q r none → W p l e R s m args below meth c H locs 0 0 Q (F0 m 52 ls [])) ?_ ?_ hf H locs ls hZ hl hK
  · intro z r h1 H locs ls hZ hl hK; exact w_renew_52s C hR h1 hZ hl hK
  · intro z z1 r h1 ih H locs ls hZ hl hK; exact w_renew_52s C hR h1 hZ hl (fun H locs ls hZ hl => ih H locs ls hZ hl hK)

theorem w_renew_50 {p : Program} {l : Launch} {e : Env} {R : Room} {s : State} {m : MethodId} {args : Array Value} {below : List Frame} {meth : Method} {c : Code} {Q : State → Prop} {D : va_G} {cI cZ : ClassId} {mo : Nat} {ad : Nat → Nat} {H : Heap} {locs : List Loc} {M : MS} (C : MC p s m args meth c D cI cZ cX5_renew 5 none) (hR : 4 ≤ R.frames ∧ 86 ≤ R.locals) {x1 x2 : Int} {res : MS} (hf : m_renew_50 M x1 x2 = some res) (hZ : ZM D cI cZ mo ad s.heap M H locs) {ls : Array Slot} (hl : lv_has ls 5 [(0, .ref mo), (1, .int (zI x1)), (2, .int (zI x2))]) (hK : KM below D cI cZ mo ad args s Q res none) : W p l e R s m args below meth c H locs 0 0 Q (F0 m 50 ls []) := by
  unfold m_renew_50 at hf
  have hx := C.1
  have hb := C.2.1
  have hts := C.2.2.2.2.2.2.1
  refine lv_iload_n hx hb dX5_renew_50 rfl (lv_at hl 2 rfl) ?_
  refine lv_istore_n (lv' := [(3, .int (zI x2)), (0, .ref mo), (1, .int (zI x1)), (2, .int (zI x2))]) hx hb dX5_renew_51 rfl hl (by decide) rfl (fun ls hl => ?_)
  exact w_renew_52 C hR hf hZ (lv_sub hl [1, 2, 0] rfl) hK

theorem w_renew_9s {p : Program} {l : Launch} {e : Env} {R : Room} {s : State} {m : MethodId} {args : Array Value} {below : List Frame} {meth : Method} {c : Code} {Q : State → Prop} {D : va_G} {cI cZ : ClassId} {mo : Nat} {ad : Nat → Nat} {H : Heap} {locs : List Loc} {M : MS} (C : MC p s m args meth c D cI cZ cX5_renew 5 none) (hR : 4 ≤ R.frames ∧ 86 ≤ R.locals) {x1 x2 x3 : Int} {res : (Int × Int) ⊕ (MS)} (hf : m_renew_9s M x1 x2 x3 = some res) (hZ : ZM D cI cZ mo ad s.heap M H locs) {ls : Array Slot} (hl : lv_has ls 5 [(0, .ref mo), (1, .int (zI x1)), (2, .int (zI x2)), (3, .int (zI x3))]) (hK : (Sum.elim (fun z => ∀ (H : Heap) (locs : List Loc) (ls : Array Slot), ZM D cI cZ mo ad s.heap M H locs → lv_has ls 5 [(0, .ref mo), (1, .int (zI x1)), (2, .int (zI z.1)), (3, .int (zI z.2))] → W p l e R s m args below meth c H locs 0 0 Q (F0 m 9 ls [])) (fun r => KM below D cI cZ mo ad args s Q r none)) res) : W p l e R s m args below meth c H locs 0 0 Q (F0 m 9 ls []) := by
  unfold m_renew_9s at hf
  have hx := C.1
  have hb := C.2.1
  have hts := C.2.2.2.2.2.2.1
  refine lv_iload_n hx hb dX5_renew_9 rfl (lv_at hl 3 rfl) ?_
  refine lv_aload_n hx hb dX5_renew_10 rfl (lv_at hl 0 rfl) ?_
  refine zm_geti C hZ 16 (by decide) rfl q1157 dX5_renew_11 ?_
  refine zl_icmp_ge (tgt := 50) hx hb dX5_renew_14 (by decide) (fun hc => ?_) (fun hc => ?_)
  · rw [if_pos hc] at hf
    refine lv_aload_n hx hb dX5_renew_17 rfl (lv_at hl 0 rfl) ?_
    refine zm_geta C hZ 15 (by decide) (by decide) q1156 dX5_renew_18 ?_
    refine lv_iload_n hx hb dX5_renew_21 rfl (lv_at hl 3 rfl) ?_
    obtain ⟨hg, hf⟩ := gd_inv hf
    refine zm_iald C hZ 15 (by decide) rfl rfl hg dX5_renew_22 ?_
    refine lv_iload_n hx hb dX5_renew_23 rfl (lv_at hl 1 rfl) ?_
    refine zl_icmp_ne (tgt := 44) hx hb dX5_renew_24 (by decide) (fun hc => ?_) (fun hc => ?_)
    · rw [if_pos hc] at hf
      refine lv_aload_n hx hb dX5_renew_27 rfl (lv_at hl 0 rfl) ?_
      refine lv_aload_n hx hb dX5_renew_28 rfl (lv_at hl 0 rfl) ?_
      refine zm_geta C hZ 14 (by decide) (by decide) q1155 dX5_renew_29 ?_
      refine lv_iload_n hx hb dX5_renew_32 rfl (lv_at hl 3 rfl) ?_
      obtain ⟨hg, hf⟩ := gd_inv hf
      refine zm_iald C hZ 14 (by decide) rfl rfl hg dX5_renew_33 ?_
      obtain ⟨y2, ey2, hf⟩ := bd_inv hf
      refine zm_callV C hZ (n := 1) (rest := []) (met_opened l D cI cZ mo ad ey2) (lw_V q1400 q1402 qs54 q107 q1403) rfl rfl (by decide +kernel) ⟨Nat.le_trans (by decide) hR.1, Nat.le_trans (by decide) hR.2⟩ rfl hl.1 rfl (Nat.le_of_ble_eq_true rfl) dX5_renew_34 (fun H locs hZ => ?_)
      refine zl_if_lt (tgt := 44) hx hb dX5_renew_37 (by decide) (fun hc => ?_) (fun hc => ?_)
      · rw [if_pos hc] at hf
        exact w_renew_44 C hR hf hZ (lv_sub hl [0, 1, 2, 3] rfl) hK
      · rw [if_neg hc] at hf
        refine lv_iload_n hx hb dX5_renew_40 rfl (lv_at hl 3 rfl) ?_
        refine zl_iconst hx hb dX5_renew_41 ?_
        refine zl_iadd hx hb dX5_renew_42 ?_
        obtain ⟨y3, ey3, hf⟩ := bnd_inv hf
        refine zl_top ey3 ?_
        refine lv_istore_n (lv' := [(2, .int (zI y3)), (0, .ref mo), (1, .int (zI x1)), (3, .int (zI x3))]) hx hb dX5_renew_43 rfl hl (by decide) rfl (fun ls hl => ?_)
        exact w_renew_44 C hR hf hZ (lv_sub hl [1, 2, 0, 3] rfl) hK
    · rw [if_neg hc] at hf
      exact w_renew_44 C hR hf hZ (lv_sub hl [0, 1, 2, 3] rfl) hK
  · rw [if_neg hc] at hf
    obtain ⟨r0, hm0, rfl⟩ := mr_inv hf
    exact w_renew_50 C hR hm0 hZ (lv_sub hl [0, 1, 2] rfl) hK

theorem w_renew_9 {p : Program} {l : Launch} {e : Env} {R : Room} {s : State} {m : MethodId} {args : Array Value} {below : List Frame} {meth : Method} {c : Code} {Q : State → Prop} {D : va_G} {cI cZ : ClassId} {mo : Nat} {ad : Nat → Nat} {H : Heap} {locs : List Loc} {M : MS} (C : MC p s m args meth c D cI cZ cX5_renew 5 none) (hR : 4 ≤ R.frames ∧ 86 ≤ R.locals) {x1 x2 x3 : Int} {res : MS} (hf : m_renew_9 M x1 x2 x3 = some res) (hZ : ZM D cI cZ mo ad s.heap M H locs) {ls : Array Slot} (hl : lv_has ls 5 [(0, .ref mo), (1, .int (zI x1)), (2, .int (zI x2)), (3, .int (zI x3))]) (hK : KM below D cI cZ mo ad args s Q res none) : W p l e R s m args below meth c H locs 0 0 Q (F0 m 9 ls []) := by
  unfold m_renew_9 at hf
  refine iter_ind (P := fun z r => ∀ (H : Heap) (locs : List Loc) (ls : Array Slot), ZM D cI cZ mo ad s.heap M H locs → lv_has ls 5 [(0, .ref mo), (1, .int (zI x1)), (2, .int (zI z.1)), (3, .int (zI z.2))] → KM below D cI cZ mo ad args s Q r none → W p l e R s m args below meth c H locs 0 0 Q (F0 m 9 ls [])) ?_ ?_ hf H locs ls hZ hl hK
  · intro z r h1 H locs ls hZ hl hK; exact w_renew_9s C hR h1 hZ hl hK
  · intro z z1 r h1 ih H locs ls hZ hl hK; exact w_renew_9s C hR h1 hZ hl (fun H locs ls hZ hl => ih H locs ls hZ hl hK)

theorem w_renew {p : Program} {l : Launch} {e : Env} {R : Room} {s : State} {m : MethodId} {args : Array Value} {below : List Frame} {meth : Method} {c : Code} {Q : State → Prop} {D : va_G} {cI cZ : ClassId} {mo : Nat} {ad : Nat → Nat} {H : Heap} {locs : List Loc} {M : MS} (C : MC p s m args meth c D cI cZ cX5_renew 5 none) (hR : 4 ≤ R.frames ∧ 86 ≤ R.locals) {res : MS} (hf : m_renew M = some res) (hZ : ZM D cI cZ mo ad s.heap M H locs) {ls : Array Slot} (hl : lv_has ls 5 [(0, .ref mo)]) (hK : KM below D cI cZ mo ad args s Q res none) : W p l e R s m args below meth c H locs 0 0 Q (F0 m 0 ls []) := by
  unfold m_renew at hf
  have hx := C.1
  have hb := C.2.1
  have hts := C.2.2.2.2.2.2.1
  refine lv_aload_n hx hb dX5_renew_0 rfl (lv_at hl 0 rfl) ?_
  obtain ⟨y1, ey1, hf⟩ := bd_inv hf
  refine zm_callV C hZ (n := 0) (rest := []) (met_listOwner l D cI cZ mo ad ey1) (lw_V q1396 q1398 qs53 q107 q1399) rfl rfl (by decide +kernel) ⟨Nat.le_trans (by decide) hR.1, Nat.le_trans (by decide) hR.2⟩ rfl hl.1 rfl (Nat.le_of_ble_eq_true rfl) dX5_renew_1 (fun H locs hZ => ?_)
  refine lv_istore_n (lv' := [(1, .int (zI y1)), (0, .ref mo)]) hx hb dX5_renew_4 rfl hl (by decide) rfl (fun ls hl => ?_)
  refine zl_iconst hx hb dX5_renew_5 ?_
  refine lv_istore_n (lv' := [(2, .int (zI 0)), (1, .int (zI y1)), (0, .ref mo)]) hx hb dX5_renew_6 rfl hl (by decide) rfl (fun ls hl => ?_)
  refine zl_iconst hx hb dX5_renew_7 ?_
  refine lv_istore_n (lv' := [(3, .int (zI 0)), (2, .int (zI 0)), (1, .int (zI y1)), (0, .ref mo)]) hx hb dX5_renew_8 rfl hl (by decide) rfl (fun ls hl => ?_)
  exact w_renew_9 C hR hf hZ (lv_sub hl [3, 2, 1, 0] rfl) hK

theorem met_renew (l : Launch) (D : va_G) (cI cZ : ClassId) (mo : Nat) (ad : Nat → Nat) {M : MS} {res : MS} (hf : m_renew M = some res) : Met l yX5_renew (ws_ yX5_renew cX5_renew 5 none) ({ frames := 4, cells := 0, slots := 0, locals := 86 }) (PM D cI cZ mo ad M []) (QM D cI cZ mo ad res none) 0 0 (MA mo ad) := by
  refine Met.ofW (cc := cX5_renew) (maxL := 5) (ret := none) (by decide) rfl ?_
  intro p e s m args below meth c s₁ B hml hv
  obtain ⟨rfl, hRM, hK0⟩ := hv
  have hts := atoms_spec (ws := ws_ yX5_renew cX5_renew 5 none) B.pre
  have hts : ∀ w ∈ lw_all, w.before _ s = true := fun w h => hts w (List.mem_cons_of_mem _ h)
  have C : MC p s m _ meth c D cI cZ cX5_renew 5 none := ⟨B.exec, B.bytes, B.returns, B.notSynchronized, hml, findClass_of_methodNamed B.named, hts, hK0⟩
  have hZ : ZM D cI cZ mo ad s.heap M s.heap [] := ⟨hRM, rfl, fun _ _ => rfl, fun _ h => by cases h⟩
  have hl := lv_entry ([.ref mo]) (n := 5) (Nat.le_of_ble_eq_true rfl)
  rw [lg_entry_eq]
  generalize (lg_sl ([.ref mo]) ++ List.replicate (5 - (lg_sl ([.ref mo])).length) Slot.unset).toArray = ls at hl ⊢
  have hl : lv_has ls 5 [(0, .ref mo)] := hl
  exact w_renew C ⟨Nat.le_refl _, Nat.le_refl _⟩ hf hZ hl rfl

theorem w_clearWay_181 {p : Program} {l : Launch} {e : Env} {R : Room} {s : State} {m : MethodId} {args : Array Value} {below : List Frame} {meth : Method} {c : Code} {Q : State → Prop} {D : va_G} {cI cZ : ClassId} {mo : Nat} {ad : Nat → Nat} {H : Heap} {locs : List Loc} {M : MS} (C : MC p s m args meth c D cI cZ cX5_clearWay 6 (some .boolean)) (hR : 5 ≤ R.frames ∧ 110 ≤ R.locals) {res : MS × Int} (hf : m_clearWay_181 M = some res) (hZ : ZM D cI cZ mo ad s.heap M H locs) {ls : Array Slot} (hl : lv_has ls 6 [(0, .ref mo)]) (hK : KM below D cI cZ mo ad args s Q res.1 (some (.int (zI res.2)))) : W p l e R s m args below meth c H locs 0 0 Q (F0 m 181 ls []) := by
  unfold m_clearWay_181 at hf
  have hx := C.1
  have hb := C.2.1
  have hts := C.2.2.2.2.2.2.1
  refine lv_aload_n hx hb dX5_clearWay_181 rfl (lv_at hl 0 rfl) ?_
  refine zm_geti C hZ 4 (by decide) rfl q1145 dX5_clearWay_182 ?_
  refine zl_if_ne (tgt := 192) hx hb dX5_clearWay_185 (by decide) (fun hc => ?_) (fun hc => ?_)
  · rw [if_pos hc] at hf
    refine zl_iconst hx hb dX5_clearWay_188 ?_
    refine lv_goto (tgt := 193) hx hb dX5_clearWay_189 (by decide) ?_
    obtain rfl := Option.some.inj hf
    exact zm_zret C hZ zisB_1 hK dX5_clearWay_193
  · rw [if_neg hc] at hf
    refine zl_iconst hx hb dX5_clearWay_192 ?_
    obtain rfl := Option.some.inj hf
    exact zm_zret C hZ zisB_0 hK dX5_clearWay_193

theorem w_clearWay_136 {p : Program} {l : Launch} {e : Env} {R : Room} {s : State} {m : MethodId} {args : Array Value} {below : List Frame} {meth : Method} {c : Code} {Q : State → Prop} {D : va_G} {cI cZ : ClassId} {mo : Nat} {ad : Nat → Nat} {H : Heap} {locs : List Loc} {M : MS} (C : MC p s m args meth c D cI cZ cX5_clearWay 6 (some .boolean)) (hR : 5 ≤ R.frames ∧ 110 ≤ R.locals) {x3 x4 t0 : Int} {res : MS × Int} (hf : m_clearWay_136 M x3 x4 t0 = some res) (hZ : ZM D cI cZ mo ad s.heap M H locs) {ls : Array Slot} (hl : lv_has ls 6 [(0, .ref mo), (3, .int (zI x3)), (4, .int (zI x4))]) (hK : KM below D cI cZ mo ad args s Q res.1 (some (.int (zI res.2)))) : W p l e R s m args below meth c H locs 0 0 Q (F0 m 136 ls [.int (zI t0), .ref mo]) := by
  unfold m_clearWay_136 at hf
  have hx := C.1
  have hb := C.2.1
  have hts := C.2.2.2.2.2.2.1
  obtain ⟨M8, eM8, hf⟩ := bnd_inv hf
  refine zm_puti C hZ 13 (by decide) rfl rfl q1154 dX5_clearWay_136 (fun H locs hZ => ?_)
  rw [← eM8] at hZ
  refine lv_iload hx hb dX5_clearWay_139 (lv_at hl 2 rfl) ?_
  refine lv_iload_n hx hb dX5_clearWay_141 rfl (lv_at hl 1 rfl) ?_
  refine zl_icmp_gt (tgt := 170) hx hb dX5_clearWay_142 (by decide) (fun hc => ?_) (fun hc => ?_)
  · rw [if_pos hc] at hf
    refine lv_goto (tgt := 181) hx hb dX5_clearWay_170 (by decide) ?_
    exact w_clearWay_181 C hR hf hZ (lv_sub hl [0] rfl) hK
  · rw [if_neg hc] at hf
    refine lv_aload_n hx hb dX5_clearWay_145 rfl (lv_at hl 0 rfl) ?_
    refine lv_aload_n hx hb dX5_clearWay_146 rfl (lv_at hl 0 rfl) ?_
    refine zm_geta C hZ 12 (by decide) (by decide) q1153 dX5_clearWay_147 ?_
    refine lv_iload_n hx hb dX5_clearWay_150 rfl (lv_at hl 1 rfl) ?_
    obtain ⟨hg, hf⟩ := gd_inv hf
    refine zm_iald C hZ 12 (by decide) rfl rfl hg dX5_clearWay_151 ?_
    obtain ⟨y9, ey9, hf⟩ := bd_inv hf
    refine zm_callV C hZ (n := 1) (rest := []) (met_insideTop l D cI cZ mo ad ey9) (lw_V q1372 q1374 qs47 q107 q1375) rfl rfl (by decide +kernel) ⟨Nat.le_trans (by decide) hR.1, Nat.le_trans (by decide) hR.2⟩ rfl hl.1 rfl (Nat.le_of_ble_eq_true rfl) dX5_clearWay_152 (fun H locs hZ => ?_)
    refine lv_aload_n hx hb dX5_clearWay_155 rfl (lv_at hl 0 rfl) ?_
    refine zl_bipush hx hb dX5_clearWay_156 (by decide) ?_
    refine zl_iconst hx hb dX5_clearWay_158 ?_
    obtain ⟨y10, ey10, hf⟩ := bd_inv hf
    refine zm_callV C hZ (n := 2) (rest := []) (met_create l D cI cZ mo ad ey10) (lw_V q1384 q1386 qs50 q107 q1387) rfl rfl (by decide +kernel) ⟨Nat.le_trans (by decide) hR.1, Nat.le_trans (by decide) hR.2⟩ rfl hl.1 rfl (Nat.le_of_ble_eq_true rfl) dX5_clearWay_159 (fun H locs hZ => ?_)
    refine lv_istore (lv' := [(5, .int (zI y10.2)), (0, .ref mo), (3, .int (zI x3)), (4, .int (zI x4))]) hx hb dX5_clearWay_162 hl (by decide) rfl (fun ls hl => ?_)
    refine lv_aload_n hx hb dX5_clearWay_164 rfl (lv_at hl 1 rfl) ?_
    refine lv_iload hx hb dX5_clearWay_165 (lv_at hl 0 rfl) ?_
    obtain ⟨y11, ey11, hf⟩ := bd_inv hf
    refine zm_callV C hZ (n := 1) (rest := []) (met_push l D cI cZ mo ad ey11) (lw_V q1388 q1390 qs51 q107 q1391) rfl rfl (by decide +kernel) ⟨Nat.le_trans (by decide) hR.1, Nat.le_trans (by decide) hR.2⟩ rfl hl.1 rfl (Nat.le_of_ble_eq_true rfl) dX5_clearWay_167 (fun H locs hZ => ?_)
    refine lv_goto (tgt := 181) hx hb dX5_clearWay_170 (by decide) ?_
    exact w_clearWay_181 C hR hf hZ (lv_sub hl [1] rfl) hK

theorem w_clearWay_47 {p : Program} {l : Launch} {e : Env} {R : Room} {s : State} {m : MethodId} {args : Array Value} {below : List Frame} {meth : Method} {c : Code} {Q : State → Prop} {D : va_G} {cI cZ : ClassId} {mo : Nat} {ad : Nat → Nat} {H : Heap} {locs : List Loc} {M : MS} (C : MC p s m args meth c D cI cZ cX5_clearWay 6 (some .boolean)) (hR : 5 ≤ R.frames ∧ 110 ≤ R.locals) {x1 x2 x3 : Int} {res : MS × Int} (hf : m_clearWay_47 M x1 x2 x3 = some res) (hZ : ZM D cI cZ mo ad s.heap M H locs) {ls : Array Slot} (hl : lv_has ls 6 [(0, .ref mo), (1, .int (zI x1)), (2, .int (zI x2)), (3, .int (zI x3))]) (hK : KM below D cI cZ mo ad args s Q res.1 (some (.int (zI res.2)))) : W p l e R s m args below meth c H locs 0 0 Q (F0 m 47 ls []) := by
  unfold m_clearWay_47 at hf
  have hx := C.1
  have hb := C.2.1
  have hts := C.2.2.2.2.2.2.1
  refine lv_iload_n hx hb dX5_clearWay_47 rfl (lv_at hl 1 rfl) ?_
  refine zl_bipush hx hb dX5_clearWay_48 (by decide) ?_
  refine zl_icmp_ne (tgt := 77) hx hb dX5_clearWay_50 (by decide) (fun hc => ?_) (fun hc => ?_)
  · rw [if_pos hc] at hf
    refine lv_aload_n hx hb dX5_clearWay_53 rfl (lv_at hl 0 rfl) ?_
    refine zl_bipush hx hb dX5_clearWay_54 (by decide) ?_
    refine zl_ldc (v := 1048580) hx hb C.2.2.2.2.2.1 (hts _ q1371) dX5_clearWay_56 ?_
    obtain ⟨y3, ey3, hf⟩ := bd_inv hf
    refine zm_callV C hZ (n := 2) (rest := []) (met_reach l D cI cZ mo ad ey3) (lw_V q1359 q1361 qs44 q107 q1362) rfl rfl (by decide +kernel) ⟨Nat.le_trans (by decide) hR.1, Nat.le_trans (by decide) hR.2⟩ rfl hl.1 rfl (Nat.le_of_ble_eq_true rfl) dX5_clearWay_58 (fun H locs hZ => ?_)
    refine zl_if_eq (tgt := 181) hx hb dX5_clearWay_61 (by decide) (fun hc => ?_) (fun hc => ?_)
    · rw [if_pos hc] at hf
      exact w_clearWay_181 C hR hf hZ (lv_sub hl [0] rfl) hK
    · rw [if_neg hc] at hf
      refine lv_aload_n hx hb dX5_clearWay_64 rfl (lv_at hl 0 rfl) ?_
      refine lv_aload_n hx hb dX5_clearWay_65 rfl (lv_at hl 0 rfl) ?_
      refine zl_bipush hx hb dX5_clearWay_66 (by decide) ?_
      obtain ⟨y4, ey4, hf⟩ := bd_inv hf
      refine zm_callV C hZ (n := 1) (rest := [.ref mo]) (met_topmost l D cI cZ mo ad ey4) (lw_V q1355 q1357 qs43 q107 q1358) rfl rfl (by decide +kernel) ⟨Nat.le_trans (by decide) hR.1, Nat.le_trans (by decide) hR.2⟩ rfl hl.1 rfl (Nat.le_of_ble_eq_true rfl) dX5_clearWay_68 (fun H locs hZ => ?_)
      obtain ⟨M5, eM5, hf⟩ := bnd_inv hf
      refine zm_puti C hZ 13 (by decide) rfl rfl q1154 dX5_clearWay_71 (fun H locs hZ => ?_)
      rw [← eM5] at hZ
      refine lv_goto (tgt := 181) hx hb dX5_clearWay_74 (by decide) ?_
      exact w_clearWay_181 C hR hf hZ (lv_sub hl [0] rfl) hK
  · rw [if_neg hc] at hf
    refine lv_iload_n hx hb dX5_clearWay_77 rfl (lv_at hl 1 rfl) ?_
    refine zl_bipush hx hb dX5_clearWay_78 (by decide) ?_
    refine zl_icmp_ne (tgt := 99) hx hb dX5_clearWay_80 (by decide) (fun hc => ?_) (fun hc => ?_)
    · rw [if_pos hc] at hf
      refine lv_iload_n hx hb dX5_clearWay_83 rfl (lv_at hl 3 rfl) ?_
      refine zl_if_ge (tgt := 89) hx hb dX5_clearWay_84 (by decide) (fun hc => ?_) (fun hc => ?_)
      · rw [if_pos hc] at hf
        refine zl_iconst hx hb dX5_clearWay_87 ?_
        obtain rfl := Option.some.inj hf
        exact zm_zret C hZ zisB_0 hK dX5_clearWay_88
      · rw [if_neg hc] at hf
        refine lv_aload_n hx hb dX5_clearWay_89 rfl (lv_at hl 0 rfl) ?_
        refine lv_iload_n hx hb dX5_clearWay_90 rfl (lv_at hl 3 rfl) ?_
        refine zl_iconst hx hb dX5_clearWay_91 ?_
        refine zl_iadd hx hb dX5_clearWay_92 ?_
        obtain ⟨M6, eM6, hf⟩ := bnd_inv hf
        refine zm_puti C hZ 13 (by decide) rfl rfl q1154 dX5_clearWay_93 (fun H locs hZ => ?_)
        rw [← eM6] at hZ
        refine lv_goto (tgt := 181) hx hb dX5_clearWay_96 (by decide) ?_
        exact w_clearWay_181 C hR hf hZ (lv_sub hl [0] rfl) hK
    · rw [if_neg hc] at hf
      refine lv_iload_n hx hb dX5_clearWay_99 rfl (lv_at hl 1 rfl) ?_
      refine zl_bipush hx hb dX5_clearWay_100 (by decide) ?_
      refine zl_icmp_ne (tgt := 173) hx hb dX5_clearWay_102 (by decide) (fun hc => ?_) (fun hc => ?_)
      · rw [if_pos hc] at hf
        refine lv_iload_n hx hb dX5_clearWay_105 rfl (lv_at hl 3 rfl) ?_
        refine zl_if_ge (tgt := 111) hx hb dX5_clearWay_106 (by decide) (fun hc => ?_) (fun hc => ?_)
        · rw [if_pos hc] at hf
          refine zl_iconst hx hb dX5_clearWay_109 ?_
          obtain rfl := Option.some.inj hf
          exact zm_zret C hZ zisB_0 hK dX5_clearWay_110
        · rw [if_neg hc] at hf
          refine lv_aload_n hx hb dX5_clearWay_111 rfl (lv_at hl 0 rfl) ?_
          refine zl_bipush hx hb dX5_clearWay_112 (by decide) ?_
          obtain ⟨y7, ey7, hf⟩ := bd_inv hf
          refine zm_callV C hZ (n := 1) (rest := []) (met_topmost l D cI cZ mo ad ey7) (lw_V q1355 q1357 qs43 q107 q1358) rfl rfl (by decide +kernel) ⟨Nat.le_trans (by decide) hR.1, Nat.le_trans (by decide) hR.2⟩ rfl hl.1 rfl (Nat.le_of_ble_eq_true rfl) dX5_clearWay_114 (fun H locs hZ => ?_)
          refine lv_istore (lv' := [(4, .int (zI y7)), (0, .ref mo), (1, .int (zI x1)), (2, .int (zI x2)), (3, .int (zI x3))]) hx hb dX5_clearWay_117 hl (by decide) rfl (fun ls hl => ?_)
          refine lv_aload_n hx hb dX5_clearWay_119 rfl (lv_at hl 1 rfl) ?_
          refine lv_iload hx hb dX5_clearWay_120 (lv_at hl 0 rfl) ?_
          refine lv_iload_n hx hb dX5_clearWay_122 rfl (lv_at hl 4 rfl) ?_
          refine zl_icmp_le (tgt := 133) hx hb dX5_clearWay_123 (by decide) (fun hc => ?_) (fun hc => ?_)
          · rw [if_pos hc] at hf
            refine lv_iload hx hb dX5_clearWay_126 (lv_at hl 0 rfl) ?_
            refine zl_iconst hx hb dX5_clearWay_128 ?_
            refine zl_iadd hx hb dX5_clearWay_129 ?_
            refine lv_goto (tgt := 136) hx hb dX5_clearWay_130 (by decide) ?_
            exact w_clearWay_136 C hR hf hZ (lv_sub hl [1, 4, 0] rfl) hK
          · rw [if_neg hc] at hf
            refine lv_iload_n hx hb dX5_clearWay_133 rfl (lv_at hl 4 rfl) ?_
            refine zl_iconst hx hb dX5_clearWay_134 ?_
            refine zl_iadd hx hb dX5_clearWay_135 ?_
            exact w_clearWay_136 C hR hf hZ (lv_sub hl [1, 4, 0] rfl) hK
      · rw [if_neg hc] at hf
        refine lv_iload_n hx hb dX5_clearWay_173 rfl (lv_at hl 2 rfl) ?_
        refine zl_if_ne (tgt := 181) hx hb dX5_clearWay_174 (by decide) (fun hc => ?_) (fun hc => ?_)
        · rw [if_pos hc] at hf
          refine lv_aload_n hx hb dX5_clearWay_177 rfl (lv_at hl 0 rfl) ?_
          obtain ⟨y8, ey8, hf⟩ := bd_inv hf
          refine zm_callV C hZ (n := 0) (rest := []) (met_renew l D cI cZ mo ad ey8) (lw_V q1392 q1394 qs52 q107 q1395) rfl rfl (by decide +kernel) ⟨Nat.le_trans (by decide) hR.1, Nat.le_trans (by decide) hR.2⟩ rfl hl.1 rfl (Nat.le_of_ble_eq_true rfl) dX5_clearWay_178 (fun H locs hZ => ?_)
          exact w_clearWay_181 C hR hf hZ (lv_sub hl [0] rfl) hK
        · rw [if_neg hc] at hf
          exact w_clearWay_181 C hR hf hZ (lv_sub hl [0] rfl) hK

theorem w_clearWay_15 {p : Program} {l : Launch} {e : Env} {R : Room} {s : State} {m : MethodId} {args : Array Value} {below : List Frame} {meth : Method} {c : Code} {Q : State → Prop} {D : va_G} {cI cZ : ClassId} {mo : Nat} {ad : Nat → Nat} {H : Heap} {locs : List Loc} {M : MS} (C : MC p s m args meth c D cI cZ cX5_clearWay 6 (some .boolean)) (hR : 5 ≤ R.frames ∧ 110 ≤ R.locals) {x1 t0 : Int} {res : MS × Int} (hf : m_clearWay_15 M x1 t0 = some res) (hZ : ZM D cI cZ mo ad s.heap M H locs) {ls : Array Slot} (hl : lv_has ls 6 [(0, .ref mo), (1, .int (zI x1))]) (hK : KM below D cI cZ mo ad args s Q res.1 (some (.int (zI res.2)))) : W p l e R s m args below meth c H locs 0 0 Q (F0 m 15 ls [.int (zI t0)]) := by
  unfold m_clearWay_15 at hf
  have hx := C.1
  have hb := C.2.1
  have hts := C.2.2.2.2.2.2.1
  refine lv_istore_n (lv' := [(2, .int (zI t0)), (0, .ref mo), (1, .int (zI x1))]) hx hb dX5_clearWay_15 rfl hl (by decide) rfl (fun ls hl => ?_)
  refine lv_aload_n hx hb dX5_clearWay_16 rfl (lv_at hl 1 rfl) ?_
  refine zl_bipush hx hb dX5_clearWay_17 (by decide) ?_
  obtain ⟨y2, ey2, hf⟩ := bd_inv hf
  refine zm_callV C hZ (n := 1) (rest := []) (met_topmost l D cI cZ mo ad ey2) (lw_V q1355 q1357 qs43 q107 q1358) rfl rfl (by decide +kernel) ⟨Nat.le_trans (by decide) hR.1, Nat.le_trans (by decide) hR.2⟩ rfl hl.1 rfl (Nat.le_of_ble_eq_true rfl) dX5_clearWay_19 (fun H locs hZ => ?_)
  refine lv_istore_n (lv' := [(3, .int (zI y2)), (2, .int (zI t0)), (0, .ref mo), (1, .int (zI x1))]) hx hb dX5_clearWay_22 rfl hl (by decide) rfl (fun ls hl => ?_)
  refine lv_iload_n hx hb dX5_clearWay_23 rfl (lv_at hl 1 rfl) ?_
  refine zl_if_eq (tgt := 47) hx hb dX5_clearWay_24 (by decide) (fun hc => ?_) (fun hc => ?_)
  · rw [if_pos hc] at hf
    exact w_clearWay_47 C hR hf hZ (lv_sub hl [2, 3, 1, 0] rfl) hK
  · rw [if_neg hc] at hf
    refine lv_aload_n hx hb dX5_clearWay_27 rfl (lv_at hl 2 rfl) ?_
    refine zl_bipush hx hb dX5_clearWay_28 (by decide) ?_
    refine zl_iconst hx hb dX5_clearWay_30 ?_
    obtain ⟨y3, ey3, hf⟩ := bd_inv hf
    refine zm_callV C hZ (n := 2) (rest := []) (met_reach l D cI cZ mo ad ey3) (lw_V q1359 q1361 qs44 q107 q1362) rfl rfl (by decide +kernel) ⟨Nat.le_trans (by decide) hR.1, Nat.le_trans (by decide) hR.2⟩ rfl hl.1 rfl (Nat.le_of_ble_eq_true rfl) dX5_clearWay_31 (fun H locs hZ => ?_)
    refine zl_if_eq (tgt := 47) hx hb dX5_clearWay_34 (by decide) (fun hc => ?_) (fun hc => ?_)
    · rw [if_pos hc] at hf
      exact w_clearWay_47 C hR hf hZ (lv_sub hl [2, 3, 1, 0] rfl) hK
    · rw [if_neg hc] at hf
      refine lv_aload_n hx hb dX5_clearWay_37 rfl (lv_at hl 2 rfl) ?_
      refine lv_aload_n hx hb dX5_clearWay_38 rfl (lv_at hl 2 rfl) ?_
      refine zl_bipush hx hb dX5_clearWay_39 (by decide) ?_
      obtain ⟨y4, ey4, hf⟩ := bd_inv hf
      refine zm_callV C hZ (n := 1) (rest := [.ref mo]) (met_topmost l D cI cZ mo ad ey4) (lw_V q1355 q1357 qs43 q107 q1358) rfl rfl (by decide +kernel) ⟨Nat.le_trans (by decide) hR.1, Nat.le_trans (by decide) hR.2⟩ rfl hl.1 rfl (Nat.le_of_ble_eq_true rfl) dX5_clearWay_41 (fun H locs hZ => ?_)
      obtain ⟨M5, eM5, hf⟩ := bnd_inv hf
      refine zm_puti C hZ 13 (by decide) rfl rfl q1154 dX5_clearWay_44 (fun H locs hZ => ?_)
      rw [← eM5] at hZ
      exact w_clearWay_47 C hR hf hZ (lv_sub hl [2, 3, 1, 0] rfl) hK

theorem w_clearWay {p : Program} {l : Launch} {e : Env} {R : Room} {s : State} {m : MethodId} {args : Array Value} {below : List Frame} {meth : Method} {c : Code} {Q : State → Prop} {D : va_G} {cI cZ : ClassId} {mo : Nat} {ad : Nat → Nat} {H : Heap} {locs : List Loc} {M : MS} (C : MC p s m args meth c D cI cZ cX5_clearWay 6 (some .boolean)) (hR : 5 ≤ R.frames ∧ 110 ≤ R.locals) {x1 : Int} {res : MS × Int} (hf : m_clearWay M x1 = some res) (hZ : ZM D cI cZ mo ad s.heap M H locs) {ls : Array Slot} (hl : lv_has ls 6 [(0, .ref mo), (1, .int (zI x1))]) (hK : KM below D cI cZ mo ad args s Q res.1 (some (.int (zI res.2)))) : W p l e R s m args below meth c H locs 0 0 Q (F0 m 0 ls []) := by
  unfold m_clearWay at hf
  have hx := C.1
  have hb := C.2.1
  have hts := C.2.2.2.2.2.2.1
  refine lv_iload_n hx hb dX5_clearWay_0 rfl (lv_at hl 1 rfl) ?_
  obtain ⟨y1, ey1, hf⟩ := bd_inv hf
  refine zm_callS C (n := 1) (rest := []) (met_bit l ey1) (lw_S q1351 q1352 q107 q1353) rfl rfl (by decide +kernel) ⟨Nat.le_trans (by decide) hR.1, Nat.le_trans (by decide) hR.2⟩ rfl hl.1 rfl (Nat.le_of_ble_eq_true rfl) dX5_clearWay_1 (Nat.zero_le _) (Nat.zero_le _) ?_
  refine zl_ldc (v := 1607816) hx hb C.2.2.2.2.2.1 (hts _ q1354) dX5_clearWay_4 ?_
  refine zl_iand hx hb dX5_clearWay_6 ?_
  refine zl_if_eq (tgt := 14) hx hb dX5_clearWay_7 (by decide) (fun hc => ?_) (fun hc => ?_)
  · rw [if_pos hc] at hf
    refine zl_iconst hx hb dX5_clearWay_14 ?_
    exact w_clearWay_15 C hR hf hZ (lv_sub hl [0, 1] rfl) hK
  · rw [if_neg hc] at hf
    refine zl_iconst hx hb dX5_clearWay_10 ?_
    refine lv_goto (tgt := 15) hx hb dX5_clearWay_11 (by decide) ?_
    exact w_clearWay_15 C hR hf hZ (lv_sub hl [0, 1] rfl) hK

theorem met_clearWay (l : Launch) (D : va_G) (cI cZ : ClassId) (mo : Nat) (ad : Nat → Nat) {M : MS} {x1 : Int} {res : MS × Int} (hf : m_clearWay M x1 = some res) : Met l yX5_clearWay (ws_ yX5_clearWay cX5_clearWay 6 (some .boolean)) ({ frames := 5, cells := 0, slots := 0, locals := 110 }) (PM D cI cZ mo ad M [.int (zI x1)]) (QM D cI cZ mo ad res.1 (some (.int (zI res.2)))) 0 0 (MA mo ad) := by
  refine Met.ofW (cc := cX5_clearWay) (maxL := 6) (ret := (some .boolean)) (by decide) rfl ?_
  intro p e s m args below meth c s₁ B hml hv
  obtain ⟨rfl, hRM, hK0⟩ := hv
  have hts := atoms_spec (ws := ws_ yX5_clearWay cX5_clearWay 6 (some .boolean)) B.pre
  have hts : ∀ w ∈ lw_all, w.before _ s = true := fun w h => hts w (List.mem_cons_of_mem _ h)
  have C : MC p s m _ meth c D cI cZ cX5_clearWay 6 (some .boolean) := ⟨B.exec, B.bytes, B.returns, B.notSynchronized, hml, findClass_of_methodNamed B.named, hts, hK0⟩
  have hZ : ZM D cI cZ mo ad s.heap M s.heap [] := ⟨hRM, rfl, fun _ _ => rfl, fun _ h => by cases h⟩
  have hl := lv_entry ([.ref mo, .int (zI x1)]) (n := 6) (Nat.le_of_ble_eq_true rfl)
  rw [lg_entry_eq]
  generalize (lg_sl ([.ref mo, .int (zI x1)]) ++ List.replicate (6 - (lg_sl ([.ref mo, .int (zI x1)])).length) Slot.unset).toArray = ls at hl ⊢
  have hl : lv_has ls 6 [(0, .ref mo), (1, .int (zI x1))] := hl
  exact w_clearWay C ⟨Nat.le_refl _, Nat.le_refl _⟩ hf hZ hl rfl

