set_option maxRecDepth 100000
theorem w_style_145 {p : Program} {l : Launch} {e : Env} {R : Room} {s : State} {m : MethodId} {args : Array Value} {below : List Frame} {meth : Method} {c : Code} {Q : State → Prop} {D : va_G} {cI cZ : ClassId} {mo : Nat} {ad : Nat → Nat} {H : Heap} {locs : List Loc} {M : MS} (C : MC p s m args meth c D cI cZ cX5_style 3 none) (hR : 4 ≤ R.frames ∧ 84 ≤ R.locals) {x1 x2 : Int} {res : (MS × Int) ⊕ ((MS × Int) ⊕ (MS))} (hf : m_style_145 M x1 x2 = some res) (hZ : ZM D cI cZ mo ad s.heap M H locs) {ls : Array Slot} (hl : lv_has ls 3 [(0, .ref mo), (1, .int (zI x1)), (2, .int (zI x2))]) (hK : (Sum.elim (fun z => ∀ (H : Heap) (locs : List Loc) (ls : Array Slot), ZM D cI cZ mo ad s.heap z.1 H locs → lv_has ls 3 [(0, .ref mo), (1, .int (zI x1)), (2, .int (zI z.2))] → W p l e R s m args below meth c H locs 0 0 Q (F0 m 80 ls [])) (Sum.elim (fun z => ∀ (H : Heap) (locs : List Loc) (ls : Array Slot), ZM D cI cZ mo ad s.heap z.1 H locs → lv_has ls 3 [(0, .ref mo), (1, .int (zI z.2))] → W p l e R s m args below meth c H locs 0 0 Q (F0 m 55 ls [])) (fun r => KM below D cI cZ mo ad args s Q r none))) res) : W p l e R s m args below meth c H locs 0 0 Q (F0 m 145 ls []) := by
  unfold m_style_145 at hf
  have hx := C.1
  have hb := C.2.1
  have hts := C.2.2.2.2.2.2.1
  refine zl_iinc (x := x2) (n := 1) (lv' := [(2, .int (zI (x2 + 1))), (0, .ref mo), (1, .int (zI x1))]) (k := 2) hx hb dX5_style_145 hl rfl (by decide) rfl (fun ls hl => ?_)
  refine lv_goto (tgt := 80) hx hb dX5_style_148 (by decide) ?_
  obtain rfl := Option.some.inj hf
  exact hK _ _ _ hZ (lv_sub hl [1, 2, 0] rfl)

theorem w_style_151 {p : Program} {l : Launch} {e : Env} {R : Room} {s : State} {m : MethodId} {args : Array Value} {below : List Frame} {meth : Method} {c : Code} {Q : State → Prop} {D : va_G} {cI cZ : ClassId} {mo : Nat} {ad : Nat → Nat} {H : Heap} {locs : List Loc} {M : MS} (C : MC p s m args meth c D cI cZ cX5_style 3 none) (hR : 4 ≤ R.frames ∧ 84 ≤ R.locals) {x1 : Int} {res : (MS × Int) ⊕ (MS)} (hf : m_style_151 M x1 = some res) (hZ : ZM D cI cZ mo ad s.heap M H locs) {ls : Array Slot} (hl : lv_has ls 3 [(0, .ref mo), (1, .int (zI x1))]) (hK : (Sum.elim (fun z => ∀ (H : Heap) (locs : List Loc) (ls : Array Slot), ZM D cI cZ mo ad s.heap z.1 H locs → lv_has ls 3 [(0, .ref mo), (1, .int (zI z.2))] → W p l e R s m args below meth c H locs 0 0 Q (F0 m 55 ls [])) (fun r => KM below D cI cZ mo ad args s Q r none)) res) : W p l e R s m args below meth c H locs 0 0 Q (F0 m 151 ls []) := by
  unfold m_style_151 at hf
  have hx := C.1
  have hb := C.2.1
  have hts := C.2.2.2.2.2.2.1
  refine lv_aload_n hx hb dX5_style_151 rfl (lv_at hl 0 rfl) ?_
  refine lv_iload_n hx hb dX5_style_152 rfl (lv_at hl 1 rfl) ?_
  obtain ⟨y11, ey11, hf⟩ := bd_inv hf
  refine zm_callV C hZ (n := 1) (rest := []) (met_declare l D cI cZ mo ad ey11) (lw_V q1519 q1521 qs72 q107 q1522) rfl rfl (by decide +kernel) ⟨Nat.le_trans (by decide) hR.1, Nat.le_trans (by decide) hR.2⟩ rfl hl.1 rfl (Nat.le_of_ble_eq_true rfl) dX5_style_153 (fun H locs hZ => ?_)
  refine zl_iinc (x := x1) (n := 1) (lv' := [(1, .int (zI (x1 + 1))), (0, .ref mo)]) (k := 1) hx hb dX5_style_156 hl rfl (by decide) rfl (fun ls hl => ?_)
  refine lv_goto (tgt := 55) hx hb dX5_style_159 (by decide) ?_
  obtain rfl := Option.some.inj hf
  exact hK _ _ _ hZ (lv_sub hl [1, 0] rfl)

theorem w_style_80s {p : Program} {l : Launch} {e : Env} {R : Room} {s : State} {m : MethodId} {args : Array Value} {below : List Frame} {meth : Method} {c : Code} {Q : State → Prop} {D : va_G} {cI cZ : ClassId} {mo : Nat} {ad : Nat → Nat} {H : Heap} {locs : List Loc} {M : MS} (C : MC p s m args meth c D cI cZ cX5_style 3 none) (hR : 4 ≤ R.frames ∧ 84 ≤ R.locals) {x1 x2 : Int} {res : (MS × Int) ⊕ ((MS × Int) ⊕ (MS))} (hf : m_style_80s M x1 x2 = some res) (hZ : ZM D cI cZ mo ad s.heap M H locs) {ls : Array Slot} (hl : lv_has ls 3 [(0, .ref mo), (1, .int (zI x1)), (2, .int (zI x2))]) (hK : (Sum.elim (fun z => ∀ (H : Heap) (locs : List Loc) (ls : Array Slot), ZM D cI cZ mo ad s.heap z.1 H locs → lv_has ls 3 [(0, .ref mo), (1, .int (zI x1)), (2, .int (zI z.2))] → W p l e R s m args below meth c H locs 0 0 Q (F0 m 80 ls [])) (Sum.elim (fun z => ∀ (H : Heap) (locs : List Loc) (ls : Array Slot), ZM D cI cZ mo ad s.heap z.1 H locs → lv_has ls 3 [(0, .ref mo), (1, .int (zI z.2))] → W p l e R s m args below meth c H locs 0 0 Q (F0 m 55 ls [])) (fun r => KM below D cI cZ mo ad args s Q r none))) res) : W p l e R s m args below meth c H locs 0 0 Q (F0 m 80 ls []) := by
  unfold m_style_80s at hf
  have hx := C.1
  have hb := C.2.1
  have hts := C.2.2.2.2.2.2.1
  refine lv_iload_n hx hb dX5_style_80 rfl (lv_at hl 2 rfl) ?_
  refine lv_aload_n hx hb dX5_style_81 rfl (lv_at hl 0 rfl) ?_
  refine zm_geta C hZ 30 (by decide) (by decide) q1171 dX5_style_82 ?_
  refine lv_iload_n hx hb dX5_style_85 rfl (lv_at hl 1 rfl) ?_
  obtain ⟨hg, hf⟩ := gd_inv hf
  refine zm_iald C hZ 30 (by decide) rfl rfl hg dX5_style_86 ?_
  refine zl_icmp_ge (tgt := 151) hx hb dX5_style_87 (by decide) (fun hc => ?_) (fun hc => ?_)
  · rw [if_pos hc] at hf
    refine lv_aload_n hx hb dX5_style_90 rfl (lv_at hl 0 rfl) ?_
    refine zm_geta C hZ 3 (by decide) (by decide) q1144 dX5_style_91 ?_
    refine lv_iload_n hx hb dX5_style_94 rfl (lv_at hl 2 rfl) ?_
    obtain ⟨hg, hf⟩ := gd_inv hf
    refine zm_iald C hZ 3 (by decide) rfl rfl hg dX5_style_95 ?_
    refine zl_bipush hx hb dX5_style_96 (by decide) ?_
    refine zl_icmp_ne (tgt := 109) hx hb dX5_style_98 (by decide) (fun hc => ?_) (fun hc => ?_)
    · rw [if_pos hc] at hf
      refine lv_aload_n hx hb dX5_style_101 rfl (lv_at hl 0 rfl) ?_
      refine lv_iload_n hx hb dX5_style_102 rfl (lv_at hl 1 rfl) ?_
      obtain ⟨y8, ey8, hf⟩ := bd_inv hf
      refine zm_callV C hZ (n := 1) (rest := []) (met_declare l D cI cZ mo ad ey8) (lw_V q1519 q1521 qs72 q107 q1522) rfl rfl (by decide +kernel) ⟨Nat.le_trans (by decide) hR.1, Nat.le_trans (by decide) hR.2⟩ rfl hl.1 rfl (Nat.le_of_ble_eq_true rfl) dX5_style_103 (fun H locs hZ => ?_)
      refine lv_goto (tgt := 145) hx hb dX5_style_106 (by decide) ?_
      exact w_style_145 C hR hf hZ (lv_sub hl [0, 1, 2] rfl) hK
    · rw [if_neg hc] at hf
      refine lv_aload_n hx hb dX5_style_109 rfl (lv_at hl 0 rfl) ?_
      refine zm_geta C hZ 3 (by decide) (by decide) q1144 dX5_style_110 ?_
      refine lv_iload_n hx hb dX5_style_113 rfl (lv_at hl 2 rfl) ?_
      obtain ⟨hg, hf⟩ := gd_inv hf
      refine zm_iald C hZ 3 (by decide) rfl rfl hg dX5_style_114 ?_
      refine zl_bipush hx hb dX5_style_115 (by decide) ?_
      refine zl_icmp_eq (tgt := 145) hx hb dX5_style_117 (by decide) (fun hc => ?_) (fun hc => ?_)
      · rw [if_pos hc] at hf
        exact w_style_145 C hR hf hZ (lv_sub hl [0, 1, 2] rfl) hK
      · rw [if_neg hc] at hf
        refine lv_aload_n hx hb dX5_style_120 rfl (lv_at hl 0 rfl) ?_
        refine zm_geta C hZ 31 (by decide) (by decide) q1172 dX5_style_121 ?_
        refine lv_aload_n hx hb dX5_style_124 rfl (lv_at hl 0 rfl) ?_
        refine zm_geti C hZ 32 (by decide) rfl q1173 dX5_style_125 ?_
        refine lv_aload_n hx hb dX5_style_128 rfl (lv_at hl 0 rfl) ?_
        refine zm_geta C hZ 3 (by decide) (by decide) q1144 dX5_style_129 ?_
        refine lv_iload_n hx hb dX5_style_132 rfl (lv_at hl 2 rfl) ?_
        obtain ⟨hg, hf⟩ := gd_inv hf
        refine zm_iald C hZ 3 (by decide) rfl rfl hg dX5_style_133 ?_
        obtain ⟨hg, hf⟩ := gd_inv hf
        obtain ⟨M9, eM9, hf⟩ := bnd_inv hf
        refine zm_iast C hZ 31 (by decide) rfl rfl hg dX5_style_134 (fun H locs hZ => ?_)
        rw [← eM9] at hZ
        refine lv_aload_n hx hb dX5_style_135 rfl (lv_at hl 0 rfl) ?_
        refine lv_dup hx hb dX5_style_136 rfl ?_
        refine zm_geti C hZ 32 (by decide) rfl q1173 dX5_style_137 ?_
        refine zl_iconst hx hb dX5_style_140 ?_
        refine zl_iadd hx hb dX5_style_141 ?_
        obtain ⟨M10, eM10, hf⟩ := bnd_inv hf
        refine zm_puti C hZ 32 (by decide) rfl rfl q1173 dX5_style_142 (fun H locs hZ => ?_)
        rw [← eM10] at hZ
        exact w_style_145 C hR hf hZ (lv_sub hl [0, 1, 2] rfl) hK
  · rw [if_neg hc] at hf
    obtain ⟨r0, hm0, rfl⟩ := mr_inv hf
    exact w_style_151 C hR hm0 hZ (lv_sub hl [0, 1] rfl) hK

theorem w_style_80 {p : Program} {l : Launch} {e : Env} {R : Room} {s : State} {m : MethodId} {args : Array Value} {below : List Frame} {meth : Method} {c : Code} {Q : State → Prop} {D : va_G} {cI cZ : ClassId} {mo : Nat} {ad : Nat → Nat} {H : Heap} {locs : List Loc} {M : MS} (C : MC p s m args meth c D cI cZ cX5_style 3 none) (hR : 4 ≤ R.frames ∧ 84 ≤ R.locals) {x1 x2 : Int} {res : (MS × Int) ⊕ (MS)} (hf : m_style_80 M x1 x2 = some res) (hZ : ZM D cI cZ mo ad s.heap M H locs) {ls : Array Slot} (hl : lv_has ls 3 [(0, .ref mo), (1, .int (zI x1)), (2, .int (zI x2))]) (hK : (Sum.elim (fun z => ∀ (H : Heap) (locs : List Loc) (ls : Array Slot), ZM D cI cZ mo ad s.heap z.1 H locs → lv_has ls 3 [(0, .ref mo), (1, .int (zI z.2))] → W p l e R s m args below meth c H locs 0 0 Q (F0 m 55 ls [])) (fun r => KM below D cI cZ mo ad args s Q r none)) res) : W p l e R s m args below meth c H locs 0 0 Q (F0 m 80 ls []) := by
  unfold m_style_80 at hf
  refine iter_ind (P := fun z r => ∀ (H : Heap) (locs : List Loc) (ls : Array Slot), ZM D cI cZ mo ad s.heap z.1 H locs → lv_has ls 3 [(0, .ref mo), (1, .int (zI x1)), (2, .int (zI z.2))] → (Sum.elim (fun z => ∀ (H : Heap) (locs : List Loc) (ls : Array Slot), ZM D cI cZ mo ad s.heap z.1 H locs → lv_has ls 3 [(0, .ref mo), (1, .int (zI z.2))] → W p l e R s m args below meth c H locs 0 0 Q (F0 m 55 ls [])) (fun r => KM below D cI cZ mo ad args s Q r none)) r → W p l e R s m args below meth c H locs 0 0 Q (F0 m 80 ls [])) ?_ ?_ hf H locs ls hZ hl hK
  · intro z r h1 H locs ls hZ hl hK; exact w_style_80s C hR h1 hZ hl hK
  · intro z z1 r h1 ih H locs ls hZ hl hK; exact w_style_80s C hR h1 hZ hl (fun H locs ls hZ hl => ih H locs ls hZ hl hK)

theorem w_style_211 {p : Program} {l : Launch} {e : Env} {R : Room} {s : State} {m : MethodId} {args : Array Value} {below : List Frame} {meth : Method} {c : Code} {Q : State → Prop} {D : va_G} {cI cZ : ClassId} {mo : Nat} {ad : Nat → Nat} {H : Heap} {locs : List Loc} {M : MS} (C : MC p s m args meth c D cI cZ cX5_style 3 none) (hR : 4 ≤ R.frames ∧ 84 ≤ R.locals) {x1 x2 : Int} {res : (MS × Int) ⊕ ((MS × Int) ⊕ (MS))} (hf : m_style_211 M x1 x2 = some res) (hZ : ZM D cI cZ mo ad s.heap M H locs) {ls : Array Slot} (hl : lv_has ls 3 [(0, .ref mo), (1, .int (zI x1)), (2, .int (zI x2))]) (hK : (Sum.elim (fun z => ∀ (H : Heap) (locs : List Loc) (ls : Array Slot), ZM D cI cZ mo ad s.heap z.1 H locs → lv_has ls 3 [(0, .ref mo), (1, .int (zI x1)), (2, .int (zI z.2))] → W p l e R s m args below meth c H locs 0 0 Q (F0 m 174 ls [])) (Sum.elim (fun z => ∀ (H : Heap) (locs : List Loc) (ls : Array Slot), ZM D cI cZ mo ad s.heap z.1 H locs → lv_has ls 3 [(0, .ref mo), (1, .int (zI z.2))] → W p l e R s m args below meth c H locs 0 0 Q (F0 m 164 ls [])) (fun r => KM below D cI cZ mo ad args s Q r none))) res) : W p l e R s m args below meth c H locs 0 0 Q (F0 m 211 ls []) := by
  unfold m_style_211 at hf
  have hx := C.1
  have hb := C.2.1
  have hts := C.2.2.2.2.2.2.1
  refine zl_iinc (x := x2) (n := 1) (lv' := [(2, .int (zI (x2 + 1))), (0, .ref mo), (1, .int (zI x1))]) (k := 2) hx hb dX5_style_211 hl rfl (by decide) rfl (fun ls hl => ?_)
  refine lv_goto (tgt := 174) hx hb dX5_style_214 (by decide) ?_
  obtain rfl := Option.some.inj hf
  exact hK _ _ _ hZ (lv_sub hl [1, 2, 0] rfl)

theorem w_style_260 {p : Program} {l : Launch} {e : Env} {R : Room} {s : State} {m : MethodId} {args : Array Value} {below : List Frame} {meth : Method} {c : Code} {Q : State → Prop} {D : va_G} {cI cZ : ClassId} {mo : Nat} {ad : Nat → Nat} {H : Heap} {locs : List Loc} {M : MS} (C : MC p s m args meth c D cI cZ cX5_style 3 none) (hR : 4 ≤ R.frames ∧ 84 ≤ R.locals) {x1 : Int} {res : (MS × Int) ⊕ (MS)} (hf : m_style_260 M x1 = some res) (hZ : ZM D cI cZ mo ad s.heap M H locs) {ls : Array Slot} (hl : lv_has ls 3 [(0, .ref mo), (1, .int (zI x1))]) (hK : (Sum.elim (fun z => ∀ (H : Heap) (locs : List Loc) (ls : Array Slot), ZM D cI cZ mo ad s.heap z.1 H locs → lv_has ls 3 [(0, .ref mo), (1, .int (zI z.2))] → W p l e R s m args below meth c H locs 0 0 Q (F0 m 164 ls [])) (fun r => KM below D cI cZ mo ad args s Q r none)) res) : W p l e R s m args below meth c H locs 0 0 Q (F0 m 260 ls []) := by
  unfold m_style_260 at hf
  have hx := C.1
  have hb := C.2.1
  have hts := C.2.2.2.2.2.2.1
  refine zl_iinc (x := x1) (n := 1) (lv' := [(1, .int (zI (x1 + 1))), (0, .ref mo)]) (k := 1) hx hb dX5_style_260 hl rfl (by decide) rfl (fun ls hl => ?_)
  refine lv_goto (tgt := 164) hx hb dX5_style_263 (by decide) ?_
  obtain rfl := Option.some.inj hf
  exact hK _ _ _ hZ (lv_sub hl [1, 0] rfl)

theorem w_style_217 {p : Program} {l : Launch} {e : Env} {R : Room} {s : State} {m : MethodId} {args : Array Value} {below : List Frame} {meth : Method} {c : Code} {Q : State → Prop} {D : va_G} {cI cZ : ClassId} {mo : Nat} {ad : Nat → Nat} {H : Heap} {locs : List Loc} {M : MS} (C : MC p s m args meth c D cI cZ cX5_style 3 none) (hR : 4 ≤ R.frames ∧ 84 ≤ R.locals) {x1 : Int} {res : (MS × Int) ⊕ (MS)} (hf : m_style_217 M x1 = some res) (hZ : ZM D cI cZ mo ad s.heap M H locs) {ls : Array Slot} (hl : lv_has ls 3 [(0, .ref mo), (1, .int (zI x1))]) (hK : (Sum.elim (fun z => ∀ (H : Heap) (locs : List Loc) (ls : Array Slot), ZM D cI cZ mo ad s.heap z.1 H locs → lv_has ls 3 [(0, .ref mo), (1, .int (zI z.2))] → W p l e R s m args below meth c H locs 0 0 Q (F0 m 164 ls [])) (fun r => KM below D cI cZ mo ad args s Q r none)) res) : W p l e R s m args below meth c H locs 0 0 Q (F0 m 217 ls []) := by
  unfold m_style_217 at hf
  have hx := C.1
  have hb := C.2.1
  have hts := C.2.2.2.2.2.2.1
  refine lv_aload_n hx hb dX5_style_217 rfl (lv_at hl 0 rfl) ?_
  refine lv_aload_n hx hb dX5_style_218 rfl (lv_at hl 0 rfl) ?_
  refine zm_geta C hZ 6 (by decide) (by decide) q1147 dX5_style_219 ?_
  refine lv_iload_n hx hb dX5_style_222 rfl (lv_at hl 1 rfl) ?_
  obtain ⟨hg, hf⟩ := gd_inv hf
  refine zm_iald C hZ 6 (by decide) rfl rfl hg dX5_style_223 ?_
  refine zl_ldcw (v := 655364) hx hb C.2.2.2.2.2.1 (hts _ q1535) dX5_style_224 ?_
  obtain ⟨y10, ey10, hf⟩ := bd_inv hf
  refine zm_callV C hZ (n := 2) (rest := []) (met_named l D cI cZ mo ad ey10) (lw_V q1367 q1369 qs46 q107 q1370) rfl rfl (by decide +kernel) ⟨Nat.le_trans (by decide) hR.1, Nat.le_trans (by decide) hR.2⟩ rfl hl.1 rfl (Nat.le_of_ble_eq_true rfl) dX5_style_227 (fun H locs hZ => ?_)
  refine lv_istore_n (lv' := [(2, .int (zI y10)), (0, .ref mo), (1, .int (zI x1))]) hx hb dX5_style_230 rfl hl (by decide) rfl (fun ls hl => ?_)
  refine lv_iload_n hx hb dX5_style_231 rfl (lv_at hl 0 rfl) ?_
  refine zl_if_eq (tgt := 260) hx hb dX5_style_232 (by decide) (fun hc => ?_) (fun hc => ?_)
  · rw [if_pos hc] at hf
    exact w_style_260 C hR hf hZ (lv_sub hl [1, 2] rfl) hK
  · rw [if_neg hc] at hf
    refine lv_aload_n hx hb dX5_style_235 rfl (lv_at hl 1 rfl) ?_
    refine zm_geta C hZ 36 (by decide) (by decide) q1177 dX5_style_236 ?_
    refine zl_bipush hx hb dX5_style_239 (by decide) ?_
    refine lv_iload_n hx hb dX5_style_241 rfl (lv_at hl 2 rfl) ?_
    refine zl_iadd hx hb dX5_style_242 ?_
    obtain ⟨hg, hf⟩ := gd_inv hf
    refine zm_iald C hZ 36 (by decide) rfl rfl hg dX5_style_243 ?_
    refine zl_bipush hx hb dX5_style_244 (by decide) ?_
    refine zl_icmp_ne (tgt := 260) hx hb dX5_style_246 (by decide) (fun hc => ?_) (fun hc => ?_)
    · rw [if_pos hc] at hf
      refine lv_aload_n hx hb dX5_style_249 rfl (lv_at hl 1 rfl) ?_
      refine zm_geta C hZ 36 (by decide) (by decide) q1177 dX5_style_250 ?_
      refine zl_bipush hx hb dX5_style_253 (by decide) ?_
      refine lv_iload_n hx hb dX5_style_255 rfl (lv_at hl 2 rfl) ?_
      refine zl_iadd hx hb dX5_style_256 ?_
      refine zl_bipush hx hb dX5_style_257 (by decide) ?_
      obtain ⟨hg, hf⟩ := gd_inv hf
      obtain ⟨M11, eM11, hf⟩ := bnd_inv hf
      refine zm_iast C hZ 36 (by decide) rfl rfl hg dX5_style_259 (fun H locs hZ => ?_)
      rw [← eM11] at hZ
      exact w_style_260 C hR hf hZ (lv_sub hl [1, 2] rfl) hK
    · rw [if_neg hc] at hf
      exact w_style_260 C hR hf hZ (lv_sub hl [1, 2] rfl) hK

theorem w_style_174s {p : Program} {l : Launch} {e : Env} {R : Room} {s : State} {m : MethodId} {args : Array Value} {below : List Frame} {meth : Method} {c : Code} {Q : State → Prop} {D : va_G} {cI cZ : ClassId} {mo : Nat} {ad : Nat → Nat} {H : Heap} {locs : List Loc} {M : MS} (C : MC p s m args meth c D cI cZ cX5_style 3 none) (hR : 4 ≤ R.frames ∧ 84 ≤ R.locals) {x1 x2 : Int} {res : (MS × Int) ⊕ ((MS × Int) ⊕ (MS))} (hf : m_style_174s M x1 x2 = some res) (hZ : ZM D cI cZ mo ad s.heap M H locs) {ls : Array Slot} (hl : lv_has ls 3 [(0, .ref mo), (1, .int (zI x1)), (2, .int (zI x2))]) (hK : (Sum.elim (fun z => ∀ (H : Heap) (locs : List Loc) (ls : Array Slot), ZM D cI cZ mo ad s.heap z.1 H locs → lv_has ls 3 [(0, .ref mo), (1, .int (zI x1)), (2, .int (zI z.2))] → W p l e R s m args below meth c H locs 0 0 Q (F0 m 174 ls [])) (Sum.elim (fun z => ∀ (H : Heap) (locs : List Loc) (ls : Array Slot), ZM D cI cZ mo ad s.heap z.1 H locs → lv_has ls 3 [(0, .ref mo), (1, .int (zI z.2))] → W p l e R s m args below meth c H locs 0 0 Q (F0 m 164 ls [])) (fun r => KM below D cI cZ mo ad args s Q r none))) res) : W p l e R s m args below meth c H locs 0 0 Q (F0 m 174 ls []) := by
  unfold m_style_174s at hf
  have hx := C.1
  have hb := C.2.1
  have hts := C.2.2.2.2.2.2.1
  refine lv_iload_n hx hb dX5_style_174 rfl (lv_at hl 2 rfl) ?_
  refine zl_bipush hx hb dX5_style_175 (by decide) ?_
  refine zl_icmp_ge (tgt := 217) hx hb dX5_style_177 (by decide) (fun hc => ?_) (fun hc => ?_)
  · rw [if_pos hc] at hf
    refine lv_aload_n hx hb dX5_style_180 rfl (lv_at hl 0 rfl) ?_
    refine zm_geta C hZ 35 (by decide) (by decide) q1176 dX5_style_181 ?_
    refine zl_bipush hx hb dX5_style_184 (by decide) ?_
    refine lv_iload_n hx hb dX5_style_186 rfl (lv_at hl 2 rfl) ?_
    refine zl_imul hx hb dX5_style_187 ?_
    refine lv_iload_n hx hb dX5_style_188 rfl (lv_at hl 1 rfl) ?_
    refine zl_iadd hx hb dX5_style_189 ?_
    obtain ⟨hg, hf⟩ := gd_inv hf
    refine zm_iald C hZ 35 (by decide) rfl rfl hg dX5_style_190 ?_
    refine zl_if_ge (tgt := 211) hx hb dX5_style_191 (by decide) (fun hc => ?_) (fun hc => ?_)
    · rw [if_pos hc] at hf
      refine lv_aload_n hx hb dX5_style_194 rfl (lv_at hl 0 rfl) ?_
      refine zm_geta C hZ 36 (by decide) (by decide) q1177 dX5_style_195 ?_
      refine zl_bipush hx hb dX5_style_198 (by decide) ?_
      refine lv_iload_n hx hb dX5_style_200 rfl (lv_at hl 2 rfl) ?_
      refine zl_imul hx hb dX5_style_201 ?_
      refine lv_iload_n hx hb dX5_style_202 rfl (lv_at hl 1 rfl) ?_
      refine zl_iadd hx hb dX5_style_203 ?_
      refine lv_aload_n hx hb dX5_style_204 rfl (lv_at hl 0 rfl) ?_
      refine lv_iload_n hx hb dX5_style_205 rfl (lv_at hl 2 rfl) ?_
      refine lv_iload_n hx hb dX5_style_206 rfl (lv_at hl 1 rfl) ?_
      obtain ⟨y8, ey8, hf⟩ := bd_inv hf
      refine zm_callV C hZ (n := 2) (rest := [.int (zI ((40 * x2) + x1)), .ref (ad 36)]) (met_initial l D cI cZ mo ad ey8) (lw_V q1531 q1533 qs74 q107 q1534) rfl rfl (by decide +kernel) ⟨Nat.le_trans (by decide) hR.1, Nat.le_trans (by decide) hR.2⟩ rfl hl.1 rfl (Nat.le_of_ble_eq_true rfl) dX5_style_207 (fun H locs hZ => ?_)
      obtain ⟨hg, hf⟩ := gd_inv hf
      obtain ⟨M9, eM9, hf⟩ := bnd_inv hf
      refine zm_iast C hZ 36 (by decide) rfl rfl hg dX5_style_210 (fun H locs hZ => ?_)
      rw [← eM9] at hZ
      exact w_style_211 C hR hf hZ (lv_sub hl [0, 1, 2] rfl) hK
    · rw [if_neg hc] at hf
      exact w_style_211 C hR hf hZ (lv_sub hl [0, 1, 2] rfl) hK
  · rw [if_neg hc] at hf
    obtain ⟨r0, hm0, rfl⟩ := mr_inv hf
    exact w_style_217 C hR hm0 hZ (lv_sub hl [0, 1] rfl) hK

theorem w_style_174 {p : Program} {l : Launch} {e : Env} {R : Room} {s : State} {m : MethodId} {args : Array Value} {below : List Frame} {meth : Method} {c : Code} {Q : State → Prop} {D : va_G} {cI cZ : ClassId} {mo : Nat} {ad : Nat → Nat} {H : Heap} {locs : List Loc} {M : MS} (C : MC p s m args meth c D cI cZ cX5_style 3 none) (hR : 4 ≤ R.frames ∧ 84 ≤ R.locals) {x1 x2 : Int} {res : (MS × Int) ⊕ (MS)} (hf : m_style_174 M x1 x2 = some res) (hZ : ZM D cI cZ mo ad s.heap M H locs) {ls : Array Slot} (hl : lv_has ls 3 [(0, .ref mo), (1, .int (zI x1)), (2, .int (zI x2))]) (hK : (Sum.elim (fun z => ∀ (H : Heap) (locs : List Loc) (ls : Array Slot), ZM D cI cZ mo ad s.heap z.1 H locs → lv_has ls 3 [(0, .ref mo), (1, .int (zI z.2))] → W p l e R s m args below meth c H locs 0 0 Q (F0 m 164 ls [])) (fun r => KM below D cI cZ mo ad args s Q r none)) res) : W p l e R s m args below meth c H locs 0 0 Q (F0 m 174 ls []) := by
  unfold m_style_174 at hf
  refine iter_ind (P := fun z r => ∀ (H : Heap) (locs : List Loc) (ls : Array Slot), ZM D cI cZ mo ad s.heap z.1 H locs → lv_has ls 3 [(0, .ref mo), (1, .int (zI x1)), (2, .int (zI z.2))] → (Sum.elim (fun z => ∀ (H : Heap) (locs : List Loc) (ls : Array Slot), ZM D cI cZ mo ad s.heap z.1 H locs → lv_has ls 3 [(0, .ref mo), (1, .int (zI z.2))] → W p l e R s m args below meth c H locs 0 0 Q (F0 m 164 ls [])) (fun r => KM below D cI cZ mo ad args s Q r none)) r → W p l e R s m args below meth c H locs 0 0 Q (F0 m 174 ls [])) ?_ ?_ hf H locs ls hZ hl hK
  · intro z r h1 H locs ls hZ hl hK; exact w_style_174s C hR h1 hZ hl hK
  · intro z z1 r h1 ih H locs ls hZ hl hK; exact w_style_174s C hR h1 hZ hl (fun H locs ls hZ hl => ih H locs ls hZ hl hK)

theorem w_style_164s {p : Program} {l : Launch} {e : Env} {R : Room} {s : State} {m : MethodId} {args : Array Value} {below : List Frame} {meth : Method} {c : Code} {Q : State → Prop} {D : va_G} {cI cZ : ClassId} {mo : Nat} {ad : Nat → Nat} {H : Heap} {locs : List Loc} {M : MS} (C : MC p s m args meth c D cI cZ cX5_style 3 none) (hR : 4 ≤ R.frames ∧ 84 ≤ R.locals) {x1 : Int} {res : (MS × Int) ⊕ (MS)} (hf : m_style_164s M x1 = some res) (hZ : ZM D cI cZ mo ad s.heap M H locs) {ls : Array Slot} (hl : lv_has ls 3 [(0, .ref mo), (1, .int (zI x1))]) (hK : (Sum.elim (fun z => ∀ (H : Heap) (locs : List Loc) (ls : Array Slot), ZM D cI cZ mo ad s.heap z.1 H locs → lv_has ls 3 [(0, .ref mo), (1, .int (zI z.2))] → W p l e R s m args below meth c H locs 0 0 Q (F0 m 164 ls [])) (fun r => KM below D cI cZ mo ad args s Q r none)) res) : W p l e R s m args below meth c H locs 0 0 Q (F0 m 164 ls []) := by
  unfold m_style_164s at hf
  have hx := C.1
  have hb := C.2.1
  have hts := C.2.2.2.2.2.2.1
  refine lv_iload_n hx hb dX5_style_164 rfl (lv_at hl 1 rfl) ?_
  refine lv_aload_n hx hb dX5_style_165 rfl (lv_at hl 0 rfl) ?_
  refine zm_geti C hZ 5 (by decide) rfl q1146 dX5_style_166 ?_
  refine zl_icmp_ge (tgt := 266) hx hb dX5_style_169 (by decide) (fun hc => ?_) (fun hc => ?_)
  · rw [if_pos hc] at hf
    refine zl_iconst hx hb dX5_style_172 ?_
    refine lv_istore_n (lv' := [(2, .int (zI 0)), (0, .ref mo), (1, .int (zI x1))]) hx hb dX5_style_173 rfl hl (by decide) rfl (fun ls hl => ?_)
    exact w_style_174 C hR hf hZ (lv_sub hl [1, 2, 0] rfl) hK
  · rw [if_neg hc] at hf
    obtain rfl := Option.some.inj hf
    exact zm_vret C hZ hK dX5_style_266

theorem w_style_164 {p : Program} {l : Launch} {e : Env} {R : Room} {s : State} {m : MethodId} {args : Array Value} {below : List Frame} {meth : Method} {c : Code} {Q : State → Prop} {D : va_G} {cI cZ : ClassId} {mo : Nat} {ad : Nat → Nat} {H : Heap} {locs : List Loc} {M : MS} (C : MC p s m args meth c D cI cZ cX5_style 3 none) (hR : 4 ≤ R.frames ∧ 84 ≤ R.locals) {x1 : Int} {res : MS} (hf : m_style_164 M x1 = some res) (hZ : ZM D cI cZ mo ad s.heap M H locs) {ls : Array Slot} (hl : lv_has ls 3 [(0, .ref mo), (1, .int (zI x1))]) (hK : KM below D cI cZ mo ad args s Q res none) : W p l e R s m args below meth c H locs 0 0 Q (F0 m 164 ls []) := by
  unfold m_style_164 at hf
  refine iter_ind (P := fun z r => ∀ (H : Heap) (locs : List Loc) (ls : Array Slot), ZM D cI cZ mo ad s.heap z.1 H locs → lv_has ls 3 [(0, .ref mo), (1, .int (zI z.2))] → KM below D cI cZ mo ad args s Q r none → W p l e R s m args below meth c H locs 0 0 Q (F0 m 164 ls [])) ?_ ?_ hf H locs ls hZ hl hK
  · intro z r h1 H locs ls hZ hl hK; exact w_style_164s C hR h1 hZ hl hK
  · intro z z1 r h1 ih H locs ls hZ hl hK; exact w_style_164s C hR h1 hZ hl (fun H locs ls hZ hl => ih H locs ls hZ hl hK)

theorem w_style_162 {p : Program} {l : Launch} {e : Env} {R : Room} {s : State} {m : MethodId} {args : Array Value} {below : List Frame} {meth : Method} {c : Code} {Q : State → Prop} {D : va_G} {cI cZ : ClassId} {mo : Nat} {ad : Nat → Nat} {H : Heap} {locs : List Loc} {M : MS} (C : MC p s m args meth c D cI cZ cX5_style 3 none) (hR : 4 ≤ R.frames ∧ 84 ≤ R.locals) {res : MS} (hf : m_style_162 M = some res) (hZ : ZM D cI cZ mo ad s.heap M H locs) {ls : Array Slot} (hl : lv_has ls 3 [(0, .ref mo)]) (hK : KM below D cI cZ mo ad args s Q res none) : W p l e R s m args below meth c H locs 0 0 Q (F0 m 162 ls []) := by
  unfold m_style_162 at hf
  have hx := C.1
  have hb := C.2.1
  have hts := C.2.2.2.2.2.2.1
  refine zl_iconst hx hb dX5_style_162 ?_
  refine lv_istore_n (lv' := [(1, .int (zI 0)), (0, .ref mo)]) hx hb dX5_style_163 rfl hl (by decide) rfl (fun ls hl => ?_)
  exact w_style_164 C hR hf hZ (lv_sub hl [1, 0] rfl) hK

theorem w_style_55s {p : Program} {l : Launch} {e : Env} {R : Room} {s : State} {m : MethodId} {args : Array Value} {below : List Frame} {meth : Method} {c : Code} {Q : State → Prop} {D : va_G} {cI cZ : ClassId} {mo : Nat} {ad : Nat → Nat} {H : Heap} {locs : List Loc} {M : MS} (C : MC p s m args meth c D cI cZ cX5_style 3 none) (hR : 4 ≤ R.frames ∧ 84 ≤ R.locals) {x1 : Int} {res : (MS × Int) ⊕ (MS)} (hf : m_style_55s M x1 = some res) (hZ : ZM D cI cZ mo ad s.heap M H locs) {ls : Array Slot} (hl : lv_has ls 3 [(0, .ref mo), (1, .int (zI x1))]) (hK : (Sum.elim (fun z => ∀ (H : Heap) (locs : List Loc) (ls : Array Slot), ZM D cI cZ mo ad s.heap z.1 H locs → lv_has ls 3 [(0, .ref mo), (1, .int (zI z.2))] → W p l e R s m args below meth c H locs 0 0 Q (F0 m 55 ls [])) (fun r => KM below D cI cZ mo ad args s Q r none)) res) : W p l e R s m args below meth c H locs 0 0 Q (F0 m 55 ls []) := by
  unfold m_style_55s at hf
  have hx := C.1
  have hb := C.2.1
  have hts := C.2.2.2.2.2.2.1
  refine lv_iload_n hx hb dX5_style_55 rfl (lv_at hl 1 rfl) ?_
  refine lv_aload_n hx hb dX5_style_56 rfl (lv_at hl 0 rfl) ?_
  refine zm_geti C hZ 22 (by decide) rfl q1163 dX5_style_57 ?_
  refine zl_icmp_ge (tgt := 162) hx hb dX5_style_60 (by decide) (fun hc => ?_) (fun hc => ?_)
  · rw [if_pos hc] at hf
    refine lv_aload_n hx hb dX5_style_63 rfl (lv_at hl 0 rfl) ?_
    refine lv_iload_n hx hb dX5_style_64 rfl (lv_at hl 1 rfl) ?_
    obtain ⟨y5, ey5, hf⟩ := bd_inv hf
    refine zm_callV C hZ (n := 1) (rest := []) (met_match l D cI cZ mo ad ey5) (lw_V q1515 q1517 qs71 q107 q1518) rfl rfl (by decide +kernel) ⟨Nat.le_trans (by decide) hR.1, Nat.le_trans (by decide) hR.2⟩ rfl hl.1 rfl (Nat.le_of_ble_eq_true rfl) dX5_style_65 (fun H locs hZ => ?_)
    refine lv_aload_n hx hb dX5_style_68 rfl (lv_at hl 0 rfl) ?_
    refine zl_iconst hx hb dX5_style_69 ?_
    obtain ⟨M6, eM6, hf⟩ := bnd_inv hf
    refine zm_puti C hZ 32 (by decide) rfl rfl q1173 dX5_style_70 (fun H locs hZ => ?_)
    rw [← eM6] at hZ
    refine lv_aload_n hx hb dX5_style_73 rfl (lv_at hl 0 rfl) ?_
    refine zm_geta C hZ 29 (by decide) (by decide) q1170 dX5_style_74 ?_
    refine lv_iload_n hx hb dX5_style_77 rfl (lv_at hl 1 rfl) ?_
    obtain ⟨hg, hf⟩ := gd_inv hf
    refine zm_iald C hZ 29 (by decide) rfl rfl hg dX5_style_78 ?_
    obtain ⟨y7, ey7, hf⟩ := bnd_inv hf
    refine zl_top ey7 ?_
    refine lv_istore_n (lv' := [(2, .int (zI y7)), (0, .ref mo), (1, .int (zI x1))]) hx hb dX5_style_79 rfl hl (by decide) rfl (fun ls hl => ?_)
    exact w_style_80 C hR hf hZ (lv_sub hl [1, 2, 0] rfl) hK
  · rw [if_neg hc] at hf
    obtain ⟨r0, hm0, rfl⟩ := mr_inv hf
    exact w_style_162 C hR hm0 hZ (lv_sub hl [0] rfl) hK

theorem w_style_55 {p : Program} {l : Launch} {e : Env} {R : Room} {s : State} {m : MethodId} {args : Array Value} {below : List Frame} {meth : Method} {c : Code} {Q : State → Prop} {D : va_G} {cI cZ : ClassId} {mo : Nat} {ad : Nat → Nat} {H : Heap} {locs : List Loc} {M : MS} (C : MC p s m args meth c D cI cZ cX5_style 3 none) (hR : 4 ≤ R.frames ∧ 84 ≤ R.locals) {x1 : Int} {res : MS} (hf : m_style_55 M x1 = some res) (hZ : ZM D cI cZ mo ad s.heap M H locs) {ls : Array Slot} (hl : lv_has ls 3 [(0, .ref mo), (1, .int (zI x1))]) (hK : KM below D cI cZ mo ad args s Q res none) : W p l e R s m args below meth c H locs 0 0 Q (F0 m 55 ls []) := by
  unfold m_style_55 at hf
  refine iter_ind (P := fun z r => ∀ (H : Heap) (locs : List Loc) (ls : Array Slot), ZM D cI cZ mo ad s.heap z.1 H locs → lv_has ls 3 [(0, .ref mo), (1, .int (zI z.2))] → KM below D cI cZ mo ad args s Q r none → W p l e R s m args below meth c H locs 0 0 Q (F0 m 55 ls [])) ?_ ?_ hf H locs ls hZ hl hK
  · intro z r h1 H locs ls hZ hl hK; exact w_style_55s C hR h1 hZ hl hK
  · intro z z1 r h1 ih H locs ls hZ hl hK; exact w_style_55s C hR h1 hZ hl (fun H locs ls hZ hl => ih H locs ls hZ hl hK)

theorem w_style_53 {p : Program} {l : Launch} {e : Env} {R : Room} {s : State} {m : MethodId} {args : Array Value} {below : List Frame} {meth : Method} {c : Code} {Q : State → Prop} {D : va_G} {cI cZ : ClassId} {mo : Nat} {ad : Nat → Nat} {H : Heap} {locs : List Loc} {M : MS} (C : MC p s m args meth c D cI cZ cX5_style 3 none) (hR : 4 ≤ R.frames ∧ 84 ≤ R.locals) {res : MS} (hf : m_style_53 M = some res) (hZ : ZM D cI cZ mo ad s.heap M H locs) {ls : Array Slot} (hl : lv_has ls 3 [(0, .ref mo)]) (hK : KM below D cI cZ mo ad args s Q res none) : W p l e R s m args below meth c H locs 0 0 Q (F0 m 53 ls []) := by
  unfold m_style_53 at hf
  have hx := C.1
  have hb := C.2.1
  have hts := C.2.2.2.2.2.2.1
  refine zl_iconst hx hb dX5_style_53 ?_
  refine lv_istore_n (lv' := [(1, .int (zI 0)), (0, .ref mo)]) hx hb dX5_style_54 rfl hl (by decide) rfl (fun ls hl => ?_)
  exact w_style_55 C hR hf hZ (lv_sub hl [1, 0] rfl) hK

theorem w_style_33s {p : Program} {l : Launch} {e : Env} {R : Room} {s : State} {m : MethodId} {args : Array Value} {below : List Frame} {meth : Method} {c : Code} {Q : State → Prop} {D : va_G} {cI cZ : ClassId} {mo : Nat} {ad : Nat → Nat} {H : Heap} {locs : List Loc} {M : MS} (C : MC p s m args meth c D cI cZ cX5_style 3 none) (hR : 4 ≤ R.frames ∧ 84 ≤ R.locals) {x1 : Int} {res : (MS × Int) ⊕ (MS)} (hf : m_style_33s M x1 = some res) (hZ : ZM D cI cZ mo ad s.heap M H locs) {ls : Array Slot} (hl : lv_has ls 3 [(0, .ref mo), (1, .int (zI x1))]) (hK : (Sum.elim (fun z => ∀ (H : Heap) (locs : List Loc) (ls : Array Slot), ZM D cI cZ mo ad s.heap z.1 H locs → lv_has ls 3 [(0, .ref mo), (1, .int (zI z.2))] → W p l e R s m args below meth c H locs 0 0 Q (F0 m 33 ls [])) (fun r => KM below D cI cZ mo ad args s Q r none)) res) : W p l e R s m args below meth c H locs 0 0 Q (F0 m 33 ls []) := by
  unfold m_style_33s at hf
  have hx := C.1
  have hb := C.2.1
  have hts := C.2.2.2.2.2.2.1
  refine lv_iload_n hx hb dX5_style_33 rfl (lv_at hl 1 rfl) ?_
  refine zl_sipush hx hb dX5_style_34 (by decide) ?_
  refine zl_icmp_ge (tgt := 53) hx hb dX5_style_37 (by decide) (fun hc => ?_) (fun hc => ?_)
  · rw [if_pos hc] at hf
    refine lv_aload_n hx hb dX5_style_40 rfl (lv_at hl 0 rfl) ?_
    refine zm_geta C hZ 35 (by decide) (by decide) q1176 dX5_style_41 ?_
    refine lv_iload_n hx hb dX5_style_44 rfl (lv_at hl 1 rfl) ?_
    refine zl_iconst hx hb dX5_style_45 ?_
    obtain ⟨hg, hf⟩ := gd_inv hf
    obtain ⟨M4, eM4, hf⟩ := bnd_inv hf
    refine zm_iast C hZ 35 (by decide) rfl rfl hg dX5_style_46 (fun H locs hZ => ?_)
    rw [← eM4] at hZ
    refine zl_iinc (x := x1) (n := 1) (lv' := [(1, .int (zI (x1 + 1))), (0, .ref mo)]) (k := 1) hx hb dX5_style_47 hl rfl (by decide) rfl (fun ls hl => ?_)
    refine lv_goto (tgt := 33) hx hb dX5_style_50 (by decide) ?_
    obtain rfl := Option.some.inj hf
    exact hK _ _ _ hZ (lv_sub hl [1, 0] rfl)
  · rw [if_neg hc] at hf
    obtain ⟨r0, hm0, rfl⟩ := mr_inv hf
    exact w_style_53 C hR hm0 hZ (lv_sub hl [0] rfl) hK

theorem w_style_33 {p : Program} {l : Launch} {e : Env} {R : Room} {s : State} {m : MethodId} {args : Array Value} {below : List Frame} {meth : Method} {c : Code} {Q : State → Prop} {D : va_G} {cI cZ : ClassId} {mo : Nat} {ad : Nat → Nat} {H : Heap} {locs : List Loc} {M : MS} (C : MC p s m args meth c D cI cZ cX5_style 3 none) (hR : 4 ≤ R.frames ∧ 84 ≤ R.locals) {x1 : Int} {res : MS} (hf : m_style_33 M x1 = some res) (hZ : ZM D cI cZ mo ad s.heap M H locs) {ls : Array Slot} (hl : lv_has ls 3 [(0, .ref mo), (1, .int (zI x1))]) (hK : KM below D cI cZ mo ad args s Q res none) : W p l e R s m args below meth c H locs 0 0 Q (F0 m 33 ls []) := by
  unfold m_style_33 at hf
  refine iter_ind (P := fun z r => ∀ (H : Heap) (locs : List Loc) (ls : Array Slot), ZM D cI cZ mo ad s.heap z.1 H locs → lv_has ls 3 [(0, .ref mo), (1, .int (zI z.2))] → KM below D cI cZ mo ad args s Q r none → W p l e R s m args below meth c H locs 0 0 Q (F0 m 33 ls [])) ?_ ?_ hf H locs ls hZ hl hK
  · intro z r h1 H locs ls hZ hl hK; exact w_style_33s C hR h1 hZ hl hK
  · intro z z1 r h1 ih H locs ls hZ hl hK; exact w_style_33s C hR h1 hZ hl (fun H locs ls hZ hl => ih H locs ls hZ hl hK)

theorem w_style_31 {p : Program} {l : Launch} {e : Env} {R : Room} {s : State} {m : MethodId} {args : Array Value} {below : List Frame} {meth : Method} {c : Code} {Q : State → Prop} {D : va_G} {cI cZ : ClassId} {mo : Nat} {ad : Nat → Nat} {H : Heap} {locs : List Loc} {M : MS} (C : MC p s m args meth c D cI cZ cX5_style 3 none) (hR : 4 ≤ R.frames ∧ 84 ≤ R.locals) {res : MS} (hf : m_style_31 M = some res) (hZ : ZM D cI cZ mo ad s.heap M H locs) {ls : Array Slot} (hl : lv_has ls 3 [(0, .ref mo)]) (hK : KM below D cI cZ mo ad args s Q res none) : W p l e R s m args below meth c H locs 0 0 Q (F0 m 31 ls []) := by
  unfold m_style_31 at hf
  have hx := C.1
  have hb := C.2.1
  have hts := C.2.2.2.2.2.2.1
  refine zl_iconst hx hb dX5_style_31 ?_
  refine lv_istore_n (lv' := [(1, .int (zI 0)), (0, .ref mo)]) hx hb dX5_style_32 rfl hl (by decide) rfl (fun ls hl => ?_)
  exact w_style_33 C hR hf hZ (lv_sub hl [1, 0] rfl) hK

theorem w_style_6s {p : Program} {l : Launch} {e : Env} {R : Room} {s : State} {m : MethodId} {args : Array Value} {below : List Frame} {meth : Method} {c : Code} {Q : State → Prop} {D : va_G} {cI cZ : ClassId} {mo : Nat} {ad : Nat → Nat} {H : Heap} {locs : List Loc} {M : MS} (C : MC p s m args meth c D cI cZ cX5_style 3 none) (hR : 4 ≤ R.frames ∧ 84 ≤ R.locals) {x1 : Int} {res : (MS × Int) ⊕ (MS)} (hf : m_style_6s M x1 = some res) (hZ : ZM D cI cZ mo ad s.heap M H locs) {ls : Array Slot} (hl : lv_has ls 3 [(0, .ref mo), (1, .int (zI x1))]) (hK : (Sum.elim (fun z => ∀ (H : Heap) (locs : List Loc) (ls : Array Slot), ZM D cI cZ mo ad s.heap z.1 H locs → lv_has ls 3 [(0, .ref mo), (1, .int (zI z.2))] → W p l e R s m args below meth c H locs 0 0 Q (F0 m 6 ls [])) (fun r => KM below D cI cZ mo ad args s Q r none)) res) : W p l e R s m args below meth c H locs 0 0 Q (F0 m 6 ls []) := by
  unfold m_style_6s at hf
  have hx := C.1
  have hb := C.2.1
  have hts := C.2.2.2.2.2.2.1
  refine lv_iload_n hx hb dX5_style_6 rfl (lv_at hl 1 rfl) ?_
  refine lv_aload_n hx hb dX5_style_7 rfl (lv_at hl 0 rfl) ?_
  refine zm_geti C hZ 5 (by decide) rfl q1146 dX5_style_8 ?_
  refine zl_icmp_ge (tgt := 31) hx hb dX5_style_11 (by decide) (fun hc => ?_) (fun hc => ?_)
  · rw [if_pos hc] at hf
    refine lv_aload_n hx hb dX5_style_14 rfl (lv_at hl 0 rfl) ?_
    refine zm_geta C hZ 33 (by decide) (by decide) q1174 dX5_style_15 ?_
    refine lv_iload_n hx hb dX5_style_18 rfl (lv_at hl 1 rfl) ?_
    refine lv_aload_n hx hb dX5_style_19 rfl (lv_at hl 0 rfl) ?_
    refine lv_iload_n hx hb dX5_style_20 rfl (lv_at hl 1 rfl) ?_
    obtain ⟨y2, ey2, hf⟩ := bd_inv hf
    refine zm_callV C hZ (n := 1) (rest := [.int (zI x1), .ref (ad 33)]) (met_parentOf l D cI cZ mo ad ey2) (lw_V q1464 q1466 qs64 q107 q1467) rfl rfl (by decide +kernel) ⟨Nat.le_trans (by decide) hR.1, Nat.le_trans (by decide) hR.2⟩ rfl hl.1 rfl (Nat.le_of_ble_eq_true rfl) dX5_style_21 (fun H locs hZ => ?_)
    obtain ⟨hg, hf⟩ := gd_inv hf
    obtain ⟨M3, eM3, hf⟩ := bnd_inv hf
    refine zm_iast C hZ 33 (by decide) rfl rfl hg dX5_style_24 (fun H locs hZ => ?_)
    rw [← eM3] at hZ
    refine zl_iinc (x := x1) (n := 1) (lv' := [(1, .int (zI (x1 + 1))), (0, .ref mo)]) (k := 1) hx hb dX5_style_25 hl rfl (by decide) rfl (fun ls hl => ?_)
    refine lv_goto (tgt := 6) hx hb dX5_style_28 (by decide) ?_
    obtain rfl := Option.some.inj hf
    exact hK _ _ _ hZ (lv_sub hl [1, 0] rfl)
  · rw [if_neg hc] at hf
    obtain ⟨r0, hm0, rfl⟩ := mr_inv hf
    exact w_style_31 C hR hm0 hZ (lv_sub hl [0] rfl) hK

theorem w_style_6 {p : Program} {l : Launch} {e : Env} {R : Room} {s : State} {m : MethodId} {args : Array Value} {below : List Frame} {meth : Method} {c : Code} {Q : State → Prop} {D : va_G} {cI cZ : ClassId} {mo : Nat} {ad : Nat → Nat} {H : Heap} {locs : List Loc} {M : MS} (C : MC p s m args meth c D cI cZ cX5_style 3 none) (hR : 4 ≤ R.frames ∧ 84 ≤ R.locals) {x1 : Int} {res : MS} (hf : m_style_6 M x1 = some res) (hZ : ZM D cI cZ mo ad s.heap M H locs) {ls : Array Slot} (hl : lv_has ls 3 [(0, .ref mo), (1, .int (zI x1))]) (hK : KM below D cI cZ mo ad args s Q res none) : W p l e R s m args below meth c H locs 0 0 Q (F0 m 6 ls []) := by
  unfold m_style_6 at hf
  refine iter_ind (P := fun z r => ∀ (H : Heap) (locs : List Loc) (ls : Array Slot), ZM D cI cZ mo ad s.heap z.1 H locs → lv_has ls 3 [(0, .ref mo), (1, .int (zI z.2))] → KM below D cI cZ mo ad args s Q r none → W p l e R s m args below meth c H locs 0 0 Q (F0 m 6 ls [])) ?_ ?_ hf H locs ls hZ hl hK
  · intro z r h1 H locs ls hZ hl hK; exact w_style_6s C hR h1 hZ hl hK
  · intro z z1 r h1 ih H locs ls hZ hl hK; exact w_style_6s C hR h1 hZ hl (fun H locs ls hZ hl => ih H locs ls hZ hl hK)

theorem w_style {p : Program} {l : Launch} {e : Env} {R : Room} {s : State} {m : MethodId} {args : Array Value} {below : List Frame} {meth : Method} {c : Code} {Q : State → Prop} {D : va_G} {cI cZ : ClassId} {mo : Nat} {ad : Nat → Nat} {H : Heap} {locs : List Loc} {M : MS} (C : MC p s m args meth c D cI cZ cX5_style 3 none) (hR : 4 ≤ R.frames ∧ 84 ≤ R.locals) {res : MS} (hf : m_style M = some res) (hZ : ZM D cI cZ mo ad s.heap M H locs) {ls : Array Slot} (hl : lv_has ls 3 [(0, .ref mo)]) (hK : KM below D cI cZ mo ad args s Q res none) : W p l e R s m args below meth c H locs 0 0 Q (F0 m 0 ls []) := by
  unfold m_style at hf
  have hx := C.1
  have hb := C.2.1
  have hts := C.2.2.2.2.2.2.1
  refine lv_aload_n hx hb dX5_style_0 rfl (lv_at hl 0 rfl) ?_
  obtain ⟨y1, ey1, hf⟩ := bd_inv hf
  refine zm_callV C hZ (n := 0) (rest := []) (met_readSheet l D cI cZ mo ad ey1) (lw_V q1488 q1490 qs66 q107 q1491) rfl rfl (by decide +kernel) ⟨Nat.le_trans (by decide) hR.1, Nat.le_trans (by decide) hR.2⟩ rfl hl.1 rfl (Nat.le_of_ble_eq_true rfl) dX5_style_1 (fun H locs hZ => ?_)
  refine zl_iconst hx hb dX5_style_4 ?_
  refine lv_istore_n (lv' := [(1, .int (zI 0)), (0, .ref mo)]) hx hb dX5_style_5 rfl hl (by decide) rfl (fun ls hl => ?_)
  exact w_style_6 C hR hf hZ (lv_sub hl [1, 0] rfl) hK

theorem met_style (l : Launch) (D : va_G) (cI cZ : ClassId) (mo : Nat) (ad : Nat → Nat) {M : MS} {res : MS} (hf : m_style M = some res) : Met l yX5_style (ws_ yX5_style cX5_style 3 none) ({ frames := 4, cells := 0, slots := 0, locals := 84 }) (PM D cI cZ mo ad M []) (QM D cI cZ mo ad res none) 0 0 (MA mo ad) := by
  refine Met.ofW (cc := cX5_style) (maxL := 3) (ret := none) (by decide) rfl ?_
  intro p e s m args below meth c s₁ B hml hv
  obtain ⟨rfl, hRM, hK0⟩ := hv
  have hts := atoms_spec (ws := ws_ yX5_style cX5_style 3 none) B.pre
  have hts : ∀ w ∈ lw_all, w.before _ s = true := fun w h => hts w (List.mem_cons_of_mem _ h)
  have C : MC p s m _ meth c D cI cZ cX5_style 3 none := ⟨B.exec, B.bytes, B.returns, B.notSynchronized, hml, findClass_of_methodNamed B.named, hts, hK0⟩
  have hZ : ZM D cI cZ mo ad s.heap M s.heap [] := ⟨hRM, rfl, fun _ _ => rfl, fun _ h => by cases h⟩
  have hl := lv_entry ([.ref mo]) (n := 3) (Nat.le_of_ble_eq_true rfl)
  rw [lg_entry_eq]
  generalize (lg_sl ([.ref mo]) ++ List.replicate (3 - (lg_sl ([.ref mo])).length) Slot.unset).toArray = ls at hl ⊢
  have hl : lv_has ls 3 [(0, .ref mo)] := hl
  exact w_style C ⟨Nat.le_refl _, Nat.le_refl _⟩ hf hZ hl rfl

theorem w_value {p : Program} {l : Launch} {e : Env} {R : Room} {s : State} {m : MethodId} {args : Array Value} {below : List Frame} {meth : Method} {c : Code} {Q : State → Prop} {D : va_G} {cI cZ : ClassId} {mo : Nat} {ad : Nat → Nat} {H : Heap} {locs : List Loc} {M : MS} (C : MC p s m args meth c D cI cZ cX5_value 4 (some .int)) (hR : 5 ≤ R.frames ∧ 106 ≤ R.locals) {x1 x2 : Int} {res : MS × Int} (hf : m_value M x1 x2 = some res) (hZ : ZM D cI cZ mo ad s.heap M H locs) {ls : Array Slot} (hl : lv_has ls 4 [(0, .ref mo), (1, .int (zI x1)), (2, .int (zI x2))]) (hK : KM below D cI cZ mo ad args s Q res.1 (some (.int (zI res.2)))) : W p l e R s m args below meth c H locs 0 0 Q (F0 m 0 ls []) := by
  unfold m_value at hf
  have hx := C.1
  have hb := C.2.1
  have hts := C.2.2.2.2.2.2.1
  refine lv_iload_n hx hb dX5_value_0 rfl (lv_at hl 2 rfl) ?_
  obtain ⟨y1, ey1, hf⟩ := bd_inv hf
  refine zm_callS C (n := 1) (rest := []) (met_propertyIndex l ey1) (lw_S q1508 q1509 q107 q1510) rfl rfl (by decide +kernel) ⟨Nat.le_trans (by decide) hR.1, Nat.le_trans (by decide) hR.2⟩ rfl hl.1 rfl (Nat.le_of_ble_eq_true rfl) dX5_value_1 (Nat.zero_le _) (Nat.zero_le _) ?_
  refine lv_istore_n (lv' := [(3, .int (zI y1)), (0, .ref mo), (1, .int (zI x1)), (2, .int (zI x2))]) hx hb dX5_value_4 rfl hl (by decide) rfl (fun ls hl => ?_)
  refine lv_aload_n hx hb dX5_value_5 rfl (lv_at hl 1 rfl) ?_
  refine lv_iload_n hx hb dX5_value_6 rfl (lv_at hl 2 rfl) ?_
  obtain ⟨y2, ey2, hf⟩ := bd_inv hf
  refine zm_callV C hZ (n := 1) (rest := []) (met_none l D cI cZ mo ad ey2) (lw_V q1456 q1458 qs63 q107 q1459) rfl rfl (by decide +kernel) ⟨Nat.le_trans (by decide) hR.1, Nat.le_trans (by decide) hR.2⟩ rfl hl.1 rfl (Nat.le_of_ble_eq_true rfl) dX5_value_7 (fun H locs hZ => ?_)
  refine zl_if_ne (tgt := 32) hx hb dX5_value_10 (by decide) (fun hc => ?_) (fun hc => ?_)
  · rw [if_pos hc] at hf
    refine lv_iload_n hx hb dX5_value_13 rfl (lv_at hl 0 rfl) ?_
    refine zl_if_lt (tgt := 32) hx hb dX5_value_14 (by decide) (fun hc => ?_) (fun hc => ?_)
    · rw [if_pos hc] at hf
      refine zl_iconst hx hb dX5_value_32 ?_
      obtain rfl := Option.some.inj hf
      exact zm_iret C hZ hK dX5_value_33
    · rw [if_neg hc] at hf
      refine lv_aload_n hx hb dX5_value_17 rfl (lv_at hl 1 rfl) ?_
      refine zm_geta C hZ 8 (by decide) (by decide) q1149 dX5_value_18 ?_
      refine lv_aload_n hx hb dX5_value_21 rfl (lv_at hl 1 rfl) ?_
      refine zm_geta C hZ 6 (by decide) (by decide) q1147 dX5_value_22 ?_
      refine lv_iload_n hx hb dX5_value_25 rfl (lv_at hl 2 rfl) ?_
      obtain ⟨hg, hf⟩ := gd_inv hf
      refine zm_iald C hZ 6 (by decide) rfl rfl hg dX5_value_26 ?_
      obtain ⟨hg, hf⟩ := gd_inv hf
      refine zm_iald C hZ 8 (by decide) rfl rfl hg dX5_value_27 ?_
      refine zl_iconst hx hb dX5_value_28 ?_
      refine zl_icmp_ge (tgt := 34) hx hb dX5_value_29 (by decide) (fun hc => ?_) (fun hc => ?_)
      · rw [if_pos hc] at hf
        refine zl_iconst hx hb dX5_value_32 ?_
        obtain rfl := Option.some.inj hf
        exact zm_iret C hZ hK dX5_value_33
      · rw [if_neg hc] at hf
        refine lv_aload_n hx hb dX5_value_34 rfl (lv_at hl 1 rfl) ?_
        obtain ⟨y3, ey3, hf⟩ := bd_inv hf
        refine zm_callV C hZ (n := 0) (rest := []) (met_style l D cI cZ mo ad ey3) (lw_V q1511 q1513 qs70 q107 q1514) rfl rfl (by decide +kernel) ⟨Nat.le_trans (by decide) hR.1, Nat.le_trans (by decide) hR.2⟩ rfl hl.1 rfl (Nat.le_of_ble_eq_true rfl) dX5_value_35 (fun H locs hZ => ?_)
        refine lv_aload_n hx hb dX5_value_38 rfl (lv_at hl 1 rfl) ?_
        refine zm_geta C hZ 36 (by decide) (by decide) q1177 dX5_value_39 ?_
        refine zl_bipush hx hb dX5_value_42 (by decide) ?_
        refine lv_iload_n hx hb dX5_value_44 rfl (lv_at hl 0 rfl) ?_
        refine zl_imul hx hb dX5_value_45 ?_
        refine lv_iload_n hx hb dX5_value_46 rfl (lv_at hl 2 rfl) ?_
        refine zl_iadd hx hb dX5_value_47 ?_
        obtain ⟨hg, hf⟩ := gd_inv hf
        refine zm_iald C hZ 36 (by decide) rfl rfl hg dX5_value_48 ?_
        obtain rfl := Option.some.inj hf
        exact zm_iret C hZ hK dX5_value_49
  · rw [if_neg hc] at hf
    refine zl_iconst hx hb dX5_value_32 ?_
    obtain rfl := Option.some.inj hf
    exact zm_iret C hZ hK dX5_value_33

theorem met_value (l : Launch) (D : va_G) (cI cZ : ClassId) (mo : Nat) (ad : Nat → Nat) {M : MS} {x1 x2 : Int} {res : MS × Int} (hf : m_value M x1 x2 = some res) : Met l yX5_value (ws_ yX5_value cX5_value 4 (some .int)) ({ frames := 5, cells := 0, slots := 0, locals := 106 }) (PM D cI cZ mo ad M [.int (zI x1), .int (zI x2)]) (QM D cI cZ mo ad res.1 (some (.int (zI res.2)))) 0 0 (MA mo ad) := by
  refine Met.ofW (cc := cX5_value) (maxL := 4) (ret := (some .int)) (by decide) rfl ?_
  intro p e s m args below meth c s₁ B hml hv
  obtain ⟨rfl, hRM, hK0⟩ := hv
  have hts := atoms_spec (ws := ws_ yX5_value cX5_value 4 (some .int)) B.pre
  have hts : ∀ w ∈ lw_all, w.before _ s = true := fun w h => hts w (List.mem_cons_of_mem _ h)
  have C : MC p s m _ meth c D cI cZ cX5_value 4 (some .int) := ⟨B.exec, B.bytes, B.returns, B.notSynchronized, hml, findClass_of_methodNamed B.named, hts, hK0⟩
  have hZ : ZM D cI cZ mo ad s.heap M s.heap [] := ⟨hRM, rfl, fun _ _ => rfl, fun _ h => by cases h⟩
  have hl := lv_entry ([.ref mo, .int (zI x1), .int (zI x2)]) (n := 4) (Nat.le_of_ble_eq_true rfl)
  rw [lg_entry_eq]
  generalize (lg_sl ([.ref mo, .int (zI x1), .int (zI x2)]) ++ List.replicate (4 - (lg_sl ([.ref mo, .int (zI x1), .int (zI x2)])).length) Slot.unset).toArray = ls at hl ⊢
  have hl : lv_has ls 4 [(0, .ref mo), (1, .int (zI x1)), (2, .int (zI x2))] := hl
  exact w_value C ⟨Nat.le_refl _, Nat.le_refl _⟩ hf hZ hl rfl

theorem w_border {p : Program} {l : Launch} {e : Env} {R : Room} {s : State} {m : MethodId} {args : Array Value} {below : List Frame} {meth : Method} {c : Code} {Q : State → Prop} {D : va_G} {cI cZ : ClassId} {mo : Nat} {ad : Nat → Nat} {H : Heap} {locs : List Loc} {M : MS} (C : MC p s m args meth c D cI cZ cX5_border 3 (some .int)) (hR : 0 ≤ R.frames ∧ 0 ≤ R.locals) {x1 x2 : Int} {res : Int} (hf : m_border M x1 x2 = some res) (hZ : ZM D cI cZ mo ad s.heap M H locs) {ls : Array Slot} (hl : lv_has ls 3 [(0, .ref mo), (1, .int (zI x1)), (2, .int (zI x2))]) (hK : KM below D cI cZ mo ad args s Q M (some (.int (zI res)))) : W p l e R s m args below meth c H locs 0 0 Q (F0 m 0 ls []) := by
  unfold m_border at hf
  have hx := C.1
  have hb := C.2.1
  have hts := C.2.2.2.2.2.2.1
  refine lv_iload_n hx hb dX5_border_0 rfl (lv_at hl 1 rfl) ?_
  refine zl_if_ne (tgt := 8) hx hb dX5_border_1 (by decide) (fun hc => ?_) (fun hc => ?_)
  · rw [if_pos hc] at hf
    refine zl_iconst hx hb dX5_border_4 ?_
    refine lv_goto (tgt := 19) hx hb dX5_border_5 (by decide) ?_
    obtain rfl := Option.some.inj hf
    exact zm_iret C hZ hK dX5_border_19
  · rw [if_neg hc] at hf
    refine lv_aload_n hx hb dX5_border_8 rfl (lv_at hl 0 rfl) ?_
    refine zm_geta C hZ 36 (by decide) (by decide) q1177 dX5_border_9 ?_
    refine zl_bipush hx hb dX5_border_12 (by decide) ?_
    refine lv_iload_n hx hb dX5_border_14 rfl (lv_at hl 2 rfl) ?_
    refine zl_imul hx hb dX5_border_15 ?_
    refine lv_iload_n hx hb dX5_border_16 rfl (lv_at hl 1 rfl) ?_
    refine zl_iadd hx hb dX5_border_17 ?_
    obtain ⟨hg, hf⟩ := gd_inv hf
    refine zm_iald C hZ 36 (by decide) rfl rfl hg dX5_border_18 ?_
    obtain rfl := Option.some.inj hf
    exact zm_iret C hZ hK dX5_border_19

theorem met_border (l : Launch) (D : va_G) (cI cZ : ClassId) (mo : Nat) (ad : Nat → Nat) {M : MS} {x1 x2 : Int} {res : Int} (hf : m_border M x1 x2 = some res) : Met l yX5_border (ws_ yX5_border cX5_border 3 (some .int)) ({ frames := 0, cells := 0, slots := 0, locals := 0 }) (PM D cI cZ mo ad M [.int (zI x1), .int (zI x2)]) (QM D cI cZ mo ad M (some (.int (zI res)))) 0 0 (MA mo ad) := by
  refine Met.ofW (cc := cX5_border) (maxL := 3) (ret := (some .int)) (by decide) rfl ?_
  intro p e s m args below meth c s₁ B hml hv
  obtain ⟨rfl, hRM, hK0⟩ := hv
  have hts := atoms_spec (ws := ws_ yX5_border cX5_border 3 (some .int)) B.pre
  have hts : ∀ w ∈ lw_all, w.before _ s = true := fun w h => hts w (List.mem_cons_of_mem _ h)
  have C : MC p s m _ meth c D cI cZ cX5_border 3 (some .int) := ⟨B.exec, B.bytes, B.returns, B.notSynchronized, hml, findClass_of_methodNamed B.named, hts, hK0⟩
  have hZ : ZM D cI cZ mo ad s.heap M s.heap [] := ⟨hRM, rfl, fun _ _ => rfl, fun _ h => by cases h⟩
  have hl := lv_entry ([.ref mo, .int (zI x1), .int (zI x2)]) (n := 3) (Nat.le_of_ble_eq_true rfl)
  rw [lg_entry_eq]
  generalize (lg_sl ([.ref mo, .int (zI x1), .int (zI x2)]) ++ List.replicate (3 - (lg_sl ([.ref mo, .int (zI x1), .int (zI x2)])).length) Slot.unset).toArray = ls at hl ⊢
  have hl : lv_has ls 3 [(0, .ref mo), (1, .int (zI x1)), (2, .int (zI x2))] := hl
  exact w_border C ⟨Nat.le_refl _, Nat.le_refl _⟩ hf hZ hl rfl

theorem w_within_83 {p : Program} {l : Launch} {e : Env} {R : Room} {s : State} {m : MethodId} {args : Array Value} {below : List Frame} {meth : Method} {c : Code} {Q : State → Prop} {D : va_G} {cI cZ : ClassId} {mo : Nat} {ad : Nat → Nat} {H : Heap} {locs : List Loc} {M : MS} (C : MC p s m args meth c D cI cZ cX5_within 6 (some .boolean)) (hR : 0 ≤ R.frames ∧ 0 ≤ R.locals) {x2 x4 x5 t0 : Int} {res : (Int × Int × Int) ⊕ (Int)} (hf : m_within_83 M x2 x4 x5 t0 = some res) (hZ : ZM D cI cZ mo ad s.heap M H locs) {ls : Array Slot} (hl : lv_has ls 6 [(0, .ref mo), (2, .int (zI x2)), (4, .int (zI x4)), (5, .int (zI x5))]) (hK : (Sum.elim (fun z => ∀ (H : Heap) (locs : List Loc) (ls : Array Slot), ZM D cI cZ mo ad s.heap M H locs → lv_has ls 6 [(0, .ref mo), (2, .int (zI x2)), (3, .int (zI z.1)), (4, .int (zI z.2.1)), (5, .int (zI z.2.2))] → W p l e R s m args below meth c H locs 0 0 Q (F0 m 46 ls [])) (fun r => KM below D cI cZ mo ad args s Q M (some (.int (zI r))))) res) : W p l e R s m args below meth c H locs 0 0 Q (F0 m 83 ls [.int (zI t0)]) := by
  unfold m_within_83 at hf
  have hx := C.1
  have hb := C.2.1
  have hts := C.2.2.2.2.2.2.1
  refine lv_istore_n (lv' := [(3, .int (zI t0)), (0, .ref mo), (2, .int (zI x2)), (4, .int (zI x4)), (5, .int (zI x5))]) hx hb dX5_within_83 rfl hl (by decide) rfl (fun ls hl => ?_)
  refine lv_aload_n hx hb dX5_within_84 rfl (lv_at hl 1 rfl) ?_
  refine zm_geta C hZ 33 (by decide) (by decide) q1174 dX5_within_85 ?_
  refine lv_iload hx hb dX5_within_88 (lv_at hl 3 rfl) ?_
  obtain ⟨hg, hf⟩ := gd_inv hf
  refine zm_iald C hZ 33 (by decide) rfl rfl hg dX5_within_90 ?_
  obtain ⟨y2, ey2, hf⟩ := bnd_inv hf
  refine zl_top ey2 ?_
  refine lv_istore (lv' := [(4, .int (zI y2)), (3, .int (zI t0)), (0, .ref mo), (2, .int (zI x2)), (5, .int (zI x5))]) hx hb dX5_within_91 hl (by decide) rfl (fun ls hl => ?_)
  refine zl_iinc (x := x5) (n := 1) (lv' := [(5, .int (zI (x5 + 1))), (4, .int (zI y2)), (3, .int (zI t0)), (0, .ref mo), (2, .int (zI x2))]) (k := 4) hx hb dX5_within_93 hl rfl (by decide) rfl (fun ls hl => ?_)
  refine lv_goto (tgt := 46) hx hb dX5_within_96 (by decide) ?_
  obtain rfl := Option.some.inj hf
  exact hK _ _ _ hZ (lv_sub hl [3, 4, 2, 1, 0] rfl)

theorem w_within_82 {p : Program} {l : Launch} {e : Env} {R : Room} {s : State} {m : MethodId} {args : Array Value} {below : List Frame} {meth : Method} {c : Code} {Q : State → Prop} {D : va_G} {cI cZ : ClassId} {mo : Nat} {ad : Nat → Nat} {H : Heap} {locs : List Loc} {M : MS} (C : MC p s m args meth c D cI cZ cX5_within 6 (some .boolean)) (hR : 0 ≤ R.frames ∧ 0 ≤ R.locals) {x2 x4 x5 : Int} {res : (Int × Int × Int) ⊕ (Int)} (hf : m_within_82 M x2 x4 x5 = some res) (hZ : ZM D cI cZ mo ad s.heap M H locs) {ls : Array Slot} (hl : lv_has ls 6 [(0, .ref mo), (2, .int (zI x2)), (4, .int (zI x4)), (5, .int (zI x5))]) (hK : (Sum.elim (fun z => ∀ (H : Heap) (locs : List Loc) (ls : Array Slot), ZM D cI cZ mo ad s.heap M H locs → lv_has ls 6 [(0, .ref mo), (2, .int (zI x2)), (3, .int (zI z.1)), (4, .int (zI z.2.1)), (5, .int (zI z.2.2))] → W p l e R s m args below meth c H locs 0 0 Q (F0 m 46 ls [])) (fun r => KM below D cI cZ mo ad args s Q M (some (.int (zI r))))) res) : W p l e R s m args below meth c H locs 0 0 Q (F0 m 82 ls []) := by
  unfold m_within_82 at hf
  have hx := C.1
  have hb := C.2.1
  have hts := C.2.2.2.2.2.2.1
  refine zl_iconst hx hb dX5_within_82 ?_
  exact w_within_83 C hR hf hZ (lv_sub hl [0, 1, 2, 3] rfl) hK

theorem w_within_46s {p : Program} {l : Launch} {e : Env} {R : Room} {s : State} {m : MethodId} {args : Array Value} {below : List Frame} {meth : Method} {c : Code} {Q : State → Prop} {D : va_G} {cI cZ : ClassId} {mo : Nat} {ad : Nat → Nat} {H : Heap} {locs : List Loc} {M : MS} (C : MC p s m args meth c D cI cZ cX5_within 6 (some .boolean)) (hR : 0 ≤ R.frames ∧ 0 ≤ R.locals) {x2 x3 x4 x5 : Int} {res : (Int × Int × Int) ⊕ (Int)} (hf : m_within_46s M x2 x3 x4 x5 = some res) (hZ : ZM D cI cZ mo ad s.heap M H locs) {ls : Array Slot} (hl : lv_has ls 6 [(0, .ref mo), (2, .int (zI x2)), (3, .int (zI x3)), (4, .int (zI x4)), (5, .int (zI x5))]) (hK : (Sum.elim (fun z => ∀ (H : Heap) (locs : List Loc) (ls : Array Slot), ZM D cI cZ mo ad s.heap M H locs → lv_has ls 6 [(0, .ref mo), (2, .int (zI x2)), (3, .int (zI z.1)), (4, .int (zI z.2.1)), (5, .int (zI z.2.2))] → W p l e R s m args below meth c H locs 0 0 Q (F0 m 46 ls [])) (fun r => KM below D cI cZ mo ad args s Q M (some (.int (zI r))))) res) : W p l e R s m args below meth c H locs 0 0 Q (F0 m 46 ls []) := by
  unfold m_within_46s at hf
  have hx := C.1
  have hb := C.2.1
  have hts := C.2.2.2.2.2.2.1
  refine lv_iload hx hb dX5_within_46 (lv_at hl 4 rfl) ?_
  refine zl_bipush hx hb dX5_within_48 (by decide) ?_
  refine zl_icmp_ge (tgt := 99) hx hb dX5_within_50 (by decide) (fun hc => ?_) (fun hc => ?_)
  · rw [if_pos hc] at hf
    refine lv_iload hx hb dX5_within_53 (lv_at hl 3 rfl) ?_
    refine lv_iload_n hx hb dX5_within_55 rfl (lv_at hl 1 rfl) ?_
    refine zl_icmp_le (tgt := 99) hx hb dX5_within_56 (by decide) (fun hc => ?_) (fun hc => ?_)
    · rw [if_pos hc] at hf
      refine lv_iload_n hx hb dX5_within_59 rfl (lv_at hl 2 rfl) ?_
      refine zl_if_eq (tgt := 82) hx hb dX5_within_60 (by decide) (fun hc => ?_) (fun hc => ?_)
      · rw [if_pos hc] at hf
        exact w_within_82 C hR hf hZ (lv_sub hl [0, 1, 3, 4] rfl) hK
      · rw [if_neg hc] at hf
        refine lv_aload_n hx hb dX5_within_63 rfl (lv_at hl 0 rfl) ?_
        refine zm_geta C hZ 36 (by decide) (by decide) q1177 dX5_within_64 ?_
        refine zl_bipush hx hb dX5_within_67 (by decide) ?_
        refine lv_iload hx hb dX5_within_69 (lv_at hl 3 rfl) ?_
        refine zl_iadd hx hb dX5_within_71 ?_
        obtain ⟨hg, hf⟩ := gd_inv hf
        refine zm_iald C hZ 36 (by decide) rfl rfl hg dX5_within_72 ?_
        refine zl_bipush hx hb dX5_within_73 (by decide) ?_
        refine zl_icmp_ne (tgt := 82) hx hb dX5_within_75 (by decide) (fun hc => ?_) (fun hc => ?_)
        · rw [if_pos hc] at hf
          refine zl_iconst hx hb dX5_within_78 ?_
          refine lv_goto (tgt := 83) hx hb dX5_within_79 (by decide) ?_
          exact w_within_83 C hR hf hZ (lv_sub hl [0, 1, 3, 4] rfl) hK
        · rw [if_neg hc] at hf
          exact w_within_82 C hR hf hZ (lv_sub hl [0, 1, 3, 4] rfl) hK
    · rw [if_neg hc] at hf
      refine lv_iload_n hx hb dX5_within_99 rfl (lv_at hl 2 rfl) ?_
      obtain ⟨hg, hf⟩ := gd_inv hf
      obtain rfl := Option.some.inj hf
      exact zm_zret C hZ hg hK dX5_within_100
  · rw [if_neg hc] at hf
    refine lv_iload_n hx hb dX5_within_99 rfl (lv_at hl 2 rfl) ?_
    obtain ⟨hg, hf⟩ := gd_inv hf
    obtain rfl := Option.some.inj hf
    exact zm_zret C hZ hg hK dX5_within_100

theorem w_within_46 {p : Program} {l : Launch} {e : Env} {R : Room} {s : State} {m : MethodId} {args : Array Value} {below : List Frame} {meth : Method} {c : Code} {Q : State → Prop} {D : va_G} {cI cZ : ClassId} {mo : Nat} {ad : Nat → Nat} {H : Heap} {locs : List Loc} {M : MS} (C : MC p s m args meth c D cI cZ cX5_within 6 (some .boolean)) (hR : 0 ≤ R.frames ∧ 0 ≤ R.locals) {x2 x3 x4 x5 : Int} {res : Int} (hf : m_within_46 M x2 x3 x4 x5 = some res) (hZ : ZM D cI cZ mo ad s.heap M H locs) {ls : Array Slot} (hl : lv_has ls 6 [(0, .ref mo), (2, .int (zI x2)), (3, .int (zI x3)), (4, .int (zI x4)), (5, .int (zI x5))]) (hK : KM below D cI cZ mo ad args s Q M (some (.int (zI res)))) : W p l e R s m args below meth c H locs 0 0 Q (F0 m 46 ls []) := by
  unfold m_within_46 at hf
  refine iter_ind (P := fun z r => ∀ (H : Heap) (locs : List Loc) (ls : Array Slot), ZM D cI cZ mo ad s.heap M H locs → lv_has ls 6 [(0, .ref mo), (2, .int (zI x2)), (3, .int (zI z.1)), (4, .int (zI z.2.1)), (5, .int (zI z.2.2))] → KM below D cI cZ mo ad args s Q M (some (.int (zI r))) → W p l e R s m args below meth c H locs 0 0 Q (F0 m 46 ls [])) ?_ ?_ hf H locs ls hZ hl hK
  · intro z r h1 H locs ls hZ hl hK; exact w_within_46s C hR h1 hZ hl hK
  · intro z z1 r h1 ih H locs ls hZ hl hK; exact w_within_46s C hR h1 hZ hl (fun H locs ls hZ hl => ih H locs ls hZ hl hK)

theorem w_within_34 {p : Program} {l : Launch} {e : Env} {R : Room} {s : State} {m : MethodId} {args : Array Value} {below : List Frame} {meth : Method} {c : Code} {Q : State → Prop} {D : va_G} {cI cZ : ClassId} {mo : Nat} {ad : Nat → Nat} {H : Heap} {locs : List Loc} {M : MS} (C : MC p s m args meth c D cI cZ cX5_within 6 (some .boolean)) (hR : 0 ≤ R.frames ∧ 0 ≤ R.locals) {x1 x2 t0 : Int} {res : Int} (hf : m_within_34 M x1 x2 t0 = some res) (hZ : ZM D cI cZ mo ad s.heap M H locs) {ls : Array Slot} (hl : lv_has ls 6 [(0, .ref mo), (1, .int (zI x1)), (2, .int (zI x2))]) (hK : KM below D cI cZ mo ad args s Q M (some (.int (zI res)))) : W p l e R s m args below meth c H locs 0 0 Q (F0 m 34 ls [.int (zI t0)]) := by
  unfold m_within_34 at hf
  have hx := C.1
  have hb := C.2.1
  have hts := C.2.2.2.2.2.2.1
  refine lv_istore_n (lv' := [(3, .int (zI t0)), (0, .ref mo), (1, .int (zI x1)), (2, .int (zI x2))]) hx hb dX5_within_34 rfl hl (by decide) rfl (fun ls hl => ?_)
  refine lv_aload_n hx hb dX5_within_35 rfl (lv_at hl 1 rfl) ?_
  refine zm_geta C hZ 33 (by decide) (by decide) q1174 dX5_within_36 ?_
  refine lv_iload_n hx hb dX5_within_39 rfl (lv_at hl 2 rfl) ?_
  obtain ⟨hg, hf⟩ := gd_inv hf
  refine zm_iald C hZ 33 (by decide) rfl rfl hg dX5_within_40 ?_
  obtain ⟨y1, ey1, hf⟩ := bnd_inv hf
  refine zl_top ey1 ?_
  refine lv_istore (lv' := [(4, .int (zI y1)), (3, .int (zI t0)), (0, .ref mo), (1, .int (zI x1)), (2, .int (zI x2))]) hx hb dX5_within_41 hl (by decide) rfl (fun ls hl => ?_)
  refine zl_iconst hx hb dX5_within_43 ?_
  refine lv_istore (lv' := [(5, .int (zI 0)), (4, .int (zI y1)), (3, .int (zI t0)), (0, .ref mo), (1, .int (zI x1)), (2, .int (zI x2))]) hx hb dX5_within_44 hl (by decide) rfl (fun ls hl => ?_)
  exact w_within_46 C hR hf hZ (lv_sub hl [3, 5, 2, 1, 0] rfl) hK

theorem w_within_33 {p : Program} {l : Launch} {e : Env} {R : Room} {s : State} {m : MethodId} {args : Array Value} {below : List Frame} {meth : Method} {c : Code} {Q : State → Prop} {D : va_G} {cI cZ : ClassId} {mo : Nat} {ad : Nat → Nat} {H : Heap} {locs : List Loc} {M : MS} (C : MC p s m args meth c D cI cZ cX5_within 6 (some .boolean)) (hR : 0 ≤ R.frames ∧ 0 ≤ R.locals) {x1 x2 : Int} {res : Int} (hf : m_within_33 M x1 x2 = some res) (hZ : ZM D cI cZ mo ad s.heap M H locs) {ls : Array Slot} (hl : lv_has ls 6 [(0, .ref mo), (1, .int (zI x1)), (2, .int (zI x2))]) (hK : KM below D cI cZ mo ad args s Q M (some (.int (zI res)))) : W p l e R s m args below meth c H locs 0 0 Q (F0 m 33 ls []) := by
  unfold m_within_33 at hf
  have hx := C.1
  have hb := C.2.1
  have hts := C.2.2.2.2.2.2.1
  refine zl_iconst hx hb dX5_within_33 ?_
  exact w_within_34 C hR hf hZ (lv_sub hl [0, 1, 2] rfl) hK

theorem w_within {p : Program} {l : Launch} {e : Env} {R : Room} {s : State} {m : MethodId} {args : Array Value} {below : List Frame} {meth : Method} {c : Code} {Q : State → Prop} {D : va_G} {cI cZ : ClassId} {mo : Nat} {ad : Nat → Nat} {H : Heap} {locs : List Loc} {M : MS} (C : MC p s m args meth c D cI cZ cX5_within 6 (some .boolean)) (hR : 0 ≤ R.frames ∧ 0 ≤ R.locals) {x1 x2 : Int} {res : Int} (hf : m_within M x1 x2 = some res) (hZ : ZM D cI cZ mo ad s.heap M H locs) {ls : Array Slot} (hl : lv_has ls 6 [(0, .ref mo), (1, .int (zI x1)), (2, .int (zI x2))]) (hK : KM below D cI cZ mo ad args s Q M (some (.int (zI res)))) : W p l e R s m args below meth c H locs 0 0 Q (F0 m 0 ls []) := by
  unfold m_within at hf
  have hx := C.1
  have hb := C.2.1
  have hts := C.2.2.2.2.2.2.1
  refine lv_aload_n hx hb dX5_within_0 rfl (lv_at hl 0 rfl) ?_
  refine zm_geta C hZ 8 (by decide) (by decide) q1149 dX5_within_1 ?_
  refine lv_aload_n hx hb dX5_within_4 rfl (lv_at hl 0 rfl) ?_
  refine zm_geta C hZ 6 (by decide) (by decide) q1147 dX5_within_5 ?_
  refine lv_iload_n hx hb dX5_within_8 rfl (lv_at hl 1 rfl) ?_
  obtain ⟨hg, hf⟩ := gd_inv hf
  refine zm_iald C hZ 6 (by decide) rfl rfl hg dX5_within_9 ?_
  obtain ⟨hg, hf⟩ := gd_inv hf
  refine zm_iald C hZ 8 (by decide) rfl rfl hg dX5_within_10 ?_
  refine zl_iconst hx hb dX5_within_11 ?_
  refine zl_icmp_eq (tgt := 33) hx hb dX5_within_12 (by decide) (fun hc => ?_) (fun hc => ?_)
  · rw [if_pos hc] at hf
    exact w_within_33 C hR hf hZ (lv_sub hl [0, 1, 2] rfl) hK
  · rw [if_neg hc] at hf
    refine lv_aload_n hx hb dX5_within_15 rfl (lv_at hl 0 rfl) ?_
    refine zm_geta C hZ 36 (by decide) (by decide) q1177 dX5_within_16 ?_
    refine zl_bipush hx hb dX5_within_19 (by decide) ?_
    refine lv_iload_n hx hb dX5_within_21 rfl (lv_at hl 1 rfl) ?_
    refine zl_iadd hx hb dX5_within_22 ?_
    obtain ⟨hg, hf⟩ := gd_inv hf
    refine zm_iald C hZ 36 (by decide) rfl rfl hg dX5_within_23 ?_
    refine zl_bipush hx hb dX5_within_24 (by decide) ?_
    refine zl_icmp_ne (tgt := 33) hx hb dX5_within_26 (by decide) (fun hc => ?_) (fun hc => ?_)
    · rw [if_pos hc] at hf
      refine zl_iconst hx hb dX5_within_29 ?_
      refine lv_goto (tgt := 34) hx hb dX5_within_30 (by decide) ?_
      exact w_within_34 C hR hf hZ (lv_sub hl [0, 1, 2] rfl) hK
    · rw [if_neg hc] at hf
      exact w_within_33 C hR hf hZ (lv_sub hl [0, 1, 2] rfl) hK

theorem met_within (l : Launch) (D : va_G) (cI cZ : ClassId) (mo : Nat) (ad : Nat → Nat) {M : MS} {x1 x2 : Int} {res : Int} (hf : m_within M x1 x2 = some res) : Met l yX5_within (ws_ yX5_within cX5_within 6 (some .boolean)) ({ frames := 0, cells := 0, slots := 0, locals := 0 }) (PM D cI cZ mo ad M [.int (zI x1), .int (zI x2)]) (QM D cI cZ mo ad M (some (.int (zI res)))) 0 0 (MA mo ad) := by
  refine Met.ofW (cc := cX5_within) (maxL := 6) (ret := (some .boolean)) (by decide) rfl ?_
  intro p e s m args below meth c s₁ B hml hv
  obtain ⟨rfl, hRM, hK0⟩ := hv
  have hts := atoms_spec (ws := ws_ yX5_within cX5_within 6 (some .boolean)) B.pre
  have hts : ∀ w ∈ lw_all, w.before _ s = true := fun w h => hts w (List.mem_cons_of_mem _ h)
  have C : MC p s m _ meth c D cI cZ cX5_within 6 (some .boolean) := ⟨B.exec, B.bytes, B.returns, B.notSynchronized, hml, findClass_of_methodNamed B.named, hts, hK0⟩
  have hZ : ZM D cI cZ mo ad s.heap M s.heap [] := ⟨hRM, rfl, fun _ _ => rfl, fun _ h => by cases h⟩
  have hl := lv_entry ([.ref mo, .int (zI x1), .int (zI x2)]) (n := 6) (Nat.le_of_ble_eq_true rfl)
  rw [lg_entry_eq]
  generalize (lg_sl ([.ref mo, .int (zI x1), .int (zI x2)]) ++ List.replicate (6 - (lg_sl ([.ref mo, .int (zI x1), .int (zI x2)])).length) Slot.unset).toArray = ls at hl ⊢
  have hl : lv_has ls 6 [(0, .ref mo), (1, .int (zI x1)), (2, .int (zI x2))] := hl
  exact w_within C ⟨Nat.le_refl _, Nat.le_refl _⟩ hf hZ hl rfl

theorem w_widths_288 {p : Program} {l : Launch} {e : Env} {R : Room} {s : State} {m : MethodId} {args : Array Value} {below : List Frame} {meth : Method} {c : Code} {Q : State → Prop} {D : va_G} {cI cZ : ClassId} {mo : Nat} {ad : Nat → Nat} {H : Heap} {locs : List Loc} {M : MS} (C : MC p s m args meth c D cI cZ cX5_widths 10 none) (hR : 1 ≤ R.frames ∧ 25 ≤ R.locals) {x1 x4 x5 x6 x7 x8 x9 : Int} {res : (Int × Int × Int) ⊕ (MS)} (hf : m_widths_288 M x1 x4 x5 x6 x7 x8 x9 = some res) (hZ : ZM D cI cZ mo ad s.heap M H locs) {ls : Array Slot} (hl : lv_has ls 10 [(0, .ref mo), (1, .int (zI x1)), (4, .int (zI x4)), (5, .int (zI x5)), (6, .int (zI x6)), (7, .int (zI x7)), (8, .int (zI x8)), (9, .int (zI x9))]) (hK : (Sum.elim (fun z => ∀ (H : Heap) (locs : List Loc) (ls : Array Slot), ZM D cI cZ mo ad s.heap M H locs → lv_has ls 10 [(0, .ref mo), (1, .int (zI x1)), (4, .int (zI x4)), (5, .int (zI x5)), (6, .int (zI x6)), (7, .int (zI z.1)), (8, .int (zI z.2.1)), (9, .int (zI z.2.2))] → W p l e R s m args below meth c H locs 0 0 Q (F0 m 247 ls [])) (fun r => KM below D cI cZ mo ad args s Q r none)) res) : W p l e R s m args below meth c H locs 0 0 Q (F0 m 288 ls []) := by
  unfold m_widths_288 at hf
  have hx := C.1
  have hb := C.2.1
  have hts := C.2.2.2.2.2.2.1
  refine zl_iinc (x := x9) (n := 1) (lv' := [(9, .int (zI (x9 + 1))), (0, .ref mo), (1, .int (zI x1)), (4, .int (zI x4)), (5, .int (zI x5)), (6, .int (zI x6)), (7, .int (zI x7)), (8, .int (zI x8))]) (k := 7) hx hb dX5_widths_288 hl rfl (by decide) rfl (fun ls hl => ?_)
  refine lv_goto (tgt := 247) hx hb dX5_widths_291 (by decide) ?_
  obtain rfl := Option.some.inj hf
  exact hK _ _ _ hZ (lv_sub hl [1, 2, 3, 4, 5, 6, 7, 0] rfl)

theorem w_widths_285 {p : Program} {l : Launch} {e : Env} {R : Room} {s : State} {m : MethodId} {args : Array Value} {below : List Frame} {meth : Method} {c : Code} {Q : State → Prop} {D : va_G} {cI cZ : ClassId} {mo : Nat} {ad : Nat → Nat} {H : Heap} {locs : List Loc} {M : MS} (C : MC p s m args meth c D cI cZ cX5_widths 10 none) (hR : 1 ≤ R.frames ∧ 25 ≤ R.locals) {x1 x4 x5 x6 x7 x9 t0 t1 : Int} {res : (Int × Int × Int) ⊕ (MS)} (hf : m_widths_285 M x1 x4 x5 x6 x7 x9 t0 t1 = some res) (hZ : ZM D cI cZ mo ad s.heap M H locs) {ls : Array Slot} (hl : lv_has ls 10 [(0, .ref mo), (1, .int (zI x1)), (4, .int (zI x4)), (5, .int (zI x5)), (6, .int (zI x6)), (7, .int (zI x7)), (9, .int (zI x9))]) (hK : (Sum.elim (fun z => ∀ (H : Heap) (locs : List Loc) (ls : Array Slot), ZM D cI cZ mo ad s.heap M H locs → lv_has ls 10 [(0, .ref mo), (1, .int (zI x1)), (4, .int (zI x4)), (5, .int (zI x5)), (6, .int (zI x6)), (7, .int (zI z.1)), (8, .int (zI z.2.1)), (9, .int (zI z.2.2))] → W p l e R s m args below meth c H locs 0 0 Q (F0 m 247 ls [])) (fun r => KM below D cI cZ mo ad args s Q r none)) res) : W p l e R s m args below meth c H locs 0 0 Q (F0 m 285 ls [.int (zI t0), .int (zI t1)]) := by
  unfold m_widths_285 at hf
  have hx := C.1
  have hb := C.2.1
  have hts := C.2.2.2.2.2.2.1
  refine zl_iadd hx hb dX5_widths_285 ?_
  obtain ⟨y13, ey13, hf⟩ := bnd_inv hf
  refine zl_top ey13 ?_
  refine lv_istore (lv' := [(8, .int (zI y13)), (0, .ref mo), (1, .int (zI x1)), (4, .int (zI x4)), (5, .int (zI x5)), (6, .int (zI x6)), (7, .int (zI x7)), (9, .int (zI x9))]) hx hb dX5_widths_286 hl (by decide) rfl (fun ls hl => ?_)
  exact w_widths_288 C hR hf hZ (lv_sub hl [1, 2, 3, 4, 5, 6, 0, 7] rfl) hK

theorem w_widths_395 {p : Program} {l : Launch} {e : Env} {R : Room} {s : State} {m : MethodId} {args : Array Value} {below : List Frame} {meth : Method} {c : Code} {Q : State → Prop} {D : va_G} {cI cZ : ClassId} {mo : Nat} {ad : Nat → Nat} {H : Heap} {locs : List Loc} {M : MS} (C : MC p s m args meth c D cI cZ cX5_widths 10 none) (hR : 1 ≤ R.frames ∧ 25 ≤ R.locals) {t0 t1 : Int} {res : MS} (hf : m_widths_395 M t0 t1 = some res) (hZ : ZM D cI cZ mo ad s.heap M H locs) {ls : Array Slot} (hl : lv_has ls 10 []) (hK : KM below D cI cZ mo ad args s Q res none) : W p l e R s m args below meth c H locs 0 0 Q (F0 m 395 ls [.int (zI t0), .int (zI t1), .ref (ad 44)]) := by
  unfold m_widths_395 at hf
  have hx := C.1
  have hb := C.2.1
  have hts := C.2.2.2.2.2.2.1
  obtain ⟨hg, hf⟩ := gd_inv hf
  obtain ⟨M19, eM19, hf⟩ := bnd_inv hf
  refine zm_iast C hZ 44 (by decide) rfl rfl hg dX5_widths_395 (fun H locs hZ => ?_)
  rw [← eM19] at hZ
  obtain rfl := Option.some.inj hf
  exact zm_vret C hZ hK dX5_widths_396

theorem w_widths_311 {p : Program} {l : Launch} {e : Env} {R : Room} {s : State} {m : MethodId} {args : Array Value} {below : List Frame} {meth : Method} {c : Code} {Q : State → Prop} {D : va_G} {cI cZ : ClassId} {mo : Nat} {ad : Nat → Nat} {H : Heap} {locs : List Loc} {M : MS} (C : MC p s m args meth c D cI cZ cX5_widths 10 none) (hR : 1 ≤ R.frames ∧ 25 ≤ R.locals) {x1 x5 x6 : Int} {res : MS} (hf : m_widths_311 M x1 x5 x6 = some res) (hZ : ZM D cI cZ mo ad s.heap M H locs) {ls : Array Slot} (hl : lv_has ls 10 [(0, .ref mo), (1, .int (zI x1)), (5, .int (zI x5)), (6, .int (zI x6))]) (hK : KM below D cI cZ mo ad args s Q res none) : W p l e R s m args below meth c H locs 0 0 Q (F0 m 311 ls []) := by
  unfold m_widths_311 at hf
  have hx := C.1
  have hb := C.2.1
  have hts := C.2.2.2.2.2.2.1
  refine lv_aload_n hx hb dX5_widths_311 rfl (lv_at hl 0 rfl) ?_
  refine zm_geta C hZ 36 (by decide) (by decide) q1177 dX5_widths_312 ?_
  refine zl_sipush hx hb dX5_widths_315 (by decide) ?_
  refine lv_iload_n hx hb dX5_widths_318 rfl (lv_at hl 1 rfl) ?_
  refine zl_iadd hx hb dX5_widths_319 ?_
  obtain ⟨hg, hf⟩ := gd_inv hf
  refine zm_iald C hZ 36 (by decide) rfl rfl hg dX5_widths_320 ?_
  obtain ⟨y15, ey15, hf⟩ := bnd_inv hf
  refine zl_top ey15 ?_
  refine lv_istore (lv' := [(7, .int (zI y15)), (0, .ref mo), (1, .int (zI x1)), (5, .int (zI x5)), (6, .int (zI x6))]) hx hb dX5_widths_321 hl (by decide) rfl (fun ls hl => ?_)
  refine lv_aload_n hx hb dX5_widths_323 rfl (lv_at hl 1 rfl) ?_
  refine zm_geta C hZ 36 (by decide) (by decide) q1177 dX5_widths_324 ?_
  refine zl_sipush hx hb dX5_widths_327 (by decide) ?_
  refine lv_iload_n hx hb dX5_widths_330 rfl (lv_at hl 2 rfl) ?_
  refine zl_iadd hx hb dX5_widths_331 ?_
  obtain ⟨hg, hf⟩ := gd_inv hf
  refine zm_iald C hZ 36 (by decide) rfl rfl hg dX5_widths_332 ?_
  obtain ⟨y16, ey16, hf⟩ := bnd_inv hf
  refine zl_top ey16 ?_
  refine lv_istore (lv' := [(8, .int (zI y16)), (7, .int (zI y15)), (0, .ref mo), (1, .int (zI x1)), (5, .int (zI x5)), (6, .int (zI x6))]) hx hb dX5_widths_333 hl (by decide) rfl (fun ls hl => ?_)
  refine lv_iload hx hb dX5_widths_335 (lv_at hl 5 rfl) ?_
  refine zl_iconst hx hb dX5_widths_337 ?_
  refine lv_iload hx hb dX5_widths_338 (lv_at hl 1 rfl) ?_
  refine zl_imul hx hb dX5_widths_340 ?_
  refine zl_isub hx hb dX5_widths_341 ?_
  refine zl_iconst hx hb dX5_widths_342 ?_
  refine lv_aload_n hx hb dX5_widths_343 rfl (lv_at hl 2 rfl) ?_
  refine zm_geta C hZ 36 (by decide) (by decide) q1177 dX5_widths_344 ?_
  refine zl_sipush hx hb dX5_widths_347 (by decide) ?_
  refine lv_iload_n hx hb dX5_widths_350 rfl (lv_at hl 3 rfl) ?_
  refine zl_iadd hx hb dX5_widths_351 ?_
  obtain ⟨hg, hf⟩ := gd_inv hf
  refine zm_iald C hZ 36 (by decide) rfl rfl hg dX5_widths_352 ?_
  refine zl_imul hx hb dX5_widths_353 ?_
  refine zl_isub hx hb dX5_widths_354 ?_
  obtain ⟨y17, ey17, hf⟩ := bnd_inv hf
  refine zl_top ey17 ?_
  refine lv_istore (lv' := [(9, .int (zI y17)), (8, .int (zI y16)), (7, .int (zI y15)), (0, .ref mo), (1, .int (zI x1)), (5, .int (zI x5)), (6, .int (zI x6))]) hx hb dX5_widths_355 hl (by decide) rfl (fun ls hl => ?_)
  refine lv_aload_n hx hb dX5_widths_357 rfl (lv_at hl 3 rfl) ?_
  refine zm_geta C hZ 43 (by decide) (by decide) q1184 dX5_widths_358 ?_
  refine lv_iload_n hx hb dX5_widths_361 rfl (lv_at hl 4 rfl) ?_
  refine lv_iload hx hb dX5_widths_362 (lv_at hl 5 rfl) ?_
  refine lv_iload hx hb dX5_widths_364 (lv_at hl 2 rfl) ?_
  refine zl_iadd hx hb dX5_widths_366 ?_
  obtain ⟨hg, hf⟩ := gd_inv hf
  obtain ⟨M18, eM18, hf⟩ := bnd_inv hf
  refine zm_iast C hZ 43 (by decide) rfl rfl hg dX5_widths_367 (fun H locs hZ => ?_)
  rw [← eM18] at hZ
  refine lv_aload_n hx hb dX5_widths_368 rfl (lv_at hl 3 rfl) ?_
  refine zm_geta C hZ 44 (by decide) (by decide) q1185 dX5_widths_369 ?_
  refine lv_iload_n hx hb dX5_widths_372 rfl (lv_at hl 4 rfl) ?_
  refine lv_iload hx hb dX5_widths_373 (lv_at hl 1 rfl) ?_
  refine zl_iconst hx hb dX5_widths_375 ?_
  refine zl_icmp_eq (tgt := 384) hx hb dX5_widths_376 (by decide) (fun hc => ?_) (fun hc => ?_)
  · rw [if_pos hc] at hf
    refine lv_iload hx hb dX5_widths_384 (lv_at hl 0 rfl) ?_
    refine zl_if_ge (tgt := 393) hx hb dX5_widths_386 (by decide) (fun hc => ?_) (fun hc => ?_)
    · rw [if_pos hc] at hf
      refine zl_iconst hx hb dX5_widths_389 ?_
      refine lv_goto (tgt := 395) hx hb dX5_widths_390 (by decide) ?_
      exact w_widths_395 C hR hf hZ (lv_sub hl [] rfl) hK
    · rw [if_neg hc] at hf
      refine lv_iload hx hb dX5_widths_393 (lv_at hl 0 rfl) ?_
      exact w_widths_395 C hR hf hZ (lv_sub hl [] rfl) hK
  · rw [if_neg hc] at hf
    refine lv_iload hx hb dX5_widths_379 (lv_at hl 1 rfl) ?_
    refine lv_goto (tgt := 395) hx hb dX5_widths_381 (by decide) ?_
    exact w_widths_395 C hR hf hZ (lv_sub hl [] rfl) hK

theorem w_widths_294 {p : Program} {l : Launch} {e : Env} {R : Room} {s : State} {m : MethodId} {args : Array Value} {below : List Frame} {meth : Method} {c : Code} {Q : State → Prop} {D : va_G} {cI cZ : ClassId} {mo : Nat} {ad : Nat → Nat} {H : Heap} {locs : List Loc} {M : MS} (C : MC p s m args meth c D cI cZ cX5_widths 10 none) (hR : 1 ≤ R.frames ∧ 25 ≤ R.locals) {x1 x5 x6 x7 x8 : Int} {res : MS} (hf : m_widths_294 M x1 x5 x6 x7 x8 = some res) (hZ : ZM D cI cZ mo ad s.heap M H locs) {ls : Array Slot} (hl : lv_has ls 10 [(0, .ref mo), (1, .int (zI x1)), (5, .int (zI x5)), (6, .int (zI x6)), (7, .int (zI x7)), (8, .int (zI x8))]) (hK : KM below D cI cZ mo ad args s Q res none) : W p l e R s m args below meth c H locs 0 0 Q (F0 m 294 ls []) := by
  unfold m_widths_294 at hf
  have hx := C.1
  have hb := C.2.1
  have hts := C.2.2.2.2.2.2.1
  refine lv_iload hx hb dX5_widths_294 (lv_at hl 3 rfl) ?_
  refine lv_iload hx hb dX5_widths_296 (lv_at hl 4 rfl) ?_
  obtain ⟨hg, hf⟩ := gd_inv hf
  refine zl_idiv hx hb hg dX5_widths_298 ?_
  obtain ⟨y13, ey13, hf⟩ := bnd_inv hf
  refine zl_top ey13 ?_
  refine lv_istore (lv' := [(6, .int (zI y13)), (0, .ref mo), (1, .int (zI x1)), (5, .int (zI x5)), (7, .int (zI x7)), (8, .int (zI x8))]) hx hb dX5_widths_299 hl (by decide) rfl (fun ls hl => ?_)
  refine lv_iload hx hb dX5_widths_301 (lv_at hl 3 rfl) ?_
  refine lv_iload hx hb dX5_widths_303 (lv_at hl 5 rfl) ?_
  refine lv_iload hx hb dX5_widths_305 (lv_at hl 0 rfl) ?_
  refine zl_imul hx hb dX5_widths_307 ?_
  refine zl_iadd hx hb dX5_widths_308 ?_
  obtain ⟨y14, ey14, hf⟩ := bnd_inv hf
  refine zl_top ey14 ?_
  refine lv_istore (lv' := [(5, .int (zI y14)), (6, .int (zI y13)), (0, .ref mo), (1, .int (zI x1)), (7, .int (zI x7)), (8, .int (zI x8))]) hx hb dX5_widths_309 hl (by decide) rfl (fun ls hl => ?_)
  exact w_widths_311 C hR hf hZ (lv_sub hl [2, 3, 0, 1] rfl) hK

theorem w_widths_247s {p : Program} {l : Launch} {e : Env} {R : Room} {s : State} {m : MethodId} {args : Array Value} {below : List Frame} {meth : Method} {c : Code} {Q : State → Prop} {D : va_G} {cI cZ : ClassId} {mo : Nat} {ad : Nat → Nat} {H : Heap} {locs : List Loc} {M : MS} (C : MC p s m args meth c D cI cZ cX5_widths 10 none) (hR : 1 ≤ R.frames ∧ 25 ≤ R.locals) {x1 x4 x5 x6 x7 x8 x9 : Int} {res : (Int × Int × Int) ⊕ (MS)} (hf : m_widths_247s M x1 x4 x5 x6 x7 x8 x9 = some res) (hZ : ZM D cI cZ mo ad s.heap M H locs) {ls : Array Slot} (hl : lv_has ls 10 [(0, .ref mo), (1, .int (zI x1)), (4, .int (zI x4)), (5, .int (zI x5)), (6, .int (zI x6)), (7, .int (zI x7)), (8, .int (zI x8)), (9, .int (zI x9))]) (hK : (Sum.elim (fun z => ∀ (H : Heap) (locs : List Loc) (ls : Array Slot), ZM D cI cZ mo ad s.heap M H locs → lv_has ls 10 [(0, .ref mo), (1, .int (zI x1)), (4, .int (zI x4)), (5, .int (zI x5)), (6, .int (zI x6)), (7, .int (zI z.1)), (8, .int (zI z.2.1)), (9, .int (zI z.2.2))] → W p l e R s m args below meth c H locs 0 0 Q (F0 m 247 ls [])) (fun r => KM below D cI cZ mo ad args s Q r none)) res) : W p l e R s m args below meth c H locs 0 0 Q (F0 m 247 ls []) := by
  unfold m_widths_247s at hf
  have hx := C.1
  have hb := C.2.1
  have hts := C.2.2.2.2.2.2.1
  refine lv_iload hx hb dX5_widths_247 (lv_at hl 7 rfl) ?_
  refine lv_aload_n hx hb dX5_widths_249 rfl (lv_at hl 0 rfl) ?_
  refine lv_iload hx hb dX5_widths_250 (lv_at hl 2 rfl) ?_
  obtain ⟨y11, ey11, hf⟩ := bd_inv hf
  refine zm_callV C hZ (n := 1) (rest := [.int (zI x9)]) (met_behind l D cI cZ mo ad ey11) (lw_V q1380 q1382 qs49 q107 q1383) rfl rfl (by decide +kernel) ⟨Nat.le_trans (by decide) hR.1, Nat.le_trans (by decide) hR.2⟩ rfl hl.1 rfl (Nat.le_of_ble_eq_true rfl) dX5_widths_252 (fun H locs hZ => ?_)
  refine zl_icmp_ge (tgt := 294) hx hb dX5_widths_255 (by decide) (fun hc => ?_) (fun hc => ?_)
  · rw [if_pos hc] at hf
    refine lv_aload_n hx hb dX5_widths_258 rfl (lv_at hl 0 rfl) ?_
    refine lv_iload hx hb dX5_widths_259 (lv_at hl 7 rfl) ?_
    refine lv_iload hx hb dX5_widths_261 (lv_at hl 2 rfl) ?_
    obtain ⟨y12, ey12, hf⟩ := bd_inv hf
    refine zm_callV C hZ (n := 2) (rest := []) (met_within l D cI cZ mo ad ey12) (lw_V q1548 q1550 qs77 q107 q1551) rfl rfl (by decide +kernel) ⟨Nat.le_trans (by decide) hR.1, Nat.le_trans (by decide) hR.2⟩ rfl hl.1 rfl (Nat.le_of_ble_eq_true rfl) dX5_widths_263 (fun H locs hZ => ?_)
    refine zl_if_eq (tgt := 288) hx hb dX5_widths_266 (by decide) (fun hc => ?_) (fun hc => ?_)
    · rw [if_pos hc] at hf
      exact w_widths_288 C hR hf hZ (lv_sub hl [0, 1, 2, 3, 4, 5, 6, 7] rfl) hK
    · rw [if_neg hc] at hf
      refine zl_iinc (x := x7) (n := 1) (lv' := [(7, .int (zI (x7 + 1))), (0, .ref mo), (1, .int (zI x1)), (4, .int (zI x4)), (5, .int (zI x5)), (6, .int (zI x6)), (8, .int (zI x8)), (9, .int (zI x9))]) (k := 5) hx hb dX5_widths_269 hl rfl (by decide) rfl (fun ls hl => ?_)
      refine lv_iload hx hb dX5_widths_272 (lv_at hl 6 rfl) ?_
      refine lv_iload hx hb dX5_widths_274 (lv_at hl 7 rfl) ?_
      refine lv_iload_n hx hb dX5_widths_276 rfl (lv_at hl 2 rfl) ?_
      refine zl_icmp_ge (tgt := 284) hx hb dX5_widths_277 (by decide) (fun hc => ?_) (fun hc => ?_)
      · rw [if_pos hc] at hf
        refine zl_iconst hx hb dX5_widths_280 ?_
        refine lv_goto (tgt := 285) hx hb dX5_widths_281 (by decide) ?_
        exact w_widths_285 C hR hf hZ (lv_sub hl [1, 2, 3, 4, 5, 0, 7] rfl) hK
      · rw [if_neg hc] at hf
        refine zl_iconst hx hb dX5_widths_284 ?_
        exact w_widths_285 C hR hf hZ (lv_sub hl [1, 2, 3, 4, 5, 0, 7] rfl) hK
  · rw [if_neg hc] at hf
    obtain ⟨r0, hm0, rfl⟩ := mr_inv hf
    exact w_widths_294 C hR hm0 hZ (lv_sub hl [0, 1, 3, 4, 5, 6] rfl) hK

theorem w_widths_247 {p : Program} {l : Launch} {e : Env} {R : Room} {s : State} {m : MethodId} {args : Array Value} {below : List Frame} {meth : Method} {c : Code} {Q : State → Prop} {D : va_G} {cI cZ : ClassId} {mo : Nat} {ad : Nat → Nat} {H : Heap} {locs : List Loc} {M : MS} (C : MC p s m args meth c D cI cZ cX5_widths 10 none) (hR : 1 ≤ R.frames ∧ 25 ≤ R.locals) {x1 x4 x5 x6 x7 x8 x9 : Int} {res : MS} (hf : m_widths_247 M x1 x4 x5 x6 x7 x8 x9 = some res) (hZ : ZM D cI cZ mo ad s.heap M H locs) {ls : Array Slot} (hl : lv_has ls 10 [(0, .ref mo), (1, .int (zI x1)), (4, .int (zI x4)), (5, .int (zI x5)), (6, .int (zI x6)), (7, .int (zI x7)), (8, .int (zI x8)), (9, .int (zI x9))]) (hK : KM below D cI cZ mo ad args s Q res none) : W p l e R s m args below meth c H locs 0 0 Q (F0 m 247 ls []) := by
  unfold m_widths_247 at hf
  refine iter_ind (P := fun z r => ∀ (H : Heap) (locs : List Loc) (ls : Array Slot), ZM D cI cZ mo ad s.heap M H locs → lv_has ls 10 [(0, .ref mo), (1, .int (zI x1)), (4, .int (zI x4)), (5, .int (zI x5)), (6, .int (zI x6)), (7, .int (zI z.1)), (8, .int (zI z.2.1)), (9, .int (zI z.2.2))] → KM below D cI cZ mo ad args s Q r none → W p l e R s m args below meth c H locs 0 0 Q (F0 m 247 ls [])) ?_ ?_ hf H locs ls hZ hl hK
  · intro z r h1 H locs ls hZ hl hK; exact w_widths_247s C hR h1 hZ hl hK
  · intro z z1 r h1 ih H locs ls hZ hl hK; exact w_widths_247s C hR h1 hZ hl (fun H locs ls hZ hl => ih H locs ls hZ hl hK)

theorem w_widths_153 {p : Program} {l : Launch} {e : Env} {R : Room} {s : State} {m : MethodId} {args : Array Value} {below : List Frame} {meth : Method} {c : Code} {Q : State → Prop} {D : va_G} {cI cZ : ClassId} {mo : Nat} {ad : Nat → Nat} {H : Heap} {locs : List Loc} {M : MS} (C : MC p s m args meth c D cI cZ cX5_widths 10 none) (hR : 1 ≤ R.frames ∧ 25 ≤ R.locals) {x1 x2 t0 t1 : Int} {res : MS} (hf : m_widths_153 M x1 x2 t0 t1 = some res) (hZ : ZM D cI cZ mo ad s.heap M H locs) {ls : Array Slot} (hl : lv_has ls 10 [(0, .ref mo), (1, .int (zI x1)), (2, .int (zI x2))]) (hK : KM below D cI cZ mo ad args s Q res none) : W p l e R s m args below meth c H locs 0 0 Q (F0 m 153 ls [.int (zI t0), .int (zI t1), .ref (ad 42)]) := by
  unfold m_widths_153 at hf
  have hx := C.1
  have hb := C.2.1
  have hts := C.2.2.2.2.2.2.1
  obtain ⟨hg, hf⟩ := gd_inv hf
  obtain ⟨M3, eM3, hf⟩ := bnd_inv hf
  refine zm_iast C hZ 42 (by decide) rfl rfl hg dX5_widths_153 (fun H locs hZ => ?_)
  rw [← eM3] at hZ
  refine lv_iload_n hx hb dX5_widths_154 rfl (lv_at hl 1 rfl) ?_
  refine zl_if_ne (tgt := 175) hx hb dX5_widths_155 (by decide) (fun hc => ?_) (fun hc => ?_)
  · rw [if_pos hc] at hf
    refine lv_aload_n hx hb dX5_widths_158 rfl (lv_at hl 0 rfl) ?_
    refine zm_geta C hZ 43 (by decide) (by decide) q1184 dX5_widths_159 ?_
    refine zl_iconst hx hb dX5_widths_162 ?_
    refine zl_iconst hx hb dX5_widths_163 ?_
    obtain ⟨hg, hf⟩ := gd_inv hf
    obtain ⟨M4, eM4, hf⟩ := bnd_inv hf
    refine zm_iast C hZ 43 (by decide) rfl rfl hg dX5_widths_164 (fun H locs hZ => ?_)
    rw [← eM4] at hZ
    refine lv_aload_n hx hb dX5_widths_165 rfl (lv_at hl 0 rfl) ?_
    refine zm_geta C hZ 44 (by decide) (by decide) q1185 dX5_widths_166 ?_
    refine zl_iconst hx hb dX5_widths_169 ?_
    refine lv_iload_n hx hb dX5_widths_170 rfl (lv_at hl 2 rfl) ?_
    obtain ⟨hg, hf⟩ := gd_inv hf
    obtain ⟨M5, eM5, hf⟩ := bnd_inv hf
    refine zm_iast C hZ 44 (by decide) rfl rfl hg dX5_widths_171 (fun H locs hZ => ?_)
    rw [← eM5] at hZ
    refine lv_goto (tgt := 396) hx hb dX5_widths_172 (by decide) ?_
    obtain rfl := Option.some.inj hf
    exact zm_vret C hZ hK dX5_widths_396
  · rw [if_neg hc] at hf
    refine lv_aload_n hx hb dX5_widths_175 rfl (lv_at hl 0 rfl) ?_
    refine zm_geta C hZ 41 (by decide) (by decide) q1182 dX5_widths_176 ?_
    refine lv_iload_n hx hb dX5_widths_179 rfl (lv_at hl 1 rfl) ?_
    obtain ⟨hg, hf⟩ := gd_inv hf
    refine zm_zald C hZ 41 (by decide) rfl rfl hg dX5_widths_180 ?_
    refine zl_if_eq (tgt := 396) hx hb dX5_widths_181 (by decide) (fun hc => ?_) (fun hc => ?_)
    · rw [if_pos hc] at hf
      obtain rfl := Option.some.inj hf
      exact zm_vret C hZ hK dX5_widths_396
    · rw [if_neg hc] at hf
      refine lv_aload_n hx hb dX5_widths_184 rfl (lv_at hl 0 rfl) ?_
      refine zm_geta C hZ 42 (by decide) (by decide) q1183 dX5_widths_185 ?_
      refine lv_iload_n hx hb dX5_widths_188 rfl (lv_at hl 1 rfl) ?_
      obtain ⟨hg, hf⟩ := gd_inv hf
      refine zm_iald C hZ 42 (by decide) rfl rfl hg dX5_widths_189 ?_
      obtain ⟨y6, ey6, hf⟩ := bnd_inv hf
      refine zl_top ey6 ?_
      refine lv_istore (lv' := [(4, .int (zI y6)), (0, .ref mo), (1, .int (zI x1)), (2, .int (zI x2))]) hx hb dX5_widths_190 hl (by decide) rfl (fun ls hl => ?_)
      refine lv_aload_n hx hb dX5_widths_192 rfl (lv_at hl 1 rfl) ?_
      refine zm_geta C hZ 43 (by decide) (by decide) q1184 dX5_widths_193 ?_
      refine lv_iload hx hb dX5_widths_196 (lv_at hl 0 rfl) ?_
      obtain ⟨hg, hf⟩ := gd_inv hf
      refine zm_iald C hZ 43 (by decide) rfl rfl hg dX5_widths_198 ?_
      refine lv_aload_n hx hb dX5_widths_199 rfl (lv_at hl 1 rfl) ?_
      refine lv_iload hx hb dX5_widths_200 (lv_at hl 0 rfl) ?_
      refine zl_iconst hx hb dX5_widths_202 ?_
      obtain ⟨y7, ey7, hf⟩ := bd_inv hf
      refine zm_callV C hZ (n := 2) (rest := [.int (zI (M3.2 43 (zix y6)))]) (met_border l D cI cZ mo ad ey7) (lw_V q1544 q1546 qs76 q107 q1547) rfl rfl (by decide +kernel) ⟨Nat.le_trans (by decide) hR.1, Nat.le_trans (by decide) hR.2⟩ rfl hl.1 rfl (Nat.le_of_ble_eq_true rfl) dX5_widths_203 (fun H locs hZ => ?_)
      refine zl_iadd hx hb dX5_widths_206 ?_
      obtain ⟨y8, ey8, hf⟩ := bnd_inv hf
      refine zl_top ey8 ?_
      refine lv_istore (lv' := [(5, .int (zI y8)), (4, .int (zI y6)), (0, .ref mo), (1, .int (zI x1)), (2, .int (zI x2))]) hx hb dX5_widths_207 hl (by decide) rfl (fun ls hl => ?_)
      refine lv_aload_n hx hb dX5_widths_209 rfl (lv_at hl 2 rfl) ?_
      refine zm_geta C hZ 44 (by decide) (by decide) q1185 dX5_widths_210 ?_
      refine lv_iload hx hb dX5_widths_213 (lv_at hl 1 rfl) ?_
      obtain ⟨hg, hf⟩ := gd_inv hf
      refine zm_iald C hZ 44 (by decide) rfl rfl hg dX5_widths_215 ?_
      obtain ⟨y9, ey9, hf⟩ := bnd_inv hf
      refine zl_top ey9 ?_
      refine lv_istore (lv' := [(6, .int (zI y9)), (5, .int (zI y8)), (4, .int (zI y6)), (0, .ref mo), (1, .int (zI x1)), (2, .int (zI x2))]) hx hb dX5_widths_216 hl (by decide) rfl (fun ls hl => ?_)
      refine lv_aload_n hx hb dX5_widths_218 rfl (lv_at hl 3 rfl) ?_
      refine zm_geta C hZ 8 (by decide) (by decide) q1149 dX5_widths_219 ?_
      refine lv_aload_n hx hb dX5_widths_222 rfl (lv_at hl 3 rfl) ?_
      refine zm_geta C hZ 6 (by decide) (by decide) q1147 dX5_widths_223 ?_
      refine lv_iload hx hb dX5_widths_226 (lv_at hl 2 rfl) ?_
      obtain ⟨hg, hf⟩ := gd_inv hf
      refine zm_iald C hZ 6 (by decide) rfl rfl hg dX5_widths_228 ?_
      obtain ⟨hg, hf⟩ := gd_inv hf
      refine zm_iald C hZ 8 (by decide) rfl rfl hg dX5_widths_229 ?_
      refine zl_bipush hx hb dX5_widths_230 (by decide) ?_
      refine zl_icmp_ne (tgt := 311) hx hb dX5_widths_232 (by decide) (fun hc => ?_) (fun hc => ?_)
      · rw [if_pos hc] at hf
        refine zl_iconst hx hb dX5_widths_235 ?_
        refine lv_istore (lv' := [(7, .int (zI 0)), (6, .int (zI y9)), (5, .int (zI y8)), (4, .int (zI y6)), (0, .ref mo), (1, .int (zI x1)), (2, .int (zI x2))]) hx hb dX5_widths_236 hl (by decide) rfl (fun ls hl => ?_)
        refine zl_iconst hx hb dX5_widths_238 ?_
        refine lv_istore (lv' := [(8, .int (zI 0)), (7, .int (zI 0)), (6, .int (zI y9)), (5, .int (zI y8)), (4, .int (zI y6)), (0, .ref mo), (1, .int (zI x1)), (2, .int (zI x2))]) hx hb dX5_widths_239 hl (by decide) rfl (fun ls hl => ?_)
        refine lv_iload hx hb dX5_widths_241 (lv_at hl 4 rfl) ?_
        refine zl_iconst hx hb dX5_widths_243 ?_
        refine zl_iadd hx hb dX5_widths_244 ?_
        obtain ⟨y10, ey10, hf⟩ := bnd_inv hf
        refine zl_top ey10 ?_
        refine lv_istore (lv' := [(9, .int (zI y10)), (8, .int (zI 0)), (7, .int (zI 0)), (6, .int (zI y9)), (5, .int (zI y8)), (4, .int (zI y6)), (0, .ref mo), (1, .int (zI x1)), (2, .int (zI x2))]) hx hb dX5_widths_245 hl (by decide) rfl (fun ls hl => ?_)
        exact w_widths_247 C hR hf hZ (lv_sub hl [6, 7, 5, 4, 3, 2, 1, 0] rfl) hK
      · rw [if_neg hc] at hf
        exact w_widths_311 C hR hf hZ (lv_sub hl [3, 4, 1, 0] rfl) hK

theorem w_widths_105 {p : Program} {l : Launch} {e : Env} {R : Room} {s : State} {m : MethodId} {args : Array Value} {below : List Frame} {meth : Method} {c : Code} {Q : State → Prop} {D : va_G} {cI cZ : ClassId} {mo : Nat} {ad : Nat → Nat} {H : Heap} {locs : List Loc} {M : MS} (C : MC p s m args meth c D cI cZ cX5_widths 10 none) (hR : 1 ≤ R.frames ∧ 25 ≤ R.locals) {x1 x2 t0 t1 : Int} {res : MS} (hf : m_widths_105 M x1 x2 t0 t1 = some res) (hZ : ZM D cI cZ mo ad s.heap M H locs) {ls : Array Slot} (hl : lv_has ls 10 [(0, .ref mo), (1, .int (zI x1)), (2, .int (zI x2))]) (hK : KM below D cI cZ mo ad args s Q res none) : W p l e R s m args below meth c H locs 0 0 Q (F0 m 105 ls [.int (zI t0), .int (zI t1), .ref (ad 41)]) := by
  unfold m_widths_105 at hf
  have hx := C.1
  have hb := C.2.1
  have hts := C.2.2.2.2.2.2.1
  obtain ⟨hg, hf⟩ := gd_inv hf
  obtain ⟨hv, hf⟩ := gd_inv hf
  obtain ⟨M2, eM2, hf⟩ := bnd_inv hf
  refine zm_zast C hZ 41 (by decide) rfl rfl hg hv dX5_widths_105 (fun H locs hZ => ?_)
  rw [← eM2] at hZ
  refine lv_aload_n hx hb dX5_widths_106 rfl (lv_at hl 0 rfl) ?_
  refine zm_geta C hZ 42 (by decide) (by decide) q1183 dX5_widths_107 ?_
  refine lv_iload_n hx hb dX5_widths_110 rfl (lv_at hl 1 rfl) ?_
  refine lv_iload_n hx hb dX5_widths_111 rfl (lv_at hl 1 rfl) ?_
  refine zl_if_ne (tgt := 119) hx hb dX5_widths_112 (by decide) (fun hc => ?_) (fun hc => ?_)
  · rw [if_pos hc] at hf
    refine zl_iconst hx hb dX5_widths_115 ?_
    refine lv_goto (tgt := 153) hx hb dX5_widths_116 (by decide) ?_
    exact w_widths_153 C hR hf hZ (lv_sub hl [0, 1, 2] rfl) hK
  · rw [if_neg hc] at hf
    refine lv_aload_n hx hb dX5_widths_119 rfl (lv_at hl 0 rfl) ?_
    refine zm_geta C hZ 41 (by decide) (by decide) q1182 dX5_widths_120 ?_
    refine lv_aload_n hx hb dX5_widths_123 rfl (lv_at hl 0 rfl) ?_
    refine zm_geta C hZ 33 (by decide) (by decide) q1174 dX5_widths_124 ?_
    refine lv_iload_n hx hb dX5_widths_127 rfl (lv_at hl 1 rfl) ?_
    obtain ⟨hg, hf⟩ := gd_inv hf
    refine zm_iald C hZ 33 (by decide) rfl rfl hg dX5_widths_128 ?_
    obtain ⟨hg, hf⟩ := gd_inv hf
    refine zm_zald C hZ 41 (by decide) rfl rfl hg dX5_widths_129 ?_
    refine zl_if_eq (tgt := 142) hx hb dX5_widths_130 (by decide) (fun hc => ?_) (fun hc => ?_)
    · rw [if_pos hc] at hf
      refine lv_aload_n hx hb dX5_widths_142 rfl (lv_at hl 0 rfl) ?_
      refine zm_geta C hZ 42 (by decide) (by decide) q1183 dX5_widths_143 ?_
      refine lv_aload_n hx hb dX5_widths_146 rfl (lv_at hl 0 rfl) ?_
      refine zm_geta C hZ 33 (by decide) (by decide) q1174 dX5_widths_147 ?_
      refine lv_iload_n hx hb dX5_widths_150 rfl (lv_at hl 1 rfl) ?_
      obtain ⟨hg, hf⟩ := gd_inv hf
      refine zm_iald C hZ 33 (by decide) rfl rfl hg dX5_widths_151 ?_
      obtain ⟨hg, hf⟩ := gd_inv hf
      refine zm_iald C hZ 42 (by decide) rfl rfl hg dX5_widths_152 ?_
      exact w_widths_153 C hR hf hZ (lv_sub hl [0, 1, 2] rfl) hK
    · rw [if_neg hc] at hf
      refine lv_aload_n hx hb dX5_widths_133 rfl (lv_at hl 0 rfl) ?_
      refine zm_geta C hZ 33 (by decide) (by decide) q1174 dX5_widths_134 ?_
      refine lv_iload_n hx hb dX5_widths_137 rfl (lv_at hl 1 rfl) ?_
      obtain ⟨hg, hf⟩ := gd_inv hf
      refine zm_iald C hZ 33 (by decide) rfl rfl hg dX5_widths_138 ?_
      refine lv_goto (tgt := 153) hx hb dX5_widths_139 (by decide) ?_
      exact w_widths_153 C hR hf hZ (lv_sub hl [0, 1, 2] rfl) hK

theorem w_widths_104 {p : Program} {l : Launch} {e : Env} {R : Room} {s : State} {m : MethodId} {args : Array Value} {below : List Frame} {meth : Method} {c : Code} {Q : State → Prop} {D : va_G} {cI cZ : ClassId} {mo : Nat} {ad : Nat → Nat} {H : Heap} {locs : List Loc} {M : MS} (C : MC p s m args meth c D cI cZ cX5_widths 10 none) (hR : 1 ≤ R.frames ∧ 25 ≤ R.locals) {x1 x2 t0 : Int} {res : MS} (hf : m_widths_104 M x1 x2 t0 = some res) (hZ : ZM D cI cZ mo ad s.heap M H locs) {ls : Array Slot} (hl : lv_has ls 10 [(0, .ref mo), (1, .int (zI x1)), (2, .int (zI x2))]) (hK : KM below D cI cZ mo ad args s Q res none) : W p l e R s m args below meth c H locs 0 0 Q (F0 m 104 ls [.int (zI t0), .ref (ad 41)]) := by
  unfold m_widths_104 at hf
  have hx := C.1
  have hb := C.2.1
  have hts := C.2.2.2.2.2.2.1
  refine zl_iconst hx hb dX5_widths_104 ?_
  exact w_widths_105 C hR hf hZ (lv_sub hl [0, 1, 2] rfl) hK

theorem w_widths_67 {p : Program} {l : Launch} {e : Env} {R : Room} {s : State} {m : MethodId} {args : Array Value} {below : List Frame} {meth : Method} {c : Code} {Q : State → Prop} {D : va_G} {cI cZ : ClassId} {mo : Nat} {ad : Nat → Nat} {H : Heap} {locs : List Loc} {M : MS} (C : MC p s m args meth c D cI cZ cX5_widths 10 none) (hR : 1 ≤ R.frames ∧ 25 ≤ R.locals) {x1 x2 x3 t0 t1 : Int} {res : MS} (hf : m_widths_67 M x1 x2 x3 t0 t1 = some res) (hZ : ZM D cI cZ mo ad s.heap M H locs) {ls : Array Slot} (hl : lv_has ls 10 [(0, .ref mo), (1, .int (zI x1)), (2, .int (zI x2)), (3, .int (zI x3))]) (hK : KM below D cI cZ mo ad args s Q res none) : W p l e R s m args below meth c H locs 0 0 Q (F0 m 67 ls [.int (zI t0), .int (zI t1), .ref (ad 40)]) := by
  unfold m_widths_67 at hf
  have hx := C.1
  have hb := C.2.1
  have hts := C.2.2.2.2.2.2.1
  obtain ⟨hg, hf⟩ := gd_inv hf
  obtain ⟨hv, hf⟩ := gd_inv hf
  obtain ⟨M1, eM1, hf⟩ := bnd_inv hf
  refine zm_zast C hZ 40 (by decide) rfl rfl hg hv dX5_widths_67 (fun H locs hZ => ?_)
  rw [← eM1] at hZ
  refine lv_aload_n hx hb dX5_widths_68 rfl (lv_at hl 0 rfl) ?_
  refine zm_geta C hZ 41 (by decide) (by decide) q1182 dX5_widths_69 ?_
  refine lv_iload_n hx hb dX5_widths_72 rfl (lv_at hl 1 rfl) ?_
  refine lv_iload_n hx hb dX5_widths_73 rfl (lv_at hl 3 rfl) ?_
  refine zl_if_eq (tgt := 104) hx hb dX5_widths_74 (by decide) (fun hc => ?_) (fun hc => ?_)
  · rw [if_pos hc] at hf
    exact w_widths_104 C hR hf hZ (lv_sub hl [0, 1, 2] rfl) hK
  · rw [if_neg hc] at hf
    refine lv_aload_n hx hb dX5_widths_77 rfl (lv_at hl 0 rfl) ?_
    refine zm_geta C hZ 40 (by decide) (by decide) q1181 dX5_widths_78 ?_
    refine lv_iload_n hx hb dX5_widths_81 rfl (lv_at hl 1 rfl) ?_
    obtain ⟨hg, hf⟩ := gd_inv hf
    refine zm_zald C hZ 40 (by decide) rfl rfl hg dX5_widths_82 ?_
    refine zl_if_ne (tgt := 104) hx hb dX5_widths_83 (by decide) (fun hc => ?_) (fun hc => ?_)
    · rw [if_pos hc] at hf
      refine lv_aload_n hx hb dX5_widths_86 rfl (lv_at hl 0 rfl) ?_
      refine zm_geta C hZ 36 (by decide) (by decide) q1177 dX5_widths_87 ?_
      refine zl_bipush hx hb dX5_widths_90 (by decide) ?_
      refine lv_iload_n hx hb dX5_widths_92 rfl (lv_at hl 1 rfl) ?_
      refine zl_iadd hx hb dX5_widths_93 ?_
      obtain ⟨hg, hf⟩ := gd_inv hf
      refine zm_iald C hZ 36 (by decide) rfl rfl hg dX5_widths_94 ?_
      refine zl_bipush hx hb dX5_widths_95 (by decide) ?_
      refine zl_icmp_ne (tgt := 104) hx hb dX5_widths_97 (by decide) (fun hc => ?_) (fun hc => ?_)
      · rw [if_pos hc] at hf
        refine zl_iconst hx hb dX5_widths_100 ?_
        refine lv_goto (tgt := 105) hx hb dX5_widths_101 (by decide) ?_
        exact w_widths_105 C hR hf hZ (lv_sub hl [0, 1, 2] rfl) hK
      · rw [if_neg hc] at hf
        exact w_widths_104 C hR hf hZ (lv_sub hl [0, 1, 2] rfl) hK
    · rw [if_neg hc] at hf
      exact w_widths_104 C hR hf hZ (lv_sub hl [0, 1, 2] rfl) hK

theorem w_widths_66 {p : Program} {l : Launch} {e : Env} {R : Room} {s : State} {m : MethodId} {args : Array Value} {below : List Frame} {meth : Method} {c : Code} {Q : State → Prop} {D : va_G} {cI cZ : ClassId} {mo : Nat} {ad : Nat → Nat} {H : Heap} {locs : List Loc} {M : MS} (C : MC p s m args meth c D cI cZ cX5_widths 10 none) (hR : 1 ≤ R.frames ∧ 25 ≤ R.locals) {x1 x2 x3 t0 : Int} {res : MS} (hf : m_widths_66 M x1 x2 x3 t0 = some res) (hZ : ZM D cI cZ mo ad s.heap M H locs) {ls : Array Slot} (hl : lv_has ls 10 [(0, .ref mo), (1, .int (zI x1)), (2, .int (zI x2)), (3, .int (zI x3))]) (hK : KM below D cI cZ mo ad args s Q res none) : W p l e R s m args below meth c H locs 0 0 Q (F0 m 66 ls [.int (zI t0), .ref (ad 40)]) := by
  unfold m_widths_66 at hf
  have hx := C.1
  have hb := C.2.1
  have hts := C.2.2.2.2.2.2.1
  refine zl_iconst hx hb dX5_widths_66 ?_
  exact w_widths_67 C hR hf hZ (lv_sub hl [0, 1, 2, 3] rfl) hK

theorem w_widths_62 {p : Program} {l : Launch} {e : Env} {R : Room} {s : State} {m : MethodId} {args : Array Value} {below : List Frame} {meth : Method} {c : Code} {Q : State → Prop} {D : va_G} {cI cZ : ClassId} {mo : Nat} {ad : Nat → Nat} {H : Heap} {locs : List Loc} {M : MS} (C : MC p s m args meth c D cI cZ cX5_widths 10 none) (hR : 1 ≤ R.frames ∧ 25 ≤ R.locals) {x1 x2 x3 t0 : Int} {res : MS} (hf : m_widths_62 M x1 x2 x3 t0 = some res) (hZ : ZM D cI cZ mo ad s.heap M H locs) {ls : Array Slot} (hl : lv_has ls 10 [(0, .ref mo), (1, .int (zI x1)), (2, .int (zI x2)), (3, .int (zI x3))]) (hK : KM below D cI cZ mo ad args s Q res none) : W p l e R s m args below meth c H locs 0 0 Q (F0 m 62 ls [.int (zI t0), .ref (ad 40)]) := by
  unfold m_widths_62 at hf
  have hx := C.1
  have hb := C.2.1
  have hts := C.2.2.2.2.2.2.1
  refine zl_iconst hx hb dX5_widths_62 ?_
  refine lv_goto (tgt := 67) hx hb dX5_widths_63 (by decide) ?_
  exact w_widths_67 C hR hf hZ (lv_sub hl [0, 1, 2, 3] rfl) hK

theorem w_widths_20 {p : Program} {l : Launch} {e : Env} {R : Room} {s : State} {m : MethodId} {args : Array Value} {below : List Frame} {meth : Method} {c : Code} {Q : State → Prop} {D : va_G} {cI cZ : ClassId} {mo : Nat} {ad : Nat → Nat} {H : Heap} {locs : List Loc} {M : MS} (C : MC p s m args meth c D cI cZ cX5_widths 10 none) (hR : 1 ≤ R.frames ∧ 25 ≤ R.locals) {x1 x2 t0 : Int} {res : MS} (hf : m_widths_20 M x1 x2 t0 = some res) (hZ : ZM D cI cZ mo ad s.heap M H locs) {ls : Array Slot} (hl : lv_has ls 10 [(0, .ref mo), (1, .int (zI x1)), (2, .int (zI x2))]) (hK : KM below D cI cZ mo ad args s Q res none) : W p l e R s m args below meth c H locs 0 0 Q (F0 m 20 ls [.int (zI t0)]) := by
  unfold m_widths_20 at hf
  have hx := C.1
  have hb := C.2.1
  have hts := C.2.2.2.2.2.2.1
  refine lv_istore_n (lv' := [(3, .int (zI t0)), (0, .ref mo), (1, .int (zI x1)), (2, .int (zI x2))]) hx hb dX5_widths_20 rfl hl (by decide) rfl (fun ls hl => ?_)
  refine lv_aload_n hx hb dX5_widths_21 rfl (lv_at hl 1 rfl) ?_
  refine zm_geta C hZ 40 (by decide) (by decide) q1181 dX5_widths_22 ?_
  refine lv_iload_n hx hb dX5_widths_25 rfl (lv_at hl 2 rfl) ?_
  refine lv_iload_n hx hb dX5_widths_26 rfl (lv_at hl 2 rfl) ?_
  refine zl_if_le (tgt := 66) hx hb dX5_widths_27 (by decide) (fun hc => ?_) (fun hc => ?_)
  · rw [if_pos hc] at hf
    refine lv_aload_n hx hb dX5_widths_30 rfl (lv_at hl 1 rfl) ?_
    refine zm_geta C hZ 40 (by decide) (by decide) q1181 dX5_widths_31 ?_
    refine lv_aload_n hx hb dX5_widths_34 rfl (lv_at hl 1 rfl) ?_
    refine zm_geta C hZ 33 (by decide) (by decide) q1174 dX5_widths_35 ?_
    refine lv_iload_n hx hb dX5_widths_38 rfl (lv_at hl 2 rfl) ?_
    obtain ⟨hg, hf⟩ := gd_inv hf
    refine zm_iald C hZ 33 (by decide) rfl rfl hg dX5_widths_39 ?_
    obtain ⟨hg, hf⟩ := gd_inv hf
    refine zm_zald C hZ 40 (by decide) rfl rfl hg dX5_widths_40 ?_
    refine zl_if_ne (tgt := 62) hx hb dX5_widths_41 (by decide) (fun hc => ?_) (fun hc => ?_)
    · rw [if_pos hc] at hf
      refine lv_iload_n hx hb dX5_widths_44 rfl (lv_at hl 0 rfl) ?_
      refine zl_if_eq (tgt := 66) hx hb dX5_widths_45 (by decide) (fun hc => ?_) (fun hc => ?_)
      · rw [if_pos hc] at hf
        exact w_widths_66 C hR hf hZ (lv_sub hl [1, 2, 3, 0] rfl) hK
      · rw [if_neg hc] at hf
        refine lv_aload_n hx hb dX5_widths_48 rfl (lv_at hl 1 rfl) ?_
        refine zm_geta C hZ 36 (by decide) (by decide) q1177 dX5_widths_49 ?_
        refine zl_bipush hx hb dX5_widths_52 (by decide) ?_
        refine lv_iload_n hx hb dX5_widths_54 rfl (lv_at hl 2 rfl) ?_
        refine zl_iadd hx hb dX5_widths_55 ?_
        obtain ⟨hg, hf⟩ := gd_inv hf
        refine zm_iald C hZ 36 (by decide) rfl rfl hg dX5_widths_56 ?_
        refine zl_bipush hx hb dX5_widths_57 (by decide) ?_
        refine zl_icmp_ne (tgt := 66) hx hb dX5_widths_59 (by decide) (fun hc => ?_) (fun hc => ?_)
        · rw [if_pos hc] at hf
          exact w_widths_62 C hR hf hZ (lv_sub hl [1, 2, 3, 0] rfl) hK
        · rw [if_neg hc] at hf
          exact w_widths_66 C hR hf hZ (lv_sub hl [1, 2, 3, 0] rfl) hK
    · rw [if_neg hc] at hf
      exact w_widths_62 C hR hf hZ (lv_sub hl [1, 2, 3, 0] rfl) hK
  · rw [if_neg hc] at hf
    exact w_widths_66 C hR hf hZ (lv_sub hl [1, 2, 3, 0] rfl) hK

theorem w_widths {p : Program} {l : Launch} {e : Env} {R : Room} {s : State} {m : MethodId} {args : Array Value} {below : List Frame} {meth : Method} {c : Code} {Q : State → Prop} {D : va_G} {cI cZ : ClassId} {mo : Nat} {ad : Nat → Nat} {H : Heap} {locs : List Loc} {M : MS} (C : MC p s m args meth c D cI cZ cX5_widths 10 none) (hR : 1 ≤ R.frames ∧ 25 ≤ R.locals) {x1 x2 : Int} {res : MS} (hf : m_widths M x1 x2 = some res) (hZ : ZM D cI cZ mo ad s.heap M H locs) {ls : Array Slot} (hl : lv_has ls 10 [(0, .ref mo), (1, .int (zI x1)), (2, .int (zI x2))]) (hK : KM below D cI cZ mo ad args s Q res none) : W p l e R s m args below meth c H locs 0 0 Q (F0 m 0 ls []) := by
  unfold m_widths at hf
  have hx := C.1
  have hb := C.2.1
  have hts := C.2.2.2.2.2.2.1
  refine lv_aload_n hx hb dX5_widths_0 rfl (lv_at hl 0 rfl) ?_
  refine zm_geta C hZ 8 (by decide) (by decide) q1149 dX5_widths_1 ?_
  refine lv_aload_n hx hb dX5_widths_4 rfl (lv_at hl 0 rfl) ?_
  refine zm_geta C hZ 6 (by decide) (by decide) q1147 dX5_widths_5 ?_
  refine lv_iload_n hx hb dX5_widths_8 rfl (lv_at hl 1 rfl) ?_
  obtain ⟨hg, hf⟩ := gd_inv hf
  refine zm_iald C hZ 6 (by decide) rfl rfl hg dX5_widths_9 ?_
  obtain ⟨hg, hf⟩ := gd_inv hf
  refine zm_iald C hZ 8 (by decide) rfl rfl hg dX5_widths_10 ?_
  refine zl_iconst hx hb dX5_widths_11 ?_
  refine zl_icmp_eq (tgt := 19) hx hb dX5_widths_12 (by decide) (fun hc => ?_) (fun hc => ?_)
  · rw [if_pos hc] at hf
    refine zl_iconst hx hb dX5_widths_19 ?_
    exact w_widths_20 C hR hf hZ (lv_sub hl [0, 1, 2] rfl) hK
  · rw [if_neg hc] at hf
    refine zl_iconst hx hb dX5_widths_15 ?_
    refine lv_goto (tgt := 20) hx hb dX5_widths_16 (by decide) ?_
    exact w_widths_20 C hR hf hZ (lv_sub hl [0, 1, 2] rfl) hK

theorem met_widths (l : Launch) (D : va_G) (cI cZ : ClassId) (mo : Nat) (ad : Nat → Nat) {M : MS} {x1 x2 : Int} {res : MS} (hf : m_widths M x1 x2 = some res) : Met l yX5_widths (ws_ yX5_widths cX5_widths 10 none) ({ frames := 1, cells := 0, slots := 0, locals := 25 }) (PM D cI cZ mo ad M [.int (zI x1), .int (zI x2)]) (QM D cI cZ mo ad res none) 0 0 (MA mo ad) := by
  refine Met.ofW (cc := cX5_widths) (maxL := 10) (ret := none) (by decide) rfl ?_
  intro p e s m args below meth c s₁ B hml hv
  obtain ⟨rfl, hRM, hK0⟩ := hv
  have hts := atoms_spec (ws := ws_ yX5_widths cX5_widths 10 none) B.pre
  have hts : ∀ w ∈ lw_all, w.before _ s = true := fun w h => hts w (List.mem_cons_of_mem _ h)
  have C : MC p s m _ meth c D cI cZ cX5_widths 10 none := ⟨B.exec, B.bytes, B.returns, B.notSynchronized, hml, findClass_of_methodNamed B.named, hts, hK0⟩
  have hZ : ZM D cI cZ mo ad s.heap M s.heap [] := ⟨hRM, rfl, fun _ _ => rfl, fun _ h => by cases h⟩
  have hl := lv_entry ([.ref mo, .int (zI x1), .int (zI x2)]) (n := 10) (Nat.le_of_ble_eq_true rfl)
  rw [lg_entry_eq]
  generalize (lg_sl ([.ref mo, .int (zI x1), .int (zI x2)]) ++ List.replicate (10 - (lg_sl ([.ref mo, .int (zI x1), .int (zI x2)])).length) Slot.unset).toArray = ls at hl ⊢
  have hl : lv_has ls 10 [(0, .ref mo), (1, .int (zI x1)), (2, .int (zI x2))] := hl
  exact w_widths C ⟨Nat.le_refl _, Nat.le_refl _⟩ hf hZ hl rfl

theorem w_runs_46 {p : Program} {l : Launch} {e : Env} {R : Room} {s : State} {m : MethodId} {args : Array Value} {below : List Frame} {meth : Method} {c : Code} {Q : State → Prop} {D : va_G} {cI cZ : ClassId} {mo : Nat} {ad : Nat → Nat} {H : Heap} {locs : List Loc} {M : MS} (C : MC p s m args meth c D cI cZ cX5_runs 3 (some .boolean)) (hR : 0 ≤ R.frames ∧ 0 ≤ R.locals) {x2 t0 : Int} {res : (Int × Int) ⊕ (Int)} (hf : m_runs_46 M x2 t0 = some res) (hZ : ZM D cI cZ mo ad s.heap M H locs) {ls : Array Slot} (hl : lv_has ls 3 [(0, .ref mo), (2, .int (zI x2))]) (hK : (Sum.elim (fun z => ∀ (H : Heap) (locs : List Loc) (ls : Array Slot), ZM D cI cZ mo ad s.heap M H locs → lv_has ls 3 [(0, .ref mo), (1, .int (zI z.1)), (2, .int (zI z.2))] → W p l e R s m args below meth c H locs 0 0 Q (F0 m 4 ls [])) (fun r => KM below D cI cZ mo ad args s Q M (some (.int (zI r))))) res) : W p l e R s m args below meth c H locs 0 0 Q (F0 m 46 ls [.int (zI t0)]) := by
  unfold m_runs_46 at hf
  have hx := C.1
  have hb := C.2.1
  have hts := C.2.2.2.2.2.2.1
  refine lv_istore_n (lv' := [(1, .int (zI t0)), (0, .ref mo), (2, .int (zI x2))]) hx hb dX5_runs_46 rfl hl (by decide) rfl (fun ls hl => ?_)
  refine zl_iinc (x := x2) (n := 1) (lv' := [(2, .int (zI (x2 + 1))), (1, .int (zI t0)), (0, .ref mo)]) (k := 2) hx hb dX5_runs_47 hl rfl (by decide) rfl (fun ls hl => ?_)
  refine lv_goto (tgt := 4) hx hb dX5_runs_50 (by decide) ?_
  obtain rfl := Option.some.inj hf
  exact hK _ _ _ hZ (lv_sub hl [2, 1, 0] rfl)

theorem w_runs_41 {p : Program} {l : Launch} {e : Env} {R : Room} {s : State} {m : MethodId} {args : Array Value} {below : List Frame} {meth : Method} {c : Code} {Q : State → Prop} {D : va_G} {cI cZ : ClassId} {mo : Nat} {ad : Nat → Nat} {H : Heap} {locs : List Loc} {M : MS} (C : MC p s m args meth c D cI cZ cX5_runs 3 (some .boolean)) (hR : 0 ≤ R.frames ∧ 0 ≤ R.locals) {x2 : Int} {res : (Int × Int) ⊕ (Int)} (hf : m_runs_41 M x2 = some res) (hZ : ZM D cI cZ mo ad s.heap M H locs) {ls : Array Slot} (hl : lv_has ls 3 [(0, .ref mo), (2, .int (zI x2))]) (hK : (Sum.elim (fun z => ∀ (H : Heap) (locs : List Loc) (ls : Array Slot), ZM D cI cZ mo ad s.heap M H locs → lv_has ls 3 [(0, .ref mo), (1, .int (zI z.1)), (2, .int (zI z.2))] → W p l e R s m args below meth c H locs 0 0 Q (F0 m 4 ls [])) (fun r => KM below D cI cZ mo ad args s Q M (some (.int (zI r))))) res) : W p l e R s m args below meth c H locs 0 0 Q (F0 m 41 ls []) := by
  unfold m_runs_41 at hf
  have hx := C.1
  have hb := C.2.1
  have hts := C.2.2.2.2.2.2.1
  refine zl_iconst hx hb dX5_runs_41 ?_
  refine lv_goto (tgt := 46) hx hb dX5_runs_42 (by decide) ?_
  exact w_runs_46 C hR hf hZ (lv_sub hl [0, 1] rfl) hK

theorem w_runs_4s {p : Program} {l : Launch} {e : Env} {R : Room} {s : State} {m : MethodId} {args : Array Value} {below : List Frame} {meth : Method} {c : Code} {Q : State → Prop} {D : va_G} {cI cZ : ClassId} {mo : Nat} {ad : Nat → Nat} {H : Heap} {locs : List Loc} {M : MS} (C : MC p s m args meth c D cI cZ cX5_runs 3 (some .boolean)) (hR : 0 ≤ R.frames ∧ 0 ≤ R.locals) {x1 x2 : Int} {res : (Int × Int) ⊕ (Int)} (hf : m_runs_4s M x1 x2 = some res) (hZ : ZM D cI cZ mo ad s.heap M H locs) {ls : Array Slot} (hl : lv_has ls 3 [(0, .ref mo), (1, .int (zI x1)), (2, .int (zI x2))]) (hK : (Sum.elim (fun z => ∀ (H : Heap) (locs : List Loc) (ls : Array Slot), ZM D cI cZ mo ad s.heap M H locs → lv_has ls 3 [(0, .ref mo), (1, .int (zI z.1)), (2, .int (zI z.2))] → W p l e R s m args below meth c H locs 0 0 Q (F0 m 4 ls [])) (fun r => KM below D cI cZ mo ad args s Q M (some (.int (zI r))))) res) : W p l e R s m args below meth c H locs 0 0 Q (F0 m 4 ls []) := by
  unfold m_runs_4s at hf
  have hx := C.1
  have hb := C.2.1
  have hts := C.2.2.2.2.2.2.1
  refine lv_iload_n hx hb dX5_runs_4 rfl (lv_at hl 2 rfl) ?_
  refine lv_aload_n hx hb dX5_runs_5 rfl (lv_at hl 0 rfl) ?_
  refine zm_geti C hZ 52 (by decide) rfl q1193 dX5_runs_6 ?_
  refine zl_icmp_ge (tgt := 53) hx hb dX5_runs_9 (by decide) (fun hc => ?_) (fun hc => ?_)
  · rw [if_pos hc] at hf
    refine lv_iload_n hx hb dX5_runs_12 rfl (lv_at hl 1 rfl) ?_
    refine zl_if_ne (tgt := 41) hx hb dX5_runs_13 (by decide) (fun hc => ?_) (fun hc => ?_)
    · rw [if_pos hc] at hf
      refine lv_aload_n hx hb dX5_runs_16 rfl (lv_at hl 0 rfl) ?_
      refine zm_geta C hZ 51 (by decide) (by decide) q1192 dX5_runs_17 ?_
      refine lv_iload_n hx hb dX5_runs_20 rfl (lv_at hl 2 rfl) ?_
      obtain ⟨hg, hf⟩ := gd_inv hf
      refine zm_iald C hZ 51 (by decide) rfl rfl hg dX5_runs_21 ?_
      refine zl_if_lt (tgt := 41) hx hb dX5_runs_22 (by decide) (fun hc => ?_) (fun hc => ?_)
      · rw [if_pos hc] at hf
        exact w_runs_41 C hR hf hZ (lv_sub hl [0, 2] rfl) hK
      · rw [if_neg hc] at hf
        refine lv_aload_n hx hb dX5_runs_25 rfl (lv_at hl 0 rfl) ?_
        refine zm_geta C hZ 18 (by decide) (by decide) q1159 dX5_runs_26 ?_
        refine lv_aload_n hx hb dX5_runs_29 rfl (lv_at hl 0 rfl) ?_
        refine zm_geta C hZ 51 (by decide) (by decide) q1192 dX5_runs_30 ?_
        refine lv_iload_n hx hb dX5_runs_33 rfl (lv_at hl 2 rfl) ?_
        obtain ⟨hg, hf⟩ := gd_inv hf
        refine zm_iald C hZ 51 (by decide) rfl rfl hg dX5_runs_34 ?_
        obtain ⟨hg, hf⟩ := gd_inv hf
        refine zm_iald C hZ 18 (by decide) rfl rfl hg dX5_runs_35 ?_
        refine zl_bipush hx hb dX5_runs_36 (by decide) ?_
        refine zl_icmp_eq (tgt := 45) hx hb dX5_runs_38 (by decide) (fun hc => ?_) (fun hc => ?_)
        · rw [if_pos hc] at hf
          refine zl_iconst hx hb dX5_runs_45 ?_
          exact w_runs_46 C hR hf hZ (lv_sub hl [0, 2] rfl) hK
        · rw [if_neg hc] at hf
          exact w_runs_41 C hR hf hZ (lv_sub hl [0, 2] rfl) hK
    · rw [if_neg hc] at hf
      exact w_runs_41 C hR hf hZ (lv_sub hl [0, 2] rfl) hK
  · rw [if_neg hc] at hf
    refine lv_iload_n hx hb dX5_runs_53 rfl (lv_at hl 1 rfl) ?_
    obtain ⟨hg, hf⟩ := gd_inv hf
    obtain rfl := Option.some.inj hf
    exact zm_zret C hZ hg hK dX5_runs_54

theorem w_runs_4 {p : Program} {l : Launch} {e : Env} {R : Room} {s : State} {m : MethodId} {args : Array Value} {below : List Frame} {meth : Method} {c : Code} {Q : State → Prop} {D : va_G} {cI cZ : ClassId} {mo : Nat} {ad : Nat → Nat} {H : Heap} {locs : List Loc} {M : MS} (C : MC p s m args meth c D cI cZ cX5_runs 3 (some .boolean)) (hR : 0 ≤ R.frames ∧ 0 ≤ R.locals) {x1 x2 : Int} {res : Int} (hf : m_runs_4 M x1 x2 = some res) (hZ : ZM D cI cZ mo ad s.heap M H locs) {ls : Array Slot} (hl : lv_has ls 3 [(0, .ref mo), (1, .int (zI x1)), (2, .int (zI x2))]) (hK : KM below D cI cZ mo ad args s Q M (some (.int (zI res)))) : W p l e R s m args below meth c H locs 0 0 Q (F0 m 4 ls []) := by
  unfold m_runs_4 at hf
  refine iter_ind (P := fun z r => ∀ (H : Heap) (locs : List Loc) (ls : Array Slot), ZM D cI cZ mo ad s.heap M H locs → lv_has ls 3 [(0, .ref mo), (1, .int (zI z.1)), (2, .int (zI z.2))] → KM below D cI cZ mo ad args s Q M (some (.int (zI r))) → W p l e R s m args below meth c H locs 0 0 Q (F0 m 4 ls [])) ?_ ?_ hf H locs ls hZ hl hK
  · intro z r h1 H locs ls hZ hl hK; exact w_runs_4s C hR h1 hZ hl hK
  · intro z z1 r h1 ih H locs ls hZ hl hK; exact w_runs_4s C hR h1 hZ hl (fun H locs ls hZ hl => ih H locs ls hZ hl hK)

theorem w_runs {p : Program} {l : Launch} {e : Env} {R : Room} {s : State} {m : MethodId} {args : Array Value} {below : List Frame} {meth : Method} {c : Code} {Q : State → Prop} {D : va_G} {cI cZ : ClassId} {mo : Nat} {ad : Nat → Nat} {H : Heap} {locs : List Loc} {M : MS} (C : MC p s m args meth c D cI cZ cX5_runs 3 (some .boolean)) (hR : 0 ≤ R.frames ∧ 0 ≤ R.locals) {res : Int} (hf : m_runs M = some res) (hZ : ZM D cI cZ mo ad s.heap M H locs) {ls : Array Slot} (hl : lv_has ls 3 [(0, .ref mo)]) (hK : KM below D cI cZ mo ad args s Q M (some (.int (zI res)))) : W p l e R s m args below meth c H locs 0 0 Q (F0 m 0 ls []) := by
  unfold m_runs at hf
  have hx := C.1
  have hb := C.2.1
  have hts := C.2.2.2.2.2.2.1
  refine zl_iconst hx hb dX5_runs_0 ?_
  refine lv_istore_n (lv' := [(1, .int (zI 0)), (0, .ref mo)]) hx hb dX5_runs_1 rfl hl (by decide) rfl (fun ls hl => ?_)
  refine zl_iconst hx hb dX5_runs_2 ?_
  refine lv_istore_n (lv' := [(2, .int (zI 0)), (1, .int (zI 0)), (0, .ref mo)]) hx hb dX5_runs_3 rfl hl (by decide) rfl (fun ls hl => ?_)
  exact w_runs_4 C hR hf hZ (lv_sub hl [2, 1, 0] rfl) hK

theorem met_runs (l : Launch) (D : va_G) (cI cZ : ClassId) (mo : Nat) (ad : Nat → Nat) {M : MS} {res : Int} (hf : m_runs M = some res) : Met l yX5_runs (ws_ yX5_runs cX5_runs 3 (some .boolean)) ({ frames := 0, cells := 0, slots := 0, locals := 0 }) (PM D cI cZ mo ad M []) (QM D cI cZ mo ad M (some (.int (zI res)))) 0 0 (MA mo ad) := by
  refine Met.ofW (cc := cX5_runs) (maxL := 3) (ret := (some .boolean)) (by decide) rfl ?_
  intro p e s m args below meth c s₁ B hml hv
  obtain ⟨rfl, hRM, hK0⟩ := hv
  have hts := atoms_spec (ws := ws_ yX5_runs cX5_runs 3 (some .boolean)) B.pre
  have hts : ∀ w ∈ lw_all, w.before _ s = true := fun w h => hts w (List.mem_cons_of_mem _ h)
  have C : MC p s m _ meth c D cI cZ cX5_runs 3 (some .boolean) := ⟨B.exec, B.bytes, B.returns, B.notSynchronized, hml, findClass_of_methodNamed B.named, hts, hK0⟩
  have hZ : ZM D cI cZ mo ad s.heap M s.heap [] := ⟨hRM, rfl, fun _ _ => rfl, fun _ h => by cases h⟩
  have hl := lv_entry ([.ref mo]) (n := 3) (Nat.le_of_ble_eq_true rfl)
  rw [lg_entry_eq]
  generalize (lg_sl ([.ref mo]) ++ List.replicate (3 - (lg_sl ([.ref mo])).length) Slot.unset).toArray = ls at hl ⊢
  have hl : lv_has ls 3 [(0, .ref mo)] := hl
  exact w_runs C ⟨Nat.le_refl _, Nat.le_refl _⟩ hf hZ hl rfl

theorem w_newLine {p : Program} {l : Launch} {e : Env} {R : Room} {s : State} {m : MethodId} {args : Array Value} {below : List Frame} {meth : Method} {c : Code} {Q : State → Prop} {D : va_G} {cI cZ : ClassId} {mo : Nat} {ad : Nat → Nat} {H : Heap} {locs : List Loc} {M : MS} (C : MC p s m args meth c D cI cZ cX5_newLine 2 none) (hR : 0 ≤ R.frames ∧ 0 ≤ R.locals) {x1 : Int} {res : MS} (hf : m_newLine M x1 = some res) (hZ : ZM D cI cZ mo ad s.heap M H locs) {ls : Array Slot} (hl : lv_has ls 2 [(0, .ref mo), (1, .int (zI x1))]) (hK : KM below D cI cZ mo ad args s Q res none) : W p l e R s m args below meth c H locs 0 0 Q (F0 m 0 ls []) := by
  unfold m_newLine at hf
  have hx := C.1
  have hb := C.2.1
  have hts := C.2.2.2.2.2.2.1
  refine lv_aload_n hx hb dX5_newLine_0 rfl (lv_at hl 0 rfl) ?_
  refine lv_iload_n hx hb dX5_newLine_1 rfl (lv_at hl 1 rfl) ?_
  obtain ⟨M1, eM1, hf⟩ := bnd_inv hf
  refine zm_puti C hZ 54 (by decide) rfl rfl q1195 dX5_newLine_2 (fun H locs hZ => ?_)
  rw [← eM1] at hZ
  refine lv_aload_n hx hb dX5_newLine_5 rfl (lv_at hl 0 rfl) ?_
  refine zl_iconst hx hb dX5_newLine_6 ?_
  obtain ⟨M2, eM2, hf⟩ := bnd_inv hf
  refine zm_puti C hZ 55 (by decide) rfl rfl q1196 dX5_newLine_7 (fun H locs hZ => ?_)
  rw [← eM2] at hZ
  refine lv_aload_n hx hb dX5_newLine_10 rfl (lv_at hl 0 rfl) ?_
  refine zl_iconst hx hb dX5_newLine_11 ?_
  obtain ⟨M3, eM3, hf⟩ := bnd_inv hf
  refine zm_puti C hZ 56 (by decide) rfl rfl q1197 dX5_newLine_12 (fun H locs hZ => ?_)
  rw [← eM3] at hZ
  refine lv_aload_n hx hb dX5_newLine_15 rfl (lv_at hl 0 rfl) ?_
  refine zl_iconst hx hb dX5_newLine_16 ?_
  obtain ⟨M4, eM4, hf⟩ := bnd_inv hf
  refine zm_putb C hZ 57 (by decide) rfl rfl zisB_0 q1198 dX5_newLine_17 (fun H locs hZ => ?_)
  rw [← eM4] at hZ
  obtain rfl := Option.some.inj hf
  exact zm_vret C hZ hK dX5_newLine_20

theorem met_newLine (l : Launch) (D : va_G) (cI cZ : ClassId) (mo : Nat) (ad : Nat → Nat) {M : MS} {x1 : Int} {res : MS} (hf : m_newLine M x1 = some res) : Met l yX5_newLine (ws_ yX5_newLine cX5_newLine 2 none) ({ frames := 0, cells := 0, slots := 0, locals := 0 }) (PM D cI cZ mo ad M [.int (zI x1)]) (QM D cI cZ mo ad res none) 0 0 (MA mo ad) := by
  refine Met.ofW (cc := cX5_newLine) (maxL := 2) (ret := none) (by decide) rfl ?_
  intro p e s m args below meth c s₁ B hml hv
  obtain ⟨rfl, hRM, hK0⟩ := hv
  have hts := atoms_spec (ws := ws_ yX5_newLine cX5_newLine 2 none) B.pre
  have hts : ∀ w ∈ lw_all, w.before _ s = true := fun w h => hts w (List.mem_cons_of_mem _ h)
  have C : MC p s m _ meth c D cI cZ cX5_newLine 2 none := ⟨B.exec, B.bytes, B.returns, B.notSynchronized, hml, findClass_of_methodNamed B.named, hts, hK0⟩
  have hZ : ZM D cI cZ mo ad s.heap M s.heap [] := ⟨hRM, rfl, fun _ _ => rfl, fun _ h => by cases h⟩
  have hl := lv_entry ([.ref mo, .int (zI x1)]) (n := 2) (Nat.le_of_ble_eq_true rfl)
  rw [lg_entry_eq]
  generalize (lg_sl ([.ref mo, .int (zI x1)]) ++ List.replicate (2 - (lg_sl ([.ref mo, .int (zI x1)])).length) Slot.unset).toArray = ls at hl ⊢
  have hl : lv_has ls 2 [(0, .ref mo), (1, .int (zI x1))] := hl
  exact w_newLine C ⟨Nat.le_refl _, Nat.le_refl _⟩ hf hZ hl rfl

theorem w_size {p : Program} {l : Launch} {e : Env} {R : Room} {s : State} {m : MethodId} {args : Array Value} {below : List Frame} {meth : Method} {c : Code} {Q : State → Prop} {D : va_G} {cI cZ : ClassId} {mo : Nat} {ad : Nat → Nat} {H : Heap} {locs : List Loc} {M : MS} (C : MC p s m args meth c D cI cZ cX5_size 3 (some .int)) (hR : 1 ≤ R.frames ∧ 23 ≤ R.locals) {x1 : Int} {res : Int} (hf : m_size M x1 = some res) (hZ : ZM D cI cZ mo ad s.heap M H locs) {ls : Array Slot} (hl : lv_has ls 3 [(0, .ref mo), (1, .int (zI x1))]) (hK : KM below D cI cZ mo ad args s Q M (some (.int (zI res)))) : W p l e R s m args below meth c H locs 0 0 Q (F0 m 0 ls []) := by
  unfold m_size at hf
  have hx := C.1
  have hb := C.2.1
  have hts := C.2.2.2.2.2.2.1
  refine lv_aload_n hx hb dX5_size_0 rfl (lv_at hl 0 rfl) ?_
  refine zm_geta C hZ 51 (by decide) (by decide) q1192 dX5_size_1 ?_
  refine lv_iload_n hx hb dX5_size_4 rfl (lv_at hl 1 rfl) ?_
  obtain ⟨hg, hf⟩ := gd_inv hf
  refine zm_iald C hZ 51 (by decide) rfl rfl hg dX5_size_5 ?_
  refine zl_if_ge (tgt := 24) hx hb dX5_size_6 (by decide) (fun hc => ?_) (fun hc => ?_)
  · rw [if_pos hc] at hf
    refine lv_aload_n hx hb dX5_size_9 rfl (lv_at hl 0 rfl) ?_
    refine zm_geta C hZ 36 (by decide) (by decide) q1177 dX5_size_10 ?_
    refine zl_bipush hx hb dX5_size_13 (by decide) ?_
    refine lv_aload_n hx hb dX5_size_15 rfl (lv_at hl 0 rfl) ?_
    refine zm_geta C hZ 51 (by decide) (by decide) q1192 dX5_size_16 ?_
    refine lv_iload_n hx hb dX5_size_19 rfl (lv_at hl 1 rfl) ?_
    obtain ⟨hg, hf⟩ := gd_inv hf
    refine zm_iald C hZ 51 (by decide) rfl rfl hg dX5_size_20 ?_
    refine zl_isub hx hb dX5_size_21 ?_
    obtain ⟨hg, hf⟩ := gd_inv hf
    refine zm_iald C hZ 36 (by decide) rfl rfl hg dX5_size_22 ?_
    obtain rfl := Option.some.inj hf
    exact zm_iret C hZ hK dX5_size_23
  · rw [if_neg hc] at hf
    refine lv_aload_n hx hb dX5_size_24 rfl (lv_at hl 0 rfl) ?_
    refine lv_aload_n hx hb dX5_size_25 rfl (lv_at hl 0 rfl) ?_
    refine zm_geta C hZ 19 (by decide) (by decide) q1160 dX5_size_26 ?_
    refine lv_aload_n hx hb dX5_size_29 rfl (lv_at hl 0 rfl) ?_
    refine zm_geta C hZ 51 (by decide) (by decide) q1192 dX5_size_30 ?_
    refine lv_iload_n hx hb dX5_size_33 rfl (lv_at hl 1 rfl) ?_
    obtain ⟨hg, hf⟩ := gd_inv hf
    refine zm_iald C hZ 51 (by decide) rfl rfl hg dX5_size_34 ?_
    obtain ⟨hg, hf⟩ := gd_inv hf
    refine zm_iald C hZ 19 (by decide) rfl rfl hg dX5_size_35 ?_
    obtain ⟨y1, ey1, hf⟩ := bd_inv hf
    refine zm_callV C hZ (n := 1) (rest := []) (met_seat l D cI cZ mo ad ey1) (lw_V q1376 q1378 qs48 q107 q1379) rfl rfl (by decide +kernel) ⟨Nat.le_trans (by decide) hR.1, Nat.le_trans (by decide) hR.2⟩ rfl hl.1 rfl (Nat.le_of_ble_eq_true rfl) dX5_size_36 (fun H locs hZ => ?_)
    refine lv_istore_n (lv' := [(2, .int (zI y1)), (0, .ref mo), (1, .int (zI x1))]) hx hb dX5_size_39 rfl hl (by decide) rfl (fun ls hl => ?_)
    refine lv_aload_n hx hb dX5_size_40 rfl (lv_at hl 1 rfl) ?_
    refine zm_geta C hZ 36 (by decide) (by decide) q1177 dX5_size_41 ?_
    refine zl_bipush hx hb dX5_size_44 (by decide) ?_
    refine lv_aload_n hx hb dX5_size_46 rfl (lv_at hl 1 rfl) ?_
    refine zm_geta C hZ 33 (by decide) (by decide) q1174 dX5_size_47 ?_
    refine lv_iload_n hx hb dX5_size_50 rfl (lv_at hl 0 rfl) ?_
    obtain ⟨hg, hf⟩ := gd_inv hf
    refine zm_iald C hZ 33 (by decide) rfl rfl hg dX5_size_51 ?_
    refine zl_iadd hx hb dX5_size_52 ?_
    obtain ⟨hg, hf⟩ := gd_inv hf
    refine zm_iald C hZ 36 (by decide) rfl rfl hg dX5_size_53 ?_
    obtain rfl := Option.some.inj hf
    exact zm_iret C hZ hK dX5_size_54

theorem met_size (l : Launch) (D : va_G) (cI cZ : ClassId) (mo : Nat) (ad : Nat → Nat) {M : MS} {x1 : Int} {res : Int} (hf : m_size M x1 = some res) : Met l yX5_size (ws_ yX5_size cX5_size 3 (some .int)) ({ frames := 1, cells := 0, slots := 0, locals := 23 }) (PM D cI cZ mo ad M [.int (zI x1)]) (QM D cI cZ mo ad M (some (.int (zI res)))) 0 0 (MA mo ad) := by
  refine Met.ofW (cc := cX5_size) (maxL := 3) (ret := (some .int)) (by decide) rfl ?_
  intro p e s m args below meth c s₁ B hml hv
  obtain ⟨rfl, hRM, hK0⟩ := hv
  have hts := atoms_spec (ws := ws_ yX5_size cX5_size 3 (some .int)) B.pre
  have hts : ∀ w ∈ lw_all, w.before _ s = true := fun w h => hts w (List.mem_cons_of_mem _ h)
  have C : MC p s m _ meth c D cI cZ cX5_size 3 (some .int) := ⟨B.exec, B.bytes, B.returns, B.notSynchronized, hml, findClass_of_methodNamed B.named, hts, hK0⟩
  have hZ : ZM D cI cZ mo ad s.heap M s.heap [] := ⟨hRM, rfl, fun _ _ => rfl, fun _ h => by cases h⟩
  have hl := lv_entry ([.ref mo, .int (zI x1)]) (n := 3) (Nat.le_of_ble_eq_true rfl)
  rw [lg_entry_eq]
  generalize (lg_sl ([.ref mo, .int (zI x1)]) ++ List.replicate (3 - (lg_sl ([.ref mo, .int (zI x1)])).length) Slot.unset).toArray = ls at hl ⊢
  have hl : lv_has ls 3 [(0, .ref mo), (1, .int (zI x1))] := hl
  exact w_size C ⟨Nat.le_refl _, Nat.le_refl _⟩ hf hZ hl rfl

theorem w_endLine_61 {p : Program} {l : Launch} {e : Env} {R : Room} {s : State} {m : MethodId} {args : Array Value} {below : List Frame} {meth : Method} {c : Code} {Q : State → Prop} {D : va_G} {cI cZ : ClassId} {mo : Nat} {ad : Nat → Nat} {H : Heap} {locs : List Loc} {M : MS} (C : MC p s m args meth c D cI cZ cX5_endLine 3 none) (hR : 2 ≤ R.frames ∧ 45 ≤ R.locals) {x1 x2 : Int} {res : (MS × Int) ⊕ (MS)} (hf : m_endLine_61 M x1 x2 = some res) (hZ : ZM D cI cZ mo ad s.heap M H locs) {ls : Array Slot} (hl : lv_has ls 3 [(0, .ref mo), (1, .int (zI x1)), (2, .int (zI x2))]) (hK : (Sum.elim (fun z => ∀ (H : Heap) (locs : List Loc) (ls : Array Slot), ZM D cI cZ mo ad s.heap z.1 H locs → lv_has ls 3 [(0, .ref mo), (1, .int (zI x1)), (2, .int (zI z.2))] → W p l e R s m args below meth c H locs 0 0 Q (F0 m 5 ls [])) (fun r => KM below D cI cZ mo ad args s Q r none)) res) : W p l e R s m args below meth c H locs 0 0 Q (F0 m 61 ls []) := by
  unfold m_endLine_61 at hf
  have hx := C.1
  have hb := C.2.1
  have hts := C.2.2.2.2.2.2.1
  refine zl_iinc (x := x2) (n := 1) (lv' := [(2, .int (zI (x2 + 1))), (0, .ref mo), (1, .int (zI x1))]) (k := 2) hx hb dX5_endLine_61 hl rfl (by decide) rfl (fun ls hl => ?_)
  refine lv_goto (tgt := 5) hx hb dX5_endLine_64 (by decide) ?_
  obtain rfl := Option.some.inj hf
  exact hK _ _ _ hZ (lv_sub hl [1, 2, 0] rfl)

theorem w_endLine_67 {p : Program} {l : Launch} {e : Env} {R : Room} {s : State} {m : MethodId} {args : Array Value} {below : List Frame} {meth : Method} {c : Code} {Q : State → Prop} {D : va_G} {cI cZ : ClassId} {mo : Nat} {ad : Nat → Nat} {H : Heap} {locs : List Loc} {M : MS} (C : MC p s m args meth c D cI cZ cX5_endLine 3 none) (hR : 2 ≤ R.frames ∧ 45 ≤ R.locals) {x1 : Int} {res : MS} (hf : m_endLine_67 M x1 = some res) (hZ : ZM D cI cZ mo ad s.heap M H locs) {ls : Array Slot} (hl : lv_has ls 3 [(0, .ref mo), (1, .int (zI x1))]) (hK : KM below D cI cZ mo ad args s Q res none) : W p l e R s m args below meth c H locs 0 0 Q (F0 m 67 ls []) := by
  unfold m_endLine_67 at hf
  have hx := C.1
  have hb := C.2.1
  have hts := C.2.2.2.2.2.2.1
  refine lv_aload_n hx hb dX5_endLine_67 rfl (lv_at hl 0 rfl) ?_
  refine lv_dup hx hb dX5_endLine_68 rfl ?_
  refine zm_geti C hZ 53 (by decide) rfl q1194 dX5_endLine_69 ?_
  refine lv_aload_n hx hb dX5_endLine_72 rfl (lv_at hl 0 rfl) ?_
  refine zm_geti C hZ 56 (by decide) rfl q1197 dX5_endLine_73 ?_
  refine zl_iadd hx hb dX5_endLine_76 ?_
  obtain ⟨M4, eM4, hf⟩ := bnd_inv hf
  refine zm_puti C hZ 53 (by decide) rfl rfl q1194 dX5_endLine_77 (fun H locs hZ => ?_)
  rw [← eM4] at hZ
  refine lv_aload_n hx hb dX5_endLine_80 rfl (lv_at hl 0 rfl) ?_
  refine lv_dup hx hb dX5_endLine_81 rfl ?_
  refine zm_geti C hZ 39 (by decide) rfl q1180 dX5_endLine_82 ?_
  refine zl_iconst hx hb dX5_endLine_85 ?_
  refine zl_iadd hx hb dX5_endLine_86 ?_
  obtain ⟨M5, eM5, hf⟩ := bnd_inv hf
  refine zm_puti C hZ 39 (by decide) rfl rfl q1180 dX5_endLine_87 (fun H locs hZ => ?_)
  rw [← eM5] at hZ
  refine lv_aload_n hx hb dX5_endLine_90 rfl (lv_at hl 0 rfl) ?_
  refine lv_iload_n hx hb dX5_endLine_91 rfl (lv_at hl 1 rfl) ?_
  obtain ⟨y6, ey6, hf⟩ := bd_inv hf
  refine zm_callV C hZ (n := 1) (rest := []) (met_newLine l D cI cZ mo ad ey6) (lw_V q1564 q1566 qs81 q107 q1567) rfl rfl (by decide +kernel) ⟨Nat.le_trans (by decide) hR.1, Nat.le_trans (by decide) hR.2⟩ rfl hl.1 rfl (Nat.le_of_ble_eq_true rfl) dX5_endLine_92 (fun H locs hZ => ?_)
  obtain rfl := Option.some.inj hf
  exact zm_vret C hZ hK dX5_endLine_95

theorem w_endLine_5s {p : Program} {l : Launch} {e : Env} {R : Room} {s : State} {m : MethodId} {args : Array Value} {below : List Frame} {meth : Method} {c : Code} {Q : State → Prop} {D : va_G} {cI cZ : ClassId} {mo : Nat} {ad : Nat → Nat} {H : Heap} {locs : List Loc} {M : MS} (C : MC p s m args meth c D cI cZ cX5_endLine 3 none) (hR : 2 ≤ R.frames ∧ 45 ≤ R.locals) {x1 x2 : Int} {res : (MS × Int) ⊕ (MS)} (hf : m_endLine_5s M x1 x2 = some res) (hZ : ZM D cI cZ mo ad s.heap M H locs) {ls : Array Slot} (hl : lv_has ls 3 [(0, .ref mo), (1, .int (zI x1)), (2, .int (zI x2))]) (hK : (Sum.elim (fun z => ∀ (H : Heap) (locs : List Loc) (ls : Array Slot), ZM D cI cZ mo ad s.heap z.1 H locs → lv_has ls 3 [(0, .ref mo), (1, .int (zI x1)), (2, .int (zI z.2))] → W p l e R s m args below meth c H locs 0 0 Q (F0 m 5 ls [])) (fun r => KM below D cI cZ mo ad args s Q r none)) res) : W p l e R s m args below meth c H locs 0 0 Q (F0 m 5 ls []) := by
  unfold m_endLine_5s at hf
  have hx := C.1
  have hb := C.2.1
  have hts := C.2.2.2.2.2.2.1
  refine lv_iload_n hx hb dX5_endLine_5 rfl (lv_at hl 2 rfl) ?_
  refine lv_iload_n hx hb dX5_endLine_6 rfl (lv_at hl 1 rfl) ?_
  refine zl_icmp_ge (tgt := 67) hx hb dX5_endLine_7 (by decide) (fun hc => ?_) (fun hc => ?_)
  · rw [if_pos hc] at hf
    refine lv_aload_n hx hb dX5_endLine_10 rfl (lv_at hl 0 rfl) ?_
    refine zm_geta C hZ 51 (by decide) (by decide) q1192 dX5_endLine_11 ?_
    refine lv_iload_n hx hb dX5_endLine_14 rfl (lv_at hl 2 rfl) ?_
    obtain ⟨hg, hf⟩ := gd_inv hf
    refine zm_iald C hZ 51 (by decide) rfl rfl hg dX5_endLine_15 ?_
    refine zl_if_lt (tgt := 61) hx hb dX5_endLine_16 (by decide) (fun hc => ?_) (fun hc => ?_)
    · rw [if_pos hc] at hf
      exact w_endLine_61 C hR hf hZ (lv_sub hl [0, 1, 2] rfl) hK
    · rw [if_neg hc] at hf
      refine lv_aload_n hx hb dX5_endLine_19 rfl (lv_at hl 0 rfl) ?_
      refine zm_geta C hZ 18 (by decide) (by decide) q1159 dX5_endLine_20 ?_
      refine lv_aload_n hx hb dX5_endLine_23 rfl (lv_at hl 0 rfl) ?_
      refine zm_geta C hZ 51 (by decide) (by decide) q1192 dX5_endLine_24 ?_
      refine lv_iload_n hx hb dX5_endLine_27 rfl (lv_at hl 2 rfl) ?_
      obtain ⟨hg, hf⟩ := gd_inv hf
      refine zm_iald C hZ 51 (by decide) rfl rfl hg dX5_endLine_28 ?_
      obtain ⟨hg, hf⟩ := gd_inv hf
      refine zm_iald C hZ 18 (by decide) rfl rfl hg dX5_endLine_29 ?_
      refine zl_bipush hx hb dX5_endLine_30 (by decide) ?_
      refine zl_icmp_eq (tgt := 61) hx hb dX5_endLine_32 (by decide) (fun hc => ?_) (fun hc => ?_)
      · rw [if_pos hc] at hf
        exact w_endLine_61 C hR hf hZ (lv_sub hl [0, 1, 2] rfl) hK
      · rw [if_neg hc] at hf
        refine lv_aload_n hx hb dX5_endLine_35 rfl (lv_at hl 0 rfl) ?_
        refine zm_geta C hZ 49 (by decide) (by decide) q1190 dX5_endLine_36 ?_
        refine lv_aload_n hx hb dX5_endLine_39 rfl (lv_at hl 0 rfl) ?_
        refine zm_geta C hZ 51 (by decide) (by decide) q1192 dX5_endLine_40 ?_
        refine lv_iload_n hx hb dX5_endLine_43 rfl (lv_at hl 2 rfl) ?_
        obtain ⟨hg, hf⟩ := gd_inv hf
        refine zm_iald C hZ 51 (by decide) rfl rfl hg dX5_endLine_44 ?_
        refine lv_aload_n hx hb dX5_endLine_45 rfl (lv_at hl 0 rfl) ?_
        refine zm_geti C hZ 53 (by decide) rfl q1194 dX5_endLine_46 ?_
        refine lv_aload_n hx hb dX5_endLine_49 rfl (lv_at hl 0 rfl) ?_
        refine zm_geti C hZ 56 (by decide) rfl q1197 dX5_endLine_50 ?_
        refine zl_iadd hx hb dX5_endLine_53 ?_
        refine lv_aload_n hx hb dX5_endLine_54 rfl (lv_at hl 0 rfl) ?_
        refine lv_iload_n hx hb dX5_endLine_55 rfl (lv_at hl 2 rfl) ?_
        obtain ⟨y2, ey2, hf⟩ := bd_inv hf
        refine zm_callV C hZ (n := 1) (rest := [.int (zI ((M.1 53) + (M.1 56))), .int (zI (M.2 51 (zix x2))), .ref (ad 49)]) (met_size l D cI cZ mo ad ey2) (lw_V q1572 q1574 qs83 q107 q1575) rfl rfl (by decide +kernel) ⟨Nat.le_trans (by decide) hR.1, Nat.le_trans (by decide) hR.2⟩ rfl hl.1 rfl (Nat.le_of_ble_eq_true rfl) dX5_endLine_56 (fun H locs hZ => ?_)
        refine zl_isub hx hb dX5_endLine_59 ?_
        obtain ⟨hg, hf⟩ := gd_inv hf
        obtain ⟨M3, eM3, hf⟩ := bnd_inv hf
        refine zm_iast C hZ 49 (by decide) rfl rfl hg dX5_endLine_60 (fun H locs hZ => ?_)
        rw [← eM3] at hZ
        exact w_endLine_61 C hR hf hZ (lv_sub hl [0, 1, 2] rfl) hK
  · rw [if_neg hc] at hf
    obtain ⟨r0, hm0, rfl⟩ := mr_inv hf
    exact w_endLine_67 C hR hm0 hZ (lv_sub hl [0, 1] rfl) hK

theorem w_endLine_5 {p : Program} {l : Launch} {e : Env} {R : Room} {s : State} {m : MethodId} {args : Array Value} {below : List Frame} {meth : Method} {c : Code} {Q : State → Prop} {D : va_G} {cI cZ : ClassId} {mo : Nat} {ad : Nat → Nat} {H : Heap} {locs : List Loc} {M : MS} (C : MC p s m args meth c D cI cZ cX5_endLine 3 none) (hR : 2 ≤ R.frames ∧ 45 ≤ R.locals) {x1 x2 : Int} {res : MS} (hf : m_endLine_5 M x1 x2 = some res) (hZ : ZM D cI cZ mo ad s.heap M H locs) {ls : Array Slot} (hl : lv_has ls 3 [(0, .ref mo), (1, .int (zI x1)), (2, .int (zI x2))]) (hK : KM below D cI cZ mo ad args s Q res none) : W p l e R s m args below meth c H locs 0 0 Q (F0 m 5 ls []) := by
  unfold m_endLine_5 at hf
  refine iter_ind (P := fun z r => ∀ (H : Heap) (locs : List Loc) (ls : Array Slot), ZM D cI cZ mo ad s.heap z.1 H locs → lv_has ls 3 [(0, .ref mo), (1, .int (zI x1)), (2, .int (zI z.2))] → KM below D cI cZ mo ad args s Q r none → W p l e R s m args below meth c H locs 0 0 Q (F0 m 5 ls [])) ?_ ?_ hf H locs ls hZ hl hK
  · intro z r h1 H locs ls hZ hl hK; exact w_endLine_5s C hR h1 hZ hl hK
  · intro z z1 r h1 ih H locs ls hZ hl hK; exact w_endLine_5s C hR h1 hZ hl (fun H locs ls hZ hl => ih H locs ls hZ hl hK)

theorem w_endLine {p : Program} {l : Launch} {e : Env} {R : Room} {s : State} {m : MethodId} {args : Array Value} {below : List Frame} {meth : Method} {c : Code} {Q : State → Prop} {D : va_G} {cI cZ : ClassId} {mo : Nat} {ad : Nat → Nat} {H : Heap} {locs : List Loc} {M : MS} (C : MC p s m args meth c D cI cZ cX5_endLine 3 none) (hR : 2 ≤ R.frames ∧ 45 ≤ R.locals) {x1 : Int} {res : MS} (hf : m_endLine M x1 = some res) (hZ : ZM D cI cZ mo ad s.heap M H locs) {ls : Array Slot} (hl : lv_has ls 3 [(0, .ref mo), (1, .int (zI x1))]) (hK : KM below D cI cZ mo ad args s Q res none) : W p l e R s m args below meth c H locs 0 0 Q (F0 m 0 ls []) := by
  unfold m_endLine at hf
  have hx := C.1
  have hb := C.2.1
  have hts := C.2.2.2.2.2.2.1
  refine lv_aload_n hx hb dX5_endLine_0 rfl (lv_at hl 0 rfl) ?_
  refine zm_geti C hZ 54 (by decide) rfl q1195 dX5_endLine_1 ?_
  obtain ⟨y1, ey1, hf⟩ := bnd_inv hf
  refine zl_top ey1 ?_
  refine lv_istore_n (lv' := [(2, .int (zI y1)), (0, .ref mo), (1, .int (zI x1))]) hx hb dX5_endLine_4 rfl hl (by decide) rfl (fun ls hl => ?_)
  exact w_endLine_5 C hR hf hZ (lv_sub hl [1, 2, 0] rfl) hK

theorem met_endLine (l : Launch) (D : va_G) (cI cZ : ClassId) (mo : Nat) (ad : Nat → Nat) {M : MS} {x1 : Int} {res : MS} (hf : m_endLine M x1 = some res) : Met l yX5_endLine (ws_ yX5_endLine cX5_endLine 3 none) ({ frames := 2, cells := 0, slots := 0, locals := 45 }) (PM D cI cZ mo ad M [.int (zI x1)]) (QM D cI cZ mo ad res none) 0 0 (MA mo ad) := by
  refine Met.ofW (cc := cX5_endLine) (maxL := 3) (ret := none) (by decide) rfl ?_
  intro p e s m args below meth c s₁ B hml hv
  obtain ⟨rfl, hRM, hK0⟩ := hv
  have hts := atoms_spec (ws := ws_ yX5_endLine cX5_endLine 3 none) B.pre
  have hts : ∀ w ∈ lw_all, w.before _ s = true := fun w h => hts w (List.mem_cons_of_mem _ h)
  have C : MC p s m _ meth c D cI cZ cX5_endLine 3 none := ⟨B.exec, B.bytes, B.returns, B.notSynchronized, hml, findClass_of_methodNamed B.named, hts, hK0⟩
  have hZ : ZM D cI cZ mo ad s.heap M s.heap [] := ⟨hRM, rfl, fun _ _ => rfl, fun _ h => by cases h⟩
  have hl := lv_entry ([.ref mo, .int (zI x1)]) (n := 3) (Nat.le_of_ble_eq_true rfl)
  rw [lg_entry_eq]
  generalize (lg_sl ([.ref mo, .int (zI x1)]) ++ List.replicate (3 - (lg_sl ([.ref mo, .int (zI x1)])).length) Slot.unset).toArray = ls at hl ⊢
  have hl : lv_has ls 3 [(0, .ref mo), (1, .int (zI x1))] := hl
  exact w_endLine C ⟨Nat.le_refl _, Nat.le_refl _⟩ hf hZ hl rfl

