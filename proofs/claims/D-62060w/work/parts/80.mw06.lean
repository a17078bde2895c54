set_option maxRecDepth 100000
theorem w_putWord_44 {p : Program} {l : Launch} {e : Env} {R : Room} {s : State} {m : MethodId} {args : Array Value} {below : List Frame} {meth : Method} {c : Code} {Q : State → Prop} {D : va_G} {cI cZ : ClassId} {mo : Nat} {ad : Nat → Nat} {H : Heap} {locs : List Loc} {M : MS} (C : MC p s m args meth c D cI cZ cX5_putWord 9 none) (hR : 3 ≤ R.frames ∧ 67 ≤ R.locals) {x1 x2 x3 x4 x5 x7 t0 : Int} {res : (Int × Int × Int) ⊕ (MS)} (hf : m_putWord_44 M x1 x2 x3 x4 x5 x7 t0 = some res) (hZ : ZM D cI cZ mo ad s.heap M H locs) {ls : Array Slot} (hl : lv_has ls 9 [(0, .ref mo), (1, .int (zI x1)), (2, .int (zI x2)), (3, .int (zI x3)), (4, .int (zI x4)), (5, .int (zI x5)), (7, .int (zI x7))]) (hK : (Sum.elim (fun z => ∀ (H : Heap) (locs : List Loc) (ls : Array Slot), ZM D cI cZ mo ad s.heap M H locs → lv_has ls 9 [(0, .ref mo), (1, .int (zI x1)), (2, .int (zI x2)), (3, .int (zI x3)), (4, .int (zI x4)), (5, .int (zI z.1)), (6, .int (zI z.2.1)), (7, .int (zI z.2.2))] → W p l e R s m args below meth c H locs 0 0 Q (F0 m 9 ls [])) (fun r => KM below D cI cZ mo ad args s Q r none)) res) : W p l e R s m args below meth c H locs 0 0 Q (F0 m 44 ls [.int (zI t0)]) := by
  unfold m_putWord_44 at hf
  have hx := C.1
  have hb := C.2.1
  have hts := C.2.2.2.2.2.2.1
  refine lv_istore (lv' := [(6, .int (zI t0)), (0, .ref mo), (1, .int (zI x1)), (2, .int (zI x2)), (3, .int (zI x3)), (4, .int (zI x4)), (5, .int (zI x5)), (7, .int (zI x7))]) hx hb dX5_putWord_44 hl (by decide) rfl (fun ls hl => ?_)
  refine zl_iinc (x := x7) (n := 1) (lv' := [(7, .int (zI (x7 + 1))), (6, .int (zI t0)), (0, .ref mo), (1, .int (zI x1)), (2, .int (zI x2)), (3, .int (zI x3)), (4, .int (zI x4)), (5, .int (zI x5))]) (k := 7) hx hb dX5_putWord_46 hl rfl (by decide) rfl (fun ls hl => ?_)
  refine lv_goto (tgt := 9) hx hb dX5_putWord_49 (by decide) ?_
  obtain rfl := Option.some.inj hf
  exact hK _ _ _ hZ (lv_sub hl [2, 3, 4, 5, 6, 7, 1, 0] rfl)

theorem w_putWord_208 {p : Program} {l : Launch} {e : Env} {R : Room} {s : State} {m : MethodId} {args : Array Value} {below : List Frame} {meth : Method} {c : Code} {Q : State → Prop} {D : va_G} {cI cZ : ClassId} {mo : Nat} {ad : Nat → Nat} {H : Heap} {locs : List Loc} {M : MS} (C : MC p s m args meth c D cI cZ cX5_putWord 9 none) (hR : 3 ≤ R.frames ∧ 67 ≤ R.locals) {t0 : Int} {res : MS} (hf : m_putWord_208 M t0 = some res) (hZ : ZM D cI cZ mo ad s.heap M H locs) {ls : Array Slot} (hl : lv_has ls 9 [(0, .ref mo)]) (hK : KM below D cI cZ mo ad args s Q res none) : W p l e R s m args below meth c H locs 0 0 Q (F0 m 208 ls [.int (zI t0), .ref mo]) := by
  unfold m_putWord_208 at hf
  have hx := C.1
  have hb := C.2.1
  have hts := C.2.2.2.2.2.2.1
  obtain ⟨M10, eM10, hf⟩ := bnd_inv hf
  refine zm_puti C hZ 56 (by decide) rfl rfl q1197 dX5_putWord_208 (fun H locs hZ => ?_)
  rw [← eM10] at hZ
  refine lv_aload_n hx hb dX5_putWord_211 rfl (lv_at hl 0 rfl) ?_
  refine zl_iconst hx hb dX5_putWord_212 ?_
  obtain ⟨M11, eM11, hf⟩ := bnd_inv hf
  refine zm_putb C hZ 57 (by decide) rfl rfl zisB_1 q1198 dX5_putWord_213 (fun H locs hZ => ?_)
  rw [← eM11] at hZ
  obtain rfl := Option.some.inj hf
  exact zm_vret C hZ hK dX5_putWord_216

theorem w_putWord_183 {p : Program} {l : Launch} {e : Env} {R : Room} {s : State} {m : MethodId} {args : Array Value} {below : List Frame} {meth : Method} {c : Code} {Q : State → Prop} {D : va_G} {cI cZ : ClassId} {mo : Nat} {ad : Nat → Nat} {H : Heap} {locs : List Loc} {M : MS} (C : MC p s m args meth c D cI cZ cX5_putWord 9 none) (hR : 3 ≤ R.frames ∧ 67 ≤ R.locals) {x6 x7 : Int} {res : MS} (hf : m_putWord_183 M x6 x7 = some res) (hZ : ZM D cI cZ mo ad s.heap M H locs) {ls : Array Slot} (hl : lv_has ls 9 [(0, .ref mo), (6, .int (zI x6)), (7, .int (zI x7))]) (hK : KM below D cI cZ mo ad args s Q res none) : W p l e R s m args below meth c H locs 0 0 Q (F0 m 183 ls []) := by
  unfold m_putWord_183 at hf
  have hx := C.1
  have hb := C.2.1
  have hts := C.2.2.2.2.2.2.1
  refine lv_aload_n hx hb dX5_putWord_183 rfl (lv_at hl 0 rfl) ?_
  refine lv_iload hx hb dX5_putWord_184 (lv_at hl 2 rfl) ?_
  obtain ⟨M9, eM9, hf⟩ := bnd_inv hf
  refine zm_puti C hZ 55 (by decide) rfl rfl q1196 dX5_putWord_186 (fun H locs hZ => ?_)
  rw [← eM9] at hZ
  refine lv_aload_n hx hb dX5_putWord_189 rfl (lv_at hl 0 rfl) ?_
  refine lv_iload hx hb dX5_putWord_190 (lv_at hl 1 rfl) ?_
  refine lv_aload_n hx hb dX5_putWord_192 rfl (lv_at hl 0 rfl) ?_
  refine zm_geti C hZ 56 (by decide) rfl q1197 dX5_putWord_193 ?_
  refine zl_icmp_le (tgt := 204) hx hb dX5_putWord_196 (by decide) (fun hc => ?_) (fun hc => ?_)
  · rw [if_pos hc] at hf
    refine lv_iload hx hb dX5_putWord_199 (lv_at hl 1 rfl) ?_
    refine lv_goto (tgt := 208) hx hb dX5_putWord_201 (by decide) ?_
    exact w_putWord_208 C hR hf hZ (lv_sub hl [0] rfl) hK
  · rw [if_neg hc] at hf
    refine lv_aload_n hx hb dX5_putWord_204 rfl (lv_at hl 0 rfl) ?_
    refine zm_geti C hZ 56 (by decide) rfl q1197 dX5_putWord_205 ?_
    exact w_putWord_208 C hR hf hZ (lv_sub hl [0] rfl) hK

theorem w_putWord_106s {p : Program} {l : Launch} {e : Env} {R : Room} {s : State} {m : MethodId} {args : Array Value} {below : List Frame} {meth : Method} {c : Code} {Q : State → Prop} {D : va_G} {cI cZ : ClassId} {mo : Nat} {ad : Nat → Nat} {H : Heap} {locs : List Loc} {M : MS} (C : MC p s m args meth c D cI cZ cX5_putWord 9 none) (hR : 3 ≤ R.frames ∧ 67 ≤ R.locals) {x1 x3 x6 x7 x8 : Int} {res : (MS × Int × Int) ⊕ (MS)} (hf : m_putWord_106s M x1 x3 x6 x7 x8 = some res) (hZ : ZM D cI cZ mo ad s.heap M H locs) {ls : Array Slot} (hl : lv_has ls 9 [(0, .ref mo), (1, .int (zI x1)), (3, .int (zI x3)), (6, .int (zI x6)), (7, .int (zI x7)), (8, .int (zI x8))]) (hK : (Sum.elim (fun z => ∀ (H : Heap) (locs : List Loc) (ls : Array Slot), ZM D cI cZ mo ad s.heap z.1 H locs → lv_has ls 9 [(0, .ref mo), (1, .int (zI x1)), (3, .int (zI x3)), (6, .int (zI x6)), (7, .int (zI z.2.1)), (8, .int (zI z.2.2))] → W p l e R s m args below meth c H locs 0 0 Q (F0 m 106 ls [])) (fun r => KM below D cI cZ mo ad args s Q r none)) res) : W p l e R s m args below meth c H locs 0 0 Q (F0 m 106 ls []) := by
  unfold m_putWord_106s at hf
  have hx := C.1
  have hb := C.2.1
  have hts := C.2.2.2.2.2.2.1
  refine lv_iload hx hb dX5_putWord_106 (lv_at hl 5 rfl) ?_
  refine lv_iload_n hx hb dX5_putWord_108 rfl (lv_at hl 2 rfl) ?_
  refine zl_icmp_ge (tgt := 183) hx hb dX5_putWord_109 (by decide) (fun hc => ?_) (fun hc => ?_)
  · rw [if_pos hc] at hf
    refine lv_aload_n hx hb dX5_putWord_112 rfl (lv_at hl 0 rfl) ?_
    refine zm_geta C hZ 47 (by decide) (by decide) q1188 dX5_putWord_113 ?_
    refine lv_aload_n hx hb dX5_putWord_116 rfl (lv_at hl 0 rfl) ?_
    refine zm_geta C hZ 51 (by decide) (by decide) q1192 dX5_putWord_117 ?_
    refine lv_iload hx hb dX5_putWord_120 (lv_at hl 5 rfl) ?_
    obtain ⟨hg, hf⟩ := gd_inv hf
    refine zm_iald C hZ 51 (by decide) rfl rfl hg dX5_putWord_122 ?_
    refine zl_iconst hx hb dX5_putWord_123 ?_
    obtain ⟨hg, hf⟩ := gd_inv hf
    obtain ⟨M3, eM3, hf⟩ := bnd_inv hf
    refine zm_zast C hZ 47 (by decide) rfl rfl hg zisB_1 dX5_putWord_124 (fun H locs hZ => ?_)
    rw [← eM3] at hZ
    refine lv_aload_n hx hb dX5_putWord_125 rfl (lv_at hl 0 rfl) ?_
    refine zm_geta C hZ 50 (by decide) (by decide) q1191 dX5_putWord_126 ?_
    refine lv_aload_n hx hb dX5_putWord_129 rfl (lv_at hl 0 rfl) ?_
    refine zm_geta C hZ 51 (by decide) (by decide) q1192 dX5_putWord_130 ?_
    refine lv_iload hx hb dX5_putWord_133 (lv_at hl 5 rfl) ?_
    obtain ⟨hg, hf⟩ := gd_inv hf
    refine zm_iald C hZ 51 (by decide) rfl rfl hg dX5_putWord_135 ?_
    refine lv_iload_n hx hb dX5_putWord_136 rfl (lv_at hl 1 rfl) ?_
    obtain ⟨hg, hf⟩ := gd_inv hf
    obtain ⟨M4, eM4, hf⟩ := bnd_inv hf
    refine zm_iast C hZ 50 (by decide) rfl rfl hg dX5_putWord_137 (fun H locs hZ => ?_)
    rw [← eM4] at hZ
    refine lv_aload_n hx hb dX5_putWord_138 rfl (lv_at hl 0 rfl) ?_
    refine zm_geta C hZ 48 (by decide) (by decide) q1189 dX5_putWord_139 ?_
    refine lv_aload_n hx hb dX5_putWord_142 rfl (lv_at hl 0 rfl) ?_
    refine zm_geta C hZ 51 (by decide) (by decide) q1192 dX5_putWord_143 ?_
    refine lv_iload hx hb dX5_putWord_146 (lv_at hl 5 rfl) ?_
    obtain ⟨hg, hf⟩ := gd_inv hf
    refine zm_iald C hZ 51 (by decide) rfl rfl hg dX5_putWord_148 ?_
    refine lv_aload_n hx hb dX5_putWord_149 rfl (lv_at hl 0 rfl) ?_
    refine zm_geta C hZ 43 (by decide) (by decide) q1184 dX5_putWord_150 ?_
    refine lv_iload_n hx hb dX5_putWord_153 rfl (lv_at hl 1 rfl) ?_
    obtain ⟨hg, hf⟩ := gd_inv hf
    refine zm_iald C hZ 43 (by decide) rfl rfl hg dX5_putWord_154 ?_
    refine lv_aload_n hx hb dX5_putWord_155 rfl (lv_at hl 0 rfl) ?_
    refine lv_iload_n hx hb dX5_putWord_156 rfl (lv_at hl 1 rfl) ?_
    refine zl_iconst hx hb dX5_putWord_157 ?_
    obtain ⟨y5, ey5, hf⟩ := bd_inv hf
    refine zm_callV C hZ (n := 2) (rest := [.int (zI (M4.2 43 (zix x1))), .int (zI (M4.2 51 (zix x8))), .ref (ad 48)]) (met_border l D cI cZ mo ad ey5) (lw_V q1544 q1546 qs76 q107 q1547) rfl rfl (by decide +kernel) ⟨Nat.le_trans (by decide) hR.1, Nat.le_trans (by decide) hR.2⟩ rfl hl.1 rfl (Nat.le_of_ble_eq_true rfl) dX5_putWord_158 (fun H locs hZ => ?_)
    refine zl_iadd hx hb dX5_putWord_161 ?_
    refine lv_iload hx hb dX5_putWord_162 (lv_at hl 4 rfl) ?_
    refine zl_iadd hx hb dX5_putWord_164 ?_
    obtain ⟨hg, hf⟩ := gd_inv hf
    obtain ⟨M6, eM6, hf⟩ := bnd_inv hf
    refine zm_iast C hZ 48 (by decide) rfl rfl hg dX5_putWord_165 (fun H locs hZ => ?_)
    rw [← eM6] at hZ
    refine lv_iload hx hb dX5_putWord_166 (lv_at hl 4 rfl) ?_
    refine lv_aload_n hx hb dX5_putWord_168 rfl (lv_at hl 0 rfl) ?_
    refine lv_iload hx hb dX5_putWord_169 (lv_at hl 5 rfl) ?_
    obtain ⟨y7, ey7, hf⟩ := bd_inv hf
    refine zm_callV C hZ (n := 1) (rest := [.int (zI x7)]) (met_size l D cI cZ mo ad ey7) (lw_V q1572 q1574 qs83 q107 q1575) rfl rfl (by decide +kernel) ⟨Nat.le_trans (by decide) hR.1, Nat.le_trans (by decide) hR.2⟩ rfl hl.1 rfl (Nat.le_of_ble_eq_true rfl) dX5_putWord_171 (fun H locs hZ => ?_)
    refine zl_iadd hx hb dX5_putWord_174 ?_
    obtain ⟨y8, ey8, hf⟩ := bnd_inv hf
    refine zl_top ey8 ?_
    refine lv_istore (lv' := [(7, .int (zI y8)), (0, .ref mo), (1, .int (zI x1)), (3, .int (zI x3)), (6, .int (zI x6)), (8, .int (zI x8))]) hx hb dX5_putWord_175 hl (by decide) rfl (fun ls hl => ?_)
    refine zl_iinc (x := x8) (n := 1) (lv' := [(8, .int (zI (x8 + 1))), (7, .int (zI y8)), (0, .ref mo), (1, .int (zI x1)), (3, .int (zI x3)), (6, .int (zI x6))]) (k := 5) hx hb dX5_putWord_177 hl rfl (by decide) rfl (fun ls hl => ?_)
    refine lv_goto (tgt := 106) hx hb dX5_putWord_180 (by decide) ?_
    obtain rfl := Option.some.inj hf
    exact hK _ _ _ hZ (lv_sub hl [2, 3, 4, 5, 1, 0] rfl)
  · rw [if_neg hc] at hf
    obtain ⟨r0, hm0, rfl⟩ := mr_inv hf
    exact w_putWord_183 C hR hm0 hZ (lv_sub hl [0, 3, 4] rfl) hK

theorem w_putWord_106 {p : Program} {l : Launch} {e : Env} {R : Room} {s : State} {m : MethodId} {args : Array Value} {below : List Frame} {meth : Method} {c : Code} {Q : State → Prop} {D : va_G} {cI cZ : ClassId} {mo : Nat} {ad : Nat → Nat} {H : Heap} {locs : List Loc} {M : MS} (C : MC p s m args meth c D cI cZ cX5_putWord 9 none) (hR : 3 ≤ R.frames ∧ 67 ≤ R.locals) {x1 x3 x6 x7 x8 : Int} {res : MS} (hf : m_putWord_106 M x1 x3 x6 x7 x8 = some res) (hZ : ZM D cI cZ mo ad s.heap M H locs) {ls : Array Slot} (hl : lv_has ls 9 [(0, .ref mo), (1, .int (zI x1)), (3, .int (zI x3)), (6, .int (zI x6)), (7, .int (zI x7)), (8, .int (zI x8))]) (hK : KM below D cI cZ mo ad args s Q res none) : W p l e R s m args below meth c H locs 0 0 Q (F0 m 106 ls []) := by
  unfold m_putWord_106 at hf
  refine iter_ind (P := fun z r => ∀ (H : Heap) (locs : List Loc) (ls : Array Slot), ZM D cI cZ mo ad s.heap z.1 H locs → lv_has ls 9 [(0, .ref mo), (1, .int (zI x1)), (3, .int (zI x3)), (6, .int (zI x6)), (7, .int (zI z.2.1)), (8, .int (zI z.2.2))] → KM below D cI cZ mo ad args s Q r none → W p l e R s m args below meth c H locs 0 0 Q (F0 m 106 ls [])) ?_ ?_ hf H locs ls hZ hl hK
  · intro z r h1 H locs ls hZ hl hK; exact w_putWord_106s C hR h1 hZ hl hK
  · intro z z1 r h1 ih H locs ls hZ hl hK; exact w_putWord_106s C hR h1 hZ hl (fun H locs ls hZ hl => ih H locs ls hZ hl hK)

theorem w_putWord_101 {p : Program} {l : Launch} {e : Env} {R : Room} {s : State} {m : MethodId} {args : Array Value} {below : List Frame} {meth : Method} {c : Code} {Q : State → Prop} {D : va_G} {cI cZ : ClassId} {mo : Nat} {ad : Nat → Nat} {H : Heap} {locs : List Loc} {M : MS} (C : MC p s m args meth c D cI cZ cX5_putWord 9 none) (hR : 3 ≤ R.frames ∧ 67 ≤ R.locals) {x1 x2 x3 x6 t0 : Int} {res : MS} (hf : m_putWord_101 M x1 x2 x3 x6 t0 = some res) (hZ : ZM D cI cZ mo ad s.heap M H locs) {ls : Array Slot} (hl : lv_has ls 9 [(0, .ref mo), (1, .int (zI x1)), (2, .int (zI x2)), (3, .int (zI x3)), (6, .int (zI x6))]) (hK : KM below D cI cZ mo ad args s Q res none) : W p l e R s m args below meth c H locs 0 0 Q (F0 m 101 ls [.int (zI t0)]) := by
  unfold m_putWord_101 at hf
  have hx := C.1
  have hb := C.2.1
  have hts := C.2.2.2.2.2.2.1
  refine lv_istore (lv' := [(7, .int (zI t0)), (0, .ref mo), (1, .int (zI x1)), (2, .int (zI x2)), (3, .int (zI x3)), (6, .int (zI x6))]) hx hb dX5_putWord_101 hl (by decide) rfl (fun ls hl => ?_)
  refine lv_iload_n hx hb dX5_putWord_103 rfl (lv_at hl 3 rfl) ?_
  refine lv_istore (lv' := [(8, .int (zI x2)), (7, .int (zI t0)), (0, .ref mo), (1, .int (zI x1)), (2, .int (zI x2)), (3, .int (zI x3)), (6, .int (zI x6))]) hx hb dX5_putWord_104 hl (by decide) rfl (fun ls hl => ?_)
  exact w_putWord_106 C hR hf hZ (lv_sub hl [2, 3, 5, 6, 1, 0] rfl) hK

theorem w_putWord_83 {p : Program} {l : Launch} {e : Env} {R : Room} {s : State} {m : MethodId} {args : Array Value} {below : List Frame} {meth : Method} {c : Code} {Q : State → Prop} {D : va_G} {cI cZ : ClassId} {mo : Nat} {ad : Nat → Nat} {H : Heap} {locs : List Loc} {M : MS} (C : MC p s m args meth c D cI cZ cX5_putWord 9 none) (hR : 3 ≤ R.frames ∧ 67 ≤ R.locals) {x1 x2 x3 x4 x6 : Int} {res : MS} (hf : m_putWord_83 M x1 x2 x3 x4 x6 = some res) (hZ : ZM D cI cZ mo ad s.heap M H locs) {ls : Array Slot} (hl : lv_has ls 9 [(0, .ref mo), (1, .int (zI x1)), (2, .int (zI x2)), (3, .int (zI x3)), (4, .int (zI x4)), (6, .int (zI x6))]) (hK : KM below D cI cZ mo ad args s Q res none) : W p l e R s m args below meth c H locs 0 0 Q (F0 m 83 ls []) := by
  unfold m_putWord_83 at hf
  have hx := C.1
  have hb := C.2.1
  have hts := C.2.2.2.2.2.2.1
  refine lv_aload_n hx hb dX5_putWord_83 rfl (lv_at hl 0 rfl) ?_
  refine zm_geti C hZ 57 (by decide) rfl q1198 dX5_putWord_84 ?_
  refine zl_if_eq (tgt := 100) hx hb dX5_putWord_87 (by decide) (fun hc => ?_) (fun hc => ?_)
  · rw [if_pos hc] at hf
    refine zl_iconst hx hb dX5_putWord_100 ?_
    exact w_putWord_101 C hR hf hZ (lv_sub hl [0, 1, 2, 3, 5] rfl) hK
  · rw [if_neg hc] at hf
    refine lv_aload_n hx hb dX5_putWord_90 rfl (lv_at hl 0 rfl) ?_
    refine zm_geti C hZ 55 (by decide) rfl q1196 dX5_putWord_91 ?_
    refine lv_iload hx hb dX5_putWord_94 (lv_at hl 4 rfl) ?_
    refine zl_iadd hx hb dX5_putWord_96 ?_
    refine lv_goto (tgt := 101) hx hb dX5_putWord_97 (by decide) ?_
    exact w_putWord_101 C hR hf hZ (lv_sub hl [0, 1, 2, 3, 5] rfl) hK

theorem w_putWord_52 {p : Program} {l : Launch} {e : Env} {R : Room} {s : State} {m : MethodId} {args : Array Value} {below : List Frame} {meth : Method} {c : Code} {Q : State → Prop} {D : va_G} {cI cZ : ClassId} {mo : Nat} {ad : Nat → Nat} {H : Heap} {locs : List Loc} {M : MS} (C : MC p s m args meth c D cI cZ cX5_putWord 9 none) (hR : 3 ≤ R.frames ∧ 67 ≤ R.locals) {x1 x2 x3 x4 x5 x6 : Int} {res : MS} (hf : m_putWord_52 M x1 x2 x3 x4 x5 x6 = some res) (hZ : ZM D cI cZ mo ad s.heap M H locs) {ls : Array Slot} (hl : lv_has ls 9 [(0, .ref mo), (1, .int (zI x1)), (2, .int (zI x2)), (3, .int (zI x3)), (4, .int (zI x4)), (5, .int (zI x5)), (6, .int (zI x6))]) (hK : KM below D cI cZ mo ad args s Q res none) : W p l e R s m args below meth c H locs 0 0 Q (F0 m 52 ls []) := by
  unfold m_putWord_52 at hf
  have hx := C.1
  have hb := C.2.1
  have hts := C.2.2.2.2.2.2.1
  refine lv_aload_n hx hb dX5_putWord_52 rfl (lv_at hl 0 rfl) ?_
  refine zm_geti C hZ 57 (by decide) rfl q1198 dX5_putWord_53 ?_
  refine zl_if_eq (tgt := 83) hx hb dX5_putWord_56 (by decide) (fun hc => ?_) (fun hc => ?_)
  · rw [if_pos hc] at hf
    exact w_putWord_83 C hR hf hZ (lv_sub hl [0, 1, 2, 3, 4, 6] rfl) hK
  · rw [if_neg hc] at hf
    refine lv_aload_n hx hb dX5_putWord_59 rfl (lv_at hl 0 rfl) ?_
    refine zm_geti C hZ 55 (by decide) rfl q1196 dX5_putWord_60 ?_
    refine lv_iload hx hb dX5_putWord_63 (lv_at hl 4 rfl) ?_
    refine zl_iadd hx hb dX5_putWord_65 ?_
    refine lv_iload hx hb dX5_putWord_66 (lv_at hl 5 rfl) ?_
    refine zl_iadd hx hb dX5_putWord_68 ?_
    refine lv_aload_n hx hb dX5_putWord_69 rfl (lv_at hl 0 rfl) ?_
    refine zm_geta C hZ 44 (by decide) (by decide) q1185 dX5_putWord_70 ?_
    refine lv_iload_n hx hb dX5_putWord_73 rfl (lv_at hl 1 rfl) ?_
    obtain ⟨hg, hf⟩ := gd_inv hf
    refine zm_iald C hZ 44 (by decide) rfl rfl hg dX5_putWord_74 ?_
    refine zl_icmp_le (tgt := 83) hx hb dX5_putWord_75 (by decide) (fun hc => ?_) (fun hc => ?_)
    · rw [if_pos hc] at hf
      refine lv_aload_n hx hb dX5_putWord_78 rfl (lv_at hl 0 rfl) ?_
      refine lv_iload_n hx hb dX5_putWord_79 rfl (lv_at hl 2 rfl) ?_
      obtain ⟨y3, ey3, hf⟩ := bd_inv hf
      refine zm_callV C hZ (n := 1) (rest := []) (met_endLine l D cI cZ mo ad ey3) (lw_V q1576 q1578 qs84 q107 q1579) rfl rfl (by decide +kernel) ⟨Nat.le_trans (by decide) hR.1, Nat.le_trans (by decide) hR.2⟩ rfl hl.1 rfl (Nat.le_of_ble_eq_true rfl) dX5_putWord_80 (fun H locs hZ => ?_)
      exact w_putWord_83 C hR hf hZ (lv_sub hl [0, 1, 2, 3, 4, 6] rfl) hK
    · rw [if_neg hc] at hf
      exact w_putWord_83 C hR hf hZ (lv_sub hl [0, 1, 2, 3, 4, 6] rfl) hK

theorem w_putWord_9s {p : Program} {l : Launch} {e : Env} {R : Room} {s : State} {m : MethodId} {args : Array Value} {below : List Frame} {meth : Method} {c : Code} {Q : State → Prop} {D : va_G} {cI cZ : ClassId} {mo : Nat} {ad : Nat → Nat} {H : Heap} {locs : List Loc} {M : MS} (C : MC p s m args meth c D cI cZ cX5_putWord 9 none) (hR : 3 ≤ R.frames ∧ 67 ≤ R.locals) {x1 x2 x3 x4 x5 x6 x7 : Int} {res : (Int × Int × Int) ⊕ (MS)} (hf : m_putWord_9s M x1 x2 x3 x4 x5 x6 x7 = some res) (hZ : ZM D cI cZ mo ad s.heap M H locs) {ls : Array Slot} (hl : lv_has ls 9 [(0, .ref mo), (1, .int (zI x1)), (2, .int (zI x2)), (3, .int (zI x3)), (4, .int (zI x4)), (5, .int (zI x5)), (6, .int (zI x6)), (7, .int (zI x7))]) (hK : (Sum.elim (fun z => ∀ (H : Heap) (locs : List Loc) (ls : Array Slot), ZM D cI cZ mo ad s.heap M H locs → lv_has ls 9 [(0, .ref mo), (1, .int (zI x1)), (2, .int (zI x2)), (3, .int (zI x3)), (4, .int (zI x4)), (5, .int (zI z.1)), (6, .int (zI z.2.1)), (7, .int (zI z.2.2))] → W p l e R s m args below meth c H locs 0 0 Q (F0 m 9 ls [])) (fun r => KM below D cI cZ mo ad args s Q r none)) res) : W p l e R s m args below meth c H locs 0 0 Q (F0 m 9 ls []) := by
  unfold m_putWord_9s at hf
  have hx := C.1
  have hb := C.2.1
  have hts := C.2.2.2.2.2.2.1
  refine lv_iload hx hb dX5_putWord_9 (lv_at hl 7 rfl) ?_
  refine lv_iload_n hx hb dX5_putWord_11 rfl (lv_at hl 3 rfl) ?_
  refine zl_icmp_ge (tgt := 52) hx hb dX5_putWord_12 (by decide) (fun hc => ?_) (fun hc => ?_)
  · rw [if_pos hc] at hf
    refine lv_aload_n hx hb dX5_putWord_15 rfl (lv_at hl 0 rfl) ?_
    refine lv_iload hx hb dX5_putWord_16 (lv_at hl 7 rfl) ?_
    obtain ⟨y1, ey1, hf⟩ := bd_inv hf
    refine zm_callV C hZ (n := 1) (rest := []) (met_size l D cI cZ mo ad ey1) (lw_V q1572 q1574 qs83 q107 q1575) rfl rfl (by decide +kernel) ⟨Nat.le_trans (by decide) hR.1, Nat.le_trans (by decide) hR.2⟩ rfl hl.1 rfl (Nat.le_of_ble_eq_true rfl) dX5_putWord_18 (fun H locs hZ => ?_)
    refine lv_istore (lv' := [(8, .int (zI y1)), (0, .ref mo), (1, .int (zI x1)), (2, .int (zI x2)), (3, .int (zI x3)), (4, .int (zI x4)), (5, .int (zI x5)), (6, .int (zI x6)), (7, .int (zI x7))]) hx hb dX5_putWord_21 hl (by decide) rfl (fun ls hl => ?_)
    refine lv_iload hx hb dX5_putWord_23 (lv_at hl 6 rfl) ?_
    refine lv_iload hx hb dX5_putWord_25 (lv_at hl 0 rfl) ?_
    refine zl_iadd hx hb dX5_putWord_27 ?_
    obtain ⟨y2, ey2, hf⟩ := bnd_inv hf
    refine zl_top ey2 ?_
    refine lv_istore (lv' := [(5, .int (zI y2)), (8, .int (zI y1)), (0, .ref mo), (1, .int (zI x1)), (2, .int (zI x2)), (3, .int (zI x3)), (4, .int (zI x4)), (6, .int (zI x6)), (7, .int (zI x7))]) hx hb dX5_putWord_28 hl (by decide) rfl (fun ls hl => ?_)
    refine lv_iload hx hb dX5_putWord_30 (lv_at hl 1 rfl) ?_
    refine lv_iload hx hb dX5_putWord_32 (lv_at hl 7 rfl) ?_
    refine zl_icmp_le (tgt := 42) hx hb dX5_putWord_34 (by decide) (fun hc => ?_) (fun hc => ?_)
    · rw [if_pos hc] at hf
      refine lv_iload hx hb dX5_putWord_37 (lv_at hl 1 rfl) ?_
      refine lv_goto (tgt := 44) hx hb dX5_putWord_39 (by decide) ?_
      exact w_putWord_44 C hR hf hZ (lv_sub hl [2, 3, 4, 5, 6, 0, 8] rfl) hK
    · rw [if_neg hc] at hf
      refine lv_iload hx hb dX5_putWord_42 (lv_at hl 7 rfl) ?_
      exact w_putWord_44 C hR hf hZ (lv_sub hl [2, 3, 4, 5, 6, 0, 8] rfl) hK
  · rw [if_neg hc] at hf
    obtain ⟨r0, hm0, rfl⟩ := mr_inv hf
    exact w_putWord_52 C hR hm0 hZ (lv_sub hl [0, 1, 2, 3, 4, 5, 6] rfl) hK

theorem w_putWord_9 {p : Program} {l : Launch} {e : Env} {R : Room} {s : State} {m : MethodId} {args : Array Value} {below : List Frame} {meth : Method} {c : Code} {Q : State → Prop} {D : va_G} {cI cZ : ClassId} {mo : Nat} {ad : Nat → Nat} {H : Heap} {locs : List Loc} {M : MS} (C : MC p s m args meth c D cI cZ cX5_putWord 9 none) (hR : 3 ≤ R.frames ∧ 67 ≤ R.locals) {x1 x2 x3 x4 x5 x6 x7 : Int} {res : MS} (hf : m_putWord_9 M x1 x2 x3 x4 x5 x6 x7 = some res) (hZ : ZM D cI cZ mo ad s.heap M H locs) {ls : Array Slot} (hl : lv_has ls 9 [(0, .ref mo), (1, .int (zI x1)), (2, .int (zI x2)), (3, .int (zI x3)), (4, .int (zI x4)), (5, .int (zI x5)), (6, .int (zI x6)), (7, .int (zI x7))]) (hK : KM below D cI cZ mo ad args s Q res none) : W p l e R s m args below meth c H locs 0 0 Q (F0 m 9 ls []) := by
  unfold m_putWord_9 at hf
  refine iter_ind (P := fun z r => ∀ (H : Heap) (locs : List Loc) (ls : Array Slot), ZM D cI cZ mo ad s.heap M H locs → lv_has ls 9 [(0, .ref mo), (1, .int (zI x1)), (2, .int (zI x2)), (3, .int (zI x3)), (4, .int (zI x4)), (5, .int (zI z.1)), (6, .int (zI z.2.1)), (7, .int (zI z.2.2))] → KM below D cI cZ mo ad args s Q r none → W p l e R s m args below meth c H locs 0 0 Q (F0 m 9 ls [])) ?_ ?_ hf H locs ls hZ hl hK
  · intro z r h1 H locs ls hZ hl hK; exact w_putWord_9s C hR h1 hZ hl hK
  · intro z z1 r h1 ih H locs ls hZ hl hK; exact w_putWord_9s C hR h1 hZ hl (fun H locs ls hZ hl => ih H locs ls hZ hl hK)

theorem w_putWord {p : Program} {l : Launch} {e : Env} {R : Room} {s : State} {m : MethodId} {args : Array Value} {below : List Frame} {meth : Method} {c : Code} {Q : State → Prop} {D : va_G} {cI cZ : ClassId} {mo : Nat} {ad : Nat → Nat} {H : Heap} {locs : List Loc} {M : MS} (C : MC p s m args meth c D cI cZ cX5_putWord 9 none) (hR : 3 ≤ R.frames ∧ 67 ≤ R.locals) {x1 x2 x3 x4 : Int} {res : MS} (hf : m_putWord M x1 x2 x3 x4 = some res) (hZ : ZM D cI cZ mo ad s.heap M H locs) {ls : Array Slot} (hl : lv_has ls 9 [(0, .ref mo), (1, .int (zI x1)), (2, .int (zI x2)), (3, .int (zI x3)), (4, .int (zI x4))]) (hK : KM below D cI cZ mo ad args s Q res none) : W p l e R s m args below meth c H locs 0 0 Q (F0 m 0 ls []) := by
  unfold m_putWord at hf
  have hx := C.1
  have hb := C.2.1
  have hts := C.2.2.2.2.2.2.1
  refine zl_iconst hx hb dX5_putWord_0 ?_
  refine lv_istore (lv' := [(5, .int (zI 0)), (0, .ref mo), (1, .int (zI x1)), (2, .int (zI x2)), (3, .int (zI x3)), (4, .int (zI x4))]) hx hb dX5_putWord_1 hl (by decide) rfl (fun ls hl => ?_)
  refine zl_iconst hx hb dX5_putWord_3 ?_
  refine lv_istore (lv' := [(6, .int (zI 0)), (5, .int (zI 0)), (0, .ref mo), (1, .int (zI x1)), (2, .int (zI x2)), (3, .int (zI x3)), (4, .int (zI x4))]) hx hb dX5_putWord_4 hl (by decide) rfl (fun ls hl => ?_)
  refine lv_iload_n hx hb dX5_putWord_6 rfl (lv_at hl 4 rfl) ?_
  refine lv_istore (lv' := [(7, .int (zI x2)), (6, .int (zI 0)), (5, .int (zI 0)), (0, .ref mo), (1, .int (zI x1)), (2, .int (zI x2)), (3, .int (zI x3)), (4, .int (zI x4))]) hx hb dX5_putWord_7 hl (by decide) rfl (fun ls hl => ?_)
  exact w_putWord_9 C hR hf hZ (lv_sub hl [3, 4, 5, 6, 7, 2, 1, 0] rfl) hK

theorem met_putWord (l : Launch) (D : va_G) (cI cZ : ClassId) (mo : Nat) (ad : Nat → Nat) {M : MS} {x1 x2 x3 x4 : Int} {res : MS} (hf : m_putWord M x1 x2 x3 x4 = some res) : Met l yX5_putWord (ws_ yX5_putWord cX5_putWord 9 none) ({ frames := 3, cells := 0, slots := 0, locals := 67 }) (PM D cI cZ mo ad M [.int (zI x1), .int (zI x2), .int (zI x3), .int (zI x4)]) (QM D cI cZ mo ad res none) 0 0 (MA mo ad) := by
  refine Met.ofW (cc := cX5_putWord) (maxL := 9) (ret := none) (by decide) rfl ?_
  intro p e s m args below meth c s₁ B hml hv
  obtain ⟨rfl, hRM, hK0⟩ := hv
  have hts := atoms_spec (ws := ws_ yX5_putWord cX5_putWord 9 none) B.pre
  have hts : ∀ w ∈ lw_all, w.before _ s = true := fun w h => hts w (List.mem_cons_of_mem _ h)
  have C : MC p s m _ meth c D cI cZ cX5_putWord 9 none := ⟨B.exec, B.bytes, B.returns, B.notSynchronized, hml, findClass_of_methodNamed B.named, hts, hK0⟩
  have hZ : ZM D cI cZ mo ad s.heap M s.heap [] := ⟨hRM, rfl, fun _ _ => rfl, fun _ h => by cases h⟩
  have hl := lv_entry ([.ref mo, .int (zI x1), .int (zI x2), .int (zI x3), .int (zI x4)]) (n := 9) (Nat.le_of_ble_eq_true rfl)
  rw [lg_entry_eq]
  generalize (lg_sl ([.ref mo, .int (zI x1), .int (zI x2), .int (zI x3), .int (zI x4)]) ++ List.replicate (9 - (lg_sl ([.ref mo, .int (zI x1), .int (zI x2), .int (zI x3), .int (zI x4)])).length) Slot.unset).toArray = ls at hl ⊢
  have hl : lv_has ls 9 [(0, .ref mo), (1, .int (zI x1)), (2, .int (zI x2)), (3, .int (zI x3)), (4, .int (zI x4))] := hl
  exact w_putWord C ⟨Nat.le_refl _, Nat.le_refl _⟩ hf hZ hl rfl

theorem w_lay_206 {p : Program} {l : Launch} {e : Env} {R : Room} {s : State} {m : MethodId} {args : Array Value} {below : List Frame} {meth : Method} {c : Code} {Q : State → Prop} {D : va_G} {cI cZ : ClassId} {mo : Nat} {ad : Nat → Nat} {H : Heap} {locs : List Loc} {M : MS} (C : MC p s m args meth c D cI cZ cX5_lay 8 (some .int)) (hR : 4 ≤ R.frames ∧ 95 ≤ R.locals) {res : MS × Int} (hf : m_lay_206 M = some res) (hZ : ZM D cI cZ mo ad s.heap M H locs) {ls : Array Slot} (hl : lv_has ls 8 [(0, .ref mo)]) (hK : KM below D cI cZ mo ad args s Q res.1 (some (.int (zI res.2)))) : W p l e R s m args below meth c H locs 0 0 Q (F0 m 206 ls []) := by
  unfold m_lay_206 at hf
  have hx := C.1
  have hb := C.2.1
  have hts := C.2.2.2.2.2.2.1
  refine lv_aload_n hx hb dX5_lay_206 rfl (lv_at hl 0 rfl) ?_
  refine zm_geti C hZ 53 (by decide) rfl q1194 dX5_lay_207 ?_
  obtain rfl := Option.some.inj hf
  exact zm_iret C hZ hK dX5_lay_210

theorem w_lay_191 {p : Program} {l : Launch} {e : Env} {R : Room} {s : State} {m : MethodId} {args : Array Value} {below : List Frame} {meth : Method} {c : Code} {Q : State → Prop} {D : va_G} {cI cZ : ClassId} {mo : Nat} {ad : Nat → Nat} {H : Heap} {locs : List Loc} {M : MS} (C : MC p s m args meth c D cI cZ cX5_lay 8 (some .int)) (hR : 4 ≤ R.frames ∧ 95 ≤ R.locals) {res : MS × Int} (hf : m_lay_191 M = some res) (hZ : ZM D cI cZ mo ad s.heap M H locs) {ls : Array Slot} (hl : lv_has ls 8 [(0, .ref mo)]) (hK : KM below D cI cZ mo ad args s Q res.1 (some (.int (zI res.2)))) : W p l e R s m args below meth c H locs 0 0 Q (F0 m 191 ls []) := by
  unfold m_lay_191 at hf
  have hx := C.1
  have hb := C.2.1
  have hts := C.2.2.2.2.2.2.1
  refine lv_aload_n hx hb dX5_lay_191 rfl (lv_at hl 0 rfl) ?_
  refine zm_geti C hZ 57 (by decide) rfl q1198 dX5_lay_192 ?_
  refine zl_if_eq (tgt := 206) hx hb dX5_lay_195 (by decide) (fun hc => ?_) (fun hc => ?_)
  · rw [if_pos hc] at hf
    exact w_lay_206 C hR hf hZ (lv_sub hl [0] rfl) hK
  · rw [if_neg hc] at hf
    refine lv_aload_n hx hb dX5_lay_198 rfl (lv_at hl 0 rfl) ?_
    refine lv_aload_n hx hb dX5_lay_199 rfl (lv_at hl 0 rfl) ?_
    refine zm_geti C hZ 52 (by decide) rfl q1193 dX5_lay_200 ?_
    obtain ⟨y3, ey3, hf⟩ := bd_inv hf
    refine zm_callV C hZ (n := 1) (rest := []) (met_endLine l D cI cZ mo ad ey3) (lw_V q1576 q1578 qs84 q107 q1579) rfl rfl (by decide +kernel) ⟨Nat.le_trans (by decide) hR.1, Nat.le_trans (by decide) hR.2⟩ rfl hl.1 rfl (Nat.le_of_ble_eq_true rfl) dX5_lay_203 (fun H locs hZ => ?_)
    exact w_lay_206 C hR hf hZ (lv_sub hl [0] rfl) hK

theorem w_lay_185 {p : Program} {l : Launch} {e : Env} {R : Room} {s : State} {m : MethodId} {args : Array Value} {below : List Frame} {meth : Method} {c : Code} {Q : State → Prop} {D : va_G} {cI cZ : ClassId} {mo : Nat} {ad : Nat → Nat} {H : Heap} {locs : List Loc} {M : MS} (C : MC p s m args meth c D cI cZ cX5_lay 8 (some .int)) (hR : 4 ≤ R.frames ∧ 95 ≤ R.locals) {x1 x3 x4 x5 : Int} {res : (MS × Int × Int × Int) ⊕ (MS × Int)} (hf : m_lay_185 M x1 x3 x4 x5 = some res) (hZ : ZM D cI cZ mo ad s.heap M H locs) {ls : Array Slot} (hl : lv_has ls 8 [(0, .ref mo), (1, .int (zI x1)), (3, .int (zI x3)), (4, .int (zI x4)), (5, .int (zI x5))]) (hK : (Sum.elim (fun z => ∀ (H : Heap) (locs : List Loc) (ls : Array Slot), ZM D cI cZ mo ad s.heap z.1 H locs → lv_has ls 8 [(0, .ref mo), (1, .int (zI x1)), (3, .int (zI z.2.1)), (4, .int (zI z.2.2.1)), (5, .int (zI z.2.2.2))] → W p l e R s m args below meth c H locs 0 0 Q (F0 m 18 ls [])) (fun r => KM below D cI cZ mo ad args s Q r.1 (some (.int (zI r.2))))) res) : W p l e R s m args below meth c H locs 0 0 Q (F0 m 185 ls []) := by
  unfold m_lay_185 at hf
  have hx := C.1
  have hb := C.2.1
  have hts := C.2.2.2.2.2.2.1
  refine zl_iinc (x := x5) (n := 1) (lv' := [(5, .int (zI (x5 + 1))), (0, .ref mo), (1, .int (zI x1)), (3, .int (zI x3)), (4, .int (zI x4))]) (k := 4) hx hb dX5_lay_185 hl rfl (by decide) rfl (fun ls hl => ?_)
  refine lv_goto (tgt := 18) hx hb dX5_lay_188 (by decide) ?_
  obtain rfl := Option.some.inj hf
  exact hK _ _ _ hZ (lv_sub hl [1, 2, 3, 4, 0] rfl)

theorem w_lay_174 {p : Program} {l : Launch} {e : Env} {R : Room} {s : State} {m : MethodId} {args : Array Value} {below : List Frame} {meth : Method} {c : Code} {Q : State → Prop} {D : va_G} {cI cZ : ClassId} {mo : Nat} {ad : Nat → Nat} {H : Heap} {locs : List Loc} {M : MS} (C : MC p s m args meth c D cI cZ cX5_lay 8 (some .int)) (hR : 4 ≤ R.frames ∧ 95 ≤ R.locals) {x1 x3 x4 x5 : Int} {res : (MS × Int × Int × Int) ⊕ (MS × Int)} (hf : m_lay_174 M x1 x3 x4 x5 = some res) (hZ : ZM D cI cZ mo ad s.heap M H locs) {ls : Array Slot} (hl : lv_has ls 8 [(0, .ref mo), (1, .int (zI x1)), (3, .int (zI x3)), (4, .int (zI x4)), (5, .int (zI x5))]) (hK : (Sum.elim (fun z => ∀ (H : Heap) (locs : List Loc) (ls : Array Slot), ZM D cI cZ mo ad s.heap z.1 H locs → lv_has ls 8 [(0, .ref mo), (1, .int (zI x1)), (3, .int (zI z.2.1)), (4, .int (zI z.2.2.1)), (5, .int (zI z.2.2.2))] → W p l e R s m args below meth c H locs 0 0 Q (F0 m 18 ls [])) (fun r => KM below D cI cZ mo ad args s Q r.1 (some (.int (zI r.2))))) res) : W p l e R s m args below meth c H locs 0 0 Q (F0 m 174 ls []) := by
  unfold m_lay_174 at hf
  have hx := C.1
  have hb := C.2.1
  have hts := C.2.2.2.2.2.2.1
  refine lv_aload_n hx hb dX5_lay_174 rfl (lv_at hl 0 rfl) ?_
  refine zl_iconst hx hb dX5_lay_175 ?_
  obtain ⟨M7, eM7, hf⟩ := bnd_inv hf
  refine zm_putb C hZ 57 (by decide) rfl rfl zisB_1 q1198 dX5_lay_176 (fun H locs hZ => ?_)
  rw [← eM7] at hZ
  refine lv_aload_n hx hb dX5_lay_179 rfl (lv_at hl 0 rfl) ?_
  refine lv_iload hx hb dX5_lay_180 (lv_at hl 4 rfl) ?_
  obtain ⟨y8, ey8, hf⟩ := bd_inv hf
  refine zm_callV C hZ (n := 1) (rest := []) (met_endLine l D cI cZ mo ad ey8) (lw_V q1576 q1578 qs84 q107 q1579) rfl rfl (by decide +kernel) ⟨Nat.le_trans (by decide) hR.1, Nat.le_trans (by decide) hR.2⟩ rfl hl.1 rfl (Nat.le_of_ble_eq_true rfl) dX5_lay_182 (fun H locs hZ => ?_)
  exact w_lay_185 C hR hf hZ (lv_sub hl [0, 1, 2, 3, 4] rfl) hK

theorem w_lay_152 {p : Program} {l : Launch} {e : Env} {R : Room} {s : State} {m : MethodId} {args : Array Value} {below : List Frame} {meth : Method} {c : Code} {Q : State → Prop} {D : va_G} {cI cZ : ClassId} {mo : Nat} {ad : Nat → Nat} {H : Heap} {locs : List Loc} {M : MS} (C : MC p s m args meth c D cI cZ cX5_lay 8 (some .int)) (hR : 4 ≤ R.frames ∧ 95 ≤ R.locals) {x1 x3 x4 x5 x6 : Int} {res : (MS × Int × Int × Int) ⊕ (MS × Int)} (hf : m_lay_152 M x1 x3 x4 x5 x6 = some res) (hZ : ZM D cI cZ mo ad s.heap M H locs) {ls : Array Slot} (hl : lv_has ls 8 [(0, .ref mo), (1, .int (zI x1)), (3, .int (zI x3)), (4, .int (zI x4)), (5, .int (zI x5)), (6, .int (zI x6))]) (hK : (Sum.elim (fun z => ∀ (H : Heap) (locs : List Loc) (ls : Array Slot), ZM D cI cZ mo ad s.heap z.1 H locs → lv_has ls 8 [(0, .ref mo), (1, .int (zI x1)), (3, .int (zI z.2.1)), (4, .int (zI z.2.2.1)), (5, .int (zI z.2.2.2))] → W p l e R s m args below meth c H locs 0 0 Q (F0 m 18 ls [])) (fun r => KM below D cI cZ mo ad args s Q r.1 (some (.int (zI r.2))))) res) : W p l e R s m args below meth c H locs 0 0 Q (F0 m 152 ls []) := by
  unfold m_lay_152 at hf
  have hx := C.1
  have hb := C.2.1
  have hts := C.2.2.2.2.2.2.1
  refine lv_iload hx hb dX5_lay_152 (lv_at hl 5 rfl) ?_
  refine zl_if_eq (tgt := 185) hx hb dX5_lay_154 (by decide) (fun hc => ?_) (fun hc => ?_)
  · rw [if_pos hc] at hf
    exact w_lay_185 C hR hf hZ (lv_sub hl [0, 1, 2, 3, 4] rfl) hK
  · rw [if_neg hc] at hf
    refine lv_aload_n hx hb dX5_lay_157 rfl (lv_at hl 0 rfl) ?_
    refine zm_geti C hZ 57 (by decide) rfl q1198 dX5_lay_158 ?_
    refine zl_if_ne (tgt := 174) hx hb dX5_lay_161 (by decide) (fun hc => ?_) (fun hc => ?_)
    · rw [if_pos hc] at hf
      refine lv_aload_n hx hb dX5_lay_164 rfl (lv_at hl 0 rfl) ?_
      refine lv_aload_n hx hb dX5_lay_165 rfl (lv_at hl 0 rfl) ?_
      refine lv_iload hx hb dX5_lay_166 (lv_at hl 4 rfl) ?_
      obtain ⟨y5, ey5, hf⟩ := bd_inv hf
      refine zm_callV C hZ (n := 1) (rest := [.ref mo]) (met_size l D cI cZ mo ad ey5) (lw_V q1572 q1574 qs83 q107 q1575) rfl rfl (by decide +kernel) ⟨Nat.le_trans (by decide) hR.1, Nat.le_trans (by decide) hR.2⟩ rfl hl.1 rfl (Nat.le_of_ble_eq_true rfl) dX5_lay_168 (fun H locs hZ => ?_)
      obtain ⟨M6, eM6, hf⟩ := bnd_inv hf
      refine zm_puti C hZ 56 (by decide) rfl rfl q1197 dX5_lay_171 (fun H locs hZ => ?_)
      rw [← eM6] at hZ
      exact w_lay_174 C hR hf hZ (lv_sub hl [0, 1, 2, 3, 4] rfl) hK
    · rw [if_neg hc] at hf
      exact w_lay_174 C hR hf hZ (lv_sub hl [0, 1, 2, 3, 4] rfl) hK

theorem w_lay_134 {p : Program} {l : Launch} {e : Env} {R : Room} {s : State} {m : MethodId} {args : Array Value} {below : List Frame} {meth : Method} {c : Code} {Q : State → Prop} {D : va_G} {cI cZ : ClassId} {mo : Nat} {ad : Nat → Nat} {H : Heap} {locs : List Loc} {M : MS} (C : MC p s m args meth c D cI cZ cX5_lay 8 (some .int)) (hR : 4 ≤ R.frames ∧ 95 ≤ R.locals) {x1 x3 x4 x5 x6 x7 : Int} {res : (MS × Int × Int × Int) ⊕ (MS × Int)} (hf : m_lay_134 M x1 x3 x4 x5 x6 x7 = some res) (hZ : ZM D cI cZ mo ad s.heap M H locs) {ls : Array Slot} (hl : lv_has ls 8 [(0, .ref mo), (1, .int (zI x1)), (3, .int (zI x3)), (4, .int (zI x4)), (5, .int (zI x5)), (6, .int (zI x6)), (7, .int (zI x7))]) (hK : (Sum.elim (fun z => ∀ (H : Heap) (locs : List Loc) (ls : Array Slot), ZM D cI cZ mo ad s.heap z.1 H locs → lv_has ls 8 [(0, .ref mo), (1, .int (zI x1)), (3, .int (zI z.2.1)), (4, .int (zI z.2.2.1)), (5, .int (zI z.2.2.2))] → W p l e R s m args below meth c H locs 0 0 Q (F0 m 18 ls [])) (fun r => KM below D cI cZ mo ad args s Q r.1 (some (.int (zI r.2))))) res) : W p l e R s m args below meth c H locs 0 0 Q (F0 m 134 ls []) := by
  unfold m_lay_134 at hf
  have hx := C.1
  have hb := C.2.1
  have hts := C.2.2.2.2.2.2.1
  refine lv_iload hx hb dX5_lay_134 (lv_at hl 6 rfl) ?_
  refine zl_if_eq (tgt := 152) hx hb dX5_lay_136 (by decide) (fun hc => ?_) (fun hc => ?_)
  · rw [if_pos hc] at hf
    exact w_lay_152 C hR hf hZ (lv_sub hl [0, 1, 2, 3, 4, 5] rfl) hK
  · rw [if_neg hc] at hf
    refine lv_iload hx hb dX5_lay_139 (lv_at hl 3 rfl) ?_
    refine zl_if_ne (tgt := 152) hx hb dX5_lay_141 (by decide) (fun hc => ?_) (fun hc => ?_)
    · rw [if_pos hc] at hf
      refine lv_aload_n hx hb dX5_lay_144 rfl (lv_at hl 0 rfl) ?_
      refine lv_iload hx hb dX5_lay_145 (lv_at hl 4 rfl) ?_
      obtain ⟨y5, ey5, hf⟩ := bd_inv hf
      refine zm_callV C hZ (n := 1) (rest := []) (met_size l D cI cZ mo ad ey5) (lw_V q1572 q1574 qs83 q107 q1575) rfl rfl (by decide +kernel) ⟨Nat.le_trans (by decide) hR.1, Nat.le_trans (by decide) hR.2⟩ rfl hl.1 rfl (Nat.le_of_ble_eq_true rfl) dX5_lay_147 (fun H locs hZ => ?_)
      refine lv_istore (lv' := [(4, .int (zI y5)), (0, .ref mo), (1, .int (zI x1)), (3, .int (zI x3)), (5, .int (zI x5)), (6, .int (zI x6)), (7, .int (zI x7))]) hx hb dX5_lay_150 hl (by decide) rfl (fun ls hl => ?_)
      exact w_lay_152 C hR hf hZ (lv_sub hl [1, 2, 3, 0, 4, 5] rfl) hK
    · rw [if_neg hc] at hf
      exact w_lay_152 C hR hf hZ (lv_sub hl [0, 1, 2, 3, 4, 5] rfl) hK

theorem w_lay_129 {p : Program} {l : Launch} {e : Env} {R : Room} {s : State} {m : MethodId} {args : Array Value} {below : List Frame} {meth : Method} {c : Code} {Q : State → Prop} {D : va_G} {cI cZ : ClassId} {mo : Nat} {ad : Nat → Nat} {H : Heap} {locs : List Loc} {M : MS} (C : MC p s m args meth c D cI cZ cX5_lay 8 (some .int)) (hR : 4 ≤ R.frames ∧ 95 ≤ R.locals) {x1 x4 x5 x6 x7 : Int} {res : (MS × Int × Int × Int) ⊕ (MS × Int)} (hf : m_lay_129 M x1 x4 x5 x6 x7 = some res) (hZ : ZM D cI cZ mo ad s.heap M H locs) {ls : Array Slot} (hl : lv_has ls 8 [(0, .ref mo), (1, .int (zI x1)), (4, .int (zI x4)), (5, .int (zI x5)), (6, .int (zI x6)), (7, .int (zI x7))]) (hK : (Sum.elim (fun z => ∀ (H : Heap) (locs : List Loc) (ls : Array Slot), ZM D cI cZ mo ad s.heap z.1 H locs → lv_has ls 8 [(0, .ref mo), (1, .int (zI x1)), (3, .int (zI z.2.1)), (4, .int (zI z.2.2.1)), (5, .int (zI z.2.2.2))] → W p l e R s m args below meth c H locs 0 0 Q (F0 m 18 ls [])) (fun r => KM below D cI cZ mo ad args s Q r.1 (some (.int (zI r.2))))) res) : W p l e R s m args below meth c H locs 0 0 Q (F0 m 129 ls []) := by
  unfold m_lay_129 at hf
  have hx := C.1
  have hb := C.2.1
  have hts := C.2.2.2.2.2.2.1
  refine lv_iload hx hb dX5_lay_129 (lv_at hl 3 rfl) ?_
  refine zl_iconst hx hb dX5_lay_131 ?_
  refine zl_iadd hx hb dX5_lay_132 ?_
  obtain ⟨y4, ey4, hf⟩ := bnd_inv hf
  refine zl_top ey4 ?_
  refine lv_istore_n (lv' := [(3, .int (zI y4)), (0, .ref mo), (1, .int (zI x1)), (4, .int (zI x4)), (5, .int (zI x5)), (6, .int (zI x6)), (7, .int (zI x7))]) hx hb dX5_lay_133 rfl hl (by decide) rfl (fun ls hl => ?_)
  exact w_lay_134 C hR hf hZ (lv_sub hl [1, 2, 0, 3, 4, 5, 6] rfl) hK

theorem w_lay_110 {p : Program} {l : Launch} {e : Env} {R : Room} {s : State} {m : MethodId} {args : Array Value} {below : List Frame} {meth : Method} {c : Code} {Q : State → Prop} {D : va_G} {cI cZ : ClassId} {mo : Nat} {ad : Nat → Nat} {H : Heap} {locs : List Loc} {M : MS} (C : MC p s m args meth c D cI cZ cX5_lay 8 (some .int)) (hR : 4 ≤ R.frames ∧ 95 ≤ R.locals) {x1 x3 x4 x5 x6 x7 : Int} {res : (MS × Int × Int × Int) ⊕ (MS × Int)} (hf : m_lay_110 M x1 x3 x4 x5 x6 x7 = some res) (hZ : ZM D cI cZ mo ad s.heap M H locs) {ls : Array Slot} (hl : lv_has ls 8 [(0, .ref mo), (1, .int (zI x1)), (3, .int (zI x3)), (4, .int (zI x4)), (5, .int (zI x5)), (6, .int (zI x6)), (7, .int (zI x7))]) (hK : (Sum.elim (fun z => ∀ (H : Heap) (locs : List Loc) (ls : Array Slot), ZM D cI cZ mo ad s.heap z.1 H locs → lv_has ls 8 [(0, .ref mo), (1, .int (zI x1)), (3, .int (zI z.2.1)), (4, .int (zI z.2.2.1)), (5, .int (zI z.2.2.2))] → W p l e R s m args below meth c H locs 0 0 Q (F0 m 18 ls [])) (fun r => KM below D cI cZ mo ad args s Q r.1 (some (.int (zI r.2))))) res) : W p l e R s m args below meth c H locs 0 0 Q (F0 m 110 ls []) := by
  unfold m_lay_110 at hf
  have hx := C.1
  have hb := C.2.1
  have hts := C.2.2.2.2.2.2.1
  refine lv_iload hx hb dX5_lay_110 (lv_at hl 4 rfl) ?_
  refine lv_iload_n hx hb dX5_lay_112 rfl (lv_at hl 2 rfl) ?_
  refine zl_icmp_le (tgt := 129) hx hb dX5_lay_113 (by decide) (fun hc => ?_) (fun hc => ?_)
  · rw [if_pos hc] at hf
    refine lv_aload_n hx hb dX5_lay_116 rfl (lv_at hl 0 rfl) ?_
    refine lv_iload_n hx hb dX5_lay_117 rfl (lv_at hl 1 rfl) ?_
    refine lv_iload_n hx hb dX5_lay_118 rfl (lv_at hl 2 rfl) ?_
    refine lv_iload hx hb dX5_lay_119 (lv_at hl 4 rfl) ?_
    refine lv_iload hx hb dX5_lay_121 (lv_at hl 3 rfl) ?_
    obtain ⟨y3, ey3, hf⟩ := bd_inv hf
    refine zm_callV C hZ (n := 4) (rest := []) (met_putWord l D cI cZ mo ad ey3) (lw_V q1568 q1570 qs82 q107 q1571) rfl rfl (by decide +kernel) ⟨Nat.le_trans (by decide) hR.1, Nat.le_trans (by decide) hR.2⟩ rfl hl.1 rfl (Nat.le_of_ble_eq_true rfl) dX5_lay_123 (fun H locs hZ => ?_)
    refine zl_iconst hx hb dX5_lay_126 ?_
    refine lv_istore (lv' := [(4, .int (zI 0)), (0, .ref mo), (1, .int (zI x1)), (3, .int (zI x3)), (5, .int (zI x5)), (6, .int (zI x6)), (7, .int (zI x7))]) hx hb dX5_lay_127 hl (by decide) rfl (fun ls hl => ?_)
    exact w_lay_129 C hR hf hZ (lv_sub hl [1, 2, 0, 4, 5, 6] rfl) hK
  · rw [if_neg hc] at hf
    exact w_lay_129 C hR hf hZ (lv_sub hl [0, 1, 3, 4, 5, 6] rfl) hK

theorem w_lay_89 {p : Program} {l : Launch} {e : Env} {R : Room} {s : State} {m : MethodId} {args : Array Value} {below : List Frame} {meth : Method} {c : Code} {Q : State → Prop} {D : va_G} {cI cZ : ClassId} {mo : Nat} {ad : Nat → Nat} {H : Heap} {locs : List Loc} {M : MS} (C : MC p s m args meth c D cI cZ cX5_lay 8 (some .int)) (hR : 4 ≤ R.frames ∧ 95 ≤ R.locals) {x1 x3 x4 x5 x6 t0 : Int} {res : (MS × Int × Int × Int) ⊕ (MS × Int)} (hf : m_lay_89 M x1 x3 x4 x5 x6 t0 = some res) (hZ : ZM D cI cZ mo ad s.heap M H locs) {ls : Array Slot} (hl : lv_has ls 8 [(0, .ref mo), (1, .int (zI x1)), (3, .int (zI x3)), (4, .int (zI x4)), (5, .int (zI x5)), (6, .int (zI x6))]) (hK : (Sum.elim (fun z => ∀ (H : Heap) (locs : List Loc) (ls : Array Slot), ZM D cI cZ mo ad s.heap z.1 H locs → lv_has ls 8 [(0, .ref mo), (1, .int (zI x1)), (3, .int (zI z.2.1)), (4, .int (zI z.2.2.1)), (5, .int (zI z.2.2.2))] → W p l e R s m args below meth c H locs 0 0 Q (F0 m 18 ls [])) (fun r => KM below D cI cZ mo ad args s Q r.1 (some (.int (zI r.2))))) res) : W p l e R s m args below meth c H locs 0 0 Q (F0 m 89 ls [.int (zI t0)]) := by
  unfold m_lay_89 at hf
  have hx := C.1
  have hb := C.2.1
  have hts := C.2.2.2.2.2.2.1
  refine lv_istore (lv' := [(7, .int (zI t0)), (0, .ref mo), (1, .int (zI x1)), (3, .int (zI x3)), (4, .int (zI x4)), (5, .int (zI x5)), (6, .int (zI x6))]) hx hb dX5_lay_89 hl (by decide) rfl (fun ls hl => ?_)
  refine lv_iload hx hb dX5_lay_91 (lv_at hl 5 rfl) ?_
  refine lv_aload_n hx hb dX5_lay_93 rfl (lv_at hl 1 rfl) ?_
  refine zm_geti C hZ 52 (by decide) rfl q1193 dX5_lay_94 ?_
  refine zl_icmp_eq (tgt := 110) hx hb dX5_lay_97 (by decide) (fun hc => ?_) (fun hc => ?_)
  · rw [if_pos hc] at hf
    exact w_lay_110 C hR hf hZ (lv_sub hl [1, 2, 3, 4, 5, 6, 0] rfl) hK
  · rw [if_neg hc] at hf
    refine lv_iload hx hb dX5_lay_100 (lv_at hl 6 rfl) ?_
    refine zl_if_ne (tgt := 110) hx hb dX5_lay_102 (by decide) (fun hc => ?_) (fun hc => ?_)
    · rw [if_pos hc] at hf
      refine lv_iload hx hb dX5_lay_105 (lv_at hl 0 rfl) ?_
      refine zl_if_eq (tgt := 134) hx hb dX5_lay_107 (by decide) (fun hc => ?_) (fun hc => ?_)
      · rw [if_pos hc] at hf
        exact w_lay_134 C hR hf hZ (lv_sub hl [1, 2, 3, 4, 5, 6, 0] rfl) hK
      · rw [if_neg hc] at hf
        exact w_lay_110 C hR hf hZ (lv_sub hl [1, 2, 3, 4, 5, 6, 0] rfl) hK
    · rw [if_neg hc] at hf
      exact w_lay_110 C hR hf hZ (lv_sub hl [1, 2, 3, 4, 5, 6, 0] rfl) hK

theorem w_lay_88 {p : Program} {l : Launch} {e : Env} {R : Room} {s : State} {m : MethodId} {args : Array Value} {below : List Frame} {meth : Method} {c : Code} {Q : State → Prop} {D : va_G} {cI cZ : ClassId} {mo : Nat} {ad : Nat → Nat} {H : Heap} {locs : List Loc} {M : MS} (C : MC p s m args meth c D cI cZ cX5_lay 8 (some .int)) (hR : 4 ≤ R.frames ∧ 95 ≤ R.locals) {x1 x3 x4 x5 x6 : Int} {res : (MS × Int × Int × Int) ⊕ (MS × Int)} (hf : m_lay_88 M x1 x3 x4 x5 x6 = some res) (hZ : ZM D cI cZ mo ad s.heap M H locs) {ls : Array Slot} (hl : lv_has ls 8 [(0, .ref mo), (1, .int (zI x1)), (3, .int (zI x3)), (4, .int (zI x4)), (5, .int (zI x5)), (6, .int (zI x6))]) (hK : (Sum.elim (fun z => ∀ (H : Heap) (locs : List Loc) (ls : Array Slot), ZM D cI cZ mo ad s.heap z.1 H locs → lv_has ls 8 [(0, .ref mo), (1, .int (zI x1)), (3, .int (zI z.2.1)), (4, .int (zI z.2.2.1)), (5, .int (zI z.2.2.2))] → W p l e R s m args below meth c H locs 0 0 Q (F0 m 18 ls [])) (fun r => KM below D cI cZ mo ad args s Q r.1 (some (.int (zI r.2))))) res) : W p l e R s m args below meth c H locs 0 0 Q (F0 m 88 ls []) := by
  unfold m_lay_88 at hf
  have hx := C.1
  have hb := C.2.1
  have hts := C.2.2.2.2.2.2.1
  refine zl_iconst hx hb dX5_lay_88 ?_
  exact w_lay_89 C hR hf hZ (lv_sub hl [0, 1, 2, 3, 4, 5] rfl) hK

theorem w_lay_51 {p : Program} {l : Launch} {e : Env} {R : Room} {s : State} {m : MethodId} {args : Array Value} {below : List Frame} {meth : Method} {c : Code} {Q : State → Prop} {D : va_G} {cI cZ : ClassId} {mo : Nat} {ad : Nat → Nat} {H : Heap} {locs : List Loc} {M : MS} (C : MC p s m args meth c D cI cZ cX5_lay 8 (some .int)) (hR : 4 ≤ R.frames ∧ 95 ≤ R.locals) {x1 x3 x4 x5 t0 : Int} {res : (MS × Int × Int × Int) ⊕ (MS × Int)} (hf : m_lay_51 M x1 x3 x4 x5 t0 = some res) (hZ : ZM D cI cZ mo ad s.heap M H locs) {ls : Array Slot} (hl : lv_has ls 8 [(0, .ref mo), (1, .int (zI x1)), (3, .int (zI x3)), (4, .int (zI x4)), (5, .int (zI x5))]) (hK : (Sum.elim (fun z => ∀ (H : Heap) (locs : List Loc) (ls : Array Slot), ZM D cI cZ mo ad s.heap z.1 H locs → lv_has ls 8 [(0, .ref mo), (1, .int (zI x1)), (3, .int (zI z.2.1)), (4, .int (zI z.2.2.1)), (5, .int (zI z.2.2.2))] → W p l e R s m args below meth c H locs 0 0 Q (F0 m 18 ls [])) (fun r => KM below D cI cZ mo ad args s Q r.1 (some (.int (zI r.2))))) res) : W p l e R s m args below meth c H locs 0 0 Q (F0 m 51 ls [.int (zI t0)]) := by
  unfold m_lay_51 at hf
  have hx := C.1
  have hb := C.2.1
  have hts := C.2.2.2.2.2.2.1
  refine lv_istore (lv' := [(6, .int (zI t0)), (0, .ref mo), (1, .int (zI x1)), (3, .int (zI x3)), (4, .int (zI x4)), (5, .int (zI x5))]) hx hb dX5_lay_51 hl (by decide) rfl (fun ls hl => ?_)
  refine lv_iload hx hb dX5_lay_53 (lv_at hl 5 rfl) ?_
  refine lv_aload_n hx hb dX5_lay_55 rfl (lv_at hl 1 rfl) ?_
  refine zm_geti C hZ 52 (by decide) rfl q1193 dX5_lay_56 ?_
  refine zl_icmp_ge (tgt := 88) hx hb dX5_lay_59 (by decide) (fun hc => ?_) (fun hc => ?_)
  · rw [if_pos hc] at hf
    refine lv_iload hx hb dX5_lay_62 (lv_at hl 0 rfl) ?_
    refine zl_if_ne (tgt := 88) hx hb dX5_lay_64 (by decide) (fun hc => ?_) (fun hc => ?_)
    · rw [if_pos hc] at hf
      refine lv_aload_n hx hb dX5_lay_67 rfl (lv_at hl 1 rfl) ?_
      refine zm_geta C hZ 18 (by decide) (by decide) q1159 dX5_lay_68 ?_
      refine lv_aload_n hx hb dX5_lay_71 rfl (lv_at hl 1 rfl) ?_
      refine zm_geta C hZ 51 (by decide) (by decide) q1192 dX5_lay_72 ?_
      refine lv_iload hx hb dX5_lay_75 (lv_at hl 5 rfl) ?_
      obtain ⟨hg, hf⟩ := gd_inv hf
      refine zm_iald C hZ 51 (by decide) rfl rfl hg dX5_lay_77 ?_
      obtain ⟨hg, hf⟩ := gd_inv hf
      refine zm_iald C hZ 18 (by decide) rfl rfl hg dX5_lay_78 ?_
      refine zl_bipush hx hb dX5_lay_79 (by decide) ?_
      refine zl_icmp_ne (tgt := 88) hx hb dX5_lay_81 (by decide) (fun hc => ?_) (fun hc => ?_)
      · rw [if_pos hc] at hf
        refine zl_iconst hx hb dX5_lay_84 ?_
        refine lv_goto (tgt := 89) hx hb dX5_lay_85 (by decide) ?_
        exact w_lay_89 C hR hf hZ (lv_sub hl [1, 2, 3, 4, 5, 0] rfl) hK
      · rw [if_neg hc] at hf
        exact w_lay_88 C hR hf hZ (lv_sub hl [1, 2, 3, 4, 5, 0] rfl) hK
    · rw [if_neg hc] at hf
      exact w_lay_88 C hR hf hZ (lv_sub hl [1, 2, 3, 4, 5, 0] rfl) hK
  · rw [if_neg hc] at hf
    exact w_lay_88 C hR hf hZ (lv_sub hl [1, 2, 3, 4, 5, 0] rfl) hK

theorem w_lay_50 {p : Program} {l : Launch} {e : Env} {R : Room} {s : State} {m : MethodId} {args : Array Value} {below : List Frame} {meth : Method} {c : Code} {Q : State → Prop} {D : va_G} {cI cZ : ClassId} {mo : Nat} {ad : Nat → Nat} {H : Heap} {locs : List Loc} {M : MS} (C : MC p s m args meth c D cI cZ cX5_lay 8 (some .int)) (hR : 4 ≤ R.frames ∧ 95 ≤ R.locals) {x1 x3 x4 x5 : Int} {res : (MS × Int × Int × Int) ⊕ (MS × Int)} (hf : m_lay_50 M x1 x3 x4 x5 = some res) (hZ : ZM D cI cZ mo ad s.heap M H locs) {ls : Array Slot} (hl : lv_has ls 8 [(0, .ref mo), (1, .int (zI x1)), (3, .int (zI x3)), (4, .int (zI x4)), (5, .int (zI x5))]) (hK : (Sum.elim (fun z => ∀ (H : Heap) (locs : List Loc) (ls : Array Slot), ZM D cI cZ mo ad s.heap z.1 H locs → lv_has ls 8 [(0, .ref mo), (1, .int (zI x1)), (3, .int (zI z.2.1)), (4, .int (zI z.2.2.1)), (5, .int (zI z.2.2.2))] → W p l e R s m args below meth c H locs 0 0 Q (F0 m 18 ls [])) (fun r => KM below D cI cZ mo ad args s Q r.1 (some (.int (zI r.2))))) res) : W p l e R s m args below meth c H locs 0 0 Q (F0 m 50 ls []) := by
  unfold m_lay_50 at hf
  have hx := C.1
  have hb := C.2.1
  have hts := C.2.2.2.2.2.2.1
  refine zl_iconst hx hb dX5_lay_50 ?_
  exact w_lay_51 C hR hf hZ (lv_sub hl [0, 1, 2, 3, 4] rfl) hK

theorem w_lay_18s {p : Program} {l : Launch} {e : Env} {R : Room} {s : State} {m : MethodId} {args : Array Value} {below : List Frame} {meth : Method} {c : Code} {Q : State → Prop} {D : va_G} {cI cZ : ClassId} {mo : Nat} {ad : Nat → Nat} {H : Heap} {locs : List Loc} {M : MS} (C : MC p s m args meth c D cI cZ cX5_lay 8 (some .int)) (hR : 4 ≤ R.frames ∧ 95 ≤ R.locals) {x1 x3 x4 x5 : Int} {res : (MS × Int × Int × Int) ⊕ (MS × Int)} (hf : m_lay_18s M x1 x3 x4 x5 = some res) (hZ : ZM D cI cZ mo ad s.heap M H locs) {ls : Array Slot} (hl : lv_has ls 8 [(0, .ref mo), (1, .int (zI x1)), (3, .int (zI x3)), (4, .int (zI x4)), (5, .int (zI x5))]) (hK : (Sum.elim (fun z => ∀ (H : Heap) (locs : List Loc) (ls : Array Slot), ZM D cI cZ mo ad s.heap z.1 H locs → lv_has ls 8 [(0, .ref mo), (1, .int (zI x1)), (3, .int (zI z.2.1)), (4, .int (zI z.2.2.1)), (5, .int (zI z.2.2.2))] → W p l e R s m args below meth c H locs 0 0 Q (F0 m 18 ls [])) (fun r => KM below D cI cZ mo ad args s Q r.1 (some (.int (zI r.2))))) res) : W p l e R s m args below meth c H locs 0 0 Q (F0 m 18 ls []) := by
  unfold m_lay_18s at hf
  have hx := C.1
  have hb := C.2.1
  have hts := C.2.2.2.2.2.2.1
  refine lv_iload hx hb dX5_lay_18 (lv_at hl 4 rfl) ?_
  refine lv_aload_n hx hb dX5_lay_20 rfl (lv_at hl 0 rfl) ?_
  refine zm_geti C hZ 52 (by decide) rfl q1193 dX5_lay_21 ?_
  refine zl_icmp_gt (tgt := 191) hx hb dX5_lay_24 (by decide) (fun hc => ?_) (fun hc => ?_)
  · rw [if_pos hc] at hf
    obtain ⟨r0, hm0, rfl⟩ := mr_inv hf
    exact w_lay_191 C hR hm0 hZ (lv_sub hl [0] rfl) hK
  · rw [if_neg hc] at hf
    refine lv_iload hx hb dX5_lay_27 (lv_at hl 4 rfl) ?_
    refine lv_aload_n hx hb dX5_lay_29 rfl (lv_at hl 0 rfl) ?_
    refine zm_geti C hZ 52 (by decide) rfl q1193 dX5_lay_30 ?_
    refine zl_icmp_ge (tgt := 50) hx hb dX5_lay_33 (by decide) (fun hc => ?_) (fun hc => ?_)
    · rw [if_pos hc] at hf
      refine lv_aload_n hx hb dX5_lay_36 rfl (lv_at hl 0 rfl) ?_
      refine zm_geta C hZ 51 (by decide) (by decide) q1192 dX5_lay_37 ?_
      refine lv_iload hx hb dX5_lay_40 (lv_at hl 4 rfl) ?_
      obtain ⟨hg, hf⟩ := gd_inv hf
      refine zm_iald C hZ 51 (by decide) rfl rfl hg dX5_lay_42 ?_
      refine zl_if_ge (tgt := 50) hx hb dX5_lay_43 (by decide) (fun hc => ?_) (fun hc => ?_)
      · rw [if_pos hc] at hf
        refine zl_iconst hx hb dX5_lay_46 ?_
        refine lv_goto (tgt := 51) hx hb dX5_lay_47 (by decide) ?_
        exact w_lay_51 C hR hf hZ (lv_sub hl [0, 1, 2, 3, 4] rfl) hK
      · rw [if_neg hc] at hf
        exact w_lay_50 C hR hf hZ (lv_sub hl [0, 1, 2, 3, 4] rfl) hK
    · rw [if_neg hc] at hf
      exact w_lay_50 C hR hf hZ (lv_sub hl [0, 1, 2, 3, 4] rfl) hK

theorem w_lay_18 {p : Program} {l : Launch} {e : Env} {R : Room} {s : State} {m : MethodId} {args : Array Value} {below : List Frame} {meth : Method} {c : Code} {Q : State → Prop} {D : va_G} {cI cZ : ClassId} {mo : Nat} {ad : Nat → Nat} {H : Heap} {locs : List Loc} {M : MS} (C : MC p s m args meth c D cI cZ cX5_lay 8 (some .int)) (hR : 4 ≤ R.frames ∧ 95 ≤ R.locals) {x1 x3 x4 x5 : Int} {res : MS × Int} (hf : m_lay_18 M x1 x3 x4 x5 = some res) (hZ : ZM D cI cZ mo ad s.heap M H locs) {ls : Array Slot} (hl : lv_has ls 8 [(0, .ref mo), (1, .int (zI x1)), (3, .int (zI x3)), (4, .int (zI x4)), (5, .int (zI x5))]) (hK : KM below D cI cZ mo ad args s Q res.1 (some (.int (zI res.2)))) : W p l e R s m args below meth c H locs 0 0 Q (F0 m 18 ls []) := by
  unfold m_lay_18 at hf
  refine iter_ind (P := fun z r => ∀ (H : Heap) (locs : List Loc) (ls : Array Slot), ZM D cI cZ mo ad s.heap z.1 H locs → lv_has ls 8 [(0, .ref mo), (1, .int (zI x1)), (3, .int (zI z.2.1)), (4, .int (zI z.2.2.1)), (5, .int (zI z.2.2.2))] → KM below D cI cZ mo ad args s Q r.1 (some (.int (zI r.2))) → W p l e R s m args below meth c H locs 0 0 Q (F0 m 18 ls [])) ?_ ?_ hf H locs ls hZ hl hK
  · intro z r h1 H locs ls hZ hl hK; exact w_lay_18s C hR h1 hZ hl hK
  · intro z z1 r h1 ih H locs ls hZ hl hK; exact w_lay_18s C hR h1 hZ hl (fun H locs ls hZ hl => ih H locs ls hZ hl hK)

theorem w_lay {p : Program} {l : Launch} {e : Env} {R : Room} {s : State} {m : MethodId} {args : Array Value} {below : List Frame} {meth : Method} {c : Code} {Q : State → Prop} {D : va_G} {cI cZ : ClassId} {mo : Nat} {ad : Nat → Nat} {H : Heap} {locs : List Loc} {M : MS} (C : MC p s m args meth c D cI cZ cX5_lay 8 (some .int)) (hR : 4 ≤ R.frames ∧ 95 ≤ R.locals) {x1 x2 : Int} {res : MS × Int} (hf : m_lay M x1 x2 = some res) (hZ : ZM D cI cZ mo ad s.heap M H locs) {ls : Array Slot} (hl : lv_has ls 8 [(0, .ref mo), (1, .int (zI x1)), (2, .int (zI x2))]) (hK : KM below D cI cZ mo ad args s Q res.1 (some (.int (zI res.2)))) : W p l e R s m args below meth c H locs 0 0 Q (F0 m 0 ls []) := by
  unfold m_lay at hf
  have hx := C.1
  have hb := C.2.1
  have hts := C.2.2.2.2.2.2.1
  refine lv_aload_n hx hb dX5_lay_0 rfl (lv_at hl 0 rfl) ?_
  refine lv_iload_n hx hb dX5_lay_1 rfl (lv_at hl 2 rfl) ?_
  obtain ⟨M1, eM1, hf⟩ := bnd_inv hf
  refine zm_puti C hZ 53 (by decide) rfl rfl q1194 dX5_lay_2 (fun H locs hZ => ?_)
  rw [← eM1] at hZ
  refine lv_aload_n hx hb dX5_lay_5 rfl (lv_at hl 0 rfl) ?_
  refine zl_iconst hx hb dX5_lay_6 ?_
  obtain ⟨y2, ey2, hf⟩ := bd_inv hf
  refine zm_callV C hZ (n := 1) (rest := []) (met_newLine l D cI cZ mo ad ey2) (lw_V q1564 q1566 qs81 q107 q1567) rfl rfl (by decide +kernel) ⟨Nat.le_trans (by decide) hR.1, Nat.le_trans (by decide) hR.2⟩ rfl hl.1 rfl (Nat.le_of_ble_eq_true rfl) dX5_lay_7 (fun H locs hZ => ?_)
  refine zl_iconst hx hb dX5_lay_10 ?_
  refine lv_istore_n (lv' := [(3, .int (zI 0)), (0, .ref mo), (1, .int (zI x1)), (2, .int (zI x2))]) hx hb dX5_lay_11 rfl hl (by decide) rfl (fun ls hl => ?_)
  refine zl_iconst hx hb dX5_lay_12 ?_
  refine lv_istore (lv' := [(4, .int (zI 0)), (3, .int (zI 0)), (0, .ref mo), (1, .int (zI x1)), (2, .int (zI x2))]) hx hb dX5_lay_13 hl (by decide) rfl (fun ls hl => ?_)
  refine zl_iconst hx hb dX5_lay_15 ?_
  refine lv_istore (lv' := [(5, .int (zI 0)), (4, .int (zI 0)), (3, .int (zI 0)), (0, .ref mo), (1, .int (zI x1)), (2, .int (zI x2))]) hx hb dX5_lay_16 hl (by decide) rfl (fun ls hl => ?_)
  exact w_lay_18 C hR hf hZ (lv_sub hl [3, 4, 2, 1, 0] rfl) hK

theorem met_lay (l : Launch) (D : va_G) (cI cZ : ClassId) (mo : Nat) (ad : Nat → Nat) {M : MS} {x1 x2 : Int} {res : MS × Int} (hf : m_lay M x1 x2 = some res) : Met l yX5_lay (ws_ yX5_lay cX5_lay 8 (some .int)) ({ frames := 4, cells := 0, slots := 0, locals := 95 }) (PM D cI cZ mo ad M [.int (zI x1), .int (zI x2)]) (QM D cI cZ mo ad res.1 (some (.int (zI res.2)))) 0 0 (MA mo ad) := by
  refine Met.ofW (cc := cX5_lay) (maxL := 8) (ret := (some .int)) (by decide) rfl ?_
  intro p e s m args below meth c s₁ B hml hv
  obtain ⟨rfl, hRM, hK0⟩ := hv
  have hts := atoms_spec (ws := ws_ yX5_lay cX5_lay 8 (some .int)) B.pre
  have hts : ∀ w ∈ lw_all, w.before _ s = true := fun w h => hts w (List.mem_cons_of_mem _ h)
  have C : MC p s m _ meth c D cI cZ cX5_lay 8 (some .int) := ⟨B.exec, B.bytes, B.returns, B.notSynchronized, hml, findClass_of_methodNamed B.named, hts, hK0⟩
  have hZ : ZM D cI cZ mo ad s.heap M s.heap [] := ⟨hRM, rfl, fun _ _ => rfl, fun _ h => by cases h⟩
  have hl := lv_entry ([.ref mo, .int (zI x1), .int (zI x2)]) (n := 8) (Nat.le_of_ble_eq_true rfl)
  rw [lg_entry_eq]
  generalize (lg_sl ([.ref mo, .int (zI x1), .int (zI x2)]) ++ List.replicate (8 - (lg_sl ([.ref mo, .int (zI x1), .int (zI x2)])).length) Slot.unset).toArray = ls at hl ⊢
  have hl : lv_has ls 8 [(0, .ref mo), (1, .int (zI x1)), (2, .int (zI x2))] := hl
  exact w_lay C ⟨Nat.le_refl _, Nat.le_refl _⟩ hf hZ hl rfl

theorem w_gather_90 {p : Program} {l : Launch} {e : Env} {R : Room} {s : State} {m : MethodId} {args : Array Value} {below : List Frame} {meth : Method} {c : Code} {Q : State → Prop} {D : va_G} {cI cZ : ClassId} {mo : Nat} {ad : Nat → Nat} {H : Heap} {locs : List Loc} {M : MS} (C : MC p s m args meth c D cI cZ cX5_gather 4 none) (hR : 0 ≤ R.frames ∧ 0 ≤ R.locals) {x2 x3 : Int} {res : (MS × Int) ⊕ (MS)} (hf : m_gather_90 M x2 x3 = some res) (hZ : ZM D cI cZ mo ad s.heap M H locs) {ls : Array Slot} (hl : lv_has ls 4 [(0, .ref mo), (2, .int (zI x2)), (3, .int (zI x3))]) (hK : (Sum.elim (fun z => ∀ (H : Heap) (locs : List Loc) (ls : Array Slot), ZM D cI cZ mo ad s.heap z.1 H locs → lv_has ls 4 [(0, .ref mo), (2, .int (zI x2)), (3, .int (zI z.2))] → W p l e R s m args below meth c H locs 0 0 Q (F0 m 42 ls [])) (fun r => KM below D cI cZ mo ad args s Q r none)) res) : W p l e R s m args below meth c H locs 0 0 Q (F0 m 90 ls []) := by
  unfold m_gather_90 at hf
  have hx := C.1
  have hb := C.2.1
  have hts := C.2.2.2.2.2.2.1
  refine zl_iinc (x := x3) (n := 1) (lv' := [(3, .int (zI (x3 + 1))), (0, .ref mo), (2, .int (zI x2))]) (k := 2) hx hb dX5_gather_90 hl rfl (by decide) rfl (fun ls hl => ?_)
  refine lv_goto (tgt := 42) hx hb dX5_gather_93 (by decide) ?_
  obtain rfl := Option.some.inj hf
  exact hK _ _ _ hZ (lv_sub hl [1, 2, 0] rfl)

theorem w_gather_42s {p : Program} {l : Launch} {e : Env} {R : Room} {s : State} {m : MethodId} {args : Array Value} {below : List Frame} {meth : Method} {c : Code} {Q : State → Prop} {D : va_G} {cI cZ : ClassId} {mo : Nat} {ad : Nat → Nat} {H : Heap} {locs : List Loc} {M : MS} (C : MC p s m args meth c D cI cZ cX5_gather 4 none) (hR : 0 ≤ R.frames ∧ 0 ≤ R.locals) {x2 x3 : Int} {res : (MS × Int) ⊕ (MS)} (hf : m_gather_42s M x2 x3 = some res) (hZ : ZM D cI cZ mo ad s.heap M H locs) {ls : Array Slot} (hl : lv_has ls 4 [(0, .ref mo), (2, .int (zI x2)), (3, .int (zI x3))]) (hK : (Sum.elim (fun z => ∀ (H : Heap) (locs : List Loc) (ls : Array Slot), ZM D cI cZ mo ad s.heap z.1 H locs → lv_has ls 4 [(0, .ref mo), (2, .int (zI x2)), (3, .int (zI z.2))] → W p l e R s m args below meth c H locs 0 0 Q (F0 m 42 ls [])) (fun r => KM below D cI cZ mo ad args s Q r none)) res) : W p l e R s m args below meth c H locs 0 0 Q (F0 m 42 ls []) := by
  unfold m_gather_42s at hf
  have hx := C.1
  have hb := C.2.1
  have hts := C.2.2.2.2.2.2.1
  refine lv_iload_n hx hb dX5_gather_42 rfl (lv_at hl 2 rfl) ?_
  refine lv_aload_n hx hb dX5_gather_43 rfl (lv_at hl 0 rfl) ?_
  refine zm_geti C hZ 17 (by decide) rfl q1158 dX5_gather_44 ?_
  refine zl_icmp_ge (tgt := 96) hx hb dX5_gather_47 (by decide) (fun hc => ?_) (fun hc => ?_)
  · rw [if_pos hc] at hf
    refine lv_aload_n hx hb dX5_gather_50 rfl (lv_at hl 0 rfl) ?_
    refine zm_geta C hZ 8 (by decide) (by decide) q1149 dX5_gather_51 ?_
    refine lv_iload_n hx hb dX5_gather_54 rfl (lv_at hl 1 rfl) ?_
    obtain ⟨hg, hf⟩ := gd_inv hf
    refine zm_iald C hZ 8 (by decide) rfl rfl hg dX5_gather_55 ?_
    refine zl_iconst hx hb dX5_gather_56 ?_
    refine zl_icmp_ne (tgt := 96) hx hb dX5_gather_57 (by decide) (fun hc => ?_) (fun hc => ?_)
    · rw [if_pos hc] at hf
      refine lv_aload_n hx hb dX5_gather_60 rfl (lv_at hl 0 rfl) ?_
      refine zm_geta C hZ 19 (by decide) (by decide) q1160 dX5_gather_61 ?_
      refine lv_iload_n hx hb dX5_gather_64 rfl (lv_at hl 2 rfl) ?_
      obtain ⟨hg, hf⟩ := gd_inv hf
      refine zm_iald C hZ 19 (by decide) rfl rfl hg dX5_gather_65 ?_
      refine lv_iload_n hx hb dX5_gather_66 rfl (lv_at hl 1 rfl) ?_
      refine zl_icmp_ne (tgt := 90) hx hb dX5_gather_67 (by decide) (fun hc => ?_) (fun hc => ?_)
      · rw [if_pos hc] at hf
        refine lv_aload_n hx hb dX5_gather_70 rfl (lv_at hl 0 rfl) ?_
        refine zm_geta C hZ 51 (by decide) (by decide) q1192 dX5_gather_71 ?_
        refine lv_aload_n hx hb dX5_gather_74 rfl (lv_at hl 0 rfl) ?_
        refine zm_geti C hZ 52 (by decide) rfl q1193 dX5_gather_75 ?_
        refine lv_iload_n hx hb dX5_gather_78 rfl (lv_at hl 2 rfl) ?_
        obtain ⟨hg, hf⟩ := gd_inv hf
        obtain ⟨M4, eM4, hf⟩ := bnd_inv hf
        refine zm_iast C hZ 51 (by decide) rfl rfl hg dX5_gather_79 (fun H locs hZ => ?_)
        rw [← eM4] at hZ
        refine lv_aload_n hx hb dX5_gather_80 rfl (lv_at hl 0 rfl) ?_
        refine lv_dup hx hb dX5_gather_81 rfl ?_
        refine zm_geti C hZ 52 (by decide) rfl q1193 dX5_gather_82 ?_
        refine zl_iconst hx hb dX5_gather_85 ?_
        refine zl_iadd hx hb dX5_gather_86 ?_
        obtain ⟨M5, eM5, hf⟩ := bnd_inv hf
        refine zm_puti C hZ 52 (by decide) rfl rfl q1193 dX5_gather_87 (fun H locs hZ => ?_)
        rw [← eM5] at hZ
        exact w_gather_90 C hR hf hZ (lv_sub hl [0, 1, 2] rfl) hK
      · rw [if_neg hc] at hf
        exact w_gather_90 C hR hf hZ (lv_sub hl [0, 1, 2] rfl) hK
    · rw [if_neg hc] at hf
      obtain rfl := Option.some.inj hf
      exact zm_vret C hZ hK dX5_gather_96
  · rw [if_neg hc] at hf
    obtain rfl := Option.some.inj hf
    exact zm_vret C hZ hK dX5_gather_96

theorem w_gather_42 {p : Program} {l : Launch} {e : Env} {R : Room} {s : State} {m : MethodId} {args : Array Value} {below : List Frame} {meth : Method} {c : Code} {Q : State → Prop} {D : va_G} {cI cZ : ClassId} {mo : Nat} {ad : Nat → Nat} {H : Heap} {locs : List Loc} {M : MS} (C : MC p s m args meth c D cI cZ cX5_gather 4 none) (hR : 0 ≤ R.frames ∧ 0 ≤ R.locals) {x2 x3 : Int} {res : MS} (hf : m_gather_42 M x2 x3 = some res) (hZ : ZM D cI cZ mo ad s.heap M H locs) {ls : Array Slot} (hl : lv_has ls 4 [(0, .ref mo), (2, .int (zI x2)), (3, .int (zI x3))]) (hK : KM below D cI cZ mo ad args s Q res none) : W p l e R s m args below meth c H locs 0 0 Q (F0 m 42 ls []) := by
  unfold m_gather_42 at hf
  refine iter_ind (P := fun z r => ∀ (H : Heap) (locs : List Loc) (ls : Array Slot), ZM D cI cZ mo ad s.heap z.1 H locs → lv_has ls 4 [(0, .ref mo), (2, .int (zI x2)), (3, .int (zI z.2))] → KM below D cI cZ mo ad args s Q r none → W p l e R s m args below meth c H locs 0 0 Q (F0 m 42 ls [])) ?_ ?_ hf H locs ls hZ hl hK
  · intro z r h1 H locs ls hZ hl hK; exact w_gather_42s C hR h1 hZ hl hK
  · intro z z1 r h1 ih H locs ls hZ hl hK; exact w_gather_42s C hR h1 hZ hl (fun H locs ls hZ hl => ih H locs ls hZ hl hK)

theorem w_gather_40 {p : Program} {l : Launch} {e : Env} {R : Room} {s : State} {m : MethodId} {args : Array Value} {below : List Frame} {meth : Method} {c : Code} {Q : State → Prop} {D : va_G} {cI cZ : ClassId} {mo : Nat} {ad : Nat → Nat} {H : Heap} {locs : List Loc} {M : MS} (C : MC p s m args meth c D cI cZ cX5_gather 4 none) (hR : 0 ≤ R.frames ∧ 0 ≤ R.locals) {x2 : Int} {res : MS} (hf : m_gather_40 M x2 = some res) (hZ : ZM D cI cZ mo ad s.heap M H locs) {ls : Array Slot} (hl : lv_has ls 4 [(0, .ref mo), (2, .int (zI x2))]) (hK : KM below D cI cZ mo ad args s Q res none) : W p l e R s m args below meth c H locs 0 0 Q (F0 m 40 ls []) := by
  unfold m_gather_40 at hf
  have hx := C.1
  have hb := C.2.1
  have hts := C.2.2.2.2.2.2.1
  refine zl_iconst hx hb dX5_gather_40 ?_
  refine lv_istore_n (lv' := [(3, .int (zI 0)), (0, .ref mo), (2, .int (zI x2))]) hx hb dX5_gather_41 rfl hl (by decide) rfl (fun ls hl => ?_)
  exact w_gather_42 C hR hf hZ (lv_sub hl [1, 2, 0] rfl) hK

theorem w_gather {p : Program} {l : Launch} {e : Env} {R : Room} {s : State} {m : MethodId} {args : Array Value} {below : List Frame} {meth : Method} {c : Code} {Q : State → Prop} {D : va_G} {cI cZ : ClassId} {mo : Nat} {ad : Nat → Nat} {H : Heap} {locs : List Loc} {M : MS} (C : MC p s m args meth c D cI cZ cX5_gather 4 none) (hR : 0 ≤ R.frames ∧ 0 ≤ R.locals) {x1 : Int} {res : MS} (hf : m_gather M x1 = some res) (hZ : ZM D cI cZ mo ad s.heap M H locs) {ls : Array Slot} (hl : lv_has ls 4 [(0, .ref mo), (1, .int (zI x1))]) (hK : KM below D cI cZ mo ad args s Q res none) : W p l e R s m args below meth c H locs 0 0 Q (F0 m 0 ls []) := by
  unfold m_gather at hf
  have hx := C.1
  have hb := C.2.1
  have hts := C.2.2.2.2.2.2.1
  refine lv_aload_n hx hb dX5_gather_0 rfl (lv_at hl 0 rfl) ?_
  refine zm_geta C hZ 6 (by decide) (by decide) q1147 dX5_gather_1 ?_
  refine lv_iload_n hx hb dX5_gather_4 rfl (lv_at hl 1 rfl) ?_
  obtain ⟨hg, hf⟩ := gd_inv hf
  refine zm_iald C hZ 6 (by decide) rfl rfl hg dX5_gather_5 ?_
  obtain ⟨y1, ey1, hf⟩ := bnd_inv hf
  refine zl_top ey1 ?_
  refine lv_istore_n (lv' := [(2, .int (zI y1)), (0, .ref mo), (1, .int (zI x1))]) hx hb dX5_gather_6 rfl hl (by decide) rfl (fun ls hl => ?_)
  refine lv_aload_n hx hb dX5_gather_7 rfl (lv_at hl 1 rfl) ?_
  refine zm_geta C hZ 8 (by decide) (by decide) q1149 dX5_gather_8 ?_
  refine lv_iload_n hx hb dX5_gather_11 rfl (lv_at hl 0 rfl) ?_
  obtain ⟨hg, hf⟩ := gd_inv hf
  refine zm_iald C hZ 8 (by decide) rfl rfl hg dX5_gather_12 ?_
  refine zl_bipush hx hb dX5_gather_13 (by decide) ?_
  refine zl_icmp_ne (tgt := 40) hx hb dX5_gather_15 (by decide) (fun hc => ?_) (fun hc => ?_)
  · rw [if_pos hc] at hf
    refine lv_aload_n hx hb dX5_gather_18 rfl (lv_at hl 1 rfl) ?_
    refine zm_geta C hZ 51 (by decide) (by decide) q1192 dX5_gather_19 ?_
    refine lv_aload_n hx hb dX5_gather_22 rfl (lv_at hl 1 rfl) ?_
    refine zm_geti C hZ 52 (by decide) rfl q1193 dX5_gather_23 ?_
    refine zl_iconst hx hb dX5_gather_26 ?_
    refine lv_iload_n hx hb dX5_gather_27 rfl (lv_at hl 2 rfl) ?_
    refine zl_isub hx hb dX5_gather_28 ?_
    obtain ⟨hg, hf⟩ := gd_inv hf
    obtain ⟨M2, eM2, hf⟩ := bnd_inv hf
    refine zm_iast C hZ 51 (by decide) rfl rfl hg dX5_gather_29 (fun H locs hZ => ?_)
    rw [← eM2] at hZ
    refine lv_aload_n hx hb dX5_gather_30 rfl (lv_at hl 1 rfl) ?_
    refine lv_dup hx hb dX5_gather_31 rfl ?_
    refine zm_geti C hZ 52 (by decide) rfl q1193 dX5_gather_32 ?_
    refine zl_iconst hx hb dX5_gather_35 ?_
    refine zl_iadd hx hb dX5_gather_36 ?_
    obtain ⟨M3, eM3, hf⟩ := bnd_inv hf
    refine zm_puti C hZ 52 (by decide) rfl rfl q1193 dX5_gather_37 (fun H locs hZ => ?_)
    rw [← eM3] at hZ
    exact w_gather_40 C hR hf hZ (lv_sub hl [1, 0] rfl) hK
  · rw [if_neg hc] at hf
    exact w_gather_40 C hR hf hZ (lv_sub hl [1, 0] rfl) hK

theorem met_gather (l : Launch) (D : va_G) (cI cZ : ClassId) (mo : Nat) (ad : Nat → Nat) {M : MS} {x1 : Int} {res : MS} (hf : m_gather M x1 = some res) : Met l yX5_gather (ws_ yX5_gather cX5_gather 4 none) ({ frames := 0, cells := 0, slots := 0, locals := 0 }) (PM D cI cZ mo ad M [.int (zI x1)]) (QM D cI cZ mo ad res none) 0 0 (MA mo ad) := by
  refine Met.ofW (cc := cX5_gather) (maxL := 4) (ret := none) (by decide) rfl ?_
  intro p e s m args below meth c s₁ B hml hv
  obtain ⟨rfl, hRM, hK0⟩ := hv
  have hts := atoms_spec (ws := ws_ yX5_gather cX5_gather 4 none) B.pre
  have hts : ∀ w ∈ lw_all, w.before _ s = true := fun w h => hts w (List.mem_cons_of_mem _ h)
  have C : MC p s m _ meth c D cI cZ cX5_gather 4 none := ⟨B.exec, B.bytes, B.returns, B.notSynchronized, hml, findClass_of_methodNamed B.named, hts, hK0⟩
  have hZ : ZM D cI cZ mo ad s.heap M s.heap [] := ⟨hRM, rfl, fun _ _ => rfl, fun _ h => by cases h⟩
  have hl := lv_entry ([.ref mo, .int (zI x1)]) (n := 4) (Nat.le_of_ble_eq_true rfl)
  rw [lg_entry_eq]
  generalize (lg_sl ([.ref mo, .int (zI x1)]) ++ List.replicate (4 - (lg_sl ([.ref mo, .int (zI x1)])).length) Slot.unset).toArray = ls at hl ⊢
  have hl : lv_has ls 4 [(0, .ref mo), (1, .int (zI x1))] := hl
  exact w_gather C ⟨Nat.le_refl _, Nat.le_refl _⟩ hf hZ hl rfl

theorem w_heights_251 {p : Program} {l : Launch} {e : Env} {R : Room} {s : State} {m : MethodId} {args : Array Value} {below : List Frame} {meth : Method} {c : Code} {Q : State → Prop} {D : va_G} {cI cZ : ClassId} {mo : Nat} {ad : Nat → Nat} {H : Heap} {locs : List Loc} {M : MS} (C : MC p s m args meth c D cI cZ cX5_heights 11 none) (hR : 5 ≤ R.frames ∧ 122 ≤ R.locals) {x1 x2 x3 x4 x5 x6 x7 x8 : Int} {res : (MS × Int × Int × Int × Int) ⊕ (MS)} (hf : m_heights_251 M x1 x2 x3 x4 x5 x6 x7 x8 = some res) (hZ : ZM D cI cZ mo ad s.heap M H locs) {ls : Array Slot} (hl : lv_has ls 11 [(0, .ref mo), (1, .int (zI x1)), (2, .int (zI x2)), (3, .int (zI x3)), (4, .int (zI x4)), (5, .int (zI x5)), (6, .int (zI x6)), (7, .int (zI x7)), (8, .int (zI x8))]) (hK : (Sum.elim (fun z => ∀ (H : Heap) (locs : List Loc) (ls : Array Slot), ZM D cI cZ mo ad s.heap z.1 H locs → lv_has ls 11 [(0, .ref mo), (1, .int (zI x1)), (2, .int (zI x2)), (3, .int (zI x3)), (4, .int (zI z.2.1)), (5, .int (zI z.2.2.1)), (6, .int (zI z.2.2.2.1)), (7, .int (zI x7)), (8, .int (zI z.2.2.2.2))] → W p l e R s m args below meth c H locs 0 0 Q (F0 m 47 ls [])) (fun r => KM below D cI cZ mo ad args s Q r none)) res) : W p l e R s m args below meth c H locs 0 0 Q (F0 m 251 ls []) := by
  unfold m_heights_251 at hf
  have hx := C.1
  have hb := C.2.1
  have hts := C.2.2.2.2.2.2.1
  refine zl_iinc (x := x8) (n := 1) (lv' := [(8, .int (zI (x8 + 1))), (0, .ref mo), (1, .int (zI x1)), (2, .int (zI x2)), (3, .int (zI x3)), (4, .int (zI x4)), (5, .int (zI x5)), (6, .int (zI x6)), (7, .int (zI x7))]) (k := 8) hx hb dX5_heights_251 hl rfl (by decide) rfl (fun ls hl => ?_)
  refine lv_goto (tgt := 47) hx hb dX5_heights_254 (by decide) ?_
  obtain rfl := Option.some.inj hf
  exact hK _ _ _ hZ (lv_sub hl [1, 2, 3, 4, 5, 6, 7, 8, 0] rfl)

theorem w_heights_224 {p : Program} {l : Launch} {e : Env} {R : Room} {s : State} {m : MethodId} {args : Array Value} {below : List Frame} {meth : Method} {c : Code} {Q : State → Prop} {D : va_G} {cI cZ : ClassId} {mo : Nat} {ad : Nat → Nat} {H : Heap} {locs : List Loc} {M : MS} (C : MC p s m args meth c D cI cZ cX5_heights 11 none) (hR : 5 ≤ R.frames ∧ 122 ≤ R.locals) {x1 x2 x3 x4 x5 x6 x7 x8 : Int} {res : (MS × Int × Int × Int × Int) ⊕ (MS)} (hf : m_heights_224 M x1 x2 x3 x4 x5 x6 x7 x8 = some res) (hZ : ZM D cI cZ mo ad s.heap M H locs) {ls : Array Slot} (hl : lv_has ls 11 [(0, .ref mo), (1, .int (zI x1)), (2, .int (zI x2)), (3, .int (zI x3)), (4, .int (zI x4)), (5, .int (zI x5)), (6, .int (zI x6)), (7, .int (zI x7)), (8, .int (zI x8))]) (hK : (Sum.elim (fun z => ∀ (H : Heap) (locs : List Loc) (ls : Array Slot), ZM D cI cZ mo ad s.heap z.1 H locs → lv_has ls 11 [(0, .ref mo), (1, .int (zI x1)), (2, .int (zI x2)), (3, .int (zI x3)), (4, .int (zI z.2.1)), (5, .int (zI z.2.2.1)), (6, .int (zI z.2.2.2.1)), (7, .int (zI x7)), (8, .int (zI z.2.2.2.2))] → W p l e R s m args below meth c H locs 0 0 Q (F0 m 47 ls [])) (fun r => KM below D cI cZ mo ad args s Q r none)) res) : W p l e R s m args below meth c H locs 0 0 Q (F0 m 224 ls []) := by
  unfold m_heights_224 at hf
  have hx := C.1
  have hb := C.2.1
  have hts := C.2.2.2.2.2.2.1
  refine lv_aload_n hx hb dX5_heights_224 rfl (lv_at hl 0 rfl) ?_
  refine zm_geta C hZ 42 (by decide) (by decide) q1183 dX5_heights_225 ?_
  refine lv_iload hx hb dX5_heights_228 (lv_at hl 8 rfl) ?_
  obtain ⟨hg, hf⟩ := gd_inv hf
  refine zm_iald C hZ 42 (by decide) rfl rfl hg dX5_heights_230 ?_
  refine lv_iload_n hx hb dX5_heights_231 rfl (lv_at hl 1 rfl) ?_
  refine zl_icmp_ne (tgt := 251) hx hb dX5_heights_232 (by decide) (fun hc => ?_) (fun hc => ?_)
  · rw [if_pos hc] at hf
    refine lv_aload_n hx hb dX5_heights_235 rfl (lv_at hl 0 rfl) ?_
    refine zm_geta C hZ 40 (by decide) (by decide) q1181 dX5_heights_236 ?_
    refine lv_iload hx hb dX5_heights_239 (lv_at hl 8 rfl) ?_
    obtain ⟨hg, hf⟩ := gd_inv hf
    refine zm_zald C hZ 40 (by decide) rfl rfl hg dX5_heights_241 ?_
    refine zl_if_ne (tgt := 251) hx hb dX5_heights_242 (by decide) (fun hc => ?_) (fun hc => ?_)
    · rw [if_pos hc] at hf
      refine lv_aload_n hx hb dX5_heights_245 rfl (lv_at hl 0 rfl) ?_
      refine lv_iload hx hb dX5_heights_246 (lv_at hl 8 rfl) ?_
      obtain ⟨y7, ey7, hf⟩ := bd_inv hf
      refine zm_callV C hZ (n := 1) (rest := []) (met_gather l D cI cZ mo ad ey7) (lw_V q1580 q1582 qs85 q107 q1583) rfl rfl (by decide +kernel) ⟨Nat.le_trans (by decide) hR.1, Nat.le_trans (by decide) hR.2⟩ rfl hl.1 rfl (Nat.le_of_ble_eq_true rfl) dX5_heights_248 (fun H locs hZ => ?_)
      exact w_heights_251 C hR hf hZ (lv_sub hl [0, 1, 2, 3, 4, 5, 6, 7, 8] rfl) hK
    · rw [if_neg hc] at hf
      exact w_heights_251 C hR hf hZ (lv_sub hl [0, 1, 2, 3, 4, 5, 6, 7, 8] rfl) hK
  · rw [if_neg hc] at hf
    exact w_heights_251 C hR hf hZ (lv_sub hl [0, 1, 2, 3, 4, 5, 6, 7, 8] rfl) hK

theorem w_heights_215 {p : Program} {l : Launch} {e : Env} {R : Room} {s : State} {m : MethodId} {args : Array Value} {below : List Frame} {meth : Method} {c : Code} {Q : State → Prop} {D : va_G} {cI cZ : ClassId} {mo : Nat} {ad : Nat → Nat} {H : Heap} {locs : List Loc} {M : MS} (C : MC p s m args meth c D cI cZ cX5_heights 11 none) (hR : 5 ≤ R.frames ∧ 122 ≤ R.locals) {x1 x2 x3 x4 x7 x8 x10 t0 : Int} {res : (MS × Int × Int × Int × Int) ⊕ (MS)} (hf : m_heights_215 M x1 x2 x3 x4 x7 x8 x10 t0 = some res) (hZ : ZM D cI cZ mo ad s.heap M H locs) {ls : Array Slot} (hl : lv_has ls 11 [(0, .ref mo), (1, .int (zI x1)), (2, .int (zI x2)), (3, .int (zI x3)), (4, .int (zI x4)), (7, .int (zI x7)), (8, .int (zI x8)), (10, .int (zI x10))]) (hK : (Sum.elim (fun z => ∀ (H : Heap) (locs : List Loc) (ls : Array Slot), ZM D cI cZ mo ad s.heap z.1 H locs → lv_has ls 11 [(0, .ref mo), (1, .int (zI x1)), (2, .int (zI x2)), (3, .int (zI x3)), (4, .int (zI z.2.1)), (5, .int (zI z.2.2.1)), (6, .int (zI z.2.2.2.1)), (7, .int (zI x7)), (8, .int (zI z.2.2.2.2))] → W p l e R s m args below meth c H locs 0 0 Q (F0 m 47 ls [])) (fun r => KM below D cI cZ mo ad args s Q r none)) res) : W p l e R s m args below meth c H locs 0 0 Q (F0 m 215 ls [.int (zI t0)]) := by
  unfold m_heights_215 at hf
  have hx := C.1
  have hb := C.2.1
  have hts := C.2.2.2.2.2.2.1
  refine lv_istore (lv' := [(6, .int (zI t0)), (0, .ref mo), (1, .int (zI x1)), (2, .int (zI x2)), (3, .int (zI x3)), (4, .int (zI x4)), (7, .int (zI x7)), (8, .int (zI x8)), (10, .int (zI x10))]) hx hb dX5_heights_215 hl (by decide) rfl (fun ls hl => ?_)
  refine lv_iload hx hb dX5_heights_217 (lv_at hl 8 rfl) ?_
  refine lv_istore (lv' := [(5, .int (zI x10)), (6, .int (zI t0)), (0, .ref mo), (1, .int (zI x1)), (2, .int (zI x2)), (3, .int (zI x3)), (4, .int (zI x4)), (7, .int (zI x7)), (8, .int (zI x8)), (10, .int (zI x10))]) hx hb dX5_heights_219 hl (by decide) rfl (fun ls hl => ?_)
  refine lv_goto (tgt := 251) hx hb dX5_heights_221 (by decide) ?_
  exact w_heights_251 C hR hf hZ (lv_sub hl [2, 3, 4, 5, 6, 0, 1, 7, 8] rfl) hK

theorem w_heights_163 {p : Program} {l : Launch} {e : Env} {R : Room} {s : State} {m : MethodId} {args : Array Value} {below : List Frame} {meth : Method} {c : Code} {Q : State → Prop} {D : va_G} {cI cZ : ClassId} {mo : Nat} {ad : Nat → Nat} {H : Heap} {locs : List Loc} {M : MS} (C : MC p s m args meth c D cI cZ cX5_heights 11 none) (hR : 5 ≤ R.frames ∧ 122 ≤ R.locals) {x1 x2 x3 x6 x7 x8 x10 t0 t1 : Int} {res : (MS × Int × Int × Int × Int) ⊕ (MS)} (hf : m_heights_163 M x1 x2 x3 x6 x7 x8 x10 t0 t1 = some res) (hZ : ZM D cI cZ mo ad s.heap M H locs) {ls : Array Slot} (hl : lv_has ls 11 [(0, .ref mo), (1, .int (zI x1)), (2, .int (zI x2)), (3, .int (zI x3)), (6, .int (zI x6)), (7, .int (zI x7)), (8, .int (zI x8)), (10, .int (zI x10))]) (hK : (Sum.elim (fun z => ∀ (H : Heap) (locs : List Loc) (ls : Array Slot), ZM D cI cZ mo ad s.heap z.1 H locs → lv_has ls 11 [(0, .ref mo), (1, .int (zI x1)), (2, .int (zI x2)), (3, .int (zI x3)), (4, .int (zI z.2.1)), (5, .int (zI z.2.2.1)), (6, .int (zI z.2.2.2.1)), (7, .int (zI x7)), (8, .int (zI z.2.2.2.2))] → W p l e R s m args below meth c H locs 0 0 Q (F0 m 47 ls [])) (fun r => KM below D cI cZ mo ad args s Q r none)) res) : W p l e R s m args below meth c H locs 0 0 Q (F0 m 163 ls [.int (zI t0), .int (zI t1), .ref (ad 46)]) := by
  unfold m_heights_163 at hf
  have hx := C.1
  have hb := C.2.1
  have hts := C.2.2.2.2.2.2.1
  obtain ⟨hg, hf⟩ := gd_inv hf
  obtain ⟨M10, eM10, hf⟩ := bnd_inv hf
  refine zm_iast C hZ 46 (by decide) rfl rfl hg dX5_heights_163 (fun H locs hZ => ?_)
  rw [← eM10] at hZ
  refine lv_aload_n hx hb dX5_heights_164 rfl (lv_at hl 0 rfl) ?_
  refine zm_geta C hZ 46 (by decide) (by decide) q1187 dX5_heights_165 ?_
  refine lv_iload hx hb dX5_heights_168 (lv_at hl 6 rfl) ?_
  obtain ⟨hg, hf⟩ := gd_inv hf
  refine zm_iald C hZ 46 (by decide) rfl rfl hg dX5_heights_170 ?_
  refine lv_aload_n hx hb dX5_heights_171 rfl (lv_at hl 0 rfl) ?_
  refine zm_geta C hZ 45 (by decide) (by decide) q1186 dX5_heights_172 ?_
  refine lv_iload hx hb dX5_heights_175 (lv_at hl 6 rfl) ?_
  obtain ⟨hg, hf⟩ := gd_inv hf
  refine zm_iald C hZ 45 (by decide) rfl rfl hg dX5_heights_177 ?_
  refine zl_iadd hx hb dX5_heights_178 ?_
  obtain ⟨y11, ey11, hf⟩ := bnd_inv hf
  refine zl_top ey11 ?_
  refine lv_istore (lv' := [(4, .int (zI y11)), (0, .ref mo), (1, .int (zI x1)), (2, .int (zI x2)), (3, .int (zI x3)), (6, .int (zI x6)), (7, .int (zI x7)), (8, .int (zI x8)), (10, .int (zI x10))]) hx hb dX5_heights_179 hl (by decide) rfl (fun ls hl => ?_)
  refine lv_iload hx hb dX5_heights_181 (lv_at hl 5 rfl) ?_
  refine zl_iconst hx hb dX5_heights_183 ?_
  refine lv_iload hx hb dX5_heights_184 (lv_at hl 8 rfl) ?_
  refine zl_imul hx hb dX5_heights_186 ?_
  refine lv_aload_n hx hb dX5_heights_187 rfl (lv_at hl 1 rfl) ?_
  refine zm_geta C hZ 45 (by decide) (by decide) q1186 dX5_heights_188 ?_
  refine lv_iload hx hb dX5_heights_191 (lv_at hl 7 rfl) ?_
  obtain ⟨hg, hf⟩ := gd_inv hf
  refine zm_iald C hZ 45 (by decide) rfl rfl hg dX5_heights_193 ?_
  refine zl_iadd hx hb dX5_heights_194 ?_
  refine zl_icmp_le (tgt := 203) hx hb dX5_heights_195 (by decide) (fun hc => ?_) (fun hc => ?_)
  · rw [if_pos hc] at hf
    refine lv_iload hx hb dX5_heights_198 (lv_at hl 5 rfl) ?_
    refine lv_goto (tgt := 215) hx hb dX5_heights_200 (by decide) ?_
    exact w_heights_215 C hR hf hZ (lv_sub hl [1, 2, 3, 4, 0, 6, 7, 8] rfl) hK
  · rw [if_neg hc] at hf
    refine zl_iconst hx hb dX5_heights_203 ?_
    refine lv_iload hx hb dX5_heights_204 (lv_at hl 8 rfl) ?_
    refine zl_imul hx hb dX5_heights_206 ?_
    refine lv_aload_n hx hb dX5_heights_207 rfl (lv_at hl 1 rfl) ?_
    refine zm_geta C hZ 45 (by decide) (by decide) q1186 dX5_heights_208 ?_
    refine lv_iload hx hb dX5_heights_211 (lv_at hl 7 rfl) ?_
    obtain ⟨hg, hf⟩ := gd_inv hf
    refine zm_iald C hZ 45 (by decide) rfl rfl hg dX5_heights_213 ?_
    refine zl_iadd hx hb dX5_heights_214 ?_
    exact w_heights_215 C hR hf hZ (lv_sub hl [1, 2, 3, 4, 0, 6, 7, 8] rfl) hK

theorem w_heights_162 {p : Program} {l : Launch} {e : Env} {R : Room} {s : State} {m : MethodId} {args : Array Value} {below : List Frame} {meth : Method} {c : Code} {Q : State → Prop} {D : va_G} {cI cZ : ClassId} {mo : Nat} {ad : Nat → Nat} {H : Heap} {locs : List Loc} {M : MS} (C : MC p s m args meth c D cI cZ cX5_heights 11 none) (hR : 5 ≤ R.frames ∧ 122 ≤ R.locals) {x1 x2 x3 x6 x7 x8 x10 t0 t1 t2 : Int} {res : (MS × Int × Int × Int × Int) ⊕ (MS)} (hf : m_heights_162 M x1 x2 x3 x6 x7 x8 x10 t0 t1 t2 = some res) (hZ : ZM D cI cZ mo ad s.heap M H locs) {ls : Array Slot} (hl : lv_has ls 11 [(0, .ref mo), (1, .int (zI x1)), (2, .int (zI x2)), (3, .int (zI x3)), (6, .int (zI x6)), (7, .int (zI x7)), (8, .int (zI x8)), (10, .int (zI x10))]) (hK : (Sum.elim (fun z => ∀ (H : Heap) (locs : List Loc) (ls : Array Slot), ZM D cI cZ mo ad s.heap z.1 H locs → lv_has ls 11 [(0, .ref mo), (1, .int (zI x1)), (2, .int (zI x2)), (3, .int (zI x3)), (4, .int (zI z.2.1)), (5, .int (zI z.2.2.1)), (6, .int (zI z.2.2.2.1)), (7, .int (zI x7)), (8, .int (zI z.2.2.2.2))] → W p l e R s m args below meth c H locs 0 0 Q (F0 m 47 ls [])) (fun r => KM below D cI cZ mo ad args s Q r none)) res) : W p l e R s m args below meth c H locs 0 0 Q (F0 m 162 ls [.int (zI t0), .int (zI t1), .int (zI t2), .ref (ad 46)]) := by
  unfold m_heights_162 at hf
  have hx := C.1
  have hb := C.2.1
  have hts := C.2.2.2.2.2.2.1
  refine zl_iadd hx hb dX5_heights_162 ?_
  exact w_heights_163 C hR hf hZ (lv_sub hl [0, 1, 2, 3, 4, 5, 6, 7] rfl) hK

theorem w_heights_109 {p : Program} {l : Launch} {e : Env} {R : Room} {s : State} {m : MethodId} {args : Array Value} {below : List Frame} {meth : Method} {c : Code} {Q : State → Prop} {D : va_G} {cI cZ : ClassId} {mo : Nat} {ad : Nat → Nat} {H : Heap} {locs : List Loc} {M : MS} (C : MC p s m args meth c D cI cZ cX5_heights 11 none) (hR : 5 ≤ R.frames ∧ 122 ≤ R.locals) {x1 x2 x3 x4 x6 x7 x8 t0 : Int} {res : (MS × Int × Int × Int × Int) ⊕ (MS)} (hf : m_heights_109 M x1 x2 x3 x4 x6 x7 x8 t0 = some res) (hZ : ZM D cI cZ mo ad s.heap M H locs) {ls : Array Slot} (hl : lv_has ls 11 [(0, .ref mo), (1, .int (zI x1)), (2, .int (zI x2)), (3, .int (zI x3)), (4, .int (zI x4)), (6, .int (zI x6)), (7, .int (zI x7)), (8, .int (zI x8))]) (hK : (Sum.elim (fun z => ∀ (H : Heap) (locs : List Loc) (ls : Array Slot), ZM D cI cZ mo ad s.heap z.1 H locs → lv_has ls 11 [(0, .ref mo), (1, .int (zI x1)), (2, .int (zI x2)), (3, .int (zI x3)), (4, .int (zI z.2.1)), (5, .int (zI z.2.2.1)), (6, .int (zI z.2.2.2.1)), (7, .int (zI x7)), (8, .int (zI z.2.2.2.2))] → W p l e R s m args below meth c H locs 0 0 Q (F0 m 47 ls [])) (fun r => KM below D cI cZ mo ad args s Q r none)) res) : W p l e R s m args below meth c H locs 0 0 Q (F0 m 109 ls [.int (zI t0)]) := by
  unfold m_heights_109 at hf
  have hx := C.1
  have hb := C.2.1
  have hts := C.2.2.2.2.2.2.1
  refine lv_istore (lv' := [(5, .int (zI t0)), (0, .ref mo), (1, .int (zI x1)), (2, .int (zI x2)), (3, .int (zI x3)), (4, .int (zI x4)), (6, .int (zI x6)), (7, .int (zI x7)), (8, .int (zI x8))]) hx hb dX5_heights_109 hl (by decide) rfl (fun ls hl => ?_)
  refine lv_aload_n hx hb dX5_heights_111 rfl (lv_at hl 1 rfl) ?_
  refine zl_iconst hx hb dX5_heights_112 ?_
  obtain ⟨M8, eM8, hf⟩ := bnd_inv hf
  refine zm_puti C hZ 52 (by decide) rfl rfl q1193 dX5_heights_113 (fun H locs hZ => ?_)
  rw [← eM8] at hZ
  refine lv_aload_n hx hb dX5_heights_116 rfl (lv_at hl 1 rfl) ?_
  refine zm_geta C hZ 36 (by decide) (by decide) q1177 dX5_heights_117 ?_
  refine zl_sipush hx hb dX5_heights_120 (by decide) ?_
  refine lv_iload hx hb dX5_heights_123 (lv_at hl 8 rfl) ?_
  refine zl_iadd hx hb dX5_heights_125 ?_
  obtain ⟨hg, hf⟩ := gd_inv hf
  refine zm_iald C hZ 36 (by decide) rfl rfl hg dX5_heights_126 ?_
  obtain ⟨y9, ey9, hf⟩ := bnd_inv hf
  refine zl_top ey9 ?_
  refine lv_istore (lv' := [(10, .int (zI y9)), (5, .int (zI t0)), (0, .ref mo), (1, .int (zI x1)), (2, .int (zI x2)), (3, .int (zI x3)), (4, .int (zI x4)), (6, .int (zI x6)), (7, .int (zI x7)), (8, .int (zI x8))]) hx hb dX5_heights_127 hl (by decide) rfl (fun ls hl => ?_)
  refine lv_aload_n hx hb dX5_heights_129 rfl (lv_at hl 2 rfl) ?_
  refine zm_geta C hZ 46 (by decide) (by decide) q1187 dX5_heights_130 ?_
  refine lv_iload hx hb dX5_heights_133 (lv_at hl 9 rfl) ?_
  refine lv_iload_n hx hb dX5_heights_135 rfl (lv_at hl 5 rfl) ?_
  refine zl_bipush hx hb dX5_heights_136 (by decide) ?_
  refine zl_icmp_ne (tgt := 146) hx hb dX5_heights_138 (by decide) (fun hc => ?_) (fun hc => ?_)
  · rw [if_pos hc] at hf
    refine lv_iload hx hb dX5_heights_141 (lv_at hl 0 rfl) ?_
    refine lv_goto (tgt := 163) hx hb dX5_heights_143 (by decide) ?_
    exact w_heights_163 C hR hf hZ (lv_sub hl [2, 3, 4, 5, 7, 8, 9, 0] rfl) hK
  · rw [if_neg hc] at hf
    refine lv_iload hx hb dX5_heights_146 (lv_at hl 6 rfl) ?_
    refine lv_iload hx hb dX5_heights_148 (lv_at hl 1 rfl) ?_
    refine lv_iload hx hb dX5_heights_150 (lv_at hl 0 rfl) ?_
    refine zl_icmp_le (tgt := 160) hx hb dX5_heights_152 (by decide) (fun hc => ?_) (fun hc => ?_)
    · rw [if_pos hc] at hf
      refine lv_iload hx hb dX5_heights_155 (lv_at hl 1 rfl) ?_
      refine lv_goto (tgt := 162) hx hb dX5_heights_157 (by decide) ?_
      exact w_heights_162 C hR hf hZ (lv_sub hl [2, 3, 4, 5, 7, 8, 9, 0] rfl) hK
    · rw [if_neg hc] at hf
      refine lv_iload hx hb dX5_heights_160 (lv_at hl 0 rfl) ?_
      exact w_heights_162 C hR hf hZ (lv_sub hl [2, 3, 4, 5, 7, 8, 9, 0] rfl) hK

theorem w_heights_98 {p : Program} {l : Launch} {e : Env} {R : Room} {s : State} {m : MethodId} {args : Array Value} {below : List Frame} {meth : Method} {c : Code} {Q : State → Prop} {D : va_G} {cI cZ : ClassId} {mo : Nat} {ad : Nat → Nat} {H : Heap} {locs : List Loc} {M : MS} (C : MC p s m args meth c D cI cZ cX5_heights 11 none) (hR : 5 ≤ R.frames ∧ 122 ≤ R.locals) {x1 x2 x3 x4 x5 x6 x7 x8 x9 : Int} {res : (MS × Int × Int × Int × Int) ⊕ (MS)} (hf : m_heights_98 M x1 x2 x3 x4 x5 x6 x7 x8 x9 = some res) (hZ : ZM D cI cZ mo ad s.heap M H locs) {ls : Array Slot} (hl : lv_has ls 11 [(0, .ref mo), (1, .int (zI x1)), (2, .int (zI x2)), (3, .int (zI x3)), (4, .int (zI x4)), (5, .int (zI x5)), (6, .int (zI x6)), (7, .int (zI x7)), (8, .int (zI x8)), (9, .int (zI x9))]) (hK : (Sum.elim (fun z => ∀ (H : Heap) (locs : List Loc) (ls : Array Slot), ZM D cI cZ mo ad s.heap z.1 H locs → lv_has ls 11 [(0, .ref mo), (1, .int (zI x1)), (2, .int (zI x2)), (3, .int (zI x3)), (4, .int (zI z.2.1)), (5, .int (zI z.2.2.1)), (6, .int (zI z.2.2.2.1)), (7, .int (zI x7)), (8, .int (zI z.2.2.2.2))] → W p l e R s m args below meth c H locs 0 0 Q (F0 m 47 ls [])) (fun r => KM below D cI cZ mo ad args s Q r none)) res) : W p l e R s m args below meth c H locs 0 0 Q (F0 m 98 ls []) := by
  unfold m_heights_98 at hf
  have hx := C.1
  have hb := C.2.1
  have hts := C.2.2.2.2.2.2.1
  refine lv_iload hx hb dX5_heights_98 (lv_at hl 9 rfl) ?_
  refine zl_if_eq (tgt := 107) hx hb dX5_heights_100 (by decide) (fun hc => ?_) (fun hc => ?_)
  · rw [if_pos hc] at hf
    refine lv_iload hx hb dX5_heights_107 (lv_at hl 5 rfl) ?_
    exact w_heights_109 C hR hf hZ (lv_sub hl [0, 1, 2, 3, 4, 6, 7, 8] rfl) hK
  · rw [if_neg hc] at hf
    refine zl_iconst hx hb dX5_heights_103 ?_
    refine lv_goto (tgt := 109) hx hb dX5_heights_104 (by decide) ?_
    exact w_heights_109 C hR hf hZ (lv_sub hl [0, 1, 2, 3, 4, 6, 7, 8] rfl) hK

theorem w_heights_311 {p : Program} {l : Launch} {e : Env} {R : Room} {s : State} {m : MethodId} {args : Array Value} {below : List Frame} {meth : Method} {c : Code} {Q : State → Prop} {D : va_G} {cI cZ : ClassId} {mo : Nat} {ad : Nat → Nat} {H : Heap} {locs : List Loc} {M : MS} (C : MC p s m args meth c D cI cZ cX5_heights 11 none) (hR : 5 ≤ R.frames ∧ 122 ≤ R.locals) {t0 t1 t2 : Int} {res : MS} (hf : m_heights_311 M t0 t1 t2 = some res) (hZ : ZM D cI cZ mo ad s.heap M H locs) {ls : Array Slot} (hl : lv_has ls 11 []) (hK : KM below D cI cZ mo ad args s Q res none) : W p l e R s m args below meth c H locs 0 0 Q (F0 m 311 ls [.int (zI t0), .int (zI t1), .int (zI t2), .ref (ad 45)]) := by
  unfold m_heights_311 at hf
  have hx := C.1
  have hb := C.2.1
  have hts := C.2.2.2.2.2.2.1
  refine zl_iadd hx hb dX5_heights_311 ?_
  obtain ⟨hg, hf⟩ := gd_inv hf
  obtain ⟨M10, eM10, hf⟩ := bnd_inv hf
  refine zm_iast C hZ 45 (by decide) rfl rfl hg dX5_heights_312 (fun H locs hZ => ?_)
  rw [← eM10] at hZ
  obtain rfl := Option.some.inj hf
  exact zm_vret C hZ hK dX5_heights_313

theorem w_heights_279 {p : Program} {l : Launch} {e : Env} {R : Room} {s : State} {m : MethodId} {args : Array Value} {below : List Frame} {meth : Method} {c : Code} {Q : State → Prop} {D : va_G} {cI cZ : ClassId} {mo : Nat} {ad : Nat → Nat} {H : Heap} {locs : List Loc} {M : MS} (C : MC p s m args meth c D cI cZ cX5_heights 11 none) (hR : 5 ≤ R.frames ∧ 122 ≤ R.locals) {x1 x2 x3 x4 x5 x6 : Int} {res : MS} (hf : m_heights_279 M x1 x2 x3 x4 x5 x6 = some res) (hZ : ZM D cI cZ mo ad s.heap M H locs) {ls : Array Slot} (hl : lv_has ls 11 [(0, .ref mo), (1, .int (zI x1)), (2, .int (zI x2)), (3, .int (zI x3)), (4, .int (zI x4)), (5, .int (zI x5)), (6, .int (zI x6))]) (hK : KM below D cI cZ mo ad args s Q res none) : W p l e R s m args below meth c H locs 0 0 Q (F0 m 279 ls []) := by
  unfold m_heights_279 at hf
  have hx := C.1
  have hb := C.2.1
  have hts := C.2.2.2.2.2.2.1
  refine lv_aload_n hx hb dX5_heights_279 rfl (lv_at hl 0 rfl) ?_
  refine zm_geta C hZ 45 (by decide) (by decide) q1186 dX5_heights_280 ?_
  refine lv_iload_n hx hb dX5_heights_283 rfl (lv_at hl 1 rfl) ?_
  refine lv_iload_n hx hb dX5_heights_284 rfl (lv_at hl 2 rfl) ?_
  refine lv_iload_n hx hb dX5_heights_285 rfl (lv_at hl 3 rfl) ?_
  refine zl_bipush hx hb dX5_heights_286 (by decide) ?_
  refine zl_icmp_ne (tgt := 295) hx hb dX5_heights_288 (by decide) (fun hc => ?_) (fun hc => ?_)
  · rw [if_pos hc] at hf
    refine zl_iconst hx hb dX5_heights_291 ?_
    refine lv_goto (tgt := 311) hx hb dX5_heights_292 (by decide) ?_
    exact w_heights_311 C hR hf hZ (lv_sub hl [] rfl) hK
  · rw [if_neg hc] at hf
    refine lv_iload_n hx hb dX5_heights_295 rfl (lv_at hl 3 rfl) ?_
    refine zl_bipush hx hb dX5_heights_296 (by decide) ?_
    refine zl_icmp_ne (tgt := 306) hx hb dX5_heights_298 (by decide) (fun hc => ?_) (fun hc => ?_)
    · rw [if_pos hc] at hf
      refine lv_iload hx hb dX5_heights_301 (lv_at hl 6 rfl) ?_
      refine lv_goto (tgt := 311) hx hb dX5_heights_303 (by decide) ?_
      exact w_heights_311 C hR hf hZ (lv_sub hl [] rfl) hK
    · rw [if_neg hc] at hf
      refine lv_iload hx hb dX5_heights_306 (lv_at hl 4 rfl) ?_
      refine lv_iload hx hb dX5_heights_308 (lv_at hl 5 rfl) ?_
      refine zl_iadd hx hb dX5_heights_310 ?_
      exact w_heights_311 C hR hf hZ (lv_sub hl [] rfl) hK

theorem w_heights_257 {p : Program} {l : Launch} {e : Env} {R : Room} {s : State} {m : MethodId} {args : Array Value} {below : List Frame} {meth : Method} {c : Code} {Q : State → Prop} {D : va_G} {cI cZ : ClassId} {mo : Nat} {ad : Nat → Nat} {H : Heap} {locs : List Loc} {M : MS} (C : MC p s m args meth c D cI cZ cX5_heights 11 none) (hR : 5 ≤ R.frames ∧ 122 ≤ R.locals) {x1 x2 x3 x4 x5 x6 : Int} {res : MS} (hf : m_heights_257 M x1 x2 x3 x4 x5 x6 = some res) (hZ : ZM D cI cZ mo ad s.heap M H locs) {ls : Array Slot} (hl : lv_has ls 11 [(0, .ref mo), (1, .int (zI x1)), (2, .int (zI x2)), (3, .int (zI x3)), (4, .int (zI x4)), (5, .int (zI x5)), (6, .int (zI x6))]) (hK : KM below D cI cZ mo ad args s Q res none) : W p l e R s m args below meth c H locs 0 0 Q (F0 m 257 ls []) := by
  unfold m_heights_257 at hf
  have hx := C.1
  have hb := C.2.1
  have hts := C.2.2.2.2.2.2.1
  refine lv_aload_n hx hb dX5_heights_257 rfl (lv_at hl 0 rfl) ?_
  obtain ⟨y9, ey9, hf⟩ := bd_inv hf
  refine zm_callV C hZ (n := 0) (rest := []) (met_runs l D cI cZ mo ad ey9) (lw_V q1556 q1558 qs79 q107 q1559) rfl rfl (by decide +kernel) ⟨Nat.le_trans (by decide) hR.1, Nat.le_trans (by decide) hR.2⟩ rfl hl.1 rfl (Nat.le_of_ble_eq_true rfl) dX5_heights_258 (fun H locs hZ => ?_)
  refine zl_if_eq (tgt := 279) hx hb dX5_heights_261 (by decide) (fun hc => ?_) (fun hc => ?_)
  · rw [if_pos hc] at hf
    exact w_heights_279 C hR hf hZ (lv_sub hl [0, 1, 2, 3, 4, 5, 6] rfl) hK
  · rw [if_neg hc] at hf
    refine lv_aload_n hx hb dX5_heights_264 rfl (lv_at hl 0 rfl) ?_
    refine lv_iload_n hx hb dX5_heights_265 rfl (lv_at hl 1 rfl) ?_
    refine lv_iload hx hb dX5_heights_266 (lv_at hl 4 rfl) ?_
    refine lv_iload hx hb dX5_heights_268 (lv_at hl 5 rfl) ?_
    refine zl_iadd hx hb dX5_heights_270 ?_
    obtain ⟨y10, ey10, hf⟩ := bd_inv hf
    refine zm_callV C hZ (n := 2) (rest := []) (met_lay l D cI cZ mo ad ey10) (lw_V q1560 q1562 qs80 q107 q1563) rfl rfl (by decide +kernel) ⟨Nat.le_trans (by decide) hR.1, Nat.le_trans (by decide) hR.2⟩ rfl hl.1 rfl (Nat.le_of_ble_eq_true rfl) dX5_heights_271 (fun H locs hZ => ?_)
    refine lv_istore (lv' := [(4, .int (zI y10.2)), (0, .ref mo), (1, .int (zI x1)), (2, .int (zI x2)), (3, .int (zI x3)), (5, .int (zI x5)), (6, .int (zI x6))]) hx hb dX5_heights_274 hl (by decide) rfl (fun ls hl => ?_)
    refine zl_iconst hx hb dX5_heights_276 ?_
    refine lv_istore (lv' := [(5, .int (zI 0)), (4, .int (zI y10.2)), (0, .ref mo), (1, .int (zI x1)), (2, .int (zI x2)), (3, .int (zI x3)), (6, .int (zI x6))]) hx hb dX5_heights_277 hl (by decide) rfl (fun ls hl => ?_)
    exact w_heights_279 C hR hf hZ (lv_sub hl [2, 3, 4, 5, 1, 0, 6] rfl) hK

theorem w_heights_47s {p : Program} {l : Launch} {e : Env} {R : Room} {s : State} {m : MethodId} {args : Array Value} {below : List Frame} {meth : Method} {c : Code} {Q : State → Prop} {D : va_G} {cI cZ : ClassId} {mo : Nat} {ad : Nat → Nat} {H : Heap} {locs : List Loc} {M : MS} (C : MC p s m args meth c D cI cZ cX5_heights 11 none) (hR : 5 ≤ R.frames ∧ 122 ≤ R.locals) {x1 x2 x3 x4 x5 x6 x7 x8 : Int} {res : (MS × Int × Int × Int × Int) ⊕ (MS)} (hf : m_heights_47s M x1 x2 x3 x4 x5 x6 x7 x8 = some res) (hZ : ZM D cI cZ mo ad s.heap M H locs) {ls : Array Slot} (hl : lv_has ls 11 [(0, .ref mo), (1, .int (zI x1)), (2, .int (zI x2)), (3, .int (zI x3)), (4, .int (zI x4)), (5, .int (zI x5)), (6, .int (zI x6)), (7, .int (zI x7)), (8, .int (zI x8))]) (hK : (Sum.elim (fun z => ∀ (H : Heap) (locs : List Loc) (ls : Array Slot), ZM D cI cZ mo ad s.heap z.1 H locs → lv_has ls 11 [(0, .ref mo), (1, .int (zI x1)), (2, .int (zI x2)), (3, .int (zI x3)), (4, .int (zI z.2.1)), (5, .int (zI z.2.2.1)), (6, .int (zI z.2.2.2.1)), (7, .int (zI x7)), (8, .int (zI z.2.2.2.2))] → W p l e R s m args below meth c H locs 0 0 Q (F0 m 47 ls [])) (fun r => KM below D cI cZ mo ad args s Q r none)) res) : W p l e R s m args below meth c H locs 0 0 Q (F0 m 47 ls []) := by
  unfold m_heights_47s at hf
  have hx := C.1
  have hb := C.2.1
  have hts := C.2.2.2.2.2.2.1
  refine lv_iload hx hb dX5_heights_47 (lv_at hl 8 rfl) ?_
  refine lv_iload hx hb dX5_heights_49 (lv_at hl 7 rfl) ?_
  refine zl_icmp_ge (tgt := 257) hx hb dX5_heights_51 (by decide) (fun hc => ?_) (fun hc => ?_)
  · rw [if_pos hc] at hf
    refine lv_aload_n hx hb dX5_heights_54 rfl (lv_at hl 0 rfl) ?_
    refine zm_geta C hZ 42 (by decide) (by decide) q1183 dX5_heights_55 ?_
    refine lv_iload hx hb dX5_heights_58 (lv_at hl 8 rfl) ?_
    obtain ⟨hg, hf⟩ := gd_inv hf
    refine zm_iald C hZ 42 (by decide) rfl rfl hg dX5_heights_60 ?_
    refine lv_iload_n hx hb dX5_heights_61 rfl (lv_at hl 1 rfl) ?_
    refine zl_icmp_ne (tgt := 224) hx hb dX5_heights_62 (by decide) (fun hc => ?_) (fun hc => ?_)
    · rw [if_pos hc] at hf
      refine lv_aload_n hx hb dX5_heights_65 rfl (lv_at hl 0 rfl) ?_
      refine zm_geta C hZ 41 (by decide) (by decide) q1182 dX5_heights_66 ?_
      refine lv_iload hx hb dX5_heights_69 (lv_at hl 8 rfl) ?_
      obtain ⟨hg, hf⟩ := gd_inv hf
      refine zm_zald C hZ 41 (by decide) rfl rfl hg dX5_heights_71 ?_
      refine zl_if_eq (tgt := 224) hx hb dX5_heights_72 (by decide) (fun hc => ?_) (fun hc => ?_)
      · rw [if_pos hc] at hf
        exact w_heights_224 C hR hf hZ (lv_sub hl [0, 1, 2, 3, 4, 5, 6, 7, 8] rfl) hK
      · rw [if_neg hc] at hf
        refine lv_aload_n hx hb dX5_heights_75 rfl (lv_at hl 0 rfl) ?_
        obtain ⟨y7, ey7, hf⟩ := bd_inv hf
        refine zm_callV C hZ (n := 0) (rest := []) (met_runs l D cI cZ mo ad ey7) (lw_V q1556 q1558 qs79 q107 q1559) rfl rfl (by decide +kernel) ⟨Nat.le_trans (by decide) hR.1, Nat.le_trans (by decide) hR.2⟩ rfl hl.1 rfl (Nat.le_of_ble_eq_true rfl) dX5_heights_76 (fun H locs hZ => ?_)
        refine lv_istore (lv' := [(9, .int (zI y7)), (0, .ref mo), (1, .int (zI x1)), (2, .int (zI x2)), (3, .int (zI x3)), (4, .int (zI x4)), (5, .int (zI x5)), (6, .int (zI x6)), (7, .int (zI x7)), (8, .int (zI x8))]) hx hb dX5_heights_79 hl (by decide) rfl (fun ls hl => ?_)
        refine lv_iload hx hb dX5_heights_81 (lv_at hl 0 rfl) ?_
        refine zl_if_eq (tgt := 98) hx hb dX5_heights_83 (by decide) (fun hc => ?_) (fun hc => ?_)
        · rw [if_pos hc] at hf
          exact w_heights_98 C hR hf hZ (lv_sub hl [1, 2, 3, 4, 5, 6, 7, 8, 9, 0] rfl) hK
        · rw [if_neg hc] at hf
          refine lv_aload_n hx hb dX5_heights_86 rfl (lv_at hl 1 rfl) ?_
          refine lv_iload_n hx hb dX5_heights_87 rfl (lv_at hl 2 rfl) ?_
          refine lv_iload hx hb dX5_heights_88 (lv_at hl 5 rfl) ?_
          refine lv_iload hx hb dX5_heights_90 (lv_at hl 6 rfl) ?_
          refine zl_iadd hx hb dX5_heights_92 ?_
          obtain ⟨y8, ey8, hf⟩ := bd_inv hf
          refine zm_callV C hZ (n := 2) (rest := []) (met_lay l D cI cZ mo ad ey8) (lw_V q1560 q1562 qs80 q107 q1563) rfl rfl (by decide +kernel) ⟨Nat.le_trans (by decide) hR.1, Nat.le_trans (by decide) hR.2⟩ rfl hl.1 rfl (Nat.le_of_ble_eq_true rfl) dX5_heights_93 (fun H locs hZ => ?_)
          refine lv_istore (lv' := [(4, .int (zI y8.2)), (9, .int (zI y7)), (0, .ref mo), (1, .int (zI x1)), (2, .int (zI x2)), (3, .int (zI x3)), (5, .int (zI x5)), (6, .int (zI x6)), (7, .int (zI x7)), (8, .int (zI x8))]) hx hb dX5_heights_96 hl (by decide) rfl (fun ls hl => ?_)
          exact w_heights_98 C hR hf hZ (lv_sub hl [2, 3, 4, 5, 0, 6, 7, 8, 9, 1] rfl) hK
    · rw [if_neg hc] at hf
      exact w_heights_224 C hR hf hZ (lv_sub hl [0, 1, 2, 3, 4, 5, 6, 7, 8] rfl) hK
  · rw [if_neg hc] at hf
    obtain ⟨r0, hm0, rfl⟩ := mr_inv hf
    exact w_heights_257 C hR hm0 hZ (lv_sub hl [0, 1, 2, 3, 4, 5, 6] rfl) hK

theorem w_heights_47 {p : Program} {l : Launch} {e : Env} {R : Room} {s : State} {m : MethodId} {args : Array Value} {below : List Frame} {meth : Method} {c : Code} {Q : State → Prop} {D : va_G} {cI cZ : ClassId} {mo : Nat} {ad : Nat → Nat} {H : Heap} {locs : List Loc} {M : MS} (C : MC p s m args meth c D cI cZ cX5_heights 11 none) (hR : 5 ≤ R.frames ∧ 122 ≤ R.locals) {x1 x2 x3 x4 x5 x6 x7 x8 : Int} {res : MS} (hf : m_heights_47 M x1 x2 x3 x4 x5 x6 x7 x8 = some res) (hZ : ZM D cI cZ mo ad s.heap M H locs) {ls : Array Slot} (hl : lv_has ls 11 [(0, .ref mo), (1, .int (zI x1)), (2, .int (zI x2)), (3, .int (zI x3)), (4, .int (zI x4)), (5, .int (zI x5)), (6, .int (zI x6)), (7, .int (zI x7)), (8, .int (zI x8))]) (hK : KM below D cI cZ mo ad args s Q res none) : W p l e R s m args below meth c H locs 0 0 Q (F0 m 47 ls []) := by
  unfold m_heights_47 at hf
  refine iter_ind (P := fun z r => ∀ (H : Heap) (locs : List Loc) (ls : Array Slot), ZM D cI cZ mo ad s.heap z.1 H locs → lv_has ls 11 [(0, .ref mo), (1, .int (zI x1)), (2, .int (zI x2)), (3, .int (zI x3)), (4, .int (zI z.2.1)), (5, .int (zI z.2.2.1)), (6, .int (zI z.2.2.2.1)), (7, .int (zI x7)), (8, .int (zI z.2.2.2.2))] → KM below D cI cZ mo ad args s Q r none → W p l e R s m args below meth c H locs 0 0 Q (F0 m 47 ls [])) ?_ ?_ hf H locs ls hZ hl hK
  · intro z r h1 H locs ls hZ hl hK; exact w_heights_47s C hR h1 hZ hl hK
  · intro z z1 r h1 ih H locs ls hZ hl hK; exact w_heights_47s C hR h1 hZ hl (fun H locs ls hZ hl => ih H locs ls hZ hl hK)

theorem w_heights {p : Program} {l : Launch} {e : Env} {R : Room} {s : State} {m : MethodId} {args : Array Value} {below : List Frame} {meth : Method} {c : Code} {Q : State → Prop} {D : va_G} {cI cZ : ClassId} {mo : Nat} {ad : Nat → Nat} {H : Heap} {locs : List Loc} {M : MS} (C : MC p s m args meth c D cI cZ cX5_heights 11 none) (hR : 5 ≤ R.frames ∧ 122 ≤ R.locals) {x1 : Int} {res : MS} (hf : m_heights M x1 = some res) (hZ : ZM D cI cZ mo ad s.heap M H locs) {ls : Array Slot} (hl : lv_has ls 11 [(0, .ref mo), (1, .int (zI x1))]) (hK : KM below D cI cZ mo ad args s Q res none) : W p l e R s m args below meth c H locs 0 0 Q (F0 m 0 ls []) := by
  unfold m_heights at hf
  have hx := C.1
  have hb := C.2.1
  have hts := C.2.2.2.2.2.2.1
  refine zl_iconst hx hb dX5_heights_0 ?_
  refine lv_aload_n hx hb dX5_heights_1 rfl (lv_at hl 0 rfl) ?_
  refine lv_iload_n hx hb dX5_heights_2 rfl (lv_at hl 1 rfl) ?_
  refine zl_iconst hx hb dX5_heights_3 ?_
  obtain ⟨y1, ey1, hf⟩ := bd_inv hf
  refine zm_callV C hZ (n := 2) (rest := [.int (zI 2)]) (met_border l D cI cZ mo ad ey1) (lw_V q1544 q1546 qs76 q107 q1547) rfl rfl (by decide +kernel) ⟨Nat.le_trans (by decide) hR.1, Nat.le_trans (by decide) hR.2⟩ rfl hl.1 rfl (Nat.le_of_ble_eq_true rfl) dX5_heights_4 (fun H locs hZ => ?_)
  refine zl_imul hx hb dX5_heights_7 ?_
  obtain ⟨y2, ey2, hf⟩ := bnd_inv hf
  refine zl_top ey2 ?_
  refine lv_istore_n (lv' := [(2, .int (zI y2)), (0, .ref mo), (1, .int (zI x1))]) hx hb dX5_heights_8 rfl hl (by decide) rfl (fun ls hl => ?_)
  refine lv_aload_n hx hb dX5_heights_9 rfl (lv_at hl 1 rfl) ?_
  refine zm_geta C hZ 8 (by decide) (by decide) q1149 dX5_heights_10 ?_
  refine lv_aload_n hx hb dX5_heights_13 rfl (lv_at hl 1 rfl) ?_
  refine zm_geta C hZ 6 (by decide) (by decide) q1147 dX5_heights_14 ?_
  refine lv_iload_n hx hb dX5_heights_17 rfl (lv_at hl 2 rfl) ?_
  obtain ⟨hg, hf⟩ := gd_inv hf
  refine zm_iald C hZ 6 (by decide) rfl rfl hg dX5_heights_18 ?_
  obtain ⟨hg, hf⟩ := gd_inv hf
  refine zm_iald C hZ 8 (by decide) rfl rfl hg dX5_heights_19 ?_
  obtain ⟨y3, ey3, hf⟩ := bnd_inv hf
  refine zl_top ey3 ?_
  refine lv_istore_n (lv' := [(3, .int (zI y3)), (2, .int (zI y2)), (0, .ref mo), (1, .int (zI x1))]) hx hb dX5_heights_20 rfl hl (by decide) rfl (fun ls hl => ?_)
  refine zl_iconst hx hb dX5_heights_21 ?_
  refine lv_istore (lv' := [(4, .int (zI 0)), (3, .int (zI y3)), (2, .int (zI y2)), (0, .ref mo), (1, .int (zI x1))]) hx hb dX5_heights_22 hl (by decide) rfl (fun ls hl => ?_)
  refine zl_iconst hx hb dX5_heights_24 ?_
  refine lv_istore (lv' := [(5, .int (zI 0)), (4, .int (zI 0)), (3, .int (zI y3)), (2, .int (zI y2)), (0, .ref mo), (1, .int (zI x1))]) hx hb dX5_heights_25 hl (by decide) rfl (fun ls hl => ?_)
  refine zl_iconst hx hb dX5_heights_27 ?_
  refine lv_istore (lv' := [(6, .int (zI 0)), (5, .int (zI 0)), (4, .int (zI 0)), (3, .int (zI y3)), (2, .int (zI y2)), (0, .ref mo), (1, .int (zI x1))]) hx hb dX5_heights_28 hl (by decide) rfl (fun ls hl => ?_)
  refine lv_aload_n hx hb dX5_heights_30 rfl (lv_at hl 5 rfl) ?_
  refine zl_iconst hx hb dX5_heights_31 ?_
  obtain ⟨M4, eM4, hf⟩ := bnd_inv hf
  refine zm_puti C hZ 52 (by decide) rfl rfl q1193 dX5_heights_32 (fun H locs hZ => ?_)
  rw [← eM4] at hZ
  refine lv_aload_n hx hb dX5_heights_35 rfl (lv_at hl 5 rfl) ?_
  refine lv_iload_n hx hb dX5_heights_36 rfl (lv_at hl 6 rfl) ?_
  obtain ⟨y5, ey5, hf⟩ := bd_inv hf
  refine zm_callV C hZ (n := 1) (rest := []) (met_behind l D cI cZ mo ad ey5) (lw_V q1380 q1382 qs49 q107 q1383) rfl rfl (by decide +kernel) ⟨Nat.le_trans (by decide) hR.1, Nat.le_trans (by decide) hR.2⟩ rfl hl.1 rfl (Nat.le_of_ble_eq_true rfl) dX5_heights_37 (fun H locs hZ => ?_)
  refine lv_istore (lv' := [(7, .int (zI y5)), (6, .int (zI 0)), (5, .int (zI 0)), (4, .int (zI 0)), (3, .int (zI y3)), (2, .int (zI y2)), (0, .ref mo), (1, .int (zI x1))]) hx hb dX5_heights_40 hl (by decide) rfl (fun ls hl => ?_)
  refine lv_iload_n hx hb dX5_heights_42 rfl (lv_at hl 7 rfl) ?_
  refine zl_iconst hx hb dX5_heights_43 ?_
  refine zl_iadd hx hb dX5_heights_44 ?_
  obtain ⟨y6, ey6, hf⟩ := bnd_inv hf
  refine zl_top ey6 ?_
  refine lv_istore (lv' := [(8, .int (zI y6)), (7, .int (zI y5)), (6, .int (zI 0)), (5, .int (zI 0)), (4, .int (zI 0)), (3, .int (zI y3)), (2, .int (zI y2)), (0, .ref mo), (1, .int (zI x1))]) hx hb dX5_heights_45 hl (by decide) rfl (fun ls hl => ?_)
  exact w_heights_47 C hR hf hZ (lv_sub hl [7, 8, 6, 5, 4, 3, 2, 1, 0] rfl) hK

theorem met_heights (l : Launch) (D : va_G) (cI cZ : ClassId) (mo : Nat) (ad : Nat → Nat) {M : MS} {x1 : Int} {res : MS} (hf : m_heights M x1 = some res) : Met l yX5_heights (ws_ yX5_heights cX5_heights 11 none) ({ frames := 5, cells := 0, slots := 0, locals := 122 }) (PM D cI cZ mo ad M [.int (zI x1)]) (QM D cI cZ mo ad res none) 0 0 (MA mo ad) := by
  refine Met.ofW (cc := cX5_heights) (maxL := 11) (ret := none) (by decide) rfl ?_
  intro p e s m args below meth c s₁ B hml hv
  obtain ⟨rfl, hRM, hK0⟩ := hv
  have hts := atoms_spec (ws := ws_ yX5_heights cX5_heights 11 none) B.pre
  have hts : ∀ w ∈ lw_all, w.before _ s = true := fun w h => hts w (List.mem_cons_of_mem _ h)
  have C : MC p s m _ meth c D cI cZ cX5_heights 11 none := ⟨B.exec, B.bytes, B.returns, B.notSynchronized, hml, findClass_of_methodNamed B.named, hts, hK0⟩
  have hZ : ZM D cI cZ mo ad s.heap M s.heap [] := ⟨hRM, rfl, fun _ _ => rfl, fun _ h => by cases h⟩
  have hl := lv_entry ([.ref mo, .int (zI x1)]) (n := 11) (Nat.le_of_ble_eq_true rfl)
  rw [lg_entry_eq]
  generalize (lg_sl ([.ref mo, .int (zI x1)]) ++ List.replicate (11 - (lg_sl ([.ref mo, .int (zI x1)])).length) Slot.unset).toArray = ls at hl ⊢
  have hl : lv_has ls 11 [(0, .ref mo), (1, .int (zI x1))] := hl
  exact w_heights C ⟨Nat.le_refl _, Nat.le_refl _⟩ hf hZ hl rfl

theorem w_places_58 {p : Program} {l : Launch} {e : Env} {R : Room} {s : State} {m : MethodId} {args : Array Value} {below : List Frame} {meth : Method} {c : Code} {Q : State → Prop} {D : va_G} {cI cZ : ClassId} {mo : Nat} {ad : Nat → Nat} {H : Heap} {locs : List Loc} {M : MS} (C : MC p s m args meth c D cI cZ cX5_places 2 none) (hR : 1 ≤ R.frames ∧ 22 ≤ R.locals) {x1 : Int} {res : (MS × Int) ⊕ (MS)} (hf : m_places_58 M x1 = some res) (hZ : ZM D cI cZ mo ad s.heap M H locs) {ls : Array Slot} (hl : lv_has ls 2 [(0, .ref mo), (1, .int (zI x1))]) (hK : (Sum.elim (fun z => ∀ (H : Heap) (locs : List Loc) (ls : Array Slot), ZM D cI cZ mo ad s.heap z.1 H locs → lv_has ls 2 [(0, .ref mo), (1, .int (zI z.2))] → W p l e R s m args below meth c H locs 0 0 Q (F0 m 9 ls [])) (fun r => KM below D cI cZ mo ad args s Q r none)) res) : W p l e R s m args below meth c H locs 0 0 Q (F0 m 58 ls []) := by
  unfold m_places_58 at hf
  have hx := C.1
  have hb := C.2.1
  have hts := C.2.2.2.2.2.2.1
  refine zl_iinc (x := x1) (n := 1) (lv' := [(1, .int (zI (x1 + 1))), (0, .ref mo)]) (k := 1) hx hb dX5_places_58 hl rfl (by decide) rfl (fun ls hl => ?_)
  refine lv_goto (tgt := 9) hx hb dX5_places_61 (by decide) ?_
  obtain rfl := Option.some.inj hf
  exact hK _ _ _ hZ (lv_sub hl [1, 0] rfl)

theorem w_places_115 {p : Program} {l : Launch} {e : Env} {R : Room} {s : State} {m : MethodId} {args : Array Value} {below : List Frame} {meth : Method} {c : Code} {Q : State → Prop} {D : va_G} {cI cZ : ClassId} {mo : Nat} {ad : Nat → Nat} {H : Heap} {locs : List Loc} {M : MS} (C : MC p s m args meth c D cI cZ cX5_places 2 none) (hR : 1 ≤ R.frames ∧ 22 ≤ R.locals) {x1 : Int} {res : (MS × Int) ⊕ (MS)} (hf : m_places_115 M x1 = some res) (hZ : ZM D cI cZ mo ad s.heap M H locs) {ls : Array Slot} (hl : lv_has ls 2 [(0, .ref mo), (1, .int (zI x1))]) (hK : (Sum.elim (fun z => ∀ (H : Heap) (locs : List Loc) (ls : Array Slot), ZM D cI cZ mo ad s.heap z.1 H locs → lv_has ls 2 [(0, .ref mo), (1, .int (zI z.2))] → W p l e R s m args below meth c H locs 0 0 Q (F0 m 66 ls [])) (fun r => KM below D cI cZ mo ad args s Q r none)) res) : W p l e R s m args below meth c H locs 0 0 Q (F0 m 115 ls []) := by
  unfold m_places_115 at hf
  have hx := C.1
  have hb := C.2.1
  have hts := C.2.2.2.2.2.2.1
  refine zl_iinc (x := x1) (n := 1) (lv' := [(1, .int (zI (x1 + 1))), (0, .ref mo)]) (k := 1) hx hb dX5_places_115 hl rfl (by decide) rfl (fun ls hl => ?_)
  refine lv_goto (tgt := 66) hx hb dX5_places_118 (by decide) ?_
  obtain rfl := Option.some.inj hf
  exact hK _ _ _ hZ (lv_sub hl [1, 0] rfl)

theorem w_places_66s {p : Program} {l : Launch} {e : Env} {R : Room} {s : State} {m : MethodId} {args : Array Value} {below : List Frame} {meth : Method} {c : Code} {Q : State → Prop} {D : va_G} {cI cZ : ClassId} {mo : Nat} {ad : Nat → Nat} {H : Heap} {locs : List Loc} {M : MS} (C : MC p s m args meth c D cI cZ cX5_places 2 none) (hR : 1 ≤ R.frames ∧ 22 ≤ R.locals) {x1 : Int} {res : (MS × Int) ⊕ (MS)} (hf : m_places_66s M x1 = some res) (hZ : ZM D cI cZ mo ad s.heap M H locs) {ls : Array Slot} (hl : lv_has ls 2 [(0, .ref mo), (1, .int (zI x1))]) (hK : (Sum.elim (fun z => ∀ (H : Heap) (locs : List Loc) (ls : Array Slot), ZM D cI cZ mo ad s.heap z.1 H locs → lv_has ls 2 [(0, .ref mo), (1, .int (zI z.2))] → W p l e R s m args below meth c H locs 0 0 Q (F0 m 66 ls [])) (fun r => KM below D cI cZ mo ad args s Q r none)) res) : W p l e R s m args below meth c H locs 0 0 Q (F0 m 66 ls []) := by
  unfold m_places_66s at hf
  have hx := C.1
  have hb := C.2.1
  have hts := C.2.2.2.2.2.2.1
  refine lv_iload_n hx hb dX5_places_66 rfl (lv_at hl 1 rfl) ?_
  refine lv_aload_n hx hb dX5_places_67 rfl (lv_at hl 0 rfl) ?_
  refine zm_geti C hZ 17 (by decide) rfl q1158 dX5_places_68 ?_
  refine zl_icmp_ge (tgt := 121) hx hb dX5_places_71 (by decide) (fun hc => ?_) (fun hc => ?_)
  · rw [if_pos hc] at hf
    refine lv_aload_n hx hb dX5_places_74 rfl (lv_at hl 0 rfl) ?_
    refine zm_geta C hZ 47 (by decide) (by decide) q1188 dX5_places_75 ?_
    refine lv_iload_n hx hb dX5_places_78 rfl (lv_at hl 1 rfl) ?_
    obtain ⟨hg, hf⟩ := gd_inv hf
    refine zm_zald C hZ 47 (by decide) rfl rfl hg dX5_places_79 ?_
    refine zl_if_eq (tgt := 115) hx hb dX5_places_80 (by decide) (fun hc => ?_) (fun hc => ?_)
    · rw [if_pos hc] at hf
      exact w_places_115 C hR hf hZ (lv_sub hl [0, 1] rfl) hK
    · rw [if_neg hc] at hf
      refine lv_aload_n hx hb dX5_places_83 rfl (lv_at hl 0 rfl) ?_
      refine zm_geta C hZ 49 (by decide) (by decide) q1190 dX5_places_84 ?_
      refine lv_iload_n hx hb dX5_places_87 rfl (lv_at hl 1 rfl) ?_
      refine lv_dup2_11 hx hb dX5_places_88 rfl rfl ?_
      obtain ⟨hg, hf⟩ := gd_inv hf
      refine zm_iald C hZ 49 (by decide) rfl rfl hg dX5_places_89 ?_
      refine lv_aload_n hx hb dX5_places_90 rfl (lv_at hl 0 rfl) ?_
      refine zm_geta C hZ 46 (by decide) (by decide) q1187 dX5_places_91 ?_
      refine lv_aload_n hx hb dX5_places_94 rfl (lv_at hl 0 rfl) ?_
      refine zm_geta C hZ 50 (by decide) (by decide) q1191 dX5_places_95 ?_
      refine lv_iload_n hx hb dX5_places_98 rfl (lv_at hl 1 rfl) ?_
      obtain ⟨hg, hf⟩ := gd_inv hf
      refine zm_iald C hZ 50 (by decide) rfl rfl hg dX5_places_99 ?_
      obtain ⟨hg, hf⟩ := gd_inv hf
      refine zm_iald C hZ 46 (by decide) rfl rfl hg dX5_places_100 ?_
      refine lv_aload_n hx hb dX5_places_101 rfl (lv_at hl 0 rfl) ?_
      refine lv_aload_n hx hb dX5_places_102 rfl (lv_at hl 0 rfl) ?_
      refine zm_geta C hZ 50 (by decide) (by decide) q1191 dX5_places_103 ?_
      refine lv_iload_n hx hb dX5_places_106 rfl (lv_at hl 1 rfl) ?_
      obtain ⟨hg, hf⟩ := gd_inv hf
      refine zm_iald C hZ 50 (by decide) rfl rfl hg dX5_places_107 ?_
      refine zl_iconst hx hb dX5_places_108 ?_
      obtain ⟨y4, ey4, hf⟩ := bd_inv hf
      refine zm_callV C hZ (n := 2) (rest := [.int (zI (M.2 46 (zix (M.2 50 (zix x1))))), .int (zI (M.2 49 (zix x1))), .int (zI x1), .ref (ad 49)]) (met_border l D cI cZ mo ad ey4) (lw_V q1544 q1546 qs76 q107 q1547) rfl rfl (by decide +kernel) ⟨Nat.le_trans (by decide) hR.1, Nat.le_trans (by decide) hR.2⟩ rfl hl.1 rfl (Nat.le_of_ble_eq_true rfl) dX5_places_109 (fun H locs hZ => ?_)
      refine zl_iadd hx hb dX5_places_112 ?_
      refine zl_iadd hx hb dX5_places_113 ?_
      obtain ⟨hg, hf⟩ := gd_inv hf
      obtain ⟨M5, eM5, hf⟩ := bnd_inv hf
      refine zm_iast C hZ 49 (by decide) rfl rfl hg dX5_places_114 (fun H locs hZ => ?_)
      rw [← eM5] at hZ
      exact w_places_115 C hR hf hZ (lv_sub hl [0, 1] rfl) hK
  · rw [if_neg hc] at hf
    obtain rfl := Option.some.inj hf
    exact zm_vret C hZ hK dX5_places_121

theorem w_places_66 {p : Program} {l : Launch} {e : Env} {R : Room} {s : State} {m : MethodId} {args : Array Value} {below : List Frame} {meth : Method} {c : Code} {Q : State → Prop} {D : va_G} {cI cZ : ClassId} {mo : Nat} {ad : Nat → Nat} {H : Heap} {locs : List Loc} {M : MS} (C : MC p s m args meth c D cI cZ cX5_places 2 none) (hR : 1 ≤ R.frames ∧ 22 ≤ R.locals) {x1 : Int} {res : MS} (hf : m_places_66 M x1 = some res) (hZ : ZM D cI cZ mo ad s.heap M H locs) {ls : Array Slot} (hl : lv_has ls 2 [(0, .ref mo), (1, .int (zI x1))]) (hK : KM below D cI cZ mo ad args s Q res none) : W p l e R s m args below meth c H locs 0 0 Q (F0 m 66 ls []) := by
  unfold m_places_66 at hf
  refine iter_ind (P := fun z r => ∀ (H : Heap) (locs : List Loc) (ls : Array Slot), ZM D cI cZ mo ad s.heap z.1 H locs → lv_has ls 2 [(0, .ref mo), (1, .int (zI z.2))] → KM below D cI cZ mo ad args s Q r none → W p l e R s m args below meth c H locs 0 0 Q (F0 m 66 ls [])) ?_ ?_ hf H locs ls hZ hl hK
  · intro z r h1 H locs ls hZ hl hK; exact w_places_66s C hR h1 hZ hl hK
  · intro z z1 r h1 ih H locs ls hZ hl hK; exact w_places_66s C hR h1 hZ hl (fun H locs ls hZ hl => ih H locs ls hZ hl hK)

theorem w_places_64 {p : Program} {l : Launch} {e : Env} {R : Room} {s : State} {m : MethodId} {args : Array Value} {below : List Frame} {meth : Method} {c : Code} {Q : State → Prop} {D : va_G} {cI cZ : ClassId} {mo : Nat} {ad : Nat → Nat} {H : Heap} {locs : List Loc} {M : MS} (C : MC p s m args meth c D cI cZ cX5_places 2 none) (hR : 1 ≤ R.frames ∧ 22 ≤ R.locals) {res : MS} (hf : m_places_64 M = some res) (hZ : ZM D cI cZ mo ad s.heap M H locs) {ls : Array Slot} (hl : lv_has ls 2 [(0, .ref mo)]) (hK : KM below D cI cZ mo ad args s Q res none) : W p l e R s m args below meth c H locs 0 0 Q (F0 m 64 ls []) := by
  unfold m_places_64 at hf
  have hx := C.1
  have hb := C.2.1
  have hts := C.2.2.2.2.2.2.1
  refine zl_iconst hx hb dX5_places_64 ?_
  refine lv_istore_n (lv' := [(1, .int (zI 0)), (0, .ref mo)]) hx hb dX5_places_65 rfl hl (by decide) rfl (fun ls hl => ?_)
  exact w_places_66 C hR hf hZ (lv_sub hl [1, 0] rfl) hK

theorem w_places_9s {p : Program} {l : Launch} {e : Env} {R : Room} {s : State} {m : MethodId} {args : Array Value} {below : List Frame} {meth : Method} {c : Code} {Q : State → Prop} {D : va_G} {cI cZ : ClassId} {mo : Nat} {ad : Nat → Nat} {H : Heap} {locs : List Loc} {M : MS} (C : MC p s m args meth c D cI cZ cX5_places 2 none) (hR : 1 ≤ R.frames ∧ 22 ≤ R.locals) {x1 : Int} {res : (MS × Int) ⊕ (MS)} (hf : m_places_9s M x1 = some res) (hZ : ZM D cI cZ mo ad s.heap M H locs) {ls : Array Slot} (hl : lv_has ls 2 [(0, .ref mo), (1, .int (zI x1))]) (hK : (Sum.elim (fun z => ∀ (H : Heap) (locs : List Loc) (ls : Array Slot), ZM D cI cZ mo ad s.heap z.1 H locs → lv_has ls 2 [(0, .ref mo), (1, .int (zI z.2))] → W p l e R s m args below meth c H locs 0 0 Q (F0 m 9 ls [])) (fun r => KM below D cI cZ mo ad args s Q r none)) res) : W p l e R s m args below meth c H locs 0 0 Q (F0 m 9 ls []) := by
  unfold m_places_9s at hf
  have hx := C.1
  have hb := C.2.1
  have hts := C.2.2.2.2.2.2.1
  refine lv_iload_n hx hb dX5_places_9 rfl (lv_at hl 1 rfl) ?_
  refine lv_aload_n hx hb dX5_places_10 rfl (lv_at hl 0 rfl) ?_
  refine zm_geti C hZ 5 (by decide) rfl q1146 dX5_places_11 ?_
  refine zl_icmp_ge (tgt := 64) hx hb dX5_places_14 (by decide) (fun hc => ?_) (fun hc => ?_)
  · rw [if_pos hc] at hf
    refine lv_aload_n hx hb dX5_places_17 rfl (lv_at hl 0 rfl) ?_
    refine zm_geta C hZ 41 (by decide) (by decide) q1182 dX5_places_18 ?_
    refine lv_iload_n hx hb dX5_places_21 rfl (lv_at hl 1 rfl) ?_
    obtain ⟨hg, hf⟩ := gd_inv hf
    refine zm_zald C hZ 41 (by decide) rfl rfl hg dX5_places_22 ?_
    refine zl_if_eq (tgt := 58) hx hb dX5_places_23 (by decide) (fun hc => ?_) (fun hc => ?_)
    · rw [if_pos hc] at hf
      exact w_places_58 C hR hf hZ (lv_sub hl [0, 1] rfl) hK
    · rw [if_neg hc] at hf
      refine lv_aload_n hx hb dX5_places_26 rfl (lv_at hl 0 rfl) ?_
      refine zm_geta C hZ 46 (by decide) (by decide) q1187 dX5_places_27 ?_
      refine lv_iload_n hx hb dX5_places_30 rfl (lv_at hl 1 rfl) ?_
      refine lv_dup2_11 hx hb dX5_places_31 rfl rfl ?_
      obtain ⟨hg, hf⟩ := gd_inv hf
      refine zm_iald C hZ 46 (by decide) rfl rfl hg dX5_places_32 ?_
      refine lv_aload_n hx hb dX5_places_33 rfl (lv_at hl 0 rfl) ?_
      refine zm_geta C hZ 46 (by decide) (by decide) q1187 dX5_places_34 ?_
      refine lv_aload_n hx hb dX5_places_37 rfl (lv_at hl 0 rfl) ?_
      refine zm_geta C hZ 42 (by decide) (by decide) q1183 dX5_places_38 ?_
      refine lv_iload_n hx hb dX5_places_41 rfl (lv_at hl 1 rfl) ?_
      obtain ⟨hg, hf⟩ := gd_inv hf
      refine zm_iald C hZ 42 (by decide) rfl rfl hg dX5_places_42 ?_
      obtain ⟨hg, hf⟩ := gd_inv hf
      refine zm_iald C hZ 46 (by decide) rfl rfl hg dX5_places_43 ?_
      refine lv_aload_n hx hb dX5_places_44 rfl (lv_at hl 0 rfl) ?_
      refine lv_aload_n hx hb dX5_places_45 rfl (lv_at hl 0 rfl) ?_
      refine zm_geta C hZ 42 (by decide) (by decide) q1183 dX5_places_46 ?_
      refine lv_iload_n hx hb dX5_places_49 rfl (lv_at hl 1 rfl) ?_
      obtain ⟨hg, hf⟩ := gd_inv hf
      refine zm_iald C hZ 42 (by decide) rfl rfl hg dX5_places_50 ?_
      refine zl_iconst hx hb dX5_places_51 ?_
      obtain ⟨y2, ey2, hf⟩ := bd_inv hf
      refine zm_callV C hZ (n := 2) (rest := [.int (zI (M.2 46 (zix (M.2 42 (zix x1))))), .int (zI (M.2 46 (zix x1))), .int (zI x1), .ref (ad 46)]) (met_border l D cI cZ mo ad ey2) (lw_V q1544 q1546 qs76 q107 q1547) rfl rfl (by decide +kernel) ⟨Nat.le_trans (by decide) hR.1, Nat.le_trans (by decide) hR.2⟩ rfl hl.1 rfl (Nat.le_of_ble_eq_true rfl) dX5_places_52 (fun H locs hZ => ?_)
      refine zl_iadd hx hb dX5_places_55 ?_
      refine zl_iadd hx hb dX5_places_56 ?_
      obtain ⟨hg, hf⟩ := gd_inv hf
      obtain ⟨M3, eM3, hf⟩ := bnd_inv hf
      refine zm_iast C hZ 46 (by decide) rfl rfl hg dX5_places_57 (fun H locs hZ => ?_)
      rw [← eM3] at hZ
      exact w_places_58 C hR hf hZ (lv_sub hl [0, 1] rfl) hK
  · rw [if_neg hc] at hf
    obtain ⟨r0, hm0, rfl⟩ := mr_inv hf
    exact w_places_64 C hR hm0 hZ (lv_sub hl [0] rfl) hK

theorem w_places_9 {p : Program} {l : Launch} {e : Env} {R : Room} {s : State} {m : MethodId} {args : Array Value} {below : List Frame} {meth : Method} {c : Code} {Q : State → Prop} {D : va_G} {cI cZ : ClassId} {mo : Nat} {ad : Nat → Nat} {H : Heap} {locs : List Loc} {M : MS} (C : MC p s m args meth c D cI cZ cX5_places 2 none) (hR : 1 ≤ R.frames ∧ 22 ≤ R.locals) {x1 : Int} {res : MS} (hf : m_places_9 M x1 = some res) (hZ : ZM D cI cZ mo ad s.heap M H locs) {ls : Array Slot} (hl : lv_has ls 2 [(0, .ref mo), (1, .int (zI x1))]) (hK : KM below D cI cZ mo ad args s Q res none) : W p l e R s m args below meth c H locs 0 0 Q (F0 m 9 ls []) := by
  unfold m_places_9 at hf
  refine iter_ind (P := fun z r => ∀ (H : Heap) (locs : List Loc) (ls : Array Slot), ZM D cI cZ mo ad s.heap z.1 H locs → lv_has ls 2 [(0, .ref mo), (1, .int (zI z.2))] → KM below D cI cZ mo ad args s Q r none → W p l e R s m args below meth c H locs 0 0 Q (F0 m 9 ls [])) ?_ ?_ hf H locs ls hZ hl hK
  · intro z r h1 H locs ls hZ hl hK; exact w_places_9s C hR h1 hZ hl hK
  · intro z z1 r h1 ih H locs ls hZ hl hK; exact w_places_9s C hR h1 hZ hl (fun H locs ls hZ hl => ih H locs ls hZ hl hK)

theorem w_places {p : Program} {l : Launch} {e : Env} {R : Room} {s : State} {m : MethodId} {args : Array Value} {below : List Frame} {meth : Method} {c : Code} {Q : State → Prop} {D : va_G} {cI cZ : ClassId} {mo : Nat} {ad : Nat → Nat} {H : Heap} {locs : List Loc} {M : MS} (C : MC p s m args meth c D cI cZ cX5_places 2 none) (hR : 1 ≤ R.frames ∧ 22 ≤ R.locals) {res : MS} (hf : m_places M = some res) (hZ : ZM D cI cZ mo ad s.heap M H locs) {ls : Array Slot} (hl : lv_has ls 2 [(0, .ref mo)]) (hK : KM below D cI cZ mo ad args s Q res none) : W p l e R s m args below meth c H locs 0 0 Q (F0 m 0 ls []) := by
  unfold m_places at hf
  have hx := C.1
  have hb := C.2.1
  have hts := C.2.2.2.2.2.2.1
  refine lv_aload_n hx hb dX5_places_0 rfl (lv_at hl 0 rfl) ?_
  refine zm_geta C hZ 46 (by decide) (by decide) q1187 dX5_places_1 ?_
  refine zl_iconst hx hb dX5_places_4 ?_
  refine zl_iconst hx hb dX5_places_5 ?_
  obtain ⟨hg, hf⟩ := gd_inv hf
  obtain ⟨M1, eM1, hf⟩ := bnd_inv hf
  refine zm_iast C hZ 46 (by decide) rfl rfl hg dX5_places_6 (fun H locs hZ => ?_)
  rw [← eM1] at hZ
  refine zl_iconst hx hb dX5_places_7 ?_
  refine lv_istore_n (lv' := [(1, .int (zI 1)), (0, .ref mo)]) hx hb dX5_places_8 rfl hl (by decide) rfl (fun ls hl => ?_)
  exact w_places_9 C hR hf hZ (lv_sub hl [1, 0] rfl) hK

theorem met_places (l : Launch) (D : va_G) (cI cZ : ClassId) (mo : Nat) (ad : Nat → Nat) {M : MS} {res : MS} (hf : m_places M = some res) : Met l yX5_places (ws_ yX5_places cX5_places 2 none) ({ frames := 1, cells := 0, slots := 0, locals := 22 }) (PM D cI cZ mo ad M []) (QM D cI cZ mo ad res none) 0 0 (MA mo ad) := by
  refine Met.ofW (cc := cX5_places) (maxL := 2) (ret := none) (by decide) rfl ?_
  intro p e s m args below meth c s₁ B hml hv
  obtain ⟨rfl, hRM, hK0⟩ := hv
  have hts := atoms_spec (ws := ws_ yX5_places cX5_places 2 none) B.pre
  have hts : ∀ w ∈ lw_all, w.before _ s = true := fun w h => hts w (List.mem_cons_of_mem _ h)
  have C : MC p s m _ meth c D cI cZ cX5_places 2 none := ⟨B.exec, B.bytes, B.returns, B.notSynchronized, hml, findClass_of_methodNamed B.named, hts, hK0⟩
  have hZ : ZM D cI cZ mo ad s.heap M s.heap [] := ⟨hRM, rfl, fun _ _ => rfl, fun _ h => by cases h⟩
  have hl := lv_entry ([.ref mo]) (n := 2) (Nat.le_of_ble_eq_true rfl)
  rw [lg_entry_eq]
  generalize (lg_sl ([.ref mo]) ++ List.replicate (2 - (lg_sl ([.ref mo])).length) Slot.unset).toArray = ls at hl ⊢
  have hl : lv_has ls 2 [(0, .ref mo)] := hl
  exact w_places C ⟨Nat.le_refl _, Nat.le_refl _⟩ hf hZ hl rfl

theorem w_layout_115 {p : Program} {l : Launch} {e : Env} {R : Room} {s : State} {m : MethodId} {args : Array Value} {below : List Frame} {meth : Method} {c : Code} {Q : State → Prop} {D : va_G} {cI cZ : ClassId} {mo : Nat} {ad : Nat → Nat} {H : Heap} {locs : List Loc} {M : MS} (C : MC p s m args meth c D cI cZ cX5_layout 3 (some .int)) (hR : 6 ≤ R.frames ∧ 152 ≤ R.locals) {res : MS × Int} (hf : m_layout_115 M = some res) (hZ : ZM D cI cZ mo ad s.heap M H locs) {ls : Array Slot} (hl : lv_has ls 3 [(0, .ref mo)]) (hK : KM below D cI cZ mo ad args s Q res.1 (some (.int (zI res.2)))) : W p l e R s m args below meth c H locs 0 0 Q (F0 m 115 ls []) := by
  unfold m_layout_115 at hf
  have hx := C.1
  have hb := C.2.1
  have hts := C.2.2.2.2.2.2.1
  refine lv_aload_n hx hb dX5_layout_115 rfl (lv_at hl 0 rfl) ?_
  obtain ⟨y8, ey8, hf⟩ := bd_inv hf
  refine zm_callV C hZ (n := 0) (rest := []) (met_places l D cI cZ mo ad ey8) (lw_V q1584 q1586 qs86 q107 q1587) rfl rfl (by decide +kernel) ⟨Nat.le_trans (by decide) hR.1, Nat.le_trans (by decide) hR.2⟩ rfl hl.1 rfl (Nat.le_of_ble_eq_true rfl) dX5_layout_116 (fun H locs hZ => ?_)
  refine lv_aload_n hx hb dX5_layout_119 rfl (lv_at hl 0 rfl) ?_
  refine zm_geta C hZ 45 (by decide) (by decide) q1186 dX5_layout_120 ?_
  refine zl_iconst hx hb dX5_layout_123 ?_
  obtain ⟨hg, hf⟩ := gd_inv hf
  refine zm_iald C hZ 45 (by decide) rfl rfl hg dX5_layout_124 ?_
  obtain rfl := Option.some.inj hf
  exact zm_iret C hZ hK dX5_layout_125

theorem w_layout_109 {p : Program} {l : Launch} {e : Env} {R : Room} {s : State} {m : MethodId} {args : Array Value} {below : List Frame} {meth : Method} {c : Code} {Q : State → Prop} {D : va_G} {cI cZ : ClassId} {mo : Nat} {ad : Nat → Nat} {H : Heap} {locs : List Loc} {M : MS} (C : MC p s m args meth c D cI cZ cX5_layout 3 (some .int)) (hR : 6 ≤ R.frames ∧ 152 ≤ R.locals) {x2 : Int} {res : (MS × Int) ⊕ (MS × Int)} (hf : m_layout_109 M x2 = some res) (hZ : ZM D cI cZ mo ad s.heap M H locs) {ls : Array Slot} (hl : lv_has ls 3 [(0, .ref mo), (2, .int (zI x2))]) (hK : (Sum.elim (fun z => ∀ (H : Heap) (locs : List Loc) (ls : Array Slot), ZM D cI cZ mo ad s.heap z.1 H locs → lv_has ls 3 [(0, .ref mo), (2, .int (zI z.2))] → W p l e R s m args below meth c H locs 0 0 Q (F0 m 91 ls [])) (fun r => KM below D cI cZ mo ad args s Q r.1 (some (.int (zI r.2))))) res) : W p l e R s m args below meth c H locs 0 0 Q (F0 m 109 ls []) := by
  unfold m_layout_109 at hf
  have hx := C.1
  have hb := C.2.1
  have hts := C.2.2.2.2.2.2.1
  refine zl_iinc (x := x2) (n := (-1)) (lv' := [(2, .int (zI (x2 + (-1)))), (0, .ref mo)]) (k := 1) hx hb dX5_layout_109 hl rfl (by decide) rfl (fun ls hl => ?_)
  refine lv_goto (tgt := 91) hx hb dX5_layout_112 (by decide) ?_
  obtain rfl := Option.some.inj hf
  exact hK _ _ _ hZ (lv_sub hl [1, 0] rfl)

theorem w_layout_91s {p : Program} {l : Launch} {e : Env} {R : Room} {s : State} {m : MethodId} {args : Array Value} {below : List Frame} {meth : Method} {c : Code} {Q : State → Prop} {D : va_G} {cI cZ : ClassId} {mo : Nat} {ad : Nat → Nat} {H : Heap} {locs : List Loc} {M : MS} (C : MC p s m args meth c D cI cZ cX5_layout 3 (some .int)) (hR : 6 ≤ R.frames ∧ 152 ≤ R.locals) {x2 : Int} {res : (MS × Int) ⊕ (MS × Int)} (hf : m_layout_91s M x2 = some res) (hZ : ZM D cI cZ mo ad s.heap M H locs) {ls : Array Slot} (hl : lv_has ls 3 [(0, .ref mo), (2, .int (zI x2))]) (hK : (Sum.elim (fun z => ∀ (H : Heap) (locs : List Loc) (ls : Array Slot), ZM D cI cZ mo ad s.heap z.1 H locs → lv_has ls 3 [(0, .ref mo), (2, .int (zI z.2))] → W p l e R s m args below meth c H locs 0 0 Q (F0 m 91 ls [])) (fun r => KM below D cI cZ mo ad args s Q r.1 (some (.int (zI r.2))))) res) : W p l e R s m args below meth c H locs 0 0 Q (F0 m 91 ls []) := by
  unfold m_layout_91s at hf
  have hx := C.1
  have hb := C.2.1
  have hts := C.2.2.2.2.2.2.1
  refine lv_iload_n hx hb dX5_layout_91 rfl (lv_at hl 1 rfl) ?_
  refine zl_if_lt (tgt := 115) hx hb dX5_layout_92 (by decide) (fun hc => ?_) (fun hc => ?_)
  · rw [if_pos hc] at hf
    obtain ⟨r0, hm0, rfl⟩ := mr_inv hf
    exact w_layout_115 C hR hm0 hZ (lv_sub hl [0] rfl) hK
  · rw [if_neg hc] at hf
    refine lv_aload_n hx hb dX5_layout_95 rfl (lv_at hl 0 rfl) ?_
    refine zm_geta C hZ 41 (by decide) (by decide) q1182 dX5_layout_96 ?_
    refine lv_iload_n hx hb dX5_layout_99 rfl (lv_at hl 1 rfl) ?_
    obtain ⟨hg, hf⟩ := gd_inv hf
    refine zm_zald C hZ 41 (by decide) rfl rfl hg dX5_layout_100 ?_
    refine zl_if_eq (tgt := 109) hx hb dX5_layout_101 (by decide) (fun hc => ?_) (fun hc => ?_)
    · rw [if_pos hc] at hf
      exact w_layout_109 C hR hf hZ (lv_sub hl [0, 1] rfl) hK
    · rw [if_neg hc] at hf
      refine lv_aload_n hx hb dX5_layout_104 rfl (lv_at hl 0 rfl) ?_
      refine lv_iload_n hx hb dX5_layout_105 rfl (lv_at hl 1 rfl) ?_
      obtain ⟨y8, ey8, hf⟩ := bd_inv hf
      refine zm_callV C hZ (n := 1) (rest := []) (met_heights l D cI cZ mo ad ey8) (lw_V q1552 q1554 qs78 q107 q1555) rfl rfl (by decide +kernel) ⟨Nat.le_trans (by decide) hR.1, Nat.le_trans (by decide) hR.2⟩ rfl hl.1 rfl (Nat.le_of_ble_eq_true rfl) dX5_layout_106 (fun H locs hZ => ?_)
      exact w_layout_109 C hR hf hZ (lv_sub hl [0, 1] rfl) hK

theorem w_layout_91 {p : Program} {l : Launch} {e : Env} {R : Room} {s : State} {m : MethodId} {args : Array Value} {below : List Frame} {meth : Method} {c : Code} {Q : State → Prop} {D : va_G} {cI cZ : ClassId} {mo : Nat} {ad : Nat → Nat} {H : Heap} {locs : List Loc} {M : MS} (C : MC p s m args meth c D cI cZ cX5_layout 3 (some .int)) (hR : 6 ≤ R.frames ∧ 152 ≤ R.locals) {x2 : Int} {res : MS × Int} (hf : m_layout_91 M x2 = some res) (hZ : ZM D cI cZ mo ad s.heap M H locs) {ls : Array Slot} (hl : lv_has ls 3 [(0, .ref mo), (2, .int (zI x2))]) (hK : KM below D cI cZ mo ad args s Q res.1 (some (.int (zI res.2)))) : W p l e R s m args below meth c H locs 0 0 Q (F0 m 91 ls []) := by
  unfold m_layout_91 at hf
  refine iter_ind (P := fun z r => ∀ (H : Heap) (locs : List Loc) (ls : Array Slot), ZM D cI cZ mo ad s.heap z.1 H locs → lv_has ls 3 [(0, .ref mo), (2, .int (zI z.2))] → KM below D cI cZ mo ad args s Q r.1 (some (.int (zI r.2))) → W p l e R s m args below meth c H locs 0 0 Q (F0 m 91 ls [])) ?_ ?_ hf H locs ls hZ hl hK
  · intro z r h1 H locs ls hZ hl hK; exact w_layout_91s C hR h1 hZ hl hK
  · intro z z1 r h1 ih H locs ls hZ hl hK; exact w_layout_91s C hR h1 hZ hl (fun H locs ls hZ hl => ih H locs ls hZ hl hK)

theorem w_layout_84 {p : Program} {l : Launch} {e : Env} {R : Room} {s : State} {m : MethodId} {args : Array Value} {below : List Frame} {meth : Method} {c : Code} {Q : State → Prop} {D : va_G} {cI cZ : ClassId} {mo : Nat} {ad : Nat → Nat} {H : Heap} {locs : List Loc} {M : MS} (C : MC p s m args meth c D cI cZ cX5_layout 3 (some .int)) (hR : 6 ≤ R.frames ∧ 152 ≤ R.locals) {res : MS × Int} (hf : m_layout_84 M = some res) (hZ : ZM D cI cZ mo ad s.heap M H locs) {ls : Array Slot} (hl : lv_has ls 3 [(0, .ref mo)]) (hK : KM below D cI cZ mo ad args s Q res.1 (some (.int (zI res.2)))) : W p l e R s m args below meth c H locs 0 0 Q (F0 m 84 ls []) := by
  unfold m_layout_84 at hf
  have hx := C.1
  have hb := C.2.1
  have hts := C.2.2.2.2.2.2.1
  refine lv_aload_n hx hb dX5_layout_84 rfl (lv_at hl 0 rfl) ?_
  refine zm_geti C hZ 5 (by decide) rfl q1146 dX5_layout_85 ?_
  refine zl_iconst hx hb dX5_layout_88 ?_
  refine zl_isub hx hb dX5_layout_89 ?_
  obtain ⟨y7, ey7, hf⟩ := bnd_inv hf
  refine zl_top ey7 ?_
  refine lv_istore_n (lv' := [(2, .int (zI y7)), (0, .ref mo)]) hx hb dX5_layout_90 rfl hl (by decide) rfl (fun ls hl => ?_)
  exact w_layout_91 C hR hf hZ (lv_sub hl [1, 0] rfl) hK

theorem w_layout_64s {p : Program} {l : Launch} {e : Env} {R : Room} {s : State} {m : MethodId} {args : Array Value} {below : List Frame} {meth : Method} {c : Code} {Q : State → Prop} {D : va_G} {cI cZ : ClassId} {mo : Nat} {ad : Nat → Nat} {H : Heap} {locs : List Loc} {M : MS} (C : MC p s m args meth c D cI cZ cX5_layout 3 (some .int)) (hR : 6 ≤ R.frames ∧ 152 ≤ R.locals) {x1 x2 : Int} {res : (MS × Int) ⊕ (MS × Int)} (hf : m_layout_64s M x1 x2 = some res) (hZ : ZM D cI cZ mo ad s.heap M H locs) {ls : Array Slot} (hl : lv_has ls 3 [(0, .ref mo), (1, .int (zI x1)), (2, .int (zI x2))]) (hK : (Sum.elim (fun z => ∀ (H : Heap) (locs : List Loc) (ls : Array Slot), ZM D cI cZ mo ad s.heap z.1 H locs → lv_has ls 3 [(0, .ref mo), (1, .int (zI x1)), (2, .int (zI z.2))] → W p l e R s m args below meth c H locs 0 0 Q (F0 m 64 ls [])) (fun r => KM below D cI cZ mo ad args s Q r.1 (some (.int (zI r.2))))) res) : W p l e R s m args below meth c H locs 0 0 Q (F0 m 64 ls []) := by
  unfold m_layout_64s at hf
  have hx := C.1
  have hb := C.2.1
  have hts := C.2.2.2.2.2.2.1
  refine lv_iload_n hx hb dX5_layout_64 rfl (lv_at hl 2 rfl) ?_
  refine lv_aload_n hx hb dX5_layout_65 rfl (lv_at hl 0 rfl) ?_
  refine zm_geti C hZ 5 (by decide) rfl q1146 dX5_layout_66 ?_
  refine zl_icmp_ge (tgt := 84) hx hb dX5_layout_69 (by decide) (fun hc => ?_) (fun hc => ?_)
  · rw [if_pos hc] at hf
    refine lv_aload_n hx hb dX5_layout_72 rfl (lv_at hl 0 rfl) ?_
    refine lv_iload_n hx hb dX5_layout_73 rfl (lv_at hl 2 rfl) ?_
    refine lv_iload_n hx hb dX5_layout_74 rfl (lv_at hl 1 rfl) ?_
    obtain ⟨y6, ey6, hf⟩ := bd_inv hf
    refine zm_callV C hZ (n := 2) (rest := []) (met_widths l D cI cZ mo ad ey6) (lw_V q1540 q1542 qs75 q107 q1543) rfl rfl (by decide +kernel) ⟨Nat.le_trans (by decide) hR.1, Nat.le_trans (by decide) hR.2⟩ rfl hl.1 rfl (Nat.le_of_ble_eq_true rfl) dX5_layout_75 (fun H locs hZ => ?_)
    refine zl_iinc (x := x2) (n := 1) (lv' := [(2, .int (zI (x2 + 1))), (0, .ref mo), (1, .int (zI x1))]) (k := 2) hx hb dX5_layout_78 hl rfl (by decide) rfl (fun ls hl => ?_)
    refine lv_goto (tgt := 64) hx hb dX5_layout_81 (by decide) ?_
    obtain rfl := Option.some.inj hf
    exact hK _ _ _ hZ (lv_sub hl [1, 2, 0] rfl)
  · rw [if_neg hc] at hf
    obtain ⟨r0, hm0, rfl⟩ := mr_inv hf
    exact w_layout_84 C hR hm0 hZ (lv_sub hl [0] rfl) hK

theorem w_layout_64 {p : Program} {l : Launch} {e : Env} {R : Room} {s : State} {m : MethodId} {args : Array Value} {below : List Frame} {meth : Method} {c : Code} {Q : State → Prop} {D : va_G} {cI cZ : ClassId} {mo : Nat} {ad : Nat → Nat} {H : Heap} {locs : List Loc} {M : MS} (C : MC p s m args meth c D cI cZ cX5_layout 3 (some .int)) (hR : 6 ≤ R.frames ∧ 152 ≤ R.locals) {x1 x2 : Int} {res : MS × Int} (hf : m_layout_64 M x1 x2 = some res) (hZ : ZM D cI cZ mo ad s.heap M H locs) {ls : Array Slot} (hl : lv_has ls 3 [(0, .ref mo), (1, .int (zI x1)), (2, .int (zI x2))]) (hK : KM below D cI cZ mo ad args s Q res.1 (some (.int (zI res.2)))) : W p l e R s m args below meth c H locs 0 0 Q (F0 m 64 ls []) := by
  unfold m_layout_64 at hf
  refine iter_ind (P := fun z r => ∀ (H : Heap) (locs : List Loc) (ls : Array Slot), ZM D cI cZ mo ad s.heap z.1 H locs → lv_has ls 3 [(0, .ref mo), (1, .int (zI x1)), (2, .int (zI z.2))] → KM below D cI cZ mo ad args s Q r.1 (some (.int (zI r.2))) → W p l e R s m args below meth c H locs 0 0 Q (F0 m 64 ls [])) ?_ ?_ hf H locs ls hZ hl hK
  · intro z r h1 H locs ls hZ hl hK; exact w_layout_64s C hR h1 hZ hl hK
  · intro z z1 r h1 ih H locs ls hZ hl hK; exact w_layout_64s C hR h1 hZ hl (fun H locs ls hZ hl => ih H locs ls hZ hl hK)

theorem w_layout_62 {p : Program} {l : Launch} {e : Env} {R : Room} {s : State} {m : MethodId} {args : Array Value} {below : List Frame} {meth : Method} {c : Code} {Q : State → Prop} {D : va_G} {cI cZ : ClassId} {mo : Nat} {ad : Nat → Nat} {H : Heap} {locs : List Loc} {M : MS} (C : MC p s m args meth c D cI cZ cX5_layout 3 (some .int)) (hR : 6 ≤ R.frames ∧ 152 ≤ R.locals) {x1 : Int} {res : MS × Int} (hf : m_layout_62 M x1 = some res) (hZ : ZM D cI cZ mo ad s.heap M H locs) {ls : Array Slot} (hl : lv_has ls 3 [(0, .ref mo), (1, .int (zI x1))]) (hK : KM below D cI cZ mo ad args s Q res.1 (some (.int (zI res.2)))) : W p l e R s m args below meth c H locs 0 0 Q (F0 m 62 ls []) := by
  unfold m_layout_62 at hf
  have hx := C.1
  have hb := C.2.1
  have hts := C.2.2.2.2.2.2.1
  refine zl_iconst hx hb dX5_layout_62 ?_
  refine lv_istore_n (lv' := [(2, .int (zI 0)), (0, .ref mo), (1, .int (zI x1))]) hx hb dX5_layout_63 rfl hl (by decide) rfl (fun ls hl => ?_)
  exact w_layout_64 C hR hf hZ (lv_sub hl [1, 2, 0] rfl) hK

theorem w_layout_41s {p : Program} {l : Launch} {e : Env} {R : Room} {s : State} {m : MethodId} {args : Array Value} {below : List Frame} {meth : Method} {c : Code} {Q : State → Prop} {D : va_G} {cI cZ : ClassId} {mo : Nat} {ad : Nat → Nat} {H : Heap} {locs : List Loc} {M : MS} (C : MC p s m args meth c D cI cZ cX5_layout 3 (some .int)) (hR : 6 ≤ R.frames ∧ 152 ≤ R.locals) {x1 x2 : Int} {res : (MS × Int) ⊕ (MS × Int)} (hf : m_layout_41s M x1 x2 = some res) (hZ : ZM D cI cZ mo ad s.heap M H locs) {ls : Array Slot} (hl : lv_has ls 3 [(0, .ref mo), (1, .int (zI x1)), (2, .int (zI x2))]) (hK : (Sum.elim (fun z => ∀ (H : Heap) (locs : List Loc) (ls : Array Slot), ZM D cI cZ mo ad s.heap z.1 H locs → lv_has ls 3 [(0, .ref mo), (1, .int (zI x1)), (2, .int (zI z.2))] → W p l e R s m args below meth c H locs 0 0 Q (F0 m 41 ls [])) (fun r => KM below D cI cZ mo ad args s Q r.1 (some (.int (zI r.2))))) res) : W p l e R s m args below meth c H locs 0 0 Q (F0 m 41 ls []) := by
  unfold m_layout_41s at hf
  have hx := C.1
  have hb := C.2.1
  have hts := C.2.2.2.2.2.2.1
  refine lv_iload_n hx hb dX5_layout_41 rfl (lv_at hl 2 rfl) ?_
  refine lv_aload_n hx hb dX5_layout_42 rfl (lv_at hl 0 rfl) ?_
  refine zm_geti C hZ 17 (by decide) rfl q1158 dX5_layout_43 ?_
  refine zl_icmp_ge (tgt := 62) hx hb dX5_layout_46 (by decide) (fun hc => ?_) (fun hc => ?_)
  · rw [if_pos hc] at hf
    refine lv_aload_n hx hb dX5_layout_49 rfl (lv_at hl 0 rfl) ?_
    refine zm_geta C hZ 47 (by decide) (by decide) q1188 dX5_layout_50 ?_
    refine lv_iload_n hx hb dX5_layout_53 rfl (lv_at hl 2 rfl) ?_
    refine zl_iconst hx hb dX5_layout_54 ?_
    obtain ⟨hg, hf⟩ := gd_inv hf
    obtain ⟨M5, eM5, hf⟩ := bnd_inv hf
    refine zm_zast C hZ 47 (by decide) rfl rfl hg zisB_0 dX5_layout_55 (fun H locs hZ => ?_)
    rw [← eM5] at hZ
    refine zl_iinc (x := x2) (n := 1) (lv' := [(2, .int (zI (x2 + 1))), (0, .ref mo), (1, .int (zI x1))]) (k := 2) hx hb dX5_layout_56 hl rfl (by decide) rfl (fun ls hl => ?_)
    refine lv_goto (tgt := 41) hx hb dX5_layout_59 (by decide) ?_
    obtain rfl := Option.some.inj hf
    exact hK _ _ _ hZ (lv_sub hl [1, 2, 0] rfl)
  · rw [if_neg hc] at hf
    obtain ⟨r0, hm0, rfl⟩ := mr_inv hf
    exact w_layout_62 C hR hm0 hZ (lv_sub hl [0, 1] rfl) hK

theorem w_layout_41 {p : Program} {l : Launch} {e : Env} {R : Room} {s : State} {m : MethodId} {args : Array Value} {below : List Frame} {meth : Method} {c : Code} {Q : State → Prop} {D : va_G} {cI cZ : ClassId} {mo : Nat} {ad : Nat → Nat} {H : Heap} {locs : List Loc} {M : MS} (C : MC p s m args meth c D cI cZ cX5_layout 3 (some .int)) (hR : 6 ≤ R.frames ∧ 152 ≤ R.locals) {x1 x2 : Int} {res : MS × Int} (hf : m_layout_41 M x1 x2 = some res) (hZ : ZM D cI cZ mo ad s.heap M H locs) {ls : Array Slot} (hl : lv_has ls 3 [(0, .ref mo), (1, .int (zI x1)), (2, .int (zI x2))]) (hK : KM below D cI cZ mo ad args s Q res.1 (some (.int (zI res.2)))) : W p l e R s m args below meth c H locs 0 0 Q (F0 m 41 ls []) := by
  unfold m_layout_41 at hf
  refine iter_ind (P := fun z r => ∀ (H : Heap) (locs : List Loc) (ls : Array Slot), ZM D cI cZ mo ad s.heap z.1 H locs → lv_has ls 3 [(0, .ref mo), (1, .int (zI x1)), (2, .int (zI z.2))] → KM below D cI cZ mo ad args s Q r.1 (some (.int (zI r.2))) → W p l e R s m args below meth c H locs 0 0 Q (F0 m 41 ls [])) ?_ ?_ hf H locs ls hZ hl hK
  · intro z r h1 H locs ls hZ hl hK; exact w_layout_41s C hR h1 hZ hl hK
  · intro z z1 r h1 ih H locs ls hZ hl hK; exact w_layout_41s C hR h1 hZ hl (fun H locs ls hZ hl => ih H locs ls hZ hl hK)

theorem w_layout {p : Program} {l : Launch} {e : Env} {R : Room} {s : State} {m : MethodId} {args : Array Value} {below : List Frame} {meth : Method} {c : Code} {Q : State → Prop} {D : va_G} {cI cZ : ClassId} {mo : Nat} {ad : Nat → Nat} {H : Heap} {locs : List Loc} {M : MS} (C : MC p s m args meth c D cI cZ cX5_layout 3 (some .int)) (hR : 6 ≤ R.frames ∧ 152 ≤ R.locals) {x1 : Int} {res : MS × Int} (hf : m_layout M x1 = some res) (hZ : ZM D cI cZ mo ad s.heap M H locs) {ls : Array Slot} (hl : lv_has ls 3 [(0, .ref mo), (1, .int (zI x1))]) (hK : KM below D cI cZ mo ad args s Q res.1 (some (.int (zI res.2)))) : W p l e R s m args below meth c H locs 0 0 Q (F0 m 0 ls []) := by
  unfold m_layout at hf
  have hx := C.1
  have hb := C.2.1
  have hts := C.2.2.2.2.2.2.1
  refine lv_iload_n hx hb dX5_layout_0 rfl (lv_at hl 1 rfl) ?_
  refine zl_iconst hx hb dX5_layout_1 ?_
  refine zl_icmp_lt (tgt := 18) hx hb dX5_layout_2 (by decide) (fun hc => ?_) (fun hc => ?_)
  · rw [if_pos hc] at hf
    refine zl_iconst hx hb dX5_layout_18 ?_
    obtain rfl := Option.some.inj hf
    exact zm_iret C hZ hK dX5_layout_19
  · rw [if_neg hc] at hf
    refine lv_iload_n hx hb dX5_layout_5 rfl (lv_at hl 1 rfl) ?_
    refine zl_bipush hx hb dX5_layout_6 (by decide) ?_
    refine zl_icmp_gt (tgt := 18) hx hb dX5_layout_8 (by decide) (fun hc => ?_) (fun hc => ?_)
    · rw [if_pos hc] at hf
      refine zl_iconst hx hb dX5_layout_18 ?_
      obtain rfl := Option.some.inj hf
      exact zm_iret C hZ hK dX5_layout_19
    · rw [if_neg hc] at hf
      refine lv_aload_n hx hb dX5_layout_11 rfl (lv_at hl 0 rfl) ?_
      refine zm_geti C hZ 4 (by decide) rfl q1145 dX5_layout_12 ?_
      refine zl_if_eq (tgt := 20) hx hb dX5_layout_15 (by decide) (fun hc => ?_) (fun hc => ?_)
      · rw [if_pos hc] at hf
        refine lv_aload_n hx hb dX5_layout_20 rfl (lv_at hl 0 rfl) ?_
        obtain ⟨y1, ey1, hf⟩ := bd_inv hf
        refine zm_callV C hZ (n := 0) (rest := []) (met_style l D cI cZ mo ad ey1) (lw_V q1511 q1513 qs70 q107 q1514) rfl rfl (by decide +kernel) ⟨Nat.le_trans (by decide) hR.1, Nat.le_trans (by decide) hR.2⟩ rfl hl.1 rfl (Nat.le_of_ble_eq_true rfl) dX5_layout_21 (fun H locs hZ => ?_)
        refine lv_aload_n hx hb dX5_layout_24 rfl (lv_at hl 0 rfl) ?_
        refine zl_iconst hx hb dX5_layout_25 ?_
        obtain ⟨M2, eM2, hf⟩ := bnd_inv hf
        refine zm_putb C hZ 37 (by decide) rfl rfl zisB_1 q1178 dX5_layout_26 (fun H locs hZ => ?_)
        rw [← eM2] at hZ
        refine lv_aload_n hx hb dX5_layout_29 rfl (lv_at hl 0 rfl) ?_
        refine lv_iload_n hx hb dX5_layout_30 rfl (lv_at hl 1 rfl) ?_
        obtain ⟨M3, eM3, hf⟩ := bnd_inv hf
        refine zm_puti C hZ 38 (by decide) rfl rfl q1179 dX5_layout_31 (fun H locs hZ => ?_)
        rw [← eM3] at hZ
        refine lv_aload_n hx hb dX5_layout_34 rfl (lv_at hl 0 rfl) ?_
        refine zl_iconst hx hb dX5_layout_35 ?_
        obtain ⟨M4, eM4, hf⟩ := bnd_inv hf
        refine zm_puti C hZ 39 (by decide) rfl rfl q1180 dX5_layout_36 (fun H locs hZ => ?_)
        rw [← eM4] at hZ
        refine zl_iconst hx hb dX5_layout_39 ?_
        refine lv_istore_n (lv' := [(2, .int (zI 0)), (0, .ref mo), (1, .int (zI x1))]) hx hb dX5_layout_40 rfl hl (by decide) rfl (fun ls hl => ?_)
        exact w_layout_41 C hR hf hZ (lv_sub hl [1, 2, 0] rfl) hK
      · rw [if_neg hc] at hf
        refine zl_iconst hx hb dX5_layout_18 ?_
        obtain rfl := Option.some.inj hf
        exact zm_iret C hZ hK dX5_layout_19

theorem met_layout (l : Launch) (D : va_G) (cI cZ : ClassId) (mo : Nat) (ad : Nat → Nat) {M : MS} {x1 : Int} {res : MS × Int} (hf : m_layout M x1 = some res) : Met l yX5_layout (ws_ yX5_layout cX5_layout 3 (some .int)) ({ frames := 6, cells := 0, slots := 0, locals := 152 }) (PM D cI cZ mo ad M [.int (zI x1)]) (QM D cI cZ mo ad res.1 (some (.int (zI res.2)))) 0 0 (MA mo ad) := by
  refine Met.ofW (cc := cX5_layout) (maxL := 3) (ret := (some .int)) (by decide) rfl ?_
  intro p e s m args below meth c s₁ B hml hv
  obtain ⟨rfl, hRM, hK0⟩ := hv
  have hts := atoms_spec (ws := ws_ yX5_layout cX5_layout 3 (some .int)) B.pre
  have hts : ∀ w ∈ lw_all, w.before _ s = true := fun w h => hts w (List.mem_cons_of_mem _ h)
  have C : MC p s m _ meth c D cI cZ cX5_layout 3 (some .int) := ⟨B.exec, B.bytes, B.returns, B.notSynchronized, hml, findClass_of_methodNamed B.named, hts, hK0⟩
  have hZ : ZM D cI cZ mo ad s.heap M s.heap [] := ⟨hRM, rfl, fun _ _ => rfl, fun _ h => by cases h⟩
  have hl := lv_entry ([.ref mo, .int (zI x1)]) (n := 3) (Nat.le_of_ble_eq_true rfl)
  rw [lg_entry_eq]
  generalize (lg_sl ([.ref mo, .int (zI x1)]) ++ List.replicate (3 - (lg_sl ([.ref mo, .int (zI x1)])).length) Slot.unset).toArray = ls at hl ⊢
  have hl : lv_has ls 3 [(0, .ref mo), (1, .int (zI x1))] := hl
  exact w_layout C ⟨Nat.le_refl _, Nat.le_refl _⟩ hf hZ hl rfl

theorem w_box {p : Program} {l : Launch} {e : Env} {R : Room} {s : State} {m : MethodId} {args : Array Value} {below : List Frame} {meth : Method} {c : Code} {Q : State → Prop} {D : va_G} {cI cZ : ClassId} {mo : Nat} {ad : Nat → Nat} {H : Heap} {locs : List Loc} {M : MS} (C : MC p s m args meth c D cI cZ cX5_box 3 (some .int)) (hR : 1 ≤ R.frames ∧ 22 ≤ R.locals) {x1 x2 : Int} {res : Int} (hf : m_box M x1 x2 = some res) (hZ : ZM D cI cZ mo ad s.heap M H locs) {ls : Array Slot} (hl : lv_has ls 3 [(0, .ref mo), (1, .int (zI x1)), (2, .int (zI x2))]) (hK : KM below D cI cZ mo ad args s Q M (some (.int (zI res)))) : W p l e R s m args below meth c H locs 0 0 Q (F0 m 0 ls []) := by
  unfold m_box at hf
  have hx := C.1
  have hb := C.2.1
  have hts := C.2.2.2.2.2.2.1
  refine lv_aload_n hx hb dX5_box_0 rfl (lv_at hl 0 rfl) ?_
  refine zm_geti C hZ 37 (by decide) rfl q1178 dX5_box_1 ?_
  refine zl_if_eq (tgt := 33) hx hb dX5_box_4 (by decide) (fun hc => ?_) (fun hc => ?_)
  · rw [if_pos hc] at hf
    refine zl_iconst hx hb dX5_box_33 ?_
    obtain rfl := Option.some.inj hf
    exact zm_iret C hZ hK dX5_box_34
  · rw [if_neg hc] at hf
    refine lv_aload_n hx hb dX5_box_7 rfl (lv_at hl 0 rfl) ?_
    refine lv_iload_n hx hb dX5_box_8 rfl (lv_at hl 1 rfl) ?_
    obtain ⟨y1, ey1, hf⟩ := bd_inv hf
    refine zm_callV C hZ (n := 1) (rest := []) (met_none l D cI cZ mo ad ey1) (lw_V q1456 q1458 qs63 q107 q1459) rfl rfl (by decide +kernel) ⟨Nat.le_trans (by decide) hR.1, Nat.le_trans (by decide) hR.2⟩ rfl hl.1 rfl (Nat.le_of_ble_eq_true rfl) dX5_box_9 (fun H locs hZ => ?_)
    refine zl_if_ne (tgt := 33) hx hb dX5_box_12 (by decide) (fun hc => ?_) (fun hc => ?_)
    · rw [if_pos hc] at hf
      refine lv_aload_n hx hb dX5_box_15 rfl (lv_at hl 0 rfl) ?_
      refine zm_geta C hZ 41 (by decide) (by decide) q1182 dX5_box_16 ?_
      refine lv_iload_n hx hb dX5_box_19 rfl (lv_at hl 1 rfl) ?_
      obtain ⟨hg, hf⟩ := gd_inv hf
      refine zm_zald C hZ 41 (by decide) rfl rfl hg dX5_box_20 ?_
      refine zl_if_eq (tgt := 33) hx hb dX5_box_21 (by decide) (fun hc => ?_) (fun hc => ?_)
      · rw [if_pos hc] at hf
        refine zl_iconst hx hb dX5_box_33 ?_
        obtain rfl := Option.some.inj hf
        exact zm_iret C hZ hK dX5_box_34
      · rw [if_neg hc] at hf
        refine lv_iload_n hx hb dX5_box_24 rfl (lv_at hl 2 rfl) ?_
        refine zl_if_lt (tgt := 33) hx hb dX5_box_25 (by decide) (fun hc => ?_) (fun hc => ?_)
        · rw [if_pos hc] at hf
          refine zl_iconst hx hb dX5_box_33 ?_
          obtain rfl := Option.some.inj hf
          exact zm_iret C hZ hK dX5_box_34
        · rw [if_neg hc] at hf
          refine lv_iload_n hx hb dX5_box_28 rfl (lv_at hl 2 rfl) ?_
          refine zl_iconst hx hb dX5_box_29 ?_
          refine zl_icmp_le (tgt := 35) hx hb dX5_box_30 (by decide) (fun hc => ?_) (fun hc => ?_)
          · rw [if_pos hc] at hf
            refine zl_iconst hx hb dX5_box_33 ?_
            obtain rfl := Option.some.inj hf
            exact zm_iret C hZ hK dX5_box_34
          · rw [if_neg hc] at hf
            refine lv_iload_n hx hb dX5_box_35 rfl (lv_at hl 2 rfl) ?_
            refine zl_if_ne (tgt := 48) hx hb dX5_box_36 (by decide) (fun hc => ?_) (fun hc => ?_)
            · rw [if_pos hc] at hf
              refine lv_aload_n hx hb dX5_box_39 rfl (lv_at hl 0 rfl) ?_
              refine zm_geta C hZ 43 (by decide) (by decide) q1184 dX5_box_40 ?_
              refine lv_iload_n hx hb dX5_box_43 rfl (lv_at hl 1 rfl) ?_
              obtain ⟨hg, hf⟩ := gd_inv hf
              refine zm_iald C hZ 43 (by decide) rfl rfl hg dX5_box_44 ?_
              refine lv_goto (tgt := 91) hx hb dX5_box_45 (by decide) ?_
              obtain rfl := Option.some.inj hf
              exact zm_iret C hZ hK dX5_box_91
            · rw [if_neg hc] at hf
              refine lv_iload_n hx hb dX5_box_48 rfl (lv_at hl 2 rfl) ?_
              refine zl_iconst hx hb dX5_box_49 ?_
              refine zl_icmp_ne (tgt := 62) hx hb dX5_box_50 (by decide) (fun hc => ?_) (fun hc => ?_)
              · rw [if_pos hc] at hf
                refine lv_aload_n hx hb dX5_box_53 rfl (lv_at hl 0 rfl) ?_
                refine zm_geta C hZ 46 (by decide) (by decide) q1187 dX5_box_54 ?_
                refine lv_iload_n hx hb dX5_box_57 rfl (lv_at hl 1 rfl) ?_
                obtain ⟨hg, hf⟩ := gd_inv hf
                refine zm_iald C hZ 46 (by decide) rfl rfl hg dX5_box_58 ?_
                refine lv_goto (tgt := 91) hx hb dX5_box_59 (by decide) ?_
                obtain rfl := Option.some.inj hf
                exact zm_iret C hZ hK dX5_box_91
              · rw [if_neg hc] at hf
                refine lv_iload_n hx hb dX5_box_62 rfl (lv_at hl 2 rfl) ?_
                refine zl_iconst hx hb dX5_box_63 ?_
                refine zl_icmp_ne (tgt := 85) hx hb dX5_box_64 (by decide) (fun hc => ?_) (fun hc => ?_)
                · rw [if_pos hc] at hf
                  refine lv_aload_n hx hb dX5_box_67 rfl (lv_at hl 0 rfl) ?_
                  refine zm_geta C hZ 44 (by decide) (by decide) q1185 dX5_box_68 ?_
                  refine lv_iload_n hx hb dX5_box_71 rfl (lv_at hl 1 rfl) ?_
                  obtain ⟨hg, hf⟩ := gd_inv hf
                  refine zm_iald C hZ 44 (by decide) rfl rfl hg dX5_box_72 ?_
                  refine zl_iconst hx hb dX5_box_73 ?_
                  refine lv_aload_n hx hb dX5_box_74 rfl (lv_at hl 0 rfl) ?_
                  refine lv_iload_n hx hb dX5_box_75 rfl (lv_at hl 1 rfl) ?_
                  refine zl_iconst hx hb dX5_box_76 ?_
                  obtain ⟨y2, ey2, hf⟩ := bd_inv hf
                  refine zm_callV C hZ (n := 2) (rest := [.int (zI 2), .int (zI (M.2 44 (zix x1)))]) (met_border l D cI cZ mo ad ey2) (lw_V q1544 q1546 qs76 q107 q1547) rfl rfl (by decide +kernel) ⟨Nat.le_trans (by decide) hR.1, Nat.le_trans (by decide) hR.2⟩ rfl hl.1 rfl (Nat.le_of_ble_eq_true rfl) dX5_box_77 (fun H locs hZ => ?_)
                  refine zl_imul hx hb dX5_box_80 ?_
                  refine zl_iadd hx hb dX5_box_81 ?_
                  refine lv_goto (tgt := 91) hx hb dX5_box_82 (by decide) ?_
                  obtain rfl := Option.some.inj hf
                  exact zm_iret C hZ hK dX5_box_91
                · rw [if_neg hc] at hf
                  refine lv_aload_n hx hb dX5_box_85 rfl (lv_at hl 0 rfl) ?_
                  refine zm_geta C hZ 45 (by decide) (by decide) q1186 dX5_box_86 ?_
                  refine lv_iload_n hx hb dX5_box_89 rfl (lv_at hl 1 rfl) ?_
                  obtain ⟨hg, hf⟩ := gd_inv hf
                  refine zm_iald C hZ 45 (by decide) rfl rfl hg dX5_box_90 ?_
                  obtain rfl := Option.some.inj hf
                  exact zm_iret C hZ hK dX5_box_91
    · rw [if_neg hc] at hf
      refine zl_iconst hx hb dX5_box_33 ?_
      obtain rfl := Option.some.inj hf
      exact zm_iret C hZ hK dX5_box_34

theorem met_box (l : Launch) (D : va_G) (cI cZ : ClassId) (mo : Nat) (ad : Nat → Nat) {M : MS} {x1 x2 : Int} {res : Int} (hf : m_box M x1 x2 = some res) : Met l yX5_box (ws_ yX5_box cX5_box 3 (some .int)) ({ frames := 1, cells := 0, slots := 0, locals := 22 }) (PM D cI cZ mo ad M [.int (zI x1), .int (zI x2)]) (QM D cI cZ mo ad M (some (.int (zI res)))) 0 0 (MA mo ad) := by
  refine Met.ofW (cc := cX5_box) (maxL := 3) (ret := (some .int)) (by decide) rfl ?_
  intro p e s m args below meth c s₁ B hml hv
  obtain ⟨rfl, hRM, hK0⟩ := hv
  have hts := atoms_spec (ws := ws_ yX5_box cX5_box 3 (some .int)) B.pre
  have hts : ∀ w ∈ lw_all, w.before _ s = true := fun w h => hts w (List.mem_cons_of_mem _ h)
  have C : MC p s m _ meth c D cI cZ cX5_box 3 (some .int) := ⟨B.exec, B.bytes, B.returns, B.notSynchronized, hml, findClass_of_methodNamed B.named, hts, hK0⟩
  have hZ : ZM D cI cZ mo ad s.heap M s.heap [] := ⟨hRM, rfl, fun _ _ => rfl, fun _ h => by cases h⟩
  have hl := lv_entry ([.ref mo, .int (zI x1), .int (zI x2)]) (n := 3) (Nat.le_of_ble_eq_true rfl)
  rw [lg_entry_eq]
  generalize (lg_sl ([.ref mo, .int (zI x1), .int (zI x2)]) ++ List.replicate (3 - (lg_sl ([.ref mo, .int (zI x1), .int (zI x2)])).length) Slot.unset).toArray = ls at hl ⊢
  have hl : lv_has ls 3 [(0, .ref mo), (1, .int (zI x1)), (2, .int (zI x2))] := hl
  exact w_box C ⟨Nat.le_refl _, Nat.le_refl _⟩ hf hZ hl rfl

