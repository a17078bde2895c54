set_option maxRecDepth 100000
theorem w_character_119 {p : Program} {l : Launch} {e : Env} {R : Room} {s : State} {m : MethodId} {args : Array Value} {below : List Frame} {meth : Method} {c : Code} {Q : State → Prop} {D : va_G} {cI cZ : ClassId} {mo : Nat} {ad : Nat → Nat} {H : Heap} {locs : List Loc} {M : MS} (C : MC p s m args meth c D cI cZ cX5_character 4 none) (hR : 5 ≤ R.frames ∧ 110 ≤ R.locals) {x1 x3 : Int} {res : MS} (hf : m_character_119 M x1 x3 = some res) (hZ : ZM D cI cZ mo ad s.heap M H locs) {ls : Array Slot} (hl : lv_has ls 4 [(0, .ref mo), (1, .int (zI x1)), (3, .int (zI x3))]) (hK : KM below D cI cZ mo ad args s Q res none) : W p l e R s m args below meth c H locs 0 0 Q (F0 m 119 ls []) := by
  unfold m_character_119 at hf
  have hx := C.1
  have hb := C.2.1
  have hts := C.2.2.2.2.2.2.1
  refine lv_aload_n hx hb dX5_character_119 rfl (lv_at hl 0 rfl) ?_
  refine zm_geti C hZ 4 (by decide) rfl q1145 dX5_character_120 ?_
  refine zl_if_eq (tgt := 127) hx hb dX5_character_123 (by decide) (fun hc => ?_) (fun hc => ?_)
  · rw [if_pos hc] at hf
    refine lv_aload_n hx hb dX5_character_127 rfl (lv_at hl 0 rfl) ?_
    refine zm_geta C hZ 18 (by decide) (by decide) q1159 dX5_character_128 ?_
    refine lv_aload_n hx hb dX5_character_131 rfl (lv_at hl 0 rfl) ?_
    refine zm_geti C hZ 17 (by decide) rfl q1158 dX5_character_132 ?_
    refine lv_iload_n hx hb dX5_character_135 rfl (lv_at hl 1 rfl) ?_
    obtain ⟨hg, hf⟩ := gd_inv hf
    obtain ⟨M6, eM6, hf⟩ := bnd_inv hf
    refine zm_iast C hZ 18 (by decide) rfl rfl hg dX5_character_136 (fun H locs hZ => ?_)
    rw [← eM6] at hZ
    refine lv_aload_n hx hb dX5_character_137 rfl (lv_at hl 0 rfl) ?_
    refine zm_geta C hZ 19 (by decide) (by decide) q1160 dX5_character_138 ?_
    refine lv_aload_n hx hb dX5_character_141 rfl (lv_at hl 0 rfl) ?_
    refine zm_geti C hZ 17 (by decide) rfl q1158 dX5_character_142 ?_
    refine lv_iload_n hx hb dX5_character_145 rfl (lv_at hl 2 rfl) ?_
    obtain ⟨hg, hf⟩ := gd_inv hf
    obtain ⟨M7, eM7, hf⟩ := bnd_inv hf
    refine zm_iast C hZ 19 (by decide) rfl rfl hg dX5_character_146 (fun H locs hZ => ?_)
    rw [← eM7] at hZ
    refine lv_aload_n hx hb dX5_character_147 rfl (lv_at hl 0 rfl) ?_
    refine lv_dup hx hb dX5_character_148 rfl ?_
    refine zm_geti C hZ 17 (by decide) rfl q1158 dX5_character_149 ?_
    refine zl_iconst hx hb dX5_character_152 ?_
    refine zl_iadd hx hb dX5_character_153 ?_
    obtain ⟨M8, eM8, hf⟩ := bnd_inv hf
    refine zm_puti C hZ 17 (by decide) rfl rfl q1158 dX5_character_154 (fun H locs hZ => ?_)
    rw [← eM8] at hZ
    obtain rfl := Option.some.inj hf
    exact zm_vret C hZ hK dX5_character_157
  · rw [if_neg hc] at hf
    obtain rfl := Option.some.inj hf
    exact zm_vret C hZ hK dX5_character_126

theorem w_character_112 {p : Program} {l : Launch} {e : Env} {R : Room} {s : State} {m : MethodId} {args : Array Value} {below : List Frame} {meth : Method} {c : Code} {Q : State → Prop} {D : va_G} {cI cZ : ClassId} {mo : Nat} {ad : Nat → Nat} {H : Heap} {locs : List Loc} {M : MS} (C : MC p s m args meth c D cI cZ cX5_character 4 none) (hR : 5 ≤ R.frames ∧ 110 ≤ R.locals) {x1 : Int} {res : MS} (hf : m_character_112 M x1 = some res) (hZ : ZM D cI cZ mo ad s.heap M H locs) {ls : Array Slot} (hl : lv_has ls 4 [(0, .ref mo), (1, .int (zI x1))]) (hK : KM below D cI cZ mo ad args s Q res none) : W p l e R s m args below meth c H locs 0 0 Q (F0 m 112 ls []) := by
  unfold m_character_112 at hf
  have hx := C.1
  have hb := C.2.1
  have hts := C.2.2.2.2.2.2.1
  refine lv_aload_n hx hb dX5_character_112 rfl (lv_at hl 0 rfl) ?_
  refine zl_iconst hx hb dX5_character_113 ?_
  refine zl_iconst hx hb dX5_character_114 ?_
  obtain ⟨y6, ey6, hf⟩ := bd_inv hf
  refine zm_callV C hZ (n := 2) (rest := []) (met_create l D cI cZ mo ad ey6) (lw_V q1384 q1386 qs50 q107 q1387) rfl rfl (by decide +kernel) ⟨Nat.le_trans (by decide) hR.1, Nat.le_trans (by decide) hR.2⟩ rfl hl.1 rfl (Nat.le_of_ble_eq_true rfl) dX5_character_115 (fun H locs hZ => ?_)
  refine lv_istore_n (lv' := [(3, .int (zI y6.2)), (0, .ref mo), (1, .int (zI x1))]) hx hb dX5_character_118 rfl hl (by decide) rfl (fun ls hl => ?_)
  exact w_character_119 C hR hf hZ (lv_sub hl [1, 2, 0] rfl) hK

theorem w_character_82 {p : Program} {l : Launch} {e : Env} {R : Room} {s : State} {m : MethodId} {args : Array Value} {below : List Frame} {meth : Method} {c : Code} {Q : State → Prop} {D : va_G} {cI cZ : ClassId} {mo : Nat} {ad : Nat → Nat} {H : Heap} {locs : List Loc} {M : MS} (C : MC p s m args meth c D cI cZ cX5_character 4 none) (hR : 5 ≤ R.frames ∧ 110 ≤ R.locals) {x1 x2 : Int} {res : MS} (hf : m_character_82 M x1 x2 = some res) (hZ : ZM D cI cZ mo ad s.heap M H locs) {ls : Array Slot} (hl : lv_has ls 4 [(0, .ref mo), (1, .int (zI x1)), (2, .int (zI x2))]) (hK : KM below D cI cZ mo ad args s Q res none) : W p l e R s m args below meth c H locs 0 0 Q (F0 m 82 ls []) := by
  unfold m_character_82 at hf
  have hx := C.1
  have hb := C.2.1
  have hts := C.2.2.2.2.2.2.1
  refine lv_aload_n hx hb dX5_character_82 rfl (lv_at hl 0 rfl) ?_
  refine zm_geta C hZ 6 (by decide) (by decide) q1147 dX5_character_83 ?_
  refine lv_iload_n hx hb dX5_character_86 rfl (lv_at hl 2 rfl) ?_
  obtain ⟨hg, hf⟩ := gd_inv hf
  refine zm_iald C hZ 6 (by decide) rfl rfl hg dX5_character_87 ?_
  obtain ⟨y5, ey5, hf⟩ := bnd_inv hf
  refine zl_top ey5 ?_
  refine lv_istore_n (lv' := [(3, .int (zI y5)), (0, .ref mo), (1, .int (zI x1)), (2, .int (zI x2))]) hx hb dX5_character_88 rfl hl (by decide) rfl (fun ls hl => ?_)
  refine lv_aload_n hx hb dX5_character_89 rfl (lv_at hl 1 rfl) ?_
  refine zm_geta C hZ 8 (by decide) (by decide) q1149 dX5_character_90 ?_
  refine lv_iload_n hx hb dX5_character_93 rfl (lv_at hl 0 rfl) ?_
  obtain ⟨hg, hf⟩ := gd_inv hf
  refine zm_iald C hZ 8 (by decide) rfl rfl hg dX5_character_94 ?_
  refine zl_iconst hx hb dX5_character_95 ?_
  refine zl_icmp_ne (tgt := 112) hx hb dX5_character_96 (by decide) (fun hc => ?_) (fun hc => ?_)
  · rw [if_pos hc] at hf
    refine lv_aload_n hx hb dX5_character_99 rfl (lv_at hl 1 rfl) ?_
    refine zm_geta C hZ 10 (by decide) (by decide) q1151 dX5_character_100 ?_
    refine lv_iload_n hx hb dX5_character_103 rfl (lv_at hl 0 rfl) ?_
    obtain ⟨hg, hf⟩ := gd_inv hf
    refine zm_iald C hZ 10 (by decide) rfl rfl hg dX5_character_104 ?_
    refine lv_aload_n hx hb dX5_character_105 rfl (lv_at hl 1 rfl) ?_
    refine zm_geti C hZ 21 (by decide) rfl q1162 dX5_character_106 ?_
    refine zl_icmp_eq (tgt := 119) hx hb dX5_character_109 (by decide) (fun hc => ?_) (fun hc => ?_)
    · rw [if_pos hc] at hf
      exact w_character_119 C hR hf hZ (lv_sub hl [1, 2, 0] rfl) hK
    · rw [if_neg hc] at hf
      exact w_character_112 C hR hf hZ (lv_sub hl [1, 2] rfl) hK
  · rw [if_neg hc] at hf
    exact w_character_112 C hR hf hZ (lv_sub hl [1, 2] rfl) hK

theorem w_character_54s {p : Program} {l : Launch} {e : Env} {R : Room} {s : State} {m : MethodId} {args : Array Value} {below : List Frame} {meth : Method} {c : Code} {Q : State → Prop} {D : va_G} {cI cZ : ClassId} {mo : Nat} {ad : Nat → Nat} {H : Heap} {locs : List Loc} {M : MS} (C : MC p s m args meth c D cI cZ cX5_character 4 none) (hR : 5 ≤ R.frames ∧ 110 ≤ R.locals) {x1 x2 : Int} {res : (Int) ⊕ (MS)} (hf : m_character_54s M x1 x2 = some res) (hZ : ZM D cI cZ mo ad s.heap M H locs) {ls : Array Slot} (hl : lv_has ls 4 [(0, .ref mo), (1, .int (zI x1)), (2, .int (zI x2))]) (hK : (Sum.elim (fun z => ∀ (H : Heap) (locs : List Loc) (ls : Array Slot), ZM D cI cZ mo ad s.heap M H locs → lv_has ls 4 [(0, .ref mo), (1, .int (zI x1)), (2, .int (zI z))] → W p l e R s m args below meth c H locs 0 0 Q (F0 m 54 ls [])) (fun r => KM below D cI cZ mo ad args s Q r none)) res) : W p l e R s m args below meth c H locs 0 0 Q (F0 m 54 ls []) := by
  unfold m_character_54s at hf
  have hx := C.1
  have hb := C.2.1
  have hts := C.2.2.2.2.2.2.1
  refine lv_iload_n hx hb dX5_character_54 rfl (lv_at hl 2 rfl) ?_
  refine zl_if_le (tgt := 82) hx hb dX5_character_55 (by decide) (fun hc => ?_) (fun hc => ?_)
  · rw [if_pos hc] at hf
    refine lv_aload_n hx hb dX5_character_58 rfl (lv_at hl 0 rfl) ?_
    refine zm_geta C hZ 10 (by decide) (by decide) q1151 dX5_character_59 ?_
    refine lv_aload_n hx hb dX5_character_62 rfl (lv_at hl 0 rfl) ?_
    refine zm_geta C hZ 6 (by decide) (by decide) q1147 dX5_character_63 ?_
    refine lv_iload_n hx hb dX5_character_66 rfl (lv_at hl 2 rfl) ?_
    obtain ⟨hg, hf⟩ := gd_inv hf
    refine zm_iald C hZ 6 (by decide) rfl rfl hg dX5_character_67 ?_
    obtain ⟨hg, hf⟩ := gd_inv hf
    refine zm_iald C hZ 10 (by decide) rfl rfl hg dX5_character_68 ?_
    refine lv_aload_n hx hb dX5_character_69 rfl (lv_at hl 0 rfl) ?_
    refine zm_geti C hZ 21 (by decide) rfl q1162 dX5_character_70 ?_
    refine zl_icmp_le (tgt := 82) hx hb dX5_character_73 (by decide) (fun hc => ?_) (fun hc => ?_)
    · rw [if_pos hc] at hf
      refine zl_iinc (x := x2) (n := (-1)) (lv' := [(2, .int (zI (x2 + (-1)))), (0, .ref mo), (1, .int (zI x1))]) (k := 2) hx hb dX5_character_76 hl rfl (by decide) rfl (fun ls hl => ?_)
      refine lv_goto (tgt := 54) hx hb dX5_character_79 (by decide) ?_
      obtain rfl := Option.some.inj hf
      exact hK _ _ _ hZ (lv_sub hl [1, 2, 0] rfl)
    · rw [if_neg hc] at hf
      obtain ⟨r0, hm0, rfl⟩ := mr_inv hf
      exact w_character_82 C hR hm0 hZ (lv_sub hl [0, 1, 2] rfl) hK
  · rw [if_neg hc] at hf
    obtain ⟨r0, hm0, rfl⟩ := mr_inv hf
    exact w_character_82 C hR hm0 hZ (lv_sub hl [0, 1, 2] rfl) hK

theorem w_character_54 {p : Program} {l : Launch} {e : Env} {R : Room} {s : State} {m : MethodId} {args : Array Value} {below : List Frame} {meth : Method} {c : Code} {Q : State → Prop} {D : va_G} {cI cZ : ClassId} {mo : Nat} {ad : Nat → Nat} {H : Heap} {locs : List Loc} {M : MS} (C : MC p s m args meth c D cI cZ cX5_character 4 none) (hR : 5 ≤ R.frames ∧ 110 ≤ R.locals) {x1 x2 : Int} {res : MS} (hf : m_character_54 M x1 x2 = some res) (hZ : ZM D cI cZ mo ad s.heap M H locs) {ls : Array Slot} (hl : lv_has ls 4 [(0, .ref mo), (1, .int (zI x1)), (2, .int (zI x2))]) (hK : KM below D cI cZ mo ad args s Q res none) : W p l e R s m args below meth c H locs 0 0 Q (F0 m 54 ls []) := by
  unfold m_character_54 at hf
  refine iter_ind (P := fun z r => ∀ (H : Heap) (locs : List Loc) (ls : Array Slot), ZM D cI cZ mo ad s.heap M H locs → lv_has ls 4 [(0, .ref mo), (1, .int (zI x1)), (2, .int (zI z))] → KM below D cI cZ mo ad args s Q r none → W p l e R s m args below meth c H locs 0 0 Q (F0 m 54 ls [])) ?_ ?_ hf H locs ls hZ hl hK
  · intro z r h1 H locs ls hZ hl hK; exact w_character_54s C hR h1 hZ hl hK
  · intro z z1 r h1 ih H locs ls hZ hl hK; exact w_character_54s C hR h1 hZ hl (fun H locs ls hZ hl => ih H locs ls hZ hl hK)

theorem w_character_27 {p : Program} {l : Launch} {e : Env} {R : Room} {s : State} {m : MethodId} {args : Array Value} {below : List Frame} {meth : Method} {c : Code} {Q : State → Prop} {D : va_G} {cI cZ : ClassId} {mo : Nat} {ad : Nat → Nat} {H : Heap} {locs : List Loc} {M : MS} (C : MC p s m args meth c D cI cZ cX5_character 4 none) (hR : 5 ≤ R.frames ∧ 110 ≤ R.locals) {x1 : Int} {res : MS} (hf : m_character_27 M x1 = some res) (hZ : ZM D cI cZ mo ad s.heap M H locs) {ls : Array Slot} (hl : lv_has ls 4 [(0, .ref mo), (1, .int (zI x1))]) (hK : KM below D cI cZ mo ad args s Q res none) : W p l e R s m args below meth c H locs 0 0 Q (F0 m 27 ls []) := by
  unfold m_character_27 at hf
  have hx := C.1
  have hb := C.2.1
  have hts := C.2.2.2.2.2.2.1
  refine lv_aload_n hx hb dX5_character_27 rfl (lv_at hl 0 rfl) ?_
  obtain ⟨y2, ey2, hf⟩ := bd_inv hf
  refine zm_callV C hZ (n := 0) (rest := []) (met_renew l D cI cZ mo ad ey2) (lw_V q1392 q1394 qs52 q107 q1395) rfl rfl (by decide +kernel) ⟨Nat.le_trans (by decide) hR.1, Nat.le_trans (by decide) hR.2⟩ rfl hl.1 rfl (Nat.le_of_ble_eq_true rfl) dX5_character_28 (fun H locs hZ => ?_)
  refine lv_aload_n hx hb dX5_character_31 rfl (lv_at hl 0 rfl) ?_
  refine zm_geti C hZ 4 (by decide) rfl q1145 dX5_character_32 ?_
  refine zl_if_eq (tgt := 39) hx hb dX5_character_35 (by decide) (fun hc => ?_) (fun hc => ?_)
  · rw [if_pos hc] at hf
    refine lv_aload_n hx hb dX5_character_39 rfl (lv_at hl 0 rfl) ?_
    refine lv_aload_n hx hb dX5_character_40 rfl (lv_at hl 0 rfl) ?_
    refine zm_geti C hZ 13 (by decide) rfl q1154 dX5_character_41 ?_
    obtain ⟨y3, ey3, hf⟩ := bd_inv hf
    refine zm_callV C hZ (n := 1) (rest := []) (met_findPlace l D cI cZ mo ad ey3) (lw_V q1404 q1406 qs55 q107 q1407) rfl rfl (by decide +kernel) ⟨Nat.le_trans (by decide) hR.1, Nat.le_trans (by decide) hR.2⟩ rfl hl.1 rfl (Nat.le_of_ble_eq_true rfl) dX5_character_44 (fun H locs hZ => ?_)
    refine lv_aload_n hx hb dX5_character_47 rfl (lv_at hl 0 rfl) ?_
    refine zm_geti C hZ 20 (by decide) rfl q1161 dX5_character_48 ?_
    refine zl_iconst hx hb dX5_character_51 ?_
    refine zl_isub hx hb dX5_character_52 ?_
    obtain ⟨y4, ey4, hf⟩ := bnd_inv hf
    refine zl_top ey4 ?_
    refine lv_istore_n (lv' := [(2, .int (zI y4)), (0, .ref mo), (1, .int (zI x1))]) hx hb dX5_character_53 rfl hl (by decide) rfl (fun ls hl => ?_)
    exact w_character_54 C hR hf hZ (lv_sub hl [1, 2, 0] rfl) hK
  · rw [if_neg hc] at hf
    obtain rfl := Option.some.inj hf
    exact zm_vret C hZ hK dX5_character_38

theorem w_character {p : Program} {l : Launch} {e : Env} {R : Room} {s : State} {m : MethodId} {args : Array Value} {below : List Frame} {meth : Method} {c : Code} {Q : State → Prop} {D : va_G} {cI cZ : ClassId} {mo : Nat} {ad : Nat → Nat} {H : Heap} {locs : List Loc} {M : MS} (C : MC p s m args meth c D cI cZ cX5_character 4 none) (hR : 5 ≤ R.frames ∧ 110 ≤ R.locals) {x1 : Int} {res : MS} (hf : m_character M x1 = some res) (hZ : ZM D cI cZ mo ad s.heap M H locs) {ls : Array Slot} (hl : lv_has ls 4 [(0, .ref mo), (1, .int (zI x1))]) (hK : KM below D cI cZ mo ad args s Q res none) : W p l e R s m args below meth c H locs 0 0 Q (F0 m 0 ls []) := by
  unfold m_character at hf
  have hx := C.1
  have hb := C.2.1
  have hts := C.2.2.2.2.2.2.1
  refine lv_iload_n hx hb dX5_character_0 rfl (lv_at hl 1 rfl) ?_
  refine zl_bipush hx hb dX5_character_1 (by decide) ?_
  refine zl_icmp_ne (tgt := 27) hx hb dX5_character_3 (by decide) (fun hc => ?_) (fun hc => ?_)
  · rw [if_pos hc] at hf
    refine lv_aload_n hx hb dX5_character_6 rfl (lv_at hl 0 rfl) ?_
    refine lv_aload_n hx hb dX5_character_7 rfl (lv_at hl 0 rfl) ?_
    refine zm_geta C hZ 12 (by decide) (by decide) q1153 dX5_character_8 ?_
    refine lv_aload_n hx hb dX5_character_11 rfl (lv_at hl 0 rfl) ?_
    refine zm_geti C hZ 13 (by decide) rfl q1154 dX5_character_12 ?_
    refine zl_iconst hx hb dX5_character_15 ?_
    refine zl_isub hx hb dX5_character_16 ?_
    obtain ⟨hg, hf⟩ := gd_inv hf
    refine zm_iald C hZ 12 (by decide) rfl rfl hg dX5_character_17 ?_
    refine zl_ldc (v := 655360) hx hb C.2.2.2.2.2.1 (hts _ q1409) dX5_character_18 ?_
    obtain ⟨y1, ey1, hf⟩ := bd_inv hf
    refine zm_callV C hZ (n := 2) (rest := []) (met_named l D cI cZ mo ad ey1) (lw_V q1367 q1369 qs46 q107 q1370) rfl rfl (by decide +kernel) ⟨Nat.le_trans (by decide) hR.1, Nat.le_trans (by decide) hR.2⟩ rfl hl.1 rfl (Nat.le_of_ble_eq_true rfl) dX5_character_20 (fun H locs hZ => ?_)
    refine zl_if_eq (tgt := 27) hx hb dX5_character_23 (by decide) (fun hc => ?_) (fun hc => ?_)
    · rw [if_pos hc] at hf
      exact w_character_27 C hR hf hZ (lv_sub hl [0, 1] rfl) hK
    · rw [if_neg hc] at hf
      obtain rfl := Option.some.inj hf
      exact zm_vret C hZ hK dX5_character_26
  · rw [if_neg hc] at hf
    exact w_character_27 C hR hf hZ (lv_sub hl [0, 1] rfl) hK

theorem met_character (l : Launch) (D : va_G) (cI cZ : ClassId) (mo : Nat) (ad : Nat → Nat) {M : MS} {x1 : Int} {res : MS} (hf : m_character M x1 = some res) : Met l yX5_character (ws_ yX5_character cX5_character 4 none) ({ frames := 5, cells := 0, slots := 0, locals := 110 }) (PM D cI cZ mo ad M [.int (zI x1)]) (QM D cI cZ mo ad res none) 0 0 (MA mo ad) := by
  refine Met.ofW (cc := cX5_character) (maxL := 4) (ret := none) (by decide) rfl ?_
  intro p e s m args below meth c s₁ B hml hv
  obtain ⟨rfl, hRM, hK0⟩ := hv
  have hts := atoms_spec (ws := ws_ yX5_character cX5_character 4 none) B.pre
  have hts : ∀ w ∈ lw_all, w.before _ s = true := fun w h => hts w (List.mem_cons_of_mem _ h)
  have C : MC p s m _ meth c D cI cZ cX5_character 4 none := ⟨B.exec, B.bytes, B.returns, B.notSynchronized, hml, findClass_of_methodNamed B.named, hts, hK0⟩
  have hZ : ZM D cI cZ mo ad s.heap M s.heap [] := ⟨hRM, rfl, fun _ _ => rfl, fun _ h => by cases h⟩
  have hl := lv_entry ([.ref mo, .int (zI x1)]) (n := 4) (Nat.le_of_ble_eq_true rfl)
  rw [lg_entry_eq]
  generalize (lg_sl ([.ref mo, .int (zI x1)]) ++ List.replicate (4 - (lg_sl ([.ref mo, .int (zI x1)])).length) Slot.unset).toArray = ls at hl ⊢
  have hl : lv_has ls 4 [(0, .ref mo), (1, .int (zI x1))] := hl
  exact w_character C ⟨Nat.le_refl _, Nat.le_refl _⟩ hf hZ hl rfl

theorem w_entity_51 {p : Program} {l : Launch} {e : Env} {R : Room} {s : State} {m : MethodId} {args : Array Value} {below : List Frame} {meth : Method} {c : Code} {Q : State → Prop} {D : va_G} {cI cZ : ClassId} {mo : Nat} {ad : Nat → Nat} {H : Heap} {locs : List Loc} {M : MS} (C : MC p s m args meth c D cI cZ cX5_entity 4 (some .int)) (hR : 6 ≤ R.frames ∧ 133 ≤ R.locals) {x1 t0 : Int} {res : MS × Int} (hf : m_entity_51 M x1 t0 = some res) (hZ : ZM D cI cZ mo ad s.heap M H locs) {ls : Array Slot} (hl : lv_has ls 4 [(1, .int (zI x1))]) (hK : KM below D cI cZ mo ad args s Q res.1 (some (.int (zI res.2)))) : W p l e R s m args below meth c H locs 0 0 Q (F0 m 51 ls [.int (zI t0), .ref mo]) := by
  unfold m_entity_51 at hf
  have hx := C.1
  have hb := C.2.1
  have hts := C.2.2.2.2.2.2.1
  obtain ⟨y2, ey2, hf⟩ := bd_inv hf
  refine zm_callV C hZ (n := 1) (rest := []) (met_character l D cI cZ mo ad ey2) (lw_V q1436 q1438 qs62 q107 q1439) rfl rfl (by decide +kernel) ⟨Nat.le_trans (by decide) hR.1, Nat.le_trans (by decide) hR.2⟩ rfl hl.1 rfl (Nat.le_of_ble_eq_true rfl) dX5_entity_51 (fun H locs hZ => ?_)
  refine lv_iload_n hx hb dX5_entity_54 rfl (lv_at hl 0 rfl) ?_
  refine zl_iconst hx hb dX5_entity_55 ?_
  refine zl_iadd hx hb dX5_entity_56 ?_
  obtain rfl := Option.some.inj hf
  exact zm_iret C hZ hK dX5_entity_57

theorem w_entity_76 {p : Program} {l : Launch} {e : Env} {R : Room} {s : State} {m : MethodId} {args : Array Value} {below : List Frame} {meth : Method} {c : Code} {Q : State → Prop} {D : va_G} {cI cZ : ClassId} {mo : Nat} {ad : Nat → Nat} {H : Heap} {locs : List Loc} {M : MS} (C : MC p s m args meth c D cI cZ cX5_entity 4 (some .int)) (hR : 6 ≤ R.frames ∧ 133 ≤ R.locals) {x1 : Int} {res : MS × Int} (hf : m_entity_76 M x1 = some res) (hZ : ZM D cI cZ mo ad s.heap M H locs) {ls : Array Slot} (hl : lv_has ls 4 [(1, .int (zI x1))]) (hK : KM below D cI cZ mo ad args s Q res.1 (some (.int (zI res.2)))) : W p l e R s m args below meth c H locs 0 0 Q (F0 m 76 ls []) := by
  unfold m_entity_76 at hf
  have hx := C.1
  have hb := C.2.1
  have hts := C.2.2.2.2.2.2.1
  refine lv_iload_n hx hb dX5_entity_76 rfl (lv_at hl 0 rfl) ?_
  refine zl_iconst hx hb dX5_entity_77 ?_
  refine zl_iadd hx hb dX5_entity_78 ?_
  obtain rfl := Option.some.inj hf
  exact zm_iret C hZ hK dX5_entity_79

theorem w_entity {p : Program} {l : Launch} {e : Env} {R : Room} {s : State} {m : MethodId} {args : Array Value} {below : List Frame} {meth : Method} {c : Code} {Q : State → Prop} {D : va_G} {cI cZ : ClassId} {mo : Nat} {ad : Nat → Nat} {H : Heap} {locs : List Loc} {M : MS} (C : MC p s m args meth c D cI cZ cX5_entity 4 (some .int)) (hR : 6 ≤ R.frames ∧ 133 ≤ R.locals) {x1 x2 : Int} {res : MS × Int} (hf : m_entity M x1 x2 = some res) (hZ : ZM D cI cZ mo ad s.heap M H locs) {ls : Array Slot} (hl : lv_has ls 4 [(0, .ref mo), (1, .int (zI x1)), (2, .int (zI x2))]) (hK : KM below D cI cZ mo ad args s Q res.1 (some (.int (zI res.2)))) : W p l e R s m args below meth c H locs 0 0 Q (F0 m 0 ls []) := by
  unfold m_entity at hf
  have hx := C.1
  have hb := C.2.1
  have hts := C.2.2.2.2.2.2.1
  refine lv_aload_n hx hb dX5_entity_0 rfl (lv_at hl 0 rfl) ?_
  refine lv_iload_n hx hb dX5_entity_1 rfl (lv_at hl 1 rfl) ?_
  refine zl_iconst hx hb dX5_entity_2 ?_
  refine zl_iadd hx hb dX5_entity_3 ?_
  obtain ⟨y1, ey1, hf⟩ := bd_inv hf
  refine zm_callV C hZ (n := 1) (rest := []) (met_peek l D cI cZ mo ad ey1) (lw_V q1325 q1327 qs38 q107 q1328) rfl rfl (by decide +kernel) ⟨Nat.le_trans (by decide) hR.1, Nat.le_trans (by decide) hR.2⟩ rfl hl.1 rfl (Nat.le_of_ble_eq_true rfl) dX5_entity_4 (fun H locs hZ => ?_)
  refine lv_istore_n (lv' := [(3, .int (zI y1)), (0, .ref mo), (1, .int (zI x1)), (2, .int (zI x2))]) hx hb dX5_entity_7 rfl hl (by decide) rfl (fun ls hl => ?_)
  refine lv_iload_n hx hb dX5_entity_8 rfl (lv_at hl 3 rfl) ?_
  refine zl_iconst hx hb dX5_entity_9 ?_
  refine zl_icmp_eq (tgt := 18) hx hb dX5_entity_10 (by decide) (fun hc => ?_) (fun hc => ?_)
  · rw [if_pos hc] at hf
    refine zl_iconst hx hb dX5_entity_18 ?_
    obtain rfl := Option.some.inj hf
    exact zm_iret C hZ hK dX5_entity_19
  · rw [if_neg hc] at hf
    refine lv_iload_n hx hb dX5_entity_13 rfl (lv_at hl 0 rfl) ?_
    refine zl_iconst hx hb dX5_entity_14 ?_
    refine zl_icmp_ne (tgt := 20) hx hb dX5_entity_15 (by decide) (fun hc => ?_) (fun hc => ?_)
    · rw [if_pos hc] at hf
      refine zl_iconst hx hb dX5_entity_18 ?_
      obtain rfl := Option.some.inj hf
      exact zm_iret C hZ hK dX5_entity_19
    · rw [if_neg hc] at hf
      refine lv_iload_n hx hb dX5_entity_20 rfl (lv_at hl 0 rfl) ?_
      refine zl_bipush hx hb dX5_entity_21 (by decide) ?_
      refine zl_icmp_ne (tgt := 58) hx hb dX5_entity_23 (by decide) (fun hc => ?_) (fun hc => ?_)
      · rw [if_pos hc] at hf
        refine lv_aload_n hx hb dX5_entity_26 rfl (lv_at hl 1 rfl) ?_
        refine lv_iload_n hx hb dX5_entity_27 rfl (lv_at hl 3 rfl) ?_
        refine zl_bipush hx hb dX5_entity_28 (by decide) ?_
        refine zl_icmp_ne (tgt := 38) hx hb dX5_entity_30 (by decide) (fun hc => ?_) (fun hc => ?_)
        · rw [if_pos hc] at hf
          refine zl_bipush hx hb dX5_entity_33 (by decide) ?_
          refine lv_goto (tgt := 51) hx hb dX5_entity_35 (by decide) ?_
          exact w_entity_51 C hR hf hZ (lv_sub hl [2] rfl) hK
        · rw [if_neg hc] at hf
          refine lv_iload_n hx hb dX5_entity_38 rfl (lv_at hl 3 rfl) ?_
          refine zl_bipush hx hb dX5_entity_39 (by decide) ?_
          refine zl_icmp_ne (tgt := 49) hx hb dX5_entity_41 (by decide) (fun hc => ?_) (fun hc => ?_)
          · rw [if_pos hc] at hf
            refine zl_bipush hx hb dX5_entity_44 (by decide) ?_
            refine lv_goto (tgt := 51) hx hb dX5_entity_46 (by decide) ?_
            exact w_entity_51 C hR hf hZ (lv_sub hl [2] rfl) hK
          · rw [if_neg hc] at hf
            refine zl_bipush hx hb dX5_entity_49 (by decide) ?_
            exact w_entity_51 C hR hf hZ (lv_sub hl [2] rfl) hK
      · rw [if_neg hc] at hf
        refine lv_aload_n hx hb dX5_entity_58 rfl (lv_at hl 1 rfl) ?_
        refine zl_bipush hx hb dX5_entity_59 (by decide) ?_
        obtain ⟨y2, ey2, hf⟩ := bd_inv hf
        refine zm_callV C hZ (n := 1) (rest := []) (met_character l D cI cZ mo ad ey2) (lw_V q1436 q1438 qs62 q107 q1439) rfl rfl (by decide +kernel) ⟨Nat.le_trans (by decide) hR.1, Nat.le_trans (by decide) hR.2⟩ rfl hl.1 rfl (Nat.le_of_ble_eq_true rfl) dX5_entity_61 (fun H locs hZ => ?_)
        refine lv_aload_n hx hb dX5_entity_64 rfl (lv_at hl 1 rfl) ?_
        refine zm_geti C hZ 4 (by decide) rfl q1145 dX5_entity_65 ?_
        refine zl_if_ne (tgt := 76) hx hb dX5_entity_68 (by decide) (fun hc => ?_) (fun hc => ?_)
        · rw [if_pos hc] at hf
          refine lv_aload_n hx hb dX5_entity_71 rfl (lv_at hl 1 rfl) ?_
          refine lv_iload_n hx hb dX5_entity_72 rfl (lv_at hl 3 rfl) ?_
          obtain ⟨y3, ey3, hf⟩ := bd_inv hf
          refine zm_callV C hZ (n := 1) (rest := []) (met_character l D cI cZ mo ad ey3) (lw_V q1436 q1438 qs62 q107 q1439) rfl rfl (by decide +kernel) ⟨Nat.le_trans (by decide) hR.1, Nat.le_trans (by decide) hR.2⟩ rfl hl.1 rfl (Nat.le_of_ble_eq_true rfl) dX5_entity_73 (fun H locs hZ => ?_)
          exact w_entity_76 C hR hf hZ (lv_sub hl [2] rfl) hK
        · rw [if_neg hc] at hf
          exact w_entity_76 C hR hf hZ (lv_sub hl [2] rfl) hK

theorem met_entity (l : Launch) (D : va_G) (cI cZ : ClassId) (mo : Nat) (ad : Nat → Nat) {M : MS} {x1 x2 : Int} {res : MS × Int} (hf : m_entity M x1 x2 = some res) : Met l yX5_entity (ws_ yX5_entity cX5_entity 4 (some .int)) ({ frames := 6, cells := 0, slots := 0, locals := 133 }) (PM D cI cZ mo ad M [.int (zI x1), .int (zI x2)]) (QM D cI cZ mo ad res.1 (some (.int (zI res.2)))) 0 0 (MA mo ad) := by
  refine Met.ofW (cc := cX5_entity) (maxL := 4) (ret := (some .int)) (by decide) rfl ?_
  intro p e s m args below meth c s₁ B hml hv
  obtain ⟨rfl, hRM, hK0⟩ := hv
  have hts := atoms_spec (ws := ws_ yX5_entity cX5_entity 4 (some .int)) B.pre
  have hts : ∀ w ∈ lw_all, w.before _ s = true := fun w h => hts w (List.mem_cons_of_mem _ h)
  have C : MC p s m _ meth c D cI cZ cX5_entity 4 (some .int) := ⟨B.exec, B.bytes, B.returns, B.notSynchronized, hml, findClass_of_methodNamed B.named, hts, hK0⟩
  have hZ : ZM D cI cZ mo ad s.heap M s.heap [] := ⟨hRM, rfl, fun _ _ => rfl, fun _ h => by cases h⟩
  have hl := lv_entry ([.ref mo, .int (zI x1), .int (zI x2)]) (n := 4) (Nat.le_of_ble_eq_true rfl)
  rw [lg_entry_eq]
  generalize (lg_sl ([.ref mo, .int (zI x1), .int (zI x2)]) ++ List.replicate (4 - (lg_sl ([.ref mo, .int (zI x1), .int (zI x2)])).length) Slot.unset).toArray = ls at hl ⊢
  have hl : lv_has ls 4 [(0, .ref mo), (1, .int (zI x1)), (2, .int (zI x2))] := hl
  exact w_entity C ⟨Nat.le_refl _, Nat.le_refl _⟩ hf hZ hl rfl

theorem w_read_70 {p : Program} {l : Launch} {e : Env} {R : Room} {s : State} {m : MethodId} {args : Array Value} {below : List Frame} {meth : Method} {c : Code} {Q : State → Prop} {D : va_G} {cI cZ : ClassId} {mo : Nat} {ad : Nat → Nat} {H : Heap} {locs : List Loc} {M : MS} (C : MC p s m args meth c D cI cZ cX5_read 4 none) (hR : 8 ≤ R.frames ∧ 189 ≤ R.locals) {x1 x3 : Int} {res : (MS × Int) ⊕ (MS)} (hf : m_read_70 M x1 x3 = some res) (hZ : ZM D cI cZ mo ad s.heap M H locs) {ls : Array Slot} (hl : lv_has ls 4 [(0, .ref mo), (1, .int (zI x1)), (3, .int (zI x3))]) (hK : (Sum.elim (fun z => ∀ (H : Heap) (locs : List Loc) (ls : Array Slot), ZM D cI cZ mo ad s.heap z.1 H locs → lv_has ls 4 [(0, .ref mo), (1, .int (zI z.2))] → W p l e R s m args below meth c H locs 0 0 Q (F0 m 6 ls [])) (fun r => KM below D cI cZ mo ad args s Q r none)) res) : W p l e R s m args below meth c H locs 0 0 Q (F0 m 70 ls []) := by
  unfold m_read_70 at hf
  have hx := C.1
  have hb := C.2.1
  have hts := C.2.2.2.2.2.2.1
  refine lv_aload_n hx hb dX5_read_70 rfl (lv_at hl 0 rfl) ?_
  refine lv_iload_n hx hb dX5_read_71 rfl (lv_at hl 1 rfl) ?_
  refine lv_iload_n hx hb dX5_read_72 rfl (lv_at hl 2 rfl) ?_
  obtain ⟨y4, ey4, hf⟩ := bd_inv hf
  refine zm_callV C hZ (n := 2) (rest := []) (met_tag l D cI cZ mo ad ey4) (lw_V q1332 q1334 qs39 q107 q1335) rfl rfl (by decide +kernel) ⟨Nat.le_trans (by decide) hR.1, Nat.le_trans (by decide) hR.2⟩ rfl hl.1 rfl (Nat.le_of_ble_eq_true rfl) dX5_read_73 (fun H locs hZ => ?_)
  refine lv_istore_n (lv' := [(1, .int (zI y4.2)), (0, .ref mo), (3, .int (zI x3))]) hx hb dX5_read_76 rfl hl (by decide) rfl (fun ls hl => ?_)
  refine lv_goto (tgt := 127) hx hb dX5_read_77 (by decide) ?_
  refine lv_goto (tgt := 6) hx hb dX5_read_127 (by decide) ?_
  obtain rfl := Option.some.inj hf
  exact hK _ _ _ hZ (lv_sub hl [1, 0] rfl)

theorem w_read_109 {p : Program} {l : Launch} {e : Env} {R : Room} {s : State} {m : MethodId} {args : Array Value} {below : List Frame} {meth : Method} {c : Code} {Q : State → Prop} {D : va_G} {cI cZ : ClassId} {mo : Nat} {ad : Nat → Nat} {H : Heap} {locs : List Loc} {M : MS} (C : MC p s m args meth c D cI cZ cX5_read 4 none) (hR : 8 ≤ R.frames ∧ 189 ≤ R.locals) {x1 x3 : Int} {res : (MS × Int) ⊕ (MS)} (hf : m_read_109 M x1 x3 = some res) (hZ : ZM D cI cZ mo ad s.heap M H locs) {ls : Array Slot} (hl : lv_has ls 4 [(0, .ref mo), (1, .int (zI x1)), (3, .int (zI x3))]) (hK : (Sum.elim (fun z => ∀ (H : Heap) (locs : List Loc) (ls : Array Slot), ZM D cI cZ mo ad s.heap z.1 H locs → lv_has ls 4 [(0, .ref mo), (1, .int (zI z.2))] → W p l e R s m args below meth c H locs 0 0 Q (F0 m 6 ls [])) (fun r => KM below D cI cZ mo ad args s Q r none)) res) : W p l e R s m args below meth c H locs 0 0 Q (F0 m 109 ls []) := by
  unfold m_read_109 at hf
  have hx := C.1
  have hb := C.2.1
  have hts := C.2.2.2.2.2.2.1
  refine lv_aload_n hx hb dX5_read_109 rfl (lv_at hl 0 rfl) ?_
  refine lv_iload_n hx hb dX5_read_110 rfl (lv_at hl 1 rfl) ?_
  refine lv_iload_n hx hb dX5_read_111 rfl (lv_at hl 2 rfl) ?_
  obtain ⟨y5, ey5, hf⟩ := bd_inv hf
  refine zm_callV C hZ (n := 2) (rest := []) (met_entity l D cI cZ mo ad ey5) (lw_V q1432 q1434 qs61 q107 q1435) rfl rfl (by decide +kernel) ⟨Nat.le_trans (by decide) hR.1, Nat.le_trans (by decide) hR.2⟩ rfl hl.1 rfl (Nat.le_of_ble_eq_true rfl) dX5_read_112 (fun H locs hZ => ?_)
  refine lv_istore_n (lv' := [(1, .int (zI y5.2)), (0, .ref mo), (3, .int (zI x3))]) hx hb dX5_read_115 rfl hl (by decide) rfl (fun ls hl => ?_)
  refine lv_goto (tgt := 127) hx hb dX5_read_116 (by decide) ?_
  refine lv_goto (tgt := 6) hx hb dX5_read_127 (by decide) ?_
  obtain rfl := Option.some.inj hf
  exact hK _ _ _ hZ (lv_sub hl [1, 0] rfl)

theorem w_read_119 {p : Program} {l : Launch} {e : Env} {R : Room} {s : State} {m : MethodId} {args : Array Value} {below : List Frame} {meth : Method} {c : Code} {Q : State → Prop} {D : va_G} {cI cZ : ClassId} {mo : Nat} {ad : Nat → Nat} {H : Heap} {locs : List Loc} {M : MS} (C : MC p s m args meth c D cI cZ cX5_read 4 none) (hR : 8 ≤ R.frames ∧ 189 ≤ R.locals) {x1 x2 : Int} {res : (MS × Int) ⊕ (MS)} (hf : m_read_119 M x1 x2 = some res) (hZ : ZM D cI cZ mo ad s.heap M H locs) {ls : Array Slot} (hl : lv_has ls 4 [(0, .ref mo), (1, .int (zI x1)), (2, .int (zI x2))]) (hK : (Sum.elim (fun z => ∀ (H : Heap) (locs : List Loc) (ls : Array Slot), ZM D cI cZ mo ad s.heap z.1 H locs → lv_has ls 4 [(0, .ref mo), (1, .int (zI z.2))] → W p l e R s m args below meth c H locs 0 0 Q (F0 m 6 ls [])) (fun r => KM below D cI cZ mo ad args s Q r none)) res) : W p l e R s m args below meth c H locs 0 0 Q (F0 m 119 ls []) := by
  unfold m_read_119 at hf
  have hx := C.1
  have hb := C.2.1
  have hts := C.2.2.2.2.2.2.1
  refine lv_aload_n hx hb dX5_read_119 rfl (lv_at hl 0 rfl) ?_
  refine lv_iload_n hx hb dX5_read_120 rfl (lv_at hl 2 rfl) ?_
  obtain ⟨y5, ey5, hf⟩ := bd_inv hf
  refine zm_callV C hZ (n := 1) (rest := []) (met_character l D cI cZ mo ad ey5) (lw_V q1436 q1438 qs62 q107 q1439) rfl rfl (by decide +kernel) ⟨Nat.le_trans (by decide) hR.1, Nat.le_trans (by decide) hR.2⟩ rfl hl.1 rfl (Nat.le_of_ble_eq_true rfl) dX5_read_121 (fun H locs hZ => ?_)
  refine zl_iinc (x := x1) (n := 1) (lv' := [(1, .int (zI (x1 + 1))), (0, .ref mo), (2, .int (zI x2))]) (k := 1) hx hb dX5_read_124 hl rfl (by decide) rfl (fun ls hl => ?_)
  refine lv_goto (tgt := 6) hx hb dX5_read_127 (by decide) ?_
  obtain rfl := Option.some.inj hf
  exact hK _ _ _ hZ (lv_sub hl [1, 0] rfl)

theorem w_read_80 {p : Program} {l : Launch} {e : Env} {R : Room} {s : State} {m : MethodId} {args : Array Value} {below : List Frame} {meth : Method} {c : Code} {Q : State → Prop} {D : va_G} {cI cZ : ClassId} {mo : Nat} {ad : Nat → Nat} {H : Heap} {locs : List Loc} {M : MS} (C : MC p s m args meth c D cI cZ cX5_read 4 none) (hR : 8 ≤ R.frames ∧ 189 ≤ R.locals) {x1 x2 x3 : Int} {res : (MS × Int) ⊕ (MS)} (hf : m_read_80 M x1 x2 x3 = some res) (hZ : ZM D cI cZ mo ad s.heap M H locs) {ls : Array Slot} (hl : lv_has ls 4 [(0, .ref mo), (1, .int (zI x1)), (2, .int (zI x2)), (3, .int (zI x3))]) (hK : (Sum.elim (fun z => ∀ (H : Heap) (locs : List Loc) (ls : Array Slot), ZM D cI cZ mo ad s.heap z.1 H locs → lv_has ls 4 [(0, .ref mo), (1, .int (zI z.2))] → W p l e R s m args below meth c H locs 0 0 Q (F0 m 6 ls [])) (fun r => KM below D cI cZ mo ad args s Q r none)) res) : W p l e R s m args below meth c H locs 0 0 Q (F0 m 80 ls []) := by
  unfold m_read_80 at hf
  have hx := C.1
  have hb := C.2.1
  have hts := C.2.2.2.2.2.2.1
  refine lv_iload_n hx hb dX5_read_80 rfl (lv_at hl 2 rfl) ?_
  refine zl_bipush hx hb dX5_read_81 (by decide) ?_
  refine zl_icmp_ne (tgt := 119) hx hb dX5_read_83 (by decide) (fun hc => ?_) (fun hc => ?_)
  · rw [if_pos hc] at hf
    refine lv_iload_n hx hb dX5_read_86 rfl (lv_at hl 3 rfl) ?_
    refine zl_bipush hx hb dX5_read_87 (by decide) ?_
    refine zl_icmp_eq (tgt := 109) hx hb dX5_read_89 (by decide) (fun hc => ?_) (fun hc => ?_)
    · rw [if_pos hc] at hf
      exact w_read_109 C hR hf hZ (lv_sub hl [0, 1, 3] rfl) hK
    · rw [if_neg hc] at hf
      refine lv_iload_n hx hb dX5_read_92 rfl (lv_at hl 3 rfl) ?_
      refine zl_bipush hx hb dX5_read_93 (by decide) ?_
      refine zl_icmp_eq (tgt := 109) hx hb dX5_read_95 (by decide) (fun hc => ?_) (fun hc => ?_)
      · rw [if_pos hc] at hf
        exact w_read_109 C hR hf hZ (lv_sub hl [0, 1, 3] rfl) hK
      · rw [if_neg hc] at hf
        refine lv_iload_n hx hb dX5_read_98 rfl (lv_at hl 3 rfl) ?_
        refine zl_bipush hx hb dX5_read_99 (by decide) ?_
        refine zl_icmp_eq (tgt := 109) hx hb dX5_read_101 (by decide) (fun hc => ?_) (fun hc => ?_)
        · rw [if_pos hc] at hf
          exact w_read_109 C hR hf hZ (lv_sub hl [0, 1, 3] rfl) hK
        · rw [if_neg hc] at hf
          refine lv_iload_n hx hb dX5_read_104 rfl (lv_at hl 3 rfl) ?_
          refine zl_iconst hx hb dX5_read_105 ?_
          refine zl_icmp_ne (tgt := 119) hx hb dX5_read_106 (by decide) (fun hc => ?_) (fun hc => ?_)
          · rw [if_pos hc] at hf
            exact w_read_109 C hR hf hZ (lv_sub hl [0, 1, 3] rfl) hK
          · rw [if_neg hc] at hf
            exact w_read_119 C hR hf hZ (lv_sub hl [0, 1, 2] rfl) hK
  · rw [if_neg hc] at hf
    exact w_read_119 C hR hf hZ (lv_sub hl [0, 1, 2] rfl) hK

theorem w_read_6s {p : Program} {l : Launch} {e : Env} {R : Room} {s : State} {m : MethodId} {args : Array Value} {below : List Frame} {meth : Method} {c : Code} {Q : State → Prop} {D : va_G} {cI cZ : ClassId} {mo : Nat} {ad : Nat → Nat} {H : Heap} {locs : List Loc} {M : MS} (C : MC p s m args meth c D cI cZ cX5_read 4 none) (hR : 8 ≤ R.frames ∧ 189 ≤ R.locals) {x1 : Int} {res : (MS × Int) ⊕ (MS)} (hf : m_read_6s M x1 = some res) (hZ : ZM D cI cZ mo ad s.heap M H locs) {ls : Array Slot} (hl : lv_has ls 4 [(0, .ref mo), (1, .int (zI x1))]) (hK : (Sum.elim (fun z => ∀ (H : Heap) (locs : List Loc) (ls : Array Slot), ZM D cI cZ mo ad s.heap z.1 H locs → lv_has ls 4 [(0, .ref mo), (1, .int (zI z.2))] → W p l e R s m args below meth c H locs 0 0 Q (F0 m 6 ls [])) (fun r => KM below D cI cZ mo ad args s Q r none)) res) : W p l e R s m args below meth c H locs 0 0 Q (F0 m 6 ls []) := by
  unfold m_read_6s at hf
  have hx := C.1
  have hb := C.2.1
  have hts := C.2.2.2.2.2.2.1
  refine lv_iload_n hx hb dX5_read_6 rfl (lv_at hl 1 rfl) ?_
  refine zl_if_lt (tgt := 130) hx hb dX5_read_7 (by decide) (fun hc => ?_) (fun hc => ?_)
  · rw [if_pos hc] at hf
    obtain rfl := Option.some.inj hf
    exact zm_vret C hZ hK dX5_read_130
  · rw [if_neg hc] at hf
    refine lv_iload_n hx hb dX5_read_10 rfl (lv_at hl 1 rfl) ?_
    refine lv_aload_n hx hb dX5_read_11 rfl (lv_at hl 0 rfl) ?_
    refine zm_geti C hZ 0 (by decide) rfl q1141 dX5_read_12 ?_
    refine zl_icmp_ge (tgt := 130) hx hb dX5_read_15 (by decide) (fun hc => ?_) (fun hc => ?_)
    · rw [if_pos hc] at hf
      refine lv_aload_n hx hb dX5_read_18 rfl (lv_at hl 0 rfl) ?_
      refine zm_geti C hZ 4 (by decide) rfl q1145 dX5_read_19 ?_
      refine zl_if_ne (tgt := 130) hx hb dX5_read_22 (by decide) (fun hc => ?_) (fun hc => ?_)
      · rw [if_pos hc] at hf
        refine lv_aload_n hx hb dX5_read_25 rfl (lv_at hl 0 rfl) ?_
        refine zm_geta C hZ 1 (by decide) (by decide) q1142 dX5_read_26 ?_
        refine lv_iload_n hx hb dX5_read_29 rfl (lv_at hl 1 rfl) ?_
        obtain ⟨hg, hf⟩ := gd_inv hf
        refine zm_iald C hZ 1 (by decide) rfl rfl hg dX5_read_30 ?_
        obtain ⟨y2, ey2, hf⟩ := bnd_inv hf
        refine zl_top ey2 ?_
        refine lv_istore_n (lv' := [(2, .int (zI y2)), (0, .ref mo), (1, .int (zI x1))]) hx hb dX5_read_31 rfl hl (by decide) rfl (fun ls hl => ?_)
        refine lv_aload_n hx hb dX5_read_32 rfl (lv_at hl 1 rfl) ?_
        refine lv_iload_n hx hb dX5_read_33 rfl (lv_at hl 2 rfl) ?_
        refine zl_iconst hx hb dX5_read_34 ?_
        refine zl_iadd hx hb dX5_read_35 ?_
        obtain ⟨y3, ey3, hf⟩ := bd_inv hf
        refine zm_callV C hZ (n := 1) (rest := []) (met_peek l D cI cZ mo ad ey3) (lw_V q1325 q1327 qs38 q107 q1328) rfl rfl (by decide +kernel) ⟨Nat.le_trans (by decide) hR.1, Nat.le_trans (by decide) hR.2⟩ rfl hl.1 rfl (Nat.le_of_ble_eq_true rfl) dX5_read_36 (fun H locs hZ => ?_)
        refine lv_istore_n (lv' := [(3, .int (zI y3)), (2, .int (zI y2)), (0, .ref mo), (1, .int (zI x1))]) hx hb dX5_read_39 rfl hl (by decide) rfl (fun ls hl => ?_)
        refine lv_iload_n hx hb dX5_read_40 rfl (lv_at hl 1 rfl) ?_
        refine zl_bipush hx hb dX5_read_41 (by decide) ?_
        refine zl_icmp_ne (tgt := 80) hx hb dX5_read_43 (by decide) (fun hc => ?_) (fun hc => ?_)
        · rw [if_pos hc] at hf
          refine lv_iload_n hx hb dX5_read_46 rfl (lv_at hl 0 rfl) ?_
          refine zl_bipush hx hb dX5_read_47 (by decide) ?_
          refine zl_icmp_eq (tgt := 70) hx hb dX5_read_49 (by decide) (fun hc => ?_) (fun hc => ?_)
          · rw [if_pos hc] at hf
            exact w_read_70 C hR hf hZ (lv_sub hl [2, 3, 0] rfl) hK
          · rw [if_neg hc] at hf
            refine lv_iload_n hx hb dX5_read_52 rfl (lv_at hl 0 rfl) ?_
            refine zl_bipush hx hb dX5_read_53 (by decide) ?_
            refine zl_icmp_eq (tgt := 70) hx hb dX5_read_55 (by decide) (fun hc => ?_) (fun hc => ?_)
            · rw [if_pos hc] at hf
              exact w_read_70 C hR hf hZ (lv_sub hl [2, 3, 0] rfl) hK
            · rw [if_neg hc] at hf
              refine lv_iload_n hx hb dX5_read_58 rfl (lv_at hl 0 rfl) ?_
              refine zl_iconst hx hb dX5_read_59 ?_
              refine zl_icmp_eq (tgt := 70) hx hb dX5_read_60 (by decide) (fun hc => ?_) (fun hc => ?_)
              · rw [if_pos hc] at hf
                exact w_read_70 C hR hf hZ (lv_sub hl [2, 3, 0] rfl) hK
              · rw [if_neg hc] at hf
                refine lv_iload_n hx hb dX5_read_63 rfl (lv_at hl 0 rfl) ?_
                obtain ⟨y4, ey4, hf⟩ := bd_inv hf
                refine zm_callS C (n := 1) (rest := []) (met_small l ey4) (lw_S q1329 q1330 q107 q1331) rfl rfl (by decide +kernel) ⟨Nat.le_trans (by decide) hR.1, Nat.le_trans (by decide) hR.2⟩ rfl hl.1 rfl (Nat.le_of_ble_eq_true rfl) dX5_read_64 (Nat.zero_le _) (Nat.zero_le _) ?_
                refine zl_if_eq (tgt := 80) hx hb dX5_read_67 (by decide) (fun hc => ?_) (fun hc => ?_)
                · rw [if_pos hc] at hf
                  exact w_read_80 C hR hf hZ (lv_sub hl [2, 3, 1, 0] rfl) hK
                · rw [if_neg hc] at hf
                  exact w_read_70 C hR hf hZ (lv_sub hl [2, 3, 0] rfl) hK
        · rw [if_neg hc] at hf
          exact w_read_80 C hR hf hZ (lv_sub hl [2, 3, 1, 0] rfl) hK
      · rw [if_neg hc] at hf
        obtain rfl := Option.some.inj hf
        exact zm_vret C hZ hK dX5_read_130
    · rw [if_neg hc] at hf
      obtain rfl := Option.some.inj hf
      exact zm_vret C hZ hK dX5_read_130

theorem w_read_6 {p : Program} {l : Launch} {e : Env} {R : Room} {s : State} {m : MethodId} {args : Array Value} {below : List Frame} {meth : Method} {c : Code} {Q : State → Prop} {D : va_G} {cI cZ : ClassId} {mo : Nat} {ad : Nat → Nat} {H : Heap} {locs : List Loc} {M : MS} (C : MC p s m args meth c D cI cZ cX5_read 4 none) (hR : 8 ≤ R.frames ∧ 189 ≤ R.locals) {x1 : Int} {res : MS} (hf : m_read_6 M x1 = some res) (hZ : ZM D cI cZ mo ad s.heap M H locs) {ls : Array Slot} (hl : lv_has ls 4 [(0, .ref mo), (1, .int (zI x1))]) (hK : KM below D cI cZ mo ad args s Q res none) : W p l e R s m args below meth c H locs 0 0 Q (F0 m 6 ls []) := by
  unfold m_read_6 at hf
  refine iter_ind (P := fun z r => ∀ (H : Heap) (locs : List Loc) (ls : Array Slot), ZM D cI cZ mo ad s.heap z.1 H locs → lv_has ls 4 [(0, .ref mo), (1, .int (zI z.2))] → KM below D cI cZ mo ad args s Q r none → W p l e R s m args below meth c H locs 0 0 Q (F0 m 6 ls [])) ?_ ?_ hf H locs ls hZ hl hK
  · intro z r h1 H locs ls hZ hl hK; exact w_read_6s C hR h1 hZ hl hK
  · intro z z1 r h1 ih H locs ls hZ hl hK; exact w_read_6s C hR h1 hZ hl (fun H locs ls hZ hl => ih H locs ls hZ hl hK)

theorem w_read {p : Program} {l : Launch} {e : Env} {R : Room} {s : State} {m : MethodId} {args : Array Value} {below : List Frame} {meth : Method} {c : Code} {Q : State → Prop} {D : va_G} {cI cZ : ClassId} {mo : Nat} {ad : Nat → Nat} {H : Heap} {locs : List Loc} {M : MS} (C : MC p s m args meth c D cI cZ cX5_read 4 none) (hR : 8 ≤ R.frames ∧ 189 ≤ R.locals) {res : MS} (hf : m_read M = some res) (hZ : ZM D cI cZ mo ad s.heap M H locs) {ls : Array Slot} (hl : lv_has ls 4 [(0, .ref mo)]) (hK : KM below D cI cZ mo ad args s Q res none) : W p l e R s m args below meth c H locs 0 0 Q (F0 m 0 ls []) := by
  unfold m_read at hf
  have hx := C.1
  have hb := C.2.1
  have hts := C.2.2.2.2.2.2.1
  refine lv_aload_n hx hb dX5_read_0 rfl (lv_at hl 0 rfl) ?_
  obtain ⟨y1, ey1, hf⟩ := bd_inv hf
  refine zm_callV C hZ (n := 0) (rest := []) (met_reset l D cI cZ mo ad ey1) (lw_V q1137 q1139 qs36 q107 q1140) rfl rfl (by decide +kernel) ⟨Nat.le_trans (by decide) hR.1, Nat.le_trans (by decide) hR.2⟩ rfl hl.1 rfl (Nat.le_of_ble_eq_true rfl) dX5_read_1 (fun H locs hZ => ?_)
  refine zl_iconst hx hb dX5_read_4 ?_
  refine lv_istore_n (lv' := [(1, .int (zI 0)), (0, .ref mo)]) hx hb dX5_read_5 rfl hl (by decide) rfl (fun ls hl => ?_)
  exact w_read_6 C hR hf hZ (lv_sub hl [1, 0] rfl) hK

theorem met_read (l : Launch) (D : va_G) (cI cZ : ClassId) (mo : Nat) (ad : Nat → Nat) {M : MS} {res : MS} (hf : m_read M = some res) : Met l yX5_read (ws_ yX5_read cX5_read 4 none) ({ frames := 8, cells := 0, slots := 0, locals := 189 }) (PM D cI cZ mo ad M []) (QM D cI cZ mo ad res none) 0 0 (MA mo ad) := by
  refine Met.ofW (cc := cX5_read) (maxL := 4) (ret := none) (by decide) rfl ?_
  intro p e s m args below meth c s₁ B hml hv
  obtain ⟨rfl, hRM, hK0⟩ := hv
  have hts := atoms_spec (ws := ws_ yX5_read cX5_read 4 none) B.pre
  have hts : ∀ w ∈ lw_all, w.before _ s = true := fun w h => hts w (List.mem_cons_of_mem _ h)
  have C : MC p s m _ meth c D cI cZ cX5_read 4 none := ⟨B.exec, B.bytes, B.returns, B.notSynchronized, hml, findClass_of_methodNamed B.named, hts, hK0⟩
  have hZ : ZM D cI cZ mo ad s.heap M s.heap [] := ⟨hRM, rfl, fun _ _ => rfl, fun _ h => by cases h⟩
  have hl := lv_entry ([.ref mo]) (n := 4) (Nat.le_of_ble_eq_true rfl)
  rw [lg_entry_eq]
  generalize (lg_sl ([.ref mo]) ++ List.replicate (4 - (lg_sl ([.ref mo])).length) Slot.unset).toArray = ls at hl ⊢
  have hl : lv_has ls 4 [(0, .ref mo)] := hl
  exact w_read C ⟨Nat.le_refl _, Nat.le_refl _⟩ hf hZ hl rfl

theorem w_html {p : Program} {l : Launch} {e : Env} {R : Room} {s : State} {m : MethodId} {args : Array Value} {below : List Frame} {meth : Method} {c : Code} {Q : State → Prop} {D : va_G} {cI cZ : ClassId} {mo : Nat} {ad : Nat → Nat} {H : Heap} {locs : List Loc} {M : MS} (C : MC p s m args meth c D cI cZ cX5_html 2 (some .boolean)) (hR : 9 ≤ R.frames ∧ 212 ≤ R.locals) {x1 : Int} {res : MS × Int} (hf : m_html M x1 = some res) (hZ : ZM D cI cZ mo ad s.heap M H locs) {ls : Array Slot} (hl : lv_has ls 2 [(0, .ref mo), (1, .int (zI x1))]) (hK : KM below D cI cZ mo ad args s Q res.1 (some (.int (zI res.2)))) : W p l e R s m args below meth c H locs 0 0 Q (F0 m 0 ls []) := by
  unfold m_html at hf
  have hx := C.1
  have hb := C.2.1
  have hts := C.2.2.2.2.2.2.1
  refine lv_iload_n hx hb dX5_html_0 rfl (lv_at hl 1 rfl) ?_
  refine zl_bipush hx hb dX5_html_1 (by decide) ?_
  refine zl_icmp_lt (tgt := 29) hx hb dX5_html_3 (by decide) (fun hc => ?_) (fun hc => ?_)
  · rw [if_pos hc] at hf
    refine zl_iconst hx hb dX5_html_29 ?_
    obtain rfl := Option.some.inj hf
    exact zm_zret C hZ zisB_0 hK dX5_html_30
  · rw [if_neg hc] at hf
    refine lv_iload_n hx hb dX5_html_6 rfl (lv_at hl 1 rfl) ?_
    refine zl_bipush hx hb dX5_html_7 (by decide) ?_
    refine zl_icmp_gt (tgt := 29) hx hb dX5_html_9 (by decide) (fun hc => ?_) (fun hc => ?_)
    · rw [if_pos hc] at hf
      refine zl_iconst hx hb dX5_html_29 ?_
      obtain rfl := Option.some.inj hf
      exact zm_zret C hZ zisB_0 hK dX5_html_30
    · rw [if_neg hc] at hf
      refine lv_aload_n hx hb dX5_html_12 rfl (lv_at hl 0 rfl) ?_
      refine zm_geti C hZ 0 (by decide) rfl q1141 dX5_html_13 ?_
      refine zl_sipush hx hb dX5_html_16 (by decide) ?_
      refine zl_icmp_eq (tgt := 29) hx hb dX5_html_19 (by decide) (fun hc => ?_) (fun hc => ?_)
      · rw [if_pos hc] at hf
        refine zl_iconst hx hb dX5_html_29 ?_
        obtain rfl := Option.some.inj hf
        exact zm_zret C hZ zisB_0 hK dX5_html_30
      · rw [if_neg hc] at hf
        refine lv_aload_n hx hb dX5_html_22 rfl (lv_at hl 0 rfl) ?_
        refine zm_geti C hZ 4 (by decide) rfl q1145 dX5_html_23 ?_
        refine zl_if_eq (tgt := 31) hx hb dX5_html_26 (by decide) (fun hc => ?_) (fun hc => ?_)
        · rw [if_pos hc] at hf
          refine lv_aload_n hx hb dX5_html_31 rfl (lv_at hl 0 rfl) ?_
          refine zm_geta C hZ 1 (by decide) (by decide) q1142 dX5_html_32 ?_
          refine lv_aload_n hx hb dX5_html_35 rfl (lv_at hl 0 rfl) ?_
          refine zm_geti C hZ 0 (by decide) rfl q1141 dX5_html_36 ?_
          refine lv_iload_n hx hb dX5_html_39 rfl (lv_at hl 1 rfl) ?_
          obtain ⟨hg, hf⟩ := gd_inv hf
          obtain ⟨M1, eM1, hf⟩ := bnd_inv hf
          refine zm_iast C hZ 1 (by decide) rfl rfl hg dX5_html_40 (fun H locs hZ => ?_)
          rw [← eM1] at hZ
          refine lv_aload_n hx hb dX5_html_41 rfl (lv_at hl 0 rfl) ?_
          refine lv_dup hx hb dX5_html_42 rfl ?_
          refine zm_geti C hZ 0 (by decide) rfl q1141 dX5_html_43 ?_
          refine zl_iconst hx hb dX5_html_46 ?_
          refine zl_iadd hx hb dX5_html_47 ?_
          obtain ⟨M2, eM2, hf⟩ := bnd_inv hf
          refine zm_puti C hZ 0 (by decide) rfl rfl q1141 dX5_html_48 (fun H locs hZ => ?_)
          rw [← eM2] at hZ
          refine lv_aload_n hx hb dX5_html_51 rfl (lv_at hl 0 rfl) ?_
          refine zl_iconst hx hb dX5_html_52 ?_
          obtain ⟨M3, eM3, hf⟩ := bnd_inv hf
          refine zm_putb C hZ 37 (by decide) rfl rfl zisB_0 q1178 dX5_html_53 (fun H locs hZ => ?_)
          rw [← eM3] at hZ
          refine lv_aload_n hx hb dX5_html_56 rfl (lv_at hl 0 rfl) ?_
          obtain ⟨y4, ey4, hf⟩ := bd_inv hf
          refine zm_callV C hZ (n := 0) (rest := []) (met_read l D cI cZ mo ad ey4) (lw_V q1321 q1323 qs37 q107 q1324) rfl rfl (by decide +kernel) ⟨Nat.le_trans (by decide) hR.1, Nat.le_trans (by decide) hR.2⟩ rfl hl.1 rfl (Nat.le_of_ble_eq_true rfl) dX5_html_57 (fun H locs hZ => ?_)
          refine lv_aload_n hx hb dX5_html_60 rfl (lv_at hl 0 rfl) ?_
          refine zm_geti C hZ 4 (by decide) rfl q1145 dX5_html_61 ?_
          refine zl_if_ne (tgt := 71) hx hb dX5_html_64 (by decide) (fun hc => ?_) (fun hc => ?_)
          · rw [if_pos hc] at hf
            refine zl_iconst hx hb dX5_html_67 ?_
            refine lv_goto (tgt := 72) hx hb dX5_html_68 (by decide) ?_
            obtain rfl := Option.some.inj hf
            exact zm_zret C hZ zisB_1 hK dX5_html_72
          · rw [if_neg hc] at hf
            refine zl_iconst hx hb dX5_html_71 ?_
            obtain rfl := Option.some.inj hf
            exact zm_zret C hZ zisB_0 hK dX5_html_72
        · rw [if_neg hc] at hf
          refine zl_iconst hx hb dX5_html_29 ?_
          obtain rfl := Option.some.inj hf
          exact zm_zret C hZ zisB_0 hK dX5_html_30

theorem met_html (l : Launch) (D : va_G) (cI cZ : ClassId) (mo : Nat) (ad : Nat → Nat) {M : MS} {x1 : Int} {res : MS × Int} (hf : m_html M x1 = some res) : Met l yX5_html (ws_ yX5_html cX5_html 2 (some .boolean)) ({ frames := 9, cells := 0, slots := 0, locals := 212 }) (PM D cI cZ mo ad M [.int (zI x1)]) (QM D cI cZ mo ad res.1 (some (.int (zI res.2)))) 0 0 (MA mo ad) := by
  refine Met.ofW (cc := cX5_html) (maxL := 2) (ret := (some .boolean)) (by decide) rfl ?_
  intro p e s m args below meth c s₁ B hml hv
  obtain ⟨rfl, hRM, hK0⟩ := hv
  have hts := atoms_spec (ws := ws_ yX5_html cX5_html 2 (some .boolean)) B.pre
  have hts : ∀ w ∈ lw_all, w.before _ s = true := fun w h => hts w (List.mem_cons_of_mem _ h)
  have C : MC p s m _ meth c D cI cZ cX5_html 2 (some .boolean) := ⟨B.exec, B.bytes, B.returns, B.notSynchronized, hml, findClass_of_methodNamed B.named, hts, hK0⟩
  have hZ : ZM D cI cZ mo ad s.heap M s.heap [] := ⟨hRM, rfl, fun _ _ => rfl, fun _ h => by cases h⟩
  have hl := lv_entry ([.ref mo, .int (zI x1)]) (n := 2) (Nat.le_of_ble_eq_true rfl)
  rw [lg_entry_eq]
  generalize (lg_sl ([.ref mo, .int (zI x1)]) ++ List.replicate (2 - (lg_sl ([.ref mo, .int (zI x1)])).length) Slot.unset).toArray = ls at hl ⊢
  have hl : lv_has ls 2 [(0, .ref mo), (1, .int (zI x1))] := hl
  exact w_html C ⟨Nat.le_refl _, Nat.le_refl _⟩ hf hZ hl rfl

theorem w_css {p : Program} {l : Launch} {e : Env} {R : Room} {s : State} {m : MethodId} {args : Array Value} {below : List Frame} {meth : Method} {c : Code} {Q : State → Prop} {D : va_G} {cI cZ : ClassId} {mo : Nat} {ad : Nat → Nat} {H : Heap} {locs : List Loc} {M : MS} (C : MC p s m args meth c D cI cZ cX5_css 2 (some .boolean)) (hR : 0 ≤ R.frames ∧ 0 ≤ R.locals) {x1 : Int} {res : MS × Int} (hf : m_css M x1 = some res) (hZ : ZM D cI cZ mo ad s.heap M H locs) {ls : Array Slot} (hl : lv_has ls 2 [(0, .ref mo), (1, .int (zI x1))]) (hK : KM below D cI cZ mo ad args s Q res.1 (some (.int (zI res.2)))) : W p l e R s m args below meth c H locs 0 0 Q (F0 m 0 ls []) := by
  unfold m_css at hf
  have hx := C.1
  have hb := C.2.1
  have hts := C.2.2.2.2.2.2.1
  refine lv_iload_n hx hb dX5_css_0 rfl (lv_at hl 1 rfl) ?_
  refine zl_bipush hx hb dX5_css_1 (by decide) ?_
  refine zl_icmp_lt (tgt := 21) hx hb dX5_css_3 (by decide) (fun hc => ?_) (fun hc => ?_)
  · rw [if_pos hc] at hf
    refine zl_iconst hx hb dX5_css_21 ?_
    obtain rfl := Option.some.inj hf
    exact zm_zret C hZ zisB_0 hK dX5_css_22
  · rw [if_neg hc] at hf
    refine lv_iload_n hx hb dX5_css_6 rfl (lv_at hl 1 rfl) ?_
    refine zl_bipush hx hb dX5_css_7 (by decide) ?_
    refine zl_icmp_gt (tgt := 21) hx hb dX5_css_9 (by decide) (fun hc => ?_) (fun hc => ?_)
    · rw [if_pos hc] at hf
      refine zl_iconst hx hb dX5_css_21 ?_
      obtain rfl := Option.some.inj hf
      exact zm_zret C hZ zisB_0 hK dX5_css_22
    · rw [if_neg hc] at hf
      refine lv_aload_n hx hb dX5_css_12 rfl (lv_at hl 0 rfl) ?_
      refine zm_geti C hZ 2 (by decide) rfl q1143 dX5_css_13 ?_
      refine zl_bipush hx hb dX5_css_16 (by decide) ?_
      refine zl_icmp_ne (tgt := 23) hx hb dX5_css_18 (by decide) (fun hc => ?_) (fun hc => ?_)
      · rw [if_pos hc] at hf
        refine zl_iconst hx hb dX5_css_21 ?_
        obtain rfl := Option.some.inj hf
        exact zm_zret C hZ zisB_0 hK dX5_css_22
      · rw [if_neg hc] at hf
        refine lv_aload_n hx hb dX5_css_23 rfl (lv_at hl 0 rfl) ?_
        refine zm_geta C hZ 3 (by decide) (by decide) q1144 dX5_css_24 ?_
        refine lv_aload_n hx hb dX5_css_27 rfl (lv_at hl 0 rfl) ?_
        refine zm_geti C hZ 2 (by decide) rfl q1143 dX5_css_28 ?_
        refine lv_iload_n hx hb dX5_css_31 rfl (lv_at hl 1 rfl) ?_
        obtain ⟨hg, hf⟩ := gd_inv hf
        obtain ⟨M1, eM1, hf⟩ := bnd_inv hf
        refine zm_iast C hZ 3 (by decide) rfl rfl hg dX5_css_32 (fun H locs hZ => ?_)
        rw [← eM1] at hZ
        refine lv_aload_n hx hb dX5_css_33 rfl (lv_at hl 0 rfl) ?_
        refine lv_dup hx hb dX5_css_34 rfl ?_
        refine zm_geti C hZ 2 (by decide) rfl q1143 dX5_css_35 ?_
        refine zl_iconst hx hb dX5_css_38 ?_
        refine zl_iadd hx hb dX5_css_39 ?_
        obtain ⟨M2, eM2, hf⟩ := bnd_inv hf
        refine zm_puti C hZ 2 (by decide) rfl rfl q1143 dX5_css_40 (fun H locs hZ => ?_)
        rw [← eM2] at hZ
        refine lv_aload_n hx hb dX5_css_43 rfl (lv_at hl 0 rfl) ?_
        refine zl_iconst hx hb dX5_css_44 ?_
        obtain ⟨M3, eM3, hf⟩ := bnd_inv hf
        refine zm_putb C hZ 37 (by decide) rfl rfl zisB_0 q1178 dX5_css_45 (fun H locs hZ => ?_)
        rw [← eM3] at hZ
        refine zl_iconst hx hb dX5_css_48 ?_
        obtain rfl := Option.some.inj hf
        exact zm_zret C hZ zisB_1 hK dX5_css_49

theorem met_css (l : Launch) (D : va_G) (cI cZ : ClassId) (mo : Nat) (ad : Nat → Nat) {M : MS} {x1 : Int} {res : MS × Int} (hf : m_css M x1 = some res) : Met l yX5_css (ws_ yX5_css cX5_css 2 (some .boolean)) ({ frames := 0, cells := 0, slots := 0, locals := 0 }) (PM D cI cZ mo ad M [.int (zI x1)]) (QM D cI cZ mo ad res.1 (some (.int (zI res.2)))) 0 0 (MA mo ad) := by
  refine Met.ofW (cc := cX5_css) (maxL := 2) (ret := (some .boolean)) (by decide) rfl ?_
  intro p e s m args below meth c s₁ B hml hv
  obtain ⟨rfl, hRM, hK0⟩ := hv
  have hts := atoms_spec (ws := ws_ yX5_css cX5_css 2 (some .boolean)) B.pre
  have hts : ∀ w ∈ lw_all, w.before _ s = true := fun w h => hts w (List.mem_cons_of_mem _ h)
  have C : MC p s m _ meth c D cI cZ cX5_css 2 (some .boolean) := ⟨B.exec, B.bytes, B.returns, B.notSynchronized, hml, findClass_of_methodNamed B.named, hts, hK0⟩
  have hZ : ZM D cI cZ mo ad s.heap M s.heap [] := ⟨hRM, rfl, fun _ _ => rfl, fun _ h => by cases h⟩
  have hl := lv_entry ([.ref mo, .int (zI x1)]) (n := 2) (Nat.le_of_ble_eq_true rfl)
  rw [lg_entry_eq]
  generalize (lg_sl ([.ref mo, .int (zI x1)]) ++ List.replicate (2 - (lg_sl ([.ref mo, .int (zI x1)])).length) Slot.unset).toArray = ls at hl ⊢
  have hl : lv_has ls 2 [(0, .ref mo), (1, .int (zI x1))] := hl
  exact w_css C ⟨Nat.le_refl _, Nat.le_refl _⟩ hf hZ hl rfl

theorem w_clear {p : Program} {l : Launch} {e : Env} {R : Room} {s : State} {m : MethodId} {args : Array Value} {below : List Frame} {meth : Method} {c : Code} {Q : State → Prop} {D : va_G} {cI cZ : ClassId} {mo : Nat} {ad : Nat → Nat} {H : Heap} {locs : List Loc} {M : MS} (C : MC p s m args meth c D cI cZ cX5_clear 1 none) (hR : 1 ≤ R.frames ∧ 20 ≤ R.locals) {res : MS} (hf : m_clear M = some res) (hZ : ZM D cI cZ mo ad s.heap M H locs) {ls : Array Slot} (hl : lv_has ls 1 [(0, .ref mo)]) (hK : KM below D cI cZ mo ad args s Q res none) : W p l e R s m args below meth c H locs 0 0 Q (F0 m 0 ls []) := by
  unfold m_clear at hf
  have hx := C.1
  have hb := C.2.1
  have hts := C.2.2.2.2.2.2.1
  refine lv_aload_n hx hb dX5_clear_0 rfl (lv_at hl 0 rfl) ?_
  refine zl_iconst hx hb dX5_clear_1 ?_
  obtain ⟨M1, eM1, hf⟩ := bnd_inv hf
  refine zm_puti C hZ 0 (by decide) rfl rfl q1141 dX5_clear_2 (fun H locs hZ => ?_)
  rw [← eM1] at hZ
  refine lv_aload_n hx hb dX5_clear_5 rfl (lv_at hl 0 rfl) ?_
  refine zl_iconst hx hb dX5_clear_6 ?_
  obtain ⟨M2, eM2, hf⟩ := bnd_inv hf
  refine zm_puti C hZ 2 (by decide) rfl rfl q1143 dX5_clear_7 (fun H locs hZ => ?_)
  rw [← eM2] at hZ
  refine lv_aload_n hx hb dX5_clear_10 rfl (lv_at hl 0 rfl) ?_
  refine zl_iconst hx hb dX5_clear_11 ?_
  obtain ⟨M3, eM3, hf⟩ := bnd_inv hf
  refine zm_putb C hZ 37 (by decide) rfl rfl zisB_0 q1178 dX5_clear_12 (fun H locs hZ => ?_)
  rw [← eM3] at hZ
  refine lv_aload_n hx hb dX5_clear_15 rfl (lv_at hl 0 rfl) ?_
  obtain ⟨y4, ey4, hf⟩ := bd_inv hf
  refine zm_callV C hZ (n := 0) (rest := []) (met_reset l D cI cZ mo ad ey4) (lw_V q1137 q1139 qs36 q107 q1140) rfl rfl (by decide +kernel) ⟨Nat.le_trans (by decide) hR.1, Nat.le_trans (by decide) hR.2⟩ rfl hl.1 rfl (Nat.le_of_ble_eq_true rfl) dX5_clear_16 (fun H locs hZ => ?_)
  obtain rfl := Option.some.inj hf
  exact zm_vret C hZ hK dX5_clear_19

theorem met_clear (l : Launch) (D : va_G) (cI cZ : ClassId) (mo : Nat) (ad : Nat → Nat) {M : MS} {res : MS} (hf : m_clear M = some res) : Met l yX5_clear (ws_ yX5_clear cX5_clear 1 none) ({ frames := 1, cells := 0, slots := 0, locals := 20 }) (PM D cI cZ mo ad M []) (QM D cI cZ mo ad res none) 0 0 (MA mo ad) := by
  refine Met.ofW (cc := cX5_clear) (maxL := 1) (ret := none) (by decide) rfl ?_
  intro p e s m args below meth c s₁ B hml hv
  obtain ⟨rfl, hRM, hK0⟩ := hv
  have hts := atoms_spec (ws := ws_ yX5_clear cX5_clear 1 none) B.pre
  have hts : ∀ w ∈ lw_all, w.before _ s = true := fun w h => hts w (List.mem_cons_of_mem _ h)
  have C : MC p s m _ meth c D cI cZ cX5_clear 1 none := ⟨B.exec, B.bytes, B.returns, B.notSynchronized, hml, findClass_of_methodNamed B.named, hts, hK0⟩
  have hZ : ZM D cI cZ mo ad s.heap M s.heap [] := ⟨hRM, rfl, fun _ _ => rfl, fun _ h => by cases h⟩
  have hl := lv_entry ([.ref mo]) (n := 1) (Nat.le_of_ble_eq_true rfl)
  rw [lg_entry_eq]
  generalize (lg_sl ([.ref mo]) ++ List.replicate (1 - (lg_sl ([.ref mo])).length) Slot.unset).toArray = ls at hl ⊢
  have hl : lv_has ls 1 [(0, .ref mo)] := hl
  exact w_clear C ⟨Nat.le_refl _, Nat.le_refl _⟩ hf hZ hl rfl

theorem w_nodes {p : Program} {l : Launch} {e : Env} {R : Room} {s : State} {m : MethodId} {args : Array Value} {below : List Frame} {meth : Method} {c : Code} {Q : State → Prop} {D : va_G} {cI cZ : ClassId} {mo : Nat} {ad : Nat → Nat} {H : Heap} {locs : List Loc} {M : MS} (C : MC p s m args meth c D cI cZ cX5_nodes 1 (some .int)) (hR : 0 ≤ R.frames ∧ 0 ≤ R.locals) {res : Int} (hf : m_nodes M = some res) (hZ : ZM D cI cZ mo ad s.heap M H locs) {ls : Array Slot} (hl : lv_has ls 1 [(0, .ref mo)]) (hK : KM below D cI cZ mo ad args s Q M (some (.int (zI res)))) : W p l e R s m args below meth c H locs 0 0 Q (F0 m 0 ls []) := by
  unfold m_nodes at hf
  have hx := C.1
  have hb := C.2.1
  have hts := C.2.2.2.2.2.2.1
  refine lv_aload_n hx hb dX5_nodes_0 rfl (lv_at hl 0 rfl) ?_
  refine zm_geti C hZ 4 (by decide) rfl q1145 dX5_nodes_1 ?_
  refine zl_if_eq (tgt := 11) hx hb dX5_nodes_4 (by decide) (fun hc => ?_) (fun hc => ?_)
  · rw [if_pos hc] at hf
    refine lv_aload_n hx hb dX5_nodes_11 rfl (lv_at hl 0 rfl) ?_
    refine zm_geti C hZ 5 (by decide) rfl q1146 dX5_nodes_12 ?_
    obtain rfl := Option.some.inj hf
    exact zm_iret C hZ hK dX5_nodes_15
  · rw [if_neg hc] at hf
    refine zl_iconst hx hb dX5_nodes_7 ?_
    refine lv_goto (tgt := 15) hx hb dX5_nodes_8 (by decide) ?_
    obtain rfl := Option.some.inj hf
    exact zm_iret C hZ hK dX5_nodes_15

theorem met_nodes (l : Launch) (D : va_G) (cI cZ : ClassId) (mo : Nat) (ad : Nat → Nat) {M : MS} {res : Int} (hf : m_nodes M = some res) : Met l yX5_nodes (ws_ yX5_nodes cX5_nodes 1 (some .int)) ({ frames := 0, cells := 0, slots := 0, locals := 0 }) (PM D cI cZ mo ad M []) (QM D cI cZ mo ad M (some (.int (zI res)))) 0 0 (MA mo ad) := by
  refine Met.ofW (cc := cX5_nodes) (maxL := 1) (ret := (some .int)) (by decide) rfl ?_
  intro p e s m args below meth c s₁ B hml hv
  obtain ⟨rfl, hRM, hK0⟩ := hv
  have hts := atoms_spec (ws := ws_ yX5_nodes cX5_nodes 1 (some .int)) B.pre
  have hts : ∀ w ∈ lw_all, w.before _ s = true := fun w h => hts w (List.mem_cons_of_mem _ h)
  have C : MC p s m _ meth c D cI cZ cX5_nodes 1 (some .int) := ⟨B.exec, B.bytes, B.returns, B.notSynchronized, hml, findClass_of_methodNamed B.named, hts, hK0⟩
  have hZ : ZM D cI cZ mo ad s.heap M s.heap [] := ⟨hRM, rfl, fun _ _ => rfl, fun _ h => by cases h⟩
  have hl := lv_entry ([.ref mo]) (n := 1) (Nat.le_of_ble_eq_true rfl)
  rw [lg_entry_eq]
  generalize (lg_sl ([.ref mo]) ++ List.replicate (1 - (lg_sl ([.ref mo])).length) Slot.unset).toArray = ls at hl ⊢
  have hl : lv_has ls 1 [(0, .ref mo)] := hl
  exact w_nodes C ⟨Nat.le_refl _, Nat.le_refl _⟩ hf hZ hl rfl

theorem w_none_19 {p : Program} {l : Launch} {e : Env} {R : Room} {s : State} {m : MethodId} {args : Array Value} {below : List Frame} {meth : Method} {c : Code} {Q : State → Prop} {D : va_G} {cI cZ : ClassId} {mo : Nat} {ad : Nat → Nat} {H : Heap} {locs : List Loc} {M : MS} (C : MC p s m args meth c D cI cZ cX5_none 2 (some .boolean)) (hR : 0 ≤ R.frames ∧ 0 ≤ R.locals) {res : Int} (hf : m_none_19 M = some res) (hZ : ZM D cI cZ mo ad s.heap M H locs) {ls : Array Slot} (hl : lv_has ls 2 []) (hK : KM below D cI cZ mo ad args s Q M (some (.int (zI res)))) : W p l e R s m args below meth c H locs 0 0 Q (F0 m 19 ls []) := by
  unfold m_none_19 at hf
  have hx := C.1
  have hb := C.2.1
  have hts := C.2.2.2.2.2.2.1
  refine zl_iconst hx hb dX5_none_19 ?_
  refine lv_goto (tgt := 24) hx hb dX5_none_20 (by decide) ?_
  obtain rfl := Option.some.inj hf
  exact zm_zret C hZ zisB_1 hK dX5_none_24

theorem w_none {p : Program} {l : Launch} {e : Env} {R : Room} {s : State} {m : MethodId} {args : Array Value} {below : List Frame} {meth : Method} {c : Code} {Q : State → Prop} {D : va_G} {cI cZ : ClassId} {mo : Nat} {ad : Nat → Nat} {H : Heap} {locs : List Loc} {M : MS} (C : MC p s m args meth c D cI cZ cX5_none 2 (some .boolean)) (hR : 0 ≤ R.frames ∧ 0 ≤ R.locals) {x1 : Int} {res : Int} (hf : m_none M x1 = some res) (hZ : ZM D cI cZ mo ad s.heap M H locs) {ls : Array Slot} (hl : lv_has ls 2 [(0, .ref mo), (1, .int (zI x1))]) (hK : KM below D cI cZ mo ad args s Q M (some (.int (zI res)))) : W p l e R s m args below meth c H locs 0 0 Q (F0 m 0 ls []) := by
  unfold m_none at hf
  have hx := C.1
  have hb := C.2.1
  have hts := C.2.2.2.2.2.2.1
  refine lv_aload_n hx hb dX5_none_0 rfl (lv_at hl 0 rfl) ?_
  refine zm_geti C hZ 4 (by decide) rfl q1145 dX5_none_1 ?_
  refine zl_if_ne (tgt := 19) hx hb dX5_none_4 (by decide) (fun hc => ?_) (fun hc => ?_)
  · rw [if_pos hc] at hf
    refine lv_iload_n hx hb dX5_none_7 rfl (lv_at hl 1 rfl) ?_
    refine zl_if_lt (tgt := 19) hx hb dX5_none_8 (by decide) (fun hc => ?_) (fun hc => ?_)
    · rw [if_pos hc] at hf
      exact w_none_19 C hR hf hZ (lv_sub hl [] rfl) hK
    · rw [if_neg hc] at hf
      refine lv_iload_n hx hb dX5_none_11 rfl (lv_at hl 1 rfl) ?_
      refine lv_aload_n hx hb dX5_none_12 rfl (lv_at hl 0 rfl) ?_
      refine zm_geti C hZ 5 (by decide) rfl q1146 dX5_none_13 ?_
      refine zl_icmp_lt (tgt := 23) hx hb dX5_none_16 (by decide) (fun hc => ?_) (fun hc => ?_)
      · rw [if_pos hc] at hf
        refine zl_iconst hx hb dX5_none_23 ?_
        obtain rfl := Option.some.inj hf
        exact zm_zret C hZ zisB_0 hK dX5_none_24
      · rw [if_neg hc] at hf
        exact w_none_19 C hR hf hZ (lv_sub hl [] rfl) hK
  · rw [if_neg hc] at hf
    exact w_none_19 C hR hf hZ (lv_sub hl [] rfl) hK

theorem met_none (l : Launch) (D : va_G) (cI cZ : ClassId) (mo : Nat) (ad : Nat → Nat) {M : MS} {x1 : Int} {res : Int} (hf : m_none M x1 = some res) : Met l yX5_none (ws_ yX5_none cX5_none 2 (some .boolean)) ({ frames := 0, cells := 0, slots := 0, locals := 0 }) (PM D cI cZ mo ad M [.int (zI x1)]) (QM D cI cZ mo ad M (some (.int (zI res)))) 0 0 (MA mo ad) := by
  refine Met.ofW (cc := cX5_none) (maxL := 2) (ret := (some .boolean)) (by decide) rfl ?_
  intro p e s m args below meth c s₁ B hml hv
  obtain ⟨rfl, hRM, hK0⟩ := hv
  have hts := atoms_spec (ws := ws_ yX5_none cX5_none 2 (some .boolean)) B.pre
  have hts : ∀ w ∈ lw_all, w.before _ s = true := fun w h => hts w (List.mem_cons_of_mem _ h)
  have C : MC p s m _ meth c D cI cZ cX5_none 2 (some .boolean) := ⟨B.exec, B.bytes, B.returns, B.notSynchronized, hml, findClass_of_methodNamed B.named, hts, hK0⟩
  have hZ : ZM D cI cZ mo ad s.heap M s.heap [] := ⟨hRM, rfl, fun _ _ => rfl, fun _ h => by cases h⟩
  have hl := lv_entry ([.ref mo, .int (zI x1)]) (n := 2) (Nat.le_of_ble_eq_true rfl)
  rw [lg_entry_eq]
  generalize (lg_sl ([.ref mo, .int (zI x1)]) ++ List.replicate (2 - (lg_sl ([.ref mo, .int (zI x1)])).length) Slot.unset).toArray = ls at hl ⊢
  have hl : lv_has ls 2 [(0, .ref mo), (1, .int (zI x1))] := hl
  exact w_none C ⟨Nat.le_refl _, Nat.le_refl _⟩ hf hZ hl rfl

theorem w_name {p : Program} {l : Launch} {e : Env} {R : Room} {s : State} {m : MethodId} {args : Array Value} {below : List Frame} {meth : Method} {c : Code} {Q : State → Prop} {D : va_G} {cI cZ : ClassId} {mo : Nat} {ad : Nat → Nat} {H : Heap} {locs : List Loc} {M : MS} (C : MC p s m args meth c D cI cZ cX5_name 2 (some .int)) (hR : 1 ≤ R.frames ∧ 21 ≤ R.locals) {x1 : Int} {res : Int} (hf : m_name M x1 = some res) (hZ : ZM D cI cZ mo ad s.heap M H locs) {ls : Array Slot} (hl : lv_has ls 2 [(0, .ref mo), (1, .int (zI x1))]) (hK : KM below D cI cZ mo ad args s Q M (some (.int (zI res)))) : W p l e R s m args below meth c H locs 0 0 Q (F0 m 0 ls []) := by
  unfold m_name at hf
  have hx := C.1
  have hb := C.2.1
  have hts := C.2.2.2.2.2.2.1
  refine lv_aload_n hx hb dX5_name_0 rfl (lv_at hl 0 rfl) ?_
  refine lv_iload_n hx hb dX5_name_1 rfl (lv_at hl 1 rfl) ?_
  obtain ⟨y1, ey1, hf⟩ := bd_inv hf
  refine zm_callV C hZ (n := 1) (rest := []) (met_none l D cI cZ mo ad ey1) (lw_V q1456 q1458 qs63 q107 q1459) rfl rfl (by decide +kernel) ⟨Nat.le_trans (by decide) hR.1, Nat.le_trans (by decide) hR.2⟩ rfl hl.1 rfl (Nat.le_of_ble_eq_true rfl) dX5_name_2 (fun H locs hZ => ?_)
  refine zl_if_eq (tgt := 12) hx hb dX5_name_5 (by decide) (fun hc => ?_) (fun hc => ?_)
  · rw [if_pos hc] at hf
    refine lv_aload_n hx hb dX5_name_12 rfl (lv_at hl 0 rfl) ?_
    refine zm_geta C hZ 8 (by decide) (by decide) q1149 dX5_name_13 ?_
    refine lv_aload_n hx hb dX5_name_16 rfl (lv_at hl 0 rfl) ?_
    refine zm_geta C hZ 6 (by decide) (by decide) q1147 dX5_name_17 ?_
    refine lv_iload_n hx hb dX5_name_20 rfl (lv_at hl 1 rfl) ?_
    obtain ⟨hg, hf⟩ := gd_inv hf
    refine zm_iald C hZ 6 (by decide) rfl rfl hg dX5_name_21 ?_
    obtain ⟨hg, hf⟩ := gd_inv hf
    refine zm_iald C hZ 8 (by decide) rfl rfl hg dX5_name_22 ?_
    obtain rfl := Option.some.inj hf
    exact zm_iret C hZ hK dX5_name_23
  · rw [if_neg hc] at hf
    refine zl_iconst hx hb dX5_name_8 ?_
    refine lv_goto (tgt := 23) hx hb dX5_name_9 (by decide) ?_
    obtain rfl := Option.some.inj hf
    exact zm_iret C hZ hK dX5_name_23

theorem met_name (l : Launch) (D : va_G) (cI cZ : ClassId) (mo : Nat) (ad : Nat → Nat) {M : MS} {x1 : Int} {res : Int} (hf : m_name M x1 = some res) : Met l yX5_name (ws_ yX5_name cX5_name 2 (some .int)) ({ frames := 1, cells := 0, slots := 0, locals := 21 }) (PM D cI cZ mo ad M [.int (zI x1)]) (QM D cI cZ mo ad M (some (.int (zI res)))) 0 0 (MA mo ad) := by
  refine Met.ofW (cc := cX5_name) (maxL := 2) (ret := (some .int)) (by decide) rfl ?_
  intro p e s m args below meth c s₁ B hml hv
  obtain ⟨rfl, hRM, hK0⟩ := hv
  have hts := atoms_spec (ws := ws_ yX5_name cX5_name 2 (some .int)) B.pre
  have hts : ∀ w ∈ lw_all, w.before _ s = true := fun w h => hts w (List.mem_cons_of_mem _ h)
  have C : MC p s m _ meth c D cI cZ cX5_name 2 (some .int) := ⟨B.exec, B.bytes, B.returns, B.notSynchronized, hml, findClass_of_methodNamed B.named, hts, hK0⟩
  have hZ : ZM D cI cZ mo ad s.heap M s.heap [] := ⟨hRM, rfl, fun _ _ => rfl, fun _ h => by cases h⟩
  have hl := lv_entry ([.ref mo, .int (zI x1)]) (n := 2) (Nat.le_of_ble_eq_true rfl)
  rw [lg_entry_eq]
  generalize (lg_sl ([.ref mo, .int (zI x1)]) ++ List.replicate (2 - (lg_sl ([.ref mo, .int (zI x1)])).length) Slot.unset).toArray = ls at hl ⊢
  have hl : lv_has ls 2 [(0, .ref mo), (1, .int (zI x1))] := hl
  exact w_name C ⟨Nat.le_refl _, Nat.le_refl _⟩ hf hZ hl rfl

theorem w_parentOf_4s {p : Program} {l : Launch} {e : Env} {R : Room} {s : State} {m : MethodId} {args : Array Value} {below : List Frame} {meth : Method} {c : Code} {Q : State → Prop} {D : va_G} {cI cZ : ClassId} {mo : Nat} {ad : Nat → Nat} {H : Heap} {locs : List Loc} {M : MS} (C : MC p s m args meth c D cI cZ cX5_parentOf 3 (some .int)) (hR : 0 ≤ R.frames ∧ 0 ≤ R.locals) {x1 x2 : Int} {res : (Int) ⊕ (Int)} (hf : m_parentOf_4s M x1 x2 = some res) (hZ : ZM D cI cZ mo ad s.heap M H locs) {ls : Array Slot} (hl : lv_has ls 3 [(0, .ref mo), (1, .int (zI x1)), (2, .int (zI x2))]) (hK : (Sum.elim (fun z => ∀ (H : Heap) (locs : List Loc) (ls : Array Slot), ZM D cI cZ mo ad s.heap M H locs → lv_has ls 3 [(0, .ref mo), (1, .int (zI x1)), (2, .int (zI z))] → W p l e R s m args below meth c H locs 0 0 Q (F0 m 4 ls [])) (fun r => KM below D cI cZ mo ad args s Q M (some (.int (zI r))))) res) : W p l e R s m args below meth c H locs 0 0 Q (F0 m 4 ls []) := by
  unfold m_parentOf_4s at hf
  have hx := C.1
  have hb := C.2.1
  have hts := C.2.2.2.2.2.2.1
  refine lv_iload_n hx hb dX5_parentOf_4 rfl (lv_at hl 2 rfl) ?_
  refine zl_if_lt (tgt := 39) hx hb dX5_parentOf_5 (by decide) (fun hc => ?_) (fun hc => ?_)
  · rw [if_pos hc] at hf
    refine lv_iload_n hx hb dX5_parentOf_39 rfl (lv_at hl 2 rfl) ?_
    obtain rfl := Option.some.inj hf
    exact zm_iret C hZ hK dX5_parentOf_40
  · rw [if_neg hc] at hf
    refine lv_aload_n hx hb dX5_parentOf_8 rfl (lv_at hl 0 rfl) ?_
    refine zm_geta C hZ 10 (by decide) (by decide) q1151 dX5_parentOf_9 ?_
    refine lv_aload_n hx hb dX5_parentOf_12 rfl (lv_at hl 0 rfl) ?_
    refine zm_geta C hZ 6 (by decide) (by decide) q1147 dX5_parentOf_13 ?_
    refine lv_iload_n hx hb dX5_parentOf_16 rfl (lv_at hl 2 rfl) ?_
    obtain ⟨hg, hf⟩ := gd_inv hf
    refine zm_iald C hZ 6 (by decide) rfl rfl hg dX5_parentOf_17 ?_
    obtain ⟨hg, hf⟩ := gd_inv hf
    refine zm_iald C hZ 10 (by decide) rfl rfl hg dX5_parentOf_18 ?_
    refine lv_aload_n hx hb dX5_parentOf_19 rfl (lv_at hl 0 rfl) ?_
    refine zm_geta C hZ 10 (by decide) (by decide) q1151 dX5_parentOf_20 ?_
    refine lv_aload_n hx hb dX5_parentOf_23 rfl (lv_at hl 0 rfl) ?_
    refine zm_geta C hZ 6 (by decide) (by decide) q1147 dX5_parentOf_24 ?_
    refine lv_iload_n hx hb dX5_parentOf_27 rfl (lv_at hl 1 rfl) ?_
    obtain ⟨hg, hf⟩ := gd_inv hf
    refine zm_iald C hZ 6 (by decide) rfl rfl hg dX5_parentOf_28 ?_
    obtain ⟨hg, hf⟩ := gd_inv hf
    refine zm_iald C hZ 10 (by decide) rfl rfl hg dX5_parentOf_29 ?_
    refine zl_icmp_lt (tgt := 39) hx hb dX5_parentOf_30 (by decide) (fun hc => ?_) (fun hc => ?_)
    · rw [if_pos hc] at hf
      refine lv_iload_n hx hb dX5_parentOf_39 rfl (lv_at hl 2 rfl) ?_
      obtain rfl := Option.some.inj hf
      exact zm_iret C hZ hK dX5_parentOf_40
    · rw [if_neg hc] at hf
      refine zl_iinc (x := x2) (n := (-1)) (lv' := [(2, .int (zI (x2 + (-1)))), (0, .ref mo), (1, .int (zI x1))]) (k := 2) hx hb dX5_parentOf_33 hl rfl (by decide) rfl (fun ls hl => ?_)
      refine lv_goto (tgt := 4) hx hb dX5_parentOf_36 (by decide) ?_
      obtain rfl := Option.some.inj hf
      exact hK _ _ _ hZ (lv_sub hl [1, 2, 0] rfl)

theorem w_parentOf_4 {p : Program} {l : Launch} {e : Env} {R : Room} {s : State} {m : MethodId} {args : Array Value} {below : List Frame} {meth : Method} {c : Code} {Q : State → Prop} {D : va_G} {cI cZ : ClassId} {mo : Nat} {ad : Nat → Nat} {H : Heap} {locs : List Loc} {M : MS} (C : MC p s m args meth c D cI cZ cX5_parentOf 3 (some .int)) (hR : 0 ≤ R.frames ∧ 0 ≤ R.locals) {x1 x2 : Int} {res : Int} (hf : m_parentOf_4 M x1 x2 = some res) (hZ : ZM D cI cZ mo ad s.heap M H locs) {ls : Array Slot} (hl : lv_has ls 3 [(0, .ref mo), (1, .int (zI x1)), (2, .int (zI x2))]) (hK : KM below D cI cZ mo ad args s Q M (some (.int (zI res)))) : W p l e R s m args below meth c H locs 0 0 Q (F0 m 4 ls []) := by
  unfold m_parentOf_4 at hf
  refine iter_ind (P := fun z r => ∀ (H : Heap) (locs : List Loc) (ls : Array Slot), ZM D cI cZ mo ad s.heap M H locs → lv_has ls 3 [(0, .ref mo), (1, .int (zI x1)), (2, .int (zI z))] → KM below D cI cZ mo ad args s Q M (some (.int (zI r))) → W p l e R s m args below meth c H locs 0 0 Q (F0 m 4 ls [])) ?_ ?_ hf H locs ls hZ hl hK
  · intro z r h1 H locs ls hZ hl hK; exact w_parentOf_4s C hR h1 hZ hl hK
  · intro z z1 r h1 ih H locs ls hZ hl hK; exact w_parentOf_4s C hR h1 hZ hl (fun H locs ls hZ hl => ih H locs ls hZ hl hK)

theorem w_parentOf {p : Program} {l : Launch} {e : Env} {R : Room} {s : State} {m : MethodId} {args : Array Value} {below : List Frame} {meth : Method} {c : Code} {Q : State → Prop} {D : va_G} {cI cZ : ClassId} {mo : Nat} {ad : Nat → Nat} {H : Heap} {locs : List Loc} {M : MS} (C : MC p s m args meth c D cI cZ cX5_parentOf 3 (some .int)) (hR : 0 ≤ R.frames ∧ 0 ≤ R.locals) {x1 : Int} {res : Int} (hf : m_parentOf M x1 = some res) (hZ : ZM D cI cZ mo ad s.heap M H locs) {ls : Array Slot} (hl : lv_has ls 3 [(0, .ref mo), (1, .int (zI x1))]) (hK : KM below D cI cZ mo ad args s Q M (some (.int (zI res)))) : W p l e R s m args below meth c H locs 0 0 Q (F0 m 0 ls []) := by
  unfold m_parentOf at hf
  have hx := C.1
  have hb := C.2.1
  have hts := C.2.2.2.2.2.2.1
  refine lv_iload_n hx hb dX5_parentOf_0 rfl (lv_at hl 1 rfl) ?_
  refine zl_iconst hx hb dX5_parentOf_1 ?_
  refine zl_isub hx hb dX5_parentOf_2 ?_
  obtain ⟨y1, ey1, hf⟩ := bnd_inv hf
  refine zl_top ey1 ?_
  refine lv_istore_n (lv' := [(2, .int (zI y1)), (0, .ref mo), (1, .int (zI x1))]) hx hb dX5_parentOf_3 rfl hl (by decide) rfl (fun ls hl => ?_)
  exact w_parentOf_4 C hR hf hZ (lv_sub hl [1, 2, 0] rfl) hK

theorem met_parentOf (l : Launch) (D : va_G) (cI cZ : ClassId) (mo : Nat) (ad : Nat → Nat) {M : MS} {x1 : Int} {res : Int} (hf : m_parentOf M x1 = some res) : Met l yX5_parentOf (ws_ yX5_parentOf cX5_parentOf 3 (some .int)) ({ frames := 0, cells := 0, slots := 0, locals := 0 }) (PM D cI cZ mo ad M [.int (zI x1)]) (QM D cI cZ mo ad M (some (.int (zI res)))) 0 0 (MA mo ad) := by
  refine Met.ofW (cc := cX5_parentOf) (maxL := 3) (ret := (some .int)) (by decide) rfl ?_
  intro p e s m args below meth c s₁ B hml hv
  obtain ⟨rfl, hRM, hK0⟩ := hv
  have hts := atoms_spec (ws := ws_ yX5_parentOf cX5_parentOf 3 (some .int)) B.pre
  have hts : ∀ w ∈ lw_all, w.before _ s = true := fun w h => hts w (List.mem_cons_of_mem _ h)
  have C : MC p s m _ meth c D cI cZ cX5_parentOf 3 (some .int) := ⟨B.exec, B.bytes, B.returns, B.notSynchronized, hml, findClass_of_methodNamed B.named, hts, hK0⟩
  have hZ : ZM D cI cZ mo ad s.heap M s.heap [] := ⟨hRM, rfl, fun _ _ => rfl, fun _ h => by cases h⟩
  have hl := lv_entry ([.ref mo, .int (zI x1)]) (n := 3) (Nat.le_of_ble_eq_true rfl)
  rw [lg_entry_eq]
  generalize (lg_sl ([.ref mo, .int (zI x1)]) ++ List.replicate (3 - (lg_sl ([.ref mo, .int (zI x1)])).length) Slot.unset).toArray = ls at hl ⊢
  have hl : lv_has ls 3 [(0, .ref mo), (1, .int (zI x1))] := hl
  exact w_parentOf C ⟨Nat.le_refl _, Nat.le_refl _⟩ hf hZ hl rfl

theorem w_parent {p : Program} {l : Launch} {e : Env} {R : Room} {s : State} {m : MethodId} {args : Array Value} {below : List Frame} {meth : Method} {c : Code} {Q : State → Prop} {D : va_G} {cI cZ : ClassId} {mo : Nat} {ad : Nat → Nat} {H : Heap} {locs : List Loc} {M : MS} (C : MC p s m args meth c D cI cZ cX5_parent 2 (some .int)) (hR : 1 ≤ R.frames ∧ 22 ≤ R.locals) {x1 : Int} {res : Int} (hf : m_parent M x1 = some res) (hZ : ZM D cI cZ mo ad s.heap M H locs) {ls : Array Slot} (hl : lv_has ls 2 [(0, .ref mo), (1, .int (zI x1))]) (hK : KM below D cI cZ mo ad args s Q M (some (.int (zI res)))) : W p l e R s m args below meth c H locs 0 0 Q (F0 m 0 ls []) := by
  unfold m_parent at hf
  have hx := C.1
  have hb := C.2.1
  have hts := C.2.2.2.2.2.2.1
  refine lv_aload_n hx hb dX5_parent_0 rfl (lv_at hl 0 rfl) ?_
  refine lv_iload_n hx hb dX5_parent_1 rfl (lv_at hl 1 rfl) ?_
  obtain ⟨y1, ey1, hf⟩ := bd_inv hf
  refine zm_callV C hZ (n := 1) (rest := []) (met_none l D cI cZ mo ad ey1) (lw_V q1456 q1458 qs63 q107 q1459) rfl rfl (by decide +kernel) ⟨Nat.le_trans (by decide) hR.1, Nat.le_trans (by decide) hR.2⟩ rfl hl.1 rfl (Nat.le_of_ble_eq_true rfl) dX5_parent_2 (fun H locs hZ => ?_)
  refine zl_if_eq (tgt := 12) hx hb dX5_parent_5 (by decide) (fun hc => ?_) (fun hc => ?_)
  · rw [if_pos hc] at hf
    refine lv_aload_n hx hb dX5_parent_12 rfl (lv_at hl 0 rfl) ?_
    refine lv_iload_n hx hb dX5_parent_13 rfl (lv_at hl 1 rfl) ?_
    obtain ⟨y2, ey2, hf⟩ := bd_inv hf
    refine zm_callV C hZ (n := 1) (rest := []) (met_parentOf l D cI cZ mo ad ey2) (lw_V q1464 q1466 qs64 q107 q1467) rfl rfl (by decide +kernel) ⟨Nat.le_trans (by decide) hR.1, Nat.le_trans (by decide) hR.2⟩ rfl hl.1 rfl (Nat.le_of_ble_eq_true rfl) dX5_parent_14 (fun H locs hZ => ?_)
    obtain rfl := Option.some.inj hf
    exact zm_iret C hZ hK dX5_parent_17
  · rw [if_neg hc] at hf
    refine zl_iconst hx hb dX5_parent_8 ?_
    refine lv_goto (tgt := 17) hx hb dX5_parent_9 (by decide) ?_
    obtain rfl := Option.some.inj hf
    exact zm_iret C hZ hK dX5_parent_17

theorem met_parent (l : Launch) (D : va_G) (cI cZ : ClassId) (mo : Nat) (ad : Nat → Nat) {M : MS} {x1 : Int} {res : Int} (hf : m_parent M x1 = some res) : Met l yX5_parent (ws_ yX5_parent cX5_parent 2 (some .int)) ({ frames := 1, cells := 0, slots := 0, locals := 22 }) (PM D cI cZ mo ad M [.int (zI x1)]) (QM D cI cZ mo ad M (some (.int (zI res)))) 0 0 (MA mo ad) := by
  refine Met.ofW (cc := cX5_parent) (maxL := 2) (ret := (some .int)) (by decide) rfl ?_
  intro p e s m args below meth c s₁ B hml hv
  obtain ⟨rfl, hRM, hK0⟩ := hv
  have hts := atoms_spec (ws := ws_ yX5_parent cX5_parent 2 (some .int)) B.pre
  have hts : ∀ w ∈ lw_all, w.before _ s = true := fun w h => hts w (List.mem_cons_of_mem _ h)
  have C : MC p s m _ meth c D cI cZ cX5_parent 2 (some .int) := ⟨B.exec, B.bytes, B.returns, B.notSynchronized, hml, findClass_of_methodNamed B.named, hts, hK0⟩
  have hZ : ZM D cI cZ mo ad s.heap M s.heap [] := ⟨hRM, rfl, fun _ _ => rfl, fun _ h => by cases h⟩
  have hl := lv_entry ([.ref mo, .int (zI x1)]) (n := 2) (Nat.le_of_ble_eq_true rfl)
  rw [lg_entry_eq]
  generalize (lg_sl ([.ref mo, .int (zI x1)]) ++ List.replicate (2 - (lg_sl ([.ref mo, .int (zI x1)])).length) Slot.unset).toArray = ls at hl ⊢
  have hl : lv_has ls 2 [(0, .ref mo), (1, .int (zI x1))] := hl
  exact w_parent C ⟨Nat.le_refl _, Nat.le_refl _⟩ hf hZ hl rfl

theorem w_classes {p : Program} {l : Launch} {e : Env} {R : Room} {s : State} {m : MethodId} {args : Array Value} {below : List Frame} {meth : Method} {c : Code} {Q : State → Prop} {D : va_G} {cI cZ : ClassId} {mo : Nat} {ad : Nat → Nat} {H : Heap} {locs : List Loc} {M : MS} (C : MC p s m args meth c D cI cZ cX5_classes 2 (some .int)) (hR : 1 ≤ R.frames ∧ 21 ≤ R.locals) {x1 : Int} {res : Int} (hf : m_classes M x1 = some res) (hZ : ZM D cI cZ mo ad s.heap M H locs) {ls : Array Slot} (hl : lv_has ls 2 [(0, .ref mo), (1, .int (zI x1))]) (hK : KM below D cI cZ mo ad args s Q M (some (.int (zI res)))) : W p l e R s m args below meth c H locs 0 0 Q (F0 m 0 ls []) := by
  unfold m_classes at hf
  have hx := C.1
  have hb := C.2.1
  have hts := C.2.2.2.2.2.2.1
  refine lv_aload_n hx hb dX5_classes_0 rfl (lv_at hl 0 rfl) ?_
  refine lv_iload_n hx hb dX5_classes_1 rfl (lv_at hl 1 rfl) ?_
  obtain ⟨y1, ey1, hf⟩ := bd_inv hf
  refine zm_callV C hZ (n := 1) (rest := []) (met_none l D cI cZ mo ad ey1) (lw_V q1456 q1458 qs63 q107 q1459) rfl rfl (by decide +kernel) ⟨Nat.le_trans (by decide) hR.1, Nat.le_trans (by decide) hR.2⟩ rfl hl.1 rfl (Nat.le_of_ble_eq_true rfl) dX5_classes_2 (fun H locs hZ => ?_)
  refine zl_if_eq (tgt := 12) hx hb dX5_classes_5 (by decide) (fun hc => ?_) (fun hc => ?_)
  · rw [if_pos hc] at hf
    refine lv_aload_n hx hb dX5_classes_12 rfl (lv_at hl 0 rfl) ?_
    refine zm_geta C hZ 9 (by decide) (by decide) q1150 dX5_classes_13 ?_
    refine lv_aload_n hx hb dX5_classes_16 rfl (lv_at hl 0 rfl) ?_
    refine zm_geta C hZ 6 (by decide) (by decide) q1147 dX5_classes_17 ?_
    refine lv_iload_n hx hb dX5_classes_20 rfl (lv_at hl 1 rfl) ?_
    obtain ⟨hg, hf⟩ := gd_inv hf
    refine zm_iald C hZ 6 (by decide) rfl rfl hg dX5_classes_21 ?_
    obtain ⟨hg, hf⟩ := gd_inv hf
    refine zm_iald C hZ 9 (by decide) rfl rfl hg dX5_classes_22 ?_
    obtain rfl := Option.some.inj hf
    exact zm_iret C hZ hK dX5_classes_23
  · rw [if_neg hc] at hf
    refine zl_iconst hx hb dX5_classes_8 ?_
    refine lv_goto (tgt := 23) hx hb dX5_classes_9 (by decide) ?_
    obtain rfl := Option.some.inj hf
    exact zm_iret C hZ hK dX5_classes_23

theorem met_classes (l : Launch) (D : va_G) (cI cZ : ClassId) (mo : Nat) (ad : Nat → Nat) {M : MS} {x1 : Int} {res : Int} (hf : m_classes M x1 = some res) : Met l yX5_classes (ws_ yX5_classes cX5_classes 2 (some .int)) ({ frames := 1, cells := 0, slots := 0, locals := 21 }) (PM D cI cZ mo ad M [.int (zI x1)]) (QM D cI cZ mo ad M (some (.int (zI res)))) 0 0 (MA mo ad) := by
  refine Met.ofW (cc := cX5_classes) (maxL := 2) (ret := (some .int)) (by decide) rfl ?_
  intro p e s m args below meth c s₁ B hml hv
  obtain ⟨rfl, hRM, hK0⟩ := hv
  have hts := atoms_spec (ws := ws_ yX5_classes cX5_classes 2 (some .int)) B.pre
  have hts : ∀ w ∈ lw_all, w.before _ s = true := fun w h => hts w (List.mem_cons_of_mem _ h)
  have C : MC p s m _ meth c D cI cZ cX5_classes 2 (some .int) := ⟨B.exec, B.bytes, B.returns, B.notSynchronized, hml, findClass_of_methodNamed B.named, hts, hK0⟩
  have hZ : ZM D cI cZ mo ad s.heap M s.heap [] := ⟨hRM, rfl, fun _ _ => rfl, fun _ h => by cases h⟩
  have hl := lv_entry ([.ref mo, .int (zI x1)]) (n := 2) (Nat.le_of_ble_eq_true rfl)
  rw [lg_entry_eq]
  generalize (lg_sl ([.ref mo, .int (zI x1)]) ++ List.replicate (2 - (lg_sl ([.ref mo, .int (zI x1)])).length) Slot.unset).toArray = ls at hl ⊢
  have hl : lv_has ls 2 [(0, .ref mo), (1, .int (zI x1))] := hl
  exact w_classes C ⟨Nat.le_refl _, Nat.le_refl _⟩ hf hZ hl rfl

theorem w_find_69 {p : Program} {l : Launch} {e : Env} {R : Room} {s : State} {m : MethodId} {args : Array Value} {below : List Frame} {meth : Method} {c : Code} {Q : State → Prop} {D : va_G} {cI cZ : ClassId} {mo : Nat} {ad : Nat → Nat} {H : Heap} {locs : List Loc} {M : MS} (C : MC p s m args meth c D cI cZ cX5_find 5 (some .int)) (hR : 1 ≤ R.frames ∧ 21 ≤ R.locals) {x1 x3 x4 : Int} {res : (Int × Int) ⊕ (Int)} (hf : m_find_69 M x1 x3 x4 = some res) (hZ : ZM D cI cZ mo ad s.heap M H locs) {ls : Array Slot} (hl : lv_has ls 5 [(0, .ref mo), (1, .int (zI x1)), (3, .int (zI x3)), (4, .int (zI x4))]) (hK : (Sum.elim (fun z => ∀ (H : Heap) (locs : List Loc) (ls : Array Slot), ZM D cI cZ mo ad s.heap M H locs → lv_has ls 5 [(0, .ref mo), (1, .int (zI x1)), (3, .int (zI z.1)), (4, .int (zI z.2))] → W p l e R s m args below meth c H locs 0 0 Q (F0 m 34 ls [])) (fun r => KM below D cI cZ mo ad args s Q M (some (.int (zI r))))) res) : W p l e R s m args below meth c H locs 0 0 Q (F0 m 69 ls []) := by
  unfold m_find_69 at hf
  have hx := C.1
  have hb := C.2.1
  have hts := C.2.2.2.2.2.2.1
  refine zl_iinc (x := x4) (n := 1) (lv' := [(4, .int (zI (x4 + 1))), (0, .ref mo), (1, .int (zI x1)), (3, .int (zI x3))]) (k := 3) hx hb dX5_find_69 hl rfl (by decide) rfl (fun ls hl => ?_)
  refine lv_goto (tgt := 34) hx hb dX5_find_72 (by decide) ?_
  obtain rfl := Option.some.inj hf
  exact hK _ _ _ hZ (lv_sub hl [1, 2, 3, 0] rfl)

theorem w_find_34s {p : Program} {l : Launch} {e : Env} {R : Room} {s : State} {m : MethodId} {args : Array Value} {below : List Frame} {meth : Method} {c : Code} {Q : State → Prop} {D : va_G} {cI cZ : ClassId} {mo : Nat} {ad : Nat → Nat} {H : Heap} {locs : List Loc} {M : MS} (C : MC p s m args meth c D cI cZ cX5_find 5 (some .int)) (hR : 1 ≤ R.frames ∧ 21 ≤ R.locals) {x1 x3 x4 : Int} {res : (Int × Int) ⊕ (Int)} (hf : m_find_34s M x1 x3 x4 = some res) (hZ : ZM D cI cZ mo ad s.heap M H locs) {ls : Array Slot} (hl : lv_has ls 5 [(0, .ref mo), (1, .int (zI x1)), (3, .int (zI x3)), (4, .int (zI x4))]) (hK : (Sum.elim (fun z => ∀ (H : Heap) (locs : List Loc) (ls : Array Slot), ZM D cI cZ mo ad s.heap M H locs → lv_has ls 5 [(0, .ref mo), (1, .int (zI x1)), (3, .int (zI z.1)), (4, .int (zI z.2))] → W p l e R s m args below meth c H locs 0 0 Q (F0 m 34 ls [])) (fun r => KM below D cI cZ mo ad args s Q M (some (.int (zI r))))) res) : W p l e R s m args below meth c H locs 0 0 Q (F0 m 34 ls []) := by
  unfold m_find_34s at hf
  have hx := C.1
  have hb := C.2.1
  have hts := C.2.2.2.2.2.2.1
  refine lv_iload hx hb dX5_find_34 (lv_at hl 3 rfl) ?_
  refine lv_aload_n hx hb dX5_find_36 rfl (lv_at hl 0 rfl) ?_
  refine zm_geti C hZ 17 (by decide) rfl q1158 dX5_find_37 ?_
  refine zl_icmp_ge (tgt := 75) hx hb dX5_find_40 (by decide) (fun hc => ?_) (fun hc => ?_)
  · rw [if_pos hc] at hf
    refine lv_aload_n hx hb dX5_find_43 rfl (lv_at hl 0 rfl) ?_
    refine zm_geta C hZ 19 (by decide) (by decide) q1160 dX5_find_44 ?_
    refine lv_iload hx hb dX5_find_47 (lv_at hl 3 rfl) ?_
    obtain ⟨hg, hf⟩ := gd_inv hf
    refine zm_iald C hZ 19 (by decide) rfl rfl hg dX5_find_49 ?_
    refine lv_aload_n hx hb dX5_find_50 rfl (lv_at hl 0 rfl) ?_
    refine zm_geta C hZ 6 (by decide) (by decide) q1147 dX5_find_51 ?_
    refine lv_iload_n hx hb dX5_find_54 rfl (lv_at hl 1 rfl) ?_
    obtain ⟨hg, hf⟩ := gd_inv hf
    refine zm_iald C hZ 6 (by decide) rfl rfl hg dX5_find_55 ?_
    refine zl_icmp_ne (tgt := 69) hx hb dX5_find_56 (by decide) (fun hc => ?_) (fun hc => ?_)
    · rw [if_pos hc] at hf
      refine lv_iload_n hx hb dX5_find_59 rfl (lv_at hl 2 rfl) ?_
      refine zl_if_ne (tgt := 66) hx hb dX5_find_60 (by decide) (fun hc => ?_) (fun hc => ?_)
      · rw [if_pos hc] at hf
        refine lv_iload hx hb dX5_find_63 (lv_at hl 3 rfl) ?_
        obtain rfl := Option.some.inj hf
        exact zm_iret C hZ hK dX5_find_65
      · rw [if_neg hc] at hf
        refine zl_iinc (x := x3) (n := (-1)) (lv' := [(3, .int (zI (x3 + (-1)))), (0, .ref mo), (1, .int (zI x1)), (4, .int (zI x4))]) (k := 2) hx hb dX5_find_66 hl rfl (by decide) rfl (fun ls hl => ?_)
        exact w_find_69 C hR hf hZ (lv_sub hl [1, 2, 0, 3] rfl) hK
    · rw [if_neg hc] at hf
      exact w_find_69 C hR hf hZ (lv_sub hl [0, 1, 2, 3] rfl) hK
  · rw [if_neg hc] at hf
    refine zl_iconst hx hb dX5_find_75 ?_
    obtain rfl := Option.some.inj hf
    exact zm_iret C hZ hK dX5_find_76

theorem w_find_34 {p : Program} {l : Launch} {e : Env} {R : Room} {s : State} {m : MethodId} {args : Array Value} {below : List Frame} {meth : Method} {c : Code} {Q : State → Prop} {D : va_G} {cI cZ : ClassId} {mo : Nat} {ad : Nat → Nat} {H : Heap} {locs : List Loc} {M : MS} (C : MC p s m args meth c D cI cZ cX5_find 5 (some .int)) (hR : 1 ≤ R.frames ∧ 21 ≤ R.locals) {x1 x3 x4 : Int} {res : Int} (hf : m_find_34 M x1 x3 x4 = some res) (hZ : ZM D cI cZ mo ad s.heap M H locs) {ls : Array Slot} (hl : lv_has ls 5 [(0, .ref mo), (1, .int (zI x1)), (3, .int (zI x3)), (4, .int (zI x4))]) (hK : KM below D cI cZ mo ad args s Q M (some (.int (zI res)))) : W p l e R s m args below meth c H locs 0 0 Q (F0 m 34 ls []) := by
  unfold m_find_34 at hf
  refine iter_ind (P := fun z r => ∀ (H : Heap) (locs : List Loc) (ls : Array Slot), ZM D cI cZ mo ad s.heap M H locs → lv_has ls 5 [(0, .ref mo), (1, .int (zI x1)), (3, .int (zI z.1)), (4, .int (zI z.2))] → KM below D cI cZ mo ad args s Q M (some (.int (zI r))) → W p l e R s m args below meth c H locs 0 0 Q (F0 m 34 ls [])) ?_ ?_ hf H locs ls hZ hl hK
  · intro z r h1 H locs ls hZ hl hK; exact w_find_34s C hR h1 hZ hl hK
  · intro z z1 r h1 ih H locs ls hZ hl hK; exact w_find_34s C hR h1 hZ hl (fun H locs ls hZ hl => ih H locs ls hZ hl hK)

theorem w_find {p : Program} {l : Launch} {e : Env} {R : Room} {s : State} {m : MethodId} {args : Array Value} {below : List Frame} {meth : Method} {c : Code} {Q : State → Prop} {D : va_G} {cI cZ : ClassId} {mo : Nat} {ad : Nat → Nat} {H : Heap} {locs : List Loc} {M : MS} (C : MC p s m args meth c D cI cZ cX5_find 5 (some .int)) (hR : 1 ≤ R.frames ∧ 21 ≤ R.locals) {x1 x2 : Int} {res : Int} (hf : m_find M x1 x2 = some res) (hZ : ZM D cI cZ mo ad s.heap M H locs) {ls : Array Slot} (hl : lv_has ls 5 [(0, .ref mo), (1, .int (zI x1)), (2, .int (zI x2))]) (hK : KM below D cI cZ mo ad args s Q M (some (.int (zI res)))) : W p l e R s m args below meth c H locs 0 0 Q (F0 m 0 ls []) := by
  unfold m_find at hf
  have hx := C.1
  have hb := C.2.1
  have hts := C.2.2.2.2.2.2.1
  refine lv_aload_n hx hb dX5_find_0 rfl (lv_at hl 0 rfl) ?_
  refine lv_iload_n hx hb dX5_find_1 rfl (lv_at hl 1 rfl) ?_
  obtain ⟨y1, ey1, hf⟩ := bd_inv hf
  refine zm_callV C hZ (n := 1) (rest := []) (met_none l D cI cZ mo ad ey1) (lw_V q1456 q1458 qs63 q107 q1459) rfl rfl (by decide +kernel) ⟨Nat.le_trans (by decide) hR.1, Nat.le_trans (by decide) hR.2⟩ rfl hl.1 rfl (Nat.le_of_ble_eq_true rfl) dX5_find_2 (fun H locs hZ => ?_)
  refine zl_if_ne (tgt := 27) hx hb dX5_find_5 (by decide) (fun hc => ?_) (fun hc => ?_)
  · rw [if_pos hc] at hf
    refine lv_aload_n hx hb dX5_find_8 rfl (lv_at hl 0 rfl) ?_
    refine zm_geta C hZ 8 (by decide) (by decide) q1149 dX5_find_9 ?_
    refine lv_aload_n hx hb dX5_find_12 rfl (lv_at hl 0 rfl) ?_
    refine zm_geta C hZ 6 (by decide) (by decide) q1147 dX5_find_13 ?_
    refine lv_iload_n hx hb dX5_find_16 rfl (lv_at hl 1 rfl) ?_
    obtain ⟨hg, hf⟩ := gd_inv hf
    refine zm_iald C hZ 6 (by decide) rfl rfl hg dX5_find_17 ?_
    obtain ⟨hg, hf⟩ := gd_inv hf
    refine zm_iald C hZ 8 (by decide) rfl rfl hg dX5_find_18 ?_
    refine zl_iconst hx hb dX5_find_19 ?_
    refine zl_icmp_ne (tgt := 27) hx hb dX5_find_20 (by decide) (fun hc => ?_) (fun hc => ?_)
    · rw [if_pos hc] at hf
      refine lv_iload_n hx hb dX5_find_23 rfl (lv_at hl 2 rfl) ?_
      refine zl_if_ge (tgt := 29) hx hb dX5_find_24 (by decide) (fun hc => ?_) (fun hc => ?_)
      · rw [if_pos hc] at hf
        refine zl_iconst hx hb dX5_find_27 ?_
        obtain rfl := Option.some.inj hf
        exact zm_iret C hZ hK dX5_find_28
      · rw [if_neg hc] at hf
        refine lv_iload_n hx hb dX5_find_29 rfl (lv_at hl 2 rfl) ?_
        refine lv_istore_n (lv' := [(3, .int (zI x2)), (0, .ref mo), (1, .int (zI x1)), (2, .int (zI x2))]) hx hb dX5_find_30 rfl hl (by decide) rfl (fun ls hl => ?_)
        refine zl_iconst hx hb dX5_find_31 ?_
        refine lv_istore (lv' := [(4, .int (zI 0)), (3, .int (zI x2)), (0, .ref mo), (1, .int (zI x1)), (2, .int (zI x2))]) hx hb dX5_find_32 hl (by decide) rfl (fun ls hl => ?_)
        exact w_find_34 C hR hf hZ (lv_sub hl [2, 3, 1, 0] rfl) hK
    · rw [if_neg hc] at hf
      refine zl_iconst hx hb dX5_find_27 ?_
      obtain rfl := Option.some.inj hf
      exact zm_iret C hZ hK dX5_find_28
  · rw [if_neg hc] at hf
    refine zl_iconst hx hb dX5_find_27 ?_
    obtain rfl := Option.some.inj hf
    exact zm_iret C hZ hK dX5_find_28

theorem met_find (l : Launch) (D : va_G) (cI cZ : ClassId) (mo : Nat) (ad : Nat → Nat) {M : MS} {x1 x2 : Int} {res : Int} (hf : m_find M x1 x2 = some res) : Met l yX5_find (ws_ yX5_find cX5_find 5 (some .int)) ({ frames := 1, cells := 0, slots := 0, locals := 21 }) (PM D cI cZ mo ad M [.int (zI x1), .int (zI x2)]) (QM D cI cZ mo ad M (some (.int (zI res)))) 0 0 (MA mo ad) := by
  refine Met.ofW (cc := cX5_find) (maxL := 5) (ret := (some .int)) (by decide) rfl ?_
  intro p e s m args below meth c s₁ B hml hv
  obtain ⟨rfl, hRM, hK0⟩ := hv
  have hts := atoms_spec (ws := ws_ yX5_find cX5_find 5 (some .int)) B.pre
  have hts : ∀ w ∈ lw_all, w.before _ s = true := fun w h => hts w (List.mem_cons_of_mem _ h)
  have C : MC p s m _ meth c D cI cZ cX5_find 5 (some .int) := ⟨B.exec, B.bytes, B.returns, B.notSynchronized, hml, findClass_of_methodNamed B.named, hts, hK0⟩
  have hZ : ZM D cI cZ mo ad s.heap M s.heap [] := ⟨hRM, rfl, fun _ _ => rfl, fun _ h => by cases h⟩
  have hl := lv_entry ([.ref mo, .int (zI x1), .int (zI x2)]) (n := 5) (Nat.le_of_ble_eq_true rfl)
  rw [lg_entry_eq]
  generalize (lg_sl ([.ref mo, .int (zI x1), .int (zI x2)]) ++ List.replicate (5 - (lg_sl ([.ref mo, .int (zI x1), .int (zI x2)])).length) Slot.unset).toArray = ls at hl ⊢
  have hl : lv_has ls 5 [(0, .ref mo), (1, .int (zI x1)), (2, .int (zI x2))] := hl
  exact w_find C ⟨Nat.le_refl _, Nat.le_refl _⟩ hf hZ hl rfl

theorem w_letter {p : Program} {l : Launch} {e : Env} {R : Room} {s : State} {m : MethodId} {args : Array Value} {below : List Frame} {meth : Method} {c : Code} {Q : State → Prop} {D : va_G} {cI cZ : ClassId} {mo : Nat} {ad : Nat → Nat} {H : Heap} {locs : List Loc} {M : MS} (C : MC p s m args meth c D cI cZ cX5_letter 4 (some .int)) (hR : 2 ≤ R.frames ∧ 45 ≤ R.locals) {x1 x2 : Int} {res : Int} (hf : m_letter M x1 x2 = some res) (hZ : ZM D cI cZ mo ad s.heap M H locs) {ls : Array Slot} (hl : lv_has ls 4 [(0, .ref mo), (1, .int (zI x1)), (2, .int (zI x2))]) (hK : KM below D cI cZ mo ad args s Q M (some (.int (zI res)))) : W p l e R s m args below meth c H locs 0 0 Q (F0 m 0 ls []) := by
  unfold m_letter at hf
  have hx := C.1
  have hb := C.2.1
  have hts := C.2.2.2.2.2.2.1
  refine lv_aload_n hx hb dX5_letter_0 rfl (lv_at hl 0 rfl) ?_
  refine lv_iload_n hx hb dX5_letter_1 rfl (lv_at hl 1 rfl) ?_
  refine lv_iload_n hx hb dX5_letter_2 rfl (lv_at hl 2 rfl) ?_
  obtain ⟨y1, ey1, hf⟩ := bd_inv hf
  refine zm_callV C hZ (n := 2) (rest := []) (met_find l D cI cZ mo ad ey1) (lw_V q1476 q1478 qs65 q107 q1479) rfl rfl (by decide +kernel) ⟨Nat.le_trans (by decide) hR.1, Nat.le_trans (by decide) hR.2⟩ rfl hl.1 rfl (Nat.le_of_ble_eq_true rfl) dX5_letter_3 (fun H locs hZ => ?_)
  refine lv_istore_n (lv' := [(3, .int (zI y1)), (0, .ref mo), (1, .int (zI x1)), (2, .int (zI x2))]) hx hb dX5_letter_6 rfl hl (by decide) rfl (fun ls hl => ?_)
  refine lv_iload_n hx hb dX5_letter_7 rfl (lv_at hl 0 rfl) ?_
  refine zl_if_ge (tgt := 15) hx hb dX5_letter_8 (by decide) (fun hc => ?_) (fun hc => ?_)
  · rw [if_pos hc] at hf
    refine zl_iconst hx hb dX5_letter_11 ?_
    refine lv_goto (tgt := 21) hx hb dX5_letter_12 (by decide) ?_
    obtain rfl := Option.some.inj hf
    exact zm_iret C hZ hK dX5_letter_21
  · rw [if_neg hc] at hf
    refine lv_aload_n hx hb dX5_letter_15 rfl (lv_at hl 1 rfl) ?_
    refine zm_geta C hZ 18 (by decide) (by decide) q1159 dX5_letter_16 ?_
    refine lv_iload_n hx hb dX5_letter_19 rfl (lv_at hl 0 rfl) ?_
    obtain ⟨hg, hf⟩ := gd_inv hf
    refine zm_iald C hZ 18 (by decide) rfl rfl hg dX5_letter_20 ?_
    obtain rfl := Option.some.inj hf
    exact zm_iret C hZ hK dX5_letter_21

theorem met_letter (l : Launch) (D : va_G) (cI cZ : ClassId) (mo : Nat) (ad : Nat → Nat) {M : MS} {x1 x2 : Int} {res : Int} (hf : m_letter M x1 x2 = some res) : Met l yX5_letter (ws_ yX5_letter cX5_letter 4 (some .int)) ({ frames := 2, cells := 0, slots := 0, locals := 45 }) (PM D cI cZ mo ad M [.int (zI x1), .int (zI x2)]) (QM D cI cZ mo ad M (some (.int (zI res)))) 0 0 (MA mo ad) := by
  refine Met.ofW (cc := cX5_letter) (maxL := 4) (ret := (some .int)) (by decide) rfl ?_
  intro p e s m args below meth c s₁ B hml hv
  obtain ⟨rfl, hRM, hK0⟩ := hv
  have hts := atoms_spec (ws := ws_ yX5_letter cX5_letter 4 (some .int)) B.pre
  have hts : ∀ w ∈ lw_all, w.before _ s = true := fun w h => hts w (List.mem_cons_of_mem _ h)
  have C : MC p s m _ meth c D cI cZ cX5_letter 4 (some .int) := ⟨B.exec, B.bytes, B.returns, B.notSynchronized, hml, findClass_of_methodNamed B.named, hts, hK0⟩
  have hZ : ZM D cI cZ mo ad s.heap M s.heap [] := ⟨hRM, rfl, fun _ _ => rfl, fun _ h => by cases h⟩
  have hl := lv_entry ([.ref mo, .int (zI x1), .int (zI x2)]) (n := 4) (Nat.le_of_ble_eq_true rfl)
  rw [lg_entry_eq]
  generalize (lg_sl ([.ref mo, .int (zI x1), .int (zI x2)]) ++ List.replicate (4 - (lg_sl ([.ref mo, .int (zI x1), .int (zI x2)])).length) Slot.unset).toArray = ls at hl ⊢
  have hl : lv_has ls 4 [(0, .ref mo), (1, .int (zI x1)), (2, .int (zI x2))] := hl
  exact w_letter C ⟨Nat.le_refl _, Nat.le_refl _⟩ hf hZ hl rfl

theorem w_open {p : Program} {l : Launch} {e : Env} {R : Room} {s : State} {m : MethodId} {args : Array Value} {below : List Frame} {meth : Method} {c : Code} {Q : State → Prop} {D : va_G} {cI cZ : ClassId} {mo : Nat} {ad : Nat → Nat} {H : Heap} {locs : List Loc} {M : MS} (C : MC p s m args meth c D cI cZ cX5_open 1 (some .int)) (hR : 0 ≤ R.frames ∧ 0 ≤ R.locals) {res : Int} (hf : m_open M = some res) (hZ : ZM D cI cZ mo ad s.heap M H locs) {ls : Array Slot} (hl : lv_has ls 1 [(0, .ref mo)]) (hK : KM below D cI cZ mo ad args s Q M (some (.int (zI res)))) : W p l e R s m args below meth c H locs 0 0 Q (F0 m 0 ls []) := by
  unfold m_open at hf
  have hx := C.1
  have hb := C.2.1
  have hts := C.2.2.2.2.2.2.1
  refine lv_aload_n hx hb dX5_open_0 rfl (lv_at hl 0 rfl) ?_
  refine zm_geti C hZ 4 (by decide) rfl q1145 dX5_open_1 ?_
  refine zl_if_eq (tgt := 11) hx hb dX5_open_4 (by decide) (fun hc => ?_) (fun hc => ?_)
  · rw [if_pos hc] at hf
    refine lv_aload_n hx hb dX5_open_11 rfl (lv_at hl 0 rfl) ?_
    refine zm_geti C hZ 13 (by decide) rfl q1154 dX5_open_12 ?_
    obtain rfl := Option.some.inj hf
    exact zm_iret C hZ hK dX5_open_15
  · rw [if_neg hc] at hf
    refine zl_iconst hx hb dX5_open_7 ?_
    refine lv_goto (tgt := 15) hx hb dX5_open_8 (by decide) ?_
    obtain rfl := Option.some.inj hf
    exact zm_iret C hZ hK dX5_open_15

theorem met_open (l : Launch) (D : va_G) (cI cZ : ClassId) (mo : Nat) (ad : Nat → Nat) {M : MS} {res : Int} (hf : m_open M = some res) : Met l yX5_open (ws_ yX5_open cX5_open 1 (some .int)) ({ frames := 0, cells := 0, slots := 0, locals := 0 }) (PM D cI cZ mo ad M []) (QM D cI cZ mo ad M (some (.int (zI res)))) 0 0 (MA mo ad) := by
  refine Met.ofW (cc := cX5_open) (maxL := 1) (ret := (some .int)) (by decide) rfl ?_
  intro p e s m args below meth c s₁ B hml hv
  obtain ⟨rfl, hRM, hK0⟩ := hv
  have hts := atoms_spec (ws := ws_ yX5_open cX5_open 1 (some .int)) B.pre
  have hts : ∀ w ∈ lw_all, w.before _ s = true := fun w h => hts w (List.mem_cons_of_mem _ h)
  have C : MC p s m _ meth c D cI cZ cX5_open 1 (some .int) := ⟨B.exec, B.bytes, B.returns, B.notSynchronized, hml, findClass_of_methodNamed B.named, hts, hK0⟩
  have hZ : ZM D cI cZ mo ad s.heap M s.heap [] := ⟨hRM, rfl, fun _ _ => rfl, fun _ h => by cases h⟩
  have hl := lv_entry ([.ref mo]) (n := 1) (Nat.le_of_ble_eq_true rfl)
  rw [lg_entry_eq]
  generalize (lg_sl ([.ref mo]) ++ List.replicate (1 - (lg_sl ([.ref mo])).length) Slot.unset).toArray = ls at hl ⊢
  have hl : lv_has ls 1 [(0, .ref mo)] := hl
  exact w_open C ⟨Nat.le_refl _, Nat.le_refl _⟩ hf hZ hl rfl

theorem w_nextSign_2s {p : Program} {l : Launch} {e : Env} {R : Room} {s : State} {m : MethodId} {args : Array Value} {below : List Frame} {meth : Method} {c : Code} {Q : State → Prop} {D : va_G} {cI cZ : ClassId} {mo : Nat} {ad : Nat → Nat} {H : Heap} {locs : List Loc} {M : MS} (C : MC p s m args meth c D cI cZ cX5_nextSign 4 (some .int)) (hR : 0 ≤ R.frames ∧ 0 ≤ R.locals) {x2 x3 : Int} {res : (Int) ⊕ (Int)} (hf : m_nextSign_2s M x2 x3 = some res) (hZ : ZM D cI cZ mo ad s.heap M H locs) {ls : Array Slot} (hl : lv_has ls 4 [(0, .ref mo), (2, .int (zI x2)), (3, .int (zI x3))]) (hK : (Sum.elim (fun z => ∀ (H : Heap) (locs : List Loc) (ls : Array Slot), ZM D cI cZ mo ad s.heap M H locs → lv_has ls 4 [(0, .ref mo), (2, .int (zI x2)), (3, .int (zI z))] → W p l e R s m args below meth c H locs 0 0 Q (F0 m 2 ls [])) (fun r => KM below D cI cZ mo ad args s Q M (some (.int (zI r))))) res) : W p l e R s m args below meth c H locs 0 0 Q (F0 m 2 ls []) := by
  unfold m_nextSign_2s at hf
  have hx := C.1
  have hb := C.2.1
  have hts := C.2.2.2.2.2.2.1
  refine lv_iload_n hx hb dX5_nextSign_2 rfl (lv_at hl 2 rfl) ?_
  refine lv_aload_n hx hb dX5_nextSign_3 rfl (lv_at hl 0 rfl) ?_
  refine zm_geti C hZ 2 (by decide) rfl q1143 dX5_nextSign_4 ?_
  refine zl_icmp_ge (tgt := 28) hx hb dX5_nextSign_7 (by decide) (fun hc => ?_) (fun hc => ?_)
  · rw [if_pos hc] at hf
    refine lv_aload_n hx hb dX5_nextSign_10 rfl (lv_at hl 0 rfl) ?_
    refine zm_geta C hZ 3 (by decide) (by decide) q1144 dX5_nextSign_11 ?_
    refine lv_iload_n hx hb dX5_nextSign_14 rfl (lv_at hl 2 rfl) ?_
    obtain ⟨hg, hf⟩ := gd_inv hf
    refine zm_iald C hZ 3 (by decide) rfl rfl hg dX5_nextSign_15 ?_
    refine lv_iload_n hx hb dX5_nextSign_16 rfl (lv_at hl 1 rfl) ?_
    refine zl_icmp_ne (tgt := 22) hx hb dX5_nextSign_17 (by decide) (fun hc => ?_) (fun hc => ?_)
    · rw [if_pos hc] at hf
      refine lv_iload_n hx hb dX5_nextSign_20 rfl (lv_at hl 2 rfl) ?_
      obtain rfl := Option.some.inj hf
      exact zm_iret C hZ hK dX5_nextSign_21
    · rw [if_neg hc] at hf
      refine zl_iinc (x := x3) (n := 1) (lv' := [(3, .int (zI (x3 + 1))), (0, .ref mo), (2, .int (zI x2))]) (k := 2) hx hb dX5_nextSign_22 hl rfl (by decide) rfl (fun ls hl => ?_)
      refine lv_goto (tgt := 2) hx hb dX5_nextSign_25 (by decide) ?_
      obtain rfl := Option.some.inj hf
      exact hK _ _ _ hZ (lv_sub hl [1, 2, 0] rfl)
  · rw [if_neg hc] at hf
    refine zl_iconst hx hb dX5_nextSign_28 ?_
    obtain rfl := Option.some.inj hf
    exact zm_iret C hZ hK dX5_nextSign_29

theorem w_nextSign_2 {p : Program} {l : Launch} {e : Env} {R : Room} {s : State} {m : MethodId} {args : Array Value} {below : List Frame} {meth : Method} {c : Code} {Q : State → Prop} {D : va_G} {cI cZ : ClassId} {mo : Nat} {ad : Nat → Nat} {H : Heap} {locs : List Loc} {M : MS} (C : MC p s m args meth c D cI cZ cX5_nextSign 4 (some .int)) (hR : 0 ≤ R.frames ∧ 0 ≤ R.locals) {x2 x3 : Int} {res : Int} (hf : m_nextSign_2 M x2 x3 = some res) (hZ : ZM D cI cZ mo ad s.heap M H locs) {ls : Array Slot} (hl : lv_has ls 4 [(0, .ref mo), (2, .int (zI x2)), (3, .int (zI x3))]) (hK : KM below D cI cZ mo ad args s Q M (some (.int (zI res)))) : W p l e R s m args below meth c H locs 0 0 Q (F0 m 2 ls []) := by
  unfold m_nextSign_2 at hf
  refine iter_ind (P := fun z r => ∀ (H : Heap) (locs : List Loc) (ls : Array Slot), ZM D cI cZ mo ad s.heap M H locs → lv_has ls 4 [(0, .ref mo), (2, .int (zI x2)), (3, .int (zI z))] → KM below D cI cZ mo ad args s Q M (some (.int (zI r))) → W p l e R s m args below meth c H locs 0 0 Q (F0 m 2 ls [])) ?_ ?_ hf H locs ls hZ hl hK
  · intro z r h1 H locs ls hZ hl hK; exact w_nextSign_2s C hR h1 hZ hl hK
  · intro z z1 r h1 ih H locs ls hZ hl hK; exact w_nextSign_2s C hR h1 hZ hl (fun H locs ls hZ hl => ih H locs ls hZ hl hK)

theorem w_nextSign {p : Program} {l : Launch} {e : Env} {R : Room} {s : State} {m : MethodId} {args : Array Value} {below : List Frame} {meth : Method} {c : Code} {Q : State → Prop} {D : va_G} {cI cZ : ClassId} {mo : Nat} {ad : Nat → Nat} {H : Heap} {locs : List Loc} {M : MS} (C : MC p s m args meth c D cI cZ cX5_nextSign 4 (some .int)) (hR : 0 ≤ R.frames ∧ 0 ≤ R.locals) {x1 x2 : Int} {res : Int} (hf : m_nextSign M x1 x2 = some res) (hZ : ZM D cI cZ mo ad s.heap M H locs) {ls : Array Slot} (hl : lv_has ls 4 [(0, .ref mo), (1, .int (zI x1)), (2, .int (zI x2))]) (hK : KM below D cI cZ mo ad args s Q M (some (.int (zI res)))) : W p l e R s m args below meth c H locs 0 0 Q (F0 m 0 ls []) := by
  unfold m_nextSign at hf
  have hx := C.1
  have hb := C.2.1
  have hts := C.2.2.2.2.2.2.1
  refine lv_iload_n hx hb dX5_nextSign_0 rfl (lv_at hl 1 rfl) ?_
  refine lv_istore_n (lv' := [(3, .int (zI x1)), (0, .ref mo), (1, .int (zI x1)), (2, .int (zI x2))]) hx hb dX5_nextSign_1 rfl hl (by decide) rfl (fun ls hl => ?_)
  exact w_nextSign_2 C hR hf hZ (lv_sub hl [1, 3, 0] rfl) hK

theorem met_nextSign (l : Launch) (D : va_G) (cI cZ : ClassId) (mo : Nat) (ad : Nat → Nat) {M : MS} {x1 x2 : Int} {res : Int} (hf : m_nextSign M x1 x2 = some res) : Met l yX5_nextSign (ws_ yX5_nextSign cX5_nextSign 4 (some .int)) ({ frames := 0, cells := 0, slots := 0, locals := 0 }) (PM D cI cZ mo ad M [.int (zI x1), .int (zI x2)]) (QM D cI cZ mo ad M (some (.int (zI res)))) 0 0 (MA mo ad) := by
  refine Met.ofW (cc := cX5_nextSign) (maxL := 4) (ret := (some .int)) (by decide) rfl ?_
  intro p e s m args below meth c s₁ B hml hv
  obtain ⟨rfl, hRM, hK0⟩ := hv
  have hts := atoms_spec (ws := ws_ yX5_nextSign cX5_nextSign 4 (some .int)) B.pre
  have hts : ∀ w ∈ lw_all, w.before _ s = true := fun w h => hts w (List.mem_cons_of_mem _ h)
  have C : MC p s m _ meth c D cI cZ cX5_nextSign 4 (some .int) := ⟨B.exec, B.bytes, B.returns, B.notSynchronized, hml, findClass_of_methodNamed B.named, hts, hK0⟩
  have hZ : ZM D cI cZ mo ad s.heap M s.heap [] := ⟨hRM, rfl, fun _ _ => rfl, fun _ h => by cases h⟩
  have hl := lv_entry ([.ref mo, .int (zI x1), .int (zI x2)]) (n := 4) (Nat.le_of_ble_eq_true rfl)
  rw [lg_entry_eq]
  generalize (lg_sl ([.ref mo, .int (zI x1), .int (zI x2)]) ++ List.replicate (4 - (lg_sl ([.ref mo, .int (zI x1), .int (zI x2)])).length) Slot.unset).toArray = ls at hl ⊢
  have hl : lv_has ls 4 [(0, .ref mo), (1, .int (zI x1)), (2, .int (zI x2))] := hl
  exact w_nextSign C ⟨Nat.le_refl _, Nat.le_refl _⟩ hf hZ hl rfl

theorem w_blanks_2s {p : Program} {l : Launch} {e : Env} {R : Room} {s : State} {m : MethodId} {args : Array Value} {below : List Frame} {meth : Method} {c : Code} {Q : State → Prop} {D : va_G} {cI cZ : ClassId} {mo : Nat} {ad : Nat → Nat} {H : Heap} {locs : List Loc} {M : MS} (C : MC p s m args meth c D cI cZ cX5_blanks 4 (some .int)) (hR : 0 ≤ R.frames ∧ 0 ≤ R.locals) {x2 x3 : Int} {res : (Int) ⊕ (Int)} (hf : m_blanks_2s M x2 x3 = some res) (hZ : ZM D cI cZ mo ad s.heap M H locs) {ls : Array Slot} (hl : lv_has ls 4 [(0, .ref mo), (2, .int (zI x2)), (3, .int (zI x3))]) (hK : (Sum.elim (fun z => ∀ (H : Heap) (locs : List Loc) (ls : Array Slot), ZM D cI cZ mo ad s.heap M H locs → lv_has ls 4 [(0, .ref mo), (2, .int (zI x2)), (3, .int (zI z))] → W p l e R s m args below meth c H locs 0 0 Q (F0 m 2 ls [])) (fun r => KM below D cI cZ mo ad args s Q M (some (.int (zI r))))) res) : W p l e R s m args below meth c H locs 0 0 Q (F0 m 2 ls []) := by
  unfold m_blanks_2s at hf
  have hx := C.1
  have hb := C.2.1
  have hts := C.2.2.2.2.2.2.1
  refine lv_iload_n hx hb dX5_blanks_2 rfl (lv_at hl 2 rfl) ?_
  refine lv_iload_n hx hb dX5_blanks_3 rfl (lv_at hl 1 rfl) ?_
  refine zl_icmp_ge (tgt := 24) hx hb dX5_blanks_4 (by decide) (fun hc => ?_) (fun hc => ?_)
  · rw [if_pos hc] at hf
    refine lv_aload_n hx hb dX5_blanks_7 rfl (lv_at hl 0 rfl) ?_
    refine zm_geta C hZ 3 (by decide) (by decide) q1144 dX5_blanks_8 ?_
    refine lv_iload_n hx hb dX5_blanks_11 rfl (lv_at hl 2 rfl) ?_
    obtain ⟨hg, hf⟩ := gd_inv hf
    refine zm_iald C hZ 3 (by decide) rfl rfl hg dX5_blanks_12 ?_
    refine zl_bipush hx hb dX5_blanks_13 (by decide) ?_
    refine zl_icmp_ne (tgt := 24) hx hb dX5_blanks_15 (by decide) (fun hc => ?_) (fun hc => ?_)
    · rw [if_pos hc] at hf
      refine zl_iinc (x := x3) (n := 1) (lv' := [(3, .int (zI (x3 + 1))), (0, .ref mo), (2, .int (zI x2))]) (k := 2) hx hb dX5_blanks_18 hl rfl (by decide) rfl (fun ls hl => ?_)
      refine lv_goto (tgt := 2) hx hb dX5_blanks_21 (by decide) ?_
      obtain rfl := Option.some.inj hf
      exact hK _ _ _ hZ (lv_sub hl [1, 2, 0] rfl)
    · rw [if_neg hc] at hf
      refine lv_iload_n hx hb dX5_blanks_24 rfl (lv_at hl 2 rfl) ?_
      obtain rfl := Option.some.inj hf
      exact zm_iret C hZ hK dX5_blanks_25
  · rw [if_neg hc] at hf
    refine lv_iload_n hx hb dX5_blanks_24 rfl (lv_at hl 2 rfl) ?_
    obtain rfl := Option.some.inj hf
    exact zm_iret C hZ hK dX5_blanks_25

theorem w_blanks_2 {p : Program} {l : Launch} {e : Env} {R : Room} {s : State} {m : MethodId} {args : Array Value} {below : List Frame} {meth : Method} {c : Code} {Q : State → Prop} {D : va_G} {cI cZ : ClassId} {mo : Nat} {ad : Nat → Nat} {H : Heap} {locs : List Loc} {M : MS} (C : MC p s m args meth c D cI cZ cX5_blanks 4 (some .int)) (hR : 0 ≤ R.frames ∧ 0 ≤ R.locals) {x2 x3 : Int} {res : Int} (hf : m_blanks_2 M x2 x3 = some res) (hZ : ZM D cI cZ mo ad s.heap M H locs) {ls : Array Slot} (hl : lv_has ls 4 [(0, .ref mo), (2, .int (zI x2)), (3, .int (zI x3))]) (hK : KM below D cI cZ mo ad args s Q M (some (.int (zI res)))) : W p l e R s m args below meth c H locs 0 0 Q (F0 m 2 ls []) := by
  unfold m_blanks_2 at hf
  refine iter_ind (P := fun z r => ∀ (H : Heap) (locs : List Loc) (ls : Array Slot), ZM D cI cZ mo ad s.heap M H locs → lv_has ls 4 [(0, .ref mo), (2, .int (zI x2)), (3, .int (zI z))] → KM below D cI cZ mo ad args s Q M (some (.int (zI r))) → W p l e R s m args below meth c H locs 0 0 Q (F0 m 2 ls [])) ?_ ?_ hf H locs ls hZ hl hK
  · intro z r h1 H locs ls hZ hl hK; exact w_blanks_2s C hR h1 hZ hl hK
  · intro z z1 r h1 ih H locs ls hZ hl hK; exact w_blanks_2s C hR h1 hZ hl (fun H locs ls hZ hl => ih H locs ls hZ hl hK)

theorem w_blanks {p : Program} {l : Launch} {e : Env} {R : Room} {s : State} {m : MethodId} {args : Array Value} {below : List Frame} {meth : Method} {c : Code} {Q : State → Prop} {D : va_G} {cI cZ : ClassId} {mo : Nat} {ad : Nat → Nat} {H : Heap} {locs : List Loc} {M : MS} (C : MC p s m args meth c D cI cZ cX5_blanks 4 (some .int)) (hR : 0 ≤ R.frames ∧ 0 ≤ R.locals) {x1 x2 : Int} {res : Int} (hf : m_blanks M x1 x2 = some res) (hZ : ZM D cI cZ mo ad s.heap M H locs) {ls : Array Slot} (hl : lv_has ls 4 [(0, .ref mo), (1, .int (zI x1)), (2, .int (zI x2))]) (hK : KM below D cI cZ mo ad args s Q M (some (.int (zI res)))) : W p l e R s m args below meth c H locs 0 0 Q (F0 m 0 ls []) := by
  unfold m_blanks at hf
  have hx := C.1
  have hb := C.2.1
  have hts := C.2.2.2.2.2.2.1
  refine lv_iload_n hx hb dX5_blanks_0 rfl (lv_at hl 1 rfl) ?_
  refine lv_istore_n (lv' := [(3, .int (zI x1)), (0, .ref mo), (1, .int (zI x1)), (2, .int (zI x2))]) hx hb dX5_blanks_1 rfl hl (by decide) rfl (fun ls hl => ?_)
  exact w_blanks_2 C hR hf hZ (lv_sub hl [1, 3, 0] rfl) hK

theorem met_blanks (l : Launch) (D : va_G) (cI cZ : ClassId) (mo : Nat) (ad : Nat → Nat) {M : MS} {x1 x2 : Int} {res : Int} (hf : m_blanks M x1 x2 = some res) : Met l yX5_blanks (ws_ yX5_blanks cX5_blanks 4 (some .int)) ({ frames := 0, cells := 0, slots := 0, locals := 0 }) (PM D cI cZ mo ad M [.int (zI x1), .int (zI x2)]) (QM D cI cZ mo ad M (some (.int (zI res)))) 0 0 (MA mo ad) := by
  refine Met.ofW (cc := cX5_blanks) (maxL := 4) (ret := (some .int)) (by decide) rfl ?_
  intro p e s m args below meth c s₁ B hml hv
  obtain ⟨rfl, hRM, hK0⟩ := hv
  have hts := atoms_spec (ws := ws_ yX5_blanks cX5_blanks 4 (some .int)) B.pre
  have hts : ∀ w ∈ lw_all, w.before _ s = true := fun w h => hts w (List.mem_cons_of_mem _ h)
  have C : MC p s m _ meth c D cI cZ cX5_blanks 4 (some .int) := ⟨B.exec, B.bytes, B.returns, B.notSynchronized, hml, findClass_of_methodNamed B.named, hts, hK0⟩
  have hZ : ZM D cI cZ mo ad s.heap M s.heap [] := ⟨hRM, rfl, fun _ _ => rfl, fun _ h => by cases h⟩
  have hl := lv_entry ([.ref mo, .int (zI x1), .int (zI x2)]) (n := 4) (Nat.le_of_ble_eq_true rfl)
  rw [lg_entry_eq]
  generalize (lg_sl ([.ref mo, .int (zI x1), .int (zI x2)]) ++ List.replicate (4 - (lg_sl ([.ref mo, .int (zI x1), .int (zI x2)])).length) Slot.unset).toArray = ls at hl ⊢
  have hl : lv_has ls 4 [(0, .ref mo), (1, .int (zI x1)), (2, .int (zI x2))] := hl
  exact w_blanks C ⟨Nat.le_refl _, Nat.le_refl _⟩ hf hZ hl rfl

