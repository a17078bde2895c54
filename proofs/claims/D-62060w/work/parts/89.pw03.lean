set_option maxRecDepth 100000
theorem w_X0_adopt_168 {p : Program} {l : Launch} {e : Env} {R : Room} {s : State} {m : MethodId} {args : Array Value} {below : List Frame} {meth : Method} {c : Code} {Q : State → Prop} {E : PEw} {h0 h : HP} {H : Heap} {locs : List Loc} (C : PC E p s m args meth c RX0 cX0_adopt 10 (some .boolean) "adopt") (hr : 9 ≤ R.frames ∧ 224 ≤ R.locals ∧ RBw R h0) {x0 : Nat} {x2 : Nat} {x3 : Int} {x4 : Nat} {x5 : Int} {x6 : Int} {x7 : Int} {res : HP × Int} (hf : f_X0_adopt_168 h x0 x2 x3 x4 x5 x6 x7 = some res) (hz : ZP E s h0 h H locs) {ls : Array Slot} (hl : lv_has ls 10 [(0, .ref x0), (2, .ref x2), (3, .int (zI x3)), (4, .ref x4), (5, .int (zI x5)), (6, .int (zI x6)), (7, .int (zI x7))]) (hk : KP E below args s Q h0 res.1 (some (.int (zI res.2)))) : W p l e R s m args below meth c H locs (pX h - pX h0) (pS h - pS h0) Q (F0 m 168 ls []) := by
  unfold f_X0_adopt_168 at hf
  have hx := C.1
  have hb := C.2.1
  refine lv_iload hx hb dX0_adopt_168 (lv_at hl 6 rfl) ?_
  refine zl_if_eq (tgt := 175) hx hb dX0_adopt_170 (by decide) (fun hc => ?_) (fun hc => ?_)
  · rw [if_pos hc] at hf
    refine lv_aload_n hx hb dX0_adopt_175 rfl (lv_at hl 1 rfl) ?_
    refine lv_iload_n hx hb dX0_adopt_176 rfl (lv_at hl 2 rfl) ?_
    obtain ⟨y1, ey1, hf⟩ := bd_inv hf
    refine zj_lDel C hz hr ey1 (rest := []) q819 q820 (C.w q821) q94 q822 hl.1 ⟨Nat.le_trans (by decide) hr.1, Nat.le_trans (by decide) hr.2.1⟩ (Nat.le_of_ble_eq_true rfl) dX0_adopt_177 (fun H locs hz => ?_)
    refine lv_pop hx hb dX0_adopt_180 rfl ?_
    refine lv_iload hx hb dX0_adopt_181 (lv_at hl 5 rfl) ?_
    refine zl_if_ne (tgt := 195) hx hb dX0_adopt_183 (by decide) (fun hc => ?_) (fun hc => ?_)
    · rw [if_pos hc] at hf
      refine lv_aload_n hx hb dX0_adopt_186 rfl (lv_at hl 0 rfl) ?_
      refine lv_iload hx hb dX0_adopt_187 (lv_at hl 4 rfl) ?_
      obtain ⟨hg, hf⟩ := gd_inv hf
      obtain ⟨y2, ey2, hf⟩ := bd_inv hf
      refine zg_callV gP C hz hr (n := 1) (rest := []) (gkp (by decide) hg) (met_X0_closeTo l E ey2) q815 q817 (C.w qs21) q89 q818 (by decide +kernel) ⟨Nat.le_trans (by decide) hr.1, Nat.le_trans (by decide) hr.2.1⟩ rfl hl.1 rfl (Nat.le_of_ble_eq_true rfl) dX0_adopt_189 (fun H locs hz => ?_)
      refine lv_goto (tgt := 205) hx hb dX0_adopt_192 (by decide) ?_
      refine zl_iconst hx hb dX0_adopt_205 ?_
      obtain rfl := Option.some.inj hf
      exact zg_zret C hz zisB_1 hk dX0_adopt_206
    · rw [if_neg hc] at hf
      refine lv_aload_n hx hb dX0_adopt_195 rfl (lv_at hl 0 rfl) ?_
      refine lv_aload hx hb dX0_adopt_196 (lv_at hl 3 rfl) ?_
      refine lv_iload hx hb dX0_adopt_198 (lv_at hl 4 rfl) ?_
      refine lv_iload hx hb dX0_adopt_200 (lv_at hl 5 rfl) ?_
      obtain ⟨hg, hf⟩ := gd_inv hf
      obtain ⟨y3, ey3, hf⟩ := bd_inv hf
      refine zg_callV gP C hz hr (n := 3) (rest := []) (gkp (by decide) hg) (met_X0_move l E ey3) q840 q842 (C.w qs24) q89 q843 (by decide +kernel) ⟨Nat.le_trans (by decide) hr.1, Nat.le_trans (by decide) hr.2.1⟩ rfl hl.1 rfl (Nat.le_of_ble_eq_true rfl) dX0_adopt_202 (fun H locs hz => ?_)
      refine zl_iconst hx hb dX0_adopt_205 ?_
      obtain rfl := Option.some.inj hf
      exact zg_zret C hz zisB_1 hk dX0_adopt_206
  · rw [if_neg hc] at hf
    refine zl_iconst hx hb dX0_adopt_173 ?_
    obtain rfl := Option.some.inj hf
    exact zg_zret C hz zisB_1 hk dX0_adopt_174

theorem w_X0_adopt_160 {p : Program} {l : Launch} {e : Env} {R : Room} {s : State} {m : MethodId} {args : Array Value} {below : List Frame} {meth : Method} {c : Code} {Q : State → Prop} {E : PEw} {h0 h : HP} {H : Heap} {locs : List Loc} (C : PC E p s m args meth c RX0 cX0_adopt 10 (some .boolean) "adopt") (hr : 9 ≤ R.frames ∧ 224 ≤ R.locals ∧ RBw R h0) {x0 : Nat} {x2 : Nat} {x3 : Int} {x4 : Nat} {x5 : Int} {x6 : Int} {x8 : Int} {t0 : Int} {res : (Int × Int × Int × Int) ⊕ (HP × Int)} (hf : f_X0_adopt_160 h x0 x2 x3 x4 x5 x6 x8 t0 = some res) (hz : ZP E s h0 h H locs) {ls : Array Slot} (hl : lv_has ls 10 [(0, .ref x0), (2, .ref x2), (3, .int (zI x3)), (4, .ref x4), (5, .int (zI x5)), (6, .int (zI x6)), (8, .int (zI x8))]) (hk : (Sum.elim (fun z => ∀ (H : Heap) (locs : List Loc) (ls : Array Slot), ZP E s h0 h H locs → lv_has ls 10 [(0, .ref x0), (2, .ref x2), (3, .int (zI x3)), (4, .ref x4), (5, .int (zI z.1)), (6, .int (zI z.2.1)), (7, .int (zI z.2.2.1)), (8, .int (zI z.2.2.2))] → W p l e R s m args below meth c H locs (pX h - pX h0) (pS h - pS h0) Q (F0 m 65 ls [])) (fun r => KP E below args s Q h0 r.1 (some (.int (zI r.2))))) res) : W p l e R s m args below meth c H locs (pX h - pX h0) (pS h - pS h0) Q (F0 m 160 ls [.int (zI t0)]) := by
  unfold f_X0_adopt_160 at hf
  have hx := C.1
  have hb := C.2.1
  refine lv_istore (lv' := [(7, .int (zI t0)), (0, .ref x0), (2, .ref x2), (3, .int (zI x3)), (4, .ref x4), (5, .int (zI x5)), (6, .int (zI x6)), (8, .int (zI x8))]) hx hb dX0_adopt_160 hl (by decide) rfl (fun ls hl => ?_)
  refine zl_iinc (x := x8) (n := 1) (lv' := [(8, .int (zI (x8 + 1))), (7, .int (zI t0)), (0, .ref x0), (2, .ref x2), (3, .int (zI x3)), (4, .ref x4), (5, .int (zI x5)), (6, .int (zI x6))]) (k := 7) hx hb dX0_adopt_162 hl rfl (by decide) rfl (fun ls hl => ?_)
  refine lv_goto (tgt := 65) hx hb dX0_adopt_165 (by decide) ?_
  obtain rfl := Option.some.inj hf
  exact hk _ _ _ hz (lv_sub hl [2, 3, 4, 5, 6, 7, 1, 0] rfl)

theorem w_X0_adopt_159 {p : Program} {l : Launch} {e : Env} {R : Room} {s : State} {m : MethodId} {args : Array Value} {below : List Frame} {meth : Method} {c : Code} {Q : State → Prop} {E : PEw} {h0 h : HP} {H : Heap} {locs : List Loc} (C : PC E p s m args meth c RX0 cX0_adopt 10 (some .boolean) "adopt") (hr : 9 ≤ R.frames ∧ 224 ≤ R.locals ∧ RBw R h0) {x0 : Nat} {x2 : Nat} {x3 : Int} {x4 : Nat} {x5 : Int} {x6 : Int} {x8 : Int} {res : (Int × Int × Int × Int) ⊕ (HP × Int)} (hf : f_X0_adopt_159 h x0 x2 x3 x4 x5 x6 x8 = some res) (hz : ZP E s h0 h H locs) {ls : Array Slot} (hl : lv_has ls 10 [(0, .ref x0), (2, .ref x2), (3, .int (zI x3)), (4, .ref x4), (5, .int (zI x5)), (6, .int (zI x6)), (8, .int (zI x8))]) (hk : (Sum.elim (fun z => ∀ (H : Heap) (locs : List Loc) (ls : Array Slot), ZP E s h0 h H locs → lv_has ls 10 [(0, .ref x0), (2, .ref x2), (3, .int (zI x3)), (4, .ref x4), (5, .int (zI z.1)), (6, .int (zI z.2.1)), (7, .int (zI z.2.2.1)), (8, .int (zI z.2.2.2))] → W p l e R s m args below meth c H locs (pX h - pX h0) (pS h - pS h0) Q (F0 m 65 ls [])) (fun r => KP E below args s Q h0 r.1 (some (.int (zI r.2))))) res) : W p l e R s m args below meth c H locs (pX h - pX h0) (pS h - pS h0) Q (F0 m 159 ls []) := by
  unfold f_X0_adopt_159 at hf
  have hx := C.1
  have hb := C.2.1
  refine zl_iconst hx hb dX0_adopt_159 ?_
  exact w_X0_adopt_160 C hr hf hz (lv_sub hl [0, 1, 2, 3, 4, 5, 6] rfl) hk

theorem w_X0_adopt_155 {p : Program} {l : Launch} {e : Env} {R : Room} {s : State} {m : MethodId} {args : Array Value} {below : List Frame} {meth : Method} {c : Code} {Q : State → Prop} {E : PEw} {h0 h : HP} {H : Heap} {locs : List Loc} (C : PC E p s m args meth c RX0 cX0_adopt 10 (some .boolean) "adopt") (hr : 9 ≤ R.frames ∧ 224 ≤ R.locals ∧ RBw R h0) {x0 : Nat} {x2 : Nat} {x3 : Int} {x4 : Nat} {x5 : Int} {x6 : Int} {x8 : Int} {res : (Int × Int × Int × Int) ⊕ (HP × Int)} (hf : f_X0_adopt_155 h x0 x2 x3 x4 x5 x6 x8 = some res) (hz : ZP E s h0 h H locs) {ls : Array Slot} (hl : lv_has ls 10 [(0, .ref x0), (2, .ref x2), (3, .int (zI x3)), (4, .ref x4), (5, .int (zI x5)), (6, .int (zI x6)), (8, .int (zI x8))]) (hk : (Sum.elim (fun z => ∀ (H : Heap) (locs : List Loc) (ls : Array Slot), ZP E s h0 h H locs → lv_has ls 10 [(0, .ref x0), (2, .ref x2), (3, .int (zI x3)), (4, .ref x4), (5, .int (zI z.1)), (6, .int (zI z.2.1)), (7, .int (zI z.2.2.1)), (8, .int (zI z.2.2.2))] → W p l e R s m args below meth c H locs (pX h - pX h0) (pS h - pS h0) Q (F0 m 65 ls [])) (fun r => KP E below args s Q h0 r.1 (some (.int (zI r.2))))) res) : W p l e R s m args below meth c H locs (pX h - pX h0) (pS h - pS h0) Q (F0 m 155 ls []) := by
  unfold f_X0_adopt_155 at hf
  have hx := C.1
  have hb := C.2.1
  refine zl_iconst hx hb dX0_adopt_155 ?_
  refine lv_goto (tgt := 160) hx hb dX0_adopt_156 (by decide) ?_
  exact w_X0_adopt_160 C hr hf hz (lv_sub hl [0, 1, 2, 3, 4, 5, 6] rfl) hk

theorem w_X0_adopt_135 {p : Program} {l : Launch} {e : Env} {R : Room} {s : State} {m : MethodId} {args : Array Value} {below : List Frame} {meth : Method} {c : Code} {Q : State → Prop} {E : PEw} {h0 h : HP} {H : Heap} {locs : List Loc} (C : PC E p s m args meth c RX0 cX0_adopt 10 (some .boolean) "adopt") (hr : 9 ≤ R.frames ∧ 224 ≤ R.locals ∧ RBw R h0) {x0 : Nat} {x2 : Nat} {x3 : Int} {x4 : Nat} {x5 : Int} {x6 : Int} {x7 : Int} {x8 : Int} {x9 : Nat} {res : (Int × Int × Int × Int) ⊕ (HP × Int)} (hf : f_X0_adopt_135 h x0 x2 x3 x4 x5 x6 x7 x8 x9 = some res) (hz : ZP E s h0 h H locs) {ls : Array Slot} (hl : lv_has ls 10 [(0, .ref x0), (2, .ref x2), (3, .int (zI x3)), (4, .ref x4), (5, .int (zI x5)), (6, .int (zI x6)), (7, .int (zI x7)), (8, .int (zI x8)), (9, .ref x9)]) (hk : (Sum.elim (fun z => ∀ (H : Heap) (locs : List Loc) (ls : Array Slot), ZP E s h0 h H locs → lv_has ls 10 [(0, .ref x0), (2, .ref x2), (3, .int (zI x3)), (4, .ref x4), (5, .int (zI z.1)), (6, .int (zI z.2.1)), (7, .int (zI z.2.2.1)), (8, .int (zI z.2.2.2))] → W p l e R s m args below meth c H locs (pX h - pX h0) (pS h - pS h0) Q (F0 m 65 ls [])) (fun r => KP E below args s Q h0 r.1 (some (.int (zI r.2))))) res) : W p l e R s m args below meth c H locs (pX h - pX h0) (pS h - pS h0) Q (F0 m 135 ls []) := by
  unfold f_X0_adopt_135 at hf
  have hx := C.1
  have hb := C.2.1
  refine lv_iload hx hb dX0_adopt_135 (lv_at hl 6 rfl) ?_
  refine zl_if_ne (tgt := 155) hx hb dX0_adopt_137 (by decide) (fun hc => ?_) (fun hc => ?_)
  · rw [if_pos hc] at hf
    refine lv_iload hx hb dX0_adopt_140 (lv_at hl 4 rfl) ?_
    refine zl_if_le (tgt := 159) hx hb dX0_adopt_142 (by decide) (fun hc => ?_) (fun hc => ?_)
    · rw [if_pos hc] at hf
      refine lv_aload hx hb dX0_adopt_145 (lv_at hl 8 rfl) ?_
      refine zl_bipush hx hb dX0_adopt_147 (by decide) ?_
      obtain ⟨hg, hf⟩ := gd_inv hf
      obtain ⟨y1, ey1, hf⟩ := bd_inv hf
      refine zg_callV gP C hz hr (n := 1) (rest := []) (gkp (by decide) hg) (met_X2_is l E ey1) q567 q568 (C.w q569) q91 q570 (by decide +kernel) ⟨Nat.le_trans (by decide) hr.1, Nat.le_trans (by decide) hr.2.1⟩ rfl hl.1 rfl (Nat.le_of_ble_eq_true rfl) dX0_adopt_149 (fun H locs hz => ?_)
      refine zl_if_eq (tgt := 159) hx hb dX0_adopt_152 (by decide) (fun hc => ?_) (fun hc => ?_)
      · rw [if_pos hc] at hf
        exact w_X0_adopt_159 C hr hf hz (lv_sub hl [0, 1, 2, 3, 4, 5, 7] rfl) hk
      · rw [if_neg hc] at hf
        exact w_X0_adopt_155 C hr hf hz (lv_sub hl [0, 1, 2, 3, 4, 5, 7] rfl) hk
    · rw [if_neg hc] at hf
      exact w_X0_adopt_159 C hr hf hz (lv_sub hl [0, 1, 2, 3, 4, 5, 7] rfl) hk
  · rw [if_neg hc] at hf
    exact w_X0_adopt_155 C hr hf hz (lv_sub hl [0, 1, 2, 3, 4, 5, 7] rfl) hk

theorem w_X0_adopt_65s {p : Program} {l : Launch} {e : Env} {R : Room} {s : State} {m : MethodId} {args : Array Value} {below : List Frame} {meth : Method} {c : Code} {Q : State → Prop} {E : PEw} {h0 h : HP} {H : Heap} {locs : List Loc} (C : PC E p s m args meth c RX0 cX0_adopt 10 (some .boolean) "adopt") (hr : 9 ≤ R.frames ∧ 224 ≤ R.locals ∧ RBw R h0) {x0 : Nat} {x2 : Nat} {x3 : Int} {x4 : Nat} {x5 : Int} {x6 : Int} {x7 : Int} {x8 : Int} {res : (Int × Int × Int × Int) ⊕ (HP × Int)} (hf : f_X0_adopt_65s h x0 x2 x3 x4 x5 x6 x7 x8 = some res) (hz : ZP E s h0 h H locs) {ls : Array Slot} (hl : lv_has ls 10 [(0, .ref x0), (2, .ref x2), (3, .int (zI x3)), (4, .ref x4), (5, .int (zI x5)), (6, .int (zI x6)), (7, .int (zI x7)), (8, .int (zI x8))]) (hk : (Sum.elim (fun z => ∀ (H : Heap) (locs : List Loc) (ls : Array Slot), ZP E s h0 h H locs → lv_has ls 10 [(0, .ref x0), (2, .ref x2), (3, .int (zI x3)), (4, .ref x4), (5, .int (zI z.1)), (6, .int (zI z.2.1)), (7, .int (zI z.2.2.1)), (8, .int (zI z.2.2.2))] → W p l e R s m args below meth c H locs (pX h - pX h0) (pS h - pS h0) Q (F0 m 65 ls [])) (fun r => KP E below args s Q h0 r.1 (some (.int (zI r.2))))) res) : W p l e R s m args below meth c H locs (pX h - pX h0) (pS h - pS h0) Q (F0 m 65 ls []) := by
  unfold f_X0_adopt_65s at hf
  have hx := C.1
  have hb := C.2.1
  refine lv_iload hx hb dX0_adopt_65 (lv_at hl 7 rfl) ?_
  refine lv_aload_n hx hb dX0_adopt_67 rfl (lv_at hl 0 rfl) ?_
  obtain ⟨hg, hf⟩ := gd_inv hf
  refine zg_getp gP C hz 1 5 (gkp (by decide) hg) (by decide) (by decide) (Or.inl (C.w q405)) (fun _ h => h) dX0_adopt_68 ?_
  obtain ⟨a1, ea1, hf⟩ := bd_inv hf
  rw [zx_rf ea1]
  obtain ⟨y2, ey2, hf⟩ := bd_inv hf
  refine zj_lLen C hz hr ey2 (rest := [.int (zI x8)]) q549 q550 (C.w q551) q94 q552 hl.1 ⟨Nat.le_trans (by decide) hr.1, Nat.le_trans (by decide) hr.2.1⟩ (Nat.le_of_ble_eq_true rfl) dX0_adopt_71 (fun H locs hz => ?_)
  refine zl_icmp_ge (tgt := 168) hx hb dX0_adopt_74 (by decide) (fun hc => ?_) (fun hc => ?_)
  · rw [if_pos hc] at hf
    refine lv_aload hx hb dX0_adopt_77 (lv_at hl 3 rfl) ?_
    obtain ⟨hg, hf⟩ := gd_inv hf
    refine zg_geti gP C hz 2 6 (gkp (by decide) hg) (by decide) (by decide) (Or.inr ⟨_, C.nw q170⟩) (fun _ h => h) dX0_adopt_79 ?_
    refine zl_if_eq (tgt := 168) hx hb dX0_adopt_82 (by decide) (fun hc => ?_) (fun hc => ?_)
    · rw [if_pos hc] at hf
      obtain ⟨r0, hm0, rfl⟩ := mr_inv hf
      exact w_X0_adopt_168 C hr hm0 hz (lv_sub hl [0, 1, 2, 3, 4, 5, 6] rfl) hk
    · rw [if_neg hc] at hf
      refine lv_aload_n hx hb dX0_adopt_85 rfl (lv_at hl 0 rfl) ?_
      obtain ⟨hg, hf⟩ := gd_inv hf
      refine zg_getp gP C hz 1 5 (gkp (by decide) hg) (by decide) (by decide) (Or.inl (C.w q405)) (fun _ h => h) dX0_adopt_86 ?_
      refine lv_iload hx hb dX0_adopt_89 (lv_at hl 7 rfl) ?_
      obtain ⟨a3, ea3, hf⟩ := bd_inv hf
      rw [zx_rf ea3]
      obtain ⟨y4, ey4, hf⟩ := bd_inv hf
      refine zj_lGet C hz hr ey4 (rest := []) q553 q554 (C.w q555) q94 q556 hl.1 ⟨Nat.le_trans (by decide) hr.1, Nat.le_trans (by decide) hr.2.1⟩ (Nat.le_of_ble_eq_true rfl) dX0_adopt_91 (fun H locs hz => ?_)
      obtain ⟨hg, hf⟩ := gd_inv hf
      refine zg_cast2 gP C hz hg q124 dX0_adopt_94 ?_
      refine lv_astore (lv' := [(9, .ref y4), (0, .ref x0), (2, .ref x2), (3, .int (zI x3)), (4, .ref x4), (5, .int (zI x5)), (6, .int (zI x6)), (7, .int (zI x7)), (8, .int (zI x8))]) hx hb dX0_adopt_97 hl (by decide) rfl (fun ls hl => ?_)
      refine lv_aload hx hb dX0_adopt_99 (lv_at hl 0 rfl) ?_
      refine lv_aload hx hb dX0_adopt_101 (lv_at hl 4 rfl) ?_
      refine zl_acmp_ne (rx := some y4) (ry := some x4) hx hb (tgt := 113) dX0_adopt_103 (by decide) (fun hc => ?_) (fun hc => ?_)
      · rw [if_pos hc] at hf
        refine lv_iload hx hb dX0_adopt_106 (lv_at hl 8 rfl) ?_
        refine lv_istore (lv' := [(5, .int (zI x8)), (9, .ref y4), (0, .ref x0), (2, .ref x2), (3, .int (zI x3)), (4, .ref x4), (6, .int (zI x6)), (7, .int (zI x7)), (8, .int (zI x8))]) hx hb dX0_adopt_108 hl (by decide) rfl (fun ls hl => ?_)
        refine lv_goto (tgt := 135) hx hb dX0_adopt_110 (by decide) ?_
        exact w_X0_adopt_135 C hr hf hz (lv_sub hl [2, 3, 4, 5, 0, 6, 7, 8, 1] rfl) hk
      · rw [if_neg hc] at hf
        refine lv_iload hx hb dX0_adopt_113 (lv_at hl 5 rfl) ?_
        refine zl_if_le (tgt := 135) hx hb dX0_adopt_115 (by decide) (fun hc => ?_) (fun hc => ?_)
        · rw [if_pos hc] at hf
          refine lv_iload hx hb dX0_adopt_118 (lv_at hl 6 rfl) ?_
          refine zl_if_ne (tgt := 135) hx hb dX0_adopt_120 (by decide) (fun hc => ?_) (fun hc => ?_)
          · rw [if_pos hc] at hf
            refine lv_aload hx hb dX0_adopt_123 (lv_at hl 0 rfl) ?_
            obtain ⟨hg, hf⟩ := gd_inv hf
            obtain ⟨y5, ey5, hf⟩ := bd_inv hf
            refine zg_callV gP C hz hr (n := 0) (rest := []) (gkp (by decide) hg) (met_X2_block l E ey5) q834 q835 (C.w q836) q91 q837 (by decide +kernel) ⟨Nat.le_trans (by decide) hr.1, Nat.le_trans (by decide) hr.2.1⟩ rfl hl.1 rfl (Nat.le_of_ble_eq_true rfl) dX0_adopt_125 (fun H locs hz => ?_)
            refine zl_if_eq (tgt := 135) hx hb dX0_adopt_128 (by decide) (fun hc => ?_) (fun hc => ?_)
            · rw [if_pos hc] at hf
              exact w_X0_adopt_135 C hr hf hz (lv_sub hl [1, 2, 3, 4, 5, 6, 7, 8, 0] rfl) hk
            · rw [if_neg hc] at hf
              refine lv_iload hx hb dX0_adopt_131 (lv_at hl 8 rfl) ?_
              refine lv_istore (lv' := [(6, .int (zI x8)), (9, .ref y4), (0, .ref x0), (2, .ref x2), (3, .int (zI x3)), (4, .ref x4), (5, .int (zI x5)), (7, .int (zI x7)), (8, .int (zI x8))]) hx hb dX0_adopt_133 hl (by decide) rfl (fun ls hl => ?_)
              exact w_X0_adopt_135 C hr hf hz (lv_sub hl [2, 3, 4, 5, 6, 0, 7, 8, 1] rfl) hk
          · rw [if_neg hc] at hf
            exact w_X0_adopt_135 C hr hf hz (lv_sub hl [1, 2, 3, 4, 5, 6, 7, 8, 0] rfl) hk
        · rw [if_neg hc] at hf
          exact w_X0_adopt_135 C hr hf hz (lv_sub hl [1, 2, 3, 4, 5, 6, 7, 8, 0] rfl) hk
  · rw [if_neg hc] at hf
    obtain ⟨r0, hm0, rfl⟩ := mr_inv hf
    exact w_X0_adopt_168 C hr hm0 hz (lv_sub hl [0, 1, 2, 3, 4, 5, 6] rfl) hk

theorem w_X0_adopt_65 {p : Program} {l : Launch} {e : Env} {R : Room} {s : State} {m : MethodId} {args : Array Value} {below : List Frame} {meth : Method} {c : Code} {Q : State → Prop} {E : PEw} {h0 h : HP} {H : Heap} {locs : List Loc} (C : PC E p s m args meth c RX0 cX0_adopt 10 (some .boolean) "adopt") (hr : 9 ≤ R.frames ∧ 224 ≤ R.locals ∧ RBw R h0) {x0 : Nat} {x2 : Nat} {x3 : Int} {x4 : Nat} {x5 : Int} {x6 : Int} {x7 : Int} {x8 : Int} {res : HP × Int} (hf : f_X0_adopt_65 h x0 x2 x3 x4 x5 x6 x7 x8 = some res) (hz : ZP E s h0 h H locs) {ls : Array Slot} (hl : lv_has ls 10 [(0, .ref x0), (2, .ref x2), (3, .int (zI x3)), (4, .ref x4), (5, .int (zI x5)), (6, .int (zI x6)), (7, .int (zI x7)), (8, .int (zI x8))]) (hk : KP E below args s Q h0 res.1 (some (.int (zI res.2)))) : W p l e R s m args below meth c H locs (pX h - pX h0) (pS h - pS h0) Q (F0 m 65 ls []) := by
  unfold f_X0_adopt_65 at hf
  refine iter_ind (P := fun z r => ∀ (H : Heap) (locs : List Loc) (ls : Array Slot), ZP E s h0 h H locs → lv_has ls 10 [(0, .ref x0), (2, .ref x2), (3, .int (zI x3)), (4, .ref x4), (5, .int (zI z.1)), (6, .int (zI z.2.1)), (7, .int (zI z.2.2.1)), (8, .int (zI z.2.2.2))] → KP E below args s Q h0 r.1 (some (.int (zI r.2))) → W p l e R s m args below meth c H locs (pX h - pX h0) (pS h - pS h0) Q (F0 m 65 ls [])) ?_ ?_ hf H locs ls hz hl hk
  · intro z r h1 H locs ls hz hl hk; exact w_X0_adopt_65s C hr h1 hz hl hk
  · intro z z1 r h1 ih H locs ls hz hl hk; exact w_X0_adopt_65s C hr h1 hz hl (fun H locs ls hz hl => ih H locs ls hz hl hk)

theorem w_X0_adopt_37 {p : Program} {l : Launch} {e : Env} {R : Room} {s : State} {m : MethodId} {args : Array Value} {below : List Frame} {meth : Method} {c : Code} {Q : State → Prop} {E : PEw} {h0 h : HP} {H : Heap} {locs : List Loc} (C : PC E p s m args meth c RX0 cX0_adopt 10 (some .boolean) "adopt") (hr : 9 ≤ R.frames ∧ 224 ≤ R.locals ∧ RBw R h0) {x0 : Nat} {x2 : Nat} {x3 : Int} {res : HP × Int} (hf : f_X0_adopt_37 h x0 x2 x3 = some res) (hz : ZP E s h0 h H locs) {ls : Array Slot} (hl : lv_has ls 10 [(0, .ref x0), (2, .ref x2), (3, .int (zI x3))]) (hk : KP E below args s Q h0 res.1 (some (.int (zI res.2)))) : W p l e R s m args below meth c H locs (pX h - pX h0) (pS h - pS h0) Q (F0 m 37 ls []) := by
  unfold f_X0_adopt_37 at hf
  have hx := C.1
  have hb := C.2.1
  refine lv_iload_n hx hb dX0_adopt_37 rfl (lv_at hl 2 rfl) ?_
  refine zl_if_ge (tgt := 43) hx hb dX0_adopt_38 (by decide) (fun hc => ?_) (fun hc => ?_)
  · rw [if_pos hc] at hf
    refine zl_iconst hx hb dX0_adopt_41 ?_
    obtain rfl := Option.some.inj hf
    exact zg_zret C hz zisB_0 hk dX0_adopt_42
  · rw [if_neg hc] at hf
    refine lv_aload_n hx hb dX0_adopt_43 rfl (lv_at hl 1 rfl) ?_
    refine lv_iload_n hx hb dX0_adopt_44 rfl (lv_at hl 2 rfl) ?_
    obtain ⟨y1, ey1, hf⟩ := bd_inv hf
    refine zj_lGet C hz hr ey1 (rest := []) q553 q554 (C.w q555) q94 q556 hl.1 ⟨Nat.le_trans (by decide) hr.1, Nat.le_trans (by decide) hr.2.1⟩ (Nat.le_of_ble_eq_true rfl) dX0_adopt_45 (fun H locs hz => ?_)
    obtain ⟨hg, hf⟩ := gd_inv hf
    refine zg_cast2 gP C hz hg q124 dX0_adopt_48 ?_
    refine lv_astore (lv' := [(4, .ref y1), (0, .ref x0), (2, .ref x2), (3, .int (zI x3))]) hx hb dX0_adopt_51 hl (by decide) rfl (fun ls hl => ?_)
    refine zl_iconst hx hb dX0_adopt_53 ?_
    refine lv_istore (lv' := [(5, .int (zI 0)), (4, .ref y1), (0, .ref x0), (2, .ref x2), (3, .int (zI x3))]) hx hb dX0_adopt_54 hl (by decide) rfl (fun ls hl => ?_)
    refine zl_iconst hx hb dX0_adopt_56 ?_
    refine lv_istore (lv' := [(6, .int (zI 0)), (5, .int (zI 0)), (4, .ref y1), (0, .ref x0), (2, .ref x2), (3, .int (zI x3))]) hx hb dX0_adopt_57 hl (by decide) rfl (fun ls hl => ?_)
    refine zl_iconst hx hb dX0_adopt_59 ?_
    refine lv_istore (lv' := [(7, .int (zI 0)), (6, .int (zI 0)), (5, .int (zI 0)), (4, .ref y1), (0, .ref x0), (2, .ref x2), (3, .int (zI x3))]) hx hb dX0_adopt_60 hl (by decide) rfl (fun ls hl => ?_)
    refine zl_iconst hx hb dX0_adopt_62 ?_
    refine lv_istore (lv' := [(8, .int (zI 1)), (7, .int (zI 0)), (6, .int (zI 0)), (5, .int (zI 0)), (4, .ref y1), (0, .ref x0), (2, .ref x2), (3, .int (zI x3))]) hx hb dX0_adopt_63 hl (by decide) rfl (fun ls hl => ?_)
    exact w_X0_adopt_65 C hr hf hz (lv_sub hl [5, 6, 7, 4, 3, 2, 1, 0] rfl) hk

theorem w_X0_adopt_12s {p : Program} {l : Launch} {e : Env} {R : Room} {s : State} {m : MethodId} {args : Array Value} {below : List Frame} {meth : Method} {c : Code} {Q : State → Prop} {E : PEw} {h0 h : HP} {H : Heap} {locs : List Loc} (C : PC E p s m args meth c RX0 cX0_adopt 10 (some .boolean) "adopt") (hr : 9 ≤ R.frames ∧ 224 ≤ R.locals ∧ RBw R h0) {x0 : Nat} {x1 : Int} {x2 : Nat} {x3 : Int} {res : (Int) ⊕ (HP × Int)} (hf : f_X0_adopt_12s h x0 x1 x2 x3 = some res) (hz : ZP E s h0 h H locs) {ls : Array Slot} (hl : lv_has ls 10 [(0, .ref x0), (1, .int (zI x1)), (2, .ref x2), (3, .int (zI x3))]) (hk : (Sum.elim (fun z => ∀ (H : Heap) (locs : List Loc) (ls : Array Slot), ZP E s h0 h H locs → lv_has ls 10 [(0, .ref x0), (1, .int (zI x1)), (2, .ref x2), (3, .int (zI z))] → W p l e R s m args below meth c H locs (pX h - pX h0) (pS h - pS h0) Q (F0 m 12 ls [])) (fun r => KP E below args s Q h0 r.1 (some (.int (zI r.2))))) res) : W p l e R s m args below meth c H locs (pX h - pX h0) (pS h - pS h0) Q (F0 m 12 ls []) := by
  unfold f_X0_adopt_12s at hf
  have hx := C.1
  have hb := C.2.1
  refine lv_iload_n hx hb dX0_adopt_12 rfl (lv_at hl 3 rfl) ?_
  refine zl_if_lt (tgt := 37) hx hb dX0_adopt_13 (by decide) (fun hc => ?_) (fun hc => ?_)
  · rw [if_pos hc] at hf
    obtain ⟨r0, hm0, rfl⟩ := mr_inv hf
    exact w_X0_adopt_37 C hr hm0 hz (lv_sub hl [0, 2, 3] rfl) hk
  · rw [if_neg hc] at hf
    refine lv_aload_n hx hb dX0_adopt_16 rfl (lv_at hl 2 rfl) ?_
    refine lv_iload_n hx hb dX0_adopt_17 rfl (lv_at hl 3 rfl) ?_
    obtain ⟨y1, ey1, hf⟩ := bd_inv hf
    refine zj_lGet C hz hr ey1 (rest := []) q553 q554 (C.w q555) q94 q556 hl.1 ⟨Nat.le_trans (by decide) hr.1, Nat.le_trans (by decide) hr.2.1⟩ (Nat.le_of_ble_eq_true rfl) dX0_adopt_18 (fun H locs hz => ?_)
    obtain ⟨hg, hf⟩ := gd_inv hf
    refine zg_cast2 gP C hz hg q124 dX0_adopt_21 ?_
    refine lv_iload_n hx hb dX0_adopt_24 rfl (lv_at hl 1 rfl) ?_
    obtain ⟨hg, hf⟩ := gd_inv hf
    obtain ⟨y2, ey2, hf⟩ := bd_inv hf
    refine zg_callV gP C hz hr (n := 1) (rest := []) (gkp (by decide) hg) (met_X2_is l E ey2) q567 q568 (C.w q569) q91 q570 (by decide +kernel) ⟨Nat.le_trans (by decide) hr.1, Nat.le_trans (by decide) hr.2.1⟩ rfl hl.1 rfl (Nat.le_of_ble_eq_true rfl) dX0_adopt_25 (fun H locs hz => ?_)
    refine zl_if_ne (tgt := 37) hx hb dX0_adopt_28 (by decide) (fun hc => ?_) (fun hc => ?_)
    · rw [if_pos hc] at hf
      refine zl_iinc (x := x3) (n := (-1)) (lv' := [(3, .int (zI (x3 + (-1)))), (0, .ref x0), (1, .int (zI x1)), (2, .ref x2)]) (k := 3) hx hb dX0_adopt_31 hl rfl (by decide) rfl (fun ls hl => ?_)
      refine lv_goto (tgt := 12) hx hb dX0_adopt_34 (by decide) ?_
      obtain rfl := Option.some.inj hf
      exact hk _ _ _ hz (lv_sub hl [1, 2, 3, 0] rfl)
    · rw [if_neg hc] at hf
      obtain ⟨r0, hm0, rfl⟩ := mr_inv hf
      exact w_X0_adopt_37 C hr hm0 hz (lv_sub hl [0, 2, 3] rfl) hk

theorem w_X0_adopt_12 {p : Program} {l : Launch} {e : Env} {R : Room} {s : State} {m : MethodId} {args : Array Value} {below : List Frame} {meth : Method} {c : Code} {Q : State → Prop} {E : PEw} {h0 h : HP} {H : Heap} {locs : List Loc} (C : PC E p s m args meth c RX0 cX0_adopt 10 (some .boolean) "adopt") (hr : 9 ≤ R.frames ∧ 224 ≤ R.locals ∧ RBw R h0) {x0 : Nat} {x1 : Int} {x2 : Nat} {x3 : Int} {res : HP × Int} (hf : f_X0_adopt_12 h x0 x1 x2 x3 = some res) (hz : ZP E s h0 h H locs) {ls : Array Slot} (hl : lv_has ls 10 [(0, .ref x0), (1, .int (zI x1)), (2, .ref x2), (3, .int (zI x3))]) (hk : KP E below args s Q h0 res.1 (some (.int (zI res.2)))) : W p l e R s m args below meth c H locs (pX h - pX h0) (pS h - pS h0) Q (F0 m 12 ls []) := by
  unfold f_X0_adopt_12 at hf
  refine iter_ind (P := fun z r => ∀ (H : Heap) (locs : List Loc) (ls : Array Slot), ZP E s h0 h H locs → lv_has ls 10 [(0, .ref x0), (1, .int (zI x1)), (2, .ref x2), (3, .int (zI z))] → KP E below args s Q h0 r.1 (some (.int (zI r.2))) → W p l e R s m args below meth c H locs (pX h - pX h0) (pS h - pS h0) Q (F0 m 12 ls [])) ?_ ?_ hf H locs ls hz hl hk
  · intro z r h1 H locs ls hz hl hk; exact w_X0_adopt_12s C hr h1 hz hl hk
  · intro z z1 r h1 ih H locs ls hz hl hk; exact w_X0_adopt_12s C hr h1 hz hl (fun H locs ls hz hl => ih H locs ls hz hl hk)

theorem w_X0_adopt {p : Program} {l : Launch} {e : Env} {R : Room} {s : State} {m : MethodId} {args : Array Value} {below : List Frame} {meth : Method} {c : Code} {Q : State → Prop} {E : PEw} {h0 h : HP} {H : Heap} {locs : List Loc} (C : PC E p s m args meth c RX0 cX0_adopt 10 (some .boolean) "adopt") (hr : 9 ≤ R.frames ∧ 224 ≤ R.locals ∧ RBw R h0) {x0 : Nat} {x1 : Int} {res : HP × Int} (hf : f_X0_adopt h x0 x1 = some res) (hz : ZP E s h0 h H locs) {ls : Array Slot} (hl : lv_has ls 10 [(0, .ref x0), (1, .int (zI x1))]) (hk : KP E below args s Q h0 res.1 (some (.int (zI res.2)))) : W p l e R s m args below meth c H locs (pX h - pX h0) (pS h - pS h0) Q (F0 m 0 ls []) := by
  unfold f_X0_adopt at hf
  have hx := C.1
  have hb := C.2.1
  refine lv_aload_n hx hb dX0_adopt_0 rfl (lv_at hl 0 rfl) ?_
  obtain ⟨hg, hf⟩ := gd_inv hf
  obtain ⟨y1, ey1, hf⟩ := bd_inv hf
  refine zg_callV gP C hz hr (n := 0) (rest := []) (gkp (by decide) hg) (met_X0_list l E ey1) q575 q577 (C.w qs11) q89 q578 (by decide +kernel) ⟨Nat.le_trans (by decide) hr.1, Nat.le_trans (by decide) hr.2.1⟩ rfl hl.1 rfl (Nat.le_of_ble_eq_true rfl) dX0_adopt_1 (fun H locs hz => ?_)
  refine zl_astore_n_o (lv' := [(2, va_rf y1), (0, .ref x0), (1, .int (zI x1))]) hx hb dX0_adopt_4 rfl hl (by decide) rfl (fun ls hl => ?_)
  refine zl_aload_n_o hx hb dX0_adopt_5 rfl (lv_at hl 0 rfl) ?_
  obtain ⟨a2, ea2, hf⟩ := bd_inv hf
  rw [zx_rf ea2] at hl ⊢
  obtain ⟨y3, ey3, hf⟩ := bd_inv hf
  refine zj_lLen C hz hr ey3 (rest := []) q549 q550 (C.w q551) q94 q552 hl.1 ⟨Nat.le_trans (by decide) hr.1, Nat.le_trans (by decide) hr.2.1⟩ (Nat.le_of_ble_eq_true rfl) dX0_adopt_6 (fun H locs hz => ?_)
  refine zl_iconst hx hb dX0_adopt_9 ?_
  refine zl_isub hx hb dX0_adopt_10 ?_
  obtain ⟨y4, ey4, hf⟩ := bnd_inv hf
  refine zl_topi ey4 ?_
  refine lv_istore_n (lv' := [(3, .int (zI y4)), (2, .ref a2), (0, .ref x0), (1, .int (zI x1))]) hx hb dX0_adopt_11 rfl hl (by decide) rfl (fun ls hl => ?_)
  exact w_X0_adopt_12 C hr hf hz (lv_sub hl [2, 3, 1, 0] rfl) hk

theorem met_X0_adopt (l : Launch) (E : PEw) {h : HP} {x0 : Nat} {x1 : Int} {res : HP × Int} (hf : f_X0_adopt h x0 x1 = some res) : Met l yX0_adopt (ws_ yX0_adopt cX0_adopt 10 (some .boolean)) (rmP h 9 224) (PP E h [.ref x0, .int (zI x1)]) (QP E h res.1 (some (.int (zI res.2)))) (pX res.1 - pX h) (pS res.1 - pS h) (eF E) := by
  refine Met.ofW (cc := cX0_adopt) (maxL := 10) (ret := (some .boolean)) (by decide) rfl ?_
  intro p e s m args below meth c s₁ B hml hv
  obtain ⟨rfl, hP0⟩ := hv
  have hts := atoms_spec (ws := ws_ yX0_adopt cX0_adopt 10 (some .boolean)) B.pre
  have hts : ∀ w ∈ lw_all, w.before _ s = true := fun w h => hts w (List.mem_cons_of_mem _ h)
  have C : PC E p s m _ meth c RX0 cX0_adopt 10 (some .boolean) "adopt" := ⟨B.exec, B.bytes, B.returns, B.notSynchronized, hml, findClass_of_methodNamed B.named, hts, hP0.2, (name_of_methodNamed B.named B.method).1⟩
  have hz : ZP E s h h s.heap [] := ZG.start hP0.1
  have hl := lv_entry ([.ref x0, .int (zI x1)]) (n := 10) (Nat.le_of_ble_eq_true rfl)
  rw [lg_entry_eq]
  generalize (lg_sl ([.ref x0, .int (zI x1)]) ++ List.replicate (10 - (lg_sl ([.ref x0, .int (zI x1)])).length) Slot.unset).toArray = ls at hl ⊢
  have hl : lv_has ls 10 [(0, .ref x0), (1, .int (zI x1))] := hl
  refine W.cs (cells' := pX h - pX h) (slots' := pS h - pS h) (Nat.sub_self _).symm (Nat.sub_self _).symm ?_
  exact w_X0_adopt C ⟨Nat.le_refl _, Nat.le_refl _, RBw.rm⟩ hf hz hl rfl

theorem w_X0_end_122 {p : Program} {l : Launch} {e : Env} {R : Room} {s : State} {m : MethodId} {args : Array Value} {below : List Frame} {meth : Method} {c : Code} {Q : State → Prop} {E : PEw} {h0 h : HP} {H : Heap} {locs : List Loc} (C : PC E p s m args meth c RX0 cX0_end 4 none "end") (hr : 10 ≤ R.frames ∧ 253 ≤ R.locals ∧ RBw R h0) {x0 : Nat} {t0 : Option Nat} {res : HP} (hf : f_X0_end_122 h x0 t0 = some res) (hz : ZP E s h0 h H locs) {ls : Array Slot} (hl : lv_has ls 4 [(0, .ref x0)]) (hk : KP E below args s Q h0 res none) : W p l e R s m args below meth c H locs (pX h - pX h0) (pS h - pS h0) Q (F0 m 122 ls [va_rf t0]) := by
  unfold f_X0_end_122 at hf
  have hx := C.1
  have hb := C.2.1
  refine zl_astore_n_o (lv' := [(3, va_rf t0), (0, .ref x0)]) hx hb dX0_end_122 rfl hl (by decide) rfl (fun ls hl => ?_)
  refine zl_aload_n_o hx hb dX0_end_123 rfl (lv_at hl 0 rfl) ?_
  rcases nl_inv hf with ⟨ho, hf⟩ | ⟨a1, ho, hf⟩
  · rw [zx_nul ho]
    refine lv_ifnullN (tgt := 246) hx hb dX0_end_124 (by decide) ?_
    obtain rfl := Option.some.inj hf
    exact zg_vret C hz hk dX0_end_246
  · rw [zx_rf ho] at hl ⊢
    refine lv_ifnull hx hb dX0_end_124 ?_
    refine lv_aload_n hx hb dX0_end_127 rfl (lv_at hl 1 rfl) ?_
    refine lv_aload_n hx hb dX0_end_128 rfl (lv_at hl 0 rfl) ?_
    obtain ⟨hg, hf⟩ := gd_inv hf
    obtain ⟨y2, ey2, hf⟩ := bd_inv hf
    refine zg_callV gP C hz hr (n := 1) (rest := []) (gkp (by decide) hg) (met_X0_insert l E ey2) q673 q675 (C.w qs15) q89 q676 (by decide +kernel) ⟨Nat.le_trans (by decide) hr.1, Nat.le_trans (by decide) hr.2.1⟩ rfl hl.1 rfl (Nat.le_of_ble_eq_true rfl) dX0_end_129 (fun H locs hz => ?_)
    refine lv_goto (tgt := 246) hx hb dX0_end_132 (by decide) ?_
    obtain rfl := Option.some.inj hf
    exact zg_vret C hz hk dX0_end_246

theorem w_X0_end_234 {p : Program} {l : Launch} {e : Env} {R : Room} {s : State} {m : MethodId} {args : Array Value} {below : List Frame} {meth : Method} {c : Code} {Q : State → Prop} {E : PEw} {h0 h : HP} {H : Heap} {locs : List Loc} (C : PC E p s m args meth c RX0 cX0_end 4 none "end") (hr : 10 ≤ R.frames ∧ 253 ≤ R.locals ∧ RBw R h0) {x0 : Nat} {x1 : Int} {res : HP} (hf : f_X0_end_234 h x0 x1 = some res) (hz : ZP E s h0 h H locs) {ls : Array Slot} (hl : lv_has ls 4 [(0, .ref x0), (1, .int (zI x1))]) (hk : KP E below args s Q h0 res none) : W p l e R s m args below meth c H locs (pX h - pX h0) (pS h - pS h0) Q (F0 m 234 ls []) := by
  unfold f_X0_end_234 at hf
  have hx := C.1
  have hb := C.2.1
  refine lv_aload_n hx hb dX0_end_234 rfl (lv_at hl 0 rfl) ?_
  refine lv_aload_n hx hb dX0_end_235 rfl (lv_at hl 0 rfl) ?_
  refine lv_iload_n hx hb dX0_end_236 rfl (lv_at hl 1 rfl) ?_
  refine zc_strW C 5 (by decide) rfl rfl dX0_end_237 ?_
  obtain ⟨hg, hf⟩ := gd_inv hf
  obtain ⟨y1, ey1, hf⟩ := bd_inv hf
  refine zg_callV gP C hz hr (n := 2) (rest := [.ref x0]) (gkp (by decide) hg) (met_X0_reach l E ey1) q580 q582 (C.w qs12) q89 q583 (by decide +kernel) ⟨Nat.le_trans (by decide) hr.1, Nat.le_trans (by decide) hr.2.1⟩ rfl hl.1 rfl (Nat.le_of_ble_eq_true rfl) dX0_end_240 (fun H locs hz => ?_)
  obtain ⟨hg, hf⟩ := gd_inv hf
  obtain ⟨y2, ey2, hf⟩ := bd_inv hf
  refine zg_callV gP C hz hr (n := 1) (rest := []) (gkp (by decide) hg) (met_X0_closeTo l E ey2) q815 q817 (C.w qs21) q89 q818 (by decide +kernel) ⟨Nat.le_trans (by decide) hr.1, Nat.le_trans (by decide) hr.2.1⟩ rfl hl.1 rfl (Nat.le_of_ble_eq_true rfl) dX0_end_243 (fun H locs hz => ?_)
  obtain rfl := Option.some.inj hf
  exact zg_vret C hz hk dX0_end_246

theorem w_X0_end {p : Program} {l : Launch} {e : Env} {R : Room} {s : State} {m : MethodId} {args : Array Value} {below : List Frame} {meth : Method} {c : Code} {Q : State → Prop} {E : PEw} {h0 h : HP} {H : Heap} {locs : List Loc} (C : PC E p s m args meth c RX0 cX0_end 4 none "end") (hr : 10 ≤ R.frames ∧ 253 ≤ R.locals ∧ RBw R h0) {x0 : Nat} {x1 : Int} {res : HP} (hf : f_X0_end h x0 x1 = some res) (hz : ZP E s h0 h H locs) {ls : Array Slot} (hl : lv_has ls 4 [(0, .ref x0), (1, .int (zI x1))]) (hk : KP E below args s Q h0 res none) : W p l e R s m args below meth c H locs (pX h - pX h0) (pS h - pS h0) Q (F0 m 0 ls []) := by
  unfold f_X0_end at hf
  have hx := C.1
  have hb := C.2.1
  refine lv_iload_n hx hb dX0_end_0 rfl (lv_at hl 1 rfl) ?_
  by_cases hc : zI x1 = zI 99
  · rw [if_pos hc] at hf
    refine zl_tab (tgt := 197) (v := 99) hx hb dX0_end_1 hc (by decide) (by decide) (by decide) rfl (by decide) ?_
    refine lv_aload_n hx hb dX0_end_197 rfl (lv_at hl 0 rfl) ?_
    refine lv_aload_n hx hb dX0_end_198 rfl (lv_at hl 0 rfl) ?_
    refine zl_bipush hx hb dX0_end_199 (by decide) ?_
    refine zc_strW C 3 (by decide) rfl rfl dX0_end_201 ?_
    obtain ⟨hg, hf⟩ := gd_inv hf
    obtain ⟨y1, ey1, hf⟩ := bd_inv hf
    refine zg_callV gP C hz hr (n := 2) (rest := [.ref x0]) (gkp (by decide) hg) (met_X0_reach l E ey1) q580 q582 (C.w qs12) q89 q583 (by decide +kernel) ⟨Nat.le_trans (by decide) hr.1, Nat.le_trans (by decide) hr.2.1⟩ rfl hl.1 rfl (Nat.le_of_ble_eq_true rfl) dX0_end_204 (fun H locs hz => ?_)
    obtain ⟨hg, hf⟩ := gd_inv hf
    obtain ⟨y2, ey2, hf⟩ := bd_inv hf
    refine zg_callV gP C hz hr (n := 1) (rest := []) (gkp (by decide) hg) (met_X0_closeTo l E ey2) q815 q817 (C.w qs21) q89 q818 (by decide +kernel) ⟨Nat.le_trans (by decide) hr.1, Nat.le_trans (by decide) hr.2.1⟩ rfl hl.1 rfl (Nat.le_of_ble_eq_true rfl) dX0_end_207 (fun H locs hz => ?_)
    refine lv_goto (tgt := 246) hx hb dX0_end_210 (by decide) ?_
    obtain rfl := Option.some.inj hf
    exact zg_vret C hz hk dX0_end_246
  rw [if_neg hc] at hf
  have hc0 := hc
  by_cases hc : zI x1 = zI 100
  · rw [if_pos hc] at hf
    refine zl_tab (tgt := 135) (v := 100) hx hb dX0_end_1 hc (by decide) (by decide) (by decide) rfl (by decide) ?_
    refine lv_aload_n hx hb dX0_end_135 rfl (lv_at hl 0 rfl) ?_
    refine lv_aload_n hx hb dX0_end_136 rfl (lv_at hl 0 rfl) ?_
    refine lv_iload_n hx hb dX0_end_137 rfl (lv_at hl 1 rfl) ?_
    refine zc_strW C 1 (by decide) rfl rfl dX0_end_138 ?_
    obtain ⟨hg, hf⟩ := gd_inv hf
    obtain ⟨y3, ey3, hf⟩ := bd_inv hf
    refine zg_callV gP C hz hr (n := 2) (rest := [.ref x0]) (gkp (by decide) hg) (met_X0_reach l E ey3) q580 q582 (C.w qs12) q89 q583 (by decide +kernel) ⟨Nat.le_trans (by decide) hr.1, Nat.le_trans (by decide) hr.2.1⟩ rfl hl.1 rfl (Nat.le_of_ble_eq_true rfl) dX0_end_141 (fun H locs hz => ?_)
    obtain ⟨hg, hf⟩ := gd_inv hf
    obtain ⟨y4, ey4, hf⟩ := bd_inv hf
    refine zg_callV gP C hz hr (n := 1) (rest := []) (gkp (by decide) hg) (met_X0_closeTo l E ey4) q815 q817 (C.w qs21) q89 q818 (by decide +kernel) ⟨Nat.le_trans (by decide) hr.1, Nat.le_trans (by decide) hr.2.1⟩ rfl hl.1 rfl (Nat.le_of_ble_eq_true rfl) dX0_end_144 (fun H locs hz => ?_)
    refine lv_goto (tgt := 246) hx hb dX0_end_147 (by decide) ?_
    obtain rfl := Option.some.inj hf
    exact zg_vret C hz hk dX0_end_246
  rw [if_neg hc] at hf
  have hc1 := hc
  by_cases hc : zI x1 = zI 104
  · rw [if_pos hc] at hf
    refine zl_tab (tgt := 213) (v := 104) hx hb dX0_end_1 hc (by decide) (by decide) (by decide) rfl (by decide) ?_
    refine lv_goto (tgt := 246) hx hb dX0_end_213 (by decide) ?_
    obtain rfl := Option.some.inj hf
    exact zg_vret C hz hk dX0_end_246
  rw [if_neg hc] at hf
  have hc2 := hc
  by_cases hc : zI x1 = zI 107
  · rw [if_pos hc] at hf
    refine zl_tab (tgt := 213) (v := 107) hx hb dX0_end_1 hc (by decide) (by decide) (by decide) rfl (by decide) ?_
    refine lv_goto (tgt := 246) hx hb dX0_end_213 (by decide) ?_
    obtain rfl := Option.some.inj hf
    exact zg_vret C hz hk dX0_end_246
  rw [if_neg hc] at hf
  have hc3 := hc
  by_cases hc : zI x1 = zI 108
  · rw [if_pos hc] at hf
    refine zl_tab (tgt := 150) (v := 108) hx hb dX0_end_1 hc (by decide) (by decide) (by decide) rfl (by decide) ?_
    refine lv_aload_n hx hb dX0_end_150 rfl (lv_at hl 0 rfl) ?_
    refine lv_aload_n hx hb dX0_end_151 rfl (lv_at hl 0 rfl) ?_
    refine zl_bipush hx hb dX0_end_152 (by decide) ?_
    refine zc_strW C 2 (by decide) rfl rfl dX0_end_154 ?_
    obtain ⟨hg, hf⟩ := gd_inv hf
    obtain ⟨y5, ey5, hf⟩ := bd_inv hf
    refine zg_callV gP C hz hr (n := 2) (rest := [.ref x0]) (gkp (by decide) hg) (met_X0_reach l E ey5) q580 q582 (C.w qs12) q89 q583 (by decide +kernel) ⟨Nat.le_trans (by decide) hr.1, Nat.le_trans (by decide) hr.2.1⟩ rfl hl.1 rfl (Nat.le_of_ble_eq_true rfl) dX0_end_157 (fun H locs hz => ?_)
    obtain ⟨hg, hf⟩ := gd_inv hf
    obtain ⟨y6, ey6, hf⟩ := bd_inv hf
    refine zg_callV gP C hz hr (n := 1) (rest := []) (gkp (by decide) hg) (met_X0_closeTo l E ey6) q815 q817 (C.w qs21) q89 q818 (by decide +kernel) ⟨Nat.le_trans (by decide) hr.1, Nat.le_trans (by decide) hr.2.1⟩ rfl hl.1 rfl (Nat.le_of_ble_eq_true rfl) dX0_end_160 (fun H locs hz => ?_)
    refine lv_goto (tgt := 246) hx hb dX0_end_163 (by decide) ?_
    obtain rfl := Option.some.inj hf
    exact zg_vret C hz hk dX0_end_246
  rw [if_neg hc] at hf
  have hc4 := hc
  by_cases hc : zI x1 = zI 112
  · rw [if_pos hc] at hf
    refine zl_tab (tgt := 92) (v := 112) hx hb dX0_end_1 hc (by decide) (by decide) (by decide) rfl (by decide) ?_
    refine lv_aload_n hx hb dX0_end_92 rfl (lv_at hl 0 rfl) ?_
    refine zl_bipush hx hb dX0_end_93 (by decide) ?_
    refine zc_strW C 1 (by decide) rfl rfl dX0_end_95 ?_
    obtain ⟨hg, hf⟩ := gd_inv hf
    obtain ⟨y7, ey7, hf⟩ := bd_inv hf
    refine zg_callV gP C hz hr (n := 2) (rest := []) (gkp (by decide) hg) (met_X0_reach l E ey7) q580 q582 (C.w qs12) q89 q583 (by decide +kernel) ⟨Nat.le_trans (by decide) hr.1, Nat.le_trans (by decide) hr.2.1⟩ rfl hl.1 rfl (Nat.le_of_ble_eq_true rfl) dX0_end_98 (fun H locs hz => ?_)
    refine lv_istore_n (lv' := [(2, .int (zI y7)), (0, .ref x0), (1, .int (zI x1))]) hx hb dX0_end_101 rfl hl (by decide) rfl (fun ls hl => ?_)
    refine lv_aload_n hx hb dX0_end_102 rfl (lv_at hl 1 rfl) ?_
    refine lv_iload_n hx hb dX0_end_103 rfl (lv_at hl 0 rfl) ?_
    obtain ⟨hg, hf⟩ := gd_inv hf
    obtain ⟨y8, ey8, hf⟩ := bd_inv hf
    refine zg_callV gP C hz hr (n := 1) (rest := []) (gkp (by decide) hg) (met_X0_closeTo l E ey8) q815 q817 (C.w qs21) q89 q818 (by decide +kernel) ⟨Nat.le_trans (by decide) hr.1, Nat.le_trans (by decide) hr.2.1⟩ rfl hl.1 rfl (Nat.le_of_ble_eq_true rfl) dX0_end_104 (fun H locs hz => ?_)
    refine lv_iload_n hx hb dX0_end_107 rfl (lv_at hl 0 rfl) ?_
    refine zl_if_le (tgt := 115) hx hb dX0_end_108 (by decide) (fun hc => ?_) (fun hc => ?_)
    · rw [if_pos hc] at hf
      refine lv_null hx hb dX0_end_111 ?_
      refine lv_goto (tgt := 122) hx hb dX0_end_112 (by decide) ?_
      exact w_X0_end_122 C hr hf hz (lv_sub hl [1] rfl) hk
    · rw [if_neg hc] at hf
      refine lv_aload_n hx hb dX0_end_115 rfl (lv_at hl 1 rfl) ?_
      refine zl_bipush hx hb dX0_end_116 (by decide) ?_
      refine zl_iconst hx hb dX0_end_118 ?_
      obtain ⟨hg, hf⟩ := gd_inv hf
      obtain ⟨y9, ey9, hf⟩ := bd_inv hf
      refine zg_callV gP C hz hr (n := 2) (rest := []) (gkp (by decide) hg) (met_X0_element l E ey9) q665 q667 (C.w qs13) q89 q668 (by decide +kernel) ⟨Nat.le_trans (by decide) hr.1, Nat.le_trans (by decide) hr.2.1⟩ rfl hl.1 rfl (Nat.le_of_ble_eq_true rfl) dX0_end_119 (fun H locs hz => ?_)
      exact w_X0_end_122 C hr hf hz (lv_sub hl [1] rfl) hk
  rw [if_neg hc] at hf
  have hc5 := hc
  by_cases hc : zI x1 = zI 114
  · rw [if_pos hc] at hf
    refine zl_tab (tgt := 181) (v := 114) hx hb dX0_end_1 hc (by decide) (by decide) (by decide) rfl (by decide) ?_
    refine lv_aload_n hx hb dX0_end_181 rfl (lv_at hl 0 rfl) ?_
    refine lv_aload_n hx hb dX0_end_182 rfl (lv_at hl 0 rfl) ?_
    refine zl_bipush hx hb dX0_end_183 (by decide) ?_
    refine zc_strW C 3 (by decide) rfl rfl dX0_end_185 ?_
    obtain ⟨hg, hf⟩ := gd_inv hf
    obtain ⟨y10, ey10, hf⟩ := bd_inv hf
    refine zg_callV gP C hz hr (n := 2) (rest := [.ref x0]) (gkp (by decide) hg) (met_X0_reach l E ey10) q580 q582 (C.w qs12) q89 q583 (by decide +kernel) ⟨Nat.le_trans (by decide) hr.1, Nat.le_trans (by decide) hr.2.1⟩ rfl hl.1 rfl (Nat.le_of_ble_eq_true rfl) dX0_end_188 (fun H locs hz => ?_)
    obtain ⟨hg, hf⟩ := gd_inv hf
    obtain ⟨y11, ey11, hf⟩ := bd_inv hf
    refine zg_callV gP C hz hr (n := 1) (rest := []) (gkp (by decide) hg) (met_X0_closeTo l E ey11) q815 q817 (C.w qs21) q89 q818 (by decide +kernel) ⟨Nat.le_trans (by decide) hr.1, Nat.le_trans (by decide) hr.2.1⟩ rfl hl.1 rfl (Nat.le_of_ble_eq_true rfl) dX0_end_191 (fun H locs hz => ?_)
    refine lv_goto (tgt := 246) hx hb dX0_end_194 (by decide) ?_
    obtain rfl := Option.some.inj hf
    exact zg_vret C hz hk dX0_end_246
  rw [if_neg hc] at hf
  have hc6 := hc
  by_cases hc : zI x1 = zI 116
  · rw [if_pos hc] at hf
    refine zl_tab (tgt := 166) (v := 116) hx hb dX0_end_1 hc (by decide) (by decide) (by decide) rfl (by decide) ?_
    refine lv_aload_n hx hb dX0_end_166 rfl (lv_at hl 0 rfl) ?_
    refine lv_aload_n hx hb dX0_end_167 rfl (lv_at hl 0 rfl) ?_
    refine zl_bipush hx hb dX0_end_168 (by decide) ?_
    refine zc_str C 0 (by decide) rfl rfl dX0_end_170 ?_
    obtain ⟨hg, hf⟩ := gd_inv hf
    obtain ⟨y12, ey12, hf⟩ := bd_inv hf
    refine zg_callV gP C hz hr (n := 2) (rest := [.ref x0]) (gkp (by decide) hg) (met_X0_reach l E ey12) q580 q582 (C.w qs12) q89 q583 (by decide +kernel) ⟨Nat.le_trans (by decide) hr.1, Nat.le_trans (by decide) hr.2.1⟩ rfl hl.1 rfl (Nat.le_of_ble_eq_true rfl) dX0_end_172 (fun H locs hz => ?_)
    obtain ⟨hg, hf⟩ := gd_inv hf
    obtain ⟨y13, ey13, hf⟩ := bd_inv hf
    refine zg_callV gP C hz hr (n := 1) (rest := []) (gkp (by decide) hg) (met_X0_closeTo l E ey13) q815 q817 (C.w qs21) q89 q818 (by decide +kernel) ⟨Nat.le_trans (by decide) hr.1, Nat.le_trans (by decide) hr.2.1⟩ rfl hl.1 rfl (Nat.le_of_ble_eq_true rfl) dX0_end_175 (fun H locs hz => ?_)
    refine lv_goto (tgt := 246) hx hb dX0_end_178 (by decide) ?_
    obtain rfl := Option.some.inj hf
    exact zg_vret C hz hk dX0_end_246
  rw [if_neg hc] at hf
  have hc7 := hc
  by_cases hc : zI x1 = zI 117
  · rw [if_pos hc] at hf
    refine zl_tab (tgt := 135) (v := 117) hx hb dX0_end_1 hc (by decide) (by decide) (by decide) rfl (by decide) ?_
    refine lv_aload_n hx hb dX0_end_135 rfl (lv_at hl 0 rfl) ?_
    refine lv_aload_n hx hb dX0_end_136 rfl (lv_at hl 0 rfl) ?_
    refine lv_iload_n hx hb dX0_end_137 rfl (lv_at hl 1 rfl) ?_
    refine zc_strW C 1 (by decide) rfl rfl dX0_end_138 ?_
    obtain ⟨hg, hf⟩ := gd_inv hf
    obtain ⟨y14, ey14, hf⟩ := bd_inv hf
    refine zg_callV gP C hz hr (n := 2) (rest := [.ref x0]) (gkp (by decide) hg) (met_X0_reach l E ey14) q580 q582 (C.w qs12) q89 q583 (by decide +kernel) ⟨Nat.le_trans (by decide) hr.1, Nat.le_trans (by decide) hr.2.1⟩ rfl hl.1 rfl (Nat.le_of_ble_eq_true rfl) dX0_end_141 (fun H locs hz => ?_)
    obtain ⟨hg, hf⟩ := gd_inv hf
    obtain ⟨y15, ey15, hf⟩ := bd_inv hf
    refine zg_callV gP C hz hr (n := 1) (rest := []) (gkp (by decide) hg) (met_X0_closeTo l E ey15) q815 q817 (C.w qs21) q89 q818 (by decide +kernel) ⟨Nat.le_trans (by decide) hr.1, Nat.le_trans (by decide) hr.2.1⟩ rfl hl.1 rfl (Nat.le_of_ble_eq_true rfl) dX0_end_144 (fun H locs hz => ?_)
    refine lv_goto (tgt := 246) hx hb dX0_end_147 (by decide) ?_
    obtain rfl := Option.some.inj hf
    exact zg_vret C hz hk dX0_end_246
  rw [if_neg hc] at hf
  have hc8 := hc
  refine zl_tabD (tgt := 216) (vs := [99, 100, 104, 107, 108, 112, 114, 116, 117]) hx hb dX0_end_1 (by decide) (by simp only [List.mem_cons, List.not_mem_nil, or_false, forall_eq_or_imp, forall_eq]; exact ⟨hc0, hc1, hc2, hc3, hc4, hc5, hc6, hc7, hc8⟩) (by decide) (by decide) ?_
  refine zc_strW C 4 (by decide) rfl rfl dX0_end_216 ?_
  refine lv_iload_n hx hb dX0_end_219 rfl (lv_at hl 1 rfl) ?_
  obtain ⟨hg, hf⟩ := gd_inv hf
  obtain ⟨y16, ey16, hf⟩ := bd_inv hf
  refine zg_callQ gP C hz hr (n := 1) (rest := []) hg (met_J6_indexOf l E ey16) q584 q585 (C.w q586) q100 q587 (by decide +kernel) ⟨Nat.le_trans (by decide) hr.1, Nat.le_trans (by decide) hr.2.1⟩ rfl hl.1 rfl (Nat.le_of_ble_eq_true rfl) dX0_end_220 (fun H locs hz => ?_)
  refine zl_if_lt (tgt := 234) hx hb dX0_end_223 (by decide) (fun hc => ?_) (fun hc => ?_)
  · rw [if_pos hc] at hf
    exact w_X0_end_234 C hr hf hz (lv_sub hl [0, 1] rfl) hk
  · rw [if_neg hc] at hf
    refine lv_aload_n hx hb dX0_end_226 rfl (lv_at hl 0 rfl) ?_
    refine lv_iload_n hx hb dX0_end_227 rfl (lv_at hl 1 rfl) ?_
    obtain ⟨hg, hf⟩ := gd_inv hf
    obtain ⟨y17, ey17, hf⟩ := bd_inv hf
    refine zg_callV gP C hz hr (n := 1) (rest := []) (gkp (by decide) hg) (met_X0_adopt l E ey17) q830 q832 (C.w qs23) q89 q833 (by decide +kernel) ⟨Nat.le_trans (by decide) hr.1, Nat.le_trans (by decide) hr.2.1⟩ rfl hl.1 rfl (Nat.le_of_ble_eq_true rfl) dX0_end_228 (fun H locs hz => ?_)
    refine zl_if_ne (tgt := 246) hx hb dX0_end_231 (by decide) (fun hc => ?_) (fun hc => ?_)
    · rw [if_pos hc] at hf
      exact w_X0_end_234 C hr hf hz (lv_sub hl [0, 1] rfl) hk
    · rw [if_neg hc] at hf
      obtain rfl := Option.some.inj hf
      exact zg_vret C hz hk dX0_end_246

theorem met_X0_end (l : Launch) (E : PEw) {h : HP} {x0 : Nat} {x1 : Int} {res : HP} (hf : f_X0_end h x0 x1 = some res) : Met l yX0_end (ws_ yX0_end cX0_end 4 none) (rmP h 10 253) (PP E h [.ref x0, .int (zI x1)]) (QP E h res none) (pX res - pX h) (pS res - pS h) (eF E) := by
  refine Met.ofW (cc := cX0_end) (maxL := 4) (ret := none) (by decide) rfl ?_
  intro p e s m args below meth c s₁ B hml hv
  obtain ⟨rfl, hP0⟩ := hv
  have hts := atoms_spec (ws := ws_ yX0_end cX0_end 4 none) B.pre
  have hts : ∀ w ∈ lw_all, w.before _ s = true := fun w h => hts w (List.mem_cons_of_mem _ h)
  have C : PC E p s m _ meth c RX0 cX0_end 4 none "end" := ⟨B.exec, B.bytes, B.returns, B.notSynchronized, hml, findClass_of_methodNamed B.named, hts, hP0.2, (name_of_methodNamed B.named B.method).1⟩
  have hz : ZP E s h h s.heap [] := ZG.start hP0.1
  have hl := lv_entry ([.ref x0, .int (zI x1)]) (n := 4) (Nat.le_of_ble_eq_true rfl)
  rw [lg_entry_eq]
  generalize (lg_sl ([.ref x0, .int (zI x1)]) ++ List.replicate (4 - (lg_sl ([.ref x0, .int (zI x1)])).length) Slot.unset).toArray = ls at hl ⊢
  have hl : lv_has ls 4 [(0, .ref x0), (1, .int (zI x1))] := hl
  refine W.cs (cells' := pX h - pX h) (slots' := pS h - pS h) (Nat.sub_self _).symm (Nat.sub_self _).symm ?_
  exact w_X0_end C ⟨Nat.le_refl _, Nat.le_refl _, RBw.rm⟩ hf hz hl rfl

theorem w_X0_ready_52 {p : Program} {l : Launch} {e : Env} {R : Room} {s : State} {m : MethodId} {args : Array Value} {below : List Frame} {meth : Method} {c : Code} {Q : State → Prop} {E : PEw} {h0 h : HP} {H : Heap} {locs : List Loc} (C : PC E p s m args meth c RX0 cX0_ready 5 (some .boolean) "ready") (hr : 8 ≤ R.frames ∧ 198 ≤ R.locals ∧ RBw R h0) {x0 : Nat} {x1 : Int} {x3 : Int} {res : HP × Int} (hf : f_X0_ready_52 h x0 x1 x3 = some res) (hz : ZP E s h0 h H locs) {ls : Array Slot} (hl : lv_has ls 5 [(0, .ref x0), (1, .int (zI x1)), (3, .int (zI x3))]) (hk : KP E below args s Q h0 res.1 (some (.int (zI res.2)))) : W p l e R s m args below meth c H locs (pX h - pX h0) (pS h - pS h0) Q (F0 m 52 ls []) := by
  unfold f_X0_ready_52 at hf
  have hx := C.1
  have hb := C.2.1
  refine lv_iload_n hx hb dX0_ready_52 rfl (lv_at hl 1 rfl) ?_
  refine zl_bipush hx hb dX0_ready_53 (by decide) ?_
  refine zl_icmp_eq (tgt := 62) hx hb dX0_ready_55 (by decide) (fun hc => ?_) (fun hc => ?_)
  · rw [if_pos hc] at hf
    refine zl_iconst hx hb dX0_ready_62 ?_
    obtain rfl := Option.some.inj hf
    exact zg_zret C hz zisB_1 hk dX0_ready_63
  · rw [if_neg hc] at hf
    refine lv_iload_n hx hb dX0_ready_58 rfl (lv_at hl 2 rfl) ?_
    refine zl_if_le (tgt := 64) hx hb dX0_ready_59 (by decide) (fun hc => ?_) (fun hc => ?_)
    · rw [if_pos hc] at hf
      refine zl_iconst hx hb dX0_ready_62 ?_
      obtain rfl := Option.some.inj hf
      exact zg_zret C hz zisB_1 hk dX0_ready_63
    · rw [if_neg hc] at hf
      refine lv_aload_n hx hb dX0_ready_64 rfl (lv_at hl 0 rfl) ?_
      refine zl_bipush hx hb dX0_ready_65 (by decide) ?_
      refine zl_iconst hx hb dX0_ready_67 ?_
      obtain ⟨hg, hf⟩ := gd_inv hf
      obtain ⟨y1, ey1, hf⟩ := bd_inv hf
      refine zg_callV gP C hz hr (n := 2) (rest := []) (gkp (by decide) hg) (met_X0_element l E ey1) q665 q667 (C.w qs13) q89 q668 (by decide +kernel) ⟨Nat.le_trans (by decide) hr.1, Nat.le_trans (by decide) hr.2.1⟩ rfl hl.1 rfl (Nat.le_of_ble_eq_true rfl) dX0_ready_68 (fun H locs hz => ?_)
      refine zl_astore_o (lv' := [(4, va_rf y1.2), (0, .ref x0), (1, .int (zI x1)), (3, .int (zI x3))]) hx hb dX0_ready_71 hl (by decide) rfl (fun ls hl => ?_)
      refine zl_aload_o hx hb dX0_ready_73 (lv_at hl 0 rfl) ?_
      rcases nl_inv hf with ⟨ho, hf⟩ | ⟨a2, ho, hf⟩
      · rw [zx_nul ho]
        refine lv_ifnonnullN hx hb dX0_ready_75 ?_
        refine zl_iconst hx hb dX0_ready_78 ?_
        obtain rfl := Option.some.inj hf
        exact zg_zret C hz zisB_0 hk dX0_ready_79
      · rw [zx_rf ho] at hl ⊢
        refine lv_ifnonnull (tgt := 80) hx hb dX0_ready_75 (by decide) ?_
        refine lv_aload_n hx hb dX0_ready_80 rfl (lv_at hl 1 rfl) ?_
        obtain ⟨hg, hf⟩ := gd_inv hf
        obtain ⟨y3, ey3, hf⟩ := bd_inv hf
        refine zg_callV gP C hz hr (n := 0) (rest := []) (gkp (by decide) hg) (met_X0_top l E ey3) q545 q547 (C.w qs9) q89 q548 (by decide +kernel) ⟨Nat.le_trans (by decide) hr.1, Nat.le_trans (by decide) hr.2.1⟩ rfl hl.1 rfl (Nat.le_of_ble_eq_true rfl) dX0_ready_81 (fun H locs hz => ?_)
        refine lv_aload_n hx hb dX0_ready_84 rfl (lv_at hl 1 rfl) ?_
        obtain ⟨hg, hf⟩ := gd_inv hf
        obtain ⟨y4, ey4, hf⟩ := bd_inv hf
        refine zg_callV gP C hz hr (n := 0) (rest := [.ref y3]) (gkp (by decide) hg) (met_X0_top l E ey4) q545 q547 (C.w qs9) q89 q548 (by decide +kernel) ⟨Nat.le_trans (by decide) hr.1, Nat.le_trans (by decide) hr.2.1⟩ rfl hl.1 rfl (Nat.le_of_ble_eq_true rfl) dX0_ready_85 (fun H locs hz => ?_)
        obtain ⟨hg, hf⟩ := gd_inv hf
        refine zg_getp gP C hz 2 4 (gkp (by decide) hg) (by decide) (by decide) (Or.inr ⟨_, C.nw q166⟩) (fun _ h => h) dX0_ready_88 ?_
        obtain ⟨a5, ea5, hf⟩ := bd_inv hf
        rw [zx_rf ea5]
        obtain ⟨y6, ey6, hf⟩ := bd_inv hf
        refine zj_lLen C hz hr ey6 (rest := [.ref y3]) q549 q550 (C.w q551) q94 q552 hl.1 ⟨Nat.le_trans (by decide) hr.1, Nat.le_trans (by decide) hr.2.1⟩ (Nat.le_of_ble_eq_true rfl) dX0_ready_91 (fun H locs hz => ?_)
        refine lv_aload hx hb dX0_ready_94 (lv_at hl 0 rfl) ?_
        obtain ⟨hg, hf⟩ := gd_inv hf
        obtain ⟨y7, ey7, hf⟩ := bd_inv hf
        refine zg_callV gP C hz hr (n := 2) (rest := []) (gkp (by decide) hg) (met_X2_put l E ey7) q687 q688 (C.w q689) q91 q690 (by decide +kernel) ⟨Nat.le_trans (by decide) hr.1, Nat.le_trans (by decide) hr.2.1⟩ rfl hl.1 rfl (Nat.le_of_ble_eq_true rfl) dX0_ready_96 (fun H locs hz => ?_)
        refine lv_aload_n hx hb dX0_ready_99 rfl (lv_at hl 1 rfl) ?_
        refine lv_aload hx hb dX0_ready_100 (lv_at hl 0 rfl) ?_
        obtain ⟨hg, hf⟩ := gd_inv hf
        obtain ⟨y8, ey8, hf⟩ := bd_inv hf
        refine zg_callV gP C hz hr (n := 1) (rest := []) (gkp (by decide) hg) (met_X0_enter l E ey8) q334 q336 (C.w qs1) q89 q337 (by decide +kernel) ⟨Nat.le_trans (by decide) hr.1, Nat.le_trans (by decide) hr.2.1⟩ rfl hl.1 rfl (Nat.le_of_ble_eq_true rfl) dX0_ready_102 (fun H locs hz => ?_)
        refine zl_iconst hx hb dX0_ready_105 ?_
        obtain rfl := Option.some.inj hf
        exact zg_zret C hz zisB_1 hk dX0_ready_106

theorem w_X0_ready_35 {p : Program} {l : Launch} {e : Env} {R : Room} {s : State} {m : MethodId} {args : Array Value} {below : List Frame} {meth : Method} {c : Code} {Q : State → Prop} {E : PEw} {h0 h : HP} {H : Heap} {locs : List Loc} (C : PC E p s m args meth c RX0 cX0_ready 5 (some .boolean) "ready") (hr : 8 ≤ R.frames ∧ 198 ≤ R.locals ∧ RBw R h0) {x0 : Nat} {x1 : Int} {x2 : Int} {x3 : Int} {res : HP × Int} (hf : f_X0_ready_35 h x0 x1 x2 x3 = some res) (hz : ZP E s h0 h H locs) {ls : Array Slot} (hl : lv_has ls 5 [(0, .ref x0), (1, .int (zI x1)), (2, .int (zI x2)), (3, .int (zI x3))]) (hk : KP E below args s Q h0 res.1 (some (.int (zI res.2)))) : W p l e R s m args below meth c H locs (pX h - pX h0) (pS h - pS h0) Q (F0 m 35 ls []) := by
  unfold f_X0_ready_35 at hf
  have hx := C.1
  have hb := C.2.1
  refine lv_aload_n hx hb dX0_ready_35 rfl (lv_at hl 0 rfl) ?_
  refine lv_iload_n hx hb dX0_ready_36 rfl (lv_at hl 2 rfl) ?_
  refine zl_iconst hx hb dX0_ready_37 ?_
  refine zl_iadd hx hb dX0_ready_38 ?_
  obtain ⟨hg, hf⟩ := gd_inv hf
  obtain ⟨y1, ey1, hf⟩ := bd_inv hf
  refine zg_callV gP C hz hr (n := 1) (rest := []) (gkp (by decide) hg) (met_X0_closeTo l E ey1) q815 q817 (C.w qs21) q89 q818 (by decide +kernel) ⟨Nat.le_trans (by decide) hr.1, Nat.le_trans (by decide) hr.2.1⟩ rfl hl.1 rfl (Nat.le_of_ble_eq_true rfl) dX0_ready_39 (fun H locs hz => ?_)
  refine lv_goto (tgt := 52) hx hb dX0_ready_42 (by decide) ?_
  exact w_X0_ready_52 C hr hf hz (lv_sub hl [0, 1, 3] rfl) hk

theorem w_X0_ready {p : Program} {l : Launch} {e : Env} {R : Room} {s : State} {m : MethodId} {args : Array Value} {below : List Frame} {meth : Method} {c : Code} {Q : State → Prop} {E : PEw} {h0 h : HP} {H : Heap} {locs : List Loc} (C : PC E p s m args meth c RX0 cX0_ready 5 (some .boolean) "ready") (hr : 8 ≤ R.frames ∧ 198 ≤ R.locals ∧ RBw R h0) {x0 : Nat} {x1 : Int} {res : HP × Int} (hf : f_X0_ready h x0 x1 = some res) (hz : ZP E s h0 h H locs) {ls : Array Slot} (hl : lv_has ls 5 [(0, .ref x0), (1, .int (zI x1))]) (hk : KP E below args s Q h0 res.1 (some (.int (zI res.2)))) : W p l e R s m args below meth c H locs (pX h - pX h0) (pS h - pS h0) Q (F0 m 0 ls []) := by
  unfold f_X0_ready at hf
  have hx := C.1
  have hb := C.2.1
  refine lv_aload_n hx hb dX0_ready_0 rfl (lv_at hl 0 rfl) ?_
  refine zl_bipush hx hb dX0_ready_1 (by decide) ?_
  refine zc_str C 0 (by decide) rfl rfl dX0_ready_3 ?_
  obtain ⟨hg, hf⟩ := gd_inv hf
  obtain ⟨y1, ey1, hf⟩ := bd_inv hf
  refine zg_callV gP C hz hr (n := 2) (rest := []) (gkp (by decide) hg) (met_X0_reach l E ey1) q580 q582 (C.w qs12) q89 q583 (by decide +kernel) ⟨Nat.le_trans (by decide) hr.1, Nat.le_trans (by decide) hr.2.1⟩ rfl hl.1 rfl (Nat.le_of_ble_eq_true rfl) dX0_ready_5 (fun H locs hz => ?_)
  refine lv_istore_n (lv' := [(2, .int (zI y1)), (0, .ref x0), (1, .int (zI x1))]) hx hb dX0_ready_8 rfl hl (by decide) rfl (fun ls hl => ?_)
  refine lv_iload_n hx hb dX0_ready_9 rfl (lv_at hl 0 rfl) ?_
  refine zl_if_ne (tgt := 15) hx hb dX0_ready_10 (by decide) (fun hc => ?_) (fun hc => ?_)
  · rw [if_pos hc] at hf
    refine zl_iconst hx hb dX0_ready_13 ?_
    obtain rfl := Option.some.inj hf
    exact zg_zret C hz zisB_0 hk dX0_ready_14
  · rw [if_neg hc] at hf
    refine lv_aload_n hx hb dX0_ready_15 rfl (lv_at hl 1 rfl) ?_
    refine zl_bipush hx hb dX0_ready_16 (by decide) ?_
    refine zc_strW C 3 (by decide) rfl rfl dX0_ready_18 ?_
    obtain ⟨hg, hf⟩ := gd_inv hf
    obtain ⟨y2, ey2, hf⟩ := bd_inv hf
    refine zg_callV gP C hz hr (n := 2) (rest := []) (gkp (by decide) hg) (met_X0_reach l E ey2) q580 q582 (C.w qs12) q89 q583 (by decide +kernel) ⟨Nat.le_trans (by decide) hr.1, Nat.le_trans (by decide) hr.2.1⟩ rfl hl.1 rfl (Nat.le_of_ble_eq_true rfl) dX0_ready_21 (fun H locs hz => ?_)
    refine lv_istore_n (lv' := [(3, .int (zI y2)), (2, .int (zI y1)), (0, .ref x0), (1, .int (zI x1))]) hx hb dX0_ready_24 rfl hl (by decide) rfl (fun ls hl => ?_)
    refine lv_iload_n hx hb dX0_ready_25 rfl (lv_at hl 3 rfl) ?_
    refine zl_bipush hx hb dX0_ready_26 (by decide) ?_
    refine zl_icmp_eq (tgt := 35) hx hb dX0_ready_28 (by decide) (fun hc => ?_) (fun hc => ?_)
    · rw [if_pos hc] at hf
      exact w_X0_ready_35 C hr hf hz (lv_sub hl [2, 3, 1, 0] rfl) hk
    · rw [if_neg hc] at hf
      refine lv_iload_n hx hb dX0_ready_31 rfl (lv_at hl 0 rfl) ?_
      refine zl_if_ne (tgt := 45) hx hb dX0_ready_32 (by decide) (fun hc => ?_) (fun hc => ?_)
      · rw [if_pos hc] at hf
        exact w_X0_ready_35 C hr hf hz (lv_sub hl [2, 3, 1, 0] rfl) hk
      · rw [if_neg hc] at hf
        refine lv_aload_n hx hb dX0_ready_45 rfl (lv_at hl 2 rfl) ?_
        refine lv_iload_n hx hb dX0_ready_46 rfl (lv_at hl 0 rfl) ?_
        refine zl_iconst hx hb dX0_ready_47 ?_
        refine zl_iadd hx hb dX0_ready_48 ?_
        obtain ⟨hg, hf⟩ := gd_inv hf
        obtain ⟨y3, ey3, hf⟩ := bd_inv hf
        refine zg_callV gP C hz hr (n := 1) (rest := []) (gkp (by decide) hg) (met_X0_closeTo l E ey3) q815 q817 (C.w qs21) q89 q818 (by decide +kernel) ⟨Nat.le_trans (by decide) hr.1, Nat.le_trans (by decide) hr.2.1⟩ rfl hl.1 rfl (Nat.le_of_ble_eq_true rfl) dX0_ready_49 (fun H locs hz => ?_)
        exact w_X0_ready_52 C hr hf hz (lv_sub hl [2, 3, 0] rfl) hk

theorem met_X0_ready (l : Launch) (E : PEw) {h : HP} {x0 : Nat} {x1 : Int} {res : HP × Int} (hf : f_X0_ready h x0 x1 = some res) : Met l yX0_ready (ws_ yX0_ready cX0_ready 5 (some .boolean)) (rmP h 8 198) (PP E h [.ref x0, .int (zI x1)]) (QP E h res.1 (some (.int (zI res.2)))) (pX res.1 - pX h) (pS res.1 - pS h) (eF E) := by
  refine Met.ofW (cc := cX0_ready) (maxL := 5) (ret := (some .boolean)) (by decide) rfl ?_
  intro p e s m args below meth c s₁ B hml hv
  obtain ⟨rfl, hP0⟩ := hv
  have hts := atoms_spec (ws := ws_ yX0_ready cX0_ready 5 (some .boolean)) B.pre
  have hts : ∀ w ∈ lw_all, w.before _ s = true := fun w h => hts w (List.mem_cons_of_mem _ h)
  have C : PC E p s m _ meth c RX0 cX0_ready 5 (some .boolean) "ready" := ⟨B.exec, B.bytes, B.returns, B.notSynchronized, hml, findClass_of_methodNamed B.named, hts, hP0.2, (name_of_methodNamed B.named B.method).1⟩
  have hz : ZP E s h h s.heap [] := ZG.start hP0.1
  have hl := lv_entry ([.ref x0, .int (zI x1)]) (n := 5) (Nat.le_of_ble_eq_true rfl)
  rw [lg_entry_eq]
  generalize (lg_sl ([.ref x0, .int (zI x1)]) ++ List.replicate (5 - (lg_sl ([.ref x0, .int (zI x1)])).length) Slot.unset).toArray = ls at hl ⊢
  have hl : lv_has ls 5 [(0, .ref x0), (1, .int (zI x1))] := hl
  refine W.cs (cells' := pX h - pX h) (slots' := pS h - pS h) (Nat.sub_self _).symm (Nat.sub_self _).symm ?_
  exact w_X0_ready C ⟨Nat.le_refl _, Nat.le_refl _, RBw.rm⟩ hf hz hl rfl

theorem w_X2_formatting {p : Program} {l : Launch} {e : Env} {R : Room} {s : State} {m : MethodId} {args : Array Value} {below : List Frame} {meth : Method} {c : Code} {Q : State → Prop} {E : PEw} {h0 h : HP} {H : Heap} {locs : List Loc} (C : PC E p s m args meth c RX2 cX2_formatting 1 (some .boolean) "formatting") (hr : 4 ≤ R.frames ∧ 91 ≤ R.locals ∧ RBw R h0) {x0 : Nat} {res : Int} (hf : f_X2_formatting h x0 = some res) (hz : ZP E s h0 h H locs) {ls : Array Slot} (hl : lv_has ls 1 [(0, .ref x0)]) (hk : KP E below args s Q h0 h (some (.int (zI res)))) : W p l e R s m args below meth c H locs (pX h - pX h0) (pS h - pS h0) Q (F0 m 0 ls []) := by
  unfold f_X2_formatting at hf
  have hx := C.1
  have hb := C.2.1
  refine zc_str C 10 (by decide) rfl rfl dX2_formatting_0 ?_
  refine lv_aload_n hx hb dX2_formatting_2 rfl (lv_at hl 0 rfl) ?_
  obtain ⟨hg, hf⟩ := gd_inv hf
  refine zg_geti gP C hz 2 2 (gkp (by decide) hg) (by decide) (by decide) (Or.inl (C.w q160)) (fun _ h => h) dX2_formatting_3 ?_
  obtain ⟨hg, hf⟩ := gd_inv hf
  obtain ⟨y1, ey1, hf⟩ := bd_inv hf
  refine zg_callQ gP C hz hr (n := 1) (rest := []) hg (met_J6_indexOf l E ey1) q839 q585 (C.w q586) q100 q587 (by decide +kernel) ⟨Nat.le_trans (by decide) hr.1, Nat.le_trans (by decide) hr.2.1⟩ rfl hl.1 rfl (Nat.le_of_ble_eq_true rfl) dX2_formatting_6 (fun H locs hz => ?_)
  refine zl_if_lt (tgt := 16) hx hb dX2_formatting_9 (by decide) (fun hc => ?_) (fun hc => ?_)
  · rw [if_pos hc] at hf
    refine zl_iconst hx hb dX2_formatting_16 ?_
    obtain rfl := Option.some.inj hf
    exact zg_zret C hz zisB_0 hk dX2_formatting_17
  · rw [if_neg hc] at hf
    refine zl_iconst hx hb dX2_formatting_12 ?_
    refine lv_goto (tgt := 17) hx hb dX2_formatting_13 (by decide) ?_
    obtain rfl := Option.some.inj hf
    exact zg_zret C hz zisB_1 hk dX2_formatting_17

theorem met_X2_formatting (l : Launch) (E : PEw) {h : HP} {x0 : Nat} {res : Int} (hf : f_X2_formatting h x0 = some res) : Met l yX2_formatting (ws_ yX2_formatting cX2_formatting 1 (some .boolean)) (rmP h 4 91) (PP E h [.ref x0]) (QP E h h (some (.int (zI res)))) (pX h - pX h) (pS h - pS h) (eF E) := by
  refine Met.ofW (cc := cX2_formatting) (maxL := 1) (ret := (some .boolean)) (by decide) rfl ?_
  intro p e s m args below meth c s₁ B hml hv
  obtain ⟨rfl, hP0⟩ := hv
  have hts := atoms_spec (ws := ws_ yX2_formatting cX2_formatting 1 (some .boolean)) B.pre
  have hts : ∀ w ∈ lw_all, w.before _ s = true := fun w h => hts w (List.mem_cons_of_mem _ h)
  have C : PC E p s m _ meth c RX2 cX2_formatting 1 (some .boolean) "formatting" := ⟨B.exec, B.bytes, B.returns, B.notSynchronized, hml, findClass_of_methodNamed B.named, hts, hP0.2, (name_of_methodNamed B.named B.method).1⟩
  have hz : ZP E s h h s.heap [] := ZG.start hP0.1
  have hl := lv_entry ([.ref x0]) (n := 1) (Nat.le_of_ble_eq_true rfl)
  rw [lg_entry_eq]
  generalize (lg_sl ([.ref x0]) ++ List.replicate (1 - (lg_sl ([.ref x0])).length) Slot.unset).toArray = ls at hl ⊢
  have hl : lv_has ls 1 [(0, .ref x0)] := hl
  refine W.cs (cells' := pX h - pX h) (slots' := pS h - pS h) (Nat.sub_self _).symm (Nat.sub_self _).symm ?_
  exact w_X2_formatting C ⟨Nat.le_refl _, Nat.le_refl _, RBw.rm⟩ hf hz hl rfl

theorem w_X0_start_204 {p : Program} {l : Launch} {e : Env} {R : Room} {s : State} {m : MethodId} {args : Array Value} {below : List Frame} {meth : Method} {c : Code} {Q : State → Prop} {E : PEw} {h0 h : HP} {H : Heap} {locs : List Loc} (C : PC E p s m args meth c RX0 cX0_start 6 none "start") (hr : 9 ≤ R.frames ∧ 223 ≤ R.locals ∧ RBw R h0) {x4 : Nat} {x5 : Nat} {res : HP} (hf : f_X0_start_204 h x4 x5 = some res) (hz : ZP E s h0 h H locs) {ls : Array Slot} (hl : lv_has ls 6 [(4, .ref x4), (5, .ref x5)]) (hk : KP E below args s Q h0 res none) : W p l e R s m args below meth c H locs (pX h - pX h0) (pS h - pS h0) Q (F0 m 204 ls []) := by
  unfold f_X0_start_204 at hf
  have hx := C.1
  have hb := C.2.1
  refine lv_aload hx hb dX0_start_204 (lv_at hl 1 rfl) ?_
  refine lv_aload hx hb dX0_start_206 (lv_at hl 0 rfl) ?_
  obtain ⟨y1, ey1, hf⟩ := bd_inv hf
  refine zj_lAdd C hz hr ey1 (rest := []) q338 q339 (C.w q340) q94 q341 hl.1 ⟨Nat.le_trans (by decide) hr.1, Nat.le_trans (by decide) hr.2.1⟩ (Nat.le_of_ble_eq_true rfl) dX0_start_208 (fun H locs hz => ?_)
  refine lv_pop hx hb dX0_start_211 rfl ?_
  obtain rfl := Option.some.inj hf
  exact zg_vret C hz hk dX0_start_212

theorem w_X0_start_155 {p : Program} {l : Launch} {e : Env} {R : Room} {s : State} {m : MethodId} {args : Array Value} {below : List Frame} {meth : Method} {c : Code} {Q : State → Prop} {E : PEw} {h0 h : HP} {H : Heap} {locs : List Loc} (C : PC E p s m args meth c RX0 cX0_start 6 none "start") (hr : 9 ≤ R.frames ∧ 223 ≤ R.locals ∧ RBw R h0) {x0 : Nat} {x1 : Int} {x4 : Nat} {res : HP} (hf : f_X0_start_155 h x0 x1 x4 = some res) (hz : ZP E s h0 h H locs) {ls : Array Slot} (hl : lv_has ls 6 [(0, .ref x0), (1, .int (zI x1)), (4, .ref x4)]) (hk : KP E below args s Q h0 res none) : W p l e R s m args below meth c H locs (pX h - pX h0) (pS h - pS h0) Q (F0 m 155 ls []) := by
  unfold f_X0_start_155 at hf
  have hx := C.1
  have hb := C.2.1
  refine lv_iload_n hx hb dX0_start_155 rfl (lv_at hl 1 rfl) ?_
  refine zl_bipush hx hb dX0_start_156 (by decide) ?_
  refine zl_icmp_eq (tgt := 167) hx hb dX0_start_158 (by decide) (fun hc => ?_) (fun hc => ?_)
  · rw [if_pos hc] at hf
    obtain rfl := Option.some.inj hf
    exact zg_vret C hz hk dX0_start_167
  · rw [if_neg hc] at hf
    refine lv_iload_n hx hb dX0_start_161 rfl (lv_at hl 1 rfl) ?_
    refine zl_bipush hx hb dX0_start_162 (by decide) ?_
    refine zl_icmp_ne (tgt := 168) hx hb dX0_start_164 (by decide) (fun hc => ?_) (fun hc => ?_)
    · rw [if_pos hc] at hf
      obtain rfl := Option.some.inj hf
      exact zg_vret C hz hk dX0_start_167
    · rw [if_neg hc] at hf
      refine lv_aload_n hx hb dX0_start_168 rfl (lv_at hl 0 rfl) ?_
      refine lv_aload hx hb dX0_start_169 (lv_at hl 2 rfl) ?_
      obtain ⟨hg, hf⟩ := gd_inv hf
      obtain ⟨y1, ey1, hf⟩ := bd_inv hf
      refine zg_callV gP C hz hr (n := 1) (rest := []) (gkp (by decide) hg) (met_X0_enter l E ey1) q334 q336 (C.w qs1) q89 q337 (by decide +kernel) ⟨Nat.le_trans (by decide) hr.1, Nat.le_trans (by decide) hr.2.1⟩ rfl hl.1 rfl (Nat.le_of_ble_eq_true rfl) dX0_start_171 (fun H locs hz => ?_)
      refine lv_aload hx hb dX0_start_174 (lv_at hl 2 rfl) ?_
      obtain ⟨hg, hf⟩ := gd_inv hf
      obtain ⟨y2, ey2, hf⟩ := bd_inv hf
      refine zg_callV gP C hz hr (n := 0) (rest := []) (gkp (by decide) hg) (met_X2_formatting l E ey2) q854 q855 (C.w q856) q91 q857 (by decide +kernel) ⟨Nat.le_trans (by decide) hr.1, Nat.le_trans (by decide) hr.2.1⟩ rfl hl.1 rfl (Nat.le_of_ble_eq_true rfl) dX0_start_176 (fun H locs hz => ?_)
      refine zl_if_eq (tgt := 212) hx hb dX0_start_179 (by decide) (fun hc => ?_) (fun hc => ?_)
      · rw [if_pos hc] at hf
        obtain rfl := Option.some.inj hf
        exact zg_vret C hz hk dX0_start_212
      · rw [if_neg hc] at hf
        refine lv_aload_n hx hb dX0_start_182 rfl (lv_at hl 0 rfl) ?_
        obtain ⟨hg, hf⟩ := gd_inv hf
        obtain ⟨y3, ey3, hf⟩ := bd_inv hf
        refine zg_callV gP C hz hr (n := 0) (rest := []) (gkp (by decide) hg) (met_X0_list l E ey3) q575 q577 (C.w qs11) q89 q578 (by decide +kernel) ⟨Nat.le_trans (by decide) hr.1, Nat.le_trans (by decide) hr.2.1⟩ rfl hl.1 rfl (Nat.le_of_ble_eq_true rfl) dX0_start_183 (fun H locs hz => ?_)
        refine zl_astore_o (lv' := [(5, va_rf y3), (0, .ref x0), (1, .int (zI x1)), (4, .ref x4)]) hx hb dX0_start_186 hl (by decide) rfl (fun ls hl => ?_)
        refine zl_aload_o hx hb dX0_start_188 (lv_at hl 0 rfl) ?_
        obtain ⟨a4, ea4, hf⟩ := bd_inv hf
        rw [zx_rf ea4] at hl ⊢
        obtain ⟨y5, ey5, hf⟩ := bd_inv hf
        refine zj_lLen C hz hr ey5 (rest := []) q549 q550 (C.w q551) q94 q552 hl.1 ⟨Nat.le_trans (by decide) hr.1, Nat.le_trans (by decide) hr.2.1⟩ (Nat.le_of_ble_eq_true rfl) dX0_start_190 (fun H locs hz => ?_)
        refine zl_iconst hx hb dX0_start_193 ?_
        refine zl_icmp_ne (tgt := 204) hx hb dX0_start_194 (by decide) (fun hc => ?_) (fun hc => ?_)
        · rw [if_pos hc] at hf
          refine lv_aload hx hb dX0_start_197 (lv_at hl 0 rfl) ?_
          refine zl_iconst hx hb dX0_start_199 ?_
          obtain ⟨y6, ey6, hf⟩ := bd_inv hf
          refine zj_lDel C hz hr ey6 (rest := []) q819 q820 (C.w q821) q94 q822 hl.1 ⟨Nat.le_trans (by decide) hr.1, Nat.le_trans (by decide) hr.2.1⟩ (Nat.le_of_ble_eq_true rfl) dX0_start_200 (fun H locs hz => ?_)
          refine lv_pop hx hb dX0_start_203 rfl ?_
          exact w_X0_start_204 C hr hf hz (lv_sub hl [3, 0] rfl) hk
        · rw [if_neg hc] at hf
          exact w_X0_start_204 C hr hf hz (lv_sub hl [3, 0] rfl) hk

theorem w_X0_start_115 {p : Program} {l : Launch} {e : Env} {R : Room} {s : State} {m : MethodId} {args : Array Value} {below : List Frame} {meth : Method} {c : Code} {Q : State → Prop} {E : PEw} {h0 h : HP} {H : Heap} {locs : List Loc} (C : PC E p s m args meth c RX0 cX0_start 6 none "start") (hr : 9 ≤ R.frames ∧ 223 ≤ R.locals ∧ RBw R h0) {x0 : Nat} {x1 : Int} {x3 : Int} {t0 : Option Nat} {res : HP} (hf : f_X0_start_115 h x0 x1 x3 t0 = some res) (hz : ZP E s h0 h H locs) {ls : Array Slot} (hl : lv_has ls 6 [(0, .ref x0), (1, .int (zI x1)), (3, .int (zI x3))]) (hk : KP E below args s Q h0 res none) : W p l e R s m args below meth c H locs (pX h - pX h0) (pS h - pS h0) Q (F0 m 115 ls [va_rf t0]) := by
  unfold f_X0_start_115 at hf
  have hx := C.1
  have hb := C.2.1
  refine zl_astore_o (lv' := [(4, va_rf t0), (0, .ref x0), (1, .int (zI x1)), (3, .int (zI x3))]) hx hb dX0_start_115 hl (by decide) rfl (fun ls hl => ?_)
  refine zl_aload_o hx hb dX0_start_117 (lv_at hl 0 rfl) ?_
  rcases nl_inv hf with ⟨ho, hf⟩ | ⟨a1, ho, hf⟩
  · rw [zx_nul ho]
    refine lv_ifnonnullN hx hb dX0_start_119 ?_
    obtain rfl := Option.some.inj hf
    exact zg_vret C hz hk dX0_start_122
  · rw [zx_rf ho] at hl ⊢
    refine lv_ifnonnull (tgt := 123) hx hb dX0_start_119 (by decide) ?_
    refine lv_iload_n hx hb dX0_start_123 rfl (lv_at hl 3 rfl) ?_
    refine zl_if_eq (tgt := 149) hx hb dX0_start_124 (by decide) (fun hc => ?_) (fun hc => ?_)
    · rw [if_pos hc] at hf
      refine lv_aload_n hx hb dX0_start_149 rfl (lv_at hl 1 rfl) ?_
      refine lv_aload hx hb dX0_start_150 (lv_at hl 0 rfl) ?_
      obtain ⟨hg, hf⟩ := gd_inv hf
      obtain ⟨y2, ey2, hf⟩ := bd_inv hf
      refine zg_callV gP C hz hr (n := 1) (rest := []) (gkp (by decide) hg) (met_X0_insert l E ey2) q673 q675 (C.w qs15) q89 q676 (by decide +kernel) ⟨Nat.le_trans (by decide) hr.1, Nat.le_trans (by decide) hr.2.1⟩ rfl hl.1 rfl (Nat.le_of_ble_eq_true rfl) dX0_start_152 (fun H locs hz => ?_)
      exact w_X0_start_155 C hr hf hz (lv_sub hl [1, 2, 0] rfl) hk
    · rw [if_neg hc] at hf
      refine lv_aload_n hx hb dX0_start_127 rfl (lv_at hl 1 rfl) ?_
      obtain ⟨hg, hf⟩ := gd_inv hf
      obtain ⟨y3, ey3, hf⟩ := bd_inv hf
      refine zg_callV gP C hz hr (n := 0) (rest := []) (gkp (by decide) hg) (met_X0_top l E ey3) q545 q547 (C.w qs9) q89 q548 (by decide +kernel) ⟨Nat.le_trans (by decide) hr.1, Nat.le_trans (by decide) hr.2.1⟩ rfl hl.1 rfl (Nat.le_of_ble_eq_true rfl) dX0_start_128 (fun H locs hz => ?_)
      refine lv_aload_n hx hb dX0_start_131 rfl (lv_at hl 1 rfl) ?_
      obtain ⟨hg, hf⟩ := gd_inv hf
      obtain ⟨y4, ey4, hf⟩ := bd_inv hf
      refine zg_callV gP C hz hr (n := 0) (rest := [.ref y3]) (gkp (by decide) hg) (met_X0_top l E ey4) q545 q547 (C.w qs9) q89 q548 (by decide +kernel) ⟨Nat.le_trans (by decide) hr.1, Nat.le_trans (by decide) hr.2.1⟩ rfl hl.1 rfl (Nat.le_of_ble_eq_true rfl) dX0_start_132 (fun H locs hz => ?_)
      obtain ⟨hg, hf⟩ := gd_inv hf
      refine zg_getp gP C hz 2 4 (gkp (by decide) hg) (by decide) (by decide) (Or.inr ⟨_, C.nw q166⟩) (fun _ h => h) dX0_start_135 ?_
      obtain ⟨a5, ea5, hf⟩ := bd_inv hf
      rw [zx_rf ea5]
      obtain ⟨y6, ey6, hf⟩ := bd_inv hf
      refine zj_lLen C hz hr ey6 (rest := [.ref y3]) q549 q550 (C.w q551) q94 q552 hl.1 ⟨Nat.le_trans (by decide) hr.1, Nat.le_trans (by decide) hr.2.1⟩ (Nat.le_of_ble_eq_true rfl) dX0_start_138 (fun H locs hz => ?_)
      refine lv_aload hx hb dX0_start_141 (lv_at hl 0 rfl) ?_
      obtain ⟨hg, hf⟩ := gd_inv hf
      obtain ⟨y7, ey7, hf⟩ := bd_inv hf
      refine zg_callV gP C hz hr (n := 2) (rest := []) (gkp (by decide) hg) (met_X2_put l E ey7) q687 q688 (C.w q689) q91 q690 (by decide +kernel) ⟨Nat.le_trans (by decide) hr.1, Nat.le_trans (by decide) hr.2.1⟩ rfl hl.1 rfl (Nat.le_of_ble_eq_true rfl) dX0_start_143 (fun H locs hz => ?_)
      refine lv_goto (tgt := 155) hx hb dX0_start_146 (by decide) ?_
      exact w_X0_start_155 C hr hf hz (lv_sub hl [1, 2, 0] rfl) hk

theorem w_X0_start_95 {p : Program} {l : Launch} {e : Env} {R : Room} {s : State} {m : MethodId} {args : Array Value} {below : List Frame} {meth : Method} {c : Code} {Q : State → Prop} {E : PEw} {h0 h : HP} {H : Heap} {locs : List Loc} (C : PC E p s m args meth c RX0 cX0_start 6 none "start") (hr : 9 ≤ R.frames ∧ 223 ≤ R.locals ∧ RBw R h0) {x0 : Nat} {x1 : Int} {x3 : Int} {res : HP} (hf : f_X0_start_95 h x0 x1 x3 = some res) (hz : ZP E s h0 h H locs) {ls : Array Slot} (hl : lv_has ls 6 [(0, .ref x0), (1, .int (zI x1)), (3, .int (zI x3))]) (hk : KP E below args s Q h0 res none) : W p l e R s m args below meth c H locs (pX h - pX h0) (pS h - pS h0) Q (F0 m 95 ls []) := by
  unfold f_X0_start_95 at hf
  have hx := C.1
  have hb := C.2.1
  refine lv_aload_n hx hb dX0_start_95 rfl (lv_at hl 0 rfl) ?_
  obtain ⟨hg, hf⟩ := gd_inv hf
  refine zg_geti gP C hz 1 7 (gkp (by decide) hg) (by decide) (by decide) (Or.inl (C.w q407)) (fun _ h => h) dX0_start_96 ?_
  refine zl_if_eq (tgt := 106) hx hb dX0_start_99 (by decide) (fun hc => ?_) (fun hc => ?_)
  · rw [if_pos hc] at hf
    refine lv_aload_n hx hb dX0_start_106 rfl (lv_at hl 0 rfl) ?_
    refine lv_iload_n hx hb dX0_start_107 rfl (lv_at hl 1 rfl) ?_
    refine lv_aload_n hx hb dX0_start_108 rfl (lv_at hl 0 rfl) ?_
    obtain ⟨hg, hf⟩ := gd_inv hf
    refine zg_geti gP C hz 1 11 (gkp (by decide) hg) (by decide) (by decide) (Or.inl (C.w q411)) (fun _ h => h) dX0_start_109 ?_
    obtain ⟨hg, hf⟩ := gd_inv hf
    obtain ⟨y1, ey1, hf⟩ := bd_inv hf
    refine zg_callV gP C hz hr (n := 2) (rest := []) (gkp (by decide) hg) (met_X0_element l E ey1) q665 q667 (C.w qs13) q89 q668 (by decide +kernel) ⟨Nat.le_trans (by decide) hr.1, Nat.le_trans (by decide) hr.2.1⟩ rfl hl.1 rfl (Nat.le_of_ble_eq_true rfl) dX0_start_112 (fun H locs hz => ?_)
    exact w_X0_start_115 C hr hf hz (lv_sub hl [0, 1, 2] rfl) hk
  · rw [if_neg hc] at hf
    refine lv_null hx hb dX0_start_102 ?_
    refine lv_goto (tgt := 115) hx hb dX0_start_103 (by decide) ?_
    exact w_X0_start_115 C hr hf hz (lv_sub hl [0, 1, 2] rfl) hk

theorem w_X0_start_83 {p : Program} {l : Launch} {e : Env} {R : Room} {s : State} {m : MethodId} {args : Array Value} {below : List Frame} {meth : Method} {c : Code} {Q : State → Prop} {E : PEw} {h0 h : HP} {H : Heap} {locs : List Loc} (C : PC E p s m args meth c RX0 cX0_start 6 none "start") (hr : 9 ≤ R.frames ∧ 223 ≤ R.locals ∧ RBw R h0) {x0 : Nat} {x1 : Int} {x2 : Int} {x3 : Int} {res : HP} (hf : f_X0_start_83 h x0 x1 x2 x3 = some res) (hz : ZP E s h0 h H locs) {ls : Array Slot} (hl : lv_has ls 6 [(0, .ref x0), (1, .int (zI x1)), (2, .int (zI x2)), (3, .int (zI x3))]) (hk : KP E below args s Q h0 res none) : W p l e R s m args below meth c H locs (pX h - pX h0) (pS h - pS h0) Q (F0 m 83 ls []) := by
  unfold f_X0_start_83 at hf
  have hx := C.1
  have hb := C.2.1
  refine lv_iload_n hx hb dX0_start_83 rfl (lv_at hl 2 rfl) ?_
  refine zl_if_ne (tgt := 95) hx hb dX0_start_84 (by decide) (fun hc => ?_) (fun hc => ?_)
  · rw [if_pos hc] at hf
    refine lv_iload_n hx hb dX0_start_87 rfl (lv_at hl 3 rfl) ?_
    refine zl_if_ne (tgt := 95) hx hb dX0_start_88 (by decide) (fun hc => ?_) (fun hc => ?_)
    · rw [if_pos hc] at hf
      refine lv_aload_n hx hb dX0_start_91 rfl (lv_at hl 0 rfl) ?_
      obtain ⟨hg, hf⟩ := gd_inv hf
      obtain ⟨y1, ey1, hf⟩ := bd_inv hf
      refine zg_callV gP C hz hr (n := 0) (rest := []) (gkp (by decide) hg) (met_X0_renew l E ey1) q571 q573 (C.w qs10) q89 q574 (by decide +kernel) ⟨Nat.le_trans (by decide) hr.1, Nat.le_trans (by decide) hr.2.1⟩ rfl hl.1 rfl (Nat.le_of_ble_eq_true rfl) dX0_start_92 (fun H locs hz => ?_)
      exact w_X0_start_95 C hr hf hz (lv_sub hl [0, 1, 3] rfl) hk
    · rw [if_neg hc] at hf
      exact w_X0_start_95 C hr hf hz (lv_sub hl [0, 1, 3] rfl) hk
  · rw [if_neg hc] at hf
    exact w_X0_start_95 C hr hf hz (lv_sub hl [0, 1, 3] rfl) hk

theorem w_X0_start_70 {p : Program} {l : Launch} {e : Env} {R : Room} {s : State} {m : MethodId} {args : Array Value} {below : List Frame} {meth : Method} {c : Code} {Q : State → Prop} {E : PEw} {h0 h : HP} {H : Heap} {locs : List Loc} (C : PC E p s m args meth c RX0 cX0_start 6 none "start") (hr : 9 ≤ R.frames ∧ 223 ≤ R.locals ∧ RBw R h0) {x0 : Nat} {x1 : Int} {x2 : Int} {x3 : Int} {res : HP} (hf : f_X0_start_70 h x0 x1 x2 x3 = some res) (hz : ZP E s h0 h H locs) {ls : Array Slot} (hl : lv_has ls 6 [(0, .ref x0), (1, .int (zI x1)), (2, .int (zI x2)), (3, .int (zI x3))]) (hk : KP E below args s Q h0 res none) : W p l e R s m args below meth c H locs (pX h - pX h0) (pS h - pS h0) Q (F0 m 70 ls []) := by
  unfold f_X0_start_70 at hf
  have hx := C.1
  have hb := C.2.1
  refine lv_iload_n hx hb dX0_start_70 rfl (lv_at hl 3 rfl) ?_
  refine zl_if_eq (tgt := 83) hx hb dX0_start_71 (by decide) (fun hc => ?_) (fun hc => ?_)
  · rw [if_pos hc] at hf
    exact w_X0_start_83 C hr hf hz (lv_sub hl [0, 1, 2, 3] rfl) hk
  · rw [if_neg hc] at hf
    refine lv_aload_n hx hb dX0_start_74 rfl (lv_at hl 0 rfl) ?_
    refine lv_iload_n hx hb dX0_start_75 rfl (lv_at hl 1 rfl) ?_
    obtain ⟨hg, hf⟩ := gd_inv hf
    obtain ⟨y1, ey1, hf⟩ := bd_inv hf
    refine zg_callV gP C hz hr (n := 1) (rest := []) (gkp (by decide) hg) (met_X0_ready l E ey1) q850 q852 (C.w qs26) q89 q853 (by decide +kernel) ⟨Nat.le_trans (by decide) hr.1, Nat.le_trans (by decide) hr.2.1⟩ rfl hl.1 rfl (Nat.le_of_ble_eq_true rfl) dX0_start_76 (fun H locs hz => ?_)
    refine zl_if_ne (tgt := 83) hx hb dX0_start_79 (by decide) (fun hc => ?_) (fun hc => ?_)
    · rw [if_pos hc] at hf
      obtain rfl := Option.some.inj hf
      exact zg_vret C hz hk dX0_start_82
    · rw [if_neg hc] at hf
      exact w_X0_start_83 C hr hf hz (lv_sub hl [0, 1, 2, 3] rfl) hk

theorem w_X0_start_51 {p : Program} {l : Launch} {e : Env} {R : Room} {s : State} {m : MethodId} {args : Array Value} {below : List Frame} {meth : Method} {c : Code} {Q : State → Prop} {E : PEw} {h0 h : HP} {H : Heap} {locs : List Loc} (C : PC E p s m args meth c RX0 cX0_start 6 none "start") (hr : 9 ≤ R.frames ∧ 223 ≤ R.locals ∧ RBw R h0) {x0 : Nat} {x1 : Int} {x2 : Int} {x3 : Int} {res : HP} (hf : f_X0_start_51 h x0 x1 x2 x3 = some res) (hz : ZP E s h0 h H locs) {ls : Array Slot} (hl : lv_has ls 6 [(0, .ref x0), (1, .int (zI x1)), (2, .int (zI x2)), (3, .int (zI x3))]) (hk : KP E below args s Q h0 res none) : W p l e R s m args below meth c H locs (pX h - pX h0) (pS h - pS h0) Q (F0 m 51 ls []) := by
  unfold f_X0_start_51 at hf
  have hx := C.1
  have hb := C.2.1
  refine lv_iload_n hx hb dX0_start_51 rfl (lv_at hl 1 rfl) ?_
  refine zl_bipush hx hb dX0_start_52 (by decide) ?_
  refine zl_icmp_ne (tgt := 70) hx hb dX0_start_54 (by decide) (fun hc => ?_) (fun hc => ?_)
  · rw [if_pos hc] at hf
    refine lv_aload_n hx hb dX0_start_57 rfl (lv_at hl 0 rfl) ?_
    refine lv_aload_n hx hb dX0_start_58 rfl (lv_at hl 0 rfl) ?_
    refine zl_bipush hx hb dX0_start_59 (by decide) ?_
    refine zc_strW C 2 (by decide) rfl rfl dX0_start_61 ?_
    obtain ⟨hg, hf⟩ := gd_inv hf
    obtain ⟨y1, ey1, hf⟩ := bd_inv hf
    refine zg_callV gP C hz hr (n := 2) (rest := [.ref x0]) (gkp (by decide) hg) (met_X0_reach l E ey1) q580 q582 (C.w qs12) q89 q583 (by decide +kernel) ⟨Nat.le_trans (by decide) hr.1, Nat.le_trans (by decide) hr.2.1⟩ rfl hl.1 rfl (Nat.le_of_ble_eq_true rfl) dX0_start_64 (fun H locs hz => ?_)
    obtain ⟨hg, hf⟩ := gd_inv hf
    obtain ⟨y2, ey2, hf⟩ := bd_inv hf
    refine zg_callV gP C hz hr (n := 1) (rest := []) (gkp (by decide) hg) (met_X0_closeTo l E ey2) q815 q817 (C.w qs21) q89 q818 (by decide +kernel) ⟨Nat.le_trans (by decide) hr.1, Nat.le_trans (by decide) hr.2.1⟩ rfl hl.1 rfl (Nat.le_of_ble_eq_true rfl) dX0_start_67 (fun H locs hz => ?_)
    exact w_X0_start_70 C hr hf hz (lv_sub hl [0, 1, 2, 3] rfl) hk
  · rw [if_neg hc] at hf
    exact w_X0_start_70 C hr hf hz (lv_sub hl [0, 1, 2, 3] rfl) hk

theorem w_X0_start_33 {p : Program} {l : Launch} {e : Env} {R : Room} {s : State} {m : MethodId} {args : Array Value} {below : List Frame} {meth : Method} {c : Code} {Q : State → Prop} {E : PEw} {h0 h : HP} {H : Heap} {locs : List Loc} (C : PC E p s m args meth c RX0 cX0_start 6 none "start") (hr : 9 ≤ R.frames ∧ 223 ≤ R.locals ∧ RBw R h0) {x0 : Nat} {x1 : Int} {x2 : Int} {t0 : Int} {res : HP} (hf : f_X0_start_33 h x0 x1 x2 t0 = some res) (hz : ZP E s h0 h H locs) {ls : Array Slot} (hl : lv_has ls 6 [(0, .ref x0), (1, .int (zI x1)), (2, .int (zI x2))]) (hk : KP E below args s Q h0 res none) : W p l e R s m args below meth c H locs (pX h - pX h0) (pS h - pS h0) Q (F0 m 33 ls [.int (zI t0)]) := by
  unfold f_X0_start_33 at hf
  have hx := C.1
  have hb := C.2.1
  refine lv_istore_n (lv' := [(3, .int (zI t0)), (0, .ref x0), (1, .int (zI x1)), (2, .int (zI x2))]) hx hb dX0_start_33 rfl hl (by decide) rfl (fun ls hl => ?_)
  refine lv_iload_n hx hb dX0_start_34 rfl (lv_at hl 3 rfl) ?_
  refine zl_if_eq (tgt := 51) hx hb dX0_start_35 (by decide) (fun hc => ?_) (fun hc => ?_)
  · rw [if_pos hc] at hf
    exact w_X0_start_51 C hr hf hz (lv_sub hl [1, 2, 3, 0] rfl) hk
  · rw [if_neg hc] at hf
    refine lv_aload_n hx hb dX0_start_38 rfl (lv_at hl 1 rfl) ?_
    refine lv_aload_n hx hb dX0_start_39 rfl (lv_at hl 1 rfl) ?_
    refine zl_bipush hx hb dX0_start_40 (by decide) ?_
    refine zc_strW C 1 (by decide) rfl rfl dX0_start_42 ?_
    obtain ⟨hg, hf⟩ := gd_inv hf
    obtain ⟨y1, ey1, hf⟩ := bd_inv hf
    refine zg_callV gP C hz hr (n := 2) (rest := [.ref x0]) (gkp (by decide) hg) (met_X0_reach l E ey1) q580 q582 (C.w qs12) q89 q583 (by decide +kernel) ⟨Nat.le_trans (by decide) hr.1, Nat.le_trans (by decide) hr.2.1⟩ rfl hl.1 rfl (Nat.le_of_ble_eq_true rfl) dX0_start_45 (fun H locs hz => ?_)
    obtain ⟨hg, hf⟩ := gd_inv hf
    obtain ⟨y2, ey2, hf⟩ := bd_inv hf
    refine zg_callV gP C hz hr (n := 1) (rest := []) (gkp (by decide) hg) (met_X0_closeTo l E ey2) q815 q817 (C.w qs21) q89 q818 (by decide +kernel) ⟨Nat.le_trans (by decide) hr.1, Nat.le_trans (by decide) hr.2.1⟩ rfl hl.1 rfl (Nat.le_of_ble_eq_true rfl) dX0_start_48 (fun H locs hz => ?_)
    exact w_X0_start_51 C hr hf hz (lv_sub hl [1, 2, 3, 0] rfl) hk

theorem w_X0_start_28 {p : Program} {l : Launch} {e : Env} {R : Room} {s : State} {m : MethodId} {args : Array Value} {below : List Frame} {meth : Method} {c : Code} {Q : State → Prop} {E : PEw} {h0 h : HP} {H : Heap} {locs : List Loc} (C : PC E p s m args meth c RX0 cX0_start 6 none "start") (hr : 9 ≤ R.frames ∧ 223 ≤ R.locals ∧ RBw R h0) {x0 : Nat} {x1 : Int} {x2 : Int} {res : HP} (hf : f_X0_start_28 h x0 x1 x2 = some res) (hz : ZP E s h0 h H locs) {ls : Array Slot} (hl : lv_has ls 6 [(0, .ref x0), (1, .int (zI x1)), (2, .int (zI x2))]) (hk : KP E below args s Q h0 res none) : W p l e R s m args below meth c H locs (pX h - pX h0) (pS h - pS h0) Q (F0 m 28 ls []) := by
  unfold f_X0_start_28 at hf
  have hx := C.1
  have hb := C.2.1
  refine zl_iconst hx hb dX0_start_28 ?_
  refine lv_goto (tgt := 33) hx hb dX0_start_29 (by decide) ?_
  exact w_X0_start_33 C hr hf hz (lv_sub hl [0, 1, 2] rfl) hk

theorem w_X0_start_15 {p : Program} {l : Launch} {e : Env} {R : Room} {s : State} {m : MethodId} {args : Array Value} {below : List Frame} {meth : Method} {c : Code} {Q : State → Prop} {E : PEw} {h0 h : HP} {H : Heap} {locs : List Loc} (C : PC E p s m args meth c RX0 cX0_start 6 none "start") (hr : 9 ≤ R.frames ∧ 223 ≤ R.locals ∧ RBw R h0) {x0 : Nat} {x1 : Int} {t0 : Int} {res : HP} (hf : f_X0_start_15 h x0 x1 t0 = some res) (hz : ZP E s h0 h H locs) {ls : Array Slot} (hl : lv_has ls 6 [(0, .ref x0), (1, .int (zI x1))]) (hk : KP E below args s Q h0 res none) : W p l e R s m args below meth c H locs (pX h - pX h0) (pS h - pS h0) Q (F0 m 15 ls [.int (zI t0)]) := by
  unfold f_X0_start_15 at hf
  have hx := C.1
  have hb := C.2.1
  refine lv_istore_n (lv' := [(2, .int (zI t0)), (0, .ref x0), (1, .int (zI x1))]) hx hb dX0_start_15 rfl hl (by decide) rfl (fun ls hl => ?_)
  refine lv_iload_n hx hb dX0_start_16 rfl (lv_at hl 2 rfl) ?_
  refine zl_bipush hx hb dX0_start_17 (by decide) ?_
  refine zl_icmp_eq (tgt := 28) hx hb dX0_start_19 (by decide) (fun hc => ?_) (fun hc => ?_)
  · rw [if_pos hc] at hf
    exact w_X0_start_28 C hr hf hz (lv_sub hl [1, 2, 0] rfl) hk
  · rw [if_neg hc] at hf
    refine lv_iload_n hx hb dX0_start_22 rfl (lv_at hl 2 rfl) ?_
    refine zl_bipush hx hb dX0_start_23 (by decide) ?_
    refine zl_icmp_ne (tgt := 32) hx hb dX0_start_25 (by decide) (fun hc => ?_) (fun hc => ?_)
    · rw [if_pos hc] at hf
      exact w_X0_start_28 C hr hf hz (lv_sub hl [1, 2, 0] rfl) hk
    · rw [if_neg hc] at hf
      refine zl_iconst hx hb dX0_start_32 ?_
      exact w_X0_start_33 C hr hf hz (lv_sub hl [1, 2, 0] rfl) hk

theorem w_X0_start {p : Program} {l : Launch} {e : Env} {R : Room} {s : State} {m : MethodId} {args : Array Value} {below : List Frame} {meth : Method} {c : Code} {Q : State → Prop} {E : PEw} {h0 h : HP} {H : Heap} {locs : List Loc} (C : PC E p s m args meth c RX0 cX0_start 6 none "start") (hr : 9 ≤ R.frames ∧ 223 ≤ R.locals ∧ RBw R h0) {x0 : Nat} {x1 : Int} {res : HP} (hf : f_X0_start h x0 x1 = some res) (hz : ZP E s h0 h H locs) {ls : Array Slot} (hl : lv_has ls 6 [(0, .ref x0), (1, .int (zI x1))]) (hk : KP E below args s Q h0 res none) : W p l e R s m args below meth c H locs (pX h - pX h0) (pS h - pS h0) Q (F0 m 0 ls []) := by
  unfold f_X0_start at hf
  have hx := C.1
  have hb := C.2.1
  refine zc_strW C 6 (by decide) rfl rfl dX0_start_0 ?_
  refine lv_iload_n hx hb dX0_start_3 rfl (lv_at hl 1 rfl) ?_
  obtain ⟨hg, hf⟩ := gd_inv hf
  obtain ⟨y1, ey1, hf⟩ := bd_inv hf
  refine zg_callQ gP C hz hr (n := 1) (rest := []) hg (met_J6_indexOf l E ey1) q584 q585 (C.w q586) q100 q587 (by decide +kernel) ⟨Nat.le_trans (by decide) hr.1, Nat.le_trans (by decide) hr.2.1⟩ rfl hl.1 rfl (Nat.le_of_ble_eq_true rfl) dX0_start_4 (fun H locs hz => ?_)
  refine zl_if_lt (tgt := 14) hx hb dX0_start_7 (by decide) (fun hc => ?_) (fun hc => ?_)
  · rw [if_pos hc] at hf
    refine zl_iconst hx hb dX0_start_14 ?_
    exact w_X0_start_15 C hr hf hz (lv_sub hl [0, 1] rfl) hk
  · rw [if_neg hc] at hf
    refine zl_iconst hx hb dX0_start_10 ?_
    refine lv_goto (tgt := 15) hx hb dX0_start_11 (by decide) ?_
    exact w_X0_start_15 C hr hf hz (lv_sub hl [0, 1] rfl) hk

theorem met_X0_start (l : Launch) (E : PEw) {h : HP} {x0 : Nat} {x1 : Int} {res : HP} (hf : f_X0_start h x0 x1 = some res) : Met l yX0_start (ws_ yX0_start cX0_start 6 none) (rmP h 9 223) (PP E h [.ref x0, .int (zI x1)]) (QP E h res none) (pX res - pX h) (pS res - pS h) (eF E) := by
  refine Met.ofW (cc := cX0_start) (maxL := 6) (ret := none) (by decide) rfl ?_
  intro p e s m args below meth c s₁ B hml hv
  obtain ⟨rfl, hP0⟩ := hv
  have hts := atoms_spec (ws := ws_ yX0_start cX0_start 6 none) B.pre
  have hts : ∀ w ∈ lw_all, w.before _ s = true := fun w h => hts w (List.mem_cons_of_mem _ h)
  have C : PC E p s m _ meth c RX0 cX0_start 6 none "start" := ⟨B.exec, B.bytes, B.returns, B.notSynchronized, hml, findClass_of_methodNamed B.named, hts, hP0.2, (name_of_methodNamed B.named B.method).1⟩
  have hz : ZP E s h h s.heap [] := ZG.start hP0.1
  have hl := lv_entry ([.ref x0, .int (zI x1)]) (n := 6) (Nat.le_of_ble_eq_true rfl)
  rw [lg_entry_eq]
  generalize (lg_sl ([.ref x0, .int (zI x1)]) ++ List.replicate (6 - (lg_sl ([.ref x0, .int (zI x1)])).length) Slot.unset).toArray = ls at hl ⊢
  have hl : lv_has ls 6 [(0, .ref x0), (1, .int (zI x1))] := hl
  refine W.cs (cells' := pX h - pX h) (slots' := pS h - pS h) (Nat.sub_self _).symm (Nat.sub_self _).symm ?_
  exact w_X0_start C ⟨Nat.le_refl _, Nat.le_refl _, RBw.rm⟩ hf hz hl rfl

theorem w_X0_inTag_44 {p : Program} {l : Launch} {e : Env} {R : Room} {s : State} {m : MethodId} {args : Array Value} {below : List Frame} {meth : Method} {c : Code} {Q : State → Prop} {E : PEw} {h0 h : HP} {H : Heap} {locs : List Loc} (C : PC E p s m args meth c RX0 cX0_inTag 3 none "inTag") (hr : 11 ≤ R.frames ∧ 276 ≤ R.locals ∧ RBw R h0) {x0 : Nat} {t0 : Int} {res : HP} (hf : f_X0_inTag_44 h x0 t0 = some res) (hz : ZP E s h0 h H locs) {ls : Array Slot} (hl : lv_has ls 3 [(0, .ref x0)]) (hk : KP E below args s Q h0 res none) : W p l e R s m args below meth c H locs (pX h - pX h0) (pS h - pS h0) Q (F0 m 44 ls [.int (zI t0)]) := by
  unfold f_X0_inTag_44 at hf
  have hx := C.1
  have hb := C.2.1
  refine lv_istore_n (lv' := [(2, .int (zI t0)), (0, .ref x0)]) hx hb dX0_inTag_44 rfl hl (by decide) rfl (fun ls hl => ?_)
  refine lv_aload_n hx hb dX0_inTag_45 rfl (lv_at hl 1 rfl) ?_
  refine zc_state C hz (n := 0) (o := 0) (by decide) (Or.inl (C.w q236)) rfl dX0_inTag_46 ?_
  obtain ⟨hg, hf⟩ := gd_inv hf
  obtain ⟨h1, eh1, hf⟩ := bnd_inv hf
  refine zg_pute gP C hz (gkp (by decide) hg) (by decide) (Or.inl (C.w q408)) dX0_inTag_49 eh1 (fun H locs hz => ?_)
  refine lv_iload_n hx hb dX0_inTag_52 rfl (lv_at hl 0 rfl) ?_
  refine zl_if_eq (tgt := 67) hx hb dX0_inTag_53 (by decide) (fun hc => ?_) (fun hc => ?_)
  · rw [if_pos hc] at hf
    refine lv_aload_n hx hb dX0_inTag_67 rfl (lv_at hl 1 rfl) ?_
    refine lv_aload_n hx hb dX0_inTag_68 rfl (lv_at hl 1 rfl) ?_
    obtain ⟨hg, hf⟩ := gd_inv hf
    refine zg_geti gP C hz 1 10 (gkp (by decide) hg) (by decide) (by decide) (Or.inl (C.w q410)) (fun _ h => h) dX0_inTag_69 ?_
    obtain ⟨hg, hf⟩ := gd_inv hf
    obtain ⟨y2, ey2, hf⟩ := bd_inv hf
    refine zg_callV gP C hz hr (n := 1) (rest := []) (gkp (by decide) hg) (met_X0_start l E ey2) q845 q847 (C.w qs25) q89 q848 (by decide +kernel) ⟨Nat.le_trans (by decide) hr.1, Nat.le_trans (by decide) hr.2.1⟩ rfl hl.1 rfl (Nat.le_of_ble_eq_true rfl) dX0_inTag_72 (fun H locs hz => ?_)
    obtain rfl := Option.some.inj hf
    exact zg_vret C hz hk dX0_inTag_75
  · rw [if_neg hc] at hf
    refine lv_aload_n hx hb dX0_inTag_56 rfl (lv_at hl 1 rfl) ?_
    refine lv_aload_n hx hb dX0_inTag_57 rfl (lv_at hl 1 rfl) ?_
    obtain ⟨hg, hf⟩ := gd_inv hf
    refine zg_geti gP C hz 1 10 (gkp (by decide) hg) (by decide) (by decide) (Or.inl (C.w q410)) (fun _ h => h) dX0_inTag_58 ?_
    obtain ⟨hg, hf⟩ := gd_inv hf
    obtain ⟨y3, ey3, hf⟩ := bd_inv hf
    refine zg_callV gP C hz hr (n := 1) (rest := []) (gkp (by decide) hg) (met_X0_end l E ey3) q810 q812 (C.w qs20) q89 q813 (by decide +kernel) ⟨Nat.le_trans (by decide) hr.1, Nat.le_trans (by decide) hr.2.1⟩ rfl hl.1 rfl (Nat.le_of_ble_eq_true rfl) dX0_inTag_61 (fun H locs hz => ?_)
    refine lv_goto (tgt := 75) hx hb dX0_inTag_64 (by decide) ?_
    obtain rfl := Option.some.inj hf
    exact zg_vret C hz hk dX0_inTag_75

theorem w_X0_inTag_22 {p : Program} {l : Launch} {e : Env} {R : Room} {s : State} {m : MethodId} {args : Array Value} {below : List Frame} {meth : Method} {c : Code} {Q : State → Prop} {E : PEw} {h0 h : HP} {H : Heap} {locs : List Loc} (C : PC E p s m args meth c RX0 cX0_inTag 3 none "inTag") (hr : 11 ≤ R.frames ∧ 276 ≤ R.locals ∧ RBw R h0) {x0 : Nat} {x1 : Int} {res : HP} (hf : f_X0_inTag_22 h x0 x1 = some res) (hz : ZP E s h0 h H locs) {ls : Array Slot} (hl : lv_has ls 3 [(0, .ref x0), (1, .int (zI x1))]) (hk : KP E below args s Q h0 res none) : W p l e R s m args below meth c H locs (pX h - pX h0) (pS h - pS h0) Q (F0 m 22 ls []) := by
  unfold f_X0_inTag_22 at hf
  have hx := C.1
  have hb := C.2.1
  refine lv_iload_n hx hb dX0_inTag_22 rfl (lv_at hl 1 rfl) ?_
  refine zl_bipush hx hb dX0_inTag_23 (by decide) ?_
  refine zl_icmp_eq (tgt := 29) hx hb dX0_inTag_25 (by decide) (fun hc => ?_) (fun hc => ?_)
  · rw [if_pos hc] at hf
    refine lv_aload_n hx hb dX0_inTag_29 rfl (lv_at hl 0 rfl) ?_
    obtain ⟨hg, hf⟩ := gd_inv hf
    obtain ⟨hv, hf⟩ := gd_inv hf
    refine zg_gete gP C hz (gkp (by decide) hg) hv (Or.inl (C.w q408)) dX0_inTag_30 ?_
    refine zc_state C hz (n := 4) (o := 4) (by decide) (Or.inl (C.w q801)) rfl dX0_inTag_33 ?_
    obtain ⟨hv, hf⟩ := gd_inv hf
    refine zc_acmp_ne C hv (by decide) (tgt := 43) dX0_inTag_36 (by decide) (fun hc => ?_) (fun hc => ?_)
    · rw [if_pos hc] at hf
      refine zl_iconst hx hb dX0_inTag_39 ?_
      refine lv_goto (tgt := 44) hx hb dX0_inTag_40 (by decide) ?_
      exact w_X0_inTag_44 C hr hf hz (lv_sub hl [0] rfl) hk
    · rw [if_neg hc] at hf
      refine zl_iconst hx hb dX0_inTag_43 ?_
      exact w_X0_inTag_44 C hr hf hz (lv_sub hl [0] rfl) hk
  · rw [if_neg hc] at hf
    obtain rfl := Option.some.inj hf
    exact zg_vret C hz hk dX0_inTag_28

theorem w_X0_inTag {p : Program} {l : Launch} {e : Env} {R : Room} {s : State} {m : MethodId} {args : Array Value} {below : List Frame} {meth : Method} {c : Code} {Q : State → Prop} {E : PEw} {h0 h : HP} {H : Heap} {locs : List Loc} (C : PC E p s m args meth c RX0 cX0_inTag 3 none "inTag") (hr : 11 ≤ R.frames ∧ 276 ≤ R.locals ∧ RBw R h0) {x0 : Nat} {x1 : Int} {res : HP} (hf : f_X0_inTag h x0 x1 = some res) (hz : ZP E s h0 h H locs) {ls : Array Slot} (hl : lv_has ls 3 [(0, .ref x0), (1, .int (zI x1))]) (hk : KP E below args s Q h0 res none) : W p l e R s m args below meth c H locs (pX h - pX h0) (pS h - pS h0) Q (F0 m 0 ls []) := by
  unfold f_X0_inTag at hf
  have hx := C.1
  have hb := C.2.1
  refine lv_iload_n hx hb dX0_inTag_0 rfl (lv_at hl 1 rfl) ?_
  obtain ⟨y1, ey1, hf⟩ := bd_inv hf
  refine zg_callS gP C hz hr (n := 1) (rest := []) (met_X0_capital l E ey1) q807 q808 q89 q809 (by decide +kernel) ⟨Nat.le_trans (by decide) hr.1, Nat.le_trans (by decide) hr.2.1⟩ rfl hl.1 rfl (Nat.le_of_ble_eq_true rfl) dX0_inTag_1 (fun H locs hz => ?_)
  refine zl_if_eq (tgt := 22) hx hb dX0_inTag_4 (by decide) (fun hc => ?_) (fun hc => ?_)
  · rw [if_pos hc] at hf
    exact w_X0_inTag_22 C hr hf hz (lv_sub hl [0, 1] rfl) hk
  · rw [if_neg hc] at hf
    refine lv_aload_n hx hb dX0_inTag_7 rfl (lv_at hl 0 rfl) ?_
    refine lv_dup hx hb dX0_inTag_8 rfl ?_
    obtain ⟨hg, hf⟩ := gd_inv hf
    refine zg_geti gP C hz 1 11 (gkp (by decide) hg) (by decide) (by decide) (Or.inl (C.w q411)) (fun _ h => h) dX0_inTag_9 ?_
    refine zl_iconst hx hb dX0_inTag_12 ?_
    refine lv_iload_n hx hb dX0_inTag_13 rfl (lv_at hl 1 rfl) ?_
    refine zl_bipush hx hb dX0_inTag_14 (by decide) ?_
    refine zl_isub hx hb dX0_inTag_16 ?_
    refine zl_ishl hx hb dX0_inTag_17 ?_
    refine zl_ior hx hb dX0_inTag_18 ?_
    obtain ⟨hg, hf⟩ := gd_inv hf
    obtain ⟨h2, eh2, hf⟩ := bnd_inv hf
    refine zg_puti gP C hz 1 11 (gkp (by decide) hg) (by decide) (by decide) rfl (by decide) (Or.inl (C.w q411)) (fun _ h => h) dX0_inTag_19 eh2 (fun H locs hz => ?_)
    exact w_X0_inTag_22 C hr hf hz (lv_sub hl [0, 1] rfl) hk

theorem met_X0_inTag (l : Launch) (E : PEw) {h : HP} {x0 : Nat} {x1 : Int} {res : HP} (hf : f_X0_inTag h x0 x1 = some res) : Met l yX0_inTag (ws_ yX0_inTag cX0_inTag 3 none) (rmP h 11 276) (PP E h [.ref x0, .int (zI x1)]) (QP E h res none) (pX res - pX h) (pS res - pS h) (eF E) := by
  refine Met.ofW (cc := cX0_inTag) (maxL := 3) (ret := none) (by decide) rfl ?_
  intro p e s m args below meth c s₁ B hml hv
  obtain ⟨rfl, hP0⟩ := hv
  have hts := atoms_spec (ws := ws_ yX0_inTag cX0_inTag 3 none) B.pre
  have hts : ∀ w ∈ lw_all, w.before _ s = true := fun w h => hts w (List.mem_cons_of_mem _ h)
  have C : PC E p s m _ meth c RX0 cX0_inTag 3 none "inTag" := ⟨B.exec, B.bytes, B.returns, B.notSynchronized, hml, findClass_of_methodNamed B.named, hts, hP0.2, (name_of_methodNamed B.named B.method).1⟩
  have hz : ZP E s h h s.heap [] := ZG.start hP0.1
  have hl := lv_entry ([.ref x0, .int (zI x1)]) (n := 3) (Nat.le_of_ble_eq_true rfl)
  rw [lg_entry_eq]
  generalize (lg_sl ([.ref x0, .int (zI x1)]) ++ List.replicate (3 - (lg_sl ([.ref x0, .int (zI x1)])).length) Slot.unset).toArray = ls at hl ⊢
  have hl : lv_has ls 3 [(0, .ref x0), (1, .int (zI x1))] := hl
  refine W.cs (cells' := pX h - pX h) (slots' := pS h - pS h) (Nat.sub_self _).symm (Nat.sub_self _).symm ?_
  exact w_X0_inTag C ⟨Nat.le_refl _, Nat.le_refl _, RBw.rm⟩ hf hz hl rfl

theorem w_X0_and_18 {p : Program} {l : Launch} {e : Env} {R : Room} {s : State} {m : MethodId} {args : Array Value} {below : List Frame} {meth : Method} {c : Code} {Q : State → Prop} {E : PEw} {h0 h : HP} {H : Heap} {locs : List Loc} (C : PC E p s m args meth c RX0 cX0_and 2 none "and") (hr : 11 ≤ R.frames ∧ 268 ≤ R.locals ∧ RBw R h0) {x0 : Nat} {x1 : Int} {res : HP} (hf : f_X0_and_18 h x0 x1 = some res) (hz : ZP E s h0 h H locs) {ls : Array Slot} (hl : lv_has ls 2 [(0, .ref x0), (1, .int (zI x1))]) (hk : KP E below args s Q h0 res none) : W p l e R s m args below meth c H locs (pX h - pX h0) (pS h - pS h0) Q (F0 m 18 ls []) := by
  unfold f_X0_and_18 at hf
  have hx := C.1
  have hb := C.2.1
  refine lv_aload_n hx hb dX0_and_18 rfl (lv_at hl 0 rfl) ?_
  refine lv_iload_n hx hb dX0_and_19 rfl (lv_at hl 1 rfl) ?_
  obtain ⟨hg, hf⟩ := gd_inv hf
  obtain ⟨hv, hf⟩ := gd_inv hf
  obtain ⟨h1, eh1, hf⟩ := bnd_inv hf
  refine zg_putc gP C hz 1 10 (gkp (by decide) hg) (by decide) (by decide) rfl (by decide) hv (Or.inl (C.w q410)) (fun _ h => h) dX0_and_20 eh1 (fun H locs hz => ?_)
  refine lv_aload_n hx hb dX0_and_23 rfl (lv_at hl 0 rfl) ?_
  refine zc_state C hz (n := 7) (o := 7) (by decide) (Or.inl (C.w q863)) rfl dX0_and_24 ?_
  obtain ⟨hg, hf⟩ := gd_inv hf
  obtain ⟨h2, eh2, hf⟩ := bnd_inv hf
  refine zg_pute gP C hz (gkp (by decide) hg) (by decide) (Or.inl (C.w q408)) dX0_and_27 eh2 (fun H locs hz => ?_)
  refine lv_goto (tgt := 44) hx hb dX0_and_30 (by decide) ?_
  obtain rfl := Option.some.inj hf
  exact zg_vret C hz hk dX0_and_44

theorem w_X0_and {p : Program} {l : Launch} {e : Env} {R : Room} {s : State} {m : MethodId} {args : Array Value} {below : List Frame} {meth : Method} {c : Code} {Q : State → Prop} {E : PEw} {h0 h : HP} {H : Heap} {locs : List Loc} (C : PC E p s m args meth c RX0 cX0_and 2 none "and") (hr : 11 ≤ R.frames ∧ 268 ≤ R.locals ∧ RBw R h0) {x0 : Nat} {x1 : Int} {res : HP} (hf : f_X0_and h x0 x1 = some res) (hz : ZP E s h0 h H locs) {ls : Array Slot} (hl : lv_has ls 2 [(0, .ref x0), (1, .int (zI x1))]) (hk : KP E below args s Q h0 res none) : W p l e R s m args below meth c H locs (pX h - pX h0) (pS h - pS h0) Q (F0 m 0 ls []) := by
  unfold f_X0_and at hf
  have hx := C.1
  have hb := C.2.1
  refine lv_iload_n hx hb dX0_and_0 rfl (lv_at hl 1 rfl) ?_
  refine zl_bipush hx hb dX0_and_1 (by decide) ?_
  refine zl_icmp_eq (tgt := 18) hx hb dX0_and_3 (by decide) (fun hc => ?_) (fun hc => ?_)
  · rw [if_pos hc] at hf
    exact w_X0_and_18 C hr hf hz (lv_sub hl [0, 1] rfl) hk
  · rw [if_neg hc] at hf
    refine lv_iload_n hx hb dX0_and_6 rfl (lv_at hl 1 rfl) ?_
    refine zl_bipush hx hb dX0_and_7 (by decide) ?_
    refine zl_icmp_eq (tgt := 18) hx hb dX0_and_9 (by decide) (fun hc => ?_) (fun hc => ?_)
    · rw [if_pos hc] at hf
      exact w_X0_and_18 C hr hf hz (lv_sub hl [0, 1] rfl) hk
    · rw [if_neg hc] at hf
      refine lv_iload_n hx hb dX0_and_12 rfl (lv_at hl 1 rfl) ?_
      refine zl_bipush hx hb dX0_and_13 (by decide) ?_
      refine zl_icmp_ne (tgt := 33) hx hb dX0_and_15 (by decide) (fun hc => ?_) (fun hc => ?_)
      · rw [if_pos hc] at hf
        exact w_X0_and_18 C hr hf hz (lv_sub hl [0, 1] rfl) hk
      · rw [if_neg hc] at hf
        refine lv_aload_n hx hb dX0_and_33 rfl (lv_at hl 0 rfl) ?_
        refine zl_bipush hx hb dX0_and_34 (by decide) ?_
        obtain ⟨hg, hf⟩ := gd_inv hf
        obtain ⟨y1, ey1, hf⟩ := bd_inv hf
        refine zg_callV gP C hz hr (n := 1) (rest := []) (gkp (by decide) hg) (met_X0_character l E ey1) q541 q543 (C.w qs8) q89 q544 (by decide +kernel) ⟨Nat.le_trans (by decide) hr.1, Nat.le_trans (by decide) hr.2.1⟩ rfl hl.1 rfl (Nat.le_of_ble_eq_true rfl) dX0_and_36 (fun H locs hz => ?_)
        refine lv_aload_n hx hb dX0_and_39 rfl (lv_at hl 0 rfl) ?_
        refine lv_iload_n hx hb dX0_and_40 rfl (lv_at hl 1 rfl) ?_
        obtain ⟨hg, hf⟩ := gd_inv hf
        obtain ⟨y2, ey2, hf⟩ := bd_inv hf
        refine zg_callV gP C hz hr (n := 1) (rest := []) (gkp (by decide) hg) (met_X0_plain l E ey2) q533 q535 (C.w qs7) q89 q536 (by decide +kernel) ⟨Nat.le_trans (by decide) hr.1, Nat.le_trans (by decide) hr.2.1⟩ rfl hl.1 rfl (Nat.le_of_ble_eq_true rfl) dX0_and_41 (fun H locs hz => ?_)
        obtain rfl := Option.some.inj hf
        exact zg_vret C hz hk dX0_and_44

theorem met_X0_and (l : Launch) (E : PEw) {h : HP} {x0 : Nat} {x1 : Int} {res : HP} (hf : f_X0_and h x0 x1 = some res) : Met l yX0_and (ws_ yX0_and cX0_and 2 none) (rmP h 11 268) (PP E h [.ref x0, .int (zI x1)]) (QP E h res none) (pX res - pX h) (pS res - pS h) (eF E) := by
  refine Met.ofW (cc := cX0_and) (maxL := 2) (ret := none) (by decide) rfl ?_
  intro p e s m args below meth c s₁ B hml hv
  obtain ⟨rfl, hP0⟩ := hv
  have hts := atoms_spec (ws := ws_ yX0_and cX0_and 2 none) B.pre
  have hts : ∀ w ∈ lw_all, w.before _ s = true := fun w h => hts w (List.mem_cons_of_mem _ h)
  have C : PC E p s m _ meth c RX0 cX0_and 2 none "and" := ⟨B.exec, B.bytes, B.returns, B.notSynchronized, hml, findClass_of_methodNamed B.named, hts, hP0.2, (name_of_methodNamed B.named B.method).1⟩
  have hz : ZP E s h h s.heap [] := ZG.start hP0.1
  have hl := lv_entry ([.ref x0, .int (zI x1)]) (n := 2) (Nat.le_of_ble_eq_true rfl)
  rw [lg_entry_eq]
  generalize (lg_sl ([.ref x0, .int (zI x1)]) ++ List.replicate (2 - (lg_sl ([.ref x0, .int (zI x1)])).length) Slot.unset).toArray = ls at hl ⊢
  have hl : lv_has ls 2 [(0, .ref x0), (1, .int (zI x1))] := hl
  refine W.cs (cells' := pX h - pX h) (slots' := pS h - pS h) (Nat.sub_self _).symm (Nat.sub_self _).symm ?_
  exact w_X0_and C ⟨Nat.le_refl _, Nat.le_refl _, RBw.rm⟩ hf hz hl rfl

