set_option maxRecDepth 100000
theorem w_selector_343 {p : Program} {l : Launch} {e : Env} {R : Room} {s : State} {m : MethodId} {args : Array Value} {below : List Frame} {meth : Method} {c : Code} {Q : State → Prop} {D : va_G} {cI cZ : ClassId} {mo : Nat} {ad : Nat → Nat} {H : Heap} {locs : List Loc} {M : MS} (C : MC p s m args meth c D cI cZ cX5_selector 9 (some .boolean)) (hR : 1 ≤ R.frames ∧ 23 ≤ R.locals) {x2 x3 x4 x5 t0 : Int} {res : (MS × Int × Int × Int) ⊕ (MS × Int)} (hf : m_selector_343 M x2 x3 x4 x5 t0 = some res) (hZ : ZM D cI cZ mo ad s.heap M H locs) {ls : Array Slot} (hl : lv_has ls 9 [(0, .ref mo), (2, .int (zI x2)), (3, .int (zI x3)), (4, .int (zI x4)), (5, .int (zI x5))]) (hK : (Sum.elim (fun z => ∀ (H : Heap) (locs : List Loc) (ls : Array Slot), ZM D cI cZ mo ad s.heap z.1 H locs → lv_has ls 9 [(0, .ref mo), (2, .int (zI x2)), (3, .int (zI x3)), (4, .int (zI z.2.1)), (5, .int (zI z.2.2.1)), (6, .int (zI z.2.2.2))] → W p l e R s m args below meth c H locs 0 0 Q (F0 m 33 ls [])) (fun r => KM below D cI cZ mo ad args s Q r.1 (some (.int (zI r.2))))) res) : W p l e R s m args below meth c H locs 0 0 Q (F0 m 343 ls [.int (zI t0)]) := by
  unfold m_selector_343 at hf
  have hx := C.1
  have hb := C.2.1
  have hts := C.2.2.2.2.2.2.1
  refine lv_istore (lv' := [(6, .int (zI t0)), (0, .ref mo), (2, .int (zI x2)), (3, .int (zI x3)), (4, .int (zI x4)), (5, .int (zI x5))]) hx hb dX5_selector_343 hl (by decide) rfl (fun ls hl => ?_)
  refine lv_goto (tgt := 33) hx hb dX5_selector_345 (by decide) ?_
  obtain rfl := Option.some.inj hf
  exact hK _ _ _ hZ (lv_sub hl [1, 2, 3, 4, 5, 0] rfl)

theorem w_selector_324 {p : Program} {l : Launch} {e : Env} {R : Room} {s : State} {m : MethodId} {args : Array Value} {below : List Frame} {meth : Method} {c : Code} {Q : State → Prop} {D : va_G} {cI cZ : ClassId} {mo : Nat} {ad : Nat → Nat} {H : Heap} {locs : List Loc} {M : MS} (C : MC p s m args meth c D cI cZ cX5_selector 9 (some .boolean)) (hR : 1 ≤ R.frames ∧ 23 ≤ R.locals) {x2 x3 x4 x5 x8 : Int} {res : (MS × Int × Int × Int) ⊕ (MS × Int)} (hf : m_selector_324 M x2 x3 x4 x5 x8 = some res) (hZ : ZM D cI cZ mo ad s.heap M H locs) {ls : Array Slot} (hl : lv_has ls 9 [(0, .ref mo), (2, .int (zI x2)), (3, .int (zI x3)), (4, .int (zI x4)), (5, .int (zI x5)), (8, .int (zI x8))]) (hK : (Sum.elim (fun z => ∀ (H : Heap) (locs : List Loc) (ls : Array Slot), ZM D cI cZ mo ad s.heap z.1 H locs → lv_has ls 9 [(0, .ref mo), (2, .int (zI x2)), (3, .int (zI x3)), (4, .int (zI z.2.1)), (5, .int (zI z.2.2.1)), (6, .int (zI z.2.2.2))] → W p l e R s m args below meth c H locs 0 0 Q (F0 m 33 ls [])) (fun r => KM below D cI cZ mo ad args s Q r.1 (some (.int (zI r.2))))) res) : W p l e R s m args below meth c H locs 0 0 Q (F0 m 324 ls []) := by
  unfold m_selector_324 at hf
  have hx := C.1
  have hb := C.2.1
  have hts := C.2.2.2.2.2.2.1
  refine lv_iload hx hb dX5_selector_324 (lv_at hl 4 rfl) ?_
  refine zl_if_eq (tgt := 341) hx hb dX5_selector_326 (by decide) (fun hc => ?_) (fun hc => ?_)
  · rw [if_pos hc] at hf
    refine lv_iload hx hb dX5_selector_341 (lv_at hl 5 rfl) ?_
    exact w_selector_343 C hR hf hZ (lv_sub hl [0, 1, 2, 3, 4] rfl) hK
  · rw [if_neg hc] at hf
    refine lv_aload_n hx hb dX5_selector_329 rfl (lv_at hl 0 rfl) ?_
    refine lv_iload hx hb dX5_selector_330 (lv_at hl 5 rfl) ?_
    refine zl_iconst hx hb dX5_selector_332 ?_
    refine zl_iadd hx hb dX5_selector_333 ?_
    refine lv_iload_n hx hb dX5_selector_334 rfl (lv_at hl 1 rfl) ?_
    obtain ⟨y16, ey16, hf⟩ := bd_inv hf
    refine zm_callV C hZ (n := 2) (rest := []) (met_blanks l D cI cZ mo ad ey16) (lw_V q1500 q1502 qs69 q107 q1503) rfl rfl (by decide +kernel) ⟨Nat.le_trans (by decide) hR.1, Nat.le_trans (by decide) hR.2⟩ rfl hl.1 rfl (Nat.le_of_ble_eq_true rfl) dX5_selector_335 (fun H locs hZ => ?_)
    refine lv_goto (tgt := 343) hx hb dX5_selector_338 (by decide) ?_
    exact w_selector_343 C hR hf hZ (lv_sub hl [0, 1, 2, 3, 4] rfl) hK

theorem w_selector_308 {p : Program} {l : Launch} {e : Env} {R : Room} {s : State} {m : MethodId} {args : Array Value} {below : List Frame} {meth : Method} {c : Code} {Q : State → Prop} {D : va_G} {cI cZ : ClassId} {mo : Nat} {ad : Nat → Nat} {H : Heap} {locs : List Loc} {M : MS} (C : MC p s m args meth c D cI cZ cX5_selector 9 (some .boolean)) (hR : 1 ≤ R.frames ∧ 23 ≤ R.locals) {x2 x3 x4 x6 x8 t0 : Int} {res : (MS × Int × Int × Int) ⊕ (MS × Int)} (hf : m_selector_308 M x2 x3 x4 x6 x8 t0 = some res) (hZ : ZM D cI cZ mo ad s.heap M H locs) {ls : Array Slot} (hl : lv_has ls 9 [(0, .ref mo), (2, .int (zI x2)), (3, .int (zI x3)), (4, .int (zI x4)), (6, .int (zI x6)), (8, .int (zI x8))]) (hK : (Sum.elim (fun z => ∀ (H : Heap) (locs : List Loc) (ls : Array Slot), ZM D cI cZ mo ad s.heap z.1 H locs → lv_has ls 9 [(0, .ref mo), (2, .int (zI x2)), (3, .int (zI x3)), (4, .int (zI z.2.1)), (5, .int (zI z.2.2.1)), (6, .int (zI z.2.2.2))] → W p l e R s m args below meth c H locs 0 0 Q (F0 m 33 ls [])) (fun r => KM below D cI cZ mo ad args s Q r.1 (some (.int (zI r.2))))) res) : W p l e R s m args below meth c H locs 0 0 Q (F0 m 308 ls [.int (zI t0)]) := by
  unfold m_selector_308 at hf
  have hx := C.1
  have hb := C.2.1
  have hts := C.2.2.2.2.2.2.1
  refine lv_istore (lv' := [(5, .int (zI t0)), (0, .ref mo), (2, .int (zI x2)), (3, .int (zI x3)), (4, .int (zI x4)), (6, .int (zI x6)), (8, .int (zI x8))]) hx hb dX5_selector_308 hl (by decide) rfl (fun ls hl => ?_)
  refine lv_iload hx hb dX5_selector_310 (lv_at hl 0 rfl) ?_
  refine zl_if_ne (tgt := 324) hx hb dX5_selector_312 (by decide) (fun hc => ?_) (fun hc => ?_)
  · rw [if_pos hc] at hf
    refine lv_iload hx hb dX5_selector_315 (lv_at hl 6 rfl) ?_
    refine lv_iload hx hb dX5_selector_317 (lv_at hl 5 rfl) ?_
    refine zl_icmp_ne (tgt := 324) hx hb dX5_selector_319 (by decide) (fun hc => ?_) (fun hc => ?_)
    · rw [if_pos hc] at hf
      refine zl_iconst hx hb dX5_selector_322 ?_
      obtain rfl := Option.some.inj hf
      exact zm_zret C hZ zisB_0 hK dX5_selector_323
    · rw [if_neg hc] at hf
      exact w_selector_324 C hR hf hZ (lv_sub hl [1, 2, 3, 4, 0, 6] rfl) hK
  · rw [if_neg hc] at hf
    exact w_selector_324 C hR hf hZ (lv_sub hl [1, 2, 3, 4, 0, 6] rfl) hK

theorem w_selector_254 {p : Program} {l : Launch} {e : Env} {R : Room} {s : State} {m : MethodId} {args : Array Value} {below : List Frame} {meth : Method} {c : Code} {Q : State → Prop} {D : va_G} {cI cZ : ClassId} {mo : Nat} {ad : Nat → Nat} {H : Heap} {locs : List Loc} {M : MS} (C : MC p s m args meth c D cI cZ cX5_selector 9 (some .boolean)) (hR : 1 ≤ R.frames ∧ 23 ≤ R.locals) {x2 x3 x4 x6 x7 : Int} {res : (MS × Int × Int × Int) ⊕ (MS × Int)} (hf : m_selector_254 M x2 x3 x4 x6 x7 = some res) (hZ : ZM D cI cZ mo ad s.heap M H locs) {ls : Array Slot} (hl : lv_has ls 9 [(0, .ref mo), (2, .int (zI x2)), (3, .int (zI x3)), (4, .int (zI x4)), (6, .int (zI x6)), (7, .int (zI x7))]) (hK : (Sum.elim (fun z => ∀ (H : Heap) (locs : List Loc) (ls : Array Slot), ZM D cI cZ mo ad s.heap z.1 H locs → lv_has ls 9 [(0, .ref mo), (2, .int (zI x2)), (3, .int (zI x3)), (4, .int (zI z.2.1)), (5, .int (zI z.2.2.1)), (6, .int (zI z.2.2.2))] → W p l e R s m args below meth c H locs 0 0 Q (F0 m 33 ls [])) (fun r => KM below D cI cZ mo ad args s Q r.1 (some (.int (zI r.2))))) res) : W p l e R s m args below meth c H locs 0 0 Q (F0 m 254 ls []) := by
  unfold m_selector_254 at hf
  have hx := C.1
  have hb := C.2.1
  have hts := C.2.2.2.2.2.2.1
  refine lv_iload hx hb dX5_selector_254 (lv_at hl 4 rfl) ?_
  refine lv_iload hx hb dX5_selector_256 (lv_at hl 5 rfl) ?_
  refine zl_icmp_ne (tgt := 263) hx hb dX5_selector_258 (by decide) (fun hc => ?_) (fun hc => ?_)
  · rw [if_pos hc] at hf
    refine zl_iconst hx hb dX5_selector_261 ?_
    obtain rfl := Option.some.inj hf
    exact zm_zret C hZ zisB_0 hK dX5_selector_262
  · rw [if_neg hc] at hf
    refine zl_iinc (x := x4) (n := 1) (lv' := [(4, .int (zI (x4 + 1))), (0, .ref mo), (2, .int (zI x2)), (3, .int (zI x3)), (6, .int (zI x6)), (7, .int (zI x7))]) (k := 3) hx hb dX5_selector_263 hl rfl (by decide) rfl (fun ls hl => ?_)
    refine lv_aload_n hx hb dX5_selector_266 rfl (lv_at hl 1 rfl) ?_
    refine zm_geta C hZ 26 (by decide) (by decide) q1167 dX5_selector_267 ?_
    refine lv_iload_n hx hb dX5_selector_270 rfl (lv_at hl 3 rfl) ?_
    refine lv_iload hx hb dX5_selector_271 (lv_at hl 0 rfl) ?_
    obtain ⟨hg, hf⟩ := gd_inv hf
    obtain ⟨M14, eM14, hf⟩ := bnd_inv hf
    refine zm_iast C hZ 26 (by decide) rfl rfl hg dX5_selector_273 (fun H locs hZ => ?_)
    rw [← eM14] at hZ
    refine lv_aload_n hx hb dX5_selector_274 rfl (lv_at hl 1 rfl) ?_
    refine lv_iload hx hb dX5_selector_275 (lv_at hl 4 rfl) ?_
    refine lv_iload_n hx hb dX5_selector_277 rfl (lv_at hl 2 rfl) ?_
    obtain ⟨y15, ey15, hf⟩ := bd_inv hf
    refine zm_callV C hZ (n := 2) (rest := []) (met_blanks l D cI cZ mo ad ey15) (lw_V q1500 q1502 qs69 q107 q1503) rfl rfl (by decide +kernel) ⟨Nat.le_trans (by decide) hR.1, Nat.le_trans (by decide) hR.2⟩ rfl hl.1 rfl (Nat.le_of_ble_eq_true rfl) dX5_selector_278 (fun H locs hZ => ?_)
    refine lv_istore (lv' := [(8, .int (zI y15)), (4, .int (zI (x4 + 1))), (0, .ref mo), (2, .int (zI x2)), (3, .int (zI x3)), (6, .int (zI x6)), (7, .int (zI x7))]) hx hb dX5_selector_281 hl (by decide) rfl (fun ls hl => ?_)
    refine lv_iload hx hb dX5_selector_283 (lv_at hl 0 rfl) ?_
    refine lv_iload_n hx hb dX5_selector_285 rfl (lv_at hl 3 rfl) ?_
    refine zl_icmp_ne (tgt := 291) hx hb dX5_selector_286 (by decide) (fun hc => ?_) (fun hc => ?_)
    · rw [if_pos hc] at hf
      refine zl_iconst hx hb dX5_selector_289 ?_
      obtain rfl := Option.some.inj hf
      exact zm_zret C hZ zisB_1 hK dX5_selector_290
    · rw [if_neg hc] at hf
      refine lv_aload_n hx hb dX5_selector_291 rfl (lv_at hl 2 rfl) ?_
      refine zm_geta C hZ 3 (by decide) (by decide) q1144 dX5_selector_292 ?_
      refine lv_iload hx hb dX5_selector_295 (lv_at hl 0 rfl) ?_
      obtain ⟨hg, hf⟩ := gd_inv hf
      refine zm_iald C hZ 3 (by decide) rfl rfl hg dX5_selector_297 ?_
      refine zl_bipush hx hb dX5_selector_298 (by decide) ?_
      refine zl_icmp_ne (tgt := 307) hx hb dX5_selector_300 (by decide) (fun hc => ?_) (fun hc => ?_)
      · rw [if_pos hc] at hf
        refine zl_iconst hx hb dX5_selector_303 ?_
        refine lv_goto (tgt := 308) hx hb dX5_selector_304 (by decide) ?_
        exact w_selector_308 C hR hf hZ (lv_sub hl [2, 3, 4, 1, 5, 0] rfl) hK
      · rw [if_neg hc] at hf
        refine zl_iconst hx hb dX5_selector_307 ?_
        exact w_selector_308 C hR hf hZ (lv_sub hl [2, 3, 4, 1, 5, 0] rfl) hK

theorem w_selector_184s {p : Program} {l : Launch} {e : Env} {R : Room} {s : State} {m : MethodId} {args : Array Value} {below : List Frame} {meth : Method} {c : Code} {Q : State → Prop} {D : va_G} {cI cZ : ClassId} {mo : Nat} {ad : Nat → Nat} {H : Heap} {locs : List Loc} {M : MS} (C : MC p s m args meth c D cI cZ cX5_selector 9 (some .boolean)) (hR : 1 ≤ R.frames ∧ 23 ≤ R.locals) {x2 x3 x4 x6 x7 : Int} {res : (MS × Int) ⊕ ((MS × Int × Int × Int) ⊕ (MS × Int))} (hf : m_selector_184s M x2 x3 x4 x6 x7 = some res) (hZ : ZM D cI cZ mo ad s.heap M H locs) {ls : Array Slot} (hl : lv_has ls 9 [(0, .ref mo), (2, .int (zI x2)), (3, .int (zI x3)), (4, .int (zI x4)), (6, .int (zI x6)), (7, .int (zI x7))]) (hK : (Sum.elim (fun z => ∀ (H : Heap) (locs : List Loc) (ls : Array Slot), ZM D cI cZ mo ad s.heap z.1 H locs → lv_has ls 9 [(0, .ref mo), (2, .int (zI x2)), (3, .int (zI x3)), (4, .int (zI x4)), (6, .int (zI z.2)), (7, .int (zI x7))] → W p l e R s m args below meth c H locs 0 0 Q (F0 m 184 ls [])) (Sum.elim (fun z => ∀ (H : Heap) (locs : List Loc) (ls : Array Slot), ZM D cI cZ mo ad s.heap z.1 H locs → lv_has ls 9 [(0, .ref mo), (2, .int (zI x2)), (3, .int (zI x3)), (4, .int (zI z.2.1)), (5, .int (zI z.2.2.1)), (6, .int (zI z.2.2.2))] → W p l e R s m args below meth c H locs 0 0 Q (F0 m 33 ls [])) (fun r => KM below D cI cZ mo ad args s Q r.1 (some (.int (zI r.2)))))) res) : W p l e R s m args below meth c H locs 0 0 Q (F0 m 184 ls []) := by
  unfold m_selector_184s at hf
  have hx := C.1
  have hb := C.2.1
  have hts := C.2.2.2.2.2.2.1
  refine lv_iload hx hb dX5_selector_184 (lv_at hl 4 rfl) ?_
  refine lv_iload_n hx hb dX5_selector_186 rfl (lv_at hl 1 rfl) ?_
  refine zl_icmp_ge (tgt := 254) hx hb dX5_selector_187 (by decide) (fun hc => ?_) (fun hc => ?_)
  · rw [if_pos hc] at hf
    refine lv_aload_n hx hb dX5_selector_190 rfl (lv_at hl 0 rfl) ?_
    refine zm_geta C hZ 3 (by decide) (by decide) q1144 dX5_selector_191 ?_
    refine lv_iload hx hb dX5_selector_194 (lv_at hl 4 rfl) ?_
    obtain ⟨hg, hf⟩ := gd_inv hf
    refine zm_iald C hZ 3 (by decide) rfl rfl hg dX5_selector_196 ?_
    obtain ⟨y13, ey13, hf⟩ := bd_inv hf
    refine zm_callS C (n := 1) (rest := []) (met_capital l ey13) (lw_S q1340 q1341 q107 q1342) rfl rfl (by decide +kernel) ⟨Nat.le_trans (by decide) hR.1, Nat.le_trans (by decide) hR.2⟩ rfl hl.1 rfl (Nat.le_of_ble_eq_true rfl) dX5_selector_197 (Nat.zero_le _) (Nat.zero_le _) ?_
    refine zl_if_eq (tgt := 254) hx hb dX5_selector_200 (by decide) (fun hc => ?_) (fun hc => ?_)
    · rw [if_pos hc] at hf
      obtain ⟨r0, hm0, rfl⟩ := mr_inv hf
      exact w_selector_254 C hR hm0 hZ (lv_sub hl [0, 1, 2, 3, 4, 5] rfl) hK
    · rw [if_neg hc] at hf
      refine lv_aload_n hx hb dX5_selector_203 rfl (lv_at hl 0 rfl) ?_
      refine zm_geta C hZ 24 (by decide) (by decide) q1165 dX5_selector_204 ?_
      refine zl_iconst hx hb dX5_selector_207 ?_
      refine lv_iload_n hx hb dX5_selector_208 rfl (lv_at hl 2 rfl) ?_
      refine zl_imul hx hb dX5_selector_209 ?_
      refine lv_iload hx hb dX5_selector_210 (lv_at hl 3 rfl) ?_
      refine zl_iadd hx hb dX5_selector_212 ?_
      refine lv_aload_n hx hb dX5_selector_213 rfl (lv_at hl 0 rfl) ?_
      refine zm_geta C hZ 24 (by decide) (by decide) q1165 dX5_selector_214 ?_
      refine zl_iconst hx hb dX5_selector_217 ?_
      refine lv_iload_n hx hb dX5_selector_218 rfl (lv_at hl 2 rfl) ?_
      refine zl_imul hx hb dX5_selector_219 ?_
      refine lv_iload hx hb dX5_selector_220 (lv_at hl 3 rfl) ?_
      refine zl_iadd hx hb dX5_selector_222 ?_
      obtain ⟨hg, hf⟩ := gd_inv hf
      refine zm_iald C hZ 24 (by decide) rfl rfl hg dX5_selector_223 ?_
      refine zl_iconst hx hb dX5_selector_224 ?_
      refine lv_aload_n hx hb dX5_selector_225 rfl (lv_at hl 0 rfl) ?_
      refine zm_geta C hZ 3 (by decide) (by decide) q1144 dX5_selector_226 ?_
      refine lv_iload hx hb dX5_selector_229 (lv_at hl 4 rfl) ?_
      obtain ⟨hg, hf⟩ := gd_inv hf
      refine zm_iald C hZ 3 (by decide) rfl rfl hg dX5_selector_231 ?_
      refine zl_bipush hx hb dX5_selector_232 (by decide) ?_
      refine zl_isub hx hb dX5_selector_234 ?_
      refine zl_ishl hx hb dX5_selector_235 ?_
      refine zl_ior hx hb dX5_selector_236 ?_
      obtain ⟨hg, hf⟩ := gd_inv hf
      obtain ⟨M14, eM14, hf⟩ := bnd_inv hf
      refine zm_iast C hZ 24 (by decide) rfl rfl hg dX5_selector_237 (fun H locs hZ => ?_)
      rw [← eM14] at hZ
      refine lv_aload_n hx hb dX5_selector_238 rfl (lv_at hl 0 rfl) ?_
      refine zm_geta C hZ 27 (by decide) (by decide) q1168 dX5_selector_239 ?_
      refine lv_iload_n hx hb dX5_selector_242 rfl (lv_at hl 2 rfl) ?_
      refine lv_dup2_11 hx hb dX5_selector_243 rfl rfl ?_
      obtain ⟨hg, hf⟩ := gd_inv hf
      refine zm_iald C hZ 27 (by decide) rfl rfl hg dX5_selector_244 ?_
      refine zl_iconst hx hb dX5_selector_245 ?_
      refine zl_iadd hx hb dX5_selector_246 ?_
      obtain ⟨hg, hf⟩ := gd_inv hf
      obtain ⟨M15, eM15, hf⟩ := bnd_inv hf
      refine zm_iast C hZ 27 (by decide) rfl rfl hg dX5_selector_247 (fun H locs hZ => ?_)
      rw [← eM15] at hZ
      refine zl_iinc (x := x6) (n := 1) (lv' := [(6, .int (zI (x6 + 1))), (0, .ref mo), (2, .int (zI x2)), (3, .int (zI x3)), (4, .int (zI x4)), (7, .int (zI x7))]) (k := 4) hx hb dX5_selector_248 hl rfl (by decide) rfl (fun ls hl => ?_)
      refine lv_goto (tgt := 184) hx hb dX5_selector_251 (by decide) ?_
      obtain rfl := Option.some.inj hf
      exact hK _ _ _ hZ (lv_sub hl [1, 2, 3, 4, 0, 5] rfl)
  · rw [if_neg hc] at hf
    obtain ⟨r0, hm0, rfl⟩ := mr_inv hf
    exact w_selector_254 C hR hm0 hZ (lv_sub hl [0, 1, 2, 3, 4, 5] rfl) hK

theorem w_selector_184 {p : Program} {l : Launch} {e : Env} {R : Room} {s : State} {m : MethodId} {args : Array Value} {below : List Frame} {meth : Method} {c : Code} {Q : State → Prop} {D : va_G} {cI cZ : ClassId} {mo : Nat} {ad : Nat → Nat} {H : Heap} {locs : List Loc} {M : MS} (C : MC p s m args meth c D cI cZ cX5_selector 9 (some .boolean)) (hR : 1 ≤ R.frames ∧ 23 ≤ R.locals) {x2 x3 x4 x6 x7 : Int} {res : (MS × Int × Int × Int) ⊕ (MS × Int)} (hf : m_selector_184 M x2 x3 x4 x6 x7 = some res) (hZ : ZM D cI cZ mo ad s.heap M H locs) {ls : Array Slot} (hl : lv_has ls 9 [(0, .ref mo), (2, .int (zI x2)), (3, .int (zI x3)), (4, .int (zI x4)), (6, .int (zI x6)), (7, .int (zI x7))]) (hK : (Sum.elim (fun z => ∀ (H : Heap) (locs : List Loc) (ls : Array Slot), ZM D cI cZ mo ad s.heap z.1 H locs → lv_has ls 9 [(0, .ref mo), (2, .int (zI x2)), (3, .int (zI x3)), (4, .int (zI z.2.1)), (5, .int (zI z.2.2.1)), (6, .int (zI z.2.2.2))] → W p l e R s m args below meth c H locs 0 0 Q (F0 m 33 ls [])) (fun r => KM below D cI cZ mo ad args s Q r.1 (some (.int (zI r.2))))) res) : W p l e R s m args below meth c H locs 0 0 Q (F0 m 184 ls []) := by
  unfold m_selector_184 at hf
  refine iter_ind (P := fun z r => ∀ (H : Heap) (locs : List Loc) (ls : Array Slot), ZM D cI cZ mo ad s.heap z.1 H locs → lv_has ls 9 [(0, .ref mo), (2, .int (zI x2)), (3, .int (zI x3)), (4, .int (zI x4)), (6, .int (zI z.2)), (7, .int (zI x7))] → (Sum.elim (fun z => ∀ (H : Heap) (locs : List Loc) (ls : Array Slot), ZM D cI cZ mo ad s.heap z.1 H locs → lv_has ls 9 [(0, .ref mo), (2, .int (zI x2)), (3, .int (zI x3)), (4, .int (zI z.2.1)), (5, .int (zI z.2.2.1)), (6, .int (zI z.2.2.2))] → W p l e R s m args below meth c H locs 0 0 Q (F0 m 33 ls [])) (fun r => KM below D cI cZ mo ad args s Q r.1 (some (.int (zI r.2))))) r → W p l e R s m args below meth c H locs 0 0 Q (F0 m 184 ls [])) ?_ ?_ hf H locs ls hZ hl hK
  · intro z r h1 H locs ls hZ hl hK; exact w_selector_184s C hR h1 hZ hl hK
  · intro z z1 r h1 ih H locs ls hZ hl hK; exact w_selector_184s C hR h1 hZ hl (fun H locs ls hZ hl => ih H locs ls hZ hl hK)

theorem w_selector_179 {p : Program} {l : Launch} {e : Env} {R : Room} {s : State} {m : MethodId} {args : Array Value} {below : List Frame} {meth : Method} {c : Code} {Q : State → Prop} {D : va_G} {cI cZ : ClassId} {mo : Nat} {ad : Nat → Nat} {H : Heap} {locs : List Loc} {M : MS} (C : MC p s m args meth c D cI cZ cX5_selector 9 (some .boolean)) (hR : 1 ≤ R.frames ∧ 23 ≤ R.locals) {x2 x3 x4 x6 x7 t0 t1 t2 : Int} {res : (MS × Int × Int × Int) ⊕ (MS × Int)} (hf : m_selector_179 M x2 x3 x4 x6 x7 t0 t1 t2 = some res) (hZ : ZM D cI cZ mo ad s.heap M H locs) {ls : Array Slot} (hl : lv_has ls 9 [(0, .ref mo), (2, .int (zI x2)), (3, .int (zI x3)), (4, .int (zI x4)), (6, .int (zI x6)), (7, .int (zI x7))]) (hK : (Sum.elim (fun z => ∀ (H : Heap) (locs : List Loc) (ls : Array Slot), ZM D cI cZ mo ad s.heap z.1 H locs → lv_has ls 9 [(0, .ref mo), (2, .int (zI x2)), (3, .int (zI x3)), (4, .int (zI z.2.1)), (5, .int (zI z.2.2.1)), (6, .int (zI z.2.2.2))] → W p l e R s m args below meth c H locs 0 0 Q (F0 m 33 ls [])) (fun r => KM below D cI cZ mo ad args s Q r.1 (some (.int (zI r.2))))) res) : W p l e R s m args below meth c H locs 0 0 Q (F0 m 179 ls [.int (zI t0), .int (zI t1), .int (zI t2), .ref (ad 28)]) := by
  unfold m_selector_179 at hf
  have hx := C.1
  have hb := C.2.1
  have hts := C.2.2.2.2.2.2.1
  refine zl_iadd hx hb dX5_selector_179 ?_
  obtain ⟨hg, hf⟩ := gd_inv hf
  obtain ⟨M12, eM12, hf⟩ := bnd_inv hf
  refine zm_iast C hZ 28 (by decide) rfl rfl hg dX5_selector_180 (fun H locs hZ => ?_)
  rw [← eM12] at hZ
  refine zl_iinc (x := x6) (n := 1) (lv' := [(6, .int (zI (x6 + 1))), (0, .ref mo), (2, .int (zI x2)), (3, .int (zI x3)), (4, .int (zI x4)), (7, .int (zI x7))]) (k := 4) hx hb dX5_selector_181 hl rfl (by decide) rfl (fun ls hl => ?_)
  exact w_selector_184 C hR hf hZ (lv_sub hl [1, 2, 3, 4, 0, 5] rfl) hK

theorem w_selector_153 {p : Program} {l : Launch} {e : Env} {R : Room} {s : State} {m : MethodId} {args : Array Value} {below : List Frame} {meth : Method} {c : Code} {Q : State → Prop} {D : va_G} {cI cZ : ClassId} {mo : Nat} {ad : Nat → Nat} {H : Heap} {locs : List Loc} {M : MS} (C : MC p s m args meth c D cI cZ cX5_selector 9 (some .boolean)) (hR : 1 ≤ R.frames ∧ 23 ≤ R.locals) {x2 x3 x4 x6 x7 t0 t1 : Int} {res : (MS × Int × Int × Int) ⊕ (MS × Int)} (hf : m_selector_153 M x2 x3 x4 x6 x7 t0 t1 = some res) (hZ : ZM D cI cZ mo ad s.heap M H locs) {ls : Array Slot} (hl : lv_has ls 9 [(0, .ref mo), (2, .int (zI x2)), (3, .int (zI x3)), (4, .int (zI x4)), (6, .int (zI x6)), (7, .int (zI x7))]) (hK : (Sum.elim (fun z => ∀ (H : Heap) (locs : List Loc) (ls : Array Slot), ZM D cI cZ mo ad s.heap z.1 H locs → lv_has ls 9 [(0, .ref mo), (2, .int (zI x2)), (3, .int (zI x3)), (4, .int (zI z.2.1)), (5, .int (zI z.2.2.1)), (6, .int (zI z.2.2.2))] → W p l e R s m args below meth c H locs 0 0 Q (F0 m 33 ls [])) (fun r => KM below D cI cZ mo ad args s Q r.1 (some (.int (zI r.2))))) res) : W p l e R s m args below meth c H locs 0 0 Q (F0 m 153 ls [.int (zI t0), .int (zI t1), .ref (ad 23)]) := by
  unfold m_selector_153 at hf
  have hx := C.1
  have hb := C.2.1
  have hts := C.2.2.2.2.2.2.1
  obtain ⟨hg, hf⟩ := gd_inv hf
  obtain ⟨M10, eM10, hf⟩ := bnd_inv hf
  refine zm_iast C hZ 23 (by decide) rfl rfl hg dX5_selector_153 (fun H locs hZ => ?_)
  rw [← eM10] at hZ
  refine lv_aload_n hx hb dX5_selector_154 rfl (lv_at hl 0 rfl) ?_
  refine zm_geta C hZ 28 (by decide) (by decide) q1169 dX5_selector_155 ?_
  refine lv_iload_n hx hb dX5_selector_158 rfl (lv_at hl 2 rfl) ?_
  refine lv_dup2_11 hx hb dX5_selector_159 rfl rfl ?_
  obtain ⟨hg, hf⟩ := gd_inv hf
  refine zm_iald C hZ 28 (by decide) rfl rfl hg dX5_selector_160 ?_
  refine lv_aload_n hx hb dX5_selector_161 rfl (lv_at hl 0 rfl) ?_
  refine zm_geta C hZ 3 (by decide) (by decide) q1144 dX5_selector_162 ?_
  refine lv_iload hx hb dX5_selector_165 (lv_at hl 4 rfl) ?_
  obtain ⟨hg, hf⟩ := gd_inv hf
  refine zm_iald C hZ 3 (by decide) rfl rfl hg dX5_selector_167 ?_
  obtain ⟨y11, ey11, hf⟩ := bd_inv hf
  refine zm_callS C (n := 1) (rest := [.int (zI (M10.2 28 (zix x3))), .int (zI x3), .ref (ad 28)]) (met_small l ey11) (lw_S q1329 q1330 q107 q1331) rfl rfl (by decide +kernel) ⟨Nat.le_trans (by decide) hR.1, Nat.le_trans (by decide) hR.2⟩ rfl hl.1 rfl (Nat.le_of_ble_eq_true rfl) dX5_selector_168 (Nat.zero_le _) (Nat.zero_le _) ?_
  refine zl_if_eq (tgt := 178) hx hb dX5_selector_171 (by decide) (fun hc => ?_) (fun hc => ?_)
  · rw [if_pos hc] at hf
    refine zl_iconst hx hb dX5_selector_178 ?_
    exact w_selector_179 C hR hf hZ (lv_sub hl [0, 1, 2, 3, 4, 5] rfl) hK
  · rw [if_neg hc] at hf
    refine zl_iconst hx hb dX5_selector_174 ?_
    refine lv_goto (tgt := 179) hx hb dX5_selector_175 (by decide) ?_
    exact w_selector_179 C hR hf hZ (lv_sub hl [0, 1, 2, 3, 4, 5] rfl) hK

theorem w_selector_119 {p : Program} {l : Launch} {e : Env} {R : Room} {s : State} {m : MethodId} {args : Array Value} {below : List Frame} {meth : Method} {c : Code} {Q : State → Prop} {D : va_G} {cI cZ : ClassId} {mo : Nat} {ad : Nat → Nat} {H : Heap} {locs : List Loc} {M : MS} (C : MC p s m args meth c D cI cZ cX5_selector 9 (some .boolean)) (hR : 1 ≤ R.frames ∧ 23 ≤ R.locals) {x2 x3 x4 x6 x7 : Int} {res : (MS × Int × Int × Int) ⊕ (MS × Int)} (hf : m_selector_119 M x2 x3 x4 x6 x7 = some res) (hZ : ZM D cI cZ mo ad s.heap M H locs) {ls : Array Slot} (hl : lv_has ls 9 [(0, .ref mo), (2, .int (zI x2)), (3, .int (zI x3)), (4, .int (zI x4)), (6, .int (zI x6)), (7, .int (zI x7))]) (hK : (Sum.elim (fun z => ∀ (H : Heap) (locs : List Loc) (ls : Array Slot), ZM D cI cZ mo ad s.heap z.1 H locs → lv_has ls 9 [(0, .ref mo), (2, .int (zI x2)), (3, .int (zI x3)), (4, .int (zI z.2.1)), (5, .int (zI z.2.2.1)), (6, .int (zI z.2.2.2))] → W p l e R s m args below meth c H locs 0 0 Q (F0 m 33 ls [])) (fun r => KM below D cI cZ mo ad args s Q r.1 (some (.int (zI r.2))))) res) : W p l e R s m args below meth c H locs 0 0 Q (F0 m 119 ls []) := by
  unfold m_selector_119 at hf
  have hx := C.1
  have hb := C.2.1
  have hts := C.2.2.2.2.2.2.1
  refine lv_aload_n hx hb dX5_selector_119 rfl (lv_at hl 0 rfl) ?_
  refine zm_geta C hZ 23 (by decide) (by decide) q1164 dX5_selector_120 ?_
  refine zl_iconst hx hb dX5_selector_123 ?_
  refine lv_iload_n hx hb dX5_selector_124 rfl (lv_at hl 2 rfl) ?_
  refine zl_imul hx hb dX5_selector_125 ?_
  refine lv_iload hx hb dX5_selector_126 (lv_at hl 3 rfl) ?_
  refine zl_iadd hx hb dX5_selector_128 ?_
  refine lv_aload_n hx hb dX5_selector_129 rfl (lv_at hl 0 rfl) ?_
  refine zm_geta C hZ 3 (by decide) (by decide) q1144 dX5_selector_130 ?_
  refine lv_iload hx hb dX5_selector_133 (lv_at hl 4 rfl) ?_
  obtain ⟨hg, hf⟩ := gd_inv hf
  refine zm_iald C hZ 3 (by decide) rfl rfl hg dX5_selector_135 ?_
  obtain ⟨y9, ey9, hf⟩ := bd_inv hf
  refine zm_callS C (n := 1) (rest := [.int (zI ((4 * x3) + x4)), .ref (ad 23)]) (met_small l ey9) (lw_S q1329 q1330 q107 q1331) rfl rfl (by decide +kernel) ⟨Nat.le_trans (by decide) hR.1, Nat.le_trans (by decide) hR.2⟩ rfl hl.1 rfl (Nat.le_of_ble_eq_true rfl) dX5_selector_136 (Nat.zero_le _) (Nat.zero_le _) ?_
  refine zl_if_eq (tgt := 152) hx hb dX5_selector_139 (by decide) (fun hc => ?_) (fun hc => ?_)
  · rw [if_pos hc] at hf
    refine zl_iconst hx hb dX5_selector_152 ?_
    exact w_selector_153 C hR hf hZ (lv_sub hl [0, 1, 2, 3, 4, 5] rfl) hK
  · rw [if_neg hc] at hf
    refine lv_aload_n hx hb dX5_selector_142 rfl (lv_at hl 0 rfl) ?_
    refine zm_geta C hZ 3 (by decide) (by decide) q1144 dX5_selector_143 ?_
    refine lv_iload hx hb dX5_selector_146 (lv_at hl 4 rfl) ?_
    obtain ⟨hg, hf⟩ := gd_inv hf
    refine zm_iald C hZ 3 (by decide) rfl rfl hg dX5_selector_148 ?_
    refine lv_goto (tgt := 153) hx hb dX5_selector_149 (by decide) ?_
    exact w_selector_153 C hR hf hZ (lv_sub hl [0, 1, 2, 3, 4, 5] rfl) hK

theorem w_selector_33s {p : Program} {l : Launch} {e : Env} {R : Room} {s : State} {m : MethodId} {args : Array Value} {below : List Frame} {meth : Method} {c : Code} {Q : State → Prop} {D : va_G} {cI cZ : ClassId} {mo : Nat} {ad : Nat → Nat} {H : Heap} {locs : List Loc} {M : MS} (C : MC p s m args meth c D cI cZ cX5_selector 9 (some .boolean)) (hR : 1 ≤ R.frames ∧ 23 ≤ R.locals) {x2 x3 x4 x5 x6 : Int} {res : (MS × Int × Int × Int) ⊕ (MS × Int)} (hf : m_selector_33s M x2 x3 x4 x5 x6 = some res) (hZ : ZM D cI cZ mo ad s.heap M H locs) {ls : Array Slot} (hl : lv_has ls 9 [(0, .ref mo), (2, .int (zI x2)), (3, .int (zI x3)), (4, .int (zI x4)), (5, .int (zI x5)), (6, .int (zI x6))]) (hK : (Sum.elim (fun z => ∀ (H : Heap) (locs : List Loc) (ls : Array Slot), ZM D cI cZ mo ad s.heap z.1 H locs → lv_has ls 9 [(0, .ref mo), (2, .int (zI x2)), (3, .int (zI x3)), (4, .int (zI z.2.1)), (5, .int (zI z.2.2.1)), (6, .int (zI z.2.2.2))] → W p l e R s m args below meth c H locs 0 0 Q (F0 m 33 ls [])) (fun r => KM below D cI cZ mo ad args s Q r.1 (some (.int (zI r.2))))) res) : W p l e R s m args below meth c H locs 0 0 Q (F0 m 33 ls []) := by
  unfold m_selector_33s at hf
  have hx := C.1
  have hb := C.2.1
  have hts := C.2.2.2.2.2.2.1
  refine lv_iload hx hb dX5_selector_33 (lv_at hl 3 rfl) ?_
  refine zl_iconst hx hb dX5_selector_35 ?_
  refine zl_icmp_ge (tgt := 348) hx hb dX5_selector_36 (by decide) (fun hc => ?_) (fun hc => ?_)
  · rw [if_pos hc] at hf
    refine lv_iload hx hb dX5_selector_39 (lv_at hl 3 rfl) ?_
    refine zl_iconst hx hb dX5_selector_41 ?_
    refine zl_icmp_ne (tgt := 47) hx hb dX5_selector_42 (by decide) (fun hc => ?_) (fun hc => ?_)
    · rw [if_pos hc] at hf
      refine zl_iconst hx hb dX5_selector_45 ?_
      obtain rfl := Option.some.inj hf
      exact zm_zret C hZ zisB_0 hK dX5_selector_46
    · rw [if_neg hc] at hf
      refine lv_iload hx hb dX5_selector_47 (lv_at hl 5 rfl) ?_
      refine lv_istore (lv' := [(7, .int (zI x6)), (0, .ref mo), (2, .int (zI x2)), (3, .int (zI x3)), (4, .int (zI x4)), (5, .int (zI x5)), (6, .int (zI x6))]) hx hb dX5_selector_49 hl (by decide) rfl (fun ls hl => ?_)
      refine lv_aload_n hx hb dX5_selector_51 rfl (lv_at hl 1 rfl) ?_
      refine zm_geta C hZ 23 (by decide) (by decide) q1164 dX5_selector_52 ?_
      refine zl_iconst hx hb dX5_selector_55 ?_
      refine lv_iload_n hx hb dX5_selector_56 rfl (lv_at hl 3 rfl) ?_
      refine zl_imul hx hb dX5_selector_57 ?_
      refine lv_iload hx hb dX5_selector_58 (lv_at hl 4 rfl) ?_
      refine zl_iadd hx hb dX5_selector_60 ?_
      refine zl_iconst hx hb dX5_selector_61 ?_
      obtain ⟨hg, hf⟩ := gd_inv hf
      obtain ⟨M5, eM5, hf⟩ := bnd_inv hf
      refine zm_iast C hZ 23 (by decide) rfl rfl hg dX5_selector_62 (fun H locs hZ => ?_)
      rw [← eM5] at hZ
      refine lv_aload_n hx hb dX5_selector_63 rfl (lv_at hl 1 rfl) ?_
      refine zm_geta C hZ 24 (by decide) (by decide) q1165 dX5_selector_64 ?_
      refine zl_iconst hx hb dX5_selector_67 ?_
      refine lv_iload_n hx hb dX5_selector_68 rfl (lv_at hl 3 rfl) ?_
      refine zl_imul hx hb dX5_selector_69 ?_
      refine lv_iload hx hb dX5_selector_70 (lv_at hl 4 rfl) ?_
      refine zl_iadd hx hb dX5_selector_72 ?_
      refine zl_iconst hx hb dX5_selector_73 ?_
      obtain ⟨hg, hf⟩ := gd_inv hf
      obtain ⟨M6, eM6, hf⟩ := bnd_inv hf
      refine zm_iast C hZ 24 (by decide) rfl rfl hg dX5_selector_74 (fun H locs hZ => ?_)
      rw [← eM6] at hZ
      refine lv_aload_n hx hb dX5_selector_75 rfl (lv_at hl 1 rfl) ?_
      refine zm_geta C hZ 25 (by decide) (by decide) q1166 dX5_selector_76 ?_
      refine zl_iconst hx hb dX5_selector_79 ?_
      refine lv_iload_n hx hb dX5_selector_80 rfl (lv_at hl 3 rfl) ?_
      refine zl_imul hx hb dX5_selector_81 ?_
      refine lv_iload hx hb dX5_selector_82 (lv_at hl 4 rfl) ?_
      refine zl_iadd hx hb dX5_selector_84 ?_
      refine lv_iload hx hb dX5_selector_85 (lv_at hl 5 rfl) ?_
      obtain ⟨hg, hf⟩ := gd_inv hf
      obtain ⟨hv, hf⟩ := gd_inv hf
      obtain ⟨M7, eM7, hf⟩ := bnd_inv hf
      refine zm_zast C hZ 25 (by decide) rfl rfl hg hv dX5_selector_87 (fun H locs hZ => ?_)
      rw [← eM7] at hZ
      refine lv_iload hx hb dX5_selector_88 (lv_at hl 6 rfl) ?_
      refine lv_iload_n hx hb dX5_selector_90 rfl (lv_at hl 2 rfl) ?_
      refine zl_icmp_ge (tgt := 184) hx hb dX5_selector_91 (by decide) (fun hc => ?_) (fun hc => ?_)
      · rw [if_pos hc] at hf
        refine lv_aload_n hx hb dX5_selector_94 rfl (lv_at hl 1 rfl) ?_
        refine zm_geta C hZ 3 (by decide) (by decide) q1144 dX5_selector_95 ?_
        refine lv_iload hx hb dX5_selector_98 (lv_at hl 6 rfl) ?_
        obtain ⟨hg, hf⟩ := gd_inv hf
        refine zm_iald C hZ 3 (by decide) rfl rfl hg dX5_selector_100 ?_
        obtain ⟨y8, ey8, hf⟩ := bd_inv hf
        refine zm_callS C (n := 1) (rest := []) (met_small l ey8) (lw_S q1329 q1330 q107 q1331) rfl rfl (by decide +kernel) ⟨Nat.le_trans (by decide) hR.1, Nat.le_trans (by decide) hR.2⟩ rfl hl.1 rfl (Nat.le_of_ble_eq_true rfl) dX5_selector_101 (Nat.zero_le _) (Nat.zero_le _) ?_
        refine zl_if_ne (tgt := 119) hx hb dX5_selector_104 (by decide) (fun hc => ?_) (fun hc => ?_)
        · rw [if_pos hc] at hf
          refine lv_aload_n hx hb dX5_selector_107 rfl (lv_at hl 1 rfl) ?_
          refine zm_geta C hZ 3 (by decide) (by decide) q1144 dX5_selector_108 ?_
          refine lv_iload hx hb dX5_selector_111 (lv_at hl 6 rfl) ?_
          obtain ⟨hg, hf⟩ := gd_inv hf
          refine zm_iald C hZ 3 (by decide) rfl rfl hg dX5_selector_113 ?_
          refine zl_bipush hx hb dX5_selector_114 (by decide) ?_
          refine zl_icmp_ne (tgt := 184) hx hb dX5_selector_116 (by decide) (fun hc => ?_) (fun hc => ?_)
          · rw [if_pos hc] at hf
            exact w_selector_119 C hR hf hZ (lv_sub hl [1, 2, 3, 4, 6, 0] rfl) hK
          · rw [if_neg hc] at hf
            exact w_selector_184 C hR hf hZ (lv_sub hl [1, 2, 3, 4, 6, 0] rfl) hK
        · rw [if_neg hc] at hf
          exact w_selector_119 C hR hf hZ (lv_sub hl [1, 2, 3, 4, 6, 0] rfl) hK
      · rw [if_neg hc] at hf
        exact w_selector_184 C hR hf hZ (lv_sub hl [1, 2, 3, 4, 6, 0] rfl) hK
  · rw [if_neg hc] at hf
    refine zl_iconst hx hb dX5_selector_348 ?_
    obtain rfl := Option.some.inj hf
    exact zm_zret C hZ zisB_0 hK dX5_selector_349

theorem w_selector_33 {p : Program} {l : Launch} {e : Env} {R : Room} {s : State} {m : MethodId} {args : Array Value} {below : List Frame} {meth : Method} {c : Code} {Q : State → Prop} {D : va_G} {cI cZ : ClassId} {mo : Nat} {ad : Nat → Nat} {H : Heap} {locs : List Loc} {M : MS} (C : MC p s m args meth c D cI cZ cX5_selector 9 (some .boolean)) (hR : 1 ≤ R.frames ∧ 23 ≤ R.locals) {x2 x3 x4 x5 x6 : Int} {res : MS × Int} (hf : m_selector_33 M x2 x3 x4 x5 x6 = some res) (hZ : ZM D cI cZ mo ad s.heap M H locs) {ls : Array Slot} (hl : lv_has ls 9 [(0, .ref mo), (2, .int (zI x2)), (3, .int (zI x3)), (4, .int (zI x4)), (5, .int (zI x5)), (6, .int (zI x6))]) (hK : KM below D cI cZ mo ad args s Q res.1 (some (.int (zI res.2)))) : W p l e R s m args below meth c H locs 0 0 Q (F0 m 33 ls []) := by
  unfold m_selector_33 at hf
  refine iter_ind (P := fun z r => ∀ (H : Heap) (locs : List Loc) (ls : Array Slot), ZM D cI cZ mo ad s.heap z.1 H locs → lv_has ls 9 [(0, .ref mo), (2, .int (zI x2)), (3, .int (zI x3)), (4, .int (zI z.2.1)), (5, .int (zI z.2.2.1)), (6, .int (zI z.2.2.2))] → KM below D cI cZ mo ad args s Q r.1 (some (.int (zI r.2))) → W p l e R s m args below meth c H locs 0 0 Q (F0 m 33 ls [])) ?_ ?_ hf H locs ls hZ hl hK
  · intro z r h1 H locs ls hZ hl hK; exact w_selector_33s C hR h1 hZ hl hK
  · intro z z1 r h1 ih H locs ls hZ hl hK; exact w_selector_33s C hR h1 hZ hl (fun H locs ls hZ hl => ih H locs ls hZ hl hK)

theorem w_selector {p : Program} {l : Launch} {e : Env} {R : Room} {s : State} {m : MethodId} {args : Array Value} {below : List Frame} {meth : Method} {c : Code} {Q : State → Prop} {D : va_G} {cI cZ : ClassId} {mo : Nat} {ad : Nat → Nat} {H : Heap} {locs : List Loc} {M : MS} (C : MC p s m args meth c D cI cZ cX5_selector 9 (some .boolean)) (hR : 1 ≤ R.frames ∧ 23 ≤ R.locals) {x1 x2 : Int} {res : MS × Int} (hf : m_selector M x1 x2 = some res) (hZ : ZM D cI cZ mo ad s.heap M H locs) {ls : Array Slot} (hl : lv_has ls 9 [(0, .ref mo), (1, .int (zI x1)), (2, .int (zI x2))]) (hK : KM below D cI cZ mo ad args s Q res.1 (some (.int (zI res.2)))) : W p l e R s m args below meth c H locs 0 0 Q (F0 m 0 ls []) := by
  unfold m_selector at hf
  have hx := C.1
  have hb := C.2.1
  have hts := C.2.2.2.2.2.2.1
  refine lv_aload_n hx hb dX5_selector_0 rfl (lv_at hl 0 rfl) ?_
  refine zm_geti C hZ 22 (by decide) rfl q1163 dX5_selector_1 ?_
  obtain ⟨y1, ey1, hf⟩ := bnd_inv hf
  refine zl_top ey1 ?_
  refine lv_istore_n (lv' := [(3, .int (zI y1)), (0, .ref mo), (1, .int (zI x1)), (2, .int (zI x2))]) hx hb dX5_selector_4 rfl hl (by decide) rfl (fun ls hl => ?_)
  refine zl_iconst hx hb dX5_selector_5 ?_
  refine lv_istore (lv' := [(4, .int (zI 0)), (3, .int (zI y1)), (0, .ref mo), (1, .int (zI x1)), (2, .int (zI x2))]) hx hb dX5_selector_6 hl (by decide) rfl (fun ls hl => ?_)
  refine zl_iconst hx hb dX5_selector_8 ?_
  refine lv_istore (lv' := [(5, .int (zI 0)), (4, .int (zI 0)), (3, .int (zI y1)), (0, .ref mo), (1, .int (zI x1)), (2, .int (zI x2))]) hx hb dX5_selector_9 hl (by decide) rfl (fun ls hl => ?_)
  refine lv_aload_n hx hb dX5_selector_11 rfl (lv_at hl 3 rfl) ?_
  refine zm_geta C hZ 27 (by decide) (by decide) q1168 dX5_selector_12 ?_
  refine lv_iload_n hx hb dX5_selector_15 rfl (lv_at hl 2 rfl) ?_
  refine zl_iconst hx hb dX5_selector_16 ?_
  obtain ⟨hg, hf⟩ := gd_inv hf
  obtain ⟨M2, eM2, hf⟩ := bnd_inv hf
  refine zm_iast C hZ 27 (by decide) rfl rfl hg dX5_selector_17 (fun H locs hZ => ?_)
  rw [← eM2] at hZ
  refine lv_aload_n hx hb dX5_selector_18 rfl (lv_at hl 3 rfl) ?_
  refine zm_geta C hZ 28 (by decide) (by decide) q1169 dX5_selector_19 ?_
  refine lv_iload_n hx hb dX5_selector_22 rfl (lv_at hl 2 rfl) ?_
  refine zl_iconst hx hb dX5_selector_23 ?_
  obtain ⟨hg, hf⟩ := gd_inv hf
  obtain ⟨M3, eM3, hf⟩ := bnd_inv hf
  refine zm_iast C hZ 28 (by decide) rfl rfl hg dX5_selector_24 (fun H locs hZ => ?_)
  rw [← eM3] at hZ
  refine lv_aload_n hx hb dX5_selector_25 rfl (lv_at hl 3 rfl) ?_
  refine lv_iload_n hx hb dX5_selector_26 rfl (lv_at hl 4 rfl) ?_
  refine lv_iload_n hx hb dX5_selector_27 rfl (lv_at hl 5 rfl) ?_
  obtain ⟨y4, ey4, hf⟩ := bd_inv hf
  refine zm_callV C hZ (n := 2) (rest := []) (met_blanks l D cI cZ mo ad ey4) (lw_V q1500 q1502 qs69 q107 q1503) rfl rfl (by decide +kernel) ⟨Nat.le_trans (by decide) hR.1, Nat.le_trans (by decide) hR.2⟩ rfl hl.1 rfl (Nat.le_of_ble_eq_true rfl) dX5_selector_28 (fun H locs hZ => ?_)
  refine lv_istore (lv' := [(6, .int (zI y4)), (5, .int (zI 0)), (4, .int (zI 0)), (3, .int (zI y1)), (0, .ref mo), (1, .int (zI x1)), (2, .int (zI x2))]) hx hb dX5_selector_31 hl (by decide) rfl (fun ls hl => ?_)
  exact w_selector_33 C hR hf hZ (lv_sub hl [4, 6, 3, 2, 1, 0] rfl) hK

theorem met_selector (l : Launch) (D : va_G) (cI cZ : ClassId) (mo : Nat) (ad : Nat → Nat) {M : MS} {x1 x2 : Int} {res : MS × Int} (hf : m_selector M x1 x2 = some res) : Met l yX5_selector (ws_ yX5_selector cX5_selector 9 (some .boolean)) ({ frames := 1, cells := 0, slots := 0, locals := 23 }) (PM D cI cZ mo ad M [.int (zI x1), .int (zI x2)]) (QM D cI cZ mo ad res.1 (some (.int (zI res.2)))) 0 0 (MA mo ad) := by
  refine Met.ofW (cc := cX5_selector) (maxL := 9) (ret := (some .boolean)) (by decide) rfl ?_
  intro p e s m args below meth c s₁ B hml hv
  obtain ⟨rfl, hRM, hK0⟩ := hv
  have hts := atoms_spec (ws := ws_ yX5_selector cX5_selector 9 (some .boolean)) B.pre
  have hts : ∀ w ∈ lw_all, w.before _ s = true := fun w h => hts w (List.mem_cons_of_mem _ h)
  have C : MC p s m _ meth c D cI cZ cX5_selector 9 (some .boolean) := ⟨B.exec, B.bytes, B.returns, B.notSynchronized, hml, findClass_of_methodNamed B.named, hts, hK0⟩
  have hZ : ZM D cI cZ mo ad s.heap M s.heap [] := ⟨hRM, rfl, fun _ _ => rfl, fun _ h => by cases h⟩
  have hl := lv_entry ([.ref mo, .int (zI x1), .int (zI x2)]) (n := 9) (Nat.le_of_ble_eq_true rfl)
  rw [lg_entry_eq]
  generalize (lg_sl ([.ref mo, .int (zI x1), .int (zI x2)]) ++ List.replicate (9 - (lg_sl ([.ref mo, .int (zI x1), .int (zI x2)])).length) Slot.unset).toArray = ls at hl ⊢
  have hl : lv_has ls 9 [(0, .ref mo), (1, .int (zI x1)), (2, .int (zI x2))] := hl
  exact w_selector C ⟨Nat.le_refl _, Nat.le_refl _⟩ hf hZ hl rfl

theorem w_readSheet_100 {p : Program} {l : Launch} {e : Env} {R : Room} {s : State} {m : MethodId} {args : Array Value} {below : List Frame} {meth : Method} {c : Code} {Q : State → Prop} {D : va_G} {cI cZ : ClassId} {mo : Nat} {ad : Nat → Nat} {H : Heap} {locs : List Loc} {M : MS} (C : MC p s m args meth c D cI cZ cX5_readSheet 4 none) (hR : 2 ≤ R.frames ∧ 51 ≤ R.locals) {t0 : Int} {res : (MS × Int) ⊕ (MS)} (hf : m_readSheet_100 M t0 = some res) (hZ : ZM D cI cZ mo ad s.heap M H locs) {ls : Array Slot} (hl : lv_has ls 4 [(0, .ref mo)]) (hK : (Sum.elim (fun z => ∀ (H : Heap) (locs : List Loc) (ls : Array Slot), ZM D cI cZ mo ad s.heap z.1 H locs → lv_has ls 4 [(0, .ref mo), (1, .int (zI z.2))] → W p l e R s m args below meth c H locs 0 0 Q (F0 m 7 ls [])) (fun r => KM below D cI cZ mo ad args s Q r none)) res) : W p l e R s m args below meth c H locs 0 0 Q (F0 m 100 ls [.int (zI t0)]) := by
  unfold m_readSheet_100 at hf
  have hx := C.1
  have hb := C.2.1
  have hts := C.2.2.2.2.2.2.1
  refine lv_istore_n (lv' := [(1, .int (zI t0)), (0, .ref mo)]) hx hb dX5_readSheet_100 rfl hl (by decide) rfl (fun ls hl => ?_)
  refine lv_goto (tgt := 7) hx hb dX5_readSheet_101 (by decide) ?_
  obtain rfl := Option.some.inj hf
  exact hK _ _ _ hZ (lv_sub hl [1, 0] rfl)

theorem w_readSheet_89 {p : Program} {l : Launch} {e : Env} {R : Room} {s : State} {m : MethodId} {args : Array Value} {below : List Frame} {meth : Method} {c : Code} {Q : State → Prop} {D : va_G} {cI cZ : ClassId} {mo : Nat} {ad : Nat → Nat} {H : Heap} {locs : List Loc} {M : MS} (C : MC p s m args meth c D cI cZ cX5_readSheet 4 none) (hR : 2 ≤ R.frames ∧ 51 ≤ R.locals) {x3 : Int} {res : (MS × Int) ⊕ (MS)} (hf : m_readSheet_89 M x3 = some res) (hZ : ZM D cI cZ mo ad s.heap M H locs) {ls : Array Slot} (hl : lv_has ls 4 [(0, .ref mo), (3, .int (zI x3))]) (hK : (Sum.elim (fun z => ∀ (H : Heap) (locs : List Loc) (ls : Array Slot), ZM D cI cZ mo ad s.heap z.1 H locs → lv_has ls 4 [(0, .ref mo), (1, .int (zI z.2))] → W p l e R s m args below meth c H locs 0 0 Q (F0 m 7 ls [])) (fun r => KM below D cI cZ mo ad args s Q r none)) res) : W p l e R s m args below meth c H locs 0 0 Q (F0 m 89 ls []) := by
  unfold m_readSheet_89 at hf
  have hx := C.1
  have hb := C.2.1
  have hts := C.2.2.2.2.2.2.1
  refine lv_iload_n hx hb dX5_readSheet_89 rfl (lv_at hl 1 rfl) ?_
  refine zl_if_ge (tgt := 97) hx hb dX5_readSheet_90 (by decide) (fun hc => ?_) (fun hc => ?_)
  · rw [if_pos hc] at hf
    refine zl_iconst hx hb dX5_readSheet_93 ?_
    refine lv_goto (tgt := 100) hx hb dX5_readSheet_94 (by decide) ?_
    exact w_readSheet_100 C hR hf hZ (lv_sub hl [0] rfl) hK
  · rw [if_neg hc] at hf
    refine lv_iload_n hx hb dX5_readSheet_97 rfl (lv_at hl 1 rfl) ?_
    refine zl_iconst hx hb dX5_readSheet_98 ?_
    refine zl_iadd hx hb dX5_readSheet_99 ?_
    exact w_readSheet_100 C hR hf hZ (lv_sub hl [0] rfl) hK

theorem w_readSheet_43 {p : Program} {l : Launch} {e : Env} {R : Room} {s : State} {m : MethodId} {args : Array Value} {below : List Frame} {meth : Method} {c : Code} {Q : State → Prop} {D : va_G} {cI cZ : ClassId} {mo : Nat} {ad : Nat → Nat} {H : Heap} {locs : List Loc} {M : MS} (C : MC p s m args meth c D cI cZ cX5_readSheet 4 none) (hR : 2 ≤ R.frames ∧ 51 ≤ R.locals) {x1 x2 t0 : Int} {res : (MS × Int) ⊕ (MS)} (hf : m_readSheet_43 M x1 x2 t0 = some res) (hZ : ZM D cI cZ mo ad s.heap M H locs) {ls : Array Slot} (hl : lv_has ls 4 [(0, .ref mo), (1, .int (zI x1)), (2, .int (zI x2))]) (hK : (Sum.elim (fun z => ∀ (H : Heap) (locs : List Loc) (ls : Array Slot), ZM D cI cZ mo ad s.heap z.1 H locs → lv_has ls 4 [(0, .ref mo), (1, .int (zI z.2))] → W p l e R s m args below meth c H locs 0 0 Q (F0 m 7 ls [])) (fun r => KM below D cI cZ mo ad args s Q r none)) res) : W p l e R s m args below meth c H locs 0 0 Q (F0 m 43 ls [.int (zI t0)]) := by
  unfold m_readSheet_43 at hf
  have hx := C.1
  have hb := C.2.1
  have hts := C.2.2.2.2.2.2.1
  refine lv_istore_n (lv' := [(3, .int (zI t0)), (0, .ref mo), (1, .int (zI x1)), (2, .int (zI x2))]) hx hb dX5_readSheet_43 rfl hl (by decide) rfl (fun ls hl => ?_)
  refine lv_iload_n hx hb dX5_readSheet_44 rfl (lv_at hl 0 rfl) ?_
  refine zl_if_lt (tgt := 89) hx hb dX5_readSheet_45 (by decide) (fun hc => ?_) (fun hc => ?_)
  · rw [if_pos hc] at hf
    exact w_readSheet_89 C hR hf hZ (lv_sub hl [1, 0] rfl) hK
  · rw [if_neg hc] at hf
    refine lv_aload_n hx hb dX5_readSheet_48 rfl (lv_at hl 1 rfl) ?_
    refine lv_iload_n hx hb dX5_readSheet_49 rfl (lv_at hl 2 rfl) ?_
    refine lv_iload_n hx hb dX5_readSheet_50 rfl (lv_at hl 3 rfl) ?_
    obtain ⟨y3, ey3, hf⟩ := bd_inv hf
    refine zm_callV C hZ (n := 2) (rest := []) (met_selector l D cI cZ mo ad ey3) (lw_V q1496 q1498 qs68 q107 q1499) rfl rfl (by decide +kernel) ⟨Nat.le_trans (by decide) hR.1, Nat.le_trans (by decide) hR.2⟩ rfl hl.1 rfl (Nat.le_of_ble_eq_true rfl) dX5_readSheet_51 (fun H locs hZ => ?_)
    refine zl_if_eq (tgt := 89) hx hb dX5_readSheet_54 (by decide) (fun hc => ?_) (fun hc => ?_)
    · rw [if_pos hc] at hf
      exact w_readSheet_89 C hR hf hZ (lv_sub hl [1, 0] rfl) hK
    · rw [if_neg hc] at hf
      refine lv_aload_n hx hb dX5_readSheet_57 rfl (lv_at hl 1 rfl) ?_
      refine zm_geta C hZ 29 (by decide) (by decide) q1170 dX5_readSheet_58 ?_
      refine lv_aload_n hx hb dX5_readSheet_61 rfl (lv_at hl 1 rfl) ?_
      refine zm_geti C hZ 22 (by decide) rfl q1163 dX5_readSheet_62 ?_
      refine lv_iload_n hx hb dX5_readSheet_65 rfl (lv_at hl 3 rfl) ?_
      refine zl_iconst hx hb dX5_readSheet_66 ?_
      refine zl_iadd hx hb dX5_readSheet_67 ?_
      obtain ⟨hg, hf⟩ := gd_inv hf
      obtain ⟨M4, eM4, hf⟩ := bnd_inv hf
      refine zm_iast C hZ 29 (by decide) rfl rfl hg dX5_readSheet_68 (fun H locs hZ => ?_)
      rw [← eM4] at hZ
      refine lv_aload_n hx hb dX5_readSheet_69 rfl (lv_at hl 1 rfl) ?_
      refine zm_geta C hZ 30 (by decide) (by decide) q1171 dX5_readSheet_70 ?_
      refine lv_aload_n hx hb dX5_readSheet_73 rfl (lv_at hl 1 rfl) ?_
      refine zm_geti C hZ 22 (by decide) rfl q1163 dX5_readSheet_74 ?_
      refine lv_iload_n hx hb dX5_readSheet_77 rfl (lv_at hl 0 rfl) ?_
      obtain ⟨hg, hf⟩ := gd_inv hf
      obtain ⟨M5, eM5, hf⟩ := bnd_inv hf
      refine zm_iast C hZ 30 (by decide) rfl rfl hg dX5_readSheet_78 (fun H locs hZ => ?_)
      rw [← eM5] at hZ
      refine lv_aload_n hx hb dX5_readSheet_79 rfl (lv_at hl 1 rfl) ?_
      refine lv_dup hx hb dX5_readSheet_80 rfl ?_
      refine zm_geti C hZ 22 (by decide) rfl q1163 dX5_readSheet_81 ?_
      refine zl_iconst hx hb dX5_readSheet_84 ?_
      refine zl_iadd hx hb dX5_readSheet_85 ?_
      obtain ⟨M6, eM6, hf⟩ := bnd_inv hf
      refine zm_puti C hZ 22 (by decide) rfl rfl q1163 dX5_readSheet_86 (fun H locs hZ => ?_)
      rw [← eM6] at hZ
      exact w_readSheet_89 C hR hf hZ (lv_sub hl [1, 0] rfl) hK

theorem w_readSheet_7s {p : Program} {l : Launch} {e : Env} {R : Room} {s : State} {m : MethodId} {args : Array Value} {below : List Frame} {meth : Method} {c : Code} {Q : State → Prop} {D : va_G} {cI cZ : ClassId} {mo : Nat} {ad : Nat → Nat} {H : Heap} {locs : List Loc} {M : MS} (C : MC p s m args meth c D cI cZ cX5_readSheet 4 none) (hR : 2 ≤ R.frames ∧ 51 ≤ R.locals) {x1 : Int} {res : (MS × Int) ⊕ (MS)} (hf : m_readSheet_7s M x1 = some res) (hZ : ZM D cI cZ mo ad s.heap M H locs) {ls : Array Slot} (hl : lv_has ls 4 [(0, .ref mo), (1, .int (zI x1))]) (hK : (Sum.elim (fun z => ∀ (H : Heap) (locs : List Loc) (ls : Array Slot), ZM D cI cZ mo ad s.heap z.1 H locs → lv_has ls 4 [(0, .ref mo), (1, .int (zI z.2))] → W p l e R s m args below meth c H locs 0 0 Q (F0 m 7 ls [])) (fun r => KM below D cI cZ mo ad args s Q r none)) res) : W p l e R s m args below meth c H locs 0 0 Q (F0 m 7 ls []) := by
  unfold m_readSheet_7s at hf
  have hx := C.1
  have hb := C.2.1
  have hts := C.2.2.2.2.2.2.1
  refine lv_iload_n hx hb dX5_readSheet_7 rfl (lv_at hl 1 rfl) ?_
  refine zl_if_lt (tgt := 104) hx hb dX5_readSheet_8 (by decide) (fun hc => ?_) (fun hc => ?_)
  · rw [if_pos hc] at hf
    obtain rfl := Option.some.inj hf
    exact zm_vret C hZ hK dX5_readSheet_104
  · rw [if_neg hc] at hf
    refine lv_aload_n hx hb dX5_readSheet_11 rfl (lv_at hl 0 rfl) ?_
    refine zm_geti C hZ 22 (by decide) rfl q1163 dX5_readSheet_12 ?_
    refine zl_bipush hx hb dX5_readSheet_15 (by decide) ?_
    refine zl_icmp_ge (tgt := 104) hx hb dX5_readSheet_17 (by decide) (fun hc => ?_) (fun hc => ?_)
    · rw [if_pos hc] at hf
      refine lv_aload_n hx hb dX5_readSheet_20 rfl (lv_at hl 0 rfl) ?_
      refine lv_iload_n hx hb dX5_readSheet_21 rfl (lv_at hl 1 rfl) ?_
      refine zl_bipush hx hb dX5_readSheet_22 (by decide) ?_
      obtain ⟨y2, ey2, hf⟩ := bd_inv hf
      refine zm_callV C hZ (n := 2) (rest := []) (met_nextSign l D cI cZ mo ad ey2) (lw_V q1492 q1494 qs67 q107 q1495) rfl rfl (by decide +kernel) ⟨Nat.le_trans (by decide) hR.1, Nat.le_trans (by decide) hR.2⟩ rfl hl.1 rfl (Nat.le_of_ble_eq_true rfl) dX5_readSheet_24 (fun H locs hZ => ?_)
      refine lv_istore_n (lv' := [(2, .int (zI y2)), (0, .ref mo), (1, .int (zI x1))]) hx hb dX5_readSheet_27 rfl hl (by decide) rfl (fun ls hl => ?_)
      refine lv_iload_n hx hb dX5_readSheet_28 rfl (lv_at hl 0 rfl) ?_
      refine zl_if_ge (tgt := 36) hx hb dX5_readSheet_29 (by decide) (fun hc => ?_) (fun hc => ?_)
      · rw [if_pos hc] at hf
        refine zl_iconst hx hb dX5_readSheet_32 ?_
        refine lv_goto (tgt := 43) hx hb dX5_readSheet_33 (by decide) ?_
        exact w_readSheet_43 C hR hf hZ (lv_sub hl [1, 2, 0] rfl) hK
      · rw [if_neg hc] at hf
        refine lv_aload_n hx hb dX5_readSheet_36 rfl (lv_at hl 1 rfl) ?_
        refine lv_iload_n hx hb dX5_readSheet_37 rfl (lv_at hl 0 rfl) ?_
        refine zl_bipush hx hb dX5_readSheet_38 (by decide) ?_
        obtain ⟨y3, ey3, hf⟩ := bd_inv hf
        refine zm_callV C hZ (n := 2) (rest := []) (met_nextSign l D cI cZ mo ad ey3) (lw_V q1492 q1494 qs67 q107 q1495) rfl rfl (by decide +kernel) ⟨Nat.le_trans (by decide) hR.1, Nat.le_trans (by decide) hR.2⟩ rfl hl.1 rfl (Nat.le_of_ble_eq_true rfl) dX5_readSheet_40 (fun H locs hZ => ?_)
        exact w_readSheet_43 C hR hf hZ (lv_sub hl [1, 2, 0] rfl) hK
    · rw [if_neg hc] at hf
      obtain rfl := Option.some.inj hf
      exact zm_vret C hZ hK dX5_readSheet_104

theorem w_readSheet_7 {p : Program} {l : Launch} {e : Env} {R : Room} {s : State} {m : MethodId} {args : Array Value} {below : List Frame} {meth : Method} {c : Code} {Q : State → Prop} {D : va_G} {cI cZ : ClassId} {mo : Nat} {ad : Nat → Nat} {H : Heap} {locs : List Loc} {M : MS} (C : MC p s m args meth c D cI cZ cX5_readSheet 4 none) (hR : 2 ≤ R.frames ∧ 51 ≤ R.locals) {x1 : Int} {res : MS} (hf : m_readSheet_7 M x1 = some res) (hZ : ZM D cI cZ mo ad s.heap M H locs) {ls : Array Slot} (hl : lv_has ls 4 [(0, .ref mo), (1, .int (zI x1))]) (hK : KM below D cI cZ mo ad args s Q res none) : W p l e R s m args below meth c H locs 0 0 Q (F0 m 7 ls []) := by
  unfold m_readSheet_7 at hf
  refine iter_ind (P := fun z r => ∀ (H : Heap) (locs : List Loc) (ls : Array Slot), ZM D cI cZ mo ad s.heap z.1 H locs → lv_has ls 4 [(0, .ref mo), (1, .int (zI z.2))] → KM below D cI cZ mo ad args s Q r none → W p l e R s m args below meth c H locs 0 0 Q (F0 m 7 ls [])) ?_ ?_ hf H locs ls hZ hl hK
  · intro z r h1 H locs ls hZ hl hK; exact w_readSheet_7s C hR h1 hZ hl hK
  · intro z z1 r h1 ih H locs ls hZ hl hK; exact w_readSheet_7s C hR h1 hZ hl (fun H locs ls hZ hl => ih H locs ls hZ hl hK)

theorem w_readSheet {p : Program} {l : Launch} {e : Env} {R : Room} {s : State} {m : MethodId} {args : Array Value} {below : List Frame} {meth : Method} {c : Code} {Q : State → Prop} {D : va_G} {cI cZ : ClassId} {mo : Nat} {ad : Nat → Nat} {H : Heap} {locs : List Loc} {M : MS} (C : MC p s m args meth c D cI cZ cX5_readSheet 4 none) (hR : 2 ≤ R.frames ∧ 51 ≤ R.locals) {res : MS} (hf : m_readSheet M = some res) (hZ : ZM D cI cZ mo ad s.heap M H locs) {ls : Array Slot} (hl : lv_has ls 4 [(0, .ref mo)]) (hK : KM below D cI cZ mo ad args s Q res none) : W p l e R s m args below meth c H locs 0 0 Q (F0 m 0 ls []) := by
  unfold m_readSheet at hf
  have hx := C.1
  have hb := C.2.1
  have hts := C.2.2.2.2.2.2.1
  refine lv_aload_n hx hb dX5_readSheet_0 rfl (lv_at hl 0 rfl) ?_
  refine zl_iconst hx hb dX5_readSheet_1 ?_
  obtain ⟨M1, eM1, hf⟩ := bnd_inv hf
  refine zm_puti C hZ 22 (by decide) rfl rfl q1163 dX5_readSheet_2 (fun H locs hZ => ?_)
  rw [← eM1] at hZ
  refine zl_iconst hx hb dX5_readSheet_5 ?_
  refine lv_istore_n (lv' := [(1, .int (zI 0)), (0, .ref mo)]) hx hb dX5_readSheet_6 rfl hl (by decide) rfl (fun ls hl => ?_)
  exact w_readSheet_7 C hR hf hZ (lv_sub hl [1, 0] rfl) hK

theorem met_readSheet (l : Launch) (D : va_G) (cI cZ : ClassId) (mo : Nat) (ad : Nat → Nat) {M : MS} {res : MS} (hf : m_readSheet M = some res) : Met l yX5_readSheet (ws_ yX5_readSheet cX5_readSheet 4 none) ({ frames := 2, cells := 0, slots := 0, locals := 51 }) (PM D cI cZ mo ad M []) (QM D cI cZ mo ad res none) 0 0 (MA mo ad) := by
  refine Met.ofW (cc := cX5_readSheet) (maxL := 4) (ret := none) (by decide) rfl ?_
  intro p e s m args below meth c s₁ B hml hv
  obtain ⟨rfl, hRM, hK0⟩ := hv
  have hts := atoms_spec (ws := ws_ yX5_readSheet cX5_readSheet 4 none) B.pre
  have hts : ∀ w ∈ lw_all, w.before _ s = true := fun w h => hts w (List.mem_cons_of_mem _ h)
  have C : MC p s m _ meth c D cI cZ cX5_readSheet 4 none := ⟨B.exec, B.bytes, B.returns, B.notSynchronized, hml, findClass_of_methodNamed B.named, hts, hK0⟩
  have hZ : ZM D cI cZ mo ad s.heap M s.heap [] := ⟨hRM, rfl, fun _ _ => rfl, fun _ h => by cases h⟩
  have hl := lv_entry ([.ref mo]) (n := 4) (Nat.le_of_ble_eq_true rfl)
  rw [lg_entry_eq]
  generalize (lg_sl ([.ref mo]) ++ List.replicate (4 - (lg_sl ([.ref mo])).length) Slot.unset).toArray = ls at hl ⊢
  have hl : lv_has ls 4 [(0, .ref mo)] := hl
  exact w_readSheet C ⟨Nat.le_refl _, Nat.le_refl _⟩ hf hZ hl rfl

theorem w_rules {p : Program} {l : Launch} {e : Env} {R : Room} {s : State} {m : MethodId} {args : Array Value} {below : List Frame} {meth : Method} {c : Code} {Q : State → Prop} {D : va_G} {cI cZ : ClassId} {mo : Nat} {ad : Nat → Nat} {H : Heap} {locs : List Loc} {M : MS} (C : MC p s m args meth c D cI cZ cX5_rules 1 (some .int)) (hR : 3 ≤ R.frames ∧ 74 ≤ R.locals) {res : MS × Int} (hf : m_rules M = some res) (hZ : ZM D cI cZ mo ad s.heap M H locs) {ls : Array Slot} (hl : lv_has ls 1 [(0, .ref mo)]) (hK : KM below D cI cZ mo ad args s Q res.1 (some (.int (zI res.2)))) : W p l e R s m args below meth c H locs 0 0 Q (F0 m 0 ls []) := by
  unfold m_rules at hf
  have hx := C.1
  have hb := C.2.1
  have hts := C.2.2.2.2.2.2.1
  refine lv_aload_n hx hb dX5_rules_0 rfl (lv_at hl 0 rfl) ?_
  obtain ⟨y1, ey1, hf⟩ := bd_inv hf
  refine zm_callV C hZ (n := 0) (rest := []) (met_readSheet l D cI cZ mo ad ey1) (lw_V q1488 q1490 qs66 q107 q1491) rfl rfl (by decide +kernel) ⟨Nat.le_trans (by decide) hR.1, Nat.le_trans (by decide) hR.2⟩ rfl hl.1 rfl (Nat.le_of_ble_eq_true rfl) dX5_rules_1 (fun H locs hZ => ?_)
  refine lv_aload_n hx hb dX5_rules_4 rfl (lv_at hl 0 rfl) ?_
  refine zm_geti C hZ 22 (by decide) rfl q1163 dX5_rules_5 ?_
  obtain rfl := Option.some.inj hf
  exact zm_iret C hZ hK dX5_rules_8

theorem met_rules (l : Launch) (D : va_G) (cI cZ : ClassId) (mo : Nat) (ad : Nat → Nat) {M : MS} {res : MS × Int} (hf : m_rules M = some res) : Met l yX5_rules (ws_ yX5_rules cX5_rules 1 (some .int)) ({ frames := 3, cells := 0, slots := 0, locals := 74 }) (PM D cI cZ mo ad M []) (QM D cI cZ mo ad res.1 (some (.int (zI res.2)))) 0 0 (MA mo ad) := by
  refine Met.ofW (cc := cX5_rules) (maxL := 1) (ret := (some .int)) (by decide) rfl ?_
  intro p e s m args below meth c s₁ B hml hv
  obtain ⟨rfl, hRM, hK0⟩ := hv
  have hts := atoms_spec (ws := ws_ yX5_rules cX5_rules 1 (some .int)) B.pre
  have hts : ∀ w ∈ lw_all, w.before _ s = true := fun w h => hts w (List.mem_cons_of_mem _ h)
  have C : MC p s m _ meth c D cI cZ cX5_rules 1 (some .int) := ⟨B.exec, B.bytes, B.returns, B.notSynchronized, hml, findClass_of_methodNamed B.named, hts, hK0⟩
  have hZ : ZM D cI cZ mo ad s.heap M s.heap [] := ⟨hRM, rfl, fun _ _ => rfl, fun _ h => by cases h⟩
  have hl := lv_entry ([.ref mo]) (n := 1) (Nat.le_of_ble_eq_true rfl)
  rw [lg_entry_eq]
  generalize (lg_sl ([.ref mo]) ++ List.replicate (1 - (lg_sl ([.ref mo])).length) Slot.unset).toArray = ls at hl ⊢
  have hl : lv_has ls 1 [(0, .ref mo)] := hl
  exact w_rules C ⟨Nat.le_refl _, Nat.le_refl _⟩ hf hZ hl rfl

theorem w_propertyIndex {p : Program} {l : Launch} {e : Env} {R : Room} {s : State} {m : MethodId} {args : Array Value} {below : List Frame} {meth : Method} {c : Code} {Q : State → Prop} (C : SC p s m args meth c cX5_propertyIndex 1 (some .int)) (hR : 0 ≤ R.frames ∧ 0 ≤ R.locals) {x0 : Int} {res : Int} (hf : m_propertyIndex x0 = some res) {ls : Array Slot} (hl : lv_has ls 1 [(0, .int (zI x0))]) (hK : KS below args s Q (some (.int (zI res)))) : W p l e R s m args below meth c s.heap [] 0 0 Q (F0 m 0 ls []) := by
  unfold m_propertyIndex at hf
  have hx := C.1
  have hb := C.2.1
  have hts := C.2.2.2.2.2.2
  refine lv_iload_n hx hb dX5_propertyIndex_0 rfl (lv_at hl 0 rfl) ?_
  refine zl_bipush hx hb dX5_propertyIndex_1 (by decide) ?_
  refine zl_icmp_ne (tgt := 10) hx hb dX5_propertyIndex_3 (by decide) (fun hc => ?_) (fun hc => ?_)
  · rw [if_pos hc] at hf
    refine zl_iconst hx hb dX5_propertyIndex_6 ?_
    refine lv_goto (tgt := 72) hx hb dX5_propertyIndex_7 (by decide) ?_
    obtain rfl := Option.some.inj hf
    exact zs_iret C hK dX5_propertyIndex_72
  · rw [if_neg hc] at hf
    refine lv_iload_n hx hb dX5_propertyIndex_10 rfl (lv_at hl 0 rfl) ?_
    refine zl_bipush hx hb dX5_propertyIndex_11 (by decide) ?_
    refine zl_icmp_ne (tgt := 20) hx hb dX5_propertyIndex_13 (by decide) (fun hc => ?_) (fun hc => ?_)
    · rw [if_pos hc] at hf
      refine zl_iconst hx hb dX5_propertyIndex_16 ?_
      refine lv_goto (tgt := 72) hx hb dX5_propertyIndex_17 (by decide) ?_
      obtain rfl := Option.some.inj hf
      exact zs_iret C hK dX5_propertyIndex_72
    · rw [if_neg hc] at hf
      refine lv_iload_n hx hb dX5_propertyIndex_20 rfl (lv_at hl 0 rfl) ?_
      refine zl_bipush hx hb dX5_propertyIndex_21 (by decide) ?_
      refine zl_icmp_ne (tgt := 30) hx hb dX5_propertyIndex_23 (by decide) (fun hc => ?_) (fun hc => ?_)
      · rw [if_pos hc] at hf
        refine zl_iconst hx hb dX5_propertyIndex_26 ?_
        refine lv_goto (tgt := 72) hx hb dX5_propertyIndex_27 (by decide) ?_
        obtain rfl := Option.some.inj hf
        exact zs_iret C hK dX5_propertyIndex_72
      · rw [if_neg hc] at hf
        refine lv_iload_n hx hb dX5_propertyIndex_30 rfl (lv_at hl 0 rfl) ?_
        refine zl_bipush hx hb dX5_propertyIndex_31 (by decide) ?_
        refine zl_icmp_ne (tgt := 40) hx hb dX5_propertyIndex_33 (by decide) (fun hc => ?_) (fun hc => ?_)
        · rw [if_pos hc] at hf
          refine zl_iconst hx hb dX5_propertyIndex_36 ?_
          refine lv_goto (tgt := 72) hx hb dX5_propertyIndex_37 (by decide) ?_
          obtain rfl := Option.some.inj hf
          exact zs_iret C hK dX5_propertyIndex_72
        · rw [if_neg hc] at hf
          refine lv_iload_n hx hb dX5_propertyIndex_40 rfl (lv_at hl 0 rfl) ?_
          refine zl_bipush hx hb dX5_propertyIndex_41 (by decide) ?_
          refine zl_icmp_ne (tgt := 50) hx hb dX5_propertyIndex_43 (by decide) (fun hc => ?_) (fun hc => ?_)
          · rw [if_pos hc] at hf
            refine zl_iconst hx hb dX5_propertyIndex_46 ?_
            refine lv_goto (tgt := 72) hx hb dX5_propertyIndex_47 (by decide) ?_
            obtain rfl := Option.some.inj hf
            exact zs_iret C hK dX5_propertyIndex_72
          · rw [if_neg hc] at hf
            refine lv_iload_n hx hb dX5_propertyIndex_50 rfl (lv_at hl 0 rfl) ?_
            refine zl_bipush hx hb dX5_propertyIndex_51 (by decide) ?_
            refine zl_icmp_ne (tgt := 60) hx hb dX5_propertyIndex_53 (by decide) (fun hc => ?_) (fun hc => ?_)
            · rw [if_pos hc] at hf
              refine zl_iconst hx hb dX5_propertyIndex_56 ?_
              refine lv_goto (tgt := 72) hx hb dX5_propertyIndex_57 (by decide) ?_
              obtain rfl := Option.some.inj hf
              exact zs_iret C hK dX5_propertyIndex_72
            · rw [if_neg hc] at hf
              refine lv_iload_n hx hb dX5_propertyIndex_60 rfl (lv_at hl 0 rfl) ?_
              refine zl_bipush hx hb dX5_propertyIndex_61 (by decide) ?_
              refine zl_icmp_ne (tgt := 71) hx hb dX5_propertyIndex_63 (by decide) (fun hc => ?_) (fun hc => ?_)
              · rw [if_pos hc] at hf
                refine zl_bipush hx hb dX5_propertyIndex_66 (by decide) ?_
                refine lv_goto (tgt := 72) hx hb dX5_propertyIndex_68 (by decide) ?_
                obtain rfl := Option.some.inj hf
                exact zs_iret C hK dX5_propertyIndex_72
              · rw [if_neg hc] at hf
                refine zl_iconst hx hb dX5_propertyIndex_71 ?_
                obtain rfl := Option.some.inj hf
                exact zs_iret C hK dX5_propertyIndex_72

theorem met_propertyIndex (l : Launch) {x0 : Int} {res : Int} (hf : m_propertyIndex x0 = some res) : Met l yX5_propertyIndex (ws_ yX5_propertyIndex cX5_propertyIndex 1 (some .int)) ({ frames := 0, cells := 0, slots := 0, locals := 0 }) (va_Pc [.int (zI x0)] (fun _ => True)) (QS (some (.int (zI res)))) 0 0 (fun _ => False) := by
  refine Met.ofW (cc := cX5_propertyIndex) (maxL := 1) (ret := (some .int)) (by decide) rfl ?_
  intro p e s m args below meth c s₁ B hml hv
  obtain ⟨rfl, -⟩ := hv
  have hts := atoms_spec (ws := ws_ yX5_propertyIndex cX5_propertyIndex 1 (some .int)) B.pre
  have hts : ∀ w ∈ lw_all, w.before _ s = true := fun w h => hts w (List.mem_cons_of_mem _ h)
  have C : SC p s m _ meth c cX5_propertyIndex 1 (some .int) := ⟨B.exec, B.bytes, B.returns, B.notSynchronized, hml, findClass_of_methodNamed B.named, hts⟩
  have hl := lv_entry ([.int (zI x0)]) (n := 1) (Nat.le_of_ble_eq_true rfl)
  rw [lg_entry_eq]
  generalize (lg_sl ([.int (zI x0)]) ++ List.replicate (1 - (lg_sl ([.int (zI x0)])).length) Slot.unset).toArray = ls at hl ⊢
  have hl : lv_has ls 1 [(0, .int (zI x0))] := hl
  exact w_propertyIndex C ⟨Nat.le_refl _, Nat.le_refl _⟩ hf hl rfl

theorem w_match_232 {p : Program} {l : Launch} {e : Env} {R : Room} {s : State} {m : MethodId} {args : Array Value} {below : List Frame} {meth : Method} {c : Code} {Q : State → Prop} {D : va_G} {cI cZ : ClassId} {mo : Nat} {ad : Nat → Nat} {H : Heap} {locs : List Loc} {M : MS} (C : MC p s m args meth c D cI cZ cX5_match 10 none) (hR : 0 ≤ R.frames ∧ 0 ≤ R.locals) {x1 x2 x3 x4 t0 t1 : Int} {res : (MS × Int) ⊕ ((MS × Int) ⊕ (MS))} (hf : m_match_232 M x1 x2 x3 x4 t0 t1 = some res) (hZ : ZM D cI cZ mo ad s.heap M H locs) {ls : Array Slot} (hl : lv_has ls 10 [(0, .ref mo), (1, .int (zI x1)), (2, .int (zI x2)), (3, .int (zI x3)), (4, .int (zI x4))]) (hK : (Sum.elim (fun z => ∀ (H : Heap) (locs : List Loc) (ls : Array Slot), ZM D cI cZ mo ad s.heap z.1 H locs → lv_has ls 10 [(0, .ref mo), (1, .int (zI x1)), (2, .int (zI x2)), (3, .int (zI x3)), (4, .int (zI z.2))] → W p l e R s m args below meth c H locs 0 0 Q (F0 m 23 ls [])) (Sum.elim (fun z => ∀ (H : Heap) (locs : List Loc) (ls : Array Slot), ZM D cI cZ mo ad s.heap z.1 H locs → lv_has ls 10 [(0, .ref mo), (1, .int (zI x1)), (2, .int (zI z.2))] → W p l e R s m args below meth c H locs 0 0 Q (F0 m 2 ls [])) (fun r => KM below D cI cZ mo ad args s Q r none))) res) : W p l e R s m args below meth c H locs 0 0 Q (F0 m 232 ls [.int (zI t0), .int (zI t1), .ref (ad 34)]) := by
  unfold m_match_232 at hf
  have hx := C.1
  have hb := C.2.1
  have hts := C.2.2.2.2.2.2.1
  obtain ⟨hg, hf⟩ := gd_inv hf
  obtain ⟨hv, hf⟩ := gd_inv hf
  obtain ⟨M4, eM4, hf⟩ := bnd_inv hf
  refine zm_zast C hZ 34 (by decide) rfl rfl hg hv dX5_match_232 (fun H locs hZ => ?_)
  rw [← eM4] at hZ
  refine zl_iinc (x := x4) (n := 1) (lv' := [(4, .int (zI (x4 + 1))), (0, .ref mo), (1, .int (zI x1)), (2, .int (zI x2)), (3, .int (zI x3))]) (k := 4) hx hb dX5_match_233 hl rfl (by decide) rfl (fun ls hl => ?_)
  refine lv_goto (tgt := 23) hx hb dX5_match_236 (by decide) ?_
  obtain rfl := Option.some.inj hf
  exact hK _ _ _ hZ (lv_sub hl [1, 2, 3, 4, 0] rfl)

theorem w_match_231 {p : Program} {l : Launch} {e : Env} {R : Room} {s : State} {m : MethodId} {args : Array Value} {below : List Frame} {meth : Method} {c : Code} {Q : State → Prop} {D : va_G} {cI cZ : ClassId} {mo : Nat} {ad : Nat → Nat} {H : Heap} {locs : List Loc} {M : MS} (C : MC p s m args meth c D cI cZ cX5_match 10 none) (hR : 0 ≤ R.frames ∧ 0 ≤ R.locals) {x1 x2 x3 x4 t0 : Int} {res : (MS × Int) ⊕ ((MS × Int) ⊕ (MS))} (hf : m_match_231 M x1 x2 x3 x4 t0 = some res) (hZ : ZM D cI cZ mo ad s.heap M H locs) {ls : Array Slot} (hl : lv_has ls 10 [(0, .ref mo), (1, .int (zI x1)), (2, .int (zI x2)), (3, .int (zI x3)), (4, .int (zI x4))]) (hK : (Sum.elim (fun z => ∀ (H : Heap) (locs : List Loc) (ls : Array Slot), ZM D cI cZ mo ad s.heap z.1 H locs → lv_has ls 10 [(0, .ref mo), (1, .int (zI x1)), (2, .int (zI x2)), (3, .int (zI x3)), (4, .int (zI z.2))] → W p l e R s m args below meth c H locs 0 0 Q (F0 m 23 ls [])) (Sum.elim (fun z => ∀ (H : Heap) (locs : List Loc) (ls : Array Slot), ZM D cI cZ mo ad s.heap z.1 H locs → lv_has ls 10 [(0, .ref mo), (1, .int (zI x1)), (2, .int (zI z.2))] → W p l e R s m args below meth c H locs 0 0 Q (F0 m 2 ls [])) (fun r => KM below D cI cZ mo ad args s Q r none))) res) : W p l e R s m args below meth c H locs 0 0 Q (F0 m 231 ls [.int (zI t0), .ref (ad 34)]) := by
  unfold m_match_231 at hf
  have hx := C.1
  have hb := C.2.1
  have hts := C.2.2.2.2.2.2.1
  refine zl_iconst hx hb dX5_match_231 ?_
  exact w_match_232 C hR hf hZ (lv_sub hl [0, 1, 2, 3, 4] rfl) hK

theorem w_match_206 {p : Program} {l : Launch} {e : Env} {R : Room} {s : State} {m : MethodId} {args : Array Value} {below : List Frame} {meth : Method} {c : Code} {Q : State → Prop} {D : va_G} {cI cZ : ClassId} {mo : Nat} {ad : Nat → Nat} {H : Heap} {locs : List Loc} {M : MS} (C : MC p s m args meth c D cI cZ cX5_match 10 none) (hR : 0 ≤ R.frames ∧ 0 ≤ R.locals) {x1 x2 x3 x4 x6 x7 : Int} {res : (MS × Int) ⊕ ((MS × Int) ⊕ (MS))} (hf : m_match_206 M x1 x2 x3 x4 x6 x7 = some res) (hZ : ZM D cI cZ mo ad s.heap M H locs) {ls : Array Slot} (hl : lv_has ls 10 [(0, .ref mo), (1, .int (zI x1)), (2, .int (zI x2)), (3, .int (zI x3)), (4, .int (zI x4)), (6, .int (zI x6)), (7, .int (zI x7))]) (hK : (Sum.elim (fun z => ∀ (H : Heap) (locs : List Loc) (ls : Array Slot), ZM D cI cZ mo ad s.heap z.1 H locs → lv_has ls 10 [(0, .ref mo), (1, .int (zI x1)), (2, .int (zI x2)), (3, .int (zI x3)), (4, .int (zI z.2))] → W p l e R s m args below meth c H locs 0 0 Q (F0 m 23 ls [])) (Sum.elim (fun z => ∀ (H : Heap) (locs : List Loc) (ls : Array Slot), ZM D cI cZ mo ad s.heap z.1 H locs → lv_has ls 10 [(0, .ref mo), (1, .int (zI x1)), (2, .int (zI z.2))] → W p l e R s m args below meth c H locs 0 0 Q (F0 m 2 ls [])) (fun r => KM below D cI cZ mo ad args s Q r none))) res) : W p l e R s m args below meth c H locs 0 0 Q (F0 m 206 ls []) := by
  unfold m_match_206 at hf
  have hx := C.1
  have hb := C.2.1
  have hts := C.2.2.2.2.2.2.1
  refine lv_aload_n hx hb dX5_match_206 rfl (lv_at hl 0 rfl) ?_
  refine zm_geta C hZ 34 (by decide) (by decide) q1175 dX5_match_207 ?_
  refine zl_bipush hx hb dX5_match_210 (by decide) ?_
  refine lv_iload_n hx hb dX5_match_212 rfl (lv_at hl 2 rfl) ?_
  refine zl_imul hx hb dX5_match_213 ?_
  refine lv_iload hx hb dX5_match_214 (lv_at hl 4 rfl) ?_
  refine zl_iadd hx hb dX5_match_216 ?_
  refine lv_iload hx hb dX5_match_217 (lv_at hl 5 rfl) ?_
  refine zl_if_eq (tgt := 231) hx hb dX5_match_219 (by decide) (fun hc => ?_) (fun hc => ?_)
  · rw [if_pos hc] at hf
    exact w_match_231 C hR hf hZ (lv_sub hl [0, 1, 2, 3, 4] rfl) hK
  · rw [if_neg hc] at hf
    refine lv_iload hx hb dX5_match_222 (lv_at hl 6 rfl) ?_
    refine zl_if_eq (tgt := 231) hx hb dX5_match_224 (by decide) (fun hc => ?_) (fun hc => ?_)
    · rw [if_pos hc] at hf
      exact w_match_231 C hR hf hZ (lv_sub hl [0, 1, 2, 3, 4] rfl) hK
    · rw [if_neg hc] at hf
      refine zl_iconst hx hb dX5_match_227 ?_
      refine lv_goto (tgt := 232) hx hb dX5_match_228 (by decide) ?_
      exact w_match_232 C hR hf hZ (lv_sub hl [0, 1, 2, 3, 4] rfl) hK

theorem w_match_189 {p : Program} {l : Launch} {e : Env} {R : Room} {s : State} {m : MethodId} {args : Array Value} {below : List Frame} {meth : Method} {c : Code} {Q : State → Prop} {D : va_G} {cI cZ : ClassId} {mo : Nat} {ad : Nat → Nat} {H : Heap} {locs : List Loc} {M : MS} (C : MC p s m args meth c D cI cZ cX5_match 10 none) (hR : 0 ≤ R.frames ∧ 0 ≤ R.locals) {x1 x2 x3 x4 x6 x8 x9 t0 : Int} {res : (Int × Int × Int) ⊕ ((MS × Int) ⊕ ((MS × Int) ⊕ (MS)))} (hf : m_match_189 M x1 x2 x3 x4 x6 x8 x9 t0 = some res) (hZ : ZM D cI cZ mo ad s.heap M H locs) {ls : Array Slot} (hl : lv_has ls 10 [(0, .ref mo), (1, .int (zI x1)), (2, .int (zI x2)), (3, .int (zI x3)), (4, .int (zI x4)), (6, .int (zI x6)), (8, .int (zI x8)), (9, .int (zI x9))]) (hK : (Sum.elim (fun z => ∀ (H : Heap) (locs : List Loc) (ls : Array Slot), ZM D cI cZ mo ad s.heap M H locs → lv_has ls 10 [(0, .ref mo), (1, .int (zI x1)), (2, .int (zI x2)), (3, .int (zI x3)), (4, .int (zI x4)), (6, .int (zI x6)), (7, .int (zI z.1)), (8, .int (zI z.2.1)), (9, .int (zI z.2.2))] → W p l e R s m args below meth c H locs 0 0 Q (F0 m 131 ls [])) (Sum.elim (fun z => ∀ (H : Heap) (locs : List Loc) (ls : Array Slot), ZM D cI cZ mo ad s.heap z.1 H locs → lv_has ls 10 [(0, .ref mo), (1, .int (zI x1)), (2, .int (zI x2)), (3, .int (zI x3)), (4, .int (zI z.2))] → W p l e R s m args below meth c H locs 0 0 Q (F0 m 23 ls [])) (Sum.elim (fun z => ∀ (H : Heap) (locs : List Loc) (ls : Array Slot), ZM D cI cZ mo ad s.heap z.1 H locs → lv_has ls 10 [(0, .ref mo), (1, .int (zI x1)), (2, .int (zI z.2))] → W p l e R s m args below meth c H locs 0 0 Q (F0 m 2 ls [])) (fun r => KM below D cI cZ mo ad args s Q r none)))) res) : W p l e R s m args below meth c H locs 0 0 Q (F0 m 189 ls [.int (zI t0)]) := by
  unfold m_match_189 at hf
  have hx := C.1
  have hb := C.2.1
  have hts := C.2.2.2.2.2.2.1
  refine lv_istore (lv' := [(7, .int (zI t0)), (0, .ref mo), (1, .int (zI x1)), (2, .int (zI x2)), (3, .int (zI x3)), (4, .int (zI x4)), (6, .int (zI x6)), (8, .int (zI x8)), (9, .int (zI x9))]) hx hb dX5_match_189 hl (by decide) rfl (fun ls hl => ?_)
  refine lv_aload_n hx hb dX5_match_191 rfl (lv_at hl 1 rfl) ?_
  refine zm_geta C hZ 33 (by decide) (by decide) q1174 dX5_match_192 ?_
  refine lv_iload hx hb dX5_match_195 (lv_at hl 7 rfl) ?_
  obtain ⟨hg, hf⟩ := gd_inv hf
  refine zm_iald C hZ 33 (by decide) rfl rfl hg dX5_match_197 ?_
  obtain ⟨y4, ey4, hf⟩ := bnd_inv hf
  refine zl_top ey4 ?_
  refine lv_istore (lv' := [(8, .int (zI y4)), (7, .int (zI t0)), (0, .ref mo), (1, .int (zI x1)), (2, .int (zI x2)), (3, .int (zI x3)), (4, .int (zI x4)), (6, .int (zI x6)), (9, .int (zI x9))]) hx hb dX5_match_198 hl (by decide) rfl (fun ls hl => ?_)
  refine zl_iinc (x := x9) (n := 1) (lv' := [(9, .int (zI (x9 + 1))), (8, .int (zI y4)), (7, .int (zI t0)), (0, .ref mo), (1, .int (zI x1)), (2, .int (zI x2)), (3, .int (zI x3)), (4, .int (zI x4)), (6, .int (zI x6))]) (k := 8) hx hb dX5_match_200 hl rfl (by decide) rfl (fun ls hl => ?_)
  refine lv_goto (tgt := 131) hx hb dX5_match_203 (by decide) ?_
  obtain rfl := Option.some.inj hf
  exact hK _ _ _ hZ (lv_sub hl [3, 4, 5, 6, 7, 8, 2, 1, 0] rfl)

theorem w_match_188 {p : Program} {l : Launch} {e : Env} {R : Room} {s : State} {m : MethodId} {args : Array Value} {below : List Frame} {meth : Method} {c : Code} {Q : State → Prop} {D : va_G} {cI cZ : ClassId} {mo : Nat} {ad : Nat → Nat} {H : Heap} {locs : List Loc} {M : MS} (C : MC p s m args meth c D cI cZ cX5_match 10 none) (hR : 0 ≤ R.frames ∧ 0 ≤ R.locals) {x1 x2 x3 x4 x6 x8 x9 : Int} {res : (Int × Int × Int) ⊕ ((MS × Int) ⊕ ((MS × Int) ⊕ (MS)))} (hf : m_match_188 M x1 x2 x3 x4 x6 x8 x9 = some res) (hZ : ZM D cI cZ mo ad s.heap M H locs) {ls : Array Slot} (hl : lv_has ls 10 [(0, .ref mo), (1, .int (zI x1)), (2, .int (zI x2)), (3, .int (zI x3)), (4, .int (zI x4)), (6, .int (zI x6)), (8, .int (zI x8)), (9, .int (zI x9))]) (hK : (Sum.elim (fun z => ∀ (H : Heap) (locs : List Loc) (ls : Array Slot), ZM D cI cZ mo ad s.heap M H locs → lv_has ls 10 [(0, .ref mo), (1, .int (zI x1)), (2, .int (zI x2)), (3, .int (zI x3)), (4, .int (zI x4)), (6, .int (zI x6)), (7, .int (zI z.1)), (8, .int (zI z.2.1)), (9, .int (zI z.2.2))] → W p l e R s m args below meth c H locs 0 0 Q (F0 m 131 ls [])) (Sum.elim (fun z => ∀ (H : Heap) (locs : List Loc) (ls : Array Slot), ZM D cI cZ mo ad s.heap z.1 H locs → lv_has ls 10 [(0, .ref mo), (1, .int (zI x1)), (2, .int (zI x2)), (3, .int (zI x3)), (4, .int (zI z.2))] → W p l e R s m args below meth c H locs 0 0 Q (F0 m 23 ls [])) (Sum.elim (fun z => ∀ (H : Heap) (locs : List Loc) (ls : Array Slot), ZM D cI cZ mo ad s.heap z.1 H locs → lv_has ls 10 [(0, .ref mo), (1, .int (zI x1)), (2, .int (zI z.2))] → W p l e R s m args below meth c H locs 0 0 Q (F0 m 2 ls [])) (fun r => KM below D cI cZ mo ad args s Q r none)))) res) : W p l e R s m args below meth c H locs 0 0 Q (F0 m 188 ls []) := by
  unfold m_match_188 at hf
  have hx := C.1
  have hb := C.2.1
  have hts := C.2.2.2.2.2.2.1
  refine zl_iconst hx hb dX5_match_188 ?_
  exact w_match_189 C hR hf hZ (lv_sub hl [0, 1, 2, 3, 4, 5, 6, 7] rfl) hK

theorem w_match_184 {p : Program} {l : Launch} {e : Env} {R : Room} {s : State} {m : MethodId} {args : Array Value} {below : List Frame} {meth : Method} {c : Code} {Q : State → Prop} {D : va_G} {cI cZ : ClassId} {mo : Nat} {ad : Nat → Nat} {H : Heap} {locs : List Loc} {M : MS} (C : MC p s m args meth c D cI cZ cX5_match 10 none) (hR : 0 ≤ R.frames ∧ 0 ≤ R.locals) {x1 x2 x3 x4 x6 x8 x9 : Int} {res : (Int × Int × Int) ⊕ ((MS × Int) ⊕ ((MS × Int) ⊕ (MS)))} (hf : m_match_184 M x1 x2 x3 x4 x6 x8 x9 = some res) (hZ : ZM D cI cZ mo ad s.heap M H locs) {ls : Array Slot} (hl : lv_has ls 10 [(0, .ref mo), (1, .int (zI x1)), (2, .int (zI x2)), (3, .int (zI x3)), (4, .int (zI x4)), (6, .int (zI x6)), (8, .int (zI x8)), (9, .int (zI x9))]) (hK : (Sum.elim (fun z => ∀ (H : Heap) (locs : List Loc) (ls : Array Slot), ZM D cI cZ mo ad s.heap M H locs → lv_has ls 10 [(0, .ref mo), (1, .int (zI x1)), (2, .int (zI x2)), (3, .int (zI x3)), (4, .int (zI x4)), (6, .int (zI x6)), (7, .int (zI z.1)), (8, .int (zI z.2.1)), (9, .int (zI z.2.2))] → W p l e R s m args below meth c H locs 0 0 Q (F0 m 131 ls [])) (Sum.elim (fun z => ∀ (H : Heap) (locs : List Loc) (ls : Array Slot), ZM D cI cZ mo ad s.heap z.1 H locs → lv_has ls 10 [(0, .ref mo), (1, .int (zI x1)), (2, .int (zI x2)), (3, .int (zI x3)), (4, .int (zI z.2))] → W p l e R s m args below meth c H locs 0 0 Q (F0 m 23 ls [])) (Sum.elim (fun z => ∀ (H : Heap) (locs : List Loc) (ls : Array Slot), ZM D cI cZ mo ad s.heap z.1 H locs → lv_has ls 10 [(0, .ref mo), (1, .int (zI x1)), (2, .int (zI z.2))] → W p l e R s m args below meth c H locs 0 0 Q (F0 m 2 ls [])) (fun r => KM below D cI cZ mo ad args s Q r none)))) res) : W p l e R s m args below meth c H locs 0 0 Q (F0 m 184 ls []) := by
  unfold m_match_184 at hf
  have hx := C.1
  have hb := C.2.1
  have hts := C.2.2.2.2.2.2.1
  refine zl_iconst hx hb dX5_match_184 ?_
  refine lv_goto (tgt := 189) hx hb dX5_match_185 (by decide) ?_
  exact w_match_189 C hR hf hZ (lv_sub hl [0, 1, 2, 3, 4, 5, 6, 7] rfl) hK

theorem w_match_131s {p : Program} {l : Launch} {e : Env} {R : Room} {s : State} {m : MethodId} {args : Array Value} {below : List Frame} {meth : Method} {c : Code} {Q : State → Prop} {D : va_G} {cI cZ : ClassId} {mo : Nat} {ad : Nat → Nat} {H : Heap} {locs : List Loc} {M : MS} (C : MC p s m args meth c D cI cZ cX5_match 10 none) (hR : 0 ≤ R.frames ∧ 0 ≤ R.locals) {x1 x2 x3 x4 x6 x7 x8 x9 : Int} {res : (Int × Int × Int) ⊕ ((MS × Int) ⊕ ((MS × Int) ⊕ (MS)))} (hf : m_match_131s M x1 x2 x3 x4 x6 x7 x8 x9 = some res) (hZ : ZM D cI cZ mo ad s.heap M H locs) {ls : Array Slot} (hl : lv_has ls 10 [(0, .ref mo), (1, .int (zI x1)), (2, .int (zI x2)), (3, .int (zI x3)), (4, .int (zI x4)), (6, .int (zI x6)), (7, .int (zI x7)), (8, .int (zI x8)), (9, .int (zI x9))]) (hK : (Sum.elim (fun z => ∀ (H : Heap) (locs : List Loc) (ls : Array Slot), ZM D cI cZ mo ad s.heap M H locs → lv_has ls 10 [(0, .ref mo), (1, .int (zI x1)), (2, .int (zI x2)), (3, .int (zI x3)), (4, .int (zI x4)), (6, .int (zI x6)), (7, .int (zI z.1)), (8, .int (zI z.2.1)), (9, .int (zI z.2.2))] → W p l e R s m args below meth c H locs 0 0 Q (F0 m 131 ls [])) (Sum.elim (fun z => ∀ (H : Heap) (locs : List Loc) (ls : Array Slot), ZM D cI cZ mo ad s.heap z.1 H locs → lv_has ls 10 [(0, .ref mo), (1, .int (zI x1)), (2, .int (zI x2)), (3, .int (zI x3)), (4, .int (zI z.2))] → W p l e R s m args below meth c H locs 0 0 Q (F0 m 23 ls [])) (Sum.elim (fun z => ∀ (H : Heap) (locs : List Loc) (ls : Array Slot), ZM D cI cZ mo ad s.heap z.1 H locs → lv_has ls 10 [(0, .ref mo), (1, .int (zI x1)), (2, .int (zI z.2))] → W p l e R s m args below meth c H locs 0 0 Q (F0 m 2 ls [])) (fun r => KM below D cI cZ mo ad args s Q r none)))) res) : W p l e R s m args below meth c H locs 0 0 Q (F0 m 131 ls []) := by
  unfold m_match_131s at hf
  have hx := C.1
  have hb := C.2.1
  have hts := C.2.2.2.2.2.2.1
  refine lv_iload hx hb dX5_match_131 (lv_at hl 8 rfl) ?_
  refine zl_bipush hx hb dX5_match_133 (by decide) ?_
  refine zl_icmp_ge (tgt := 206) hx hb dX5_match_135 (by decide) (fun hc => ?_) (fun hc => ?_)
  · rw [if_pos hc] at hf
    refine lv_iload hx hb dX5_match_138 (lv_at hl 7 rfl) ?_
    refine zl_if_lt (tgt := 206) hx hb dX5_match_140 (by decide) (fun hc => ?_) (fun hc => ?_)
    · rw [if_pos hc] at hf
      obtain ⟨r0, hm0, rfl⟩ := mr_inv hf
      exact w_match_206 C hR hm0 hZ (lv_sub hl [0, 1, 2, 3, 4, 5, 6] rfl) hK
    · rw [if_neg hc] at hf
      refine lv_iload_n hx hb dX5_match_143 rfl (lv_at hl 2 rfl) ?_
      refine zl_iconst hx hb dX5_match_144 ?_
      refine zl_icmp_le (tgt := 206) hx hb dX5_match_145 (by decide) (fun hc => ?_) (fun hc => ?_)
      · rw [if_pos hc] at hf
        refine lv_iload hx hb dX5_match_148 (lv_at hl 6 rfl) ?_
        refine zl_if_ne (tgt := 184) hx hb dX5_match_150 (by decide) (fun hc => ?_) (fun hc => ?_)
        · rw [if_pos hc] at hf
          refine lv_aload_n hx hb dX5_match_153 rfl (lv_at hl 0 rfl) ?_
          refine zm_geta C hZ 34 (by decide) (by decide) q1175 dX5_match_154 ?_
          refine zl_bipush hx hb dX5_match_157 (by decide) ?_
          refine lv_iload_n hx hb dX5_match_159 rfl (lv_at hl 2 rfl) ?_
          refine zl_iconst hx hb dX5_match_160 ?_
          refine zl_isub hx hb dX5_match_161 ?_
          refine zl_imul hx hb dX5_match_162 ?_
          refine lv_iload hx hb dX5_match_163 (lv_at hl 7 rfl) ?_
          refine zl_iadd hx hb dX5_match_165 ?_
          obtain ⟨hg, hf⟩ := gd_inv hf
          refine zm_zald C hZ 34 (by decide) rfl rfl hg dX5_match_166 ?_
          refine zl_if_eq (tgt := 188) hx hb dX5_match_167 (by decide) (fun hc => ?_) (fun hc => ?_)
          · rw [if_pos hc] at hf
            exact w_match_188 C hR hf hZ (lv_sub hl [0, 1, 2, 3, 4, 5, 7, 8] rfl) hK
          · rw [if_neg hc] at hf
            refine lv_iload hx hb dX5_match_170 (lv_at hl 8 rfl) ?_
            refine zl_if_eq (tgt := 184) hx hb dX5_match_172 (by decide) (fun hc => ?_) (fun hc => ?_)
            · rw [if_pos hc] at hf
              exact w_match_184 C hR hf hZ (lv_sub hl [0, 1, 2, 3, 4, 5, 7, 8] rfl) hK
            · rw [if_neg hc] at hf
              refine lv_aload_n hx hb dX5_match_175 rfl (lv_at hl 0 rfl) ?_
              refine zm_geta C hZ 25 (by decide) (by decide) q1166 dX5_match_176 ?_
              refine lv_iload_n hx hb dX5_match_179 rfl (lv_at hl 3 rfl) ?_
              obtain ⟨hg, hf⟩ := gd_inv hf
              refine zm_zald C hZ 25 (by decide) rfl rfl hg dX5_match_180 ?_
              refine zl_if_ne (tgt := 188) hx hb dX5_match_181 (by decide) (fun hc => ?_) (fun hc => ?_)
              · rw [if_pos hc] at hf
                exact w_match_184 C hR hf hZ (lv_sub hl [0, 1, 2, 3, 4, 5, 7, 8] rfl) hK
              · rw [if_neg hc] at hf
                exact w_match_188 C hR hf hZ (lv_sub hl [0, 1, 2, 3, 4, 5, 7, 8] rfl) hK
        · rw [if_neg hc] at hf
          exact w_match_184 C hR hf hZ (lv_sub hl [0, 1, 2, 3, 4, 5, 7, 8] rfl) hK
      · rw [if_neg hc] at hf
        obtain ⟨r0, hm0, rfl⟩ := mr_inv hf
        exact w_match_206 C hR hm0 hZ (lv_sub hl [0, 1, 2, 3, 4, 5, 6] rfl) hK
  · rw [if_neg hc] at hf
    obtain ⟨r0, hm0, rfl⟩ := mr_inv hf
    exact w_match_206 C hR hm0 hZ (lv_sub hl [0, 1, 2, 3, 4, 5, 6] rfl) hK

theorem w_match_131 {p : Program} {l : Launch} {e : Env} {R : Room} {s : State} {m : MethodId} {args : Array Value} {below : List Frame} {meth : Method} {c : Code} {Q : State → Prop} {D : va_G} {cI cZ : ClassId} {mo : Nat} {ad : Nat → Nat} {H : Heap} {locs : List Loc} {M : MS} (C : MC p s m args meth c D cI cZ cX5_match 10 none) (hR : 0 ≤ R.frames ∧ 0 ≤ R.locals) {x1 x2 x3 x4 x6 x7 x8 x9 : Int} {res : (MS × Int) ⊕ ((MS × Int) ⊕ (MS))} (hf : m_match_131 M x1 x2 x3 x4 x6 x7 x8 x9 = some res) (hZ : ZM D cI cZ mo ad s.heap M H locs) {ls : Array Slot} (hl : lv_has ls 10 [(0, .ref mo), (1, .int (zI x1)), (2, .int (zI x2)), (3, .int (zI x3)), (4, .int (zI x4)), (6, .int (zI x6)), (7, .int (zI x7)), (8, .int (zI x8)), (9, .int (zI x9))]) (hK : (Sum.elim (fun z => ∀ (H : Heap) (locs : List Loc) (ls : Array Slot), ZM D cI cZ mo ad s.heap z.1 H locs → lv_has ls 10 [(0, .ref mo), (1, .int (zI x1)), (2, .int (zI x2)), (3, .int (zI x3)), (4, .int (zI z.2))] → W p l e R s m args below meth c H locs 0 0 Q (F0 m 23 ls [])) (Sum.elim (fun z => ∀ (H : Heap) (locs : List Loc) (ls : Array Slot), ZM D cI cZ mo ad s.heap z.1 H locs → lv_has ls 10 [(0, .ref mo), (1, .int (zI x1)), (2, .int (zI z.2))] → W p l e R s m args below meth c H locs 0 0 Q (F0 m 2 ls [])) (fun r => KM below D cI cZ mo ad args s Q r none))) res) : W p l e R s m args below meth c H locs 0 0 Q (F0 m 131 ls []) := by
  unfold m_match_131 at hf
  refine iter_ind (P := fun z r => ∀ (H : Heap) (locs : List Loc) (ls : Array Slot), ZM D cI cZ mo ad s.heap M H locs → lv_has ls 10 [(0, .ref mo), (1, .int (zI x1)), (2, .int (zI x2)), (3, .int (zI x3)), (4, .int (zI x4)), (6, .int (zI x6)), (7, .int (zI z.1)), (8, .int (zI z.2.1)), (9, .int (zI z.2.2))] → (Sum.elim (fun z => ∀ (H : Heap) (locs : List Loc) (ls : Array Slot), ZM D cI cZ mo ad s.heap z.1 H locs → lv_has ls 10 [(0, .ref mo), (1, .int (zI x1)), (2, .int (zI x2)), (3, .int (zI x3)), (4, .int (zI z.2))] → W p l e R s m args below meth c H locs 0 0 Q (F0 m 23 ls [])) (Sum.elim (fun z => ∀ (H : Heap) (locs : List Loc) (ls : Array Slot), ZM D cI cZ mo ad s.heap z.1 H locs → lv_has ls 10 [(0, .ref mo), (1, .int (zI x1)), (2, .int (zI z.2))] → W p l e R s m args below meth c H locs 0 0 Q (F0 m 2 ls [])) (fun r => KM below D cI cZ mo ad args s Q r none))) r → W p l e R s m args below meth c H locs 0 0 Q (F0 m 131 ls [])) ?_ ?_ hf H locs ls hZ hl hK
  · intro z r h1 H locs ls hZ hl hK; exact w_match_131s C hR h1 hZ hl hK
  · intro z z1 r h1 ih H locs ls hZ hl hK; exact w_match_131s C hR h1 hZ hl (fun H locs ls hZ hl => ih H locs ls hZ hl hK)

theorem w_match_117 {p : Program} {l : Launch} {e : Env} {R : Room} {s : State} {m : MethodId} {args : Array Value} {below : List Frame} {meth : Method} {c : Code} {Q : State → Prop} {D : va_G} {cI cZ : ClassId} {mo : Nat} {ad : Nat → Nat} {H : Heap} {locs : List Loc} {M : MS} (C : MC p s m args meth c D cI cZ cX5_match 10 none) (hR : 0 ≤ R.frames ∧ 0 ≤ R.locals) {x1 x2 x3 x4 x6 t0 : Int} {res : (MS × Int) ⊕ ((MS × Int) ⊕ (MS))} (hf : m_match_117 M x1 x2 x3 x4 x6 t0 = some res) (hZ : ZM D cI cZ mo ad s.heap M H locs) {ls : Array Slot} (hl : lv_has ls 10 [(0, .ref mo), (1, .int (zI x1)), (2, .int (zI x2)), (3, .int (zI x3)), (4, .int (zI x4)), (6, .int (zI x6))]) (hK : (Sum.elim (fun z => ∀ (H : Heap) (locs : List Loc) (ls : Array Slot), ZM D cI cZ mo ad s.heap z.1 H locs → lv_has ls 10 [(0, .ref mo), (1, .int (zI x1)), (2, .int (zI x2)), (3, .int (zI x3)), (4, .int (zI z.2))] → W p l e R s m args below meth c H locs 0 0 Q (F0 m 23 ls [])) (Sum.elim (fun z => ∀ (H : Heap) (locs : List Loc) (ls : Array Slot), ZM D cI cZ mo ad s.heap z.1 H locs → lv_has ls 10 [(0, .ref mo), (1, .int (zI x1)), (2, .int (zI z.2))] → W p l e R s m args below meth c H locs 0 0 Q (F0 m 2 ls [])) (fun r => KM below D cI cZ mo ad args s Q r none))) res) : W p l e R s m args below meth c H locs 0 0 Q (F0 m 117 ls [.int (zI t0)]) := by
  unfold m_match_117 at hf
  have hx := C.1
  have hb := C.2.1
  have hts := C.2.2.2.2.2.2.1
  refine lv_istore (lv' := [(7, .int (zI t0)), (0, .ref mo), (1, .int (zI x1)), (2, .int (zI x2)), (3, .int (zI x3)), (4, .int (zI x4)), (6, .int (zI x6))]) hx hb dX5_match_117 hl (by decide) rfl (fun ls hl => ?_)
  refine lv_aload_n hx hb dX5_match_119 rfl (lv_at hl 1 rfl) ?_
  refine zm_geta C hZ 33 (by decide) (by decide) q1174 dX5_match_120 ?_
  refine lv_iload hx hb dX5_match_123 (lv_at hl 5 rfl) ?_
  obtain ⟨hg, hf⟩ := gd_inv hf
  refine zm_iald C hZ 33 (by decide) rfl rfl hg dX5_match_125 ?_
  obtain ⟨y3, ey3, hf⟩ := bnd_inv hf
  refine zl_top ey3 ?_
  refine lv_istore (lv' := [(8, .int (zI y3)), (7, .int (zI t0)), (0, .ref mo), (1, .int (zI x1)), (2, .int (zI x2)), (3, .int (zI x3)), (4, .int (zI x4)), (6, .int (zI x6))]) hx hb dX5_match_126 hl (by decide) rfl (fun ls hl => ?_)
  refine zl_iconst hx hb dX5_match_128 ?_
  refine lv_istore (lv' := [(9, .int (zI 0)), (8, .int (zI y3)), (7, .int (zI t0)), (0, .ref mo), (1, .int (zI x1)), (2, .int (zI x2)), (3, .int (zI x3)), (4, .int (zI x4)), (6, .int (zI x6))]) hx hb dX5_match_129 hl (by decide) rfl (fun ls hl => ?_)
  exact w_match_131 C hR hf hZ (lv_sub hl [3, 4, 5, 6, 7, 8, 2, 1, 0] rfl) hK

theorem w_match_105 {p : Program} {l : Launch} {e : Env} {R : Room} {s : State} {m : MethodId} {args : Array Value} {below : List Frame} {meth : Method} {c : Code} {Q : State → Prop} {D : va_G} {cI cZ : ClassId} {mo : Nat} {ad : Nat → Nat} {H : Heap} {locs : List Loc} {M : MS} (C : MC p s m args meth c D cI cZ cX5_match 10 none) (hR : 0 ≤ R.frames ∧ 0 ≤ R.locals) {x1 x2 x3 x4 t0 : Int} {res : (MS × Int) ⊕ ((MS × Int) ⊕ (MS))} (hf : m_match_105 M x1 x2 x3 x4 t0 = some res) (hZ : ZM D cI cZ mo ad s.heap M H locs) {ls : Array Slot} (hl : lv_has ls 10 [(0, .ref mo), (1, .int (zI x1)), (2, .int (zI x2)), (3, .int (zI x3)), (4, .int (zI x4))]) (hK : (Sum.elim (fun z => ∀ (H : Heap) (locs : List Loc) (ls : Array Slot), ZM D cI cZ mo ad s.heap z.1 H locs → lv_has ls 10 [(0, .ref mo), (1, .int (zI x1)), (2, .int (zI x2)), (3, .int (zI x3)), (4, .int (zI z.2))] → W p l e R s m args below meth c H locs 0 0 Q (F0 m 23 ls [])) (Sum.elim (fun z => ∀ (H : Heap) (locs : List Loc) (ls : Array Slot), ZM D cI cZ mo ad s.heap z.1 H locs → lv_has ls 10 [(0, .ref mo), (1, .int (zI x1)), (2, .int (zI z.2))] → W p l e R s m args below meth c H locs 0 0 Q (F0 m 2 ls [])) (fun r => KM below D cI cZ mo ad args s Q r none))) res) : W p l e R s m args below meth c H locs 0 0 Q (F0 m 105 ls [.int (zI t0)]) := by
  unfold m_match_105 at hf
  have hx := C.1
  have hb := C.2.1
  have hts := C.2.2.2.2.2.2.1
  refine lv_istore (lv' := [(6, .int (zI t0)), (0, .ref mo), (1, .int (zI x1)), (2, .int (zI x2)), (3, .int (zI x3)), (4, .int (zI x4))]) hx hb dX5_match_105 hl (by decide) rfl (fun ls hl => ?_)
  refine lv_iload_n hx hb dX5_match_107 rfl (lv_at hl 3 rfl) ?_
  refine zl_iconst hx hb dX5_match_108 ?_
  refine zl_icmp_ne (tgt := 116) hx hb dX5_match_109 (by decide) (fun hc => ?_) (fun hc => ?_)
  · rw [if_pos hc] at hf
    refine zl_iconst hx hb dX5_match_112 ?_
    refine lv_goto (tgt := 117) hx hb dX5_match_113 (by decide) ?_
    exact w_match_117 C hR hf hZ (lv_sub hl [1, 2, 3, 4, 5, 0] rfl) hK
  · rw [if_neg hc] at hf
    refine zl_iconst hx hb dX5_match_116 ?_
    exact w_match_117 C hR hf hZ (lv_sub hl [1, 2, 3, 4, 5, 0] rfl) hK

theorem w_match_104 {p : Program} {l : Launch} {e : Env} {R : Room} {s : State} {m : MethodId} {args : Array Value} {below : List Frame} {meth : Method} {c : Code} {Q : State → Prop} {D : va_G} {cI cZ : ClassId} {mo : Nat} {ad : Nat → Nat} {H : Heap} {locs : List Loc} {M : MS} (C : MC p s m args meth c D cI cZ cX5_match 10 none) (hR : 0 ≤ R.frames ∧ 0 ≤ R.locals) {x1 x2 x3 x4 : Int} {res : (MS × Int) ⊕ ((MS × Int) ⊕ (MS))} (hf : m_match_104 M x1 x2 x3 x4 = some res) (hZ : ZM D cI cZ mo ad s.heap M H locs) {ls : Array Slot} (hl : lv_has ls 10 [(0, .ref mo), (1, .int (zI x1)), (2, .int (zI x2)), (3, .int (zI x3)), (4, .int (zI x4))]) (hK : (Sum.elim (fun z => ∀ (H : Heap) (locs : List Loc) (ls : Array Slot), ZM D cI cZ mo ad s.heap z.1 H locs → lv_has ls 10 [(0, .ref mo), (1, .int (zI x1)), (2, .int (zI x2)), (3, .int (zI x3)), (4, .int (zI z.2))] → W p l e R s m args below meth c H locs 0 0 Q (F0 m 23 ls [])) (Sum.elim (fun z => ∀ (H : Heap) (locs : List Loc) (ls : Array Slot), ZM D cI cZ mo ad s.heap z.1 H locs → lv_has ls 10 [(0, .ref mo), (1, .int (zI x1)), (2, .int (zI z.2))] → W p l e R s m args below meth c H locs 0 0 Q (F0 m 2 ls [])) (fun r => KM below D cI cZ mo ad args s Q r none))) res) : W p l e R s m args below meth c H locs 0 0 Q (F0 m 104 ls []) := by
  unfold m_match_104 at hf
  have hx := C.1
  have hb := C.2.1
  have hts := C.2.2.2.2.2.2.1
  refine zl_iconst hx hb dX5_match_104 ?_
  exact w_match_105 C hR hf hZ (lv_sub hl [0, 1, 2, 3, 4] rfl) hK

theorem w_match_77 {p : Program} {l : Launch} {e : Env} {R : Room} {s : State} {m : MethodId} {args : Array Value} {below : List Frame} {meth : Method} {c : Code} {Q : State → Prop} {D : va_G} {cI cZ : ClassId} {mo : Nat} {ad : Nat → Nat} {H : Heap} {locs : List Loc} {M : MS} (C : MC p s m args meth c D cI cZ cX5_match 10 none) (hR : 0 ≤ R.frames ∧ 0 ≤ R.locals) {x1 x2 x3 x4 x5 : Int} {res : (MS × Int) ⊕ ((MS × Int) ⊕ (MS))} (hf : m_match_77 M x1 x2 x3 x4 x5 = some res) (hZ : ZM D cI cZ mo ad s.heap M H locs) {ls : Array Slot} (hl : lv_has ls 10 [(0, .ref mo), (1, .int (zI x1)), (2, .int (zI x2)), (3, .int (zI x3)), (4, .int (zI x4)), (5, .int (zI x5))]) (hK : (Sum.elim (fun z => ∀ (H : Heap) (locs : List Loc) (ls : Array Slot), ZM D cI cZ mo ad s.heap z.1 H locs → lv_has ls 10 [(0, .ref mo), (1, .int (zI x1)), (2, .int (zI x2)), (3, .int (zI x3)), (4, .int (zI z.2))] → W p l e R s m args below meth c H locs 0 0 Q (F0 m 23 ls [])) (Sum.elim (fun z => ∀ (H : Heap) (locs : List Loc) (ls : Array Slot), ZM D cI cZ mo ad s.heap z.1 H locs → lv_has ls 10 [(0, .ref mo), (1, .int (zI x1)), (2, .int (zI z.2))] → W p l e R s m args below meth c H locs 0 0 Q (F0 m 2 ls [])) (fun r => KM below D cI cZ mo ad args s Q r none))) res) : W p l e R s m args below meth c H locs 0 0 Q (F0 m 77 ls []) := by
  unfold m_match_77 at hf
  have hx := C.1
  have hb := C.2.1
  have hts := C.2.2.2.2.2.2.1
  refine lv_aload_n hx hb dX5_match_77 rfl (lv_at hl 0 rfl) ?_
  refine zm_geta C hZ 9 (by decide) (by decide) q1150 dX5_match_78 ?_
  refine lv_iload hx hb dX5_match_81 (lv_at hl 5 rfl) ?_
  obtain ⟨hg, hf⟩ := gd_inv hf
  refine zm_iald C hZ 9 (by decide) rfl rfl hg dX5_match_83 ?_
  refine lv_aload_n hx hb dX5_match_84 rfl (lv_at hl 0 rfl) ?_
  refine zm_geta C hZ 24 (by decide) (by decide) q1165 dX5_match_85 ?_
  refine lv_iload_n hx hb dX5_match_88 rfl (lv_at hl 3 rfl) ?_
  obtain ⟨hg, hf⟩ := gd_inv hf
  refine zm_iald C hZ 24 (by decide) rfl rfl hg dX5_match_89 ?_
  refine zl_iand hx hb dX5_match_90 ?_
  refine lv_aload_n hx hb dX5_match_91 rfl (lv_at hl 0 rfl) ?_
  refine zm_geta C hZ 24 (by decide) (by decide) q1165 dX5_match_92 ?_
  refine lv_iload_n hx hb dX5_match_95 rfl (lv_at hl 3 rfl) ?_
  obtain ⟨hg, hf⟩ := gd_inv hf
  refine zm_iald C hZ 24 (by decide) rfl rfl hg dX5_match_96 ?_
  refine zl_icmp_ne (tgt := 104) hx hb dX5_match_97 (by decide) (fun hc => ?_) (fun hc => ?_)
  · rw [if_pos hc] at hf
    refine zl_iconst hx hb dX5_match_100 ?_
    refine lv_goto (tgt := 105) hx hb dX5_match_101 (by decide) ?_
    exact w_match_105 C hR hf hZ (lv_sub hl [0, 1, 2, 3, 4] rfl) hK
  · rw [if_neg hc] at hf
    exact w_match_104 C hR hf hZ (lv_sub hl [0, 1, 2, 3, 4] rfl) hK

theorem w_match_239 {p : Program} {l : Launch} {e : Env} {R : Room} {s : State} {m : MethodId} {args : Array Value} {below : List Frame} {meth : Method} {c : Code} {Q : State → Prop} {D : va_G} {cI cZ : ClassId} {mo : Nat} {ad : Nat → Nat} {H : Heap} {locs : List Loc} {M : MS} (C : MC p s m args meth c D cI cZ cX5_match 10 none) (hR : 0 ≤ R.frames ∧ 0 ≤ R.locals) {x1 x2 : Int} {res : (MS × Int) ⊕ (MS)} (hf : m_match_239 M x1 x2 = some res) (hZ : ZM D cI cZ mo ad s.heap M H locs) {ls : Array Slot} (hl : lv_has ls 10 [(0, .ref mo), (1, .int (zI x1)), (2, .int (zI x2))]) (hK : (Sum.elim (fun z => ∀ (H : Heap) (locs : List Loc) (ls : Array Slot), ZM D cI cZ mo ad s.heap z.1 H locs → lv_has ls 10 [(0, .ref mo), (1, .int (zI x1)), (2, .int (zI z.2))] → W p l e R s m args below meth c H locs 0 0 Q (F0 m 2 ls [])) (fun r => KM below D cI cZ mo ad args s Q r none)) res) : W p l e R s m args below meth c H locs 0 0 Q (F0 m 239 ls []) := by
  unfold m_match_239 at hf
  have hx := C.1
  have hb := C.2.1
  have hts := C.2.2.2.2.2.2.1
  refine zl_iinc (x := x2) (n := 1) (lv' := [(2, .int (zI (x2 + 1))), (0, .ref mo), (1, .int (zI x1))]) (k := 2) hx hb dX5_match_239 hl rfl (by decide) rfl (fun ls hl => ?_)
  refine lv_goto (tgt := 2) hx hb dX5_match_242 (by decide) ?_
  obtain rfl := Option.some.inj hf
  exact hK _ _ _ hZ (lv_sub hl [1, 2, 0] rfl)

theorem w_match_23s {p : Program} {l : Launch} {e : Env} {R : Room} {s : State} {m : MethodId} {args : Array Value} {below : List Frame} {meth : Method} {c : Code} {Q : State → Prop} {D : va_G} {cI cZ : ClassId} {mo : Nat} {ad : Nat → Nat} {H : Heap} {locs : List Loc} {M : MS} (C : MC p s m args meth c D cI cZ cX5_match 10 none) (hR : 0 ≤ R.frames ∧ 0 ≤ R.locals) {x1 x2 x3 x4 : Int} {res : (MS × Int) ⊕ ((MS × Int) ⊕ (MS))} (hf : m_match_23s M x1 x2 x3 x4 = some res) (hZ : ZM D cI cZ mo ad s.heap M H locs) {ls : Array Slot} (hl : lv_has ls 10 [(0, .ref mo), (1, .int (zI x1)), (2, .int (zI x2)), (3, .int (zI x3)), (4, .int (zI x4))]) (hK : (Sum.elim (fun z => ∀ (H : Heap) (locs : List Loc) (ls : Array Slot), ZM D cI cZ mo ad s.heap z.1 H locs → lv_has ls 10 [(0, .ref mo), (1, .int (zI x1)), (2, .int (zI x2)), (3, .int (zI x3)), (4, .int (zI z.2))] → W p l e R s m args below meth c H locs 0 0 Q (F0 m 23 ls [])) (Sum.elim (fun z => ∀ (H : Heap) (locs : List Loc) (ls : Array Slot), ZM D cI cZ mo ad s.heap z.1 H locs → lv_has ls 10 [(0, .ref mo), (1, .int (zI x1)), (2, .int (zI z.2))] → W p l e R s m args below meth c H locs 0 0 Q (F0 m 2 ls [])) (fun r => KM below D cI cZ mo ad args s Q r none))) res) : W p l e R s m args below meth c H locs 0 0 Q (F0 m 23 ls []) := by
  unfold m_match_23s at hf
  have hx := C.1
  have hb := C.2.1
  have hts := C.2.2.2.2.2.2.1
  refine lv_iload hx hb dX5_match_23 (lv_at hl 4 rfl) ?_
  refine lv_aload_n hx hb dX5_match_25 rfl (lv_at hl 0 rfl) ?_
  refine zm_geti C hZ 5 (by decide) rfl q1146 dX5_match_26 ?_
  refine zl_icmp_ge (tgt := 239) hx hb dX5_match_29 (by decide) (fun hc => ?_) (fun hc => ?_)
  · rw [if_pos hc] at hf
    refine lv_aload_n hx hb dX5_match_32 rfl (lv_at hl 0 rfl) ?_
    refine zm_geta C hZ 6 (by decide) (by decide) q1147 dX5_match_33 ?_
    refine lv_iload hx hb dX5_match_36 (lv_at hl 4 rfl) ?_
    obtain ⟨hg, hf⟩ := gd_inv hf
    refine zm_iald C hZ 6 (by decide) rfl rfl hg dX5_match_38 ?_
    obtain ⟨y2, ey2, hf⟩ := bnd_inv hf
    refine zl_top ey2 ?_
    refine lv_istore (lv' := [(5, .int (zI y2)), (0, .ref mo), (1, .int (zI x1)), (2, .int (zI x2)), (3, .int (zI x3)), (4, .int (zI x4))]) hx hb dX5_match_39 hl (by decide) rfl (fun ls hl => ?_)
    refine lv_aload_n hx hb dX5_match_41 rfl (lv_at hl 1 rfl) ?_
    refine zm_geta C hZ 8 (by decide) (by decide) q1149 dX5_match_42 ?_
    refine lv_iload hx hb dX5_match_45 (lv_at hl 0 rfl) ?_
    obtain ⟨hg, hf⟩ := gd_inv hf
    refine zm_iald C hZ 8 (by decide) rfl rfl hg dX5_match_47 ?_
    refine zl_iconst hx hb dX5_match_48 ?_
    refine zl_icmp_le (tgt := 104) hx hb dX5_match_49 (by decide) (fun hc => ?_) (fun hc => ?_)
    · rw [if_pos hc] at hf
      refine lv_aload_n hx hb dX5_match_52 rfl (lv_at hl 1 rfl) ?_
      refine zm_geta C hZ 23 (by decide) (by decide) q1164 dX5_match_53 ?_
      refine lv_iload_n hx hb dX5_match_56 rfl (lv_at hl 4 rfl) ?_
      obtain ⟨hg, hf⟩ := gd_inv hf
      refine zm_iald C hZ 23 (by decide) rfl rfl hg dX5_match_57 ?_
      refine zl_if_eq (tgt := 77) hx hb dX5_match_58 (by decide) (fun hc => ?_) (fun hc => ?_)
      · rw [if_pos hc] at hf
        exact w_match_77 C hR hf hZ (lv_sub hl [1, 2, 3, 4, 5, 0] rfl) hK
      · rw [if_neg hc] at hf
        refine lv_aload_n hx hb dX5_match_61 rfl (lv_at hl 1 rfl) ?_
        refine zm_geta C hZ 23 (by decide) (by decide) q1164 dX5_match_62 ?_
        refine lv_iload_n hx hb dX5_match_65 rfl (lv_at hl 4 rfl) ?_
        obtain ⟨hg, hf⟩ := gd_inv hf
        refine zm_iald C hZ 23 (by decide) rfl rfl hg dX5_match_66 ?_
        refine lv_aload_n hx hb dX5_match_67 rfl (lv_at hl 1 rfl) ?_
        refine zm_geta C hZ 8 (by decide) (by decide) q1149 dX5_match_68 ?_
        refine lv_iload hx hb dX5_match_71 (lv_at hl 0 rfl) ?_
        obtain ⟨hg, hf⟩ := gd_inv hf
        refine zm_iald C hZ 8 (by decide) rfl rfl hg dX5_match_73 ?_
        refine zl_icmp_ne (tgt := 104) hx hb dX5_match_74 (by decide) (fun hc => ?_) (fun hc => ?_)
        · rw [if_pos hc] at hf
          exact w_match_77 C hR hf hZ (lv_sub hl [1, 2, 3, 4, 5, 0] rfl) hK
        · rw [if_neg hc] at hf
          exact w_match_104 C hR hf hZ (lv_sub hl [1, 2, 3, 4, 5] rfl) hK
    · rw [if_neg hc] at hf
      exact w_match_104 C hR hf hZ (lv_sub hl [1, 2, 3, 4, 5] rfl) hK
  · rw [if_neg hc] at hf
    obtain ⟨r0, hm0, rfl⟩ := mr_inv hf
    exact w_match_239 C hR hm0 hZ (lv_sub hl [0, 1, 2] rfl) hK

theorem w_match_23 {p : Program} {l : Launch} {e : Env} {R : Room} {s : State} {m : MethodId} {args : Array Value} {below : List Frame} {meth : Method} {c : Code} {Q : State → Prop} {D : va_G} {cI cZ : ClassId} {mo : Nat} {ad : Nat → Nat} {H : Heap} {locs : List Loc} {M : MS} (C : MC p s m args meth c D cI cZ cX5_match 10 none) (hR : 0 ≤ R.frames ∧ 0 ≤ R.locals) {x1 x2 x3 x4 : Int} {res : (MS × Int) ⊕ (MS)} (hf : m_match_23 M x1 x2 x3 x4 = some res) (hZ : ZM D cI cZ mo ad s.heap M H locs) {ls : Array Slot} (hl : lv_has ls 10 [(0, .ref mo), (1, .int (zI x1)), (2, .int (zI x2)), (3, .int (zI x3)), (4, .int (zI x4))]) (hK : (Sum.elim (fun z => ∀ (H : Heap) (locs : List Loc) (ls : Array Slot), ZM D cI cZ mo ad s.heap z.1 H locs → lv_has ls 10 [(0, .ref mo), (1, .int (zI x1)), (2, .int (zI z.2))] → W p l e R s m args below meth c H locs 0 0 Q (F0 m 2 ls [])) (fun r => KM below D cI cZ mo ad args s Q r none)) res) : W p l e R s m args below meth c H locs 0 0 Q (F0 m 23 ls []) := by
  unfold m_match_23 at hf
  refine iter_ind (P := fun z r => ∀ (H : Heap) (locs : List Loc) (ls : Array Slot), ZM D cI cZ mo ad s.heap z.1 H locs → lv_has ls 10 [(0, .ref mo), (1, .int (zI x1)), (2, .int (zI x2)), (3, .int (zI x3)), (4, .int (zI z.2))] → (Sum.elim (fun z => ∀ (H : Heap) (locs : List Loc) (ls : Array Slot), ZM D cI cZ mo ad s.heap z.1 H locs → lv_has ls 10 [(0, .ref mo), (1, .int (zI x1)), (2, .int (zI z.2))] → W p l e R s m args below meth c H locs 0 0 Q (F0 m 2 ls [])) (fun r => KM below D cI cZ mo ad args s Q r none)) r → W p l e R s m args below meth c H locs 0 0 Q (F0 m 23 ls [])) ?_ ?_ hf H locs ls hZ hl hK
  · intro z r h1 H locs ls hZ hl hK; exact w_match_23s C hR h1 hZ hl hK
  · intro z z1 r h1 ih H locs ls hZ hl hK; exact w_match_23s C hR h1 hZ hl (fun H locs ls hZ hl => ih H locs ls hZ hl hK)

theorem w_match_2s {p : Program} {l : Launch} {e : Env} {R : Room} {s : State} {m : MethodId} {args : Array Value} {below : List Frame} {meth : Method} {c : Code} {Q : State → Prop} {D : va_G} {cI cZ : ClassId} {mo : Nat} {ad : Nat → Nat} {H : Heap} {locs : List Loc} {M : MS} (C : MC p s m args meth c D cI cZ cX5_match 10 none) (hR : 0 ≤ R.frames ∧ 0 ≤ R.locals) {x1 x2 : Int} {res : (MS × Int) ⊕ (MS)} (hf : m_match_2s M x1 x2 = some res) (hZ : ZM D cI cZ mo ad s.heap M H locs) {ls : Array Slot} (hl : lv_has ls 10 [(0, .ref mo), (1, .int (zI x1)), (2, .int (zI x2))]) (hK : (Sum.elim (fun z => ∀ (H : Heap) (locs : List Loc) (ls : Array Slot), ZM D cI cZ mo ad s.heap z.1 H locs → lv_has ls 10 [(0, .ref mo), (1, .int (zI x1)), (2, .int (zI z.2))] → W p l e R s m args below meth c H locs 0 0 Q (F0 m 2 ls [])) (fun r => KM below D cI cZ mo ad args s Q r none)) res) : W p l e R s m args below meth c H locs 0 0 Q (F0 m 2 ls []) := by
  unfold m_match_2s at hf
  have hx := C.1
  have hb := C.2.1
  have hts := C.2.2.2.2.2.2.1
  refine lv_iload_n hx hb dX5_match_2 rfl (lv_at hl 2 rfl) ?_
  refine lv_aload_n hx hb dX5_match_3 rfl (lv_at hl 0 rfl) ?_
  refine zm_geta C hZ 26 (by decide) (by decide) q1167 dX5_match_4 ?_
  refine lv_iload_n hx hb dX5_match_7 rfl (lv_at hl 1 rfl) ?_
  obtain ⟨hg, hf⟩ := gd_inv hf
  refine zm_iald C hZ 26 (by decide) rfl rfl hg dX5_match_8 ?_
  refine zl_icmp_gt (tgt := 245) hx hb dX5_match_9 (by decide) (fun hc => ?_) (fun hc => ?_)
  · rw [if_pos hc] at hf
    obtain rfl := Option.some.inj hf
    exact zm_vret C hZ hK dX5_match_245
  · rw [if_neg hc] at hf
    refine zl_iconst hx hb dX5_match_12 ?_
    refine lv_iload_n hx hb dX5_match_13 rfl (lv_at hl 1 rfl) ?_
    refine zl_imul hx hb dX5_match_14 ?_
    refine lv_iload_n hx hb dX5_match_15 rfl (lv_at hl 2 rfl) ?_
    refine zl_iadd hx hb dX5_match_16 ?_
    refine zl_iconst hx hb dX5_match_17 ?_
    refine zl_isub hx hb dX5_match_18 ?_
    obtain ⟨y1, ey1, hf⟩ := bnd_inv hf
    refine zl_top ey1 ?_
    refine lv_istore_n (lv' := [(3, .int (zI y1)), (0, .ref mo), (1, .int (zI x1)), (2, .int (zI x2))]) hx hb dX5_match_19 rfl hl (by decide) rfl (fun ls hl => ?_)
    refine zl_iconst hx hb dX5_match_20 ?_
    refine lv_istore (lv' := [(4, .int (zI 0)), (3, .int (zI y1)), (0, .ref mo), (1, .int (zI x1)), (2, .int (zI x2))]) hx hb dX5_match_21 hl (by decide) rfl (fun ls hl => ?_)
    exact w_match_23 C hR hf hZ (lv_sub hl [2, 3, 4, 1, 0] rfl) hK

theorem w_match_2 {p : Program} {l : Launch} {e : Env} {R : Room} {s : State} {m : MethodId} {args : Array Value} {below : List Frame} {meth : Method} {c : Code} {Q : State → Prop} {D : va_G} {cI cZ : ClassId} {mo : Nat} {ad : Nat → Nat} {H : Heap} {locs : List Loc} {M : MS} (C : MC p s m args meth c D cI cZ cX5_match 10 none) (hR : 0 ≤ R.frames ∧ 0 ≤ R.locals) {x1 x2 : Int} {res : MS} (hf : m_match_2 M x1 x2 = some res) (hZ : ZM D cI cZ mo ad s.heap M H locs) {ls : Array Slot} (hl : lv_has ls 10 [(0, .ref mo), (1, .int (zI x1)), (2, .int (zI x2))]) (hK : KM below D cI cZ mo ad args s Q res none) : W p l e R s m args below meth c H locs 0 0 Q (F0 m 2 ls []) := by
  unfold m_match_2 at hf
  refine iter_ind (P := fun z r => ∀ (H : Heap) (locs : List Loc) (ls : Array Slot), ZM D cI cZ mo ad s.heap z.1 H locs → lv_has ls 10 [(0, .ref mo), (1, .int (zI x1)), (2, .int (zI z.2))] → KM below D cI cZ mo ad args s Q r none → W p l e R s m args below meth c H locs 0 0 Q (F0 m 2 ls [])) ?_ ?_ hf H locs ls hZ hl hK
  · intro z r h1 H locs ls hZ hl hK; exact w_match_2s C hR h1 hZ hl hK
  · intro z z1 r h1 ih H locs ls hZ hl hK; exact w_match_2s C hR h1 hZ hl (fun H locs ls hZ hl => ih H locs ls hZ hl hK)

theorem w_match {p : Program} {l : Launch} {e : Env} {R : Room} {s : State} {m : MethodId} {args : Array Value} {below : List Frame} {meth : Method} {c : Code} {Q : State → Prop} {D : va_G} {cI cZ : ClassId} {mo : Nat} {ad : Nat → Nat} {H : Heap} {locs : List Loc} {M : MS} (C : MC p s m args meth c D cI cZ cX5_match 10 none) (hR : 0 ≤ R.frames ∧ 0 ≤ R.locals) {x1 : Int} {res : MS} (hf : m_match M x1 = some res) (hZ : ZM D cI cZ mo ad s.heap M H locs) {ls : Array Slot} (hl : lv_has ls 10 [(0, .ref mo), (1, .int (zI x1))]) (hK : KM below D cI cZ mo ad args s Q res none) : W p l e R s m args below meth c H locs 0 0 Q (F0 m 0 ls []) := by
  unfold m_match at hf
  have hx := C.1
  have hb := C.2.1
  have hts := C.2.2.2.2.2.2.1
  refine zl_iconst hx hb dX5_match_0 ?_
  refine lv_istore_n (lv' := [(2, .int (zI 1)), (0, .ref mo), (1, .int (zI x1))]) hx hb dX5_match_1 rfl hl (by decide) rfl (fun ls hl => ?_)
  exact w_match_2 C hR hf hZ (lv_sub hl [1, 2, 0] rfl) hK

theorem met_match (l : Launch) (D : va_G) (cI cZ : ClassId) (mo : Nat) (ad : Nat → Nat) {M : MS} {x1 : Int} {res : MS} (hf : m_match M x1 = some res) : Met l yX5_match (ws_ yX5_match cX5_match 10 none) ({ frames := 0, cells := 0, slots := 0, locals := 0 }) (PM D cI cZ mo ad M [.int (zI x1)]) (QM D cI cZ mo ad res none) 0 0 (MA mo ad) := by
  refine Met.ofW (cc := cX5_match) (maxL := 10) (ret := none) (by decide) rfl ?_
  intro p e s m args below meth c s₁ B hml hv
  obtain ⟨rfl, hRM, hK0⟩ := hv
  have hts := atoms_spec (ws := ws_ yX5_match cX5_match 10 none) B.pre
  have hts : ∀ w ∈ lw_all, w.before _ s = true := fun w h => hts w (List.mem_cons_of_mem _ h)
  have C : MC p s m _ meth c D cI cZ cX5_match 10 none := ⟨B.exec, B.bytes, B.returns, B.notSynchronized, hml, findClass_of_methodNamed B.named, hts, hK0⟩
  have hZ : ZM D cI cZ mo ad s.heap M s.heap [] := ⟨hRM, rfl, fun _ _ => rfl, fun _ h => by cases h⟩
  have hl := lv_entry ([.ref mo, .int (zI x1)]) (n := 10) (Nat.le_of_ble_eq_true rfl)
  rw [lg_entry_eq]
  generalize (lg_sl ([.ref mo, .int (zI x1)]) ++ List.replicate (10 - (lg_sl ([.ref mo, .int (zI x1)])).length) Slot.unset).toArray = ls at hl ⊢
  have hl : lv_has ls 10 [(0, .ref mo), (1, .int (zI x1))] := hl
  exact w_match C ⟨Nat.le_refl _, Nat.le_refl _⟩ hf hZ hl rfl

theorem w_digit {p : Program} {l : Launch} {e : Env} {R : Room} {s : State} {m : MethodId} {args : Array Value} {below : List Frame} {meth : Method} {c : Code} {Q : State → Prop} (C : SC p s m args meth c cX5_digit 1 (some .boolean)) (hR : 0 ≤ R.frames ∧ 0 ≤ R.locals) {x0 : Int} {res : Int} (hf : m_digit x0 = some res) {ls : Array Slot} (hl : lv_has ls 1 [(0, .int (zI x0))]) (hK : KS below args s Q (some (.int (zI res)))) : W p l e R s m args below meth c s.heap [] 0 0 Q (F0 m 0 ls []) := by
  unfold m_digit at hf
  have hx := C.1
  have hb := C.2.1
  have hts := C.2.2.2.2.2.2
  refine lv_iload_n hx hb dX5_digit_0 rfl (lv_at hl 0 rfl) ?_
  refine zl_bipush hx hb dX5_digit_1 (by decide) ?_
  refine zl_icmp_lt (tgt := 16) hx hb dX5_digit_3 (by decide) (fun hc => ?_) (fun hc => ?_)
  · rw [if_pos hc] at hf
    refine zl_iconst hx hb dX5_digit_16 ?_
    obtain rfl := Option.some.inj hf
    exact zs_zret C zisB_0 hK dX5_digit_17
  · rw [if_neg hc] at hf
    refine lv_iload_n hx hb dX5_digit_6 rfl (lv_at hl 0 rfl) ?_
    refine zl_bipush hx hb dX5_digit_7 (by decide) ?_
    refine zl_icmp_gt (tgt := 16) hx hb dX5_digit_9 (by decide) (fun hc => ?_) (fun hc => ?_)
    · rw [if_pos hc] at hf
      refine zl_iconst hx hb dX5_digit_16 ?_
      obtain rfl := Option.some.inj hf
      exact zs_zret C zisB_0 hK dX5_digit_17
    · rw [if_neg hc] at hf
      refine zl_iconst hx hb dX5_digit_12 ?_
      refine lv_goto (tgt := 17) hx hb dX5_digit_13 (by decide) ?_
      obtain rfl := Option.some.inj hf
      exact zs_zret C zisB_1 hK dX5_digit_17

theorem met_digit (l : Launch) {x0 : Int} {res : Int} (hf : m_digit x0 = some res) : Met l yX5_digit (ws_ yX5_digit cX5_digit 1 (some .boolean)) ({ frames := 0, cells := 0, slots := 0, locals := 0 }) (va_Pc [.int (zI x0)] (fun _ => True)) (QS (some (.int (zI res)))) 0 0 (fun _ => False) := by
  refine Met.ofW (cc := cX5_digit) (maxL := 1) (ret := (some .boolean)) (by decide) rfl ?_
  intro p e s m args below meth c s₁ B hml hv
  obtain ⟨rfl, -⟩ := hv
  have hts := atoms_spec (ws := ws_ yX5_digit cX5_digit 1 (some .boolean)) B.pre
  have hts : ∀ w ∈ lw_all, w.before _ s = true := fun w h => hts w (List.mem_cons_of_mem _ h)
  have C : SC p s m _ meth c cX5_digit 1 (some .boolean) := ⟨B.exec, B.bytes, B.returns, B.notSynchronized, hml, findClass_of_methodNamed B.named, hts⟩
  have hl := lv_entry ([.int (zI x0)]) (n := 1) (Nat.le_of_ble_eq_true rfl)
  rw [lg_entry_eq]
  generalize (lg_sl ([.int (zI x0)]) ++ List.replicate (1 - (lg_sl ([.int (zI x0)])).length) Slot.unset).toArray = ls at hl ⊢
  have hl : lv_has ls 1 [(0, .int (zI x0))] := hl
  exact w_digit C ⟨Nat.le_refl _, Nat.le_refl _⟩ hf hl rfl

theorem w_declared_62 {p : Program} {l : Launch} {e : Env} {R : Room} {s : State} {m : MethodId} {args : Array Value} {below : List Frame} {meth : Method} {c : Code} {Q : State → Prop} {D : va_G} {cI cZ : ClassId} {mo : Nat} {ad : Nat → Nat} {H : Heap} {locs : List Loc} {M : MS} (C : MC p s m args meth c D cI cZ cX5_declared 4 (some .int)) (hR : 1 ≤ R.frames ∧ 20 ≤ R.locals) {x3 : Int} {res : Int} (hf : m_declared_62 M x3 = some res) (hZ : ZM D cI cZ mo ad s.heap M H locs) {ls : Array Slot} (hl : lv_has ls 4 [(3, .int (zI x3))]) (hK : KM below D cI cZ mo ad args s Q M (some (.int (zI res)))) : W p l e R s m args below meth c H locs 0 0 Q (F0 m 62 ls []) := by
  unfold m_declared_62 at hf
  have hx := C.1
  have hb := C.2.1
  have hts := C.2.2.2.2.2.2.1
  refine lv_iload_n hx hb dX5_declared_62 rfl (lv_at hl 0 rfl) ?_
  refine lv_goto (tgt := 67) hx hb dX5_declared_63 (by decide) ?_
  obtain rfl := Option.some.inj hf
  exact zm_iret C hZ hK dX5_declared_67

theorem w_declared_88 {p : Program} {l : Launch} {e : Env} {R : Room} {s : State} {m : MethodId} {args : Array Value} {below : List Frame} {meth : Method} {c : Code} {Q : State → Prop} {D : va_G} {cI cZ : ClassId} {mo : Nat} {ad : Nat → Nat} {H : Heap} {locs : List Loc} {M : MS} (C : MC p s m args meth c D cI cZ cX5_declared 4 (some .int)) (hR : 1 ≤ R.frames ∧ 20 ≤ R.locals) {x1 x2 x3 : Int} {res : Int} (hf : m_declared_88 M x1 x2 x3 = some res) (hZ : ZM D cI cZ mo ad s.heap M H locs) {ls : Array Slot} (hl : lv_has ls 4 [(0, .ref mo), (1, .int (zI x1)), (2, .int (zI x2)), (3, .int (zI x3))]) (hK : KM below D cI cZ mo ad args s Q M (some (.int (zI res)))) : W p l e R s m args below meth c H locs 0 0 Q (F0 m 88 ls []) := by
  unfold m_declared_88 at hf
  have hx := C.1
  have hb := C.2.1
  have hts := C.2.2.2.2.2.2.1
  refine lv_iload_n hx hb dX5_declared_88 rfl (lv_at hl 2 rfl) ?_
  refine zl_iconst hx hb dX5_declared_89 ?_
  refine zl_icmp_ne (tgt := 98) hx hb dX5_declared_90 (by decide) (fun hc => ?_) (fun hc => ?_)
  · rw [if_pos hc] at hf
    refine lv_iload_n hx hb dX5_declared_93 rfl (lv_at hl 3 rfl) ?_
    refine zl_bipush hx hb dX5_declared_94 (by decide) ?_
    refine zl_isub hx hb dX5_declared_96 ?_
    obtain rfl := Option.some.inj hf
    exact zm_iret C hZ hK dX5_declared_97
  · rw [if_neg hc] at hf
    refine lv_iload_n hx hb dX5_declared_98 rfl (lv_at hl 1 rfl) ?_
    refine zl_iconst hx hb dX5_declared_99 ?_
    refine zl_icmp_lt (tgt := 135) hx hb dX5_declared_100 (by decide) (fun hc => ?_) (fun hc => ?_)
    · rw [if_pos hc] at hf
      refine zl_iconst hx hb dX5_declared_135 ?_
      obtain rfl := Option.some.inj hf
      exact zm_iret C hZ hK dX5_declared_136
    · rw [if_neg hc] at hf
      refine lv_aload_n hx hb dX5_declared_103 rfl (lv_at hl 0 rfl) ?_
      refine zm_geta C hZ 31 (by decide) (by decide) q1172 dX5_declared_104 ?_
      refine zl_iconst hx hb dX5_declared_107 ?_
      obtain ⟨hg, hf⟩ := gd_inv hf
      refine zm_iald C hZ 31 (by decide) rfl rfl hg dX5_declared_108 ?_
      obtain ⟨y3, ey3, hf⟩ := bd_inv hf
      refine zm_callS C (n := 1) (rest := []) (met_digit l ey3) (lw_S q1527 q1528 q107 q1529) rfl rfl (by decide +kernel) ⟨Nat.le_trans (by decide) hR.1, Nat.le_trans (by decide) hR.2⟩ rfl hl.1 rfl (Nat.le_of_ble_eq_true rfl) dX5_declared_109 (Nat.zero_le _) (Nat.zero_le _) ?_
      refine zl_if_eq (tgt := 135) hx hb dX5_declared_112 (by decide) (fun hc => ?_) (fun hc => ?_)
      · rw [if_pos hc] at hf
        refine zl_iconst hx hb dX5_declared_135 ?_
        obtain rfl := Option.some.inj hf
        exact zm_iret C hZ hK dX5_declared_136
      · rw [if_neg hc] at hf
        refine zl_bipush hx hb dX5_declared_115 (by decide) ?_
        refine lv_iload_n hx hb dX5_declared_117 rfl (lv_at hl 3 rfl) ?_
        refine zl_bipush hx hb dX5_declared_118 (by decide) ?_
        refine zl_isub hx hb dX5_declared_120 ?_
        refine zl_imul hx hb dX5_declared_121 ?_
        refine lv_aload_n hx hb dX5_declared_122 rfl (lv_at hl 0 rfl) ?_
        refine zm_geta C hZ 31 (by decide) (by decide) q1172 dX5_declared_123 ?_
        refine zl_iconst hx hb dX5_declared_126 ?_
        obtain ⟨hg, hf⟩ := gd_inv hf
        refine zm_iald C hZ 31 (by decide) rfl rfl hg dX5_declared_127 ?_
        refine zl_iadd hx hb dX5_declared_128 ?_
        refine zl_bipush hx hb dX5_declared_129 (by decide) ?_
        refine zl_isub hx hb dX5_declared_131 ?_
        refine lv_goto (tgt := 136) hx hb dX5_declared_132 (by decide) ?_
        obtain rfl := Option.some.inj hf
        exact zm_iret C hZ hK dX5_declared_136

theorem w_declared {p : Program} {l : Launch} {e : Env} {R : Room} {s : State} {m : MethodId} {args : Array Value} {below : List Frame} {meth : Method} {c : Code} {Q : State → Prop} {D : va_G} {cI cZ : ClassId} {mo : Nat} {ad : Nat → Nat} {H : Heap} {locs : List Loc} {M : MS} (C : MC p s m args meth c D cI cZ cX5_declared 4 (some .int)) (hR : 1 ≤ R.frames ∧ 20 ≤ R.locals) {x1 x2 : Int} {res : Int} (hf : m_declared M x1 x2 = some res) (hZ : ZM D cI cZ mo ad s.heap M H locs) {ls : Array Slot} (hl : lv_has ls 4 [(0, .ref mo), (1, .int (zI x1)), (2, .int (zI x2))]) (hK : KM below D cI cZ mo ad args s Q M (some (.int (zI res)))) : W p l e R s m args below meth c H locs 0 0 Q (F0 m 0 ls []) := by
  unfold m_declared at hf
  have hx := C.1
  have hb := C.2.1
  have hts := C.2.2.2.2.2.2.1
  refine lv_aload_n hx hb dX5_declared_0 rfl (lv_at hl 0 rfl) ?_
  refine zm_geta C hZ 31 (by decide) (by decide) q1172 dX5_declared_1 ?_
  refine zl_iconst hx hb dX5_declared_4 ?_
  obtain ⟨hg, hf⟩ := gd_inv hf
  refine zm_iald C hZ 31 (by decide) rfl rfl hg dX5_declared_5 ?_
  obtain ⟨y1, ey1, hf⟩ := bnd_inv hf
  refine zl_top ey1 ?_
  refine lv_istore_n (lv' := [(3, .int (zI y1)), (0, .ref mo), (1, .int (zI x1)), (2, .int (zI x2))]) hx hb dX5_declared_6 rfl hl (by decide) rfl (fun ls hl => ?_)
  refine lv_iload_n hx hb dX5_declared_7 rfl (lv_at hl 2 rfl) ?_
  refine zl_if_lt (tgt := 32) hx hb dX5_declared_8 (by decide) (fun hc => ?_) (fun hc => ?_)
  · rw [if_pos hc] at hf
    refine zl_iconst hx hb dX5_declared_32 ?_
    obtain rfl := Option.some.inj hf
    exact zm_iret C hZ hK dX5_declared_33
  · rw [if_neg hc] at hf
    refine lv_iload_n hx hb dX5_declared_11 rfl (lv_at hl 3 rfl) ?_
    refine zl_iconst hx hb dX5_declared_12 ?_
    refine zl_icmp_lt (tgt := 32) hx hb dX5_declared_13 (by decide) (fun hc => ?_) (fun hc => ?_)
    · rw [if_pos hc] at hf
      refine zl_iconst hx hb dX5_declared_32 ?_
      obtain rfl := Option.some.inj hf
      exact zm_iret C hZ hK dX5_declared_33
    · rw [if_neg hc] at hf
      refine lv_iload_n hx hb dX5_declared_16 rfl (lv_at hl 3 rfl) ?_
      refine zl_iconst hx hb dX5_declared_17 ?_
      refine zl_icmp_gt (tgt := 32) hx hb dX5_declared_18 (by decide) (fun hc => ?_) (fun hc => ?_)
      · rw [if_pos hc] at hf
        refine zl_iconst hx hb dX5_declared_32 ?_
        obtain rfl := Option.some.inj hf
        exact zm_iret C hZ hK dX5_declared_33
      · rw [if_neg hc] at hf
        refine lv_aload_n hx hb dX5_declared_21 rfl (lv_at hl 1 rfl) ?_
        refine zm_geta C hZ 31 (by decide) (by decide) q1172 dX5_declared_22 ?_
        refine zl_iconst hx hb dX5_declared_25 ?_
        obtain ⟨hg, hf⟩ := gd_inv hf
        refine zm_iald C hZ 31 (by decide) rfl rfl hg dX5_declared_26 ?_
        refine zl_bipush hx hb dX5_declared_27 (by decide) ?_
        refine zl_icmp_eq (tgt := 34) hx hb dX5_declared_29 (by decide) (fun hc => ?_) (fun hc => ?_)
        · rw [if_pos hc] at hf
          refine lv_iload_n hx hb dX5_declared_34 rfl (lv_at hl 2 rfl) ?_
          refine zl_iconst hx hb dX5_declared_35 ?_
          refine zl_icmp_ne (tgt := 68) hx hb dX5_declared_36 (by decide) (fun hc => ?_) (fun hc => ?_)
          · rw [if_pos hc] at hf
            refine lv_iload_n hx hb dX5_declared_39 rfl (lv_at hl 3 rfl) ?_
            refine zl_iconst hx hb dX5_declared_40 ?_
            refine zl_icmp_ne (tgt := 66) hx hb dX5_declared_41 (by decide) (fun hc => ?_) (fun hc => ?_)
            · rw [if_pos hc] at hf
              refine lv_iload_n hx hb dX5_declared_44 rfl (lv_at hl 0 rfl) ?_
              refine zl_bipush hx hb dX5_declared_45 (by decide) ?_
              refine zl_icmp_eq (tgt := 62) hx hb dX5_declared_47 (by decide) (fun hc => ?_) (fun hc => ?_)
              · rw [if_pos hc] at hf
                exact w_declared_62 C hR hf hZ (lv_sub hl [0] rfl) hK
              · rw [if_neg hc] at hf
                refine lv_iload_n hx hb dX5_declared_50 rfl (lv_at hl 0 rfl) ?_
                refine zl_bipush hx hb dX5_declared_51 (by decide) ?_
                refine zl_icmp_eq (tgt := 62) hx hb dX5_declared_53 (by decide) (fun hc => ?_) (fun hc => ?_)
                · rw [if_pos hc] at hf
                  exact w_declared_62 C hR hf hZ (lv_sub hl [0] rfl) hK
                · rw [if_neg hc] at hf
                  refine lv_iload_n hx hb dX5_declared_56 rfl (lv_at hl 0 rfl) ?_
                  refine zl_bipush hx hb dX5_declared_57 (by decide) ?_
                  refine zl_icmp_ne (tgt := 66) hx hb dX5_declared_59 (by decide) (fun hc => ?_) (fun hc => ?_)
                  · rw [if_pos hc] at hf
                    exact w_declared_62 C hR hf hZ (lv_sub hl [0] rfl) hK
                  · rw [if_neg hc] at hf
                    refine zl_iconst hx hb dX5_declared_66 ?_
                    obtain rfl := Option.some.inj hf
                    exact zm_iret C hZ hK dX5_declared_67
            · rw [if_neg hc] at hf
              refine zl_iconst hx hb dX5_declared_66 ?_
              obtain rfl := Option.some.inj hf
              exact zm_iret C hZ hK dX5_declared_67
          · rw [if_neg hc] at hf
            refine lv_iload_n hx hb dX5_declared_68 rfl (lv_at hl 0 rfl) ?_
            obtain ⟨y2, ey2, hf⟩ := bd_inv hf
            refine zm_callS C (n := 1) (rest := []) (met_digit l ey2) (lw_S q1527 q1528 q107 q1529) rfl rfl (by decide +kernel) ⟨Nat.le_trans (by decide) hR.1, Nat.le_trans (by decide) hR.2⟩ rfl hl.1 rfl (Nat.le_of_ble_eq_true rfl) dX5_declared_69 (Nat.zero_le _) (Nat.zero_le _) ?_
            refine zl_if_eq (tgt := 86) hx hb dX5_declared_72 (by decide) (fun hc => ?_) (fun hc => ?_)
            · rw [if_pos hc] at hf
              refine zl_iconst hx hb dX5_declared_86 ?_
              obtain rfl := Option.some.inj hf
              exact zm_iret C hZ hK dX5_declared_87
            · rw [if_neg hc] at hf
              refine lv_iload_n hx hb dX5_declared_75 rfl (lv_at hl 2 rfl) ?_
              refine zl_iconst hx hb dX5_declared_76 ?_
              refine zl_icmp_ne (tgt := 88) hx hb dX5_declared_77 (by decide) (fun hc => ?_) (fun hc => ?_)
              · rw [if_pos hc] at hf
                refine lv_iload_n hx hb dX5_declared_80 rfl (lv_at hl 0 rfl) ?_
                refine zl_bipush hx hb dX5_declared_81 (by decide) ?_
                refine zl_icmp_ne (tgt := 88) hx hb dX5_declared_83 (by decide) (fun hc => ?_) (fun hc => ?_)
                · rw [if_pos hc] at hf
                  refine zl_iconst hx hb dX5_declared_86 ?_
                  obtain rfl := Option.some.inj hf
                  exact zm_iret C hZ hK dX5_declared_87
                · rw [if_neg hc] at hf
                  exact w_declared_88 C hR hf hZ (lv_sub hl [1, 2, 3, 0] rfl) hK
              · rw [if_neg hc] at hf
                exact w_declared_88 C hR hf hZ (lv_sub hl [1, 2, 3, 0] rfl) hK
        · rw [if_neg hc] at hf
          refine zl_iconst hx hb dX5_declared_32 ?_
          obtain rfl := Option.some.inj hf
          exact zm_iret C hZ hK dX5_declared_33

theorem met_declared (l : Launch) (D : va_G) (cI cZ : ClassId) (mo : Nat) (ad : Nat → Nat) {M : MS} {x1 x2 : Int} {res : Int} (hf : m_declared M x1 x2 = some res) : Met l yX5_declared (ws_ yX5_declared cX5_declared 4 (some .int)) ({ frames := 1, cells := 0, slots := 0, locals := 20 }) (PM D cI cZ mo ad M [.int (zI x1), .int (zI x2)]) (QM D cI cZ mo ad M (some (.int (zI res)))) 0 0 (MA mo ad) := by
  refine Met.ofW (cc := cX5_declared) (maxL := 4) (ret := (some .int)) (by decide) rfl ?_
  intro p e s m args below meth c s₁ B hml hv
  obtain ⟨rfl, hRM, hK0⟩ := hv
  have hts := atoms_spec (ws := ws_ yX5_declared cX5_declared 4 (some .int)) B.pre
  have hts : ∀ w ∈ lw_all, w.before _ s = true := fun w h => hts w (List.mem_cons_of_mem _ h)
  have C : MC p s m _ meth c D cI cZ cX5_declared 4 (some .int) := ⟨B.exec, B.bytes, B.returns, B.notSynchronized, hml, findClass_of_methodNamed B.named, hts, hK0⟩
  have hZ : ZM D cI cZ mo ad s.heap M s.heap [] := ⟨hRM, rfl, fun _ _ => rfl, fun _ h => by cases h⟩
  have hl := lv_entry ([.ref mo, .int (zI x1), .int (zI x2)]) (n := 4) (Nat.le_of_ble_eq_true rfl)
  rw [lg_entry_eq]
  generalize (lg_sl ([.ref mo, .int (zI x1), .int (zI x2)]) ++ List.replicate (4 - (lg_sl ([.ref mo, .int (zI x1), .int (zI x2)])).length) Slot.unset).toArray = ls at hl ⊢
  have hl : lv_has ls 4 [(0, .ref mo), (1, .int (zI x1)), (2, .int (zI x2))] := hl
  exact w_declared C ⟨Nat.le_refl _, Nat.le_refl _⟩ hf hZ hl rfl

theorem w_declare_189 {p : Program} {l : Launch} {e : Env} {R : Room} {s : State} {m : MethodId} {args : Array Value} {below : List Frame} {meth : Method} {c : Code} {Q : State → Prop} {D : va_G} {cI cZ : ClassId} {mo : Nat} {ad : Nat → Nat} {H : Heap} {locs : List Loc} {M : MS} (C : MC p s m args meth c D cI cZ cX5_declare 8 none) (hR : 2 ≤ R.frames ∧ 43 ≤ R.locals) {x1 x4 x5 x6 x7 : Int} {res : (MS × Int) ⊕ (MS)} (hf : m_declare_189 M x1 x4 x5 x6 x7 = some res) (hZ : ZM D cI cZ mo ad s.heap M H locs) {ls : Array Slot} (hl : lv_has ls 8 [(0, .ref mo), (1, .int (zI x1)), (4, .int (zI x4)), (5, .int (zI x5)), (6, .int (zI x6)), (7, .int (zI x7))]) (hK : (Sum.elim (fun z => ∀ (H : Heap) (locs : List Loc) (ls : Array Slot), ZM D cI cZ mo ad s.heap z.1 H locs → lv_has ls 8 [(0, .ref mo), (1, .int (zI x1)), (4, .int (zI x4)), (5, .int (zI x5)), (6, .int (zI x6)), (7, .int (zI z.2))] → W p l e R s m args below meth c H locs 0 0 Q (F0 m 112 ls [])) (fun r => KM below D cI cZ mo ad args s Q r none)) res) : W p l e R s m args below meth c H locs 0 0 Q (F0 m 189 ls []) := by
  unfold m_declare_189 at hf
  have hx := C.1
  have hb := C.2.1
  have hts := C.2.2.2.2.2.2.1
  refine zl_iinc (x := x7) (n := 1) (lv' := [(7, .int (zI (x7 + 1))), (0, .ref mo), (1, .int (zI x1)), (4, .int (zI x4)), (5, .int (zI x5)), (6, .int (zI x6))]) (k := 5) hx hb dX5_declare_189 hl rfl (by decide) rfl (fun ls hl => ?_)
  refine lv_goto (tgt := 112) hx hb dX5_declare_192 (by decide) ?_
  obtain rfl := Option.some.inj hf
  exact hK _ _ _ hZ (lv_sub hl [1, 2, 3, 4, 5, 0] rfl)

theorem w_declare_112s {p : Program} {l : Launch} {e : Env} {R : Room} {s : State} {m : MethodId} {args : Array Value} {below : List Frame} {meth : Method} {c : Code} {Q : State → Prop} {D : va_G} {cI cZ : ClassId} {mo : Nat} {ad : Nat → Nat} {H : Heap} {locs : List Loc} {M : MS} (C : MC p s m args meth c D cI cZ cX5_declare 8 none) (hR : 2 ≤ R.frames ∧ 43 ≤ R.locals) {x1 x4 x5 x6 x7 : Int} {res : (MS × Int) ⊕ (MS)} (hf : m_declare_112s M x1 x4 x5 x6 x7 = some res) (hZ : ZM D cI cZ mo ad s.heap M H locs) {ls : Array Slot} (hl : lv_has ls 8 [(0, .ref mo), (1, .int (zI x1)), (4, .int (zI x4)), (5, .int (zI x5)), (6, .int (zI x6)), (7, .int (zI x7))]) (hK : (Sum.elim (fun z => ∀ (H : Heap) (locs : List Loc) (ls : Array Slot), ZM D cI cZ mo ad s.heap z.1 H locs → lv_has ls 8 [(0, .ref mo), (1, .int (zI x1)), (4, .int (zI x4)), (5, .int (zI x5)), (6, .int (zI x6)), (7, .int (zI z.2))] → W p l e R s m args below meth c H locs 0 0 Q (F0 m 112 ls [])) (fun r => KM below D cI cZ mo ad args s Q r none)) res) : W p l e R s m args below meth c H locs 0 0 Q (F0 m 112 ls []) := by
  unfold m_declare_112s at hf
  have hx := C.1
  have hb := C.2.1
  have hts := C.2.2.2.2.2.2.1
  refine lv_iload hx hb dX5_declare_112 (lv_at hl 5 rfl) ?_
  refine lv_aload_n hx hb dX5_declare_114 rfl (lv_at hl 0 rfl) ?_
  refine zm_geti C hZ 5 (by decide) rfl q1146 dX5_declare_115 ?_
  refine zl_icmp_ge (tgt := 195) hx hb dX5_declare_118 (by decide) (fun hc => ?_) (fun hc => ?_)
  · rw [if_pos hc] at hf
    refine lv_aload_n hx hb dX5_declare_121 rfl (lv_at hl 0 rfl) ?_
    refine zm_geta C hZ 34 (by decide) (by decide) q1175 dX5_declare_122 ?_
    refine zl_bipush hx hb dX5_declare_125 (by decide) ?_
    refine lv_aload_n hx hb dX5_declare_127 rfl (lv_at hl 0 rfl) ?_
    refine zm_geta C hZ 26 (by decide) (by decide) q1167 dX5_declare_128 ?_
    refine lv_iload_n hx hb dX5_declare_131 rfl (lv_at hl 1 rfl) ?_
    obtain ⟨hg, hf⟩ := gd_inv hf
    refine zm_iald C hZ 26 (by decide) rfl rfl hg dX5_declare_132 ?_
    refine zl_imul hx hb dX5_declare_133 ?_
    refine lv_iload hx hb dX5_declare_134 (lv_at hl 5 rfl) ?_
    refine zl_iadd hx hb dX5_declare_136 ?_
    obtain ⟨hg, hf⟩ := gd_inv hf
    refine zm_zald C hZ 34 (by decide) rfl rfl hg dX5_declare_137 ?_
    refine zl_if_eq (tgt := 189) hx hb dX5_declare_138 (by decide) (fun hc => ?_) (fun hc => ?_)
    · rw [if_pos hc] at hf
      exact w_declare_189 C hR hf hZ (lv_sub hl [0, 1, 2, 3, 4, 5] rfl) hK
    · rw [if_neg hc] at hf
      refine lv_iload hx hb dX5_declare_141 (lv_at hl 4 rfl) ?_
      refine lv_aload_n hx hb dX5_declare_143 rfl (lv_at hl 0 rfl) ?_
      refine zm_geta C hZ 35 (by decide) (by decide) q1176 dX5_declare_144 ?_
      refine zl_bipush hx hb dX5_declare_147 (by decide) ?_
      refine lv_iload hx hb dX5_declare_149 (lv_at hl 2 rfl) ?_
      refine zl_imul hx hb dX5_declare_151 ?_
      refine lv_iload hx hb dX5_declare_152 (lv_at hl 5 rfl) ?_
      refine zl_iadd hx hb dX5_declare_154 ?_
      obtain ⟨hg, hf⟩ := gd_inv hf
      refine zm_iald C hZ 35 (by decide) rfl rfl hg dX5_declare_155 ?_
      refine zl_icmp_lt (tgt := 189) hx hb dX5_declare_156 (by decide) (fun hc => ?_) (fun hc => ?_)
      · rw [if_pos hc] at hf
        exact w_declare_189 C hR hf hZ (lv_sub hl [0, 1, 2, 3, 4, 5] rfl) hK
      · rw [if_neg hc] at hf
        refine lv_aload_n hx hb dX5_declare_159 rfl (lv_at hl 0 rfl) ?_
        refine zm_geta C hZ 35 (by decide) (by decide) q1176 dX5_declare_160 ?_
        refine zl_bipush hx hb dX5_declare_163 (by decide) ?_
        refine lv_iload hx hb dX5_declare_165 (lv_at hl 2 rfl) ?_
        refine zl_imul hx hb dX5_declare_167 ?_
        refine lv_iload hx hb dX5_declare_168 (lv_at hl 5 rfl) ?_
        refine zl_iadd hx hb dX5_declare_170 ?_
        refine lv_iload hx hb dX5_declare_171 (lv_at hl 4 rfl) ?_
        obtain ⟨hg, hf⟩ := gd_inv hf
        obtain ⟨M6, eM6, hf⟩ := bnd_inv hf
        refine zm_iast C hZ 35 (by decide) rfl rfl hg dX5_declare_173 (fun H locs hZ => ?_)
        rw [← eM6] at hZ
        refine lv_aload_n hx hb dX5_declare_174 rfl (lv_at hl 0 rfl) ?_
        refine zm_geta C hZ 36 (by decide) (by decide) q1177 dX5_declare_175 ?_
        refine zl_bipush hx hb dX5_declare_178 (by decide) ?_
        refine lv_iload hx hb dX5_declare_180 (lv_at hl 2 rfl) ?_
        refine zl_imul hx hb dX5_declare_182 ?_
        refine lv_iload hx hb dX5_declare_183 (lv_at hl 5 rfl) ?_
        refine zl_iadd hx hb dX5_declare_185 ?_
        refine lv_iload hx hb dX5_declare_186 (lv_at hl 3 rfl) ?_
        obtain ⟨hg, hf⟩ := gd_inv hf
        obtain ⟨M7, eM7, hf⟩ := bnd_inv hf
        refine zm_iast C hZ 36 (by decide) rfl rfl hg dX5_declare_188 (fun H locs hZ => ?_)
        rw [← eM7] at hZ
        exact w_declare_189 C hR hf hZ (lv_sub hl [0, 1, 2, 3, 4, 5] rfl) hK
  · rw [if_neg hc] at hf
    obtain rfl := Option.some.inj hf
    exact zm_vret C hZ hK dX5_declare_195

theorem w_declare_112 {p : Program} {l : Launch} {e : Env} {R : Room} {s : State} {m : MethodId} {args : Array Value} {below : List Frame} {meth : Method} {c : Code} {Q : State → Prop} {D : va_G} {cI cZ : ClassId} {mo : Nat} {ad : Nat → Nat} {H : Heap} {locs : List Loc} {M : MS} (C : MC p s m args meth c D cI cZ cX5_declare 8 none) (hR : 2 ≤ R.frames ∧ 43 ≤ R.locals) {x1 x4 x5 x6 x7 : Int} {res : MS} (hf : m_declare_112 M x1 x4 x5 x6 x7 = some res) (hZ : ZM D cI cZ mo ad s.heap M H locs) {ls : Array Slot} (hl : lv_has ls 8 [(0, .ref mo), (1, .int (zI x1)), (4, .int (zI x4)), (5, .int (zI x5)), (6, .int (zI x6)), (7, .int (zI x7))]) (hK : KM below D cI cZ mo ad args s Q res none) : W p l e R s m args below meth c H locs 0 0 Q (F0 m 112 ls []) := by
  unfold m_declare_112 at hf
  refine iter_ind (P := fun z r => ∀ (H : Heap) (locs : List Loc) (ls : Array Slot), ZM D cI cZ mo ad s.heap z.1 H locs → lv_has ls 8 [(0, .ref mo), (1, .int (zI x1)), (4, .int (zI x4)), (5, .int (zI x5)), (6, .int (zI x6)), (7, .int (zI z.2))] → KM below D cI cZ mo ad args s Q r none → W p l e R s m args below meth c H locs 0 0 Q (F0 m 112 ls [])) ?_ ?_ hf H locs ls hZ hl hK
  · intro z r h1 H locs ls hZ hl hK; exact w_declare_112s C hR h1 hZ hl hK
  · intro z z1 r h1 ih H locs ls hZ hl hK; exact w_declare_112s C hR h1 hZ hl (fun H locs ls hZ hl => ih H locs ls hZ hl hK)

theorem w_declare_90 {p : Program} {l : Launch} {e : Env} {R : Room} {s : State} {m : MethodId} {args : Array Value} {below : List Frame} {meth : Method} {c : Code} {Q : State → Prop} {D : va_G} {cI cZ : ClassId} {mo : Nat} {ad : Nat → Nat} {H : Heap} {locs : List Loc} {M : MS} (C : MC p s m args meth c D cI cZ cX5_declare 8 none) (hR : 2 ≤ R.frames ∧ 43 ≤ R.locals) {x1 x4 x5 t0 : Int} {res : MS} (hf : m_declare_90 M x1 x4 x5 t0 = some res) (hZ : ZM D cI cZ mo ad s.heap M H locs) {ls : Array Slot} (hl : lv_has ls 8 [(0, .ref mo), (1, .int (zI x1)), (4, .int (zI x4)), (5, .int (zI x5))]) (hK : KM below D cI cZ mo ad args s Q res none) : W p l e R s m args below meth c H locs 0 0 Q (F0 m 90 ls [.int (zI t0)]) := by
  unfold m_declare_90 at hf
  have hx := C.1
  have hb := C.2.1
  have hts := C.2.2.2.2.2.2.1
  refine zl_bipush hx hb dX5_declare_90 (by decide) ?_
  refine lv_aload_n hx hb dX5_declare_92 rfl (lv_at hl 0 rfl) ?_
  refine zm_geta C hZ 27 (by decide) (by decide) q1168 dX5_declare_93 ?_
  refine lv_iload_n hx hb dX5_declare_96 rfl (lv_at hl 1 rfl) ?_
  obtain ⟨hg, hf⟩ := gd_inv hf
  refine zm_iald C hZ 27 (by decide) rfl rfl hg dX5_declare_97 ?_
  refine zl_imul hx hb dX5_declare_98 ?_
  refine zl_iadd hx hb dX5_declare_99 ?_
  refine lv_aload_n hx hb dX5_declare_100 rfl (lv_at hl 0 rfl) ?_
  refine zm_geta C hZ 28 (by decide) (by decide) q1169 dX5_declare_101 ?_
  refine lv_iload_n hx hb dX5_declare_104 rfl (lv_at hl 1 rfl) ?_
  obtain ⟨hg, hf⟩ := gd_inv hf
  refine zm_iald C hZ 28 (by decide) rfl rfl hg dX5_declare_105 ?_
  refine zl_iadd hx hb dX5_declare_106 ?_
  obtain ⟨y5, ey5, hf⟩ := bnd_inv hf
  refine zl_top ey5 ?_
  refine lv_istore (lv' := [(6, .int (zI y5)), (0, .ref mo), (1, .int (zI x1)), (4, .int (zI x4)), (5, .int (zI x5))]) hx hb dX5_declare_107 hl (by decide) rfl (fun ls hl => ?_)
  refine zl_iconst hx hb dX5_declare_109 ?_
  refine lv_istore (lv' := [(7, .int (zI 0)), (6, .int (zI y5)), (0, .ref mo), (1, .int (zI x1)), (4, .int (zI x4)), (5, .int (zI x5))]) hx hb dX5_declare_110 hl (by decide) rfl (fun ls hl => ?_)
  exact w_declare_112 C hR hf hZ (lv_sub hl [2, 3, 4, 5, 1, 0] rfl) hK

theorem w_declare_57 {p : Program} {l : Launch} {e : Env} {R : Room} {s : State} {m : MethodId} {args : Array Value} {below : List Frame} {meth : Method} {c : Code} {Q : State → Prop} {D : va_G} {cI cZ : ClassId} {mo : Nat} {ad : Nat → Nat} {H : Heap} {locs : List Loc} {M : MS} (C : MC p s m args meth c D cI cZ cX5_declare 8 none) (hR : 2 ≤ R.frames ∧ 43 ≤ R.locals) {x1 x2 x3 t0 : Int} {res : MS} (hf : m_declare_57 M x1 x2 x3 t0 = some res) (hZ : ZM D cI cZ mo ad s.heap M H locs) {ls : Array Slot} (hl : lv_has ls 8 [(0, .ref mo), (1, .int (zI x1)), (2, .int (zI x2)), (3, .int (zI x3))]) (hK : KM below D cI cZ mo ad args s Q res none) : W p l e R s m args below meth c H locs 0 0 Q (F0 m 57 ls [.int (zI t0)]) := by
  unfold m_declare_57 at hf
  have hx := C.1
  have hb := C.2.1
  have hts := C.2.2.2.2.2.2.1
  refine lv_istore (lv' := [(4, .int (zI t0)), (0, .ref mo), (1, .int (zI x1)), (2, .int (zI x2)), (3, .int (zI x3))]) hx hb dX5_declare_57 hl (by decide) rfl (fun ls hl => ?_)
  refine lv_aload_n hx hb dX5_declare_59 rfl (lv_at hl 1 rfl) ?_
  refine lv_iload hx hb dX5_declare_60 (lv_at hl 0 rfl) ?_
  refine lv_iload_n hx hb dX5_declare_62 rfl (lv_at hl 3 rfl) ?_
  obtain ⟨y3, ey3, hf⟩ := bd_inv hf
  refine zm_callV C hZ (n := 2) (rest := []) (met_declared l D cI cZ mo ad ey3) (lw_V q1523 q1525 qs73 q107 q1526) rfl rfl (by decide +kernel) ⟨Nat.le_trans (by decide) hR.1, Nat.le_trans (by decide) hR.2⟩ rfl hl.1 rfl (Nat.le_of_ble_eq_true rfl) dX5_declare_63 (fun H locs hZ => ?_)
  refine lv_istore (lv' := [(5, .int (zI y3)), (4, .int (zI t0)), (0, .ref mo), (1, .int (zI x1)), (2, .int (zI x2)), (3, .int (zI x3))]) hx hb dX5_declare_66 hl (by decide) rfl (fun ls hl => ?_)
  refine lv_aload_n hx hb dX5_declare_68 rfl (lv_at hl 2 rfl) ?_
  refine zl_iconst hx hb dX5_declare_69 ?_
  obtain ⟨M4, eM4, hf⟩ := bnd_inv hf
  refine zm_puti C hZ 32 (by decide) rfl rfl q1173 dX5_declare_70 (fun H locs hZ => ?_)
  rw [← eM4] at hZ
  refine lv_iload hx hb dX5_declare_73 (lv_at hl 0 rfl) ?_
  refine zl_if_ge (tgt := 79) hx hb dX5_declare_75 (by decide) (fun hc => ?_) (fun hc => ?_)
  · rw [if_pos hc] at hf
    obtain rfl := Option.some.inj hf
    exact zm_vret C hZ hK dX5_declare_78
  · rw [if_neg hc] at hf
    refine lv_iload_n hx hb dX5_declare_79 rfl (lv_at hl 5 rfl) ?_
    refine zl_if_eq (tgt := 89) hx hb dX5_declare_80 (by decide) (fun hc => ?_) (fun hc => ?_)
    · rw [if_pos hc] at hf
      refine zl_iconst hx hb dX5_declare_89 ?_
      exact w_declare_90 C hR hf hZ (lv_sub hl [2, 3, 1, 0] rfl) hK
    · rw [if_neg hc] at hf
      refine zl_ldcw (v := 100000) hx hb C.2.2.2.2.2.1 (hts _ q1530) dX5_declare_83 ?_
      refine lv_goto (tgt := 90) hx hb dX5_declare_86 (by decide) ?_
      exact w_declare_90 C hR hf hZ (lv_sub hl [2, 3, 1, 0] rfl) hK

theorem w_declare_39 {p : Program} {l : Launch} {e : Env} {R : Room} {s : State} {m : MethodId} {args : Array Value} {below : List Frame} {meth : Method} {c : Code} {Q : State → Prop} {D : va_G} {cI cZ : ClassId} {mo : Nat} {ad : Nat → Nat} {H : Heap} {locs : List Loc} {M : MS} (C : MC p s m args meth c D cI cZ cX5_declare 8 none) (hR : 2 ≤ R.frames ∧ 43 ≤ R.locals) {x1 x3 t0 : Int} {res : MS} (hf : m_declare_39 M x1 x3 t0 = some res) (hZ : ZM D cI cZ mo ad s.heap M H locs) {ls : Array Slot} (hl : lv_has ls 8 [(0, .ref mo), (1, .int (zI x1)), (3, .int (zI x3))]) (hK : KM below D cI cZ mo ad args s Q res none) : W p l e R s m args below meth c H locs 0 0 Q (F0 m 39 ls [.int (zI t0)]) := by
  unfold m_declare_39 at hf
  have hx := C.1
  have hb := C.2.1
  have hts := C.2.2.2.2.2.2.1
  refine lv_istore_n (lv' := [(2, .int (zI t0)), (0, .ref mo), (1, .int (zI x1)), (3, .int (zI x3))]) hx hb dX5_declare_39 rfl hl (by decide) rfl (fun ls hl => ?_)
  refine lv_iload_n hx hb dX5_declare_40 rfl (lv_at hl 0 rfl) ?_
  refine zl_if_le (tgt := 56) hx hb dX5_declare_41 (by decide) (fun hc => ?_) (fun hc => ?_)
  · rw [if_pos hc] at hf
    refine lv_aload_n hx hb dX5_declare_44 rfl (lv_at hl 1 rfl) ?_
    refine zm_geta C hZ 31 (by decide) (by decide) q1172 dX5_declare_45 ?_
    refine zl_iconst hx hb dX5_declare_48 ?_
    obtain ⟨hg, hf⟩ := gd_inv hf
    refine zm_iald C hZ 31 (by decide) rfl rfl hg dX5_declare_49 ?_
    obtain ⟨y2, ey2, hf⟩ := bd_inv hf
    refine zm_callS C (n := 1) (rest := []) (met_propertyIndex l ey2) (lw_S q1508 q1509 q107 q1510) rfl rfl (by decide +kernel) ⟨Nat.le_trans (by decide) hR.1, Nat.le_trans (by decide) hR.2⟩ rfl hl.1 rfl (Nat.le_of_ble_eq_true rfl) dX5_declare_50 (Nat.zero_le _) (Nat.zero_le _) ?_
    refine lv_goto (tgt := 57) hx hb dX5_declare_53 (by decide) ?_
    exact w_declare_57 C hR hf hZ (lv_sub hl [1, 2, 0, 3] rfl) hK
  · rw [if_neg hc] at hf
    refine zl_iconst hx hb dX5_declare_56 ?_
    exact w_declare_57 C hR hf hZ (lv_sub hl [1, 2, 0, 3] rfl) hK

theorem w_declare_27 {p : Program} {l : Launch} {e : Env} {R : Room} {s : State} {m : MethodId} {args : Array Value} {below : List Frame} {meth : Method} {c : Code} {Q : State → Prop} {D : va_G} {cI cZ : ClassId} {mo : Nat} {ad : Nat → Nat} {H : Heap} {locs : List Loc} {M : MS} (C : MC p s m args meth c D cI cZ cX5_declare 8 none) (hR : 2 ≤ R.frames ∧ 43 ≤ R.locals) {x1 x2 t0 : Int} {res : MS} (hf : m_declare_27 M x1 x2 t0 = some res) (hZ : ZM D cI cZ mo ad s.heap M H locs) {ls : Array Slot} (hl : lv_has ls 8 [(0, .ref mo), (1, .int (zI x1)), (2, .int (zI x2))]) (hK : KM below D cI cZ mo ad args s Q res none) : W p l e R s m args below meth c H locs 0 0 Q (F0 m 27 ls [.int (zI t0)]) := by
  unfold m_declare_27 at hf
  have hx := C.1
  have hb := C.2.1
  have hts := C.2.2.2.2.2.2.1
  refine lv_istore_n (lv' := [(3, .int (zI t0)), (0, .ref mo), (1, .int (zI x1)), (2, .int (zI x2))]) hx hb dX5_declare_27 rfl hl (by decide) rfl (fun ls hl => ?_)
  refine lv_iload_n hx hb dX5_declare_28 rfl (lv_at hl 0 rfl) ?_
  refine zl_if_eq (tgt := 38) hx hb dX5_declare_29 (by decide) (fun hc => ?_) (fun hc => ?_)
  · rw [if_pos hc] at hf
    refine lv_iload_n hx hb dX5_declare_38 rfl (lv_at hl 3 rfl) ?_
    exact w_declare_39 C hR hf hZ (lv_sub hl [1, 2, 0] rfl) hK
  · rw [if_neg hc] at hf
    refine lv_iload_n hx hb dX5_declare_32 rfl (lv_at hl 3 rfl) ?_
    refine zl_iconst hx hb dX5_declare_33 ?_
    refine zl_isub hx hb dX5_declare_34 ?_
    refine lv_goto (tgt := 39) hx hb dX5_declare_35 (by decide) ?_
    exact w_declare_39 C hR hf hZ (lv_sub hl [1, 2, 0] rfl) hK

theorem w_declare_26 {p : Program} {l : Launch} {e : Env} {R : Room} {s : State} {m : MethodId} {args : Array Value} {below : List Frame} {meth : Method} {c : Code} {Q : State → Prop} {D : va_G} {cI cZ : ClassId} {mo : Nat} {ad : Nat → Nat} {H : Heap} {locs : List Loc} {M : MS} (C : MC p s m args meth c D cI cZ cX5_declare 8 none) (hR : 2 ≤ R.frames ∧ 43 ≤ R.locals) {x1 x2 : Int} {res : MS} (hf : m_declare_26 M x1 x2 = some res) (hZ : ZM D cI cZ mo ad s.heap M H locs) {ls : Array Slot} (hl : lv_has ls 8 [(0, .ref mo), (1, .int (zI x1)), (2, .int (zI x2))]) (hK : KM below D cI cZ mo ad args s Q res none) : W p l e R s m args below meth c H locs 0 0 Q (F0 m 26 ls []) := by
  unfold m_declare_26 at hf
  have hx := C.1
  have hb := C.2.1
  have hts := C.2.2.2.2.2.2.1
  refine zl_iconst hx hb dX5_declare_26 ?_
  exact w_declare_27 C hR hf hZ (lv_sub hl [0, 1, 2] rfl) hK

theorem w_declare {p : Program} {l : Launch} {e : Env} {R : Room} {s : State} {m : MethodId} {args : Array Value} {below : List Frame} {meth : Method} {c : Code} {Q : State → Prop} {D : va_G} {cI cZ : ClassId} {mo : Nat} {ad : Nat → Nat} {H : Heap} {locs : List Loc} {M : MS} (C : MC p s m args meth c D cI cZ cX5_declare 8 none) (hR : 2 ≤ R.frames ∧ 43 ≤ R.locals) {x1 : Int} {res : MS} (hf : m_declare M x1 = some res) (hZ : ZM D cI cZ mo ad s.heap M H locs) {ls : Array Slot} (hl : lv_has ls 8 [(0, .ref mo), (1, .int (zI x1))]) (hK : KM below D cI cZ mo ad args s Q res none) : W p l e R s m args below meth c H locs 0 0 Q (F0 m 0 ls []) := by
  unfold m_declare at hf
  have hx := C.1
  have hb := C.2.1
  have hts := C.2.2.2.2.2.2.1
  refine lv_aload_n hx hb dX5_declare_0 rfl (lv_at hl 0 rfl) ?_
  refine zm_geti C hZ 32 (by decide) rfl q1173 dX5_declare_1 ?_
  obtain ⟨y1, ey1, hf⟩ := bnd_inv hf
  refine zl_top ey1 ?_
  refine lv_istore_n (lv' := [(2, .int (zI y1)), (0, .ref mo), (1, .int (zI x1))]) hx hb dX5_declare_4 rfl hl (by decide) rfl (fun ls hl => ?_)
  refine lv_iload_n hx hb dX5_declare_5 rfl (lv_at hl 0 rfl) ?_
  refine zl_if_le (tgt := 26) hx hb dX5_declare_6 (by decide) (fun hc => ?_) (fun hc => ?_)
  · rw [if_pos hc] at hf
    refine lv_aload_n hx hb dX5_declare_9 rfl (lv_at hl 1 rfl) ?_
    refine zm_geta C hZ 31 (by decide) (by decide) q1172 dX5_declare_10 ?_
    refine lv_iload_n hx hb dX5_declare_13 rfl (lv_at hl 0 rfl) ?_
    refine zl_iconst hx hb dX5_declare_14 ?_
    refine zl_isub hx hb dX5_declare_15 ?_
    obtain ⟨hg, hf⟩ := gd_inv hf
    refine zm_iald C hZ 31 (by decide) rfl rfl hg dX5_declare_16 ?_
    refine zl_bipush hx hb dX5_declare_17 (by decide) ?_
    refine zl_icmp_ne (tgt := 26) hx hb dX5_declare_19 (by decide) (fun hc => ?_) (fun hc => ?_)
    · rw [if_pos hc] at hf
      refine zl_iconst hx hb dX5_declare_22 ?_
      refine lv_goto (tgt := 27) hx hb dX5_declare_23 (by decide) ?_
      exact w_declare_27 C hR hf hZ (lv_sub hl [1, 2, 0] rfl) hK
    · rw [if_neg hc] at hf
      exact w_declare_26 C hR hf hZ (lv_sub hl [1, 2, 0] rfl) hK
  · rw [if_neg hc] at hf
    exact w_declare_26 C hR hf hZ (lv_sub hl [1, 2, 0] rfl) hK

theorem met_declare (l : Launch) (D : va_G) (cI cZ : ClassId) (mo : Nat) (ad : Nat → Nat) {M : MS} {x1 : Int} {res : MS} (hf : m_declare M x1 = some res) : Met l yX5_declare (ws_ yX5_declare cX5_declare 8 none) ({ frames := 2, cells := 0, slots := 0, locals := 43 }) (PM D cI cZ mo ad M [.int (zI x1)]) (QM D cI cZ mo ad res none) 0 0 (MA mo ad) := by
  refine Met.ofW (cc := cX5_declare) (maxL := 8) (ret := none) (by decide) rfl ?_
  intro p e s m args below meth c s₁ B hml hv
  obtain ⟨rfl, hRM, hK0⟩ := hv
  have hts := atoms_spec (ws := ws_ yX5_declare cX5_declare 8 none) B.pre
  have hts : ∀ w ∈ lw_all, w.before _ s = true := fun w h => hts w (List.mem_cons_of_mem _ h)
  have C : MC p s m _ meth c D cI cZ cX5_declare 8 none := ⟨B.exec, B.bytes, B.returns, B.notSynchronized, hml, findClass_of_methodNamed B.named, hts, hK0⟩
  have hZ : ZM D cI cZ mo ad s.heap M s.heap [] := ⟨hRM, rfl, fun _ _ => rfl, fun _ h => by cases h⟩
  have hl := lv_entry ([.ref mo, .int (zI x1)]) (n := 8) (Nat.le_of_ble_eq_true rfl)
  rw [lg_entry_eq]
  generalize (lg_sl ([.ref mo, .int (zI x1)]) ++ List.replicate (8 - (lg_sl ([.ref mo, .int (zI x1)])).length) Slot.unset).toArray = ls at hl ⊢
  have hl : lv_has ls 8 [(0, .ref mo), (1, .int (zI x1))] := hl
  exact w_declare C ⟨Nat.le_refl _, Nat.le_refl _⟩ hf hZ hl rfl

theorem w_initial_9 {p : Program} {l : Launch} {e : Env} {R : Room} {s : State} {m : MethodId} {args : Array Value} {below : List Frame} {meth : Method} {c : Code} {Q : State → Prop} {D : va_G} {cI cZ : ClassId} {mo : Nat} {ad : Nat → Nat} {H : Heap} {locs : List Loc} {M : MS} (C : MC p s m args meth c D cI cZ cX5_initial 3 (some .int)) (hR : 3 ≤ R.frames ∧ 62 ≤ R.locals) {x1 x2 : Int} {res : Int} (hf : m_initial_9 M x1 x2 = some res) (hZ : ZM D cI cZ mo ad s.heap M H locs) {ls : Array Slot} (hl : lv_has ls 3 [(0, .ref mo), (1, .int (zI x1)), (2, .int (zI x2))]) (hK : KM below D cI cZ mo ad args s Q M (some (.int (zI res)))) : W p l e R s m args below meth c H locs 0 0 Q (F0 m 9 ls []) := by
  unfold m_initial_9 at hf
  have hx := C.1
  have hb := C.2.1
  have hts := C.2.2.2.2.2.2.1
  refine lv_iload_n hx hb dX5_initial_9 rfl (lv_at hl 2 rfl) ?_
  refine zl_if_ne (tgt := 17) hx hb dX5_initial_10 (by decide) (fun hc => ?_) (fun hc => ?_)
  · rw [if_pos hc] at hf
    refine zl_iconst hx hb dX5_initial_13 ?_
    refine lv_goto (tgt := 33) hx hb dX5_initial_14 (by decide) ?_
    obtain rfl := Option.some.inj hf
    exact zm_iret C hZ hK dX5_initial_33
  · rw [if_neg hc] at hf
    refine lv_aload_n hx hb dX5_initial_17 rfl (lv_at hl 0 rfl) ?_
    refine zm_geta C hZ 36 (by decide) (by decide) q1177 dX5_initial_18 ?_
    refine zl_bipush hx hb dX5_initial_21 (by decide) ?_
    refine lv_iload_n hx hb dX5_initial_23 rfl (lv_at hl 1 rfl) ?_
    refine zl_imul hx hb dX5_initial_24 ?_
    refine lv_aload_n hx hb dX5_initial_25 rfl (lv_at hl 0 rfl) ?_
    refine zm_geta C hZ 33 (by decide) (by decide) q1174 dX5_initial_26 ?_
    refine lv_iload_n hx hb dX5_initial_29 rfl (lv_at hl 2 rfl) ?_
    obtain ⟨hg, hf⟩ := gd_inv hf
    refine zm_iald C hZ 33 (by decide) rfl rfl hg dX5_initial_30 ?_
    refine zl_iadd hx hb dX5_initial_31 ?_
    obtain ⟨hg, hf⟩ := gd_inv hf
    refine zm_iald C hZ 36 (by decide) rfl rfl hg dX5_initial_32 ?_
    obtain rfl := Option.some.inj hf
    exact zm_iret C hZ hK dX5_initial_33

theorem w_initial_59 {p : Program} {l : Launch} {e : Env} {R : Room} {s : State} {m : MethodId} {args : Array Value} {below : List Frame} {meth : Method} {c : Code} {Q : State → Prop} {D : va_G} {cI cZ : ClassId} {mo : Nat} {ad : Nat → Nat} {H : Heap} {locs : List Loc} {M : MS} (C : MC p s m args meth c D cI cZ cX5_initial 3 (some .int)) (hR : 3 ≤ R.frames ∧ 62 ≤ R.locals) {res : Int} (hf : m_initial_59 M = some res) (hZ : ZM D cI cZ mo ad s.heap M H locs) {ls : Array Slot} (hl : lv_has ls 3 []) (hK : KM below D cI cZ mo ad args s Q M (some (.int (zI res)))) : W p l e R s m args below meth c H locs 0 0 Q (F0 m 59 ls []) := by
  unfold m_initial_59 at hf
  have hx := C.1
  have hb := C.2.1
  have hts := C.2.2.2.2.2.2.1
  refine zl_bipush hx hb dX5_initial_59 (by decide) ?_
  refine lv_goto (tgt := 66) hx hb dX5_initial_61 (by decide) ?_
  obtain rfl := Option.some.inj hf
  exact zm_iret C hZ hK dX5_initial_66

theorem w_initial {p : Program} {l : Launch} {e : Env} {R : Room} {s : State} {m : MethodId} {args : Array Value} {below : List Frame} {meth : Method} {c : Code} {Q : State → Prop} {D : va_G} {cI cZ : ClassId} {mo : Nat} {ad : Nat → Nat} {H : Heap} {locs : List Loc} {M : MS} (C : MC p s m args meth c D cI cZ cX5_initial 3 (some .int)) (hR : 3 ≤ R.frames ∧ 62 ≤ R.locals) {x1 x2 : Int} {res : Int} (hf : m_initial M x1 x2 = some res) (hZ : ZM D cI cZ mo ad s.heap M H locs) {ls : Array Slot} (hl : lv_has ls 3 [(0, .ref mo), (1, .int (zI x1)), (2, .int (zI x2))]) (hK : KM below D cI cZ mo ad args s Q M (some (.int (zI res)))) : W p l e R s m args below meth c H locs 0 0 Q (F0 m 0 ls []) := by
  unfold m_initial at hf
  have hx := C.1
  have hb := C.2.1
  have hts := C.2.2.2.2.2.2.1
  refine lv_iload_n hx hb dX5_initial_0 rfl (lv_at hl 1 rfl) ?_
  refine zl_if_eq (tgt := 9) hx hb dX5_initial_1 (by decide) (fun hc => ?_) (fun hc => ?_)
  · rw [if_pos hc] at hf
    exact w_initial_9 C hR hf hZ (lv_sub hl [0, 1, 2] rfl) hK
  · rw [if_neg hc] at hf
    refine lv_iload_n hx hb dX5_initial_4 rfl (lv_at hl 1 rfl) ?_
    refine zl_iconst hx hb dX5_initial_5 ?_
    refine zl_icmp_ne (tgt := 34) hx hb dX5_initial_6 (by decide) (fun hc => ?_) (fun hc => ?_)
    · rw [if_pos hc] at hf
      exact w_initial_9 C hR hf hZ (lv_sub hl [0, 1, 2] rfl) hK
    · rw [if_neg hc] at hf
      refine lv_iload_n hx hb dX5_initial_34 rfl (lv_at hl 1 rfl) ?_
      refine zl_iconst hx hb dX5_initial_35 ?_
      refine zl_icmp_ne (tgt := 67) hx hb dX5_initial_36 (by decide) (fun hc => ?_) (fun hc => ?_)
      · rw [if_pos hc] at hf
        refine lv_iload_n hx hb dX5_initial_39 rfl (lv_at hl 2 rfl) ?_
        refine zl_if_eq (tgt := 59) hx hb dX5_initial_40 (by decide) (fun hc => ?_) (fun hc => ?_)
        · rw [if_pos hc] at hf
          exact w_initial_59 C hR hf hZ (lv_sub hl [] rfl) hK
        · rw [if_neg hc] at hf
          refine lv_aload_n hx hb dX5_initial_43 rfl (lv_at hl 0 rfl) ?_
          refine lv_aload_n hx hb dX5_initial_44 rfl (lv_at hl 0 rfl) ?_
          refine zm_geta C hZ 6 (by decide) (by decide) q1147 dX5_initial_45 ?_
          refine lv_iload_n hx hb dX5_initial_48 rfl (lv_at hl 2 rfl) ?_
          obtain ⟨hg, hf⟩ := gd_inv hf
          refine zm_iald C hZ 6 (by decide) rfl rfl hg dX5_initial_49 ?_
          refine zl_ldcw (v := 1738892) hx hb C.2.2.2.2.2.1 (hts _ q1427) dX5_initial_50 ?_
          obtain ⟨y1, ey1, hf⟩ := bd_inv hf
          refine zm_callV C hZ (n := 2) (rest := []) (met_named l D cI cZ mo ad ey1) (lw_V q1367 q1369 qs46 q107 q1370) rfl rfl (by decide +kernel) ⟨Nat.le_trans (by decide) hR.1, Nat.le_trans (by decide) hR.2⟩ rfl hl.1 rfl (Nat.le_of_ble_eq_true rfl) dX5_initial_53 (fun H locs hZ => ?_)
          refine zl_if_eq (tgt := 64) hx hb dX5_initial_56 (by decide) (fun hc => ?_) (fun hc => ?_)
          · rw [if_pos hc] at hf
            refine zl_bipush hx hb dX5_initial_64 (by decide) ?_
            obtain rfl := Option.some.inj hf
            exact zm_iret C hZ hK dX5_initial_66
          · rw [if_neg hc] at hf
            exact w_initial_59 C hR hf hZ (lv_sub hl [] rfl) hK
      · rw [if_neg hc] at hf
        refine lv_iload_n hx hb dX5_initial_67 rfl (lv_at hl 1 rfl) ?_
        refine zl_bipush hx hb dX5_initial_68 (by decide) ?_
        refine zl_icmp_ne (tgt := 77) hx hb dX5_initial_70 (by decide) (fun hc => ?_) (fun hc => ?_)
        · rw [if_pos hc] at hf
          refine zl_iconst hx hb dX5_initial_73 ?_
          refine lv_goto (tgt := 78) hx hb dX5_initial_74 (by decide) ?_
          obtain rfl := Option.some.inj hf
          exact zm_iret C hZ hK dX5_initial_78
        · rw [if_neg hc] at hf
          refine zl_iconst hx hb dX5_initial_77 ?_
          obtain rfl := Option.some.inj hf
          exact zm_iret C hZ hK dX5_initial_78

theorem met_initial (l : Launch) (D : va_G) (cI cZ : ClassId) (mo : Nat) (ad : Nat → Nat) {M : MS} {x1 x2 : Int} {res : Int} (hf : m_initial M x1 x2 = some res) : Met l yX5_initial (ws_ yX5_initial cX5_initial 3 (some .int)) ({ frames := 3, cells := 0, slots := 0, locals := 62 }) (PM D cI cZ mo ad M [.int (zI x1), .int (zI x2)]) (QM D cI cZ mo ad M (some (.int (zI res)))) 0 0 (MA mo ad) := by
  refine Met.ofW (cc := cX5_initial) (maxL := 3) (ret := (some .int)) (by decide) rfl ?_
  intro p e s m args below meth c s₁ B hml hv
  obtain ⟨rfl, hRM, hK0⟩ := hv
  have hts := atoms_spec (ws := ws_ yX5_initial cX5_initial 3 (some .int)) B.pre
  have hts : ∀ w ∈ lw_all, w.before _ s = true := fun w h => hts w (List.mem_cons_of_mem _ h)
  have C : MC p s m _ meth c D cI cZ cX5_initial 3 (some .int) := ⟨B.exec, B.bytes, B.returns, B.notSynchronized, hml, findClass_of_methodNamed B.named, hts, hK0⟩
  have hZ : ZM D cI cZ mo ad s.heap M s.heap [] := ⟨hRM, rfl, fun _ _ => rfl, fun _ h => by cases h⟩
  have hl := lv_entry ([.ref mo, .int (zI x1), .int (zI x2)]) (n := 3) (Nat.le_of_ble_eq_true rfl)
  rw [lg_entry_eq]
  generalize (lg_sl ([.ref mo, .int (zI x1), .int (zI x2)]) ++ List.replicate (3 - (lg_sl ([.ref mo, .int (zI x1), .int (zI x2)])).length) Slot.unset).toArray = ls at hl ⊢
  have hl : lv_has ls 3 [(0, .ref mo), (1, .int (zI x1)), (2, .int (zI x2))] := hl
  exact w_initial C ⟨Nat.le_refl _, Nat.le_refl _⟩ hf hZ hl rfl

