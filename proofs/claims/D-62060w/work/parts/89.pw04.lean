set_option maxRecDepth 100000
theorem w_X0_html_265 {p : Program} {l : Launch} {e : Env} {R : Room} {s : State} {m : MethodId} {args : Array Value} {below : List Frame} {meth : Method} {c : Code} {Q : State → Prop} {E : PEw} {h0 h : HP} {H : Heap} {locs : List Loc} (C : PC E p s m args meth c RX0 cX0_html 2 (some .boolean) "html") (hr : 12 ≤ R.frames ∧ 298 ≤ R.locals ∧ RBw R h0) {x0 : Nat} {res : HP × Int} (hf : f_X0_html_265 h x0 = some res) (hz : ZP E s h0 h H locs) {ls : Array Slot} (hl : lv_has ls 2 [(0, .ref x0)]) (hk : KP E below args s Q h0 res.1 (some (.int (zI res.2)))) : W p l e R s m args below meth c H locs (pX h - pX h0) (pS h - pS h0) Q (F0 m 265 ls []) := by
  unfold f_X0_html_265 at hf
  have hx := C.1
  have hb := C.2.1
  refine lv_aload_n hx hb dX0_html_265 rfl (lv_at hl 0 rfl) ?_
  obtain ⟨hg, hf⟩ := gd_inv hf
  refine zg_geti gP C hz 1 7 (gkp (by decide) hg) (by decide) (by decide) (Or.inl (C.w q407)) (fun _ h => h) dX0_html_266 ?_
  refine zl_if_ne (tgt := 276) hx hb dX0_html_269 (by decide) (fun hc => ?_) (fun hc => ?_)
  · rw [if_pos hc] at hf
    refine zl_iconst hx hb dX0_html_272 ?_
    refine lv_goto (tgt := 277) hx hb dX0_html_273 (by decide) ?_
    obtain rfl := Option.some.inj hf
    exact zg_zret C hz zisB_1 hk dX0_html_277
  · rw [if_neg hc] at hf
    refine zl_iconst hx hb dX0_html_276 ?_
    obtain rfl := Option.some.inj hf
    exact zg_zret C hz zisB_0 hk dX0_html_277

theorem w_X0_html_151 {p : Program} {l : Launch} {e : Env} {R : Room} {s : State} {m : MethodId} {args : Array Value} {below : List Frame} {meth : Method} {c : Code} {Q : State → Prop} {E : PEw} {h0 h : HP} {H : Heap} {locs : List Loc} (C : PC E p s m args meth c RX0 cX0_html 2 (some .boolean) "html") (hr : 12 ≤ R.frames ∧ 298 ≤ R.locals ∧ RBw R h0) {x0 : Nat} {t0 : Int} {t1 : Nat} {res : HP × Int} (hf : f_X0_html_151 h x0 t0 t1 = some res) (hz : ZP E s h0 h H locs) {ls : Array Slot} (hl : lv_has ls 2 [(0, .ref x0)]) (hk : KP E below args s Q h0 res.1 (some (.int (zI res.2)))) : W p l e R s m args below meth c H locs (pX h - pX h0) (pS h - pS h0) Q (F0 m 151 ls [.ref (eK E t0), .ref t1]) := by
  unfold f_X0_html_151 at hf
  have hx := C.1
  have hb := C.2.1
  obtain ⟨hg, hf⟩ := gd_inv hf
  obtain ⟨hv, hf⟩ := gd_inv hf
  obtain ⟨h1, eh1, hf⟩ := bnd_inv hf
  refine zg_pute gP C hz (gkp (by decide) hg) hv (Or.inl (C.w q408)) dX0_html_151 eh1 (fun H locs hz => ?_)
  refine lv_goto (tgt := 265) hx hb dX0_html_154 (by decide) ?_
  exact w_X0_html_265 C hr hf hz (lv_sub hl [0] rfl) hk

theorem w_X0_html_182 {p : Program} {l : Launch} {e : Env} {R : Room} {s : State} {m : MethodId} {args : Array Value} {below : List Frame} {meth : Method} {c : Code} {Q : State → Prop} {E : PEw} {h0 h : HP} {H : Heap} {locs : List Loc} (C : PC E p s m args meth c RX0 cX0_html 2 (some .boolean) "html") (hr : 12 ≤ R.frames ∧ 298 ≤ R.locals ∧ RBw R h0) {x0 : Nat} {t0 : Int} {t1 : Nat} {res : HP × Int} (hf : f_X0_html_182 h x0 t0 t1 = some res) (hz : ZP E s h0 h H locs) {ls : Array Slot} (hl : lv_has ls 2 [(0, .ref x0)]) (hk : KP E below args s Q h0 res.1 (some (.int (zI res.2)))) : W p l e R s m args below meth c H locs (pX h - pX h0) (pS h - pS h0) Q (F0 m 182 ls [.ref (eK E t0), .ref t1]) := by
  unfold f_X0_html_182 at hf
  have hx := C.1
  have hb := C.2.1
  obtain ⟨hg, hf⟩ := gd_inv hf
  obtain ⟨hv, hf⟩ := gd_inv hf
  obtain ⟨h1, eh1, hf⟩ := bnd_inv hf
  refine zg_pute gP C hz (gkp (by decide) hg) hv (Or.inl (C.w q408)) dX0_html_182 eh1 (fun H locs hz => ?_)
  refine lv_goto (tgt := 265) hx hb dX0_html_185 (by decide) ?_
  exact w_X0_html_265 C hr hf hz (lv_sub hl [0] rfl) hk

theorem w_X0_html_240 {p : Program} {l : Launch} {e : Env} {R : Room} {s : State} {m : MethodId} {args : Array Value} {below : List Frame} {meth : Method} {c : Code} {Q : State → Prop} {E : PEw} {h0 h : HP} {H : Heap} {locs : List Loc} (C : PC E p s m args meth c RX0 cX0_html 2 (some .boolean) "html") (hr : 12 ≤ R.frames ∧ 298 ≤ R.locals ∧ RBw R h0) {x0 : Nat} {t0 : Int} {t1 : Nat} {res : HP × Int} (hf : f_X0_html_240 h x0 t0 t1 = some res) (hz : ZP E s h0 h H locs) {ls : Array Slot} (hl : lv_has ls 2 [(0, .ref x0)]) (hk : KP E below args s Q h0 res.1 (some (.int (zI res.2)))) : W p l e R s m args below meth c H locs (pX h - pX h0) (pS h - pS h0) Q (F0 m 240 ls [.int (zI t0), .ref t1]) := by
  unfold f_X0_html_240 at hf
  have hx := C.1
  have hb := C.2.1
  obtain ⟨hg, hf⟩ := gd_inv hf
  obtain ⟨y1, ey1, hf⟩ := bd_inv hf
  refine zg_callV gP C hz hr (n := 1) (rest := []) (gkp (by decide) hg) (met_X0_character l E ey1) q541 q543 (C.w qs8) q89 q544 (by decide +kernel) ⟨Nat.le_trans (by decide) hr.1, Nat.le_trans (by decide) hr.2.1⟩ rfl hl.1 rfl (Nat.le_of_ble_eq_true rfl) dX0_html_240 (fun H locs hz => ?_)
  refine lv_goto (tgt := 265) hx hb dX0_html_243 (by decide) ?_
  exact w_X0_html_265 C hr hf hz (lv_sub hl [0] rfl) hk

theorem w_X0_html {p : Program} {l : Launch} {e : Env} {R : Room} {s : State} {m : MethodId} {args : Array Value} {below : List Frame} {meth : Method} {c : Code} {Q : State → Prop} {E : PEw} {h0 h : HP} {H : Heap} {locs : List Loc} (C : PC E p s m args meth c RX0 cX0_html 2 (some .boolean) "html") (hr : 12 ≤ R.frames ∧ 298 ≤ R.locals ∧ RBw R h0) {x0 : Nat} {x1 : Int} {res : HP × Int} (hf : f_X0_html h x0 x1 = some res) (hz : ZP E s h0 h H locs) {ls : Array Slot} (hl : lv_has ls 2 [(0, .ref x0), (1, .int (zI x1))]) (hk : KP E below args s Q h0 res.1 (some (.int (zI res.2)))) : W p l e R s m args below meth c H locs (pX h - pX h0) (pS h - pS h0) Q (F0 m 0 ls []) := by
  unfold f_X0_html at hf
  have hx := C.1
  have hb := C.2.1
  refine lv_iload_n hx hb dX0_html_0 rfl (lv_at hl 1 rfl) ?_
  refine zl_bipush hx hb dX0_html_1 (by decide) ?_
  refine zl_icmp_lt (tgt := 29) hx hb dX0_html_3 (by decide) (fun hc => ?_) (fun hc => ?_)
  · rw [if_pos hc] at hf
    refine zl_iconst hx hb dX0_html_29 ?_
    obtain rfl := Option.some.inj hf
    exact zg_zret C hz zisB_0 hk dX0_html_30
  · rw [if_neg hc] at hf
    refine lv_iload_n hx hb dX0_html_6 rfl (lv_at hl 1 rfl) ?_
    refine zl_bipush hx hb dX0_html_7 (by decide) ?_
    refine zl_icmp_gt (tgt := 29) hx hb dX0_html_9 (by decide) (fun hc => ?_) (fun hc => ?_)
    · rw [if_pos hc] at hf
      refine zl_iconst hx hb dX0_html_29 ?_
      obtain rfl := Option.some.inj hf
      exact zg_zret C hz zisB_0 hk dX0_html_30
    · rw [if_neg hc] at hf
      refine lv_aload_n hx hb dX0_html_12 rfl (lv_at hl 0 rfl) ?_
      obtain ⟨hg, hf⟩ := gd_inv hf
      refine zg_geti gP C hz 1 9 (gkp (by decide) hg) (by decide) (by decide) (Or.inl (C.w q409)) (fun _ h => h) dX0_html_13 ?_
      refine zl_sipush hx hb dX0_html_16 (by decide) ?_
      refine zl_icmp_eq (tgt := 29) hx hb dX0_html_19 (by decide) (fun hc => ?_) (fun hc => ?_)
      · rw [if_pos hc] at hf
        refine zl_iconst hx hb dX0_html_29 ?_
        obtain rfl := Option.some.inj hf
        exact zg_zret C hz zisB_0 hk dX0_html_30
      · rw [if_neg hc] at hf
        refine lv_aload_n hx hb dX0_html_22 rfl (lv_at hl 0 rfl) ?_
        obtain ⟨hg, hf⟩ := gd_inv hf
        refine zg_geti gP C hz 1 7 (gkp (by decide) hg) (by decide) (by decide) (Or.inl (C.w q407)) (fun _ h => h) dX0_html_23 ?_
        refine zl_if_eq (tgt := 31) hx hb dX0_html_26 (by decide) (fun hc => ?_) (fun hc => ?_)
        · rw [if_pos hc] at hf
          refine lv_aload_n hx hb dX0_html_31 rfl (lv_at hl 0 rfl) ?_
          refine lv_dup hx hb dX0_html_32 rfl ?_
          obtain ⟨hg, hf⟩ := gd_inv hf
          refine zg_geti gP C hz 1 9 (gkp (by decide) hg) (by decide) (by decide) (Or.inl (C.w q409)) (fun _ h => h) dX0_html_33 ?_
          refine zl_iconst hx hb dX0_html_36 ?_
          refine zl_iadd hx hb dX0_html_37 ?_
          obtain ⟨hg, hf⟩ := gd_inv hf
          obtain ⟨h1, eh1, hf⟩ := bnd_inv hf
          refine zg_puti gP C hz 1 9 (gkp (by decide) hg) (by decide) (by decide) rfl (by decide) (Or.inl (C.w q409)) (fun _ h => h) dX0_html_38 eh1 (fun H locs hz => ?_)
          refine lv_aload_n hx hb dX0_html_41 rfl (lv_at hl 0 rfl) ?_
          obtain ⟨hg, hf⟩ := gd_inv hf
          obtain ⟨y2, ey2, hf⟩ := bd_inv hf
          refine zg_callV gP C hz hr (n := 0) (rest := []) (gkp (by decide) hg) (met_X0_changed l E ey2) q519 q521 (C.w qs6) q89 q522 (by decide +kernel) ⟨Nat.le_trans (by decide) hr.1, Nat.le_trans (by decide) hr.2.1⟩ rfl hl.1 rfl (Nat.le_of_ble_eq_true rfl) dX0_html_42 (fun H locs hz => ?_)
          refine lv_aload_n hx hb dX0_html_45 rfl (lv_at hl 0 rfl) ?_
          obtain ⟨hg, hf⟩ := gd_inv hf
          obtain ⟨hv, hf⟩ := gd_inv hf
          refine zg_gete gP C hz (gkp (by decide) hg) hv (Or.inl (C.w q408)) dX0_html_46 ?_
          obtain ⟨hg, hf⟩ := gd_inv hf
          refine zc_ordinal gP C hz hr hg q527 hl.1 ⟨Nat.le_trans (by decide) hr.1, Nat.le_trans (by decide) hr.2.1⟩ (Nat.le_of_ble_eq_true rfl) dX0_html_49 (fun H locs hz => ?_)
          by_cases hc : zI (pI y2 x0 8) = zI 0
          · rw [if_pos hc] at hf
            refine zl_tab (tgt := 96) (v := 0) hx hb dX0_html_52 hc (by decide) (by decide) (by decide) rfl (by decide) ?_
            refine lv_aload_n hx hb dX0_html_96 rfl (lv_at hl 0 rfl) ?_
            refine lv_iload_n hx hb dX0_html_97 rfl (lv_at hl 1 rfl) ?_
            obtain ⟨hg, hf⟩ := gd_inv hf
            obtain ⟨y3, ey3, hf⟩ := bd_inv hf
            refine zg_callV gP C hz hr (n := 1) (rest := []) (gkp (by decide) hg) (met_X0_plain l E ey3) q533 q535 (C.w qs7) q89 q536 (by decide +kernel) ⟨Nat.le_trans (by decide) hr.1, Nat.le_trans (by decide) hr.2.1⟩ rfl hl.1 rfl (Nat.le_of_ble_eq_true rfl) dX0_html_98 (fun H locs hz => ?_)
            refine lv_goto (tgt := 265) hx hb dX0_html_101 (by decide) ?_
            exact w_X0_html_265 C hr hf hz (lv_sub hl [0] rfl) hk
          rw [if_neg hc] at hf
          have hc0 := hc
          by_cases hc : zI (pI y2 x0 8) = zI 1
          · rw [if_pos hc] at hf
            refine zl_tab (tgt := 104) (v := 1) hx hb dX0_html_52 hc (by decide) (by decide) (by decide) rfl (by decide) ?_
            refine lv_aload_n hx hb dX0_html_104 rfl (lv_at hl 0 rfl) ?_
            refine lv_iload_n hx hb dX0_html_105 rfl (lv_at hl 1 rfl) ?_
            obtain ⟨hg, hf⟩ := gd_inv hf
            obtain ⟨y4, ey4, hf⟩ := bd_inv hf
            refine zg_callV gP C hz hr (n := 1) (rest := []) (gkp (by decide) hg) (met_X0_less l E ey4) q788 q790 (C.w qs18) q89 q791 (by decide +kernel) ⟨Nat.le_trans (by decide) hr.1, Nat.le_trans (by decide) hr.2.1⟩ rfl hl.1 rfl (Nat.le_of_ble_eq_true rfl) dX0_html_106 (fun H locs hz => ?_)
            refine lv_goto (tgt := 265) hx hb dX0_html_109 (by decide) ?_
            exact w_X0_html_265 C hr hf hz (lv_sub hl [0] rfl) hk
          rw [if_neg hc] at hf
          have hc1 := hc
          by_cases hc : zI (pI y2 x0 8) = zI 2
          · rw [if_pos hc] at hf
            refine zl_tab (tgt := 112) (v := 2) hx hb dX0_html_52 hc (by decide) (by decide) (by decide) rfl (by decide) ?_
            refine lv_aload_n hx hb dX0_html_112 rfl (lv_at hl 0 rfl) ?_
            refine lv_iload_n hx hb dX0_html_113 rfl (lv_at hl 1 rfl) ?_
            obtain ⟨hg, hf⟩ := gd_inv hf
            obtain ⟨hv, hf⟩ := gd_inv hf
            obtain ⟨h5, eh5, hf⟩ := bnd_inv hf
            refine zg_putc gP C hz 1 10 (gkp (by decide) hg) (by decide) (by decide) rfl (by decide) hv (Or.inl (C.w q410)) (fun _ h => h) dX0_html_114 eh5 (fun H locs hz => ?_)
            refine lv_aload_n hx hb dX0_html_117 rfl (lv_at hl 0 rfl) ?_
            refine zl_iconst hx hb dX0_html_118 ?_
            obtain ⟨hg, hf⟩ := gd_inv hf
            obtain ⟨h6, eh6, hf⟩ := bnd_inv hf
            refine zg_puti gP C hz 1 11 (gkp (by decide) hg) (by decide) (by decide) rfl (by decide) (Or.inl (C.w q411)) (fun _ h => h) dX0_html_119 eh6 (fun H locs hz => ?_)
            refine lv_aload_n hx hb dX0_html_122 rfl (lv_at hl 0 rfl) ?_
            refine lv_iload_n hx hb dX0_html_123 rfl (lv_at hl 1 rfl) ?_
            obtain ⟨y7, ey7, hf⟩ := bd_inv hf
            refine zg_callS gP C hz hr (n := 1) (rest := [.ref x0]) (met_X0_small l E ey7) q792 q793 q89 q794 (by decide +kernel) ⟨Nat.le_trans (by decide) hr.1, Nat.le_trans (by decide) hr.2.1⟩ rfl hl.1 rfl (Nat.le_of_ble_eq_true rfl) dX0_html_124 (fun H locs hz => ?_)
            refine zl_if_eq (tgt := 136) hx hb dX0_html_127 (by decide) (fun hc => ?_) (fun hc => ?_)
            · rw [if_pos hc] at hf
              refine lv_iload_n hx hb dX0_html_136 rfl (lv_at hl 1 rfl) ?_
              refine zl_bipush hx hb dX0_html_137 (by decide) ?_
              refine zl_icmp_ne (tgt := 148) hx hb dX0_html_139 (by decide) (fun hc => ?_) (fun hc => ?_)
              · rw [if_pos hc] at hf
                refine zc_state C hz (n := 0) (o := 0) (by decide) (Or.inl (C.w q236)) rfl dX0_html_142 ?_
                refine lv_goto (tgt := 151) hx hb dX0_html_145 (by decide) ?_
                exact w_X0_html_151 C hr hf hz (lv_sub hl [0] rfl) hk
              · rw [if_neg hc] at hf
                refine zc_state C hz (n := 5) (o := 5) (by decide) (Or.inl (C.w q797)) rfl dX0_html_148 ?_
                exact w_X0_html_151 C hr hf hz (lv_sub hl [0] rfl) hk
            · rw [if_neg hc] at hf
              refine zc_state C hz (n := 4) (o := 4) (by decide) (Or.inl (C.w q801)) rfl dX0_html_130 ?_
              refine lv_goto (tgt := 151) hx hb dX0_html_133 (by decide) ?_
              exact w_X0_html_151 C hr hf hz (lv_sub hl [0] rfl) hk
          rw [if_neg hc] at hf
          have hc2 := hc
          by_cases hc : zI (pI y2 x0 8) = zI 3
          · rw [if_pos hc] at hf
            refine zl_tab (tgt := 157) (v := 3) hx hb dX0_html_52 hc (by decide) (by decide) (by decide) rfl (by decide) ?_
            refine lv_aload_n hx hb dX0_html_157 rfl (lv_at hl 0 rfl) ?_
            refine lv_iload_n hx hb dX0_html_158 rfl (lv_at hl 1 rfl) ?_
            obtain ⟨hg, hf⟩ := gd_inv hf
            obtain ⟨y8, ey8, hf⟩ := bd_inv hf
            refine zg_callV gP C hz hr (n := 1) (rest := []) (gkp (by decide) hg) (met_X0_inTag l E ey8) q803 q805 (C.w qs19) q89 q806 (by decide +kernel) ⟨Nat.le_trans (by decide) hr.1, Nat.le_trans (by decide) hr.2.1⟩ rfl hl.1 rfl (Nat.le_of_ble_eq_true rfl) dX0_html_159 (fun H locs hz => ?_)
            refine lv_goto (tgt := 265) hx hb dX0_html_162 (by decide) ?_
            exact w_X0_html_265 C hr hf hz (lv_sub hl [0] rfl) hk
          rw [if_neg hc] at hf
          have hc3 := hc
          by_cases hc : zI (pI y2 x0 8) = zI 4
          · rw [if_pos hc] at hf
            refine zl_tab (tgt := 157) (v := 4) hx hb dX0_html_52 hc (by decide) (by decide) (by decide) rfl (by decide) ?_
            refine lv_aload_n hx hb dX0_html_157 rfl (lv_at hl 0 rfl) ?_
            refine lv_iload_n hx hb dX0_html_158 rfl (lv_at hl 1 rfl) ?_
            obtain ⟨hg, hf⟩ := gd_inv hf
            obtain ⟨y9, ey9, hf⟩ := bd_inv hf
            refine zg_callV gP C hz hr (n := 1) (rest := []) (gkp (by decide) hg) (met_X0_inTag l E ey9) q803 q805 (C.w qs19) q89 q806 (by decide +kernel) ⟨Nat.le_trans (by decide) hr.1, Nat.le_trans (by decide) hr.2.1⟩ rfl hl.1 rfl (Nat.le_of_ble_eq_true rfl) dX0_html_159 (fun H locs hz => ?_)
            refine lv_goto (tgt := 265) hx hb dX0_html_162 (by decide) ?_
            exact w_X0_html_265 C hr hf hz (lv_sub hl [0] rfl) hk
          rw [if_neg hc] at hf
          have hc4 := hc
          by_cases hc : zI (pI y2 x0 8) = zI 5
          · rw [if_pos hc] at hf
            refine zl_tab (tgt := 165) (v := 5) hx hb dX0_html_52 hc (by decide) (by decide) (by decide) rfl (by decide) ?_
            refine lv_aload_n hx hb dX0_html_165 rfl (lv_at hl 0 rfl) ?_
            refine lv_iload_n hx hb dX0_html_166 rfl (lv_at hl 1 rfl) ?_
            refine zl_bipush hx hb dX0_html_167 (by decide) ?_
            refine zl_icmp_ne (tgt := 178) hx hb dX0_html_169 (by decide) (fun hc => ?_) (fun hc => ?_)
            · rw [if_pos hc] at hf
              refine zc_state C hz (n := 0) (o := 0) (by decide) (Or.inl (C.w q236)) rfl dX0_html_172 ?_
              refine lv_goto (tgt := 182) hx hb dX0_html_175 (by decide) ?_
              exact w_X0_html_182 C hr hf hz (lv_sub hl [0] rfl) hk
            · rw [if_neg hc] at hf
              refine lv_aload_n hx hb dX0_html_178 rfl (lv_at hl 0 rfl) ?_
              obtain ⟨hg, hf⟩ := gd_inv hf
              obtain ⟨hv, hf⟩ := gd_inv hf
              refine zg_gete gP C hz (gkp (by decide) hg) hv (Or.inl (C.w q408)) dX0_html_179 ?_
              exact w_X0_html_182 C hr hf hz (lv_sub hl [0] rfl) hk
          rw [if_neg hc] at hf
          have hc5 := hc
          by_cases hc : zI (pI y2 x0 8) = zI 6
          · rw [if_pos hc] at hf
            refine zl_tab (tgt := 188) (v := 6) hx hb dX0_html_52 hc (by decide) (by decide) (by decide) rfl (by decide) ?_
            refine lv_aload_n hx hb dX0_html_188 rfl (lv_at hl 0 rfl) ?_
            refine lv_iload_n hx hb dX0_html_189 rfl (lv_at hl 1 rfl) ?_
            obtain ⟨hg, hf⟩ := gd_inv hf
            obtain ⟨y10, ey10, hf⟩ := bd_inv hf
            refine zg_callV gP C hz hr (n := 1) (rest := []) (gkp (by decide) hg) (met_X0_and l E ey10) q859 q861 (C.w qs27) q89 q862 (by decide +kernel) ⟨Nat.le_trans (by decide) hr.1, Nat.le_trans (by decide) hr.2.1⟩ rfl hl.1 rfl (Nat.le_of_ble_eq_true rfl) dX0_html_190 (fun H locs hz => ?_)
            refine lv_goto (tgt := 265) hx hb dX0_html_193 (by decide) ?_
            exact w_X0_html_265 C hr hf hz (lv_sub hl [0] rfl) hk
          rw [if_neg hc] at hf
          have hc6 := hc
          refine zl_tabD (tgt := 196) (vs := [0, 1, 2, 3, 4, 5, 6]) hx hb dX0_html_52 (by decide) (by simp only [List.mem_cons, List.not_mem_nil, or_false, forall_eq_or_imp, forall_eq]; exact ⟨hc0, hc1, hc2, hc3, hc4, hc5, hc6⟩) (by decide) (by decide) ?_
          refine lv_aload_n hx hb dX0_html_196 rfl (lv_at hl 0 rfl) ?_
          refine zc_state C hz (n := 0) (o := 0) (by decide) (Or.inl (C.w q236)) rfl dX0_html_197 ?_
          obtain ⟨hg, hf⟩ := gd_inv hf
          obtain ⟨h11, eh11, hf⟩ := bnd_inv hf
          refine zg_pute gP C hz (gkp (by decide) hg) (by decide) (Or.inl (C.w q408)) dX0_html_200 eh11 (fun H locs hz => ?_)
          refine lv_iload_n hx hb dX0_html_203 rfl (lv_at hl 1 rfl) ?_
          refine zl_bipush hx hb dX0_html_204 (by decide) ?_
          refine zl_icmp_ne (tgt := 246) hx hb dX0_html_206 (by decide) (fun hc => ?_) (fun hc => ?_)
          · rw [if_pos hc] at hf
            refine lv_aload_n hx hb dX0_html_209 rfl (lv_at hl 0 rfl) ?_
            refine lv_aload_n hx hb dX0_html_210 rfl (lv_at hl 0 rfl) ?_
            obtain ⟨hg, hf⟩ := gd_inv hf
            refine zg_geti gP C hz 1 10 (gkp (by decide) hg) (by decide) (by decide) (Or.inl (C.w q410)) (fun _ h => h) dX0_html_211 ?_
            refine zl_bipush hx hb dX0_html_214 (by decide) ?_
            refine zl_icmp_ne (tgt := 224) hx hb dX0_html_216 (by decide) (fun hc => ?_) (fun hc => ?_)
            · rw [if_pos hc] at hf
              refine zl_bipush hx hb dX0_html_219 (by decide) ?_
              refine lv_goto (tgt := 240) hx hb dX0_html_221 (by decide) ?_
              exact w_X0_html_240 C hr hf hz (lv_sub hl [0] rfl) hk
            · rw [if_neg hc] at hf
              refine lv_aload_n hx hb dX0_html_224 rfl (lv_at hl 0 rfl) ?_
              obtain ⟨hg, hf⟩ := gd_inv hf
              refine zg_geti gP C hz 1 10 (gkp (by decide) hg) (by decide) (by decide) (Or.inl (C.w q410)) (fun _ h => h) dX0_html_225 ?_
              refine zl_bipush hx hb dX0_html_228 (by decide) ?_
              refine zl_icmp_ne (tgt := 238) hx hb dX0_html_230 (by decide) (fun hc => ?_) (fun hc => ?_)
              · rw [if_pos hc] at hf
                refine zl_bipush hx hb dX0_html_233 (by decide) ?_
                refine lv_goto (tgt := 240) hx hb dX0_html_235 (by decide) ?_
                exact w_X0_html_240 C hr hf hz (lv_sub hl [0] rfl) hk
              · rw [if_neg hc] at hf
                refine zl_bipush hx hb dX0_html_238 (by decide) ?_
                exact w_X0_html_240 C hr hf hz (lv_sub hl [0] rfl) hk
          · rw [if_neg hc] at hf
            refine lv_aload_n hx hb dX0_html_246 rfl (lv_at hl 0 rfl) ?_
            refine zl_bipush hx hb dX0_html_247 (by decide) ?_
            obtain ⟨hg, hf⟩ := gd_inv hf
            obtain ⟨y12, ey12, hf⟩ := bd_inv hf
            refine zg_callV gP C hz hr (n := 1) (rest := []) (gkp (by decide) hg) (met_X0_character l E ey12) q541 q543 (C.w qs8) q89 q544 (by decide +kernel) ⟨Nat.le_trans (by decide) hr.1, Nat.le_trans (by decide) hr.2.1⟩ rfl hl.1 rfl (Nat.le_of_ble_eq_true rfl) dX0_html_249 (fun H locs hz => ?_)
            refine lv_aload_n hx hb dX0_html_252 rfl (lv_at hl 0 rfl) ?_
            refine lv_aload_n hx hb dX0_html_253 rfl (lv_at hl 0 rfl) ?_
            obtain ⟨hg, hf⟩ := gd_inv hf
            refine zg_geti gP C hz 1 10 (gkp (by decide) hg) (by decide) (by decide) (Or.inl (C.w q410)) (fun _ h => h) dX0_html_254 ?_
            obtain ⟨hg, hf⟩ := gd_inv hf
            obtain ⟨y13, ey13, hf⟩ := bd_inv hf
            refine zg_callV gP C hz hr (n := 1) (rest := []) (gkp (by decide) hg) (met_X0_character l E ey13) q541 q543 (C.w qs8) q89 q544 (by decide +kernel) ⟨Nat.le_trans (by decide) hr.1, Nat.le_trans (by decide) hr.2.1⟩ rfl hl.1 rfl (Nat.le_of_ble_eq_true rfl) dX0_html_257 (fun H locs hz => ?_)
            refine lv_aload_n hx hb dX0_html_260 rfl (lv_at hl 0 rfl) ?_
            refine lv_iload_n hx hb dX0_html_261 rfl (lv_at hl 1 rfl) ?_
            obtain ⟨hg, hf⟩ := gd_inv hf
            obtain ⟨y14, ey14, hf⟩ := bd_inv hf
            refine zg_callV gP C hz hr (n := 1) (rest := []) (gkp (by decide) hg) (met_X0_plain l E ey14) q533 q535 (C.w qs7) q89 q536 (by decide +kernel) ⟨Nat.le_trans (by decide) hr.1, Nat.le_trans (by decide) hr.2.1⟩ rfl hl.1 rfl (Nat.le_of_ble_eq_true rfl) dX0_html_262 (fun H locs hz => ?_)
            exact w_X0_html_265 C hr hf hz (lv_sub hl [0] rfl) hk
        · rw [if_neg hc] at hf
          refine zl_iconst hx hb dX0_html_29 ?_
          obtain rfl := Option.some.inj hf
          exact zg_zret C hz zisB_0 hk dX0_html_30

theorem met_X0_html (l : Launch) (E : PEw) {h : HP} {x0 : Nat} {x1 : Int} {res : HP × Int} (hf : f_X0_html h x0 x1 = some res) : Met l yX0_html (ws_ yX0_html cX0_html 2 (some .boolean)) (rmP h 12 298) (PP E h [.ref x0, .int (zI x1)]) (QP E h res.1 (some (.int (zI res.2)))) (pX res.1 - pX h) (pS res.1 - pS h) (eF E) := by
  refine Met.ofW (cc := cX0_html) (maxL := 2) (ret := (some .boolean)) (by decide) rfl ?_
  intro p e s m args below meth c s₁ B hml hv
  obtain ⟨rfl, hP0⟩ := hv
  have hts := atoms_spec (ws := ws_ yX0_html cX0_html 2 (some .boolean)) B.pre
  have hts : ∀ w ∈ lw_all, w.before _ s = true := fun w h => hts w (List.mem_cons_of_mem _ h)
  have C : PC E p s m _ meth c RX0 cX0_html 2 (some .boolean) "html" := ⟨B.exec, B.bytes, B.returns, B.notSynchronized, hml, findClass_of_methodNamed B.named, hts, hP0.2, (name_of_methodNamed B.named B.method).1⟩
  have hz : ZP E s h h s.heap [] := ZG.start hP0.1
  have hl := lv_entry ([.ref x0, .int (zI x1)]) (n := 2) (Nat.le_of_ble_eq_true rfl)
  rw [lg_entry_eq]
  generalize (lg_sl ([.ref x0, .int (zI x1)]) ++ List.replicate (2 - (lg_sl ([.ref x0, .int (zI x1)])).length) Slot.unset).toArray = ls at hl ⊢
  have hl : lv_has ls 2 [(0, .ref x0), (1, .int (zI x1))] := hl
  refine W.cs (cells' := pX h - pX h) (slots' := pS h - pS h) (Nat.sub_self _).symm (Nat.sub_self _).symm ?_
  exact w_X0_html C ⟨Nat.le_refl _, Nat.le_refl _, RBw.rm⟩ hf hz hl rfl

theorem w_X0_afterBlanks_2s {p : Program} {l : Launch} {e : Env} {R : Room} {s : State} {m : MethodId} {args : Array Value} {below : List Frame} {meth : Method} {c : Code} {Q : State → Prop} {E : PEw} {h0 h : HP} {H : Heap} {locs : List Loc} (C : PC E p s m args meth c RX0 cX0_afterBlanks 3 (some .int) "afterBlanks") (hr : 4 ≤ R.frames ∧ 88 ≤ R.locals ∧ RBw R h0) {x0 : Nat} {x2 : Int} {res : (Int) ⊕ (Int)} (hf : f_X0_afterBlanks_2s h x0 x2 = some res) (hz : ZP E s h0 h H locs) {ls : Array Slot} (hl : lv_has ls 3 [(0, .ref x0), (2, .int (zI x2))]) (hk : (Sum.elim (fun z => ∀ (H : Heap) (locs : List Loc) (ls : Array Slot), ZP E s h0 h H locs → lv_has ls 3 [(0, .ref x0), (2, .int (zI z))] → W p l e R s m args below meth c H locs (pX h - pX h0) (pS h - pS h0) Q (F0 m 2 ls [])) (fun r => KP E below args s Q h0 h (some (.int (zI r))))) res) : W p l e R s m args below meth c H locs (pX h - pX h0) (pS h - pS h0) Q (F0 m 2 ls []) := by
  unfold f_X0_afterBlanks_2s at hf
  have hx := C.1
  have hb := C.2.1
  refine lv_iload_n hx hb dX0_afterBlanks_2 rfl (lv_at hl 1 rfl) ?_
  refine lv_aload_n hx hb dX0_afterBlanks_3 rfl (lv_at hl 0 rfl) ?_
  obtain ⟨y1, ey1, hf⟩ := bd_inv hf
  refine zj_sLen C hz hr ey1 (rest := [.int (zI x2)]) q883 q753 (C.w q754) q99 q755 hl.1 ⟨Nat.le_trans (by decide) hr.1, Nat.le_trans (by decide) hr.2.1⟩ (Nat.le_of_ble_eq_true rfl) dX0_afterBlanks_4 (fun H locs hz => ?_)
  refine zl_icmp_ge (tgt := 26) hx hb dX0_afterBlanks_7 (by decide) (fun hc => ?_) (fun hc => ?_)
  · rw [if_pos hc] at hf
    refine lv_aload_n hx hb dX0_afterBlanks_10 rfl (lv_at hl 0 rfl) ?_
    refine lv_iload_n hx hb dX0_afterBlanks_11 rfl (lv_at hl 1 rfl) ?_
    obtain ⟨y2, ey2, hf⟩ := bd_inv hf
    refine zj_sAt C hz hr ey2 (rest := []) q884 q885 (C.w q886) q99 q887 hl.1 ⟨Nat.le_trans (by decide) hr.1, Nat.le_trans (by decide) hr.2.1⟩ (Nat.le_of_ble_eq_true rfl) dX0_afterBlanks_12 (fun H locs hz => ?_)
    refine zl_bipush hx hb dX0_afterBlanks_15 (by decide) ?_
    refine zl_icmp_ne (tgt := 26) hx hb dX0_afterBlanks_17 (by decide) (fun hc => ?_) (fun hc => ?_)
    · rw [if_pos hc] at hf
      refine zl_iinc (x := x2) (n := 1) (lv' := [(2, .int (zI (x2 + 1))), (0, .ref x0)]) (k := 1) hx hb dX0_afterBlanks_20 hl rfl (by decide) rfl (fun ls hl => ?_)
      refine lv_goto (tgt := 2) hx hb dX0_afterBlanks_23 (by decide) ?_
      obtain rfl := Option.some.inj hf
      exact hk _ _ _ hz (lv_sub hl [1, 0] rfl)
    · rw [if_neg hc] at hf
      refine lv_iload_n hx hb dX0_afterBlanks_26 rfl (lv_at hl 1 rfl) ?_
      obtain rfl := Option.some.inj hf
      exact zg_iret C hz hk dX0_afterBlanks_27
  · rw [if_neg hc] at hf
    refine lv_iload_n hx hb dX0_afterBlanks_26 rfl (lv_at hl 1 rfl) ?_
    obtain rfl := Option.some.inj hf
    exact zg_iret C hz hk dX0_afterBlanks_27

theorem w_X0_afterBlanks_2 {p : Program} {l : Launch} {e : Env} {R : Room} {s : State} {m : MethodId} {args : Array Value} {below : List Frame} {meth : Method} {c : Code} {Q : State → Prop} {E : PEw} {h0 h : HP} {H : Heap} {locs : List Loc} (C : PC E p s m args meth c RX0 cX0_afterBlanks 3 (some .int) "afterBlanks") (hr : 4 ≤ R.frames ∧ 88 ≤ R.locals ∧ RBw R h0) {x0 : Nat} {x2 : Int} {res : Int} (hf : f_X0_afterBlanks_2 h x0 x2 = some res) (hz : ZP E s h0 h H locs) {ls : Array Slot} (hl : lv_has ls 3 [(0, .ref x0), (2, .int (zI x2))]) (hk : KP E below args s Q h0 h (some (.int (zI res)))) : W p l e R s m args below meth c H locs (pX h - pX h0) (pS h - pS h0) Q (F0 m 2 ls []) := by
  unfold f_X0_afterBlanks_2 at hf
  refine iter_ind (P := fun z r => ∀ (H : Heap) (locs : List Loc) (ls : Array Slot), ZP E s h0 h H locs → lv_has ls 3 [(0, .ref x0), (2, .int (zI z))] → KP E below args s Q h0 h (some (.int (zI r))) → W p l e R s m args below meth c H locs (pX h - pX h0) (pS h - pS h0) Q (F0 m 2 ls [])) ?_ ?_ hf H locs ls hz hl hk
  · intro z r h1 H locs ls hz hl hk; exact w_X0_afterBlanks_2s C hr h1 hz hl hk
  · intro z z1 r h1 ih H locs ls hz hl hk; exact w_X0_afterBlanks_2s C hr h1 hz hl (fun H locs ls hz hl => ih H locs ls hz hl hk)

theorem w_X0_afterBlanks {p : Program} {l : Launch} {e : Env} {R : Room} {s : State} {m : MethodId} {args : Array Value} {below : List Frame} {meth : Method} {c : Code} {Q : State → Prop} {E : PEw} {h0 h : HP} {H : Heap} {locs : List Loc} (C : PC E p s m args meth c RX0 cX0_afterBlanks 3 (some .int) "afterBlanks") (hr : 4 ≤ R.frames ∧ 88 ≤ R.locals ∧ RBw R h0) {x0 : Nat} {x1 : Int} {res : Int} (hf : f_X0_afterBlanks h x0 x1 = some res) (hz : ZP E s h0 h H locs) {ls : Array Slot} (hl : lv_has ls 3 [(0, .ref x0), (1, .int (zI x1))]) (hk : KP E below args s Q h0 h (some (.int (zI res)))) : W p l e R s m args below meth c H locs (pX h - pX h0) (pS h - pS h0) Q (F0 m 0 ls []) := by
  unfold f_X0_afterBlanks at hf
  have hx := C.1
  have hb := C.2.1
  refine lv_iload_n hx hb dX0_afterBlanks_0 rfl (lv_at hl 1 rfl) ?_
  refine lv_istore_n (lv' := [(2, .int (zI x1)), (0, .ref x0), (1, .int (zI x1))]) hx hb dX0_afterBlanks_1 rfl hl (by decide) rfl (fun ls hl => ?_)
  exact w_X0_afterBlanks_2 C hr hf hz (lv_sub hl [1, 0] rfl) hk

theorem met_X0_afterBlanks (l : Launch) (E : PEw) {h : HP} {x0 : Nat} {x1 : Int} {res : Int} (hf : f_X0_afterBlanks h x0 x1 = some res) : Met l yX0_afterBlanks (ws_ yX0_afterBlanks cX0_afterBlanks 3 (some .int)) (rmP h 4 88) (PP E h [.ref x0, .int (zI x1)]) (QP E h h (some (.int (zI res)))) (pX h - pX h) (pS h - pS h) (eF E) := by
  refine Met.ofW (cc := cX0_afterBlanks) (maxL := 3) (ret := (some .int)) (by decide) rfl ?_
  intro p e s m args below meth c s₁ B hml hv
  obtain ⟨rfl, hP0⟩ := hv
  have hts := atoms_spec (ws := ws_ yX0_afterBlanks cX0_afterBlanks 3 (some .int)) B.pre
  have hts : ∀ w ∈ lw_all, w.before _ s = true := fun w h => hts w (List.mem_cons_of_mem _ h)
  have C : PC E p s m _ meth c RX0 cX0_afterBlanks 3 (some .int) "afterBlanks" := ⟨B.exec, B.bytes, B.returns, B.notSynchronized, hml, findClass_of_methodNamed B.named, hts, hP0.2, (name_of_methodNamed B.named B.method).1⟩
  have hz : ZP E s h h s.heap [] := ZG.start hP0.1
  have hl := lv_entry ([.ref x0, .int (zI x1)]) (n := 3) (Nat.le_of_ble_eq_true rfl)
  rw [lg_entry_eq]
  generalize (lg_sl ([.ref x0, .int (zI x1)]) ++ List.replicate (3 - (lg_sl ([.ref x0, .int (zI x1)])).length) Slot.unset).toArray = ls at hl ⊢
  have hl : lv_has ls 3 [(0, .ref x0), (1, .int (zI x1))] := hl
  refine W.cs (cells' := pX h - pX h) (slots' := pS h - pS h) (Nat.sub_self _).symm (Nat.sub_self _).symm ?_
  exact w_X0_afterBlanks C ⟨Nat.le_refl _, Nat.le_refl _, RBw.rm⟩ hf hz hl rfl

theorem w_J15_init {p : Program} {l : Launch} {e : Env} {R : Room} {s : State} {m : MethodId} {args : Array Value} {below : List Frame} {meth : Method} {c : Code} {Q : State → Prop} {E : PEw} {h0 h : HP} {H : Heap} {locs : List Loc} (C : PC E p s m args meth c RJ15 cJ15_init 1 none "<init>") (hr : 1 ≤ R.frames ∧ 20 ≤ R.locals ∧ RBw R h0) {x0 : Nat} {res : Unit} (hf : f_J15_init h x0 = some res) (hz : ZP E s h0 h H locs) {ls : Array Slot} (hl : lv_has ls 1 [(0, .ref x0)]) (hk : KP E below args s Q h0 h none) : W p l e R s m args below meth c H locs (pX h - pX h0) (pS h - pS h0) Q (F0 m 0 ls []) := by
  unfold f_J15_init at hf
  have hx := C.1
  have hb := C.2.1
  refine lv_aload_n hx hb dJ15_init_0 rfl (lv_at hl 0 rfl) ?_
  refine zo_init C q902 ⟨Nat.le_trans (by decide) hr.1, Nat.le_trans (by decide) hr.2.1⟩ hl.1 (Nat.le_of_ble_eq_true rfl) dJ15_init_1 ?_
  obtain rfl := Option.some.inj hf
  exact zg_vret C hz hk dJ15_init_4

theorem met_J15_init (l : Launch) (E : PEw) {h : HP} {x0 : Nat} {res : Unit} (hf : f_J15_init h x0 = some res) : Met l yJ15_init (ws_ yJ15_init cJ15_init 1 none) (rmP h 1 20) (PP E h [.ref x0]) (QP E h h none) (pX h - pX h) (pS h - pS h) (eF E) := by
  refine Met.ofW (cc := cJ15_init) (maxL := 1) (ret := none) (by decide) rfl ?_
  intro p e s m args below meth c s₁ B hml hv
  obtain ⟨rfl, hP0⟩ := hv
  have hts := atoms_spec (ws := ws_ yJ15_init cJ15_init 1 none) B.pre
  have hts : ∀ w ∈ lw_all, w.before _ s = true := fun w h => hts w (List.mem_cons_of_mem _ h)
  have C : PC E p s m _ meth c RJ15 cJ15_init 1 none "<init>" := ⟨B.exec, B.bytes, B.returns, B.notSynchronized, hml, findClass_of_methodNamed B.named, hts, hP0.2, (name_of_methodNamed B.named B.method).1⟩
  have hz : ZP E s h h s.heap [] := ZG.start hP0.1
  have hl := lv_entry ([.ref x0]) (n := 1) (Nat.le_of_ble_eq_true rfl)
  rw [lg_entry_eq]
  generalize (lg_sl ([.ref x0]) ++ List.replicate (1 - (lg_sl ([.ref x0])).length) Slot.unset).toArray = ls at hl ⊢
  have hl : lv_has ls 1 [(0, .ref x0)] := hl
  refine W.cs (cells' := pX h - pX h) (slots' := pS h - pS h) (Nat.sub_self _).symm (Nat.sub_self _).symm ?_
  exact w_J15_init C ⟨Nat.le_refl _, Nat.le_refl _, RBw.rm⟩ hf hz hl rfl

theorem w_X7_init {p : Program} {l : Launch} {e : Env} {R : Room} {s : State} {m : MethodId} {args : Array Value} {below : List Frame} {meth : Method} {c : Code} {Q : State → Prop} {E : PEw} {h0 h : HP} {H : Heap} {locs : List Loc} (C : PC E p s m args meth c RX7 cX7_init 5 none "<init>") (hr : 2 ≤ R.frames ∧ 40 ≤ R.locals ∧ RBw R h0) {x0 : Nat} {x1 : Int} {x2 : Int} {x3 : Int} {x4 : Option Nat} {res : HP} (hf : f_X7_init h x0 x1 x2 x3 x4 = some res) (hz : ZP E s h0 h H locs) {ls : Array Slot} (hl : lv_has ls 5 [(0, .ref x0), (1, .int (zI x1)), (2, .int (zI x2)), (3, .int (zI x3)), (4, va_rf x4)]) (hk : KP E below args s Q h0 res none) : W p l e R s m args below meth c H locs (pX h - pX h0) (pS h - pS h0) Q (F0 m 0 ls []) := by
  unfold f_X7_init at hf
  have hx := C.1
  have hb := C.2.1
  refine lv_aload_n hx hb dX7_init_0 rfl (lv_at hl 0 rfl) ?_
  obtain ⟨y1, ey1, hf⟩ := bd_inv hf
  refine zg_callI gP C hz hr (n := 0) (rest := []) (met_J15_init l E ey1) q899 q900 q113 q901 (by decide +kernel) ⟨Nat.le_trans (by decide) hr.1, Nat.le_trans (by decide) hr.2.1⟩ rfl hl.1 rfl (Nat.le_of_ble_eq_true rfl) dX7_init_1 (fun H locs hz => ?_)
  refine lv_aload_n hx hb dX7_init_4 rfl (lv_at hl 0 rfl) ?_
  refine lv_iload_n hx hb dX7_init_5 rfl (lv_at hl 1 rfl) ?_
  obtain ⟨hg, hf⟩ := gd_inv hf
  obtain ⟨hv, hf⟩ := gd_inv hf
  obtain ⟨h2, eh2, hf⟩ := bnd_inv hf
  refine zg_putcF gP C hz 6 0 (gkp (by decide) hg) (by decide) (by decide) rfl (by decide) hv (C.w q903) (fun _ h => h) dX7_init_6 eh2 (fun H locs hz => ?_)
  refine lv_aload_n hx hb dX7_init_9 rfl (lv_at hl 0 rfl) ?_
  refine lv_iload_n hx hb dX7_init_10 rfl (lv_at hl 2 rfl) ?_
  obtain ⟨hg, hf⟩ := gd_inv hf
  obtain ⟨h3, eh3, hf⟩ := bnd_inv hf
  refine zg_putiF gP C hz 6 1 (gkp (by decide) hg) (by decide) (by decide) rfl (by decide) (C.w q904) (fun _ h => h) dX7_init_11 eh3 (fun H locs hz => ?_)
  refine lv_aload_n hx hb dX7_init_14 rfl (lv_at hl 0 rfl) ?_
  refine lv_iload_n hx hb dX7_init_15 rfl (lv_at hl 3 rfl) ?_
  obtain ⟨hg, hf⟩ := gd_inv hf
  obtain ⟨hv, hf⟩ := gd_inv hf
  obtain ⟨h4, eh4, hf⟩ := bnd_inv hf
  refine zg_putbF gP C hz 6 2 (gkp (by decide) hg) (by decide) (by decide) rfl (by decide) hv (C.w q905) (fun _ h => h) dX7_init_16 eh4 (fun H locs hz => ?_)
  refine lv_aload_n hx hb dX7_init_19 rfl (lv_at hl 0 rfl) ?_
  refine zl_aload_o hx hb dX7_init_20 (lv_at hl 4 rfl) ?_
  obtain ⟨hg, hf⟩ := gd_inv hf
  obtain ⟨h5, eh5, hf⟩ := bnd_inv hf
  refine zg_putpF gP C hz 6 3 (gkp (by decide) hg) (by decide) (by decide) (Or.inl ⟨_, rfl⟩) (by decide) (C.w q907) (fun _ h => h) dX7_init_22 eh5 (fun H locs hz => ?_)
  obtain rfl := Option.some.inj hf
  exact zg_vret C hz hk dX7_init_25

theorem met_X7_init (l : Launch) (E : PEw) {h : HP} {x0 : Nat} {x1 : Int} {x2 : Int} {x3 : Int} {x4 : Option Nat} {res : HP} (hf : f_X7_init h x0 x1 x2 x3 x4 = some res) : Met l yX7_init (ws_ yX7_init cX7_init 5 none) (rmP h 2 40) (PP E h [.ref x0, .int (zI x1), .int (zI x2), .int (zI x3), va_rf x4]) (QP E h res none) (pX res - pX h) (pS res - pS h) (eF E) := by
  refine Met.ofW (cc := cX7_init) (maxL := 5) (ret := none) (by decide) rfl ?_
  intro p e s m args below meth c s₁ B hml hv
  obtain ⟨rfl, hP0⟩ := hv
  have hts := atoms_spec (ws := ws_ yX7_init cX7_init 5 none) B.pre
  have hts : ∀ w ∈ lw_all, w.before _ s = true := fun w h => hts w (List.mem_cons_of_mem _ h)
  have C : PC E p s m _ meth c RX7 cX7_init 5 none "<init>" := ⟨B.exec, B.bytes, B.returns, B.notSynchronized, hml, findClass_of_methodNamed B.named, hts, hP0.2, (name_of_methodNamed B.named B.method).1⟩
  have hz : ZP E s h h s.heap [] := ZG.start hP0.1
  rcases x4 with _ | av
  · have hl := lv_entry ([.ref x0, .int (zI x1), .int (zI x2), .int (zI x3), va_rf none]) (n := 5) (Nat.le_of_ble_eq_true rfl)
    rw [lg_entry_eq]
    generalize (lg_sl ([.ref x0, .int (zI x1), .int (zI x2), .int (zI x3), va_rf none]) ++ List.replicate (5 - (lg_sl ([.ref x0, .int (zI x1), .int (zI x2), .int (zI x3), va_rf none])).length) Slot.unset).toArray = ls at hl ⊢
    have hl : lv_has ls 5 [(0, .ref x0), (1, .int (zI x1)), (2, .int (zI x2)), (3, .int (zI x3)), (4, va_rf none)] := hl
    refine W.cs (cells' := pX h - pX h) (slots' := pS h - pS h) (Nat.sub_self _).symm (Nat.sub_self _).symm ?_
    exact w_X7_init C ⟨Nat.le_refl _, Nat.le_refl _, RBw.rm⟩ hf hz hl rfl
  · have hl := lv_entry ([.ref x0, .int (zI x1), .int (zI x2), .int (zI x3), va_rf (some av)]) (n := 5) (Nat.le_of_ble_eq_true rfl)
    rw [lg_entry_eq]
    generalize (lg_sl ([.ref x0, .int (zI x1), .int (zI x2), .int (zI x3), va_rf (some av)]) ++ List.replicate (5 - (lg_sl ([.ref x0, .int (zI x1), .int (zI x2), .int (zI x3), va_rf (some av)])).length) Slot.unset).toArray = ls at hl ⊢
    have hl : lv_has ls 5 [(0, .ref x0), (1, .int (zI x1)), (2, .int (zI x2)), (3, .int (zI x3)), (4, va_rf (some av))] := hl
    refine W.cs (cells' := pX h - pX h) (slots' := pS h - pS h) (Nat.sub_self _).symm (Nat.sub_self _).symm ?_
    exact w_X7_init C ⟨Nat.le_refl _, Nat.le_refl _, RBw.rm⟩ hf hz hl rfl

theorem w_X0_read_193 {p : Program} {l : Launch} {e : Env} {R : Room} {s : State} {m : MethodId} {args : Array Value} {below : List Frame} {meth : Method} {c : Code} {Q : State → Prop} {E : PEw} {h0 h : HP} {H : Heap} {locs : List Loc} (C : PC E p s m args meth c RX0 cX0_read 9 (some (.object "PlainPage$Part")) "read") (hr : 5 ≤ R.frames ∧ 110 ≤ R.locals ∧ RBw R h0) {x0 : Nat} {x1 : Nat} {x2 : Int} {x4 : Int} {t0 : Int} {res : (HP × (Option Nat) × Int × Int × Int) ⊕ (HP × Option Nat)} (hf : f_X0_read_193 h x0 x1 x2 x4 t0 = some res) (hz : ZP E s h0 h H locs) {ls : Array Slot} (hl : lv_has ls 9 [(0, .ref x0), (1, .ref x1), (2, .int (zI x2)), (4, .int (zI x4))]) (hk : (Sum.elim (fun z => ∀ (H : Heap) (locs : List Loc) (ls : Array Slot), ZP E s h0 z.1 H locs → lv_has ls 9 [(0, .ref x0), (1, va_rf z.2.1), (2, .int (zI z.2.2.1)), (3, .int (zI z.2.2.2.1)), (4, .int (zI z.2.2.2.2))] → W p l e R s m args below meth c H locs (pX z.1 - pX h0) (pS z.1 - pS h0) Q (F0 m 13 ls [])) (fun r => KP E below args s Q h0 r.1 (some (va_rf r.2)))) res) : W p l e R s m args below meth c H locs (pX h - pX h0) (pS h - pS h0) Q (F0 m 193 ls [.int (zI t0)]) := by
  unfold f_X0_read_193 at hf
  have hx := C.1
  have hb := C.2.1
  refine lv_istore_n (lv' := [(3, .int (zI t0)), (0, .ref x0), (1, .ref x1), (2, .int (zI x2)), (4, .int (zI x4))]) hx hb dX0_read_193 rfl hl (by decide) rfl (fun ls hl => ?_)
  refine zl_iinc (x := x4) (n := 1) (lv' := [(4, .int (zI (x4 + 1))), (3, .int (zI t0)), (0, .ref x0), (1, .ref x1), (2, .int (zI x2))]) (k := 4) hx hb dX0_read_194 hl rfl (by decide) rfl (fun ls hl => ?_)
  refine lv_goto (tgt := 13) hx hb dX0_read_197 (by decide) ?_
  obtain rfl := Option.some.inj hf
  exact hk _ _ _ hz (lv_sub hl [2, 3, 4, 1, 0] rfl)

theorem w_X0_read_176 {p : Program} {l : Launch} {e : Env} {R : Room} {s : State} {m : MethodId} {args : Array Value} {below : List Frame} {meth : Method} {c : Code} {Q : State → Prop} {E : PEw} {h0 h : HP} {H : Heap} {locs : List Loc} (C : PC E p s m args meth c RX0 cX0_read 9 (some (.object "PlainPage$Part")) "read") (hr : 5 ≤ R.frames ∧ 110 ≤ R.locals ∧ RBw R h0) {x0 : Nat} {x1 : Nat} {x2 : Int} {x4 : Int} {x8 : Int} {res : (HP × (Option Nat) × Int × Int × Int) ⊕ (HP × Option Nat)} (hf : f_X0_read_176 h x0 x1 x2 x4 x8 = some res) (hz : ZP E s h0 h H locs) {ls : Array Slot} (hl : lv_has ls 9 [(0, .ref x0), (1, .ref x1), (2, .int (zI x2)), (4, .int (zI x4)), (8, .int (zI x8))]) (hk : (Sum.elim (fun z => ∀ (H : Heap) (locs : List Loc) (ls : Array Slot), ZP E s h0 z.1 H locs → lv_has ls 9 [(0, .ref x0), (1, va_rf z.2.1), (2, .int (zI z.2.2.1)), (3, .int (zI z.2.2.2.1)), (4, .int (zI z.2.2.2.2))] → W p l e R s m args below meth c H locs (pX z.1 - pX h0) (pS z.1 - pS h0) Q (F0 m 13 ls [])) (fun r => KP E below args s Q h0 r.1 (some (va_rf r.2)))) res) : W p l e R s m args below meth c H locs (pX h - pX h0) (pS h - pS h0) Q (F0 m 176 ls []) := by
  unfold f_X0_read_176 at hf
  have hx := C.1
  have hb := C.2.1
  refine lv_iload_n hx hb dX0_read_176 rfl (lv_at hl 2 rfl) ?_
  refine zl_if_eq (tgt := 191) hx hb dX0_read_177 (by decide) (fun hc => ?_) (fun hc => ?_)
  · rw [if_pos hc] at hf
    refine lv_iload hx hb dX0_read_191 (lv_at hl 4 rfl) ?_
    exact w_X0_read_193 C hr hf hz (lv_sub hl [0, 1, 2, 3] rfl) hk
  · rw [if_neg hc] at hf
    refine lv_aload_n hx hb dX0_read_180 rfl (lv_at hl 0 rfl) ?_
    refine lv_iload hx hb dX0_read_181 (lv_at hl 4 rfl) ?_
    refine zl_iconst hx hb dX0_read_183 ?_
    refine zl_iadd hx hb dX0_read_184 ?_
    obtain ⟨y1, ey1, hf⟩ := bd_inv hf
    refine zg_callS gP C hz hr (n := 2) (rest := []) (met_X0_afterBlanks l E ey1) q880 q881 q89 q882 (by decide +kernel) ⟨Nat.le_trans (by decide) hr.1, Nat.le_trans (by decide) hr.2.1⟩ rfl hl.1 rfl (Nat.le_of_ble_eq_true rfl) dX0_read_185 (fun H locs hz => ?_)
    refine lv_goto (tgt := 193) hx hb dX0_read_188 (by decide) ?_
    exact w_X0_read_193 C hr hf hz (lv_sub hl [0, 1, 2, 3] rfl) hk

theorem w_X0_read_163 {p : Program} {l : Launch} {e : Env} {R : Room} {s : State} {m : MethodId} {args : Array Value} {below : List Frame} {meth : Method} {c : Code} {Q : State → Prop} {E : PEw} {h0 h : HP} {H : Heap} {locs : List Loc} (C : PC E p s m args meth c RX0 cX0_read 9 (some (.object "PlainPage$Part")) "read") (hr : 5 ≤ R.frames ∧ 110 ≤ R.locals ∧ RBw R h0) {x0 : Nat} {x1 : Nat} {x3 : Int} {x4 : Int} {x8 : Int} {t0 : Int} {res : (HP × (Option Nat) × Int × Int × Int) ⊕ (HP × Option Nat)} (hf : f_X0_read_163 h x0 x1 x3 x4 x8 t0 = some res) (hz : ZP E s h0 h H locs) {ls : Array Slot} (hl : lv_has ls 9 [(0, .ref x0), (1, .ref x1), (3, .int (zI x3)), (4, .int (zI x4)), (8, .int (zI x8))]) (hk : (Sum.elim (fun z => ∀ (H : Heap) (locs : List Loc) (ls : Array Slot), ZP E s h0 z.1 H locs → lv_has ls 9 [(0, .ref x0), (1, va_rf z.2.1), (2, .int (zI z.2.2.1)), (3, .int (zI z.2.2.2.1)), (4, .int (zI z.2.2.2.2))] → W p l e R s m args below meth c H locs (pX z.1 - pX h0) (pS z.1 - pS h0) Q (F0 m 13 ls [])) (fun r => KP E below args s Q h0 r.1 (some (va_rf r.2)))) res) : W p l e R s m args below meth c H locs (pX h - pX h0) (pS h - pS h0) Q (F0 m 163 ls [.int (zI t0)]) := by
  unfold f_X0_read_163 at hf
  have hx := C.1
  have hb := C.2.1
  refine lv_istore_n (lv' := [(2, .int (zI t0)), (0, .ref x0), (1, .ref x1), (3, .int (zI x3)), (4, .int (zI x4)), (8, .int (zI x8))]) hx hb dX0_read_163 rfl hl (by decide) rfl (fun ls hl => ?_)
  refine lv_iload_n hx hb dX0_read_164 rfl (lv_at hl 0 rfl) ?_
  refine zl_if_ne (tgt := 176) hx hb dX0_read_165 (by decide) (fun hc => ?_) (fun hc => ?_)
  · rw [if_pos hc] at hf
    refine lv_iload hx hb dX0_read_168 (lv_at hl 5 rfl) ?_
    refine lv_iload_n hx hb dX0_read_170 rfl (lv_at hl 3 rfl) ?_
    refine zl_icmp_ne (tgt := 176) hx hb dX0_read_171 (by decide) (fun hc => ?_) (fun hc => ?_)
    · rw [if_pos hc] at hf
      refine lv_null hx hb dX0_read_174 ?_
      obtain rfl := Option.some.inj hf
      exact zg_aret_o C hz hk dX0_read_175
    · rw [if_neg hc] at hf
      exact w_X0_read_176 C hr hf hz (lv_sub hl [1, 2, 0, 4, 5] rfl) hk
  · rw [if_neg hc] at hf
    exact w_X0_read_176 C hr hf hz (lv_sub hl [1, 2, 0, 4, 5] rfl) hk

theorem w_X0_read_107 {p : Program} {l : Launch} {e : Env} {R : Room} {s : State} {m : MethodId} {args : Array Value} {below : List Frame} {meth : Method} {c : Code} {Q : State → Prop} {E : PEw} {h0 h : HP} {H : Heap} {locs : List Loc} (C : PC E p s m args meth c RX0 cX0_read 9 (some (.object "PlainPage$Part")) "read") (hr : 5 ≤ R.frames ∧ 110 ≤ R.locals ∧ RBw R h0) {x0 : Nat} {x1 : Option Nat} {x2 : Int} {x3 : Int} {x4 : Int} {x5 : Int} {x6 : Int} {x7 : Int} {res : (HP × (Option Nat) × Int × Int × Int) ⊕ (HP × Option Nat)} (hf : f_X0_read_107 h x0 x1 x2 x3 x4 x5 x6 x7 = some res) (hz : ZP E s h0 h H locs) {ls : Array Slot} (hl : lv_has ls 9 [(0, .ref x0), (1, va_rf x1), (2, .int (zI x2)), (3, .int (zI x3)), (4, .int (zI x4)), (5, .int (zI x5)), (6, .int (zI x6)), (7, .int (zI x7))]) (hk : (Sum.elim (fun z => ∀ (H : Heap) (locs : List Loc) (ls : Array Slot), ZP E s h0 z.1 H locs → lv_has ls 9 [(0, .ref x0), (1, va_rf z.2.1), (2, .int (zI z.2.2.1)), (3, .int (zI z.2.2.2.1)), (4, .int (zI z.2.2.2.2))] → W p l e R s m args below meth c H locs (pX z.1 - pX h0) (pS z.1 - pS h0) Q (F0 m 13 ls [])) (fun r => KP E below args s Q h0 r.1 (some (va_rf r.2)))) res) : W p l e R s m args below meth c H locs (pX h - pX h0) (pS h - pS h0) Q (F0 m 107 ls []) := by
  unfold f_X0_read_107 at hf
  have hx := C.1
  have hb := C.2.1
  refine lv_iload_n hx hb dX0_read_107 rfl (lv_at hl 3 rfl) ?_
  refine lv_iload hx hb dX0_read_108 (lv_at hl 5 rfl) ?_
  refine zl_icmp_ne (tgt := 115) hx hb dX0_read_110 (by decide) (fun hc => ?_) (fun hc => ?_)
  · rw [if_pos hc] at hf
    refine lv_null hx hb dX0_read_113 ?_
    obtain rfl := Option.some.inj hf
    exact zg_aret_o C hz hk dX0_read_114
  · rw [if_neg hc] at hf
    obtain ⟨a1, ea1, hf⟩ := bnd_inv hf
    obtain ⟨hg, hf⟩ := gd_inv hf
    obtain ⟨h2, eh2, hf⟩ := bnd_inv hf
    refine zg_new gP C hz hr 6 (by decide) hg q894 q895 q114 dX0_read_115 ea1 eh2 (fun H hz => ?_)
    refine lv_dup hx hb dX0_read_118 rfl ?_
    refine lv_iload hx hb dX0_read_119 (lv_at hl 6 rfl) ?_
    refine lv_iload hx hb dX0_read_121 (lv_at hl 7 rfl) ?_
    refine lv_iload_n hx hb dX0_read_123 rfl (lv_at hl 2 rfl) ?_
    refine zl_aload_n_o hx hb dX0_read_124 rfl (lv_at hl 1 rfl) ?_
    obtain ⟨y3, ey3, hf⟩ := bd_inv hf
    refine zg_callIN gP C hz hr (n := 4) (rest := [.ref a1]) (met_X7_init l E ey3) q896 q897 q114 q898 (by decide +kernel) ⟨Nat.le_trans (by decide) hr.1, Nat.le_trans (by decide) hr.2.1⟩ rfl hl.1 rfl (Nat.le_of_ble_eq_true rfl) dX0_read_125 (fun H locs hz => ?_)
    refine lv_astore_n (lv' := [(1, .ref a1), (0, .ref x0), (2, .int (zI x2)), (3, .int (zI x3)), (4, .int (zI x4)), (5, .int (zI x5)), (6, .int (zI x6)), (7, .int (zI x7))]) hx hb dX0_read_128 rfl hl (by decide) rfl (fun ls hl => ?_)
    refine lv_aload_n hx hb dX0_read_129 rfl (lv_at hl 1 rfl) ?_
    refine lv_iload_n hx hb dX0_read_130 rfl (lv_at hl 3 rfl) ?_
    obtain ⟨y4, ey4, hf⟩ := bd_inv hf
    refine zg_callS gP C hz hr (n := 2) (rest := []) (met_X0_afterBlanks l E ey4) q880 q881 q89 q882 (by decide +kernel) ⟨Nat.le_trans (by decide) hr.1, Nat.le_trans (by decide) hr.2.1⟩ rfl hl.1 rfl (Nat.le_of_ble_eq_true rfl) dX0_read_131 (fun H locs hz => ?_)
    refine lv_istore (lv' := [(8, .int (zI y4)), (1, .ref a1), (0, .ref x0), (2, .int (zI x2)), (3, .int (zI x3)), (4, .int (zI x4)), (5, .int (zI x5)), (6, .int (zI x6)), (7, .int (zI x7))]) hx hb dX0_read_134 hl (by decide) rfl (fun ls hl => ?_)
    refine lv_iload hx hb dX0_read_136 (lv_at hl 0 rfl) ?_
    refine lv_aload_n hx hb dX0_read_138 rfl (lv_at hl 2 rfl) ?_
    obtain ⟨y5, ey5, hf⟩ := bd_inv hf
    refine zj_sLen C hz hr ey5 (rest := [.int (zI y4)]) q883 q753 (C.w q754) q99 q755 hl.1 ⟨Nat.le_trans (by decide) hr.1, Nat.le_trans (by decide) hr.2.1⟩ (Nat.le_of_ble_eq_true rfl) dX0_read_139 (fun H locs hz => ?_)
    refine zl_icmp_ne (tgt := 147) hx hb dX0_read_142 (by decide) (fun hc => ?_) (fun hc => ?_)
    · rw [if_pos hc] at hf
      refine lv_aload_n hx hb dX0_read_145 rfl (lv_at hl 1 rfl) ?_
      obtain rfl := Option.some.inj hf
      exact zg_aret_o C hz hk dX0_read_146
    · rw [if_neg hc] at hf
      refine lv_aload_n hx hb dX0_read_147 rfl (lv_at hl 2 rfl) ?_
      refine lv_iload hx hb dX0_read_148 (lv_at hl 0 rfl) ?_
      obtain ⟨y6, ey6, hf⟩ := bd_inv hf
      refine zj_sAt C hz hr ey6 (rest := []) q884 q885 (C.w q886) q99 q887 hl.1 ⟨Nat.le_trans (by decide) hr.1, Nat.le_trans (by decide) hr.2.1⟩ (Nat.le_of_ble_eq_true rfl) dX0_read_150 (fun H locs hz => ?_)
      refine zl_bipush hx hb dX0_read_153 (by decide) ?_
      refine zl_icmp_ne (tgt := 162) hx hb dX0_read_155 (by decide) (fun hc => ?_) (fun hc => ?_)
      · rw [if_pos hc] at hf
        refine zl_iconst hx hb dX0_read_158 ?_
        refine lv_goto (tgt := 163) hx hb dX0_read_159 (by decide) ?_
        exact w_X0_read_163 C hr hf hz (lv_sub hl [2, 1, 4, 5, 0] rfl) hk
      · rw [if_neg hc] at hf
        refine zl_iconst hx hb dX0_read_162 ?_
        exact w_X0_read_163 C hr hf hz (lv_sub hl [2, 1, 4, 5, 0] rfl) hk

theorem w_X0_read_67s {p : Program} {l : Launch} {e : Env} {R : Room} {s : State} {m : MethodId} {args : Array Value} {below : List Frame} {meth : Method} {c : Code} {Q : State → Prop} {E : PEw} {h0 h : HP} {H : Heap} {locs : List Loc} (C : PC E p s m args meth c RX0 cX0_read 9 (some (.object "PlainPage$Part")) "read") (hr : 5 ≤ R.frames ∧ 110 ≤ R.locals ∧ RBw R h0) {x0 : Nat} {x1 : Option Nat} {x2 : Int} {x3 : Int} {x4 : Int} {x5 : Int} {x6 : Int} {x7 : Int} {res : (Int × Int) ⊕ ((HP × (Option Nat) × Int × Int × Int) ⊕ (HP × Option Nat))} (hf : f_X0_read_67s h x0 x1 x2 x3 x4 x5 x6 x7 = some res) (hz : ZP E s h0 h H locs) {ls : Array Slot} (hl : lv_has ls 9 [(0, .ref x0), (1, va_rf x1), (2, .int (zI x2)), (3, .int (zI x3)), (4, .int (zI x4)), (5, .int (zI x5)), (6, .int (zI x6)), (7, .int (zI x7))]) (hk : (Sum.elim (fun z => ∀ (H : Heap) (locs : List Loc) (ls : Array Slot), ZP E s h0 h H locs → lv_has ls 9 [(0, .ref x0), (1, va_rf x1), (2, .int (zI x2)), (3, .int (zI z.1)), (4, .int (zI x4)), (5, .int (zI x5)), (6, .int (zI x6)), (7, .int (zI z.2))] → W p l e R s m args below meth c H locs (pX h - pX h0) (pS h - pS h0) Q (F0 m 67 ls [])) (Sum.elim (fun z => ∀ (H : Heap) (locs : List Loc) (ls : Array Slot), ZP E s h0 z.1 H locs → lv_has ls 9 [(0, .ref x0), (1, va_rf z.2.1), (2, .int (zI z.2.2.1)), (3, .int (zI z.2.2.2.1)), (4, .int (zI z.2.2.2.2))] → W p l e R s m args below meth c H locs (pX z.1 - pX h0) (pS z.1 - pS h0) Q (F0 m 13 ls [])) (fun r => KP E below args s Q h0 r.1 (some (va_rf r.2))))) res) : W p l e R s m args below meth c H locs (pX h - pX h0) (pS h - pS h0) Q (F0 m 67 ls []) := by
  unfold f_X0_read_67s at hf
  have hx := C.1
  have hb := C.2.1
  refine lv_iload_n hx hb dX0_read_67 rfl (lv_at hl 3 rfl) ?_
  refine lv_aload_n hx hb dX0_read_68 rfl (lv_at hl 0 rfl) ?_
  obtain ⟨y1, ey1, hf⟩ := bd_inv hf
  refine zj_sLen C hz hr ey1 (rest := [.int (zI x3)]) q883 q753 (C.w q754) q99 q755 hl.1 ⟨Nat.le_trans (by decide) hr.1, Nat.le_trans (by decide) hr.2.1⟩ (Nat.le_of_ble_eq_true rfl) dX0_read_69 (fun H locs hz => ?_)
  refine zl_icmp_ge (tgt := 107) hx hb dX0_read_72 (by decide) (fun hc => ?_) (fun hc => ?_)
  · rw [if_pos hc] at hf
    refine lv_aload_n hx hb dX0_read_75 rfl (lv_at hl 0 rfl) ?_
    refine lv_iload_n hx hb dX0_read_76 rfl (lv_at hl 3 rfl) ?_
    obtain ⟨y2, ey2, hf⟩ := bd_inv hf
    refine zj_sAt C hz hr ey2 (rest := []) q884 q885 (C.w q886) q99 q887 hl.1 ⟨Nat.le_trans (by decide) hr.1, Nat.le_trans (by decide) hr.2.1⟩ (Nat.le_of_ble_eq_true rfl) dX0_read_77 (fun H locs hz => ?_)
    obtain ⟨y3, ey3, hf⟩ := bd_inv hf
    refine zg_callS gP C hz hr (n := 1) (rest := []) (met_X0_capital l E ey3) q807 q808 q89 q809 (by decide +kernel) ⟨Nat.le_trans (by decide) hr.1, Nat.le_trans (by decide) hr.2.1⟩ rfl hl.1 rfl (Nat.le_of_ble_eq_true rfl) dX0_read_80 (fun H locs hz => ?_)
    refine zl_if_eq (tgt := 107) hx hb dX0_read_83 (by decide) (fun hc => ?_) (fun hc => ?_)
    · rw [if_pos hc] at hf
      obtain ⟨r0, hm0, rfl⟩ := mr_inv hf
      exact w_X0_read_107 C hr hm0 hz (lv_sub hl [0, 1, 2, 3, 4, 5, 6, 7] rfl) hk
    · rw [if_neg hc] at hf
      refine lv_iload hx hb dX0_read_86 (lv_at hl 7 rfl) ?_
      refine zl_iconst hx hb dX0_read_88 ?_
      refine lv_aload_n hx hb dX0_read_89 rfl (lv_at hl 0 rfl) ?_
      refine lv_iload_n hx hb dX0_read_90 rfl (lv_at hl 3 rfl) ?_
      refine zl_iinc (x := x3) (n := 1) (lv' := [(3, .int (zI (x3 + 1))), (0, .ref x0), (1, va_rf x1), (2, .int (zI x2)), (4, .int (zI x4)), (5, .int (zI x5)), (6, .int (zI x6)), (7, .int (zI x7))]) (k := 3) hx hb dX0_read_91 hl rfl (by decide) rfl (fun ls hl => ?_)
      obtain ⟨y4, ey4, hf⟩ := bd_inv hf
      refine zj_sAt C hz hr ey4 (rest := [.int (zI 1), .int (zI x7)]) q884 q885 (C.w q886) q99 q887 hl.1 ⟨Nat.le_trans (by decide) hr.1, Nat.le_trans (by decide) hr.2.1⟩ (Nat.le_of_ble_eq_true rfl) dX0_read_94 (fun H locs hz => ?_)
      refine zl_bipush hx hb dX0_read_97 (by decide) ?_
      refine zl_isub hx hb dX0_read_99 ?_
      refine zl_ishl hx hb dX0_read_100 ?_
      refine zl_ior hx hb dX0_read_101 ?_
      obtain ⟨y5, ey5, hf⟩ := bnd_inv hf
      refine zl_topi ey5 ?_
      refine lv_istore (lv' := [(7, .int (zI y5)), (3, .int (zI (x3 + 1))), (0, .ref x0), (1, va_rf x1), (2, .int (zI x2)), (4, .int (zI x4)), (5, .int (zI x5)), (6, .int (zI x6))]) hx hb dX0_read_102 hl (by decide) rfl (fun ls hl => ?_)
      refine lv_goto (tgt := 67) hx hb dX0_read_104 (by decide) ?_
      obtain rfl := Option.some.inj hf
      exact hk _ _ _ hz (lv_sub hl [2, 3, 4, 1, 5, 6, 7, 0] rfl)
  · rw [if_neg hc] at hf
    obtain ⟨r0, hm0, rfl⟩ := mr_inv hf
    exact w_X0_read_107 C hr hm0 hz (lv_sub hl [0, 1, 2, 3, 4, 5, 6, 7] rfl) hk

theorem w_X0_read_67 {p : Program} {l : Launch} {e : Env} {R : Room} {s : State} {m : MethodId} {args : Array Value} {below : List Frame} {meth : Method} {c : Code} {Q : State → Prop} {E : PEw} {h0 h : HP} {H : Heap} {locs : List Loc} (C : PC E p s m args meth c RX0 cX0_read 9 (some (.object "PlainPage$Part")) "read") (hr : 5 ≤ R.frames ∧ 110 ≤ R.locals ∧ RBw R h0) {x0 : Nat} {x1 : Option Nat} {x2 : Int} {x3 : Int} {x4 : Int} {x5 : Int} {x6 : Int} {x7 : Int} {res : (HP × (Option Nat) × Int × Int × Int) ⊕ (HP × Option Nat)} (hf : f_X0_read_67 h x0 x1 x2 x3 x4 x5 x6 x7 = some res) (hz : ZP E s h0 h H locs) {ls : Array Slot} (hl : lv_has ls 9 [(0, .ref x0), (1, va_rf x1), (2, .int (zI x2)), (3, .int (zI x3)), (4, .int (zI x4)), (5, .int (zI x5)), (6, .int (zI x6)), (7, .int (zI x7))]) (hk : (Sum.elim (fun z => ∀ (H : Heap) (locs : List Loc) (ls : Array Slot), ZP E s h0 z.1 H locs → lv_has ls 9 [(0, .ref x0), (1, va_rf z.2.1), (2, .int (zI z.2.2.1)), (3, .int (zI z.2.2.2.1)), (4, .int (zI z.2.2.2.2))] → W p l e R s m args below meth c H locs (pX z.1 - pX h0) (pS z.1 - pS h0) Q (F0 m 13 ls [])) (fun r => KP E below args s Q h0 r.1 (some (va_rf r.2)))) res) : W p l e R s m args below meth c H locs (pX h - pX h0) (pS h - pS h0) Q (F0 m 67 ls []) := by
  unfold f_X0_read_67 at hf
  refine iter_ind (P := fun z r => ∀ (H : Heap) (locs : List Loc) (ls : Array Slot), ZP E s h0 h H locs → lv_has ls 9 [(0, .ref x0), (1, va_rf x1), (2, .int (zI x2)), (3, .int (zI z.1)), (4, .int (zI x4)), (5, .int (zI x5)), (6, .int (zI x6)), (7, .int (zI z.2))] → (Sum.elim (fun z => ∀ (H : Heap) (locs : List Loc) (ls : Array Slot), ZP E s h0 z.1 H locs → lv_has ls 9 [(0, .ref x0), (1, va_rf z.2.1), (2, .int (zI z.2.2.1)), (3, .int (zI z.2.2.2.1)), (4, .int (zI z.2.2.2.2))] → W p l e R s m args below meth c H locs (pX z.1 - pX h0) (pS z.1 - pS h0) Q (F0 m 13 ls [])) (fun r => KP E below args s Q h0 r.1 (some (va_rf r.2)))) r → W p l e R s m args below meth c H locs (pX h - pX h0) (pS h - pS h0) Q (F0 m 67 ls [])) ?_ ?_ hf H locs ls hz hl hk
  · intro z r h1 H locs ls hz hl hk; exact w_X0_read_67s C hr h1 hz hl hk
  · intro z z1 r h1 ih H locs ls hz hl hk; exact w_X0_read_67s C hr h1 hz hl (fun H locs ls hz hl => ih H locs ls hz hl hk)

theorem w_X0_read_64 {p : Program} {l : Launch} {e : Env} {R : Room} {s : State} {m : MethodId} {args : Array Value} {below : List Frame} {meth : Method} {c : Code} {Q : State → Prop} {E : PEw} {h0 h : HP} {H : Heap} {locs : List Loc} (C : PC E p s m args meth c RX0 cX0_read 9 (some (.object "PlainPage$Part")) "read") (hr : 5 ≤ R.frames ∧ 110 ≤ R.locals ∧ RBw R h0) {x0 : Nat} {x1 : Option Nat} {x2 : Int} {x3 : Int} {x4 : Int} {x5 : Int} {x6 : Int} {res : (HP × (Option Nat) × Int × Int × Int) ⊕ (HP × Option Nat)} (hf : f_X0_read_64 h x0 x1 x2 x3 x4 x5 x6 = some res) (hz : ZP E s h0 h H locs) {ls : Array Slot} (hl : lv_has ls 9 [(0, .ref x0), (1, va_rf x1), (2, .int (zI x2)), (3, .int (zI x3)), (4, .int (zI x4)), (5, .int (zI x5)), (6, .int (zI x6))]) (hk : (Sum.elim (fun z => ∀ (H : Heap) (locs : List Loc) (ls : Array Slot), ZP E s h0 z.1 H locs → lv_has ls 9 [(0, .ref x0), (1, va_rf z.2.1), (2, .int (zI z.2.2.1)), (3, .int (zI z.2.2.2.1)), (4, .int (zI z.2.2.2.2))] → W p l e R s m args below meth c H locs (pX z.1 - pX h0) (pS z.1 - pS h0) Q (F0 m 13 ls [])) (fun r => KP E below args s Q h0 r.1 (some (va_rf r.2)))) res) : W p l e R s m args below meth c H locs (pX h - pX h0) (pS h - pS h0) Q (F0 m 64 ls []) := by
  unfold f_X0_read_64 at hf
  have hx := C.1
  have hb := C.2.1
  refine zl_iconst hx hb dX0_read_64 ?_
  refine lv_istore (lv' := [(7, .int (zI 0)), (0, .ref x0), (1, va_rf x1), (2, .int (zI x2)), (3, .int (zI x3)), (4, .int (zI x4)), (5, .int (zI x5)), (6, .int (zI x6))]) hx hb dX0_read_65 hl (by decide) rfl (fun ls hl => ?_)
  exact w_X0_read_67 C hr hf hz (lv_sub hl [1, 2, 3, 4, 5, 6, 7, 0] rfl) hk

theorem w_X0_read_54 {p : Program} {l : Launch} {e : Env} {R : Room} {s : State} {m : MethodId} {args : Array Value} {below : List Frame} {meth : Method} {c : Code} {Q : State → Prop} {E : PEw} {h0 h : HP} {H : Heap} {locs : List Loc} (C : PC E p s m args meth c RX0 cX0_read 9 (some (.object "PlainPage$Part")) "read") (hr : 5 ≤ R.frames ∧ 110 ≤ R.locals ∧ RBw R h0) {x0 : Nat} {x1 : Option Nat} {x2 : Int} {x3 : Int} {x4 : Int} {x5 : Int} {res : (HP × (Option Nat) × Int × Int × Int) ⊕ (HP × Option Nat)} (hf : f_X0_read_54 h x0 x1 x2 x3 x4 x5 = some res) (hz : ZP E s h0 h H locs) {ls : Array Slot} (hl : lv_has ls 9 [(0, .ref x0), (1, va_rf x1), (2, .int (zI x2)), (3, .int (zI x3)), (4, .int (zI x4)), (5, .int (zI x5))]) (hk : (Sum.elim (fun z => ∀ (H : Heap) (locs : List Loc) (ls : Array Slot), ZP E s h0 z.1 H locs → lv_has ls 9 [(0, .ref x0), (1, va_rf z.2.1), (2, .int (zI z.2.2.1)), (3, .int (zI z.2.2.2.1)), (4, .int (zI z.2.2.2.2))] → W p l e R s m args below meth c H locs (pX z.1 - pX h0) (pS z.1 - pS h0) Q (F0 m 13 ls [])) (fun r => KP E below args s Q h0 r.1 (some (va_rf r.2)))) res) : W p l e R s m args below meth c H locs (pX h - pX h0) (pS h - pS h0) Q (F0 m 54 ls []) := by
  unfold f_X0_read_54 at hf
  have hx := C.1
  have hb := C.2.1
  refine lv_aload_n hx hb dX0_read_54 rfl (lv_at hl 0 rfl) ?_
  refine lv_iload_n hx hb dX0_read_55 rfl (lv_at hl 3 rfl) ?_
  refine zl_iinc (x := x3) (n := 1) (lv' := [(3, .int (zI (x3 + 1))), (0, .ref x0), (1, va_rf x1), (2, .int (zI x2)), (4, .int (zI x4)), (5, .int (zI x5))]) (k := 3) hx hb dX0_read_56 hl rfl (by decide) rfl (fun ls hl => ?_)
  obtain ⟨y1, ey1, hf⟩ := bd_inv hf
  refine zj_sAt C hz hr ey1 (rest := []) q884 q885 (C.w q886) q99 q887 hl.1 ⟨Nat.le_trans (by decide) hr.1, Nat.le_trans (by decide) hr.2.1⟩ (Nat.le_of_ble_eq_true rfl) dX0_read_59 (fun H locs hz => ?_)
  refine lv_istore (lv' := [(6, .int (zI y1)), (3, .int (zI (x3 + 1))), (0, .ref x0), (1, va_rf x1), (2, .int (zI x2)), (4, .int (zI x4)), (5, .int (zI x5))]) hx hb dX0_read_62 hl (by decide) rfl (fun ls hl => ?_)
  exact w_X0_read_64 C hr hf hz (lv_sub hl [2, 3, 4, 1, 5, 6, 0] rfl) hk

theorem w_X0_read_13s {p : Program} {l : Launch} {e : Env} {R : Room} {s : State} {m : MethodId} {args : Array Value} {below : List Frame} {meth : Method} {c : Code} {Q : State → Prop} {E : PEw} {h0 h : HP} {H : Heap} {locs : List Loc} (C : PC E p s m args meth c RX0 cX0_read 9 (some (.object "PlainPage$Part")) "read") (hr : 5 ≤ R.frames ∧ 110 ≤ R.locals ∧ RBw R h0) {x0 : Nat} {x1 : Option Nat} {x2 : Int} {x3 : Int} {x4 : Int} {res : (HP × (Option Nat) × Int × Int × Int) ⊕ (HP × Option Nat)} (hf : f_X0_read_13s h x0 x1 x2 x3 x4 = some res) (hz : ZP E s h0 h H locs) {ls : Array Slot} (hl : lv_has ls 9 [(0, .ref x0), (1, va_rf x1), (2, .int (zI x2)), (3, .int (zI x3)), (4, .int (zI x4))]) (hk : (Sum.elim (fun z => ∀ (H : Heap) (locs : List Loc) (ls : Array Slot), ZP E s h0 z.1 H locs → lv_has ls 9 [(0, .ref x0), (1, va_rf z.2.1), (2, .int (zI z.2.2.1)), (3, .int (zI z.2.2.2.1)), (4, .int (zI z.2.2.2.2))] → W p l e R s m args below meth c H locs (pX z.1 - pX h0) (pS z.1 - pS h0) Q (F0 m 13 ls [])) (fun r => KP E below args s Q h0 r.1 (some (va_rf r.2)))) res) : W p l e R s m args below meth c H locs (pX h - pX h0) (pS h - pS h0) Q (F0 m 13 ls []) := by
  unfold f_X0_read_13s at hf
  have hx := C.1
  have hb := C.2.1
  refine lv_iload hx hb dX0_read_13 (lv_at hl 4 rfl) ?_
  refine zl_iconst hx hb dX0_read_15 ?_
  refine zl_icmp_ge (tgt := 200) hx hb dX0_read_16 (by decide) (fun hc => ?_) (fun hc => ?_)
  · rw [if_pos hc] at hf
    refine lv_iload_n hx hb dX0_read_19 rfl (lv_at hl 3 rfl) ?_
    refine lv_istore (lv' := [(5, .int (zI x3)), (0, .ref x0), (1, va_rf x1), (2, .int (zI x2)), (3, .int (zI x3)), (4, .int (zI x4))]) hx hb dX0_read_20 hl (by decide) rfl (fun ls hl => ?_)
    refine zl_iconst hx hb dX0_read_22 ?_
    refine lv_istore (lv' := [(6, .int (zI 0)), (5, .int (zI x3)), (0, .ref x0), (1, va_rf x1), (2, .int (zI x2)), (3, .int (zI x3)), (4, .int (zI x4))]) hx hb dX0_read_23 hl (by decide) rfl (fun ls hl => ?_)
    refine lv_iload_n hx hb dX0_read_25 rfl (lv_at hl 5 rfl) ?_
    refine lv_aload_n hx hb dX0_read_26 rfl (lv_at hl 2 rfl) ?_
    obtain ⟨y1, ey1, hf⟩ := bd_inv hf
    refine zj_sLen C hz hr ey1 (rest := [.int (zI x3)]) q883 q753 (C.w q754) q99 q755 hl.1 ⟨Nat.le_trans (by decide) hr.1, Nat.le_trans (by decide) hr.2.1⟩ (Nat.le_of_ble_eq_true rfl) dX0_read_27 (fun H locs hz => ?_)
    refine zl_icmp_ge (tgt := 64) hx hb dX0_read_30 (by decide) (fun hc => ?_) (fun hc => ?_)
    · rw [if_pos hc] at hf
      refine lv_aload_n hx hb dX0_read_33 rfl (lv_at hl 2 rfl) ?_
      refine lv_iload_n hx hb dX0_read_34 rfl (lv_at hl 5 rfl) ?_
      obtain ⟨y2, ey2, hf⟩ := bd_inv hf
      refine zj_sAt C hz hr ey2 (rest := []) q884 q885 (C.w q886) q99 q887 hl.1 ⟨Nat.le_trans (by decide) hr.1, Nat.le_trans (by decide) hr.2.1⟩ (Nat.le_of_ble_eq_true rfl) dX0_read_35 (fun H locs hz => ?_)
      obtain ⟨y3, ey3, hf⟩ := bd_inv hf
      refine zg_callS gP C hz hr (n := 1) (rest := []) (met_X0_small l E ey3) q792 q793 q89 q794 (by decide +kernel) ⟨Nat.le_trans (by decide) hr.1, Nat.le_trans (by decide) hr.2.1⟩ rfl hl.1 rfl (Nat.le_of_ble_eq_true rfl) dX0_read_38 (fun H locs hz => ?_)
      refine zl_if_ne (tgt := 54) hx hb dX0_read_41 (by decide) (fun hc => ?_) (fun hc => ?_)
      · rw [if_pos hc] at hf
        refine lv_aload_n hx hb dX0_read_44 rfl (lv_at hl 2 rfl) ?_
        refine lv_iload_n hx hb dX0_read_45 rfl (lv_at hl 5 rfl) ?_
        obtain ⟨y4, ey4, hf⟩ := bd_inv hf
        refine zj_sAt C hz hr ey4 (rest := []) q884 q885 (C.w q886) q99 q887 hl.1 ⟨Nat.le_trans (by decide) hr.1, Nat.le_trans (by decide) hr.2.1⟩ (Nat.le_of_ble_eq_true rfl) dX0_read_46 (fun H locs hz => ?_)
        refine zl_bipush hx hb dX0_read_49 (by decide) ?_
        refine zl_icmp_ne (tgt := 64) hx hb dX0_read_51 (by decide) (fun hc => ?_) (fun hc => ?_)
        · rw [if_pos hc] at hf
          exact w_X0_read_54 C hr hf hz (lv_sub hl [2, 3, 4, 5, 6, 1] rfl) hk
        · rw [if_neg hc] at hf
          exact w_X0_read_64 C hr hf hz (lv_sub hl [2, 3, 4, 5, 6, 1, 0] rfl) hk
      · rw [if_neg hc] at hf
        exact w_X0_read_54 C hr hf hz (lv_sub hl [2, 3, 4, 5, 6, 1] rfl) hk
    · rw [if_neg hc] at hf
      exact w_X0_read_64 C hr hf hz (lv_sub hl [2, 3, 4, 5, 6, 1, 0] rfl) hk
  · rw [if_neg hc] at hf
    refine lv_null hx hb dX0_read_200 ?_
    obtain rfl := Option.some.inj hf
    exact zg_aret_o C hz hk dX0_read_201

theorem w_X0_read_13 {p : Program} {l : Launch} {e : Env} {R : Room} {s : State} {m : MethodId} {args : Array Value} {below : List Frame} {meth : Method} {c : Code} {Q : State → Prop} {E : PEw} {h0 h : HP} {H : Heap} {locs : List Loc} (C : PC E p s m args meth c RX0 cX0_read 9 (some (.object "PlainPage$Part")) "read") (hr : 5 ≤ R.frames ∧ 110 ≤ R.locals ∧ RBw R h0) {x0 : Nat} {x1 : Option Nat} {x2 : Int} {x3 : Int} {x4 : Int} {res : HP × Option Nat} (hf : f_X0_read_13 h x0 x1 x2 x3 x4 = some res) (hz : ZP E s h0 h H locs) {ls : Array Slot} (hl : lv_has ls 9 [(0, .ref x0), (1, va_rf x1), (2, .int (zI x2)), (3, .int (zI x3)), (4, .int (zI x4))]) (hk : KP E below args s Q h0 res.1 (some (va_rf res.2))) : W p l e R s m args below meth c H locs (pX h - pX h0) (pS h - pS h0) Q (F0 m 13 ls []) := by
  unfold f_X0_read_13 at hf
  refine iter_ind (P := fun z r => ∀ (H : Heap) (locs : List Loc) (ls : Array Slot), ZP E s h0 z.1 H locs → lv_has ls 9 [(0, .ref x0), (1, va_rf z.2.1), (2, .int (zI z.2.2.1)), (3, .int (zI z.2.2.2.1)), (4, .int (zI z.2.2.2.2))] → KP E below args s Q h0 r.1 (some (va_rf r.2)) → W p l e R s m args below meth c H locs (pX z.1 - pX h0) (pS z.1 - pS h0) Q (F0 m 13 ls [])) ?_ ?_ hf H locs ls hz hl hk
  · intro z r h1 H locs ls hz hl hk; exact w_X0_read_13s C hr h1 hz hl hk
  · intro z z1 r h1 ih H locs ls hz hl hk; exact w_X0_read_13s C hr h1 hz hl (fun H locs ls hz hl => ih H locs ls hz hl hk)

theorem w_X0_read {p : Program} {l : Launch} {e : Env} {R : Room} {s : State} {m : MethodId} {args : Array Value} {below : List Frame} {meth : Method} {c : Code} {Q : State → Prop} {E : PEw} {h0 h : HP} {H : Heap} {locs : List Loc} (C : PC E p s m args meth c RX0 cX0_read 9 (some (.object "PlainPage$Part")) "read") (hr : 5 ≤ R.frames ∧ 110 ≤ R.locals ∧ RBw R h0) {x0 : Nat} {res : HP × Option Nat} (hf : f_X0_read h x0 = some res) (hz : ZP E s h0 h H locs) {ls : Array Slot} (hl : lv_has ls 9 [(0, .ref x0)]) (hk : KP E below args s Q h0 res.1 (some (va_rf res.2))) : W p l e R s m args below meth c H locs (pX h - pX h0) (pS h - pS h0) Q (F0 m 0 ls []) := by
  unfold f_X0_read at hf
  have hx := C.1
  have hb := C.2.1
  refine lv_null hx hb dX0_read_0 ?_
  refine zl_astore_n_o (lv' := [(1, va_rf none), (0, .ref x0)]) hx hb dX0_read_1 rfl hl (by decide) rfl (fun ls hl => ?_)
  refine zl_iconst hx hb dX0_read_2 ?_
  refine lv_istore_n (lv' := [(2, .int (zI 0)), (1, va_rf none), (0, .ref x0)]) hx hb dX0_read_3 rfl hl (by decide) (by simp [zx_cat]) (fun ls hl => ?_)
  refine lv_aload_n hx hb dX0_read_4 rfl (lv_at hl 2 rfl) ?_
  refine zl_iconst hx hb dX0_read_5 ?_
  obtain ⟨y1, ey1, hf⟩ := bd_inv hf
  refine zg_callS gP C hz hr (n := 2) (rest := []) (met_X0_afterBlanks l E ey1) q880 q881 q89 q882 (by decide +kernel) ⟨Nat.le_trans (by decide) hr.1, Nat.le_trans (by decide) hr.2.1⟩ rfl hl.1 rfl (Nat.le_of_ble_eq_true rfl) dX0_read_6 (fun H locs hz => ?_)
  refine lv_istore_n (lv' := [(3, .int (zI y1)), (2, .int (zI 0)), (1, va_rf none), (0, .ref x0)]) hx hb dX0_read_9 rfl hl (by decide) rfl (fun ls hl => ?_)
  refine zl_iconst hx hb dX0_read_10 ?_
  refine lv_istore (lv' := [(4, .int (zI 0)), (3, .int (zI y1)), (2, .int (zI 0)), (1, va_rf none), (0, .ref x0)]) hx hb dX0_read_11 hl (by decide) rfl (fun ls hl => ?_)
  exact w_X0_read_13 C hr hf hz (lv_sub hl [4, 3, 2, 1, 0] rfl) hk

theorem met_X0_read (l : Launch) (E : PEw) {h : HP} {x0 : Nat} {res : HP × Option Nat} (hf : f_X0_read h x0 = some res) : Met l yX0_read (ws_ yX0_read cX0_read 9 (some (.object "PlainPage$Part"))) (rmP h 5 110) (PP E h [.ref x0]) (QP E h res.1 (some (va_rf res.2))) (pX res.1 - pX h) (pS res.1 - pS h) (eF E) := by
  refine Met.ofW (cc := cX0_read) (maxL := 9) (ret := (some (.object "PlainPage$Part"))) (by decide) rfl ?_
  intro p e s m args below meth c s₁ B hml hv
  obtain ⟨rfl, hP0⟩ := hv
  have hts := atoms_spec (ws := ws_ yX0_read cX0_read 9 (some (.object "PlainPage$Part"))) B.pre
  have hts : ∀ w ∈ lw_all, w.before _ s = true := fun w h => hts w (List.mem_cons_of_mem _ h)
  have C : PC E p s m _ meth c RX0 cX0_read 9 (some (.object "PlainPage$Part")) "read" := ⟨B.exec, B.bytes, B.returns, B.notSynchronized, hml, findClass_of_methodNamed B.named, hts, hP0.2, (name_of_methodNamed B.named B.method).1⟩
  have hz : ZP E s h h s.heap [] := ZG.start hP0.1
  have hl := lv_entry ([.ref x0]) (n := 9) (Nat.le_of_ble_eq_true rfl)
  rw [lg_entry_eq]
  generalize (lg_sl ([.ref x0]) ++ List.replicate (9 - (lg_sl ([.ref x0])).length) Slot.unset).toArray = ls at hl ⊢
  have hl : lv_has ls 9 [(0, .ref x0)] := hl
  refine W.cs (cells' := pX h - pX h) (slots' := pS h - pS h) (Nat.sub_self _).symm (Nat.sub_self _).symm ?_
  exact w_X0_read C ⟨Nat.le_refl _, Nat.le_refl _, RBw.rm⟩ hf hz hl rfl

theorem w_X8_init_32s {p : Program} {l : Launch} {e : Env} {R : Room} {s : State} {m : MethodId} {args : Array Value} {below : List Frame} {meth : Method} {c : Code} {Q : State → Prop} {E : PEw} {h0 h : HP} {H : Heap} {locs : List Loc} (C : PC E p s m args meth c RX8 cX8_init 4 none "<init>") (hr : 1 ≤ R.frames ∧ 20 ≤ R.locals ∧ RBw R h0) {x0 : Nat} {x3 : Int} {res : (HP × Int) ⊕ (HP)} (hf : f_X8_init_32s h x0 x3 = some res) (hz : ZP E s h0 h H locs) {ls : Array Slot} (hl : lv_has ls 4 [(0, .ref x0), (3, .int (zI x3))]) (hk : (Sum.elim (fun z => ∀ (H : Heap) (locs : List Loc) (ls : Array Slot), ZP E s h0 z.1 H locs → lv_has ls 4 [(0, .ref x0), (3, .int (zI z.2))] → W p l e R s m args below meth c H locs (pX z.1 - pX h0) (pS z.1 - pS h0) Q (F0 m 32 ls [])) (fun r => KP E below args s Q h0 r none)) res) : W p l e R s m args below meth c H locs (pX h - pX h0) (pS h - pS h0) Q (F0 m 32 ls []) := by
  unfold f_X8_init_32s at hf
  have hx := C.1
  have hb := C.2.1
  refine lv_iload_n hx hb dX8_init_32 rfl (lv_at hl 1 rfl) ?_
  refine zl_bipush hx hb dX8_init_33 (by decide) ?_
  refine zl_icmp_ge (tgt := 60) hx hb dX8_init_35 (by decide) (fun hc => ?_) (fun hc => ?_)
  · rw [if_pos hc] at hf
    refine lv_aload_n hx hb dX8_init_38 rfl (lv_at hl 0 rfl) ?_
    obtain ⟨hg, hf⟩ := gd_inv hf
    refine zg_getp gP C hz 7 2 (gkp (by decide) hg) (by decide) (by decide) (Or.inl (C.w q933)) (fun _ h => h) dX8_init_39 ?_
    refine lv_iload_n hx hb dX8_init_42 rfl (lv_at hl 1 rfl) ?_
    refine zl_bipush hx hb dX8_init_43 (by decide) ?_
    obtain ⟨a1, ea1, hf⟩ := bd_inv hf
    rw [zx_rf ea1]
    obtain ⟨hg, hf⟩ := gd_inv hf
    obtain ⟨hi, hf⟩ := gd_inv hf
    obtain ⟨h2, eh2, hf⟩ := bnd_inv hf
    refine zg_iast gP C hz hg hi dX8_init_45 eh2 (fun H locs hz => ?_)
    refine lv_aload_n hx hb dX8_init_46 rfl (lv_at hl 0 rfl) ?_
    obtain ⟨hg, hf⟩ := gd_inv hf
    refine zg_getp gP C hz 7 3 (gkp (by decide) hg) (by decide) (by decide) (Or.inl (C.w q935)) (fun _ h => h) dX8_init_47 ?_
    refine lv_iload_n hx hb dX8_init_50 rfl (lv_at hl 1 rfl) ?_
    refine zl_bipush hx hb dX8_init_51 (by decide) ?_
    obtain ⟨a3, ea3, hf⟩ := bd_inv hf
    rw [zx_rf ea3]
    obtain ⟨hg, hf⟩ := gd_inv hf
    obtain ⟨hi, hf⟩ := gd_inv hf
    obtain ⟨h4, eh4, hf⟩ := bnd_inv hf
    refine zg_iast gP C hz hg hi dX8_init_53 eh4 (fun H locs hz => ?_)
    refine zl_iinc (x := x3) (n := 1) (lv' := [(3, .int (zI (x3 + 1))), (0, .ref x0)]) (k := 1) hx hb dX8_init_54 hl rfl (by decide) rfl (fun ls hl => ?_)
    refine lv_goto (tgt := 32) hx hb dX8_init_57 (by decide) ?_
    obtain rfl := Option.some.inj hf
    exact hk _ _ _ hz (lv_sub hl [1, 0] rfl)
  · rw [if_neg hc] at hf
    obtain rfl := Option.some.inj hf
    exact zg_vret C hz hk dX8_init_60

theorem w_X8_init_32 {p : Program} {l : Launch} {e : Env} {R : Room} {s : State} {m : MethodId} {args : Array Value} {below : List Frame} {meth : Method} {c : Code} {Q : State → Prop} {E : PEw} {h0 h : HP} {H : Heap} {locs : List Loc} (C : PC E p s m args meth c RX8 cX8_init 4 none "<init>") (hr : 1 ≤ R.frames ∧ 20 ≤ R.locals ∧ RBw R h0) {x0 : Nat} {x3 : Int} {res : HP} (hf : f_X8_init_32 h x0 x3 = some res) (hz : ZP E s h0 h H locs) {ls : Array Slot} (hl : lv_has ls 4 [(0, .ref x0), (3, .int (zI x3))]) (hk : KP E below args s Q h0 res none) : W p l e R s m args below meth c H locs (pX h - pX h0) (pS h - pS h0) Q (F0 m 32 ls []) := by
  unfold f_X8_init_32 at hf
  refine iter_ind (P := fun z r => ∀ (H : Heap) (locs : List Loc) (ls : Array Slot), ZP E s h0 z.1 H locs → lv_has ls 4 [(0, .ref x0), (3, .int (zI z.2))] → KP E below args s Q h0 r none → W p l e R s m args below meth c H locs (pX z.1 - pX h0) (pS z.1 - pS h0) Q (F0 m 32 ls [])) ?_ ?_ hf H locs ls hz hl hk
  · intro z r h1 H locs ls hz hl hk; exact w_X8_init_32s C hr h1 hz hl hk
  · intro z z1 r h1 ih H locs ls hz hl hk; exact w_X8_init_32s C hr h1 hz hl (fun H locs ls hz hl => ih H locs ls hz hl hk)

theorem w_X8_init {p : Program} {l : Launch} {e : Env} {R : Room} {s : State} {m : MethodId} {args : Array Value} {below : List Frame} {meth : Method} {c : Code} {Q : State → Prop} {E : PEw} {h0 h : HP} {H : Heap} {locs : List Loc} (C : PC E p s m args meth c RX8 cX8_init 4 none "<init>") (hr : 1 ≤ R.frames ∧ 20 ≤ R.locals ∧ RBw R h0) {x0 : Nat} {x1 : Nat} {x2 : Int} {res : HP} (hf : f_X8_init h x0 x1 x2 = some res) (hz : ZP E s h0 h H locs) {ls : Array Slot} (hl : lv_has ls 4 [(0, .ref x0), (1, .ref x1), (2, .int (zI x2))]) (hk : KP E below args s Q h0 res none) : W p l e R s m args below meth c H locs (pX h - pX h0) (pS h - pS h0) Q (F0 m 0 ls []) := by
  unfold f_X8_init at hf
  have hx := C.1
  have hb := C.2.1
  refine lv_aload_n hx hb dX8_init_0 rfl (lv_at hl 0 rfl) ?_
  refine zo_init C q928 ⟨Nat.le_trans (by decide) hr.1, Nat.le_trans (by decide) hr.2.1⟩ hl.1 (Nat.le_of_ble_eq_true rfl) dX8_init_1 ?_
  refine lv_aload_n hx hb dX8_init_4 rfl (lv_at hl 0 rfl) ?_
  refine zl_bipush hx hb dX8_init_5 (by decide) ?_
  obtain ⟨a1, ea1, hf⟩ := bnd_inv hf
  obtain ⟨hg, hf⟩ := gd_inv hf
  obtain ⟨h2, eh2, hf⟩ := bnd_inv hf
  refine zg_newa_int gP C hz hr (by decide) hg dX8_init_7 ea1 eh2 (fun H hz => ?_)
  obtain ⟨hg, hf⟩ := gd_inv hf
  obtain ⟨h3, eh3, hf⟩ := bnd_inv hf
  refine zg_putpF gP C hz 7 2 (gkp (by decide) hg) (by decide) (by decide) (Or.inr ⟨_, rfl⟩) (by decide) (C.w q933) (fun _ h => h) dX8_init_9 eh3 (fun H locs hz => ?_)
  refine lv_aload_n hx hb dX8_init_12 rfl (lv_at hl 0 rfl) ?_
  refine zl_bipush hx hb dX8_init_13 (by decide) ?_
  obtain ⟨a4, ea4, hf⟩ := bnd_inv hf
  obtain ⟨hg, hf⟩ := gd_inv hf
  obtain ⟨h5, eh5, hf⟩ := bnd_inv hf
  refine zg_newa_int gP C hz hr (by decide) hg dX8_init_15 ea4 eh5 (fun H hz => ?_)
  obtain ⟨hg, hf⟩ := gd_inv hf
  obtain ⟨h6, eh6, hf⟩ := bnd_inv hf
  refine zg_putpF gP C hz 7 3 (gkp (by decide) hg) (by decide) (by decide) (Or.inr ⟨_, rfl⟩) (by decide) (C.w q935) (fun _ h => h) dX8_init_17 eh6 (fun H locs hz => ?_)
  refine lv_aload_n hx hb dX8_init_20 rfl (lv_at hl 0 rfl) ?_
  refine lv_aload_n hx hb dX8_init_21 rfl (lv_at hl 1 rfl) ?_
  obtain ⟨hg, hf⟩ := gd_inv hf
  obtain ⟨h7, eh7, hf⟩ := bnd_inv hf
  refine zg_putpF gP C hz 7 0 (gkp (by decide) hg) (by decide) (by decide) (Or.inl ⟨_, rfl⟩) (by decide) (C.w q929) (fun _ h => h) dX8_init_22 eh7 (fun H locs hz => ?_)
  refine lv_aload_n hx hb dX8_init_25 rfl (lv_at hl 0 rfl) ?_
  refine lv_iload_n hx hb dX8_init_26 rfl (lv_at hl 2 rfl) ?_
  obtain ⟨hg, hf⟩ := gd_inv hf
  obtain ⟨h8, eh8, hf⟩ := bnd_inv hf
  refine zg_putiF gP C hz 7 1 (gkp (by decide) hg) (by decide) (by decide) rfl (by decide) (C.w q931) (fun _ h => h) dX8_init_27 eh8 (fun H locs hz => ?_)
  refine zl_iconst hx hb dX8_init_30 ?_
  refine lv_istore_n (lv' := [(3, .int (zI 0)), (0, .ref x0), (1, .ref x1), (2, .int (zI x2))]) hx hb dX8_init_31 rfl hl (by decide) rfl (fun ls hl => ?_)
  exact w_X8_init_32 C hr hf hz (lv_sub hl [1, 0] rfl) hk

theorem met_X8_init (l : Launch) (E : PEw) {h : HP} {x0 : Nat} {x1 : Nat} {x2 : Int} {res : HP} (hf : f_X8_init h x0 x1 x2 = some res) : Met l yX8_init (ws_ yX8_init cX8_init 4 none) (rmP h 1 20) (PP E h [.ref x0, .ref x1, .int (zI x2)]) (QP E h res none) (pX res - pX h) (pS res - pS h) (eF E) := by
  refine Met.ofW (cc := cX8_init) (maxL := 4) (ret := none) (by decide) rfl ?_
  intro p e s m args below meth c s₁ B hml hv
  obtain ⟨rfl, hP0⟩ := hv
  have hts := atoms_spec (ws := ws_ yX8_init cX8_init 4 none) B.pre
  have hts : ∀ w ∈ lw_all, w.before _ s = true := fun w h => hts w (List.mem_cons_of_mem _ h)
  have C : PC E p s m _ meth c RX8 cX8_init 4 none "<init>" := ⟨B.exec, B.bytes, B.returns, B.notSynchronized, hml, findClass_of_methodNamed B.named, hts, hP0.2, (name_of_methodNamed B.named B.method).1⟩
  have hz : ZP E s h h s.heap [] := ZG.start hP0.1
  have hl := lv_entry ([.ref x0, .ref x1, .int (zI x2)]) (n := 4) (Nat.le_of_ble_eq_true rfl)
  rw [lg_entry_eq]
  generalize (lg_sl ([.ref x0, .ref x1, .int (zI x2)]) ++ List.replicate (4 - (lg_sl ([.ref x0, .ref x1, .int (zI x2)])).length) Slot.unset).toArray = ls at hl ⊢
  have hl : lv_has ls 4 [(0, .ref x0), (1, .ref x1), (2, .int (zI x2))] := hl
  refine W.cs (cells' := pX h - pX h) (slots' := pS h - pS h) (Nat.sub_self _).symm (Nat.sub_self _).symm ?_
  exact w_X8_init C ⟨Nat.le_refl _, Nat.le_refl _, RBw.rm⟩ hf hz hl rfl

theorem w_X8_set {p : Program} {l : Launch} {e : Env} {R : Room} {s : State} {m : MethodId} {args : Array Value} {below : List Frame} {meth : Method} {c : Code} {Q : State → Prop} {E : PEw} {h0 h : HP} {H : Heap} {locs : List Loc} (C : PC E p s m args meth c RX8 cX8_set 4 none "set") (hr : 0 ≤ R.frames ∧ 0 ≤ R.locals ∧ RBw R h0) {x0 : Nat} {x1 : Int} {x2 : Int} {x3 : Int} {res : HP} (hf : f_X8_set h x0 x1 x2 x3 = some res) (hz : ZP E s h0 h H locs) {ls : Array Slot} (hl : lv_has ls 4 [(0, .ref x0), (1, .int (zI x1)), (2, .int (zI x2)), (3, .int (zI x3))]) (hk : KP E below args s Q h0 res none) : W p l e R s m args below meth c H locs (pX h - pX h0) (pS h - pS h0) Q (F0 m 0 ls []) := by
  unfold f_X8_set at hf
  have hx := C.1
  have hb := C.2.1
  refine lv_iload_n hx hb dX8_set_0 rfl (lv_at hl 3 rfl) ?_
  refine zl_if_eq (tgt := 14) hx hb dX8_set_1 (by decide) (fun hc => ?_) (fun hc => ?_)
  · rw [if_pos hc] at hf
    refine lv_aload_n hx hb dX8_set_14 rfl (lv_at hl 0 rfl) ?_
    obtain ⟨hg, hf⟩ := gd_inv hf
    refine zg_getp gP C hz 7 2 (gkp (by decide) hg) (by decide) (by decide) (Or.inl (C.w q933)) (fun _ h => h) dX8_set_15 ?_
    refine lv_iload_n hx hb dX8_set_18 rfl (lv_at hl 1 rfl) ?_
    refine lv_iload_n hx hb dX8_set_19 rfl (lv_at hl 2 rfl) ?_
    obtain ⟨a1, ea1, hf⟩ := bd_inv hf
    rw [zx_rf ea1]
    obtain ⟨hg, hf⟩ := gd_inv hf
    obtain ⟨hi, hf⟩ := gd_inv hf
    obtain ⟨h2, eh2, hf⟩ := bnd_inv hf
    refine zg_iast gP C hz hg hi dX8_set_20 eh2 (fun H locs hz => ?_)
    obtain rfl := Option.some.inj hf
    exact zg_vret C hz hk dX8_set_21
  · rw [if_neg hc] at hf
    refine lv_aload_n hx hb dX8_set_4 rfl (lv_at hl 0 rfl) ?_
    obtain ⟨hg, hf⟩ := gd_inv hf
    refine zg_getp gP C hz 7 3 (gkp (by decide) hg) (by decide) (by decide) (Or.inl (C.w q935)) (fun _ h => h) dX8_set_5 ?_
    refine lv_iload_n hx hb dX8_set_8 rfl (lv_at hl 1 rfl) ?_
    refine lv_iload_n hx hb dX8_set_9 rfl (lv_at hl 2 rfl) ?_
    obtain ⟨a3, ea3, hf⟩ := bd_inv hf
    rw [zx_rf ea3]
    obtain ⟨hg, hf⟩ := gd_inv hf
    obtain ⟨hi, hf⟩ := gd_inv hf
    obtain ⟨h4, eh4, hf⟩ := bnd_inv hf
    refine zg_iast gP C hz hg hi dX8_set_10 eh4 (fun H locs hz => ?_)
    refine lv_goto (tgt := 21) hx hb dX8_set_11 (by decide) ?_
    obtain rfl := Option.some.inj hf
    exact zg_vret C hz hk dX8_set_21

theorem met_X8_set (l : Launch) (E : PEw) {h : HP} {x0 : Nat} {x1 : Int} {x2 : Int} {x3 : Int} {res : HP} (hf : f_X8_set h x0 x1 x2 x3 = some res) : Met l yX8_set (ws_ yX8_set cX8_set 4 none) (rmP h 0 0) (PP E h [.ref x0, .int (zI x1), .int (zI x2), .int (zI x3)]) (QP E h res none) (pX res - pX h) (pS res - pS h) (eF E) := by
  refine Met.ofW (cc := cX8_set) (maxL := 4) (ret := none) (by decide) rfl ?_
  intro p e s m args below meth c s₁ B hml hv
  obtain ⟨rfl, hP0⟩ := hv
  have hts := atoms_spec (ws := ws_ yX8_set cX8_set 4 none) B.pre
  have hts : ∀ w ∈ lw_all, w.before _ s = true := fun w h => hts w (List.mem_cons_of_mem _ h)
  have C : PC E p s m _ meth c RX8 cX8_set 4 none "set" := ⟨B.exec, B.bytes, B.returns, B.notSynchronized, hml, findClass_of_methodNamed B.named, hts, hP0.2, (name_of_methodNamed B.named B.method).1⟩
  have hz : ZP E s h h s.heap [] := ZG.start hP0.1
  have hl := lv_entry ([.ref x0, .int (zI x1), .int (zI x2), .int (zI x3)]) (n := 4) (Nat.le_of_ble_eq_true rfl)
  rw [lg_entry_eq]
  generalize (lg_sl ([.ref x0, .int (zI x1), .int (zI x2), .int (zI x3)]) ++ List.replicate (4 - (lg_sl ([.ref x0, .int (zI x1), .int (zI x2), .int (zI x3)])).length) Slot.unset).toArray = ls at hl ⊢
  have hl : lv_has ls 4 [(0, .ref x0), (1, .int (zI x1)), (2, .int (zI x2)), (3, .int (zI x3))] := hl
  refine W.cs (cells' := pX h - pX h) (slots' := pS h - pS h) (Nat.sub_self _).symm (Nat.sub_self _).symm ?_
  exact w_X8_set C ⟨Nat.le_refl _, Nat.le_refl _, RBw.rm⟩ hf hz hl rfl

theorem w_X0_declare_178 {p : Program} {l : Launch} {e : Env} {R : Room} {s : State} {m : MethodId} {args : Array Value} {below : List Frame} {meth : Method} {c : Code} {Q : State → Prop} {E : PEw} {h0 h : HP} {H : Heap} {locs : List Loc} (C : PC E p s m args meth c RX0 cX0_declare 8 none "declare") (hr : 4 ≤ R.frames ∧ 91 ≤ R.locals ∧ RBw R h0) {x0 : Nat} {x1 : Nat} {x2 : Int} {x3 : Int} {x4 : Int} {x6 : Int} {t0 : Int} {res : (Int × Int) ⊕ (HP)} (hf : f_X0_declare_178 h x0 x1 x2 x3 x4 x6 t0 = some res) (hz : ZP E s h0 h H locs) {ls : Array Slot} (hl : lv_has ls 8 [(0, .ref x0), (1, .ref x1), (2, .int (zI x2)), (3, .int (zI x3)), (4, .int (zI x4)), (6, .int (zI x6))]) (hk : (Sum.elim (fun z => ∀ (H : Heap) (locs : List Loc) (ls : Array Slot), ZP E s h0 h H locs → lv_has ls 8 [(0, .ref x0), (1, .ref x1), (2, .int (zI x2)), (3, .int (zI x3)), (4, .int (zI x4)), (5, .int (zI z.1)), (6, .int (zI z.2))] → W p l e R s m args below meth c H locs (pX h - pX h0) (pS h - pS h0) Q (F0 m 105 ls [])) (fun r => KP E below args s Q h0 r none)) res) : W p l e R s m args below meth c H locs (pX h - pX h0) (pS h - pS h0) Q (F0 m 178 ls [.int (zI t0)]) := by
  unfold f_X0_declare_178 at hf
  have hx := C.1
  have hb := C.2.1
  refine lv_istore (lv' := [(5, .int (zI t0)), (0, .ref x0), (1, .ref x1), (2, .int (zI x2)), (3, .int (zI x3)), (4, .int (zI x4)), (6, .int (zI x6))]) hx hb dX0_declare_178 hl (by decide) rfl (fun ls hl => ?_)
  refine zl_iinc (x := x6) (n := 1) (lv' := [(6, .int (zI (x6 + 1))), (5, .int (zI t0)), (0, .ref x0), (1, .ref x1), (2, .int (zI x2)), (3, .int (zI x3)), (4, .int (zI x4))]) (k := 6) hx hb dX0_declare_180 hl rfl (by decide) rfl (fun ls hl => ?_)
  refine lv_goto (tgt := 105) hx hb dX0_declare_183 (by decide) ?_
  obtain rfl := Option.some.inj hf
  exact hk _ _ _ hz (lv_sub hl [2, 3, 4, 5, 6, 1, 0] rfl)

theorem w_X0_declare_156 {p : Program} {l : Launch} {e : Env} {R : Room} {s : State} {m : MethodId} {args : Array Value} {below : List Frame} {meth : Method} {c : Code} {Q : State → Prop} {E : PEw} {h0 h : HP} {H : Heap} {locs : List Loc} (C : PC E p s m args meth c RX0 cX0_declare 8 none "declare") (hr : 4 ≤ R.frames ∧ 91 ≤ R.locals ∧ RBw R h0) {x0 : Nat} {x1 : Nat} {x2 : Int} {x3 : Int} {x4 : Int} {x5 : Int} {x6 : Int} {x7 : Int} {res : (Int × Int) ⊕ (HP)} (hf : f_X0_declare_156 h x0 x1 x2 x3 x4 x5 x6 x7 = some res) (hz : ZP E s h0 h H locs) {ls : Array Slot} (hl : lv_has ls 8 [(0, .ref x0), (1, .ref x1), (2, .int (zI x2)), (3, .int (zI x3)), (4, .int (zI x4)), (5, .int (zI x5)), (6, .int (zI x6)), (7, .int (zI x7))]) (hk : (Sum.elim (fun z => ∀ (H : Heap) (locs : List Loc) (ls : Array Slot), ZP E s h0 h H locs → lv_has ls 8 [(0, .ref x0), (1, .ref x1), (2, .int (zI x2)), (3, .int (zI x3)), (4, .int (zI x4)), (5, .int (zI z.1)), (6, .int (zI z.2))] → W p l e R s m args below meth c H locs (pX h - pX h0) (pS h - pS h0) Q (F0 m 105 ls [])) (fun r => KP E below args s Q h0 r none)) res) : W p l e R s m args below meth c H locs (pX h - pX h0) (pS h - pS h0) Q (F0 m 156 ls []) := by
  unfold f_X0_declare_156 at hf
  have hx := C.1
  have hb := C.2.1
  refine lv_iload hx hb dX0_declare_156 (lv_at hl 4 rfl) ?_
  refine zl_iconst hx hb dX0_declare_158 ?_
  refine zl_icmp_ne (tgt := 167) hx hb dX0_declare_159 (by decide) (fun hc => ?_) (fun hc => ?_)
  · rw [if_pos hc] at hf
    refine lv_iload hx hb dX0_declare_162 (lv_at hl 7 rfl) ?_
    refine lv_goto (tgt := 178) hx hb dX0_declare_164 (by decide) ?_
    exact w_X0_declare_178 C hr hf hz (lv_sub hl [0, 1, 2, 3, 4, 6] rfl) hk
  · rw [if_neg hc] at hf
    refine zl_bipush hx hb dX0_declare_167 (by decide) ?_
    refine lv_iload hx hb dX0_declare_169 (lv_at hl 5 rfl) ?_
    refine zl_imul hx hb dX0_declare_171 ?_
    refine lv_iload hx hb dX0_declare_172 (lv_at hl 7 rfl) ?_
    refine zl_iadd hx hb dX0_declare_174 ?_
    refine zl_bipush hx hb dX0_declare_175 (by decide) ?_
    refine zl_isub hx hb dX0_declare_177 ?_
    exact w_X0_declare_178 C hr hf hz (lv_sub hl [0, 1, 2, 3, 4, 6] rfl) hk

theorem w_X0_declare_197 {p : Program} {l : Launch} {e : Env} {R : Room} {s : State} {m : MethodId} {args : Array Value} {below : List Frame} {meth : Method} {c : Code} {Q : State → Prop} {E : PEw} {h0 h : HP} {H : Heap} {locs : List Loc} (C : PC E p s m args meth c RX0 cX0_declare 8 none "declare") (hr : 4 ≤ R.frames ∧ 91 ≤ R.locals ∧ RBw R h0) {x0 : Nat} {x2 : Int} {x4 : Int} {x5 : Int} {res : HP} (hf : f_X0_declare_197 h x0 x2 x4 x5 = some res) (hz : ZP E s h0 h H locs) {ls : Array Slot} (hl : lv_has ls 8 [(0, .ref x0), (2, .int (zI x2)), (4, .int (zI x4)), (5, .int (zI x5))]) (hk : KP E below args s Q h0 res none) : W p l e R s m args below meth c H locs (pX h - pX h0) (pS h - pS h0) Q (F0 m 197 ls []) := by
  unfold f_X0_declare_197 at hf
  have hx := C.1
  have hb := C.2.1
  refine lv_aload_n hx hb dX0_declare_197 rfl (lv_at hl 0 rfl) ?_
  refine lv_iload hx hb dX0_declare_198 (lv_at hl 2 rfl) ?_
  refine lv_iload hx hb dX0_declare_200 (lv_at hl 3 rfl) ?_
  refine lv_iload_n hx hb dX0_declare_202 rfl (lv_at hl 1 rfl) ?_
  obtain ⟨hg, hf⟩ := gd_inv hf
  obtain ⟨y1, ey1, hf⟩ := bd_inv hf
  refine zg_callV gP C hz hr (n := 3) (rest := []) (gkp (by decide) hg) (met_X8_set l E ey1) q952 q953 (C.w q954) q115 q955 (by decide +kernel) ⟨Nat.le_trans (by decide) hr.1, Nat.le_trans (by decide) hr.2.1⟩ rfl hl.1 rfl (Nat.le_of_ble_eq_true rfl) dX0_declare_203 (fun H locs hz => ?_)
  obtain rfl := Option.some.inj hf
  exact zg_vret C hz hk dX0_declare_206

theorem w_X0_declare_186 {p : Program} {l : Launch} {e : Env} {R : Room} {s : State} {m : MethodId} {args : Array Value} {below : List Frame} {meth : Method} {c : Code} {Q : State → Prop} {E : PEw} {h0 h : HP} {H : Heap} {locs : List Loc} (C : PC E p s m args meth c RX0 cX0_declare 8 none "declare") (hr : 4 ≤ R.frames ∧ 91 ≤ R.locals ∧ RBw R h0) {x0 : Nat} {x2 : Int} {x4 : Int} {x5 : Int} {res : HP} (hf : f_X0_declare_186 h x0 x2 x4 x5 = some res) (hz : ZP E s h0 h H locs) {ls : Array Slot} (hl : lv_has ls 8 [(0, .ref x0), (2, .int (zI x2)), (4, .int (zI x4)), (5, .int (zI x5))]) (hk : KP E below args s Q h0 res none) : W p l e R s m args below meth c H locs (pX h - pX h0) (pS h - pS h0) Q (F0 m 186 ls []) := by
  unfold f_X0_declare_186 at hf
  have hx := C.1
  have hb := C.2.1
  refine lv_iload hx hb dX0_declare_186 (lv_at hl 2 rfl) ?_
  refine zl_iconst hx hb dX0_declare_188 ?_
  refine zl_icmp_ne (tgt := 197) hx hb dX0_declare_189 (by decide) (fun hc => ?_) (fun hc => ?_)
  · rw [if_pos hc] at hf
    refine lv_iload hx hb dX0_declare_192 (lv_at hl 3 rfl) ?_
    refine zl_if_le (tgt := 206) hx hb dX0_declare_194 (by decide) (fun hc => ?_) (fun hc => ?_)
    · rw [if_pos hc] at hf
      exact w_X0_declare_197 C hr hf hz (lv_sub hl [0, 1, 2, 3] rfl) hk
    · rw [if_neg hc] at hf
      obtain rfl := Option.some.inj hf
      exact zg_vret C hz hk dX0_declare_206
  · rw [if_neg hc] at hf
    exact w_X0_declare_197 C hr hf hz (lv_sub hl [0, 1, 2, 3] rfl) hk

theorem w_X0_declare_105s {p : Program} {l : Launch} {e : Env} {R : Room} {s : State} {m : MethodId} {args : Array Value} {below : List Frame} {meth : Method} {c : Code} {Q : State → Prop} {E : PEw} {h0 h : HP} {H : Heap} {locs : List Loc} (C : PC E p s m args meth c RX0 cX0_declare 8 none "declare") (hr : 4 ≤ R.frames ∧ 91 ≤ R.locals ∧ RBw R h0) {x0 : Nat} {x1 : Nat} {x2 : Int} {x3 : Int} {x4 : Int} {x5 : Int} {x6 : Int} {res : (Int × Int) ⊕ (HP)} (hf : f_X0_declare_105s h x0 x1 x2 x3 x4 x5 x6 = some res) (hz : ZP E s h0 h H locs) {ls : Array Slot} (hl : lv_has ls 8 [(0, .ref x0), (1, .ref x1), (2, .int (zI x2)), (3, .int (zI x3)), (4, .int (zI x4)), (5, .int (zI x5)), (6, .int (zI x6))]) (hk : (Sum.elim (fun z => ∀ (H : Heap) (locs : List Loc) (ls : Array Slot), ZP E s h0 h H locs → lv_has ls 8 [(0, .ref x0), (1, .ref x1), (2, .int (zI x2)), (3, .int (zI x3)), (4, .int (zI x4)), (5, .int (zI z.1)), (6, .int (zI z.2))] → W p l e R s m args below meth c H locs (pX h - pX h0) (pS h - pS h0) Q (F0 m 105 ls [])) (fun r => KP E below args s Q h0 r none)) res) : W p l e R s m args below meth c H locs (pX h - pX h0) (pS h - pS h0) Q (F0 m 105 ls []) := by
  unfold f_X0_declare_105s at hf
  have hx := C.1
  have hb := C.2.1
  refine lv_iload hx hb dX0_declare_105 (lv_at hl 6 rfl) ?_
  refine zl_iconst hx hb dX0_declare_107 ?_
  refine lv_iload_n hx hb dX0_declare_108 rfl (lv_at hl 3 rfl) ?_
  refine zl_iadd hx hb dX0_declare_109 ?_
  refine zl_icmp_ge (tgt := 186) hx hb dX0_declare_110 (by decide) (fun hc => ?_) (fun hc => ?_)
  · rw [if_pos hc] at hf
    refine lv_aload_n hx hb dX0_declare_113 rfl (lv_at hl 1 rfl) ?_
    refine lv_iload hx hb dX0_declare_114 (lv_at hl 6 rfl) ?_
    obtain ⟨y1, ey1, hf⟩ := bd_inv hf
    refine zj_sAt C hz hr ey1 (rest := []) q884 q885 (C.w q886) q99 q887 hl.1 ⟨Nat.le_trans (by decide) hr.1, Nat.le_trans (by decide) hr.2.1⟩ (Nat.le_of_ble_eq_true rfl) dX0_declare_116 (fun H locs hz => ?_)
    refine lv_istore (lv' := [(7, .int (zI y1)), (0, .ref x0), (1, .ref x1), (2, .int (zI x2)), (3, .int (zI x3)), (4, .int (zI x4)), (5, .int (zI x5)), (6, .int (zI x6))]) hx hb dX0_declare_119 hl (by decide) rfl (fun ls hl => ?_)
    refine lv_iload hx hb dX0_declare_121 (lv_at hl 5 rfl) ?_
    refine zl_iconst hx hb dX0_declare_123 ?_
    refine zl_icmp_ne (tgt := 141) hx hb dX0_declare_124 (by decide) (fun hc => ?_) (fun hc => ?_)
    · rw [if_pos hc] at hf
      refine zc_strW C 8 (by decide) rfl rfl dX0_declare_127 ?_
      refine lv_iload hx hb dX0_declare_130 (lv_at hl 0 rfl) ?_
      obtain ⟨hg, hf⟩ := gd_inv hf
      obtain ⟨y2, ey2, hf⟩ := bd_inv hf
      refine zg_callQ gP C hz hr (n := 1) (rest := []) hg (met_J6_indexOf l E ey2) q584 q585 (C.w q586) q100 q587 (by decide +kernel) ⟨Nat.le_trans (by decide) hr.1, Nat.le_trans (by decide) hr.2.1⟩ rfl hl.1 rfl (Nat.le_of_ble_eq_true rfl) dX0_declare_132 (fun H locs hz => ?_)
      refine zl_if_ge (tgt := 156) hx hb dX0_declare_135 (by decide) (fun hc => ?_) (fun hc => ?_)
      · rw [if_pos hc] at hf
        refine lv_goto (tgt := 155) hx hb dX0_declare_138 (by decide) ?_
        obtain rfl := Option.some.inj hf
        exact zg_vret C hz hk dX0_declare_155
      · rw [if_neg hc] at hf
        exact w_X0_declare_156 C hr hf hz (lv_sub hl [1, 2, 3, 4, 5, 6, 7, 0] rfl) hk
    · rw [if_neg hc] at hf
      refine lv_iload hx hb dX0_declare_141 (lv_at hl 0 rfl) ?_
      refine zl_bipush hx hb dX0_declare_143 (by decide) ?_
      refine zl_icmp_lt (tgt := 155) hx hb dX0_declare_145 (by decide) (fun hc => ?_) (fun hc => ?_)
      · rw [if_pos hc] at hf
        obtain rfl := Option.some.inj hf
        exact zg_vret C hz hk dX0_declare_155
      · rw [if_neg hc] at hf
        refine lv_iload hx hb dX0_declare_148 (lv_at hl 0 rfl) ?_
        refine zl_bipush hx hb dX0_declare_150 (by decide) ?_
        refine zl_icmp_le (tgt := 156) hx hb dX0_declare_152 (by decide) (fun hc => ?_) (fun hc => ?_)
        · rw [if_pos hc] at hf
          obtain rfl := Option.some.inj hf
          exact zg_vret C hz hk dX0_declare_155
        · rw [if_neg hc] at hf
          exact w_X0_declare_156 C hr hf hz (lv_sub hl [1, 2, 3, 4, 5, 6, 7, 0] rfl) hk
  · rw [if_neg hc] at hf
    obtain ⟨r0, hm0, rfl⟩ := mr_inv hf
    exact w_X0_declare_186 C hr hm0 hz (lv_sub hl [0, 2, 4, 5] rfl) hk

theorem w_X0_declare_105 {p : Program} {l : Launch} {e : Env} {R : Room} {s : State} {m : MethodId} {args : Array Value} {below : List Frame} {meth : Method} {c : Code} {Q : State → Prop} {E : PEw} {h0 h : HP} {H : Heap} {locs : List Loc} (C : PC E p s m args meth c RX0 cX0_declare 8 none "declare") (hr : 4 ≤ R.frames ∧ 91 ≤ R.locals ∧ RBw R h0) {x0 : Nat} {x1 : Nat} {x2 : Int} {x3 : Int} {x4 : Int} {x5 : Int} {x6 : Int} {res : HP} (hf : f_X0_declare_105 h x0 x1 x2 x3 x4 x5 x6 = some res) (hz : ZP E s h0 h H locs) {ls : Array Slot} (hl : lv_has ls 8 [(0, .ref x0), (1, .ref x1), (2, .int (zI x2)), (3, .int (zI x3)), (4, .int (zI x4)), (5, .int (zI x5)), (6, .int (zI x6))]) (hk : KP E below args s Q h0 res none) : W p l e R s m args below meth c H locs (pX h - pX h0) (pS h - pS h0) Q (F0 m 105 ls []) := by
  unfold f_X0_declare_105 at hf
  refine iter_ind (P := fun z r => ∀ (H : Heap) (locs : List Loc) (ls : Array Slot), ZP E s h0 h H locs → lv_has ls 8 [(0, .ref x0), (1, .ref x1), (2, .int (zI x2)), (3, .int (zI x3)), (4, .int (zI x4)), (5, .int (zI z.1)), (6, .int (zI z.2))] → KP E below args s Q h0 r none → W p l e R s m args below meth c H locs (pX h - pX h0) (pS h - pS h0) Q (F0 m 105 ls [])) ?_ ?_ hf H locs ls hz hl hk
  · intro z r h1 H locs ls hz hl hk; exact w_X0_declare_105s C hr h1 hz hl hk
  · intro z z1 r h1 ih H locs ls hz hl hk; exact w_X0_declare_105s C hr h1 hz hl (fun H locs ls hz hl => ih H locs ls hz hl hk)

theorem w_X0_declare_99 {p : Program} {l : Launch} {e : Env} {R : Room} {s : State} {m : MethodId} {args : Array Value} {below : List Frame} {meth : Method} {c : Code} {Q : State → Prop} {E : PEw} {h0 h : HP} {H : Heap} {locs : List Loc} (C : PC E p s m args meth c RX0 cX0_declare 8 none "declare") (hr : 4 ≤ R.frames ∧ 91 ≤ R.locals ∧ RBw R h0) {x0 : Nat} {x1 : Nat} {x2 : Int} {x3 : Int} {x4 : Int} {res : HP} (hf : f_X0_declare_99 h x0 x1 x2 x3 x4 = some res) (hz : ZP E s h0 h H locs) {ls : Array Slot} (hl : lv_has ls 8 [(0, .ref x0), (1, .ref x1), (2, .int (zI x2)), (3, .int (zI x3)), (4, .int (zI x4))]) (hk : KP E below args s Q h0 res none) : W p l e R s m args below meth c H locs (pX h - pX h0) (pS h - pS h0) Q (F0 m 99 ls []) := by
  unfold f_X0_declare_99 at hf
  have hx := C.1
  have hb := C.2.1
  refine zl_iconst hx hb dX0_declare_99 ?_
  refine lv_istore (lv' := [(5, .int (zI 0)), (0, .ref x0), (1, .ref x1), (2, .int (zI x2)), (3, .int (zI x3)), (4, .int (zI x4))]) hx hb dX0_declare_100 hl (by decide) rfl (fun ls hl => ?_)
  refine zl_iconst hx hb dX0_declare_102 ?_
  refine lv_istore (lv' := [(6, .int (zI 2)), (5, .int (zI 0)), (0, .ref x0), (1, .ref x1), (2, .int (zI x2)), (3, .int (zI x3)), (4, .int (zI x4))]) hx hb dX0_declare_103 hl (by decide) rfl (fun ls hl => ?_)
  exact w_X0_declare_105 C hr hf hz (lv_sub hl [2, 3, 4, 5, 6, 1, 0] rfl) hk

theorem w_X0_declare_80 {p : Program} {l : Launch} {e : Env} {R : Room} {s : State} {m : MethodId} {args : Array Value} {below : List Frame} {meth : Method} {c : Code} {Q : State → Prop} {E : PEw} {h0 h : HP} {H : Heap} {locs : List Loc} (C : PC E p s m args meth c RX0 cX0_declare 8 none "declare") (hr : 4 ≤ R.frames ∧ 91 ≤ R.locals ∧ RBw R h0) {x0 : Nat} {x1 : Nat} {x2 : Int} {x3 : Int} {t0 : Int} {res : HP} (hf : f_X0_declare_80 h x0 x1 x2 x3 t0 = some res) (hz : ZP E s h0 h H locs) {ls : Array Slot} (hl : lv_has ls 8 [(0, .ref x0), (1, .ref x1), (2, .int (zI x2)), (3, .int (zI x3))]) (hk : KP E below args s Q h0 res none) : W p l e R s m args below meth c H locs (pX h - pX h0) (pS h - pS h0) Q (F0 m 80 ls [.int (zI t0)]) := by
  unfold f_X0_declare_80 at hf
  have hx := C.1
  have hb := C.2.1
  refine lv_istore (lv' := [(4, .int (zI t0)), (0, .ref x0), (1, .ref x1), (2, .int (zI x2)), (3, .int (zI x3))]) hx hb dX0_declare_80 hl (by decide) rfl (fun ls hl => ?_)
  refine lv_iload hx hb dX0_declare_82 (lv_at hl 0 rfl) ?_
  refine zl_if_lt (tgt := 98) hx hb dX0_declare_84 (by decide) (fun hc => ?_) (fun hc => ?_)
  · rw [if_pos hc] at hf
    obtain rfl := Option.some.inj hf
    exact zg_vret C hz hk dX0_declare_98
  · rw [if_neg hc] at hf
    refine lv_iload_n hx hb dX0_declare_87 rfl (lv_at hl 4 rfl) ?_
    refine zl_iconst hx hb dX0_declare_88 ?_
    refine zl_icmp_ne (tgt := 99) hx hb dX0_declare_89 (by decide) (fun hc => ?_) (fun hc => ?_)
    · rw [if_pos hc] at hf
      refine lv_iload hx hb dX0_declare_92 (lv_at hl 0 rfl) ?_
      refine zl_iconst hx hb dX0_declare_94 ?_
      refine zl_icmp_ge (tgt := 99) hx hb dX0_declare_95 (by decide) (fun hc => ?_) (fun hc => ?_)
      · rw [if_pos hc] at hf
        obtain rfl := Option.some.inj hf
        exact zg_vret C hz hk dX0_declare_98
      · rw [if_neg hc] at hf
        exact w_X0_declare_99 C hr hf hz (lv_sub hl [1, 2, 3, 4, 0] rfl) hk
    · rw [if_neg hc] at hf
      exact w_X0_declare_99 C hr hf hz (lv_sub hl [1, 2, 3, 4, 0] rfl) hk

theorem w_X0_declare_65 {p : Program} {l : Launch} {e : Env} {R : Room} {s : State} {m : MethodId} {args : Array Value} {below : List Frame} {meth : Method} {c : Code} {Q : State → Prop} {E : PEw} {h0 h : HP} {H : Heap} {locs : List Loc} (C : PC E p s m args meth c RX0 cX0_declare 8 none "declare") (hr : 4 ≤ R.frames ∧ 91 ≤ R.locals ∧ RBw R h0) {x0 : Nat} {x1 : Nat} {x2 : Int} {x3 : Int} {res : HP} (hf : f_X0_declare_65 h x0 x1 x2 x3 = some res) (hz : ZP E s h0 h H locs) {ls : Array Slot} (hl : lv_has ls 8 [(0, .ref x0), (1, .ref x1), (2, .int (zI x2)), (3, .int (zI x3))]) (hk : KP E below args s Q h0 res none) : W p l e R s m args below meth c H locs (pX h - pX h0) (pS h - pS h0) Q (F0 m 65 ls []) := by
  unfold f_X0_declare_65 at hf
  have hx := C.1
  have hb := C.2.1
  refine zl_iconst hx hb dX0_declare_65 ?_
  refine lv_goto (tgt := 80) hx hb dX0_declare_66 (by decide) ?_
  exact w_X0_declare_80 C hr hf hz (lv_sub hl [0, 1, 2, 3] rfl) hk

theorem w_X0_declare_43 {p : Program} {l : Launch} {e : Env} {R : Room} {s : State} {m : MethodId} {args : Array Value} {below : List Frame} {meth : Method} {c : Code} {Q : State → Prop} {E : PEw} {h0 h : HP} {H : Heap} {locs : List Loc} (C : PC E p s m args meth c RX0 cX0_declare 8 none "declare") (hr : 4 ≤ R.frames ∧ 91 ≤ R.locals ∧ RBw R h0) {x0 : Nat} {x1 : Nat} {x2 : Int} {t0 : Int} {t1 : Int} {res : HP} (hf : f_X0_declare_43 h x0 x1 x2 t0 t1 = some res) (hz : ZP E s h0 h H locs) {ls : Array Slot} (hl : lv_has ls 8 [(0, .ref x0), (1, .ref x1), (2, .int (zI x2))]) (hk : KP E below args s Q h0 res none) : W p l e R s m args below meth c H locs (pX h - pX h0) (pS h - pS h0) Q (F0 m 43 ls [.int (zI t0), .int (zI t1)]) := by
  unfold f_X0_declare_43 at hf
  have hx := C.1
  have hb := C.2.1
  refine zl_isub hx hb dX0_declare_43 ?_
  obtain ⟨y1, ey1, hf⟩ := bnd_inv hf
  refine zl_topi ey1 ?_
  refine lv_istore_n (lv' := [(3, .int (zI y1)), (0, .ref x0), (1, .ref x1), (2, .int (zI x2))]) hx hb dX0_declare_44 rfl hl (by decide) rfl (fun ls hl => ?_)
  refine lv_iload_n hx hb dX0_declare_45 rfl (lv_at hl 0 rfl) ?_
  refine zl_iconst hx hb dX0_declare_46 ?_
  refine zl_icmp_lt (tgt := 65) hx hb dX0_declare_47 (by decide) (fun hc => ?_) (fun hc => ?_)
  · rw [if_pos hc] at hf
    exact w_X0_declare_65 C hr hf hz (lv_sub hl [1, 2, 3, 0] rfl) hk
  · rw [if_neg hc] at hf
    refine lv_iload_n hx hb dX0_declare_50 rfl (lv_at hl 0 rfl) ?_
    refine zl_iconst hx hb dX0_declare_51 ?_
    refine zl_icmp_gt (tgt := 65) hx hb dX0_declare_52 (by decide) (fun hc => ?_) (fun hc => ?_)
    · rw [if_pos hc] at hf
      exact w_X0_declare_65 C hr hf hz (lv_sub hl [1, 2, 3, 0] rfl) hk
    · rw [if_neg hc] at hf
      refine lv_aload_n hx hb dX0_declare_55 rfl (lv_at hl 2 rfl) ?_
      refine zl_iconst hx hb dX0_declare_56 ?_
      obtain ⟨y2, ey2, hf⟩ := bd_inv hf
      refine zj_sAt C hz hr ey2 (rest := []) q884 q885 (C.w q886) q99 q887 hl.1 ⟨Nat.le_trans (by decide) hr.1, Nat.le_trans (by decide) hr.2.1⟩ (Nat.le_of_ble_eq_true rfl) dX0_declare_57 (fun H locs hz => ?_)
      refine zl_bipush hx hb dX0_declare_60 (by decide) ?_
      refine zl_icmp_eq (tgt := 69) hx hb dX0_declare_62 (by decide) (fun hc => ?_) (fun hc => ?_)
      · rw [if_pos hc] at hf
        refine zc_strW C 7 (by decide) rfl rfl dX0_declare_69 ?_
        refine lv_aload_n hx hb dX0_declare_72 rfl (lv_at hl 2 rfl) ?_
        refine zl_iconst hx hb dX0_declare_73 ?_
        obtain ⟨y3, ey3, hf⟩ := bd_inv hf
        refine zj_sAt C hz hr ey3 (rest := [.ref (sK E 7)]) q884 q885 (C.w q886) q99 q887 hl.1 ⟨Nat.le_trans (by decide) hr.1, Nat.le_trans (by decide) hr.2.1⟩ (Nat.le_of_ble_eq_true rfl) dX0_declare_74 (fun H locs hz => ?_)
        obtain ⟨hg, hf⟩ := gd_inv hf
        obtain ⟨y4, ey4, hf⟩ := bd_inv hf
        refine zg_callQ gP C hz hr (n := 1) (rest := []) hg (met_J6_indexOf l E ey4) q584 q585 (C.w q586) q100 q587 (by decide +kernel) ⟨Nat.le_trans (by decide) hr.1, Nat.le_trans (by decide) hr.2.1⟩ rfl hl.1 rfl (Nat.le_of_ble_eq_true rfl) dX0_declare_77 (fun H locs hz => ?_)
        exact w_X0_declare_80 C hr hf hz (lv_sub hl [1, 2, 3, 0] rfl) hk
      · rw [if_neg hc] at hf
        exact w_X0_declare_65 C hr hf hz (lv_sub hl [1, 2, 3, 0] rfl) hk

theorem w_X0_declare_27 {p : Program} {l : Launch} {e : Env} {R : Room} {s : State} {m : MethodId} {args : Array Value} {below : List Frame} {meth : Method} {c : Code} {Q : State → Prop} {E : PEw} {h0 h : HP} {H : Heap} {locs : List Loc} (C : PC E p s m args meth c RX0 cX0_declare 8 none "declare") (hr : 4 ≤ R.frames ∧ 91 ≤ R.locals ∧ RBw R h0) {x0 : Nat} {x1 : Nat} {t0 : Int} {res : HP} (hf : f_X0_declare_27 h x0 x1 t0 = some res) (hz : ZP E s h0 h H locs) {ls : Array Slot} (hl : lv_has ls 8 [(0, .ref x0), (1, .ref x1)]) (hk : KP E below args s Q h0 res none) : W p l e R s m args below meth c H locs (pX h - pX h0) (pS h - pS h0) Q (F0 m 27 ls [.int (zI t0)]) := by
  unfold f_X0_declare_27 at hf
  have hx := C.1
  have hb := C.2.1
  refine lv_istore_n (lv' := [(2, .int (zI t0)), (0, .ref x0), (1, .ref x1)]) hx hb dX0_declare_27 rfl hl (by decide) rfl (fun ls hl => ?_)
  refine lv_aload_n hx hb dX0_declare_28 rfl (lv_at hl 2 rfl) ?_
  obtain ⟨y1, ey1, hf⟩ := bd_inv hf
  refine zj_sLen C hz hr ey1 (rest := []) q883 q753 (C.w q754) q99 q755 hl.1 ⟨Nat.le_trans (by decide) hr.1, Nat.le_trans (by decide) hr.2.1⟩ (Nat.le_of_ble_eq_true rfl) dX0_declare_29 (fun H locs hz => ?_)
  refine zl_iconst hx hb dX0_declare_32 ?_
  refine zl_isub hx hb dX0_declare_33 ?_
  refine lv_iload_n hx hb dX0_declare_34 rfl (lv_at hl 0 rfl) ?_
  refine zl_if_eq (tgt := 42) hx hb dX0_declare_35 (by decide) (fun hc => ?_) (fun hc => ?_)
  · rw [if_pos hc] at hf
    refine zl_iconst hx hb dX0_declare_42 ?_
    exact w_X0_declare_43 C hr hf hz (lv_sub hl [1, 2, 0] rfl) hk
  · rw [if_neg hc] at hf
    refine zl_iconst hx hb dX0_declare_38 ?_
    refine lv_goto (tgt := 43) hx hb dX0_declare_39 (by decide) ?_
    exact w_X0_declare_43 C hr hf hz (lv_sub hl [1, 2, 0] rfl) hk

theorem w_X0_declare_26 {p : Program} {l : Launch} {e : Env} {R : Room} {s : State} {m : MethodId} {args : Array Value} {below : List Frame} {meth : Method} {c : Code} {Q : State → Prop} {E : PEw} {h0 h : HP} {H : Heap} {locs : List Loc} (C : PC E p s m args meth c RX0 cX0_declare 8 none "declare") (hr : 4 ≤ R.frames ∧ 91 ≤ R.locals ∧ RBw R h0) {x0 : Nat} {x1 : Nat} {res : HP} (hf : f_X0_declare_26 h x0 x1 = some res) (hz : ZP E s h0 h H locs) {ls : Array Slot} (hl : lv_has ls 8 [(0, .ref x0), (1, .ref x1)]) (hk : KP E below args s Q h0 res none) : W p l e R s m args below meth c H locs (pX h - pX h0) (pS h - pS h0) Q (F0 m 26 ls []) := by
  unfold f_X0_declare_26 at hf
  have hx := C.1
  have hb := C.2.1
  refine zl_iconst hx hb dX0_declare_26 ?_
  exact w_X0_declare_27 C hr hf hz (lv_sub hl [0, 1] rfl) hk

theorem w_X0_declare {p : Program} {l : Launch} {e : Env} {R : Room} {s : State} {m : MethodId} {args : Array Value} {below : List Frame} {meth : Method} {c : Code} {Q : State → Prop} {E : PEw} {h0 h : HP} {H : Heap} {locs : List Loc} (C : PC E p s m args meth c RX0 cX0_declare 8 none "declare") (hr : 4 ≤ R.frames ∧ 91 ≤ R.locals ∧ RBw R h0) {x0 : Nat} {x1 : Nat} {res : HP} (hf : f_X0_declare h x0 x1 = some res) (hz : ZP E s h0 h H locs) {ls : Array Slot} (hl : lv_has ls 8 [(0, .ref x0), (1, .ref x1)]) (hk : KP E below args s Q h0 res none) : W p l e R s m args below meth c H locs (pX h - pX h0) (pS h - pS h0) Q (F0 m 0 ls []) := by
  unfold f_X0_declare at hf
  have hx := C.1
  have hb := C.2.1
  refine lv_aload_n hx hb dX0_declare_0 rfl (lv_at hl 1 rfl) ?_
  obtain ⟨y1, ey1, hf⟩ := bd_inv hf
  refine zj_sLen C hz hr ey1 (rest := []) q883 q753 (C.w q754) q99 q755 hl.1 ⟨Nat.le_trans (by decide) hr.1, Nat.le_trans (by decide) hr.2.1⟩ (Nat.le_of_ble_eq_true rfl) dX0_declare_1 (fun H locs hz => ?_)
  refine zl_if_le (tgt := 26) hx hb dX0_declare_4 (by decide) (fun hc => ?_) (fun hc => ?_)
  · rw [if_pos hc] at hf
    refine lv_aload_n hx hb dX0_declare_7 rfl (lv_at hl 1 rfl) ?_
    refine lv_aload_n hx hb dX0_declare_8 rfl (lv_at hl 1 rfl) ?_
    obtain ⟨y2, ey2, hf⟩ := bd_inv hf
    refine zj_sLen C hz hr ey2 (rest := [.ref x1]) q883 q753 (C.w q754) q99 q755 hl.1 ⟨Nat.le_trans (by decide) hr.1, Nat.le_trans (by decide) hr.2.1⟩ (Nat.le_of_ble_eq_true rfl) dX0_declare_9 (fun H locs hz => ?_)
    refine zl_iconst hx hb dX0_declare_12 ?_
    refine zl_isub hx hb dX0_declare_13 ?_
    obtain ⟨y3, ey3, hf⟩ := bd_inv hf
    refine zj_sAt C hz hr ey3 (rest := []) q884 q885 (C.w q886) q99 q887 hl.1 ⟨Nat.le_trans (by decide) hr.1, Nat.le_trans (by decide) hr.2.1⟩ (Nat.le_of_ble_eq_true rfl) dX0_declare_14 (fun H locs hz => ?_)
    refine zl_bipush hx hb dX0_declare_17 (by decide) ?_
    refine zl_icmp_ne (tgt := 26) hx hb dX0_declare_19 (by decide) (fun hc => ?_) (fun hc => ?_)
    · rw [if_pos hc] at hf
      refine zl_iconst hx hb dX0_declare_22 ?_
      refine lv_goto (tgt := 27) hx hb dX0_declare_23 (by decide) ?_
      exact w_X0_declare_27 C hr hf hz (lv_sub hl [0, 1] rfl) hk
    · rw [if_neg hc] at hf
      exact w_X0_declare_26 C hr hf hz (lv_sub hl [0, 1] rfl) hk
  · rw [if_neg hc] at hf
    exact w_X0_declare_26 C hr hf hz (lv_sub hl [0, 1] rfl) hk

theorem met_X0_declare (l : Launch) (E : PEw) {h : HP} {x0 : Nat} {x1 : Nat} {res : HP} (hf : f_X0_declare h x0 x1 = some res) : Met l yX0_declare (ws_ yX0_declare cX0_declare 8 none) (rmP h 4 91) (PP E h [.ref x0, .ref x1]) (QP E h res none) (pX res - pX h) (pS res - pS h) (eF E) := by
  refine Met.ofW (cc := cX0_declare) (maxL := 8) (ret := none) (by decide) rfl ?_
  intro p e s m args below meth c s₁ B hml hv
  obtain ⟨rfl, hP0⟩ := hv
  have hts := atoms_spec (ws := ws_ yX0_declare cX0_declare 8 none) B.pre
  have hts : ∀ w ∈ lw_all, w.before _ s = true := fun w h => hts w (List.mem_cons_of_mem _ h)
  have C : PC E p s m _ meth c RX0 cX0_declare 8 none "declare" := ⟨B.exec, B.bytes, B.returns, B.notSynchronized, hml, findClass_of_methodNamed B.named, hts, hP0.2, (name_of_methodNamed B.named B.method).1⟩
  have hz : ZP E s h h s.heap [] := ZG.start hP0.1
  have hl := lv_entry ([.ref x0, .ref x1]) (n := 8) (Nat.le_of_ble_eq_true rfl)
  rw [lg_entry_eq]
  generalize (lg_sl ([.ref x0, .ref x1]) ++ List.replicate (8 - (lg_sl ([.ref x0, .ref x1])).length) Slot.unset).toArray = ls at hl ⊢
  have hl : lv_has ls 8 [(0, .ref x0), (1, .ref x1)] := hl
  refine W.cs (cells' := pX h - pX h) (slots' := pS h - pS h) (Nat.sub_self _).symm (Nat.sub_self _).symm ?_
  exact w_X0_declare C ⟨Nat.le_refl _, Nat.le_refl _, RBw.rm⟩ hf hz hl rfl

theorem w_X3_rule_77 {p : Program} {l : Launch} {e : Env} {R : Room} {s : State} {m : MethodId} {args : Array Value} {below : List Frame} {meth : Method} {c : Code} {Q : State → Prop} {E : PEw} {h0 h : HP} {H : Heap} {locs : List Loc} (C : PC E p s m args meth c RX3 cX3_rule 6 none "rule") (hr : 7 ≤ R.frames ∧ 175 ≤ R.locals ∧ RBw R h0) {x0 : Nat} {x1 : Nat} {x3 : Int} {t0 : Int} {t1 : Int} {res : (Int × Int) ⊕ (HP)} (hf : f_X3_rule_77 h x0 x1 x3 t0 t1 = some res) (hz : ZP E s h0 h H locs) {ls : Array Slot} (hl : lv_has ls 6 [(0, .ref x0), (1, .ref x1), (3, .int (zI x3))]) (hk : (Sum.elim (fun z => ∀ (H : Heap) (locs : List Loc) (ls : Array Slot), ZP E s h0 h H locs → lv_has ls 6 [(0, .ref x0), (1, .ref x1), (2, .int (zI z.1)), (3, .int (zI z.2))] → W p l e R s m args below meth c H locs (pX h - pX h0) (pS h - pS h0) Q (F0 m 29 ls [])) (fun r => KP E below args s Q h0 r none)) res) : W p l e R s m args below meth c H locs (pX h - pX h0) (pS h - pS h0) Q (F0 m 77 ls [.int (zI t0), .int (zI t1)]) := by
  unfold f_X3_rule_77 at hf
  have hx := C.1
  have hb := C.2.1
  refine zl_iadd hx hb dX3_rule_77 ?_
  obtain ⟨y1, ey1, hf⟩ := bnd_inv hf
  refine zl_topi ey1 ?_
  refine lv_istore_n (lv' := [(2, .int (zI y1)), (0, .ref x0), (1, .ref x1), (3, .int (zI x3))]) hx hb dX3_rule_78 rfl hl (by decide) rfl (fun ls hl => ?_)
  refine zl_iinc (x := x3) (n := 1) (lv' := [(3, .int (zI (x3 + 1))), (2, .int (zI y1)), (0, .ref x0), (1, .ref x1)]) (k := 3) hx hb dX3_rule_79 hl rfl (by decide) rfl (fun ls hl => ?_)
  refine lv_goto (tgt := 29) hx hb dX3_rule_82 (by decide) ?_
  obtain rfl := Option.some.inj hf
  exact hk _ _ _ hz (lv_sub hl [2, 3, 1, 0] rfl)

theorem w_X3_rule_198 {p : Program} {l : Launch} {e : Env} {R : Room} {s : State} {m : MethodId} {args : Array Value} {below : List Frame} {meth : Method} {c : Code} {Q : State → Prop} {E : PEw} {h0 h : HP} {H : Heap} {locs : List Loc} (C : PC E p s m args meth c RX3 cX3_rule 6 none "rule") (hr : 7 ≤ R.frames ∧ 175 ≤ R.locals ∧ RBw R h0) {x0 : Nat} {x3 : Nat} {x4 : Int} {res : (HP × Int) ⊕ (HP)} (hf : f_X3_rule_198 h x0 x3 x4 = some res) (hz : ZP E s h0 h H locs) {ls : Array Slot} (hl : lv_has ls 6 [(0, .ref x0), (3, .ref x3), (4, .int (zI x4))]) (hk : (Sum.elim (fun z => ∀ (H : Heap) (locs : List Loc) (ls : Array Slot), ZP E s h0 z.1 H locs → lv_has ls 6 [(0, .ref x0), (3, .ref x3), (4, .int (zI z.2))] → W p l e R s m args below meth c H locs (pX z.1 - pX h0) (pS z.1 - pS h0) Q (F0 m 115 ls [])) (fun r => KP E below args s Q h0 r none)) res) : W p l e R s m args below meth c H locs (pX h - pX h0) (pS h - pS h0) Q (F0 m 198 ls []) := by
  unfold f_X3_rule_198 at hf
  have hx := C.1
  have hb := C.2.1
  refine zl_iinc (x := x4) (n := 1) (lv' := [(4, .int (zI (x4 + 1))), (0, .ref x0), (3, .ref x3)]) (k := 2) hx hb dX3_rule_198 hl rfl (by decide) rfl (fun ls hl => ?_)
  refine lv_goto (tgt := 115) hx hb dX3_rule_201 (by decide) ?_
  obtain rfl := Option.some.inj hf
  exact hk _ _ _ hz (lv_sub hl [1, 2, 0] rfl)

theorem w_X3_rule_153 {p : Program} {l : Launch} {e : Env} {R : Room} {s : State} {m : MethodId} {args : Array Value} {below : List Frame} {meth : Method} {c : Code} {Q : State → Prop} {E : PEw} {h0 h : HP} {H : Heap} {locs : List Loc} (C : PC E p s m args meth c RX3 cX3_rule 6 none "rule") (hr : 7 ≤ R.frames ∧ 175 ≤ R.locals ∧ RBw R h0) {x0 : Nat} {x3 : Nat} {x4 : Int} {t0 : Int} {res : (HP × Int) ⊕ (HP)} (hf : f_X3_rule_153 h x0 x3 x4 t0 = some res) (hz : ZP E s h0 h H locs) {ls : Array Slot} (hl : lv_has ls 6 [(0, .ref x0), (3, .ref x3), (4, .int (zI x4))]) (hk : (Sum.elim (fun z => ∀ (H : Heap) (locs : List Loc) (ls : Array Slot), ZP E s h0 z.1 H locs → lv_has ls 6 [(0, .ref x0), (3, .ref x3), (4, .int (zI z.2))] → W p l e R s m args below meth c H locs (pX z.1 - pX h0) (pS z.1 - pS h0) Q (F0 m 115 ls [])) (fun r => KP E below args s Q h0 r none)) res) : W p l e R s m args below meth c H locs (pX h - pX h0) (pS h - pS h0) Q (F0 m 153 ls [.int (zI t0)]) := by
  unfold f_X3_rule_153 at hf
  have hx := C.1
  have hb := C.2.1
  refine lv_istore (lv' := [(5, .int (zI t0)), (0, .ref x0), (3, .ref x3), (4, .int (zI x4))]) hx hb dX3_rule_153 hl (by decide) rfl (fun ls hl => ?_)
  refine lv_iload hx hb dX3_rule_155 (lv_at hl 0 rfl) ?_
  refine zl_bipush hx hb dX3_rule_157 (by decide) ?_
  refine zl_icmp_ne (tgt := 181) hx hb dX3_rule_159 (by decide) (fun hc => ?_) (fun hc => ?_)
  · rw [if_pos hc] at hf
    refine lv_aload_n hx hb dX3_rule_162 rfl (lv_at hl 2 rfl) ?_
    refine lv_aload_n hx hb dX3_rule_163 rfl (lv_at hl 1 rfl) ?_
    obtain ⟨hg, hf⟩ := gd_inv hf
    refine zg_getp gP C hz 4 3 (gkp (by decide) hg) (by decide) (by decide) (Or.inl (C.w q282)) (fun _ h => h) dX3_rule_164 ?_
    obtain ⟨a1, ea1, hf⟩ := bd_inv hf
    rw [zx_rf ea1]
    obtain ⟨y2, ey2, hf⟩ := bd_inv hf
    refine zg_callSN gP C hz hr (n := 2) (rest := []) (met_X0_declare l E ey2) q947 q948 q89 q949 (by decide +kernel) ⟨Nat.le_trans (by decide) hr.1, Nat.le_trans (by decide) hr.2.1⟩ rfl hl.1 rfl (Nat.le_of_ble_eq_true rfl) dX3_rule_167 (fun H locs hz => ?_)
    refine lv_aload_n hx hb dX3_rule_170 rfl (lv_at hl 1 rfl) ?_
    obtain ⟨hg, hf⟩ := gd_inv hf
    refine zg_getp gP C hz 4 3 (gkp (by decide) hg) (by decide) (by decide) (Or.inl (C.w q282)) (fun _ h => h) dX3_rule_171 ?_
    refine zl_iconst hx hb dX3_rule_174 ?_
    obtain ⟨a3, ea3, hf⟩ := bd_inv hf
    rw [zx_rf ea3]
    obtain ⟨y4, ey4, hf⟩ := bd_inv hf
    refine zj_sSet C hz hr ey4 (rest := []) q474 q475 (C.w q476) q99 q477 hl.1 ⟨Nat.le_trans (by decide) hr.1, Nat.le_trans (by decide) hr.2.1⟩ (Nat.le_of_ble_eq_true rfl) dX3_rule_175 (fun H locs hz => ?_)
    refine lv_goto (tgt := 198) hx hb dX3_rule_178 (by decide) ?_
    exact w_X3_rule_198 C hr hf hz (lv_sub hl [1, 2, 3] rfl) hk
  · rw [if_neg hc] at hf
    refine lv_iload hx hb dX3_rule_181 (lv_at hl 0 rfl) ?_
    refine zl_bipush hx hb dX3_rule_183 (by decide) ?_
    refine zl_icmp_eq (tgt := 198) hx hb dX3_rule_185 (by decide) (fun hc => ?_) (fun hc => ?_)
    · rw [if_pos hc] at hf
      exact w_X3_rule_198 C hr hf hz (lv_sub hl [1, 2, 3] rfl) hk
    · rw [if_neg hc] at hf
      refine lv_aload_n hx hb dX3_rule_188 rfl (lv_at hl 1 rfl) ?_
      obtain ⟨hg, hf⟩ := gd_inv hf
      refine zg_getp gP C hz 4 3 (gkp (by decide) hg) (by decide) (by decide) (Or.inl (C.w q282)) (fun _ h => h) dX3_rule_189 ?_
      refine lv_iload hx hb dX3_rule_192 (lv_at hl 0 rfl) ?_
      obtain ⟨a5, ea5, hf⟩ := bd_inv hf
      rw [zx_rf ea5]
      obtain ⟨y6, ey6, hf⟩ := bd_inv hf
      refine zj_sApp C hz hr ey6 (rest := []) q956 q711 (C.w q712) q99 q713 hl.1 ⟨Nat.le_trans (by decide) hr.1, Nat.le_trans (by decide) hr.2.1⟩ (Nat.le_of_ble_eq_true rfl) dX3_rule_194 (fun H locs hz => ?_)
      refine lv_pop hx hb dX3_rule_197 rfl ?_
      exact w_X3_rule_198 C hr hf hz (lv_sub hl [1, 2, 3] rfl) hk

theorem w_X3_rule_115s {p : Program} {l : Launch} {e : Env} {R : Room} {s : State} {m : MethodId} {args : Array Value} {below : List Frame} {meth : Method} {c : Code} {Q : State → Prop} {E : PEw} {h0 h : HP} {H : Heap} {locs : List Loc} (C : PC E p s m args meth c RX3 cX3_rule 6 none "rule") (hr : 7 ≤ R.frames ∧ 175 ≤ R.locals ∧ RBw R h0) {x0 : Nat} {x3 : Nat} {x4 : Int} {res : (HP × Int) ⊕ (HP)} (hf : f_X3_rule_115s h x0 x3 x4 = some res) (hz : ZP E s h0 h H locs) {ls : Array Slot} (hl : lv_has ls 6 [(0, .ref x0), (3, .ref x3), (4, .int (zI x4))]) (hk : (Sum.elim (fun z => ∀ (H : Heap) (locs : List Loc) (ls : Array Slot), ZP E s h0 z.1 H locs → lv_has ls 6 [(0, .ref x0), (3, .ref x3), (4, .int (zI z.2))] → W p l e R s m args below meth c H locs (pX z.1 - pX h0) (pS z.1 - pS h0) Q (F0 m 115 ls [])) (fun r => KP E below args s Q h0 r none)) res) : W p l e R s m args below meth c H locs (pX h - pX h0) (pS h - pS h0) Q (F0 m 115 ls []) := by
  unfold f_X3_rule_115s at hf
  have hx := C.1
  have hb := C.2.1
  refine lv_iload hx hb dX3_rule_115 (lv_at hl 2 rfl) ?_
  refine lv_aload_n hx hb dX3_rule_117 rfl (lv_at hl 0 rfl) ?_
  obtain ⟨hg, hf⟩ := gd_inv hf
  refine zg_getp gP C hz 4 2 (gkp (by decide) hg) (by decide) (by decide) (Or.inl (C.w q281)) (fun _ h => h) dX3_rule_118 ?_
  obtain ⟨a1, ea1, hf⟩ := bd_inv hf
  rw [zx_rf ea1]
  obtain ⟨y2, ey2, hf⟩ := bd_inv hf
  refine zj_sLen C hz hr ey2 (rest := [.int (zI x4)]) q919 q753 (C.w q754) q99 q755 hl.1 ⟨Nat.le_trans (by decide) hr.1, Nat.le_trans (by decide) hr.2.1⟩ (Nat.le_of_ble_eq_true rfl) dX3_rule_121 (fun H locs hz => ?_)
  refine zl_icmp_gt (tgt := 204) hx hb dX3_rule_124 (by decide) (fun hc => ?_) (fun hc => ?_)
  · rw [if_pos hc] at hf
    obtain rfl := Option.some.inj hf
    exact zg_vret C hz hk dX3_rule_204
  · rw [if_neg hc] at hf
    refine lv_iload hx hb dX3_rule_127 (lv_at hl 2 rfl) ?_
    refine lv_aload_n hx hb dX3_rule_129 rfl (lv_at hl 0 rfl) ?_
    obtain ⟨hg, hf⟩ := gd_inv hf
    refine zg_getp gP C hz 4 2 (gkp (by decide) hg) (by decide) (by decide) (Or.inl (C.w q281)) (fun _ h => h) dX3_rule_130 ?_
    obtain ⟨a3, ea3, hf⟩ := bd_inv hf
    rw [zx_rf ea3]
    obtain ⟨y4, ey4, hf⟩ := bd_inv hf
    refine zj_sLen C hz hr ey4 (rest := [.int (zI x4)]) q919 q753 (C.w q754) q99 q755 hl.1 ⟨Nat.le_trans (by decide) hr.1, Nat.le_trans (by decide) hr.2.1⟩ (Nat.le_of_ble_eq_true rfl) dX3_rule_133 (fun H locs hz => ?_)
    refine zl_icmp_ge (tgt := 151) hx hb dX3_rule_136 (by decide) (fun hc => ?_) (fun hc => ?_)
    · rw [if_pos hc] at hf
      refine lv_aload_n hx hb dX3_rule_139 rfl (lv_at hl 0 rfl) ?_
      obtain ⟨hg, hf⟩ := gd_inv hf
      refine zg_getp gP C hz 4 2 (gkp (by decide) hg) (by decide) (by decide) (Or.inl (C.w q281)) (fun _ h => h) dX3_rule_140 ?_
      refine lv_iload hx hb dX3_rule_143 (lv_at hl 2 rfl) ?_
      obtain ⟨a5, ea5, hf⟩ := bd_inv hf
      rw [zx_rf ea5]
      obtain ⟨y6, ey6, hf⟩ := bd_inv hf
      refine zj_sAt C hz hr ey6 (rest := []) q920 q885 (C.w q886) q99 q887 hl.1 ⟨Nat.le_trans (by decide) hr.1, Nat.le_trans (by decide) hr.2.1⟩ (Nat.le_of_ble_eq_true rfl) dX3_rule_145 (fun H locs hz => ?_)
      refine lv_goto (tgt := 153) hx hb dX3_rule_148 (by decide) ?_
      exact w_X3_rule_153 C hr hf hz (lv_sub hl [0, 1, 2] rfl) hk
    · rw [if_neg hc] at hf
      refine zl_bipush hx hb dX3_rule_151 (by decide) ?_
      exact w_X3_rule_153 C hr hf hz (lv_sub hl [0, 1, 2] rfl) hk

theorem w_X3_rule_115 {p : Program} {l : Launch} {e : Env} {R : Room} {s : State} {m : MethodId} {args : Array Value} {below : List Frame} {meth : Method} {c : Code} {Q : State → Prop} {E : PEw} {h0 h : HP} {H : Heap} {locs : List Loc} (C : PC E p s m args meth c RX3 cX3_rule 6 none "rule") (hr : 7 ≤ R.frames ∧ 175 ≤ R.locals ∧ RBw R h0) {x0 : Nat} {x3 : Nat} {x4 : Int} {res : HP} (hf : f_X3_rule_115 h x0 x3 x4 = some res) (hz : ZP E s h0 h H locs) {ls : Array Slot} (hl : lv_has ls 6 [(0, .ref x0), (3, .ref x3), (4, .int (zI x4))]) (hk : KP E below args s Q h0 res none) : W p l e R s m args below meth c H locs (pX h - pX h0) (pS h - pS h0) Q (F0 m 115 ls []) := by
  unfold f_X3_rule_115 at hf
  refine iter_ind (P := fun z r => ∀ (H : Heap) (locs : List Loc) (ls : Array Slot), ZP E s h0 z.1 H locs → lv_has ls 6 [(0, .ref x0), (3, .ref x3), (4, .int (zI z.2))] → KP E below args s Q h0 r none → W p l e R s m args below meth c H locs (pX z.1 - pX h0) (pS z.1 - pS h0) Q (F0 m 115 ls [])) ?_ ?_ hf H locs ls hz hl hk
  · intro z r h1 H locs ls hz hl hk; exact w_X3_rule_115s C hr h1 hz hl hk
  · intro z z1 r h1 ih H locs ls hz hl hk; exact w_X3_rule_115s C hr h1 hz hl (fun H locs ls hz hl => ih H locs ls hz hl hk)

theorem w_X3_rule_85 {p : Program} {l : Launch} {e : Env} {R : Room} {s : State} {m : MethodId} {args : Array Value} {below : List Frame} {meth : Method} {c : Code} {Q : State → Prop} {E : PEw} {h0 h : HP} {H : Heap} {locs : List Loc} (C : PC E p s m args meth c RX3 cX3_rule 6 none "rule") (hr : 7 ≤ R.frames ∧ 175 ≤ R.locals ∧ RBw R h0) {x0 : Nat} {x1 : Nat} {x2 : Int} {res : HP} (hf : f_X3_rule_85 h x0 x1 x2 = some res) (hz : ZP E s h0 h H locs) {ls : Array Slot} (hl : lv_has ls 6 [(0, .ref x0), (1, .ref x1), (2, .int (zI x2))]) (hk : KP E below args s Q h0 res none) : W p l e R s m args below meth c H locs (pX h - pX h0) (pS h - pS h0) Q (F0 m 85 ls []) := by
  unfold f_X3_rule_85 at hf
  have hx := C.1
  have hb := C.2.1
  obtain ⟨a1, ea1, hf⟩ := bnd_inv hf
  obtain ⟨hg, hf⟩ := gd_inv hf
  obtain ⟨h2, eh2, hf⟩ := bnd_inv hf
  refine zg_new gP C hz hr 7 (by decide) hg q923 q924 q115 dX3_rule_85 ea1 eh2 (fun H hz => ?_)
  refine lv_dup hx hb dX3_rule_88 rfl ?_
  refine lv_aload_n hx hb dX3_rule_89 rfl (lv_at hl 1 rfl) ?_
  refine lv_iload_n hx hb dX3_rule_90 rfl (lv_at hl 2 rfl) ?_
  obtain ⟨y3, ey3, hf⟩ := bd_inv hf
  refine zg_callI gP C hz hr (n := 2) (rest := [.ref a1]) (met_X8_init l E ey3) q925 q926 q115 q927 (by decide +kernel) ⟨Nat.le_trans (by decide) hr.1, Nat.le_trans (by decide) hr.2.1⟩ rfl hl.1 rfl (Nat.le_of_ble_eq_true rfl) dX3_rule_91 (fun H locs hz => ?_)
  refine lv_astore_n (lv' := [(3, .ref a1), (0, .ref x0), (1, .ref x1), (2, .int (zI x2))]) hx hb dX3_rule_94 rfl hl (by decide) rfl (fun ls hl => ?_)
  refine lv_aload_n hx hb dX3_rule_95 rfl (lv_at hl 1 rfl) ?_
  obtain ⟨hg, hf⟩ := gd_inv hf
  refine zg_getp gP C hz 4 0 (gkp (by decide) hg) (by decide) (by decide) (Or.inl (C.w q278)) (fun _ h => h) dX3_rule_96 ?_
  refine lv_aload_n hx hb dX3_rule_99 rfl (lv_at hl 0 rfl) ?_
  obtain ⟨a4, ea4, hf⟩ := bd_inv hf
  rw [zx_rf ea4]
  obtain ⟨y5, ey5, hf⟩ := bd_inv hf
  refine zj_lAdd C hz hr ey5 (rest := []) q946 q339 (C.w q340) q94 q341 hl.1 ⟨Nat.le_trans (by decide) hr.1, Nat.le_trans (by decide) hr.2.1⟩ (Nat.le_of_ble_eq_true rfl) dX3_rule_100 (fun H locs hz => ?_)
  refine lv_pop hx hb dX3_rule_103 rfl ?_
  refine lv_aload_n hx hb dX3_rule_104 rfl (lv_at hl 1 rfl) ?_
  obtain ⟨hg, hf⟩ := gd_inv hf
  refine zg_getp gP C hz 4 3 (gkp (by decide) hg) (by decide) (by decide) (Or.inl (C.w q282)) (fun _ h => h) dX3_rule_105 ?_
  refine zl_iconst hx hb dX3_rule_108 ?_
  obtain ⟨a6, ea6, hf⟩ := bd_inv hf
  rw [zx_rf ea6]
  obtain ⟨y7, ey7, hf⟩ := bd_inv hf
  refine zj_sSet C hz hr ey7 (rest := []) q474 q475 (C.w q476) q99 q477 hl.1 ⟨Nat.le_trans (by decide) hr.1, Nat.le_trans (by decide) hr.2.1⟩ (Nat.le_of_ble_eq_true rfl) dX3_rule_109 (fun H locs hz => ?_)
  refine zl_iconst hx hb dX3_rule_112 ?_
  refine lv_istore (lv' := [(4, .int (zI 0)), (3, .ref a1), (0, .ref x0), (1, .ref x1), (2, .int (zI x2))]) hx hb dX3_rule_113 hl (by decide) rfl (fun ls hl => ?_)
  exact w_X3_rule_115 C hr hf hz (lv_sub hl [2, 1, 0] rfl) hk

theorem w_X3_rule_29s {p : Program} {l : Launch} {e : Env} {R : Room} {s : State} {m : MethodId} {args : Array Value} {below : List Frame} {meth : Method} {c : Code} {Q : State → Prop} {E : PEw} {h0 h : HP} {H : Heap} {locs : List Loc} (C : PC E p s m args meth c RX3 cX3_rule 6 none "rule") (hr : 7 ≤ R.frames ∧ 175 ≤ R.locals ∧ RBw R h0) {x0 : Nat} {x1 : Nat} {x2 : Int} {x3 : Int} {res : (Int × Int) ⊕ (HP)} (hf : f_X3_rule_29s h x0 x1 x2 x3 = some res) (hz : ZP E s h0 h H locs) {ls : Array Slot} (hl : lv_has ls 6 [(0, .ref x0), (1, .ref x1), (2, .int (zI x2)), (3, .int (zI x3))]) (hk : (Sum.elim (fun z => ∀ (H : Heap) (locs : List Loc) (ls : Array Slot), ZP E s h0 h H locs → lv_has ls 6 [(0, .ref x0), (1, .ref x1), (2, .int (zI z.1)), (3, .int (zI z.2))] → W p l e R s m args below meth c H locs (pX h - pX h0) (pS h - pS h0) Q (F0 m 29 ls [])) (fun r => KP E below args s Q h0 r none)) res) : W p l e R s m args below meth c H locs (pX h - pX h0) (pS h - pS h0) Q (F0 m 29 ls []) := by
  unfold f_X3_rule_29s at hf
  have hx := C.1
  have hb := C.2.1
  refine lv_iload_n hx hb dX3_rule_29 rfl (lv_at hl 3 rfl) ?_
  refine lv_aload_n hx hb dX3_rule_30 rfl (lv_at hl 0 rfl) ?_
  obtain ⟨hg, hf⟩ := gd_inv hf
  refine zg_getp gP C hz 4 1 (gkp (by decide) hg) (by decide) (by decide) (Or.inl (C.w q280)) (fun _ h => h) dX3_rule_31 ?_
  obtain ⟨a1, ea1, hf⟩ := bd_inv hf
  rw [zx_rf ea1]
  obtain ⟨y2, ey2, hf⟩ := bd_inv hf
  refine zj_sLen C hz hr ey2 (rest := [.int (zI x3)]) q919 q753 (C.w q754) q99 q755 hl.1 ⟨Nat.le_trans (by decide) hr.1, Nat.le_trans (by decide) hr.2.1⟩ (Nat.le_of_ble_eq_true rfl) dX3_rule_34 (fun H locs hz => ?_)
  refine zl_icmp_ge (tgt := 85) hx hb dX3_rule_37 (by decide) (fun hc => ?_) (fun hc => ?_)
  · rw [if_pos hc] at hf
    refine lv_aload_n hx hb dX3_rule_40 rfl (lv_at hl 0 rfl) ?_
    obtain ⟨hg, hf⟩ := gd_inv hf
    refine zg_getp gP C hz 4 1 (gkp (by decide) hg) (by decide) (by decide) (Or.inl (C.w q280)) (fun _ h => h) dX3_rule_41 ?_
    refine lv_iload_n hx hb dX3_rule_44 rfl (lv_at hl 3 rfl) ?_
    obtain ⟨a3, ea3, hf⟩ := bd_inv hf
    rw [zx_rf ea3]
    obtain ⟨y4, ey4, hf⟩ := bd_inv hf
    refine zj_sAt C hz hr ey4 (rest := []) q920 q885 (C.w q886) q99 q887 hl.1 ⟨Nat.le_trans (by decide) hr.1, Nat.le_trans (by decide) hr.2.1⟩ (Nat.le_of_ble_eq_true rfl) dX3_rule_45 (fun H locs hz => ?_)
    refine lv_istore (lv' := [(4, .int (zI y4)), (0, .ref x0), (1, .ref x1), (2, .int (zI x2)), (3, .int (zI x3))]) hx hb dX3_rule_48 hl (by decide) rfl (fun ls hl => ?_)
    refine lv_iload_n hx hb dX3_rule_50 rfl (lv_at hl 3 rfl) ?_
    refine lv_iload hx hb dX3_rule_51 (lv_at hl 0 rfl) ?_
    obtain ⟨y5, ey5, hf⟩ := bd_inv hf
    refine zg_callSN gP C hz hr (n := 1) (rest := [.int (zI x2)]) (met_X0_capital l E ey5) q921 q808 q89 q809 (by decide +kernel) ⟨Nat.le_trans (by decide) hr.1, Nat.le_trans (by decide) hr.2.1⟩ rfl hl.1 rfl (Nat.le_of_ble_eq_true rfl) dX3_rule_53 (fun H locs hz => ?_)
    refine zl_if_eq (tgt := 64) hx hb dX3_rule_56 (by decide) (fun hc => ?_) (fun hc => ?_)
    · rw [if_pos hc] at hf
      refine lv_iload hx hb dX3_rule_64 (lv_at hl 0 rfl) ?_
      obtain ⟨y6, ey6, hf⟩ := bd_inv hf
      refine zg_callSN gP C hz hr (n := 1) (rest := [.int (zI x2)]) (met_X0_small l E ey6) q922 q793 q89 q794 (by decide +kernel) ⟨Nat.le_trans (by decide) hr.1, Nat.le_trans (by decide) hr.2.1⟩ rfl hl.1 rfl (Nat.le_of_ble_eq_true rfl) dX3_rule_66 (fun H locs hz => ?_)
      refine zl_if_eq (tgt := 76) hx hb dX3_rule_69 (by decide) (fun hc => ?_) (fun hc => ?_)
      · rw [if_pos hc] at hf
        refine zl_iconst hx hb dX3_rule_76 ?_
        exact w_X3_rule_77 C hr hf hz (lv_sub hl [1, 2, 4] rfl) hk
      · rw [if_neg hc] at hf
        refine zl_iconst hx hb dX3_rule_72 ?_
        refine lv_goto (tgt := 77) hx hb dX3_rule_73 (by decide) ?_
        exact w_X3_rule_77 C hr hf hz (lv_sub hl [1, 2, 4] rfl) hk
    · rw [if_neg hc] at hf
      refine zl_bipush hx hb dX3_rule_59 (by decide) ?_
      refine lv_goto (tgt := 77) hx hb dX3_rule_61 (by decide) ?_
      exact w_X3_rule_77 C hr hf hz (lv_sub hl [1, 2, 4] rfl) hk
  · rw [if_neg hc] at hf
    obtain ⟨r0, hm0, rfl⟩ := mr_inv hf
    exact w_X3_rule_85 C hr hm0 hz (lv_sub hl [0, 1, 2] rfl) hk

theorem w_X3_rule_29 {p : Program} {l : Launch} {e : Env} {R : Room} {s : State} {m : MethodId} {args : Array Value} {below : List Frame} {meth : Method} {c : Code} {Q : State → Prop} {E : PEw} {h0 h : HP} {H : Heap} {locs : List Loc} (C : PC E p s m args meth c RX3 cX3_rule 6 none "rule") (hr : 7 ≤ R.frames ∧ 175 ≤ R.locals ∧ RBw R h0) {x0 : Nat} {x1 : Nat} {x2 : Int} {x3 : Int} {res : HP} (hf : f_X3_rule_29 h x0 x1 x2 x3 = some res) (hz : ZP E s h0 h H locs) {ls : Array Slot} (hl : lv_has ls 6 [(0, .ref x0), (1, .ref x1), (2, .int (zI x2)), (3, .int (zI x3))]) (hk : KP E below args s Q h0 res none) : W p l e R s m args below meth c H locs (pX h - pX h0) (pS h - pS h0) Q (F0 m 29 ls []) := by
  unfold f_X3_rule_29 at hf
  refine iter_ind (P := fun z r => ∀ (H : Heap) (locs : List Loc) (ls : Array Slot), ZP E s h0 h H locs → lv_has ls 6 [(0, .ref x0), (1, .ref x1), (2, .int (zI z.1)), (3, .int (zI z.2))] → KP E below args s Q h0 r none → W p l e R s m args below meth c H locs (pX h - pX h0) (pS h - pS h0) Q (F0 m 29 ls [])) ?_ ?_ hf H locs ls hz hl hk
  · intro z r h1 H locs ls hz hl hk; exact w_X3_rule_29s C hr h1 hz hl hk
  · intro z z1 r h1 ih H locs ls hz hl hk; exact w_X3_rule_29s C hr h1 hz hl (fun H locs ls hz hl => ih H locs ls hz hl hk)

theorem w_X3_rule {p : Program} {l : Launch} {e : Env} {R : Room} {s : State} {m : MethodId} {args : Array Value} {below : List Frame} {meth : Method} {c : Code} {Q : State → Prop} {E : PEw} {h0 h : HP} {H : Heap} {locs : List Loc} (C : PC E p s m args meth c RX3 cX3_rule 6 none "rule") (hr : 7 ≤ R.frames ∧ 175 ≤ R.locals ∧ RBw R h0) {x0 : Nat} {res : HP} (hf : f_X3_rule h x0 = some res) (hz : ZP E s h0 h H locs) {ls : Array Slot} (hl : lv_has ls 6 [(0, .ref x0)]) (hk : KP E below args s Q h0 res none) : W p l e R s m args below meth c H locs (pX h - pX h0) (pS h - pS h0) Q (F0 m 0 ls []) := by
  unfold f_X3_rule at hf
  have hx := C.1
  have hb := C.2.1
  refine lv_aload_n hx hb dX3_rule_0 rfl (lv_at hl 0 rfl) ?_
  obtain ⟨hg, hf⟩ := gd_inv hf
  refine zg_getp gP C hz 4 1 (gkp (by decide) hg) (by decide) (by decide) (Or.inl (C.w q280)) (fun _ h => h) dX3_rule_1 ?_
  obtain ⟨a1, ea1, hf⟩ := bd_inv hf
  rw [zx_rf ea1]
  obtain ⟨y2, ey2, hf⟩ := bd_inv hf
  refine zg_callSN gP C hz hr (n := 1) (rest := []) (met_X0_read l E ey2) q877 q878 q89 q879 (by decide +kernel) ⟨Nat.le_trans (by decide) hr.1, Nat.le_trans (by decide) hr.2.1⟩ rfl hl.1 rfl (Nat.le_of_ble_eq_true rfl) dX3_rule_4 (fun H locs hz => ?_)
  refine zl_astore_n_o (lv' := [(1, va_rf y2.2), (0, .ref x0)]) hx hb dX3_rule_7 rfl hl (by decide) rfl (fun ls hl => ?_)
  refine zl_aload_n_o hx hb dX3_rule_8 rfl (lv_at hl 0 rfl) ?_
  rcases nl_inv hf with ⟨ho, hf⟩ | ⟨a3, ho, hf⟩
  · rw [zx_nul ho]
    refine lv_ifnullN (tgt := 24) hx hb dX3_rule_9 (by decide) ?_
    obtain rfl := Option.some.inj hf
    exact zg_vret C hz hk dX3_rule_24
  · rw [zx_rf ho] at hl ⊢
    refine lv_ifnull hx hb dX3_rule_9 ?_
    refine lv_aload_n hx hb dX3_rule_12 rfl (lv_at hl 1 rfl) ?_
    obtain ⟨hg, hf⟩ := gd_inv hf
    refine zg_getp gP C hz 4 0 (gkp (by decide) hg) (by decide) (by decide) (Or.inl (C.w q278)) (fun _ h => h) dX3_rule_13 ?_
    obtain ⟨a4, ea4, hf⟩ := bd_inv hf
    rw [zx_rf ea4]
    obtain ⟨y5, ey5, hf⟩ := bd_inv hf
    refine zj_lLen C hz hr ey5 (rest := []) q918 q550 (C.w q551) q94 q552 hl.1 ⟨Nat.le_trans (by decide) hr.1, Nat.le_trans (by decide) hr.2.1⟩ (Nat.le_of_ble_eq_true rfl) dX3_rule_16 (fun H locs hz => ?_)
    refine zl_bipush hx hb dX3_rule_19 (by decide) ?_
    refine zl_icmp_ne (tgt := 25) hx hb dX3_rule_21 (by decide) (fun hc => ?_) (fun hc => ?_)
    · rw [if_pos hc] at hf
      obtain rfl := Option.some.inj hf
      exact zg_vret C hz hk dX3_rule_24
    · rw [if_neg hc] at hf
      refine zl_iconst hx hb dX3_rule_25 ?_
      refine lv_istore_n (lv' := [(2, .int (zI 0)), (1, .ref a3), (0, .ref x0)]) hx hb dX3_rule_26 rfl hl (by decide) rfl (fun ls hl => ?_)
      refine zl_iconst hx hb dX3_rule_27 ?_
      refine lv_istore_n (lv' := [(3, .int (zI 0)), (2, .int (zI 0)), (1, .ref a3), (0, .ref x0)]) hx hb dX3_rule_28 rfl hl (by decide) rfl (fun ls hl => ?_)
      exact w_X3_rule_29 C hr hf hz (lv_sub hl [3, 2, 1, 0] rfl) hk

theorem met_X3_rule (l : Launch) (E : PEw) {h : HP} {x0 : Nat} {res : HP} (hf : f_X3_rule h x0 = some res) : Met l yX3_rule (ws_ yX3_rule cX3_rule 6 none) (rmP h 7 175) (PP E h [.ref x0]) (QP E h res none) (pX res - pX h) (pS res - pS h) (eF E) := by
  refine Met.ofW (cc := cX3_rule) (maxL := 6) (ret := none) (by decide) rfl ?_
  intro p e s m args below meth c s₁ B hml hv
  obtain ⟨rfl, hP0⟩ := hv
  have hts := atoms_spec (ws := ws_ yX3_rule cX3_rule 6 none) B.pre
  have hts : ∀ w ∈ lw_all, w.before _ s = true := fun w h => hts w (List.mem_cons_of_mem _ h)
  have C : PC E p s m _ meth c RX3 cX3_rule 6 none "rule" := ⟨B.exec, B.bytes, B.returns, B.notSynchronized, hml, findClass_of_methodNamed B.named, hts, hP0.2, (name_of_methodNamed B.named B.method).1⟩
  have hz : ZP E s h h s.heap [] := ZG.start hP0.1
  have hl := lv_entry ([.ref x0]) (n := 6) (Nat.le_of_ble_eq_true rfl)
  rw [lg_entry_eq]
  generalize (lg_sl ([.ref x0]) ++ List.replicate (6 - (lg_sl ([.ref x0])).length) Slot.unset).toArray = ls at hl ⊢
  have hl : lv_has ls 6 [(0, .ref x0)] := hl
  refine W.cs (cells' := pX h - pX h) (slots' := pS h - pS h) (Nat.sub_self _).symm (Nat.sub_self _).symm ?_
  exact w_X3_rule C ⟨Nat.le_refl _, Nat.le_refl _, RBw.rm⟩ hf hz hl rfl

