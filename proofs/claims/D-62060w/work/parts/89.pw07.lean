set_option maxRecDepth 100000
theorem w_X0_side_53 {p : Program} {l : Launch} {e : Env} {R : Room} {s : State} {m : MethodId} {args : Array Value} {below : List Frame} {meth : Method} {c : Code} {Q : State → Prop} {E : PEw} {h0 h : HP} {H : Heap} {locs : List Loc} {rc : RC_lay} (C : PC E p s m args meth c RX0 cX0_side 9 none "side") {N : Nat} (hrc : RK_lay l E N rc) (hr : 7 * (N + 1) ≤ R.frames ∧ 163 * (N + 1) ≤ R.locals ∧ RBw R h0) {x0 : Nat} {x1 : Nat} {x3 : Int} {t0 : Int} {t1 : Int} {res : (Int × Int) ⊕ (HP)} (hf : f_X0_side_53 rc h x0 x1 x3 t0 t1 = some res) (hz : ZP E s h0 h H locs) {ls : Array Slot} (hl : lv_has ls 9 [(0, .ref x0), (1, .ref x1), (3, .int (zI x3))]) (hk : (Sum.elim (fun z => ∀ (H : Heap) (locs : List Loc) (ls : Array Slot), ZP E s h0 h H locs → lv_has ls 9 [(0, .ref x0), (1, .ref x1), (2, .int (zI z.1)), (3, .int (zI z.2))] → W p l e R s m args below meth c H locs (pX h - pX h0) (pS h - pS h0) Q (F0 m 4 ls [])) (fun r => KP E below args s Q h0 r none)) res) : W p l e R s m args below meth c H locs (pX h - pX h0) (pS h - pS h0) Q (F0 m 53 ls [.int (zI t0), .int (zI t1)]) := by
  unfold f_X0_side_53 at hf
  have hx := C.1
  have hb := C.2.1
  refine zl_iadd hx hb dX0_side_53 ?_
  obtain ⟨y1, ey1, hf⟩ := bnd_inv hf
  refine zl_topi ey1 ?_
  refine lv_istore_n (lv' := [(2, .int (zI y1)), (0, .ref x0), (1, .ref x1), (3, .int (zI x3))]) hx hb dX0_side_54 rfl hl (by decide) rfl (fun ls hl => ?_)
  refine zl_iinc (x := x3) (n := 1) (lv' := [(3, .int (zI (x3 + 1))), (2, .int (zI y1)), (0, .ref x0), (1, .ref x1)]) (k := 3) hx hb dX0_side_55 hl rfl (by decide) rfl (fun ls hl => ?_)
  refine lv_goto (tgt := 4) hx hb dX0_side_58 (by decide) ?_
  obtain rfl := Option.some.inj hf
  exact hk _ _ _ hz (lv_sub hl [2, 3, 1, 0] rfl)

theorem w_X0_side_52 {p : Program} {l : Launch} {e : Env} {R : Room} {s : State} {m : MethodId} {args : Array Value} {below : List Frame} {meth : Method} {c : Code} {Q : State → Prop} {E : PEw} {h0 h : HP} {H : Heap} {locs : List Loc} {rc : RC_lay} (C : PC E p s m args meth c RX0 cX0_side 9 none "side") {N : Nat} (hrc : RK_lay l E N rc) (hr : 7 * (N + 1) ≤ R.frames ∧ 163 * (N + 1) ≤ R.locals ∧ RBw R h0) {x0 : Nat} {x1 : Nat} {x3 : Int} {t0 : Int} {res : (Int × Int) ⊕ (HP)} (hf : f_X0_side_52 rc h x0 x1 x3 t0 = some res) (hz : ZP E s h0 h H locs) {ls : Array Slot} (hl : lv_has ls 9 [(0, .ref x0), (1, .ref x1), (3, .int (zI x3))]) (hk : (Sum.elim (fun z => ∀ (H : Heap) (locs : List Loc) (ls : Array Slot), ZP E s h0 h H locs → lv_has ls 9 [(0, .ref x0), (1, .ref x1), (2, .int (zI z.1)), (3, .int (zI z.2))] → W p l e R s m args below meth c H locs (pX h - pX h0) (pS h - pS h0) Q (F0 m 4 ls [])) (fun r => KP E below args s Q h0 r none)) res) : W p l e R s m args below meth c H locs (pX h - pX h0) (pS h - pS h0) Q (F0 m 52 ls [.int (zI t0)]) := by
  unfold f_X0_side_52 at hf
  have hx := C.1
  have hb := C.2.1
  refine zl_iconst hx hb dX0_side_52 ?_
  exact w_X0_side_53 C hrc hr hf hz (lv_sub hl [0, 1, 2] rfl) hk

theorem w_X0_side_191 {p : Program} {l : Launch} {e : Env} {R : Room} {s : State} {m : MethodId} {args : Array Value} {below : List Frame} {meth : Method} {c : Code} {Q : State → Prop} {E : PEw} {h0 h : HP} {H : Heap} {locs : List Loc} {rc : RC_lay} (C : PC E p s m args meth c RX0 cX0_side 9 none "side") {N : Nat} (hrc : RK_lay l E N rc) (hr : 7 * (N + 1) ≤ R.frames ∧ 163 * (N + 1) ≤ R.locals ∧ RBw R h0) {x0 : Nat} {x1 : Nat} {x2 : Int} {x3 : Int} {x4 : Int} {x5 : Int} {res : (HP × Int × Int) ⊕ (HP)} (hf : f_X0_side_191 rc h x0 x1 x2 x3 x4 x5 = some res) (hz : ZP E s h0 h H locs) {ls : Array Slot} (hl : lv_has ls 9 [(0, .ref x0), (1, .ref x1), (2, .int (zI x2)), (3, .int (zI x3)), (4, .int (zI x4)), (5, .int (zI x5))]) (hk : (Sum.elim (fun z => ∀ (H : Heap) (locs : List Loc) (ls : Array Slot), ZP E s h0 z.1 H locs → lv_has ls 9 [(0, .ref x0), (1, .ref x1), (2, .int (zI x2)), (3, .int (zI z.2.1)), (4, .int (zI x4)), (5, .int (zI z.2.2))] → W p l e R s m args below meth c H locs (pX z.1 - pX h0) (pS z.1 - pS h0) Q (F0 m 72 ls [])) (fun r => KP E below args s Q h0 r none)) res) : W p l e R s m args below meth c H locs (pX h - pX h0) (pS h - pS h0) Q (F0 m 191 ls []) := by
  unfold f_X0_side_191 at hf
  have hx := C.1
  have hb := C.2.1
  refine zl_iinc (x := x5) (n := 1) (lv' := [(5, .int (zI (x5 + 1))), (0, .ref x0), (1, .ref x1), (2, .int (zI x2)), (3, .int (zI x3)), (4, .int (zI x4))]) (k := 5) hx hb dX0_side_191 hl rfl (by decide) rfl (fun ls hl => ?_)
  refine lv_goto (tgt := 72) hx hb dX0_side_194 (by decide) ?_
  obtain rfl := Option.some.inj hf
  exact hk _ _ _ hz (lv_sub hl [1, 2, 3, 4, 5, 0] rfl)

theorem w_X0_side_72s {p : Program} {l : Launch} {e : Env} {R : Room} {s : State} {m : MethodId} {args : Array Value} {below : List Frame} {meth : Method} {c : Code} {Q : State → Prop} {E : PEw} {h0 h : HP} {H : Heap} {locs : List Loc} {rc : RC_lay} (C : PC E p s m args meth c RX0 cX0_side 9 none "side") {N : Nat} (hrc : RK_lay l E N rc) (hr : 7 * (N + 1) ≤ R.frames ∧ 163 * (N + 1) ≤ R.locals ∧ RBw R h0) {x0 : Nat} {x1 : Nat} {x2 : Int} {x3 : Int} {x4 : Int} {x5 : Int} {res : (HP × Int × Int) ⊕ (HP)} (hf : f_X0_side_72s rc h x0 x1 x2 x3 x4 x5 = some res) (hz : ZP E s h0 h H locs) {ls : Array Slot} (hl : lv_has ls 9 [(0, .ref x0), (1, .ref x1), (2, .int (zI x2)), (3, .int (zI x3)), (4, .int (zI x4)), (5, .int (zI x5))]) (hk : (Sum.elim (fun z => ∀ (H : Heap) (locs : List Loc) (ls : Array Slot), ZP E s h0 z.1 H locs → lv_has ls 9 [(0, .ref x0), (1, .ref x1), (2, .int (zI x2)), (3, .int (zI z.2.1)), (4, .int (zI x4)), (5, .int (zI z.2.2))] → W p l e R s m args below meth c H locs (pX z.1 - pX h0) (pS z.1 - pS h0) Q (F0 m 72 ls [])) (fun r => KP E below args s Q h0 r none)) res) : W p l e R s m args below meth c H locs (pX h - pX h0) (pS h - pS h0) Q (F0 m 72 ls []) := by
  unfold f_X0_side_72s at hf
  have hx := C.1
  have hb := C.2.1
  refine lv_iload hx hb dX0_side_72 (lv_at hl 5 rfl) ?_
  refine lv_aload_n hx hb dX0_side_74 rfl (lv_at hl 0 rfl) ?_
  obtain ⟨hg, hf⟩ := gd_inv hf
  refine zg_getp gP C hz 2 4 (gkp (by decide) hg) (by decide) (by decide) (Or.inr ⟨_, C.nw q166⟩) (fun _ h => h) dX0_side_75 ?_
  obtain ⟨a1, ea1, hf⟩ := bd_inv hf
  rw [zx_rf ea1]
  obtain ⟨y2, ey2, hf⟩ := bd_inv hf
  refine zj_lLen C hz hr ey2 (rest := [.int (zI x5)]) q549 q550 (C.w q551) q94 q552 hl.1 ⟨by have := hr.1; omega, by have := hr.2.1; omega⟩ (Nat.le_of_ble_eq_true rfl) dX0_side_78 (fun H locs hz => ?_)
  refine zl_icmp_ge (tgt := 197) hx hb dX0_side_81 (by decide) (fun hc => ?_) (fun hc => ?_)
  · rw [if_pos hc] at hf
    refine lv_aload_n hx hb dX0_side_84 rfl (lv_at hl 0 rfl) ?_
    obtain ⟨hg, hf⟩ := gd_inv hf
    refine zg_getp gP C hz 2 4 (gkp (by decide) hg) (by decide) (by decide) (Or.inr ⟨_, C.nw q166⟩) (fun _ h => h) dX0_side_85 ?_
    refine lv_iload hx hb dX0_side_88 (lv_at hl 5 rfl) ?_
    obtain ⟨a3, ea3, hf⟩ := bd_inv hf
    rw [zx_rf ea3]
    obtain ⟨y4, ey4, hf⟩ := bd_inv hf
    refine zj_lGet C hz hr ey4 (rest := []) q553 q554 (C.w q555) q94 q556 hl.1 ⟨by have := hr.1; omega, by have := hr.2.1; omega⟩ (Nat.le_of_ble_eq_true rfl) dX0_side_90 (fun H locs hz => ?_)
    obtain ⟨hg, hf⟩ := gd_inv hf
    refine zg_castN gP C hz hg q704 dX0_side_93 ?_
    refine lv_astore (lv' := [(6, .ref y4), (0, .ref x0), (1, .ref x1), (2, .int (zI x2)), (3, .int (zI x3)), (4, .int (zI x4)), (5, .int (zI x5))]) hx hb dX0_side_96 hl (by decide) rfl (fun ls hl => ?_)
    refine lv_aload hx hb dX0_side_98 (lv_at hl 0 rfl) ?_
    obtain ⟨hg, hf⟩ := gd_inv hf
    refine zg_inst2 gP C hz hg q124 dX0_side_100 ?_
    refine zl_if_eq (tgt := 191) hx hb dX0_side_103 (by decide) (fun hc => ?_) (fun hc => ?_)
    · rw [if_pos hc] at hf
      exact w_X0_side_191 C hrc hr hf hz (lv_sub hl [1, 2, 3, 4, 5, 6] rfl) hk
    · rw [if_neg hc] at hf
      refine lv_aload hx hb dX0_side_106 (lv_at hl 0 rfl) ?_
      obtain ⟨hg, hf⟩ := gd_inv hf
      refine zg_cast2 gP C hz hg q124 dX0_side_108 ?_
      obtain ⟨hg, hf⟩ := gd_inv hf
      obtain ⟨y5, ey5, hf⟩ := bd_inv hf
      refine zg_callV gP C hz hr (n := 0) (rest := []) (gkp (by decide) hg) (met_X2_box l E ey5) q995 q996 (C.w q997) q91 q998 (by decide +kernel) ⟨by have := hr.1; omega, by have := hr.2.1; omega⟩ rfl hl.1 rfl (Nat.le_of_ble_eq_true rfl) dX0_side_111 (fun H locs hz => ?_)
      refine zl_if_eq (tgt := 191) hx hb dX0_side_114 (by decide) (fun hc => ?_) (fun hc => ?_)
      · rw [if_pos hc] at hf
        exact w_X0_side_191 C hrc hr hf hz (lv_sub hl [1, 2, 3, 4, 5, 6] rfl) hk
      · rw [if_neg hc] at hf
        refine lv_aload hx hb dX0_side_117 (lv_at hl 0 rfl) ?_
        obtain ⟨hg, hf⟩ := gd_inv hf
        refine zg_cast2 gP C hz hg q124 dX0_side_119 ?_
        refine lv_astore (lv' := [(7, .ref y4), (6, .ref y4), (0, .ref x0), (1, .ref x1), (2, .int (zI x2)), (3, .int (zI x3)), (4, .int (zI x4)), (5, .int (zI x5))]) hx hb dX0_side_122 hl (by decide) rfl (fun ls hl => ?_)
        refine lv_aload hx hb dX0_side_124 (lv_at hl 0 rfl) ?_
        obtain ⟨hg, hf⟩ := gd_inv hf
        refine zg_getp gP C hz 2 7 (gkp (by decide) hg) (by decide) (by decide) (Or.inr ⟨_, C.nw q173⟩) (fun _ h => h) dX0_side_126 ?_
        refine zl_iconst hx hb dX0_side_129 ?_
        obtain ⟨a6, ea6, hf⟩ := bd_inv hf
        rw [zx_rf ea6]
        obtain ⟨hg, hf⟩ := gd_inv hf
        obtain ⟨hi, hf⟩ := gd_inv hf
        refine zg_iald gP C hz hg hi dX0_side_130 ?_
        obtain ⟨y7, ey7, hf⟩ := bnd_inv hf
        refine zl_topi ey7 ?_
        refine lv_istore (lv' := [(8, .int (zI y7)), (7, .ref y4), (6, .ref y4), (0, .ref x0), (1, .ref x1), (2, .int (zI x2)), (3, .int (zI x3)), (4, .int (zI x4)), (5, .int (zI x5))]) hx hb dX0_side_131 hl (by decide) rfl (fun ls hl => ?_)
        refine lv_aload hx hb dX0_side_133 (lv_at hl 1 rfl) ?_
        refine lv_aload_n hx hb dX0_side_135 rfl (lv_at hl 3 rfl) ?_
        obtain ⟨hg, hf⟩ := gd_inv hf
        refine zg_geti gP C hz 2 13 (gkp (by decide) hg) (by decide) (by decide) (Or.inr ⟨_, C.nw q182⟩) (fun _ h => h) dX0_side_136 ?_
        refine lv_iload_n hx hb dX0_side_139 rfl (lv_at hl 6 rfl) ?_
        refine lv_aload_n hx hb dX0_side_140 rfl (lv_at hl 3 rfl) ?_
        obtain ⟨hg, hf⟩ := gd_inv hf
        refine zg_geti gP C hz 2 14 (gkp (by decide) hg) (by decide) (by decide) (Or.inr ⟨_, C.nw q183⟩) (fun _ h => h) dX0_side_141 ?_
        refine lv_iload_n hx hb dX0_side_144 rfl (lv_at hl 5 rfl) ?_
        obtain ⟨hg, hf⟩ := gd_inv hf
        refine zl_idiv hx hb hg dX0_side_145 ?_
        refine zl_imul hx hb dX0_side_146 ?_
        refine zl_iadd hx hb dX0_side_147 ?_
        refine lv_iload hx hb dX0_side_148 (lv_at hl 7 rfl) ?_
        refine lv_iload hx hb dX0_side_150 (lv_at hl 0 rfl) ?_
        refine zl_iadd hx hb dX0_side_152 ?_
        refine lv_aload_n hx hb dX0_side_153 rfl (lv_at hl 3 rfl) ?_
        obtain ⟨hg, hf⟩ := gd_inv hf
        refine zg_geti gP C hz 2 14 (gkp (by decide) hg) (by decide) (by decide) (Or.inr ⟨_, C.nw q183⟩) (fun _ h => h) dX0_side_154 ?_
        refine lv_iload_n hx hb dX0_side_157 rfl (lv_at hl 5 rfl) ?_
        obtain ⟨hg, hf⟩ := gd_inv hf
        refine zl_idiv hx hb hg dX0_side_158 ?_
        refine lv_aload_n hx hb dX0_side_159 rfl (lv_at hl 4 rfl) ?_
        obtain ⟨y8, ey8, hf⟩ := bd_inv hf
        refine zg_callS gP C hz hr (n := 5) (rest := []) (hrc.1 ey8) q988 q989 q89 q990 (by decide +kernel) ⟨by have := hr.1; omega, by have := hr.2.1; omega⟩ rfl hl.1 rfl (Nat.le_of_ble_eq_true rfl) dX0_side_160 (fun H locs hz => ?_)
        refine lv_aload_n hx hb dX0_side_163 rfl (lv_at hl 3 rfl) ?_
        refine lv_aload_n hx hb dX0_side_164 rfl (lv_at hl 3 rfl) ?_
        obtain ⟨hg, hf⟩ := gd_inv hf
        refine zg_geti gP C hz 2 15 (gkp (by decide) hg) (by decide) (by decide) (Or.inr ⟨_, C.nw q185⟩) (fun _ h => h) dX0_side_165 ?_
        refine lv_aload hx hb dX0_side_168 (lv_at hl 1 rfl) ?_
        obtain ⟨hg, hf⟩ := gd_inv hf
        refine zg_geti gP C hz 2 10 (gkp (by decide) hg) (by decide) (by decide) (Or.inr ⟨_, C.nw q178⟩) (fun _ h => h) dX0_side_170 ?_
        refine lv_aload hx hb dX0_side_173 (lv_at hl 1 rfl) ?_
        obtain ⟨hg, hf⟩ := gd_inv hf
        refine zg_geti gP C hz 2 12 (gkp (by decide) hg) (by decide) (by decide) (Or.inr ⟨_, C.nw q181⟩) (fun _ h => h) dX0_side_175 ?_
        refine zl_iadd hx hb dX0_side_178 ?_
        refine lv_iload hx hb dX0_side_179 (lv_at hl 0 rfl) ?_
        refine zl_iadd hx hb dX0_side_181 ?_
        refine zl_mmax hx hb C.2.2.2.2.1 hl.1 C.2.2.2.2.2.1 (fun _ h => C.w h) q991 ⟨by have := hr.1; omega, by have := hr.2.1; omega⟩ (Nat.le_of_ble_eq_true rfl) (RBw.have gP hz hr).1 (RBw.have gP hz hr).2 dX0_side_182 ?_
        obtain ⟨hg, hf⟩ := gd_inv hf
        obtain ⟨h9, eh9, hf⟩ := bnd_inv hf
        refine zg_puti gP C hz 2 15 (gkp (by decide) hg) (by decide) (by decide) rfl (by decide) (Or.inr ⟨_, C.nw q185⟩) (fun _ h => h) dX0_side_185 eh9 (fun H locs hz => ?_)
        refine zl_iinc (x := x3) (n := 1) (lv' := [(3, .int (zI (x3 + 1))), (8, .int (zI y7)), (7, .ref y4), (6, .ref y4), (0, .ref x0), (1, .ref x1), (2, .int (zI x2)), (4, .int (zI x4)), (5, .int (zI x5))]) (k := 6) hx hb dX0_side_188 hl rfl (by decide) rfl (fun ls hl => ?_)
        exact w_X0_side_191 C hrc hr hf hz (lv_sub hl [4, 5, 6, 0, 7, 8] rfl) hk
  · rw [if_neg hc] at hf
    obtain rfl := Option.some.inj hf
    exact zg_vret C hz hk dX0_side_197

theorem w_X0_side_72 {p : Program} {l : Launch} {e : Env} {R : Room} {s : State} {m : MethodId} {args : Array Value} {below : List Frame} {meth : Method} {c : Code} {Q : State → Prop} {E : PEw} {h0 h : HP} {H : Heap} {locs : List Loc} {rc : RC_lay} (C : PC E p s m args meth c RX0 cX0_side 9 none "side") {N : Nat} (hrc : RK_lay l E N rc) (hr : 7 * (N + 1) ≤ R.frames ∧ 163 * (N + 1) ≤ R.locals ∧ RBw R h0) {x0 : Nat} {x1 : Nat} {x2 : Int} {x3 : Int} {x4 : Int} {x5 : Int} {res : HP} (hf : f_X0_side_72 rc h x0 x1 x2 x3 x4 x5 = some res) (hz : ZP E s h0 h H locs) {ls : Array Slot} (hl : lv_has ls 9 [(0, .ref x0), (1, .ref x1), (2, .int (zI x2)), (3, .int (zI x3)), (4, .int (zI x4)), (5, .int (zI x5))]) (hk : KP E below args s Q h0 res none) : W p l e R s m args below meth c H locs (pX h - pX h0) (pS h - pS h0) Q (F0 m 72 ls []) := by
  unfold f_X0_side_72 at hf
  refine iter_ind (P := fun z r => ∀ (H : Heap) (locs : List Loc) (ls : Array Slot), ZP E s h0 z.1 H locs → lv_has ls 9 [(0, .ref x0), (1, .ref x1), (2, .int (zI x2)), (3, .int (zI z.2.1)), (4, .int (zI x4)), (5, .int (zI z.2.2))] → KP E below args s Q h0 r none → W p l e R s m args below meth c H locs (pX z.1 - pX h0) (pS z.1 - pS h0) Q (F0 m 72 ls [])) ?_ ?_ hf H locs ls hz hl hk
  · intro z r h1 H locs ls hz hl hk; exact w_X0_side_72s C hrc hr h1 hz hl hk
  · intro z z1 r h1 ih H locs ls hz hl hk; exact w_X0_side_72s C hrc hr h1 hz hl (fun H locs ls hz hl => ih H locs ls hz hl hk)

theorem w_X0_side_61 {p : Program} {l : Launch} {e : Env} {R : Room} {s : State} {m : MethodId} {args : Array Value} {below : List Frame} {meth : Method} {c : Code} {Q : State → Prop} {E : PEw} {h0 h : HP} {H : Heap} {locs : List Loc} {rc : RC_lay} (C : PC E p s m args meth c RX0 cX0_side 9 none "side") {N : Nat} (hrc : RK_lay l E N rc) (hr : 7 * (N + 1) ≤ R.frames ∧ 163 * (N + 1) ≤ R.locals ∧ RBw R h0) {x0 : Nat} {x1 : Nat} {x2 : Int} {res : HP} (hf : f_X0_side_61 rc h x0 x1 x2 = some res) (hz : ZP E s h0 h H locs) {ls : Array Slot} (hl : lv_has ls 9 [(0, .ref x0), (1, .ref x1), (2, .int (zI x2))]) (hk : KP E below args s Q h0 res none) : W p l e R s m args below meth c H locs (pX h - pX h0) (pS h - pS h0) Q (F0 m 61 ls []) := by
  unfold f_X0_side_61 at hf
  have hx := C.1
  have hb := C.2.1
  refine zl_iconst hx hb dX0_side_61 ?_
  refine lv_istore_n (lv' := [(3, .int (zI 0)), (0, .ref x0), (1, .ref x1), (2, .int (zI x2))]) hx hb dX0_side_62 rfl hl (by decide) rfl (fun ls hl => ?_)
  refine lv_aload_n hx hb dX0_side_63 rfl (lv_at hl 1 rfl) ?_
  obtain ⟨hg, hf⟩ := gd_inv hf
  refine zg_geti gP C hz 2 15 (gkp (by decide) hg) (by decide) (by decide) (Or.inr ⟨_, C.nw q185⟩) (fun _ h => h) dX0_side_64 ?_
  obtain ⟨y1, ey1, hf⟩ := bnd_inv hf
  refine zl_topi ey1 ?_
  refine lv_istore (lv' := [(4, .int (zI y1)), (3, .int (zI 0)), (0, .ref x0), (1, .ref x1), (2, .int (zI x2))]) hx hb dX0_side_67 hl (by decide) rfl (fun ls hl => ?_)
  refine zl_iconst hx hb dX0_side_69 ?_
  refine lv_istore (lv' := [(5, .int (zI 0)), (4, .int (zI y1)), (3, .int (zI 0)), (0, .ref x0), (1, .ref x1), (2, .int (zI x2))]) hx hb dX0_side_70 hl (by decide) rfl (fun ls hl => ?_)
  exact w_X0_side_72 C hrc hr hf hz (lv_sub hl [3, 4, 5, 2, 1, 0] rfl) hk

theorem w_X0_side_4s {p : Program} {l : Launch} {e : Env} {R : Room} {s : State} {m : MethodId} {args : Array Value} {below : List Frame} {meth : Method} {c : Code} {Q : State → Prop} {E : PEw} {h0 h : HP} {H : Heap} {locs : List Loc} {rc : RC_lay} (C : PC E p s m args meth c RX0 cX0_side 9 none "side") {N : Nat} (hrc : RK_lay l E N rc) (hr : 7 * (N + 1) ≤ R.frames ∧ 163 * (N + 1) ≤ R.locals ∧ RBw R h0) {x0 : Nat} {x1 : Nat} {x2 : Int} {x3 : Int} {res : (Int × Int) ⊕ (HP)} (hf : f_X0_side_4s rc h x0 x1 x2 x3 = some res) (hz : ZP E s h0 h H locs) {ls : Array Slot} (hl : lv_has ls 9 [(0, .ref x0), (1, .ref x1), (2, .int (zI x2)), (3, .int (zI x3))]) (hk : (Sum.elim (fun z => ∀ (H : Heap) (locs : List Loc) (ls : Array Slot), ZP E s h0 h H locs → lv_has ls 9 [(0, .ref x0), (1, .ref x1), (2, .int (zI z.1)), (3, .int (zI z.2))] → W p l e R s m args below meth c H locs (pX h - pX h0) (pS h - pS h0) Q (F0 m 4 ls [])) (fun r => KP E below args s Q h0 r none)) res) : W p l e R s m args below meth c H locs (pX h - pX h0) (pS h - pS h0) Q (F0 m 4 ls []) := by
  unfold f_X0_side_4s at hf
  have hx := C.1
  have hb := C.2.1
  refine lv_iload_n hx hb dX0_side_4 rfl (lv_at hl 3 rfl) ?_
  refine lv_aload_n hx hb dX0_side_5 rfl (lv_at hl 0 rfl) ?_
  obtain ⟨hg, hf⟩ := gd_inv hf
  refine zg_getp gP C hz 2 4 (gkp (by decide) hg) (by decide) (by decide) (Or.inr ⟨_, C.nw q166⟩) (fun _ h => h) dX0_side_6 ?_
  obtain ⟨a1, ea1, hf⟩ := bd_inv hf
  rw [zx_rf ea1]
  obtain ⟨y2, ey2, hf⟩ := bd_inv hf
  refine zj_lLen C hz hr ey2 (rest := [.int (zI x3)]) q549 q550 (C.w q551) q94 q552 hl.1 ⟨by have := hr.1; omega, by have := hr.2.1; omega⟩ (Nat.le_of_ble_eq_true rfl) dX0_side_9 (fun H locs hz => ?_)
  refine zl_icmp_ge (tgt := 61) hx hb dX0_side_12 (by decide) (fun hc => ?_) (fun hc => ?_)
  · rw [if_pos hc] at hf
    refine lv_aload_n hx hb dX0_side_15 rfl (lv_at hl 0 rfl) ?_
    obtain ⟨hg, hf⟩ := gd_inv hf
    refine zg_getp gP C hz 2 4 (gkp (by decide) hg) (by decide) (by decide) (Or.inr ⟨_, C.nw q166⟩) (fun _ h => h) dX0_side_16 ?_
    refine lv_iload_n hx hb dX0_side_19 rfl (lv_at hl 3 rfl) ?_
    obtain ⟨a3, ea3, hf⟩ := bd_inv hf
    rw [zx_rf ea3]
    obtain ⟨y4, ey4, hf⟩ := bd_inv hf
    refine zj_lGet C hz hr ey4 (rest := []) q553 q554 (C.w q555) q94 q556 hl.1 ⟨by have := hr.1; omega, by have := hr.2.1; omega⟩ (Nat.le_of_ble_eq_true rfl) dX0_side_20 (fun H locs hz => ?_)
    obtain ⟨hg, hf⟩ := gd_inv hf
    refine zg_castN gP C hz hg q704 dX0_side_23 ?_
    refine lv_astore (lv' := [(4, .ref y4), (0, .ref x0), (1, .ref x1), (2, .int (zI x2)), (3, .int (zI x3))]) hx hb dX0_side_26 hl (by decide) rfl (fun ls hl => ?_)
    refine lv_iload_n hx hb dX0_side_28 rfl (lv_at hl 3 rfl) ?_
    refine lv_aload hx hb dX0_side_29 (lv_at hl 0 rfl) ?_
    obtain ⟨hg, hf⟩ := gd_inv hf
    refine zg_inst2 gP C hz hg q124 dX0_side_31 ?_
    refine zl_if_eq (tgt := 52) hx hb dX0_side_34 (by decide) (fun hc => ?_) (fun hc => ?_)
    · rw [if_pos hc] at hf
      exact w_X0_side_52 C hrc hr hf hz (lv_sub hl [1, 2, 4] rfl) hk
    · rw [if_neg hc] at hf
      refine lv_aload hx hb dX0_side_37 (lv_at hl 0 rfl) ?_
      obtain ⟨hg, hf⟩ := gd_inv hf
      refine zg_cast2 gP C hz hg q124 dX0_side_39 ?_
      obtain ⟨hg, hf⟩ := gd_inv hf
      obtain ⟨y5, ey5, hf⟩ := bd_inv hf
      refine zg_callV gP C hz hr (n := 0) (rest := [.int (zI x2)]) (gkp (by decide) hg) (met_X2_box l E ey5) q995 q996 (C.w q997) q91 q998 (by decide +kernel) ⟨by have := hr.1; omega, by have := hr.2.1; omega⟩ rfl hl.1 rfl (Nat.le_of_ble_eq_true rfl) dX0_side_42 (fun H locs hz => ?_)
      refine zl_if_eq (tgt := 52) hx hb dX0_side_45 (by decide) (fun hc => ?_) (fun hc => ?_)
      · rw [if_pos hc] at hf
        exact w_X0_side_52 C hrc hr hf hz (lv_sub hl [1, 2, 4] rfl) hk
      · rw [if_neg hc] at hf
        refine zl_iconst hx hb dX0_side_48 ?_
        refine lv_goto (tgt := 53) hx hb dX0_side_49 (by decide) ?_
        exact w_X0_side_53 C hrc hr hf hz (lv_sub hl [1, 2, 4] rfl) hk
  · rw [if_neg hc] at hf
    obtain ⟨r0, hm0, rfl⟩ := mr_inv hf
    exact w_X0_side_61 C hrc hr hm0 hz (lv_sub hl [0, 1, 2] rfl) hk

theorem w_X0_side_4 {p : Program} {l : Launch} {e : Env} {R : Room} {s : State} {m : MethodId} {args : Array Value} {below : List Frame} {meth : Method} {c : Code} {Q : State → Prop} {E : PEw} {h0 h : HP} {H : Heap} {locs : List Loc} {rc : RC_lay} (C : PC E p s m args meth c RX0 cX0_side 9 none "side") {N : Nat} (hrc : RK_lay l E N rc) (hr : 7 * (N + 1) ≤ R.frames ∧ 163 * (N + 1) ≤ R.locals ∧ RBw R h0) {x0 : Nat} {x1 : Nat} {x2 : Int} {x3 : Int} {res : HP} (hf : f_X0_side_4 rc h x0 x1 x2 x3 = some res) (hz : ZP E s h0 h H locs) {ls : Array Slot} (hl : lv_has ls 9 [(0, .ref x0), (1, .ref x1), (2, .int (zI x2)), (3, .int (zI x3))]) (hk : KP E below args s Q h0 res none) : W p l e R s m args below meth c H locs (pX h - pX h0) (pS h - pS h0) Q (F0 m 4 ls []) := by
  unfold f_X0_side_4 at hf
  refine iter_ind (P := fun z r => ∀ (H : Heap) (locs : List Loc) (ls : Array Slot), ZP E s h0 h H locs → lv_has ls 9 [(0, .ref x0), (1, .ref x1), (2, .int (zI z.1)), (3, .int (zI z.2))] → KP E below args s Q h0 r none → W p l e R s m args below meth c H locs (pX h - pX h0) (pS h - pS h0) Q (F0 m 4 ls [])) ?_ ?_ hf H locs ls hz hl hk
  · intro z r h1 H locs ls hz hl hk; exact w_X0_side_4s C hrc hr h1 hz hl hk
  · intro z z1 r h1 ih H locs ls hz hl hk; exact w_X0_side_4s C hrc hr h1 hz hl (fun H locs ls hz hl => ih H locs ls hz hl hk)

theorem w_X0_side_b {p : Program} {l : Launch} {e : Env} {R : Room} {s : State} {m : MethodId} {args : Array Value} {below : List Frame} {meth : Method} {c : Code} {Q : State → Prop} {E : PEw} {h0 h : HP} {H : Heap} {locs : List Loc} {rc : RC_lay} (C : PC E p s m args meth c RX0 cX0_side 9 none "side") {N : Nat} (hrc : RK_lay l E N rc) (hr : 7 * (N + 1) ≤ R.frames ∧ 163 * (N + 1) ≤ R.locals ∧ RBw R h0) {x0 : Nat} {x1 : Nat} {res : HP} (hf : f_X0_side_b rc h x0 x1 = some res) (hz : ZP E s h0 h H locs) {ls : Array Slot} (hl : lv_has ls 9 [(0, .ref x0), (1, .ref x1)]) (hk : KP E below args s Q h0 res none) : W p l e R s m args below meth c H locs (pX h - pX h0) (pS h - pS h0) Q (F0 m 0 ls []) := by
  unfold f_X0_side_b at hf
  have hx := C.1
  have hb := C.2.1
  refine zl_iconst hx hb dX0_side_0 ?_
  refine lv_istore_n (lv' := [(2, .int (zI 0)), (0, .ref x0), (1, .ref x1)]) hx hb dX0_side_1 rfl hl (by decide) rfl (fun ls hl => ?_)
  refine zl_iconst hx hb dX0_side_2 ?_
  refine lv_istore_n (lv' := [(3, .int (zI 0)), (2, .int (zI 0)), (0, .ref x0), (1, .ref x1)]) hx hb dX0_side_3 rfl hl (by decide) rfl (fun ls hl => ?_)
  exact w_X0_side_4 C hrc hr hf hz (lv_sub hl [2, 3, 1, 0] rfl) hk

theorem w_X0_gather_100 {p : Program} {l : Launch} {e : Env} {R : Room} {s : State} {m : MethodId} {args : Array Value} {below : List Frame} {meth : Method} {c : Code} {Q : State → Prop} {E : PEw} {h0 h : HP} {H : Heap} {locs : List Loc} {rc : RC_lay} (C : PC E p s m args meth c RX0 cX0_gather 5 none "gather") {N : Nat} (hrc : RK_lay l E N rc) (hr : 7 * (N + 1) ≤ R.frames ∧ 163 * (N + 1) ≤ R.locals ∧ RBw R h0) {x0 : Nat} {x1 : Nat} {x2 : Nat} {x3 : Int} {res : (HP × Int) ⊕ (HP)} (hf : f_X0_gather_100 rc h x0 x1 x2 x3 = some res) (hz : ZP E s h0 h H locs) {ls : Array Slot} (hl : lv_has ls 5 [(0, .ref x0), (1, .ref x1), (2, .ref x2), (3, .int (zI x3))]) (hk : (Sum.elim (fun z => ∀ (H : Heap) (locs : List Loc) (ls : Array Slot), ZP E s h0 z.1 H locs → lv_has ls 5 [(0, .ref x0), (1, .ref x1), (2, .ref x2), (3, .int (zI z.2))] → W p l e R s m args below meth c H locs (pX z.1 - pX h0) (pS z.1 - pS h0) Q (F0 m 2 ls [])) (fun r => KP E below args s Q h0 r none)) res) : W p l e R s m args below meth c H locs (pX h - pX h0) (pS h - pS h0) Q (F0 m 100 ls []) := by
  unfold f_X0_gather_100 at hf
  have hx := C.1
  have hb := C.2.1
  refine zl_iinc (x := x3) (n := 1) (lv' := [(3, .int (zI (x3 + 1))), (0, .ref x0), (1, .ref x1), (2, .ref x2)]) (k := 3) hx hb dX0_gather_100 hl rfl (by decide) rfl (fun ls hl => ?_)
  refine lv_goto (tgt := 2) hx hb dX0_gather_103 (by decide) ?_
  obtain rfl := Option.some.inj hf
  exact hk _ _ _ hz (lv_sub hl [1, 2, 3, 0] rfl)

theorem w_X0_gather_2s {p : Program} {l : Launch} {e : Env} {R : Room} {s : State} {m : MethodId} {args : Array Value} {below : List Frame} {meth : Method} {c : Code} {Q : State → Prop} {E : PEw} {h0 h : HP} {H : Heap} {locs : List Loc} {rc : RC_lay} (C : PC E p s m args meth c RX0 cX0_gather 5 none "gather") {N : Nat} (hrc : RK_lay l E N rc) (hr : 7 * (N + 1) ≤ R.frames ∧ 163 * (N + 1) ≤ R.locals ∧ RBw R h0) {x0 : Nat} {x1 : Nat} {x2 : Nat} {x3 : Int} {res : (HP × Int) ⊕ (HP)} (hf : f_X0_gather_2s rc h x0 x1 x2 x3 = some res) (hz : ZP E s h0 h H locs) {ls : Array Slot} (hl : lv_has ls 5 [(0, .ref x0), (1, .ref x1), (2, .ref x2), (3, .int (zI x3))]) (hk : (Sum.elim (fun z => ∀ (H : Heap) (locs : List Loc) (ls : Array Slot), ZP E s h0 z.1 H locs → lv_has ls 5 [(0, .ref x0), (1, .ref x1), (2, .ref x2), (3, .int (zI z.2))] → W p l e R s m args below meth c H locs (pX z.1 - pX h0) (pS z.1 - pS h0) Q (F0 m 2 ls [])) (fun r => KP E below args s Q h0 r none)) res) : W p l e R s m args below meth c H locs (pX h - pX h0) (pS h - pS h0) Q (F0 m 2 ls []) := by
  unfold f_X0_gather_2s at hf
  have hx := C.1
  have hb := C.2.1
  refine lv_iload_n hx hb dX0_gather_2 rfl (lv_at hl 3 rfl) ?_
  refine lv_aload_n hx hb dX0_gather_3 rfl (lv_at hl 1 rfl) ?_
  obtain ⟨hg, hf⟩ := gd_inv hf
  refine zg_getp gP C hz 2 4 (gkp (by decide) hg) (by decide) (by decide) (Or.inr ⟨_, C.nw q166⟩) (fun _ h => h) dX0_gather_4 ?_
  obtain ⟨a1, ea1, hf⟩ := bd_inv hf
  rw [zx_rf ea1]
  obtain ⟨y2, ey2, hf⟩ := bd_inv hf
  refine zj_lLen C hz hr ey2 (rest := [.int (zI x3)]) q549 q550 (C.w q551) q94 q552 hl.1 ⟨by have := hr.1; omega, by have := hr.2.1; omega⟩ (Nat.le_of_ble_eq_true rfl) dX0_gather_7 (fun H locs hz => ?_)
  refine zl_icmp_ge (tgt := 106) hx hb dX0_gather_10 (by decide) (fun hc => ?_) (fun hc => ?_)
  · rw [if_pos hc] at hf
    refine lv_aload_n hx hb dX0_gather_13 rfl (lv_at hl 1 rfl) ?_
    obtain ⟨hg, hf⟩ := gd_inv hf
    refine zg_getp gP C hz 2 4 (gkp (by decide) hg) (by decide) (by decide) (Or.inr ⟨_, C.nw q166⟩) (fun _ h => h) dX0_gather_14 ?_
    refine lv_iload_n hx hb dX0_gather_17 rfl (lv_at hl 3 rfl) ?_
    obtain ⟨a3, ea3, hf⟩ := bd_inv hf
    rw [zx_rf ea3]
    obtain ⟨y4, ey4, hf⟩ := bd_inv hf
    refine zj_lGet C hz hr ey4 (rest := []) q553 q554 (C.w q555) q94 q556 hl.1 ⟨by have := hr.1; omega, by have := hr.2.1; omega⟩ (Nat.le_of_ble_eq_true rfl) dX0_gather_18 (fun H locs hz => ?_)
    obtain ⟨hg, hf⟩ := gd_inv hf
    refine zg_castN gP C hz hg q704 dX0_gather_21 ?_
    refine lv_aload_n hx hb dX0_gather_24 rfl (lv_at hl 2 rfl) ?_
    obtain ⟨y5, ey5, hf⟩ := bd_inv hf
    refine zg_callS gP C hz hr (n := 2) (rest := []) (met_X0_inside l E ey5) q999 q1000 q89 q1001 (by decide +kernel) ⟨by have := hr.1; omega, by have := hr.2.1; omega⟩ rfl hl.1 rfl (Nat.le_of_ble_eq_true rfl) dX0_gather_25 (fun H locs hz => ?_)
    refine zl_astore_o (lv' := [(4, va_rf y5.2), (0, .ref x0), (1, .ref x1), (2, .ref x2), (3, .int (zI x3))]) hx hb dX0_gather_28 hl (by decide) rfl (fun ls hl => ?_)
    refine zl_aload_o hx hb dX0_gather_30 (lv_at hl 0 rfl) ?_
    rcases nl_inv hf with ⟨ho, hf⟩ | ⟨a6, ho, hf⟩
    · rw [zx_nul ho]
      refine lv_ifnonnullN hx hb dX0_gather_32 ?_
      refine lv_goto (tgt := 100) hx hb dX0_gather_35 (by decide) ?_
      exact w_X0_gather_100 C hrc hr hf hz (lv_sub hl [1, 2, 3, 4] rfl) hk
    · rw [zx_rf ho] at hl ⊢
      refine lv_ifnonnull (tgt := 38) hx hb dX0_gather_32 (by decide) ?_
      refine lv_aload hx hb dX0_gather_38 (lv_at hl 0 rfl) ?_
      obtain ⟨hg, hf⟩ := gd_inv hf
      obtain ⟨y7, ey7, hf⟩ := bd_inv hf
      refine zg_callV gP C hz hr (n := 0) (rest := []) (gkp (by decide) hg) (met_X2_box l E ey7) q995 q996 (C.w q997) q91 q998 (by decide +kernel) ⟨by have := hr.1; omega, by have := hr.2.1; omega⟩ rfl hl.1 rfl (Nat.le_of_ble_eq_true rfl) dX0_gather_40 (fun H locs hz => ?_)
      refine zl_if_eq (tgt := 93) hx hb dX0_gather_43 (by decide) (fun hc => ?_) (fun hc => ?_)
      · rw [if_pos hc] at hf
        refine lv_aload_n hx hb dX0_gather_93 rfl (lv_at hl 1 rfl) ?_
        refine lv_aload hx hb dX0_gather_94 (lv_at hl 0 rfl) ?_
        refine lv_aload_n hx hb dX0_gather_96 rfl (lv_at hl 3 rfl) ?_
        obtain ⟨y8, ey8, hf⟩ := bd_inv hf
        refine zg_callS gP C hz hr (n := 3) (rest := []) (hrc.2.2 ey8) q1034 q1035 q89 q1036 (by decide +kernel) ⟨by have := hr.1; omega, by have := hr.2.1; omega⟩ rfl hl.1 rfl (Nat.le_of_ble_eq_true rfl) dX0_gather_97 (fun H locs hz => ?_)
        exact w_X0_gather_100 C hrc hr hf hz (lv_sub hl [1, 2, 3, 4] rfl) hk
      · rw [if_neg hc] at hf
        refine lv_aload_n hx hb dX0_gather_46 rfl (lv_at hl 1 rfl) ?_
        refine lv_aload_n hx hb dX0_gather_47 rfl (lv_at hl 3 rfl) ?_
        obtain ⟨y9, ey9, hf⟩ := bd_inv hf
        refine zg_callS gP C hz hr (n := 2) (rest := []) (met_X0_flush l E ey9) q1006 q1007 q89 q1008 (by decide +kernel) ⟨by have := hr.1; omega, by have := hr.2.1; omega⟩ rfl hl.1 rfl (Nat.le_of_ble_eq_true rfl) dX0_gather_48 (fun H locs hz => ?_)
        refine lv_aload hx hb dX0_gather_51 (lv_at hl 0 rfl) ?_
        refine lv_aload_n hx hb dX0_gather_53 rfl (lv_at hl 1 rfl) ?_
        obtain ⟨hg, hf⟩ := gd_inv hf
        refine zg_geti gP C hz 2 13 (gkp (by decide) hg) (by decide) (by decide) (Or.inr ⟨_, C.nw q182⟩) (fun _ h => h) dX0_gather_54 ?_
        refine lv_aload_n hx hb dX0_gather_57 rfl (lv_at hl 1 rfl) ?_
        obtain ⟨hg, hf⟩ := gd_inv hf
        refine zg_geti gP C hz 2 15 (gkp (by decide) hg) (by decide) (by decide) (Or.inr ⟨_, C.nw q185⟩) (fun _ h => h) dX0_gather_58 ?_
        refine lv_aload_n hx hb dX0_gather_61 rfl (lv_at hl 1 rfl) ?_
        obtain ⟨hg, hf⟩ := gd_inv hf
        refine zg_geti gP C hz 2 16 (gkp (by decide) hg) (by decide) (by decide) (Or.inr ⟨_, C.nw q187⟩) (fun _ h => h) dX0_gather_62 ?_
        refine lv_aload hx hb dX0_gather_65 (lv_at hl 0 rfl) ?_
        obtain ⟨hg, hf⟩ := gd_inv hf
        refine zg_getp gP C hz 2 7 (gkp (by decide) hg) (by decide) (by decide) (Or.inr ⟨_, C.nw q173⟩) (fun _ h => h) dX0_gather_67 ?_
        refine zl_iconst hx hb dX0_gather_70 ?_
        obtain ⟨a10, ea10, hf⟩ := bd_inv hf
        rw [zx_rf ea10]
        obtain ⟨hg, hf⟩ := gd_inv hf
        obtain ⟨hi, hf⟩ := gd_inv hf
        refine zg_iald gP C hz hg hi dX0_gather_71 ?_
        refine zl_mmax hx hb C.2.2.2.2.1 hl.1 C.2.2.2.2.2.1 (fun _ h => C.w h) q991 ⟨by have := hr.1; omega, by have := hr.2.1; omega⟩ (Nat.le_of_ble_eq_true rfl) (RBw.have gP hz hr).1 (RBw.have gP hz hr).2 dX0_gather_72 ?_
        refine zl_iadd hx hb dX0_gather_75 ?_
        refine lv_aload_n hx hb dX0_gather_76 rfl (lv_at hl 1 rfl) ?_
        obtain ⟨hg, hf⟩ := gd_inv hf
        refine zg_geti gP C hz 2 14 (gkp (by decide) hg) (by decide) (by decide) (Or.inr ⟨_, C.nw q183⟩) (fun _ h => h) dX0_gather_77 ?_
        refine lv_aload_n hx hb dX0_gather_80 rfl (lv_at hl 3 rfl) ?_
        obtain ⟨y11, ey11, hf⟩ := bd_inv hf
        refine zg_callS gP C hz hr (n := 5) (rest := []) (hrc.1 ey11) q988 q989 q89 q990 (by decide +kernel) ⟨by have := hr.1; omega, by have := hr.2.1; omega⟩ rfl hl.1 rfl (Nat.le_of_ble_eq_true rfl) dX0_gather_81 (fun H locs hz => ?_)
        refine lv_aload_n hx hb dX0_gather_84 rfl (lv_at hl 1 rfl) ?_
        refine lv_aload hx hb dX0_gather_85 (lv_at hl 0 rfl) ?_
        obtain ⟨hg, hf⟩ := gd_inv hf
        obtain ⟨y12, ey12, hf⟩ := bd_inv hf
        refine zg_callV gP C hz hr (n := 1) (rest := []) (gkp (by decide) hg) (met_X2_goOn l E ey12) q1030 q1031 (C.w q1032) q91 q1033 (by decide +kernel) ⟨by have := hr.1; omega, by have := hr.2.1; omega⟩ rfl hl.1 rfl (Nat.le_of_ble_eq_true rfl) dX0_gather_87 (fun H locs hz => ?_)
        refine lv_goto (tgt := 100) hx hb dX0_gather_90 (by decide) ?_
        exact w_X0_gather_100 C hrc hr hf hz (lv_sub hl [1, 2, 3, 4] rfl) hk
  · rw [if_neg hc] at hf
    obtain rfl := Option.some.inj hf
    exact zg_vret C hz hk dX0_gather_106

theorem w_X0_gather_2 {p : Program} {l : Launch} {e : Env} {R : Room} {s : State} {m : MethodId} {args : Array Value} {below : List Frame} {meth : Method} {c : Code} {Q : State → Prop} {E : PEw} {h0 h : HP} {H : Heap} {locs : List Loc} {rc : RC_lay} (C : PC E p s m args meth c RX0 cX0_gather 5 none "gather") {N : Nat} (hrc : RK_lay l E N rc) (hr : 7 * (N + 1) ≤ R.frames ∧ 163 * (N + 1) ≤ R.locals ∧ RBw R h0) {x0 : Nat} {x1 : Nat} {x2 : Nat} {x3 : Int} {res : HP} (hf : f_X0_gather_2 rc h x0 x1 x2 x3 = some res) (hz : ZP E s h0 h H locs) {ls : Array Slot} (hl : lv_has ls 5 [(0, .ref x0), (1, .ref x1), (2, .ref x2), (3, .int (zI x3))]) (hk : KP E below args s Q h0 res none) : W p l e R s m args below meth c H locs (pX h - pX h0) (pS h - pS h0) Q (F0 m 2 ls []) := by
  unfold f_X0_gather_2 at hf
  refine iter_ind (P := fun z r => ∀ (H : Heap) (locs : List Loc) (ls : Array Slot), ZP E s h0 z.1 H locs → lv_has ls 5 [(0, .ref x0), (1, .ref x1), (2, .ref x2), (3, .int (zI z.2))] → KP E below args s Q h0 r none → W p l e R s m args below meth c H locs (pX z.1 - pX h0) (pS z.1 - pS h0) Q (F0 m 2 ls [])) ?_ ?_ hf H locs ls hz hl hk
  · intro z r h1 H locs ls hz hl hk; exact w_X0_gather_2s C hrc hr h1 hz hl hk
  · intro z z1 r h1 ih H locs ls hz hl hk; exact w_X0_gather_2s C hrc hr h1 hz hl (fun H locs ls hz hl => ih H locs ls hz hl hk)

theorem w_X0_gather_b {p : Program} {l : Launch} {e : Env} {R : Room} {s : State} {m : MethodId} {args : Array Value} {below : List Frame} {meth : Method} {c : Code} {Q : State → Prop} {E : PEw} {h0 h : HP} {H : Heap} {locs : List Loc} {rc : RC_lay} (C : PC E p s m args meth c RX0 cX0_gather 5 none "gather") {N : Nat} (hrc : RK_lay l E N rc) (hr : 7 * (N + 1) ≤ R.frames ∧ 163 * (N + 1) ≤ R.locals ∧ RBw R h0) {x0 : Nat} {x1 : Nat} {x2 : Nat} {res : HP} (hf : f_X0_gather_b rc h x0 x1 x2 = some res) (hz : ZP E s h0 h H locs) {ls : Array Slot} (hl : lv_has ls 5 [(0, .ref x0), (1, .ref x1), (2, .ref x2)]) (hk : KP E below args s Q h0 res none) : W p l e R s m args below meth c H locs (pX h - pX h0) (pS h - pS h0) Q (F0 m 0 ls []) := by
  unfold f_X0_gather_b at hf
  have hx := C.1
  have hb := C.2.1
  refine zl_iconst hx hb dX0_gather_0 ?_
  refine lv_istore_n (lv' := [(3, .int (zI 0)), (0, .ref x0), (1, .ref x1), (2, .ref x2)]) hx hb dX0_gather_1 rfl hl (by decide) rfl (fun ls hl => ?_)
  exact w_X0_gather_2 C hrc hr hf hz (lv_sub hl [1, 2, 3, 0] rfl) hk

theorem mets_X0_lay (l : Launch) (E : PEw) {N : Nat} (hrc : RK_lay l E N (F_lay N)) : ∀ {h : HP} {x0 : Nat} {x1 : Int} {x2 : Int} {x3 : Int} {x4 : Nat} {res : HP}, f_X0_lay_b (F_lay N) h x0 x1 x2 x3 x4 = some res → Met l yX0_lay (ws_ yX0_lay cX0_lay 10 none) (rmP h (7 * (N + 1)) (163 * (N + 1))) (PP E h [.ref x0, .int (zI x1), .int (zI x2), .int (zI x3), .ref x4]) (QP E h res none) (pX res - pX h) (pS res - pS h) (eF E) := by
  intro h x0 x1 x2 x3 x4 res hf
  refine Met.ofW (cc := cX0_lay) (maxL := 10) (ret := none) (by decide) rfl ?_
  intro p e s m args below meth c s₁ B hml hv
  obtain ⟨rfl, hP0⟩ := hv
  have hts := atoms_spec (ws := ws_ yX0_lay cX0_lay 10 none) B.pre
  have hts : ∀ w ∈ lw_all, w.before _ s = true := fun w h => hts w (List.mem_cons_of_mem _ h)
  have C : PC E p s m _ meth c RX0 cX0_lay 10 none "lay" := ⟨B.exec, B.bytes, B.returns, B.notSynchronized, hml, findClass_of_methodNamed B.named, hts, hP0.2, (name_of_methodNamed B.named B.method).1⟩
  have hz : ZP E s h h s.heap [] := ZG.start hP0.1
  have hl := lv_entry ([.ref x0, .int (zI x1), .int (zI x2), .int (zI x3), .ref x4]) (n := 10) (Nat.le_of_ble_eq_true rfl)
  rw [lg_entry_eq]
  generalize (lg_sl ([.ref x0, .int (zI x1), .int (zI x2), .int (zI x3), .ref x4]) ++ List.replicate (10 - (lg_sl ([.ref x0, .int (zI x1), .int (zI x2), .int (zI x3), .ref x4])).length) Slot.unset).toArray = ls at hl ⊢
  have hl : lv_has ls 10 [(0, .ref x0), (1, .int (zI x1)), (2, .int (zI x2)), (3, .int (zI x3)), (4, .ref x4)] := hl
  refine W.cs (cells' := pX h - pX h) (slots' := pS h - pS h) (Nat.sub_self _).symm (Nat.sub_self _).symm ?_
  exact w_X0_lay_b C hrc ⟨Nat.le_refl _, Nat.le_refl _, RBw.rm⟩ hf hz hl rfl
theorem mets_X0_side (l : Launch) (E : PEw) {N : Nat} (hrc : RK_lay l E N (F_lay N)) : ∀ {h : HP} {x0 : Nat} {x1 : Nat} {res : HP}, f_X0_side_b (F_lay N) h x0 x1 = some res → Met l yX0_side (ws_ yX0_side cX0_side 9 none) (rmP h (7 * (N + 1)) (163 * (N + 1))) (PP E h [.ref x0, .ref x1]) (QP E h res none) (pX res - pX h) (pS res - pS h) (eF E) := by
  intro h x0 x1 res hf
  refine Met.ofW (cc := cX0_side) (maxL := 9) (ret := none) (by decide) rfl ?_
  intro p e s m args below meth c s₁ B hml hv
  obtain ⟨rfl, hP0⟩ := hv
  have hts := atoms_spec (ws := ws_ yX0_side cX0_side 9 none) B.pre
  have hts : ∀ w ∈ lw_all, w.before _ s = true := fun w h => hts w (List.mem_cons_of_mem _ h)
  have C : PC E p s m _ meth c RX0 cX0_side 9 none "side" := ⟨B.exec, B.bytes, B.returns, B.notSynchronized, hml, findClass_of_methodNamed B.named, hts, hP0.2, (name_of_methodNamed B.named B.method).1⟩
  have hz : ZP E s h h s.heap [] := ZG.start hP0.1
  have hl := lv_entry ([.ref x0, .ref x1]) (n := 9) (Nat.le_of_ble_eq_true rfl)
  rw [lg_entry_eq]
  generalize (lg_sl ([.ref x0, .ref x1]) ++ List.replicate (9 - (lg_sl ([.ref x0, .ref x1])).length) Slot.unset).toArray = ls at hl ⊢
  have hl : lv_has ls 9 [(0, .ref x0), (1, .ref x1)] := hl
  refine W.cs (cells' := pX h - pX h) (slots' := pS h - pS h) (Nat.sub_self _).symm (Nat.sub_self _).symm ?_
  exact w_X0_side_b C hrc ⟨Nat.le_refl _, Nat.le_refl _, RBw.rm⟩ hf hz hl rfl
theorem mets_X0_gather (l : Launch) (E : PEw) {N : Nat} (hrc : RK_lay l E N (F_lay N)) : ∀ {h : HP} {x0 : Nat} {x1 : Nat} {x2 : Nat} {res : HP}, f_X0_gather_b (F_lay N) h x0 x1 x2 = some res → Met l yX0_gather (ws_ yX0_gather cX0_gather 5 none) (rmP h (7 * (N + 1)) (163 * (N + 1))) (PP E h [.ref x0, .ref x1, .ref x2]) (QP E h res none) (pX res - pX h) (pS res - pS h) (eF E) := by
  intro h x0 x1 x2 res hf
  refine Met.ofW (cc := cX0_gather) (maxL := 5) (ret := none) (by decide) rfl ?_
  intro p e s m args below meth c s₁ B hml hv
  obtain ⟨rfl, hP0⟩ := hv
  have hts := atoms_spec (ws := ws_ yX0_gather cX0_gather 5 none) B.pre
  have hts : ∀ w ∈ lw_all, w.before _ s = true := fun w h => hts w (List.mem_cons_of_mem _ h)
  have C : PC E p s m _ meth c RX0 cX0_gather 5 none "gather" := ⟨B.exec, B.bytes, B.returns, B.notSynchronized, hml, findClass_of_methodNamed B.named, hts, hP0.2, (name_of_methodNamed B.named B.method).1⟩
  have hz : ZP E s h h s.heap [] := ZG.start hP0.1
  have hl := lv_entry ([.ref x0, .ref x1, .ref x2]) (n := 5) (Nat.le_of_ble_eq_true rfl)
  rw [lg_entry_eq]
  generalize (lg_sl ([.ref x0, .ref x1, .ref x2]) ++ List.replicate (5 - (lg_sl ([.ref x0, .ref x1, .ref x2])).length) Slot.unset).toArray = ls at hl ⊢
  have hl : lv_has ls 5 [(0, .ref x0), (1, .ref x1), (2, .ref x2)] := hl
  refine W.cs (cells' := pX h - pX h) (slots' := pS h - pS h) (Nat.sub_self _).symm (Nat.sub_self _).symm ?_
  exact w_X0_gather_b C hrc ⟨Nat.le_refl _, Nat.le_refl _, RBw.rm⟩ hf hz hl rfl
theorem RK_lay.all (l : Launch) (E : PEw) : ∀ N, RK_lay l E N (F_lay N) := by
  intro N
  induction N with
  | zero => exact ⟨(by intro h x0 x1 x2 x3 x4 res hf; cases hf), (by intro h x0 x1 res hf; cases hf), (by intro h x0 x1 x2 res hf; cases hf)⟩
  | succ N ih => exact ⟨mets_X0_lay l E ih, mets_X0_side l E ih, mets_X0_gather l E ih⟩
theorem met_X0_lay (l : Launch) (E : PEw) : ∀ {h : HP} {x0 : Nat} {x1 : Int} {x2 : Int} {x3 : Int} {x4 : Nat} {res : HP}, f_X0_lay 60 h x0 x1 x2 x3 x4 = some res → Met l yX0_lay (ws_ yX0_lay cX0_lay 10 none) (rmP h (420) (9780)) (PP E h [.ref x0, .int (zI x1), .int (zI x2), .int (zI x3), .ref x4]) (QP E h res none) (pX res - pX h) (pS res - pS h) (eF E) := (RK_lay.all l E 60).1
theorem met_X0_side (l : Launch) (E : PEw) : ∀ {h : HP} {x0 : Nat} {x1 : Nat} {res : HP}, f_X0_side 60 h x0 x1 = some res → Met l yX0_side (ws_ yX0_side cX0_side 9 none) (rmP h (420) (9780)) (PP E h [.ref x0, .ref x1]) (QP E h res none) (pX res - pX h) (pS res - pS h) (eF E) := (RK_lay.all l E 60).2.1
theorem met_X0_gather (l : Launch) (E : PEw) : ∀ {h : HP} {x0 : Nat} {x1 : Nat} {x2 : Nat} {res : HP}, f_X0_gather 60 h x0 x1 x2 = some res → Met l yX0_gather (ws_ yX0_gather cX0_gather 5 none) (rmP h (420) (9780)) (PP E h [.ref x0, .ref x1, .ref x2]) (QP E h res none) (pX res - pX h) (pS res - pS h) (eF E) := (RK_lay.all l E 60).2.2
theorem w_J10_fill_3_5s {p : Program} {l : Launch} {e : Env} {R : Room} {s : State} {m : MethodId} {args : Array Value} {below : List Frame} {meth : Method} {c : Code} {Q : State → Prop} {E : PEw} {h0 h : HP} {H : Heap} {locs : List Loc} (C : PC E p s m args meth c RJ10 cJ10_fill_3 4 none "fill") (hr : 0 ≤ R.frames ∧ 0 ≤ R.locals ∧ RBw R h0) {x0 : Nat} {x1 : Int} {x2 : Int} {x3 : Int} {res : (HP × Int) ⊕ (HP)} (hf : f_J10_fill_3_5s h x0 x1 x2 x3 = some res) (hz : ZP E s h0 h H locs) {ls : Array Slot} (hl : lv_has ls 4 [(0, .ref x0), (1, .int (zI x1)), (2, .int (zI x2)), (3, .int (zI x3))]) (hk : (Sum.elim (fun z => ∀ (H : Heap) (locs : List Loc) (ls : Array Slot), ZP E s h0 z.1 H locs → lv_has ls 4 [(0, .ref x0), (1, .int (zI x1)), (2, .int (zI z.2)), (3, .int (zI x3))] → W p l e R s m args below meth c H locs (pX z.1 - pX h0) (pS z.1 - pS h0) Q (F0 m 5 ls [])) (fun r => KP E below args s Q h0 r none)) res) : W p l e R s m args below meth c H locs (pX h - pX h0) (pS h - pS h0) Q (F0 m 5 ls []) := by
  unfold f_J10_fill_3_5s at hf
  have hx := C.1
  have hb := C.2.1
  refine lv_iload_n hx hb dJ10_fill_3_5 rfl (lv_at hl 2 rfl) ?_
  refine lv_iload_n hx hb dJ10_fill_3_6 rfl (lv_at hl 3 rfl) ?_
  refine zl_icmp_ge (tgt := 20) hx hb dJ10_fill_3_7 (by decide) (fun hc => ?_) (fun hc => ?_)
  · rw [if_pos hc] at hf
    refine lv_aload_n hx hb dJ10_fill_3_10 rfl (lv_at hl 0 rfl) ?_
    refine lv_iload_n hx hb dJ10_fill_3_11 rfl (lv_at hl 2 rfl) ?_
    refine lv_iload_n hx hb dJ10_fill_3_12 rfl (lv_at hl 1 rfl) ?_
    obtain ⟨hg, hf⟩ := gd_inv hf
    obtain ⟨hi, hf⟩ := gd_inv hf
    obtain ⟨h1, eh1, hf⟩ := bnd_inv hf
    refine zg_bast gP (by decide) C hz hg hi dJ10_fill_3_13 eh1 (fun H locs hz => ?_)
    refine zl_iinc (x := x2) (n := 1) (lv' := [(2, .int (zI (x2 + 1))), (0, .ref x0), (1, .int (zI x1)), (3, .int (zI x3))]) (k := 2) hx hb dJ10_fill_3_14 hl rfl (by decide) rfl (fun ls hl => ?_)
    refine lv_goto (tgt := 5) hx hb dJ10_fill_3_17 (by decide) ?_
    obtain rfl := Option.some.inj hf
    exact hk _ _ _ hz (lv_sub hl [1, 2, 0, 3] rfl)
  · rw [if_neg hc] at hf
    obtain rfl := Option.some.inj hf
    exact zg_vret C hz hk dJ10_fill_3_20

theorem w_J10_fill_3_5 {p : Program} {l : Launch} {e : Env} {R : Room} {s : State} {m : MethodId} {args : Array Value} {below : List Frame} {meth : Method} {c : Code} {Q : State → Prop} {E : PEw} {h0 h : HP} {H : Heap} {locs : List Loc} (C : PC E p s m args meth c RJ10 cJ10_fill_3 4 none "fill") (hr : 0 ≤ R.frames ∧ 0 ≤ R.locals ∧ RBw R h0) {x0 : Nat} {x1 : Int} {x2 : Int} {x3 : Int} {res : HP} (hf : f_J10_fill_3_5 h x0 x1 x2 x3 = some res) (hz : ZP E s h0 h H locs) {ls : Array Slot} (hl : lv_has ls 4 [(0, .ref x0), (1, .int (zI x1)), (2, .int (zI x2)), (3, .int (zI x3))]) (hk : KP E below args s Q h0 res none) : W p l e R s m args below meth c H locs (pX h - pX h0) (pS h - pS h0) Q (F0 m 5 ls []) := by
  unfold f_J10_fill_3_5 at hf
  refine iter_ind (P := fun z r => ∀ (H : Heap) (locs : List Loc) (ls : Array Slot), ZP E s h0 z.1 H locs → lv_has ls 4 [(0, .ref x0), (1, .int (zI x1)), (2, .int (zI z.2)), (3, .int (zI x3))] → KP E below args s Q h0 r none → W p l e R s m args below meth c H locs (pX z.1 - pX h0) (pS z.1 - pS h0) Q (F0 m 5 ls [])) ?_ ?_ hf H locs ls hz hl hk
  · intro z r h1 H locs ls hz hl hk; exact w_J10_fill_3_5s C hr h1 hz hl hk
  · intro z z1 r h1 ih H locs ls hz hl hk; exact w_J10_fill_3_5s C hr h1 hz hl (fun H locs ls hz hl => ih H locs ls hz hl hk)

theorem w_J10_fill_3 {p : Program} {l : Launch} {e : Env} {R : Room} {s : State} {m : MethodId} {args : Array Value} {below : List Frame} {meth : Method} {c : Code} {Q : State → Prop} {E : PEw} {h0 h : HP} {H : Heap} {locs : List Loc} (C : PC E p s m args meth c RJ10 cJ10_fill_3 4 none "fill") (hr : 0 ≤ R.frames ∧ 0 ≤ R.locals ∧ RBw R h0) {x0 : Nat} {x1 : Int} {res : HP} (hf : f_J10_fill_3 h x0 x1 = some res) (hz : ZP E s h0 h H locs) {ls : Array Slot} (hl : lv_has ls 4 [(0, .ref x0), (1, .int (zI x1))]) (hk : KP E below args s Q h0 res none) : W p l e R s m args below meth c H locs (pX h - pX h0) (pS h - pS h0) Q (F0 m 0 ls []) := by
  unfold f_J10_fill_3 at hf
  have hx := C.1
  have hb := C.2.1
  refine zl_iconst hx hb dJ10_fill_3_0 ?_
  refine lv_istore_n (lv' := [(2, .int (zI 0)), (0, .ref x0), (1, .int (zI x1))]) hx hb dJ10_fill_3_1 rfl hl (by decide) rfl (fun ls hl => ?_)
  refine lv_aload_n hx hb dJ10_fill_3_2 rfl (lv_at hl 1 rfl) ?_
  obtain ⟨hg, hf⟩ := gd_inv hf
  refine zg_alenP gP C hz hg dJ10_fill_3_3 ?_
  obtain ⟨y1, ey1, hf⟩ := bnd_inv hf
  refine zl_topi ey1 ?_
  refine lv_istore_n (lv' := [(3, .int (zI y1)), (2, .int (zI 0)), (0, .ref x0), (1, .int (zI x1))]) hx hb dJ10_fill_3_4 rfl hl (by decide) rfl (fun ls hl => ?_)
  exact w_J10_fill_3_5 C hr hf hz (lv_sub hl [2, 3, 1, 0] rfl) hk

theorem met_J10_fill_3 (l : Launch) (E : PEw) {h : HP} {x0 : Nat} {x1 : Int} {res : HP} (hf : f_J10_fill_3 h x0 x1 = some res) : Met l yJ10_fill_3 (ws_ yJ10_fill_3 cJ10_fill_3 4 none) (rmP h 0 0) (PP E h [.ref x0, .int (zI x1)]) (QP E h res none) (pX res - pX h) (pS res - pS h) (eF E) := by
  refine Met.ofW (cc := cJ10_fill_3) (maxL := 4) (ret := none) (by decide) rfl ?_
  intro p e s m args below meth c s₁ B hml hv
  obtain ⟨rfl, hP0⟩ := hv
  have hts := atoms_spec (ws := ws_ yJ10_fill_3 cJ10_fill_3 4 none) B.pre
  have hts : ∀ w ∈ lw_all, w.before _ s = true := fun w h => hts w (List.mem_cons_of_mem _ h)
  have C : PC E p s m _ meth c RJ10 cJ10_fill_3 4 none "fill" := ⟨B.exec, B.bytes, B.returns, B.notSynchronized, hml, findClass_of_methodNamed B.named, hts, hP0.2, (name_of_methodNamed B.named B.method).1⟩
  have hz : ZP E s h h s.heap [] := ZG.start hP0.1
  have hl := lv_entry ([.ref x0, .int (zI x1)]) (n := 4) (Nat.le_of_ble_eq_true rfl)
  rw [lg_entry_eq]
  generalize (lg_sl ([.ref x0, .int (zI x1)]) ++ List.replicate (4 - (lg_sl ([.ref x0, .int (zI x1)])).length) Slot.unset).toArray = ls at hl ⊢
  have hl : lv_has ls 4 [(0, .ref x0), (1, .int (zI x1))] := hl
  refine W.cs (cells' := pX h - pX h) (slots' := pS h - pS h) (Nat.sub_self _).symm (Nat.sub_self _).symm ?_
  exact w_J10_fill_3 C ⟨Nat.le_refl _, Nat.le_refl _, RBw.rm⟩ hf hz hl rfl

theorem w_X0_ground_84 {p : Program} {l : Launch} {e : Env} {R : Room} {s : State} {m : MethodId} {args : Array Value} {below : List Frame} {meth : Method} {c : Code} {Q : State → Prop} {E : PEw} {h0 h : HP} {H : Heap} {locs : List Loc} (C : PC E p s m args meth c RX0 cX0_ground 4 none "ground") (hr : 0 ≤ R.frames ∧ 0 ≤ R.locals ∧ RBw R h0) {x0 : Nat} {x1 : Nat} {x2 : Int} {res : (HP × Int) ⊕ (HP)} (hf : f_X0_ground_84 h x0 x1 x2 = some res) (hz : ZP E s h0 h H locs) {ls : Array Slot} (hl : lv_has ls 4 [(0, .ref x0), (1, .ref x1), (2, .int (zI x2))]) (hk : (Sum.elim (fun z => ∀ (H : Heap) (locs : List Loc) (ls : Array Slot), ZP E s h0 z.1 H locs → lv_has ls 4 [(0, .ref x0), (1, .ref x1), (2, .int (zI z.2))] → W p l e R s m args below meth c H locs (pX z.1 - pX h0) (pS z.1 - pS h0) Q (F0 m 15 ls [])) (fun r => KP E below args s Q h0 r none)) res) : W p l e R s m args below meth c H locs (pX h - pX h0) (pS h - pS h0) Q (F0 m 84 ls []) := by
  unfold f_X0_ground_84 at hf
  have hx := C.1
  have hb := C.2.1
  refine zl_iinc (x := x2) (n := 1) (lv' := [(2, .int (zI (x2 + 1))), (0, .ref x0), (1, .ref x1)]) (k := 2) hx hb dX0_ground_84 hl rfl (by decide) rfl (fun ls hl => ?_)
  refine lv_goto (tgt := 15) hx hb dX0_ground_87 (by decide) ?_
  obtain rfl := Option.some.inj hf
  exact hk _ _ _ hz (lv_sub hl [1, 2, 0] rfl)

theorem w_X0_ground_39s {p : Program} {l : Launch} {e : Env} {R : Room} {s : State} {m : MethodId} {args : Array Value} {below : List Frame} {meth : Method} {c : Code} {Q : State → Prop} {E : PEw} {h0 h : HP} {H : Heap} {locs : List Loc} (C : PC E p s m args meth c RX0 cX0_ground 4 none "ground") (hr : 0 ≤ R.frames ∧ 0 ≤ R.locals ∧ RBw R h0) {x0 : Nat} {x1 : Nat} {x2 : Int} {x3 : Int} {res : (HP × Int) ⊕ ((HP × Int) ⊕ (HP))} (hf : f_X0_ground_39s h x0 x1 x2 x3 = some res) (hz : ZP E s h0 h H locs) {ls : Array Slot} (hl : lv_has ls 4 [(0, .ref x0), (1, .ref x1), (2, .int (zI x2)), (3, .int (zI x3))]) (hk : (Sum.elim (fun z => ∀ (H : Heap) (locs : List Loc) (ls : Array Slot), ZP E s h0 z.1 H locs → lv_has ls 4 [(0, .ref x0), (1, .ref x1), (2, .int (zI x2)), (3, .int (zI z.2))] → W p l e R s m args below meth c H locs (pX z.1 - pX h0) (pS z.1 - pS h0) Q (F0 m 39 ls [])) (Sum.elim (fun z => ∀ (H : Heap) (locs : List Loc) (ls : Array Slot), ZP E s h0 z.1 H locs → lv_has ls 4 [(0, .ref x0), (1, .ref x1), (2, .int (zI z.2))] → W p l e R s m args below meth c H locs (pX z.1 - pX h0) (pS z.1 - pS h0) Q (F0 m 15 ls [])) (fun r => KP E below args s Q h0 r none))) res) : W p l e R s m args below meth c H locs (pX h - pX h0) (pS h - pS h0) Q (F0 m 39 ls []) := by
  unfold f_X0_ground_39s at hf
  have hx := C.1
  have hb := C.2.1
  refine lv_iload_n hx hb dX0_ground_39 rfl (lv_at hl 3 rfl) ?_
  refine lv_aload_n hx hb dX0_ground_40 rfl (lv_at hl 1 rfl) ?_
  obtain ⟨hg, hf⟩ := gd_inv hf
  refine zg_geti gP C hz 2 9 (gkp (by decide) hg) (by decide) (by decide) (Or.inr ⟨_, C.nw q176⟩) (fun _ h => h) dX0_ground_41 ?_
  refine lv_aload_n hx hb dX0_ground_44 rfl (lv_at hl 1 rfl) ?_
  obtain ⟨hg, hf⟩ := gd_inv hf
  refine zg_geti gP C hz 2 11 (gkp (by decide) hg) (by decide) (by decide) (Or.inr ⟨_, C.nw q179⟩) (fun _ h => h) dX0_ground_45 ?_
  refine zl_iadd hx hb dX0_ground_48 ?_
  refine zl_icmp_ge (tgt := 84) hx hb dX0_ground_49 (by decide) (fun hc => ?_) (fun hc => ?_)
  · rw [if_pos hc] at hf
    refine lv_iload_n hx hb dX0_ground_52 rfl (lv_at hl 3 rfl) ?_
    refine lv_aload_n hx hb dX0_ground_53 rfl (lv_at hl 0 rfl) ?_
    obtain ⟨hg, hf⟩ := gd_inv hf
    refine zg_geti gP C hz 1 17 (gkp (by decide) hg) (by decide) (by decide) (Or.inl (C.w q417)) (fun _ h => h) dX0_ground_54 ?_
    refine zl_icmp_ge (tgt := 84) hx hb dX0_ground_57 (by decide) (fun hc => ?_) (fun hc => ?_)
    · rw [if_pos hc] at hf
      refine lv_aload_n hx hb dX0_ground_60 rfl (lv_at hl 0 rfl) ?_
      obtain ⟨hg, hf⟩ := gd_inv hf
      refine zg_getp gP C hz 1 19 (gkp (by decide) hg) (by decide) (by decide) (Or.inl (C.w q419)) (fun _ h => h) dX0_ground_61 ?_
      refine zl_bipush hx hb dX0_ground_64 (by decide) ?_
      refine lv_iload_n hx hb dX0_ground_66 rfl (lv_at hl 2 rfl) ?_
      refine zl_imul hx hb dX0_ground_67 ?_
      refine lv_iload_n hx hb dX0_ground_68 rfl (lv_at hl 3 rfl) ?_
      refine zl_iadd hx hb dX0_ground_69 ?_
      refine lv_aload_n hx hb dX0_ground_70 rfl (lv_at hl 1 rfl) ?_
      obtain ⟨hg, hf⟩ := gd_inv hf
      refine zg_getp gP C hz 2 7 (gkp (by decide) hg) (by decide) (by decide) (Or.inr ⟨_, C.nw q173⟩) (fun _ h => h) dX0_ground_71 ?_
      refine zl_iconst hx hb dX0_ground_74 ?_
      obtain ⟨a1, ea1, hf⟩ := bd_inv hf
      rw [zx_rf ea1]
      obtain ⟨hg, hf⟩ := gd_inv hf
      obtain ⟨hi, hf⟩ := gd_inv hf
      refine zg_iald gP C hz hg hi dX0_ground_75 ?_
      refine zl_i2b hx hb dX0_ground_76 ?_
      obtain ⟨a2, ea2, hf⟩ := bd_inv hf
      rw [zx_rf ea2]
      obtain ⟨hg, hf⟩ := gd_inv hf
      obtain ⟨hi, hf⟩ := gd_inv hf
      obtain ⟨h3, eh3, hf⟩ := bnd_inv hf
      refine zg_bast gP (by decide) C hz hg hi dX0_ground_77 eh3 (fun H locs hz => ?_)
      refine zl_iinc (x := x3) (n := 1) (lv' := [(3, .int (zI (x3 + 1))), (0, .ref x0), (1, .ref x1), (2, .int (zI x2))]) (k := 3) hx hb dX0_ground_78 hl rfl (by decide) rfl (fun ls hl => ?_)
      refine lv_goto (tgt := 39) hx hb dX0_ground_81 (by decide) ?_
      obtain rfl := Option.some.inj hf
      exact hk _ _ _ hz (lv_sub hl [1, 2, 3, 0] rfl)
    · rw [if_neg hc] at hf
      obtain ⟨r0, hm0, rfl⟩ := mr_inv hf
      exact w_X0_ground_84 C hr hm0 hz (lv_sub hl [0, 1, 2] rfl) hk
  · rw [if_neg hc] at hf
    obtain ⟨r0, hm0, rfl⟩ := mr_inv hf
    exact w_X0_ground_84 C hr hm0 hz (lv_sub hl [0, 1, 2] rfl) hk

theorem w_X0_ground_39 {p : Program} {l : Launch} {e : Env} {R : Room} {s : State} {m : MethodId} {args : Array Value} {below : List Frame} {meth : Method} {c : Code} {Q : State → Prop} {E : PEw} {h0 h : HP} {H : Heap} {locs : List Loc} (C : PC E p s m args meth c RX0 cX0_ground 4 none "ground") (hr : 0 ≤ R.frames ∧ 0 ≤ R.locals ∧ RBw R h0) {x0 : Nat} {x1 : Nat} {x2 : Int} {x3 : Int} {res : (HP × Int) ⊕ (HP)} (hf : f_X0_ground_39 h x0 x1 x2 x3 = some res) (hz : ZP E s h0 h H locs) {ls : Array Slot} (hl : lv_has ls 4 [(0, .ref x0), (1, .ref x1), (2, .int (zI x2)), (3, .int (zI x3))]) (hk : (Sum.elim (fun z => ∀ (H : Heap) (locs : List Loc) (ls : Array Slot), ZP E s h0 z.1 H locs → lv_has ls 4 [(0, .ref x0), (1, .ref x1), (2, .int (zI z.2))] → W p l e R s m args below meth c H locs (pX z.1 - pX h0) (pS z.1 - pS h0) Q (F0 m 15 ls [])) (fun r => KP E below args s Q h0 r none)) res) : W p l e R s m args below meth c H locs (pX h - pX h0) (pS h - pS h0) Q (F0 m 39 ls []) := by
  unfold f_X0_ground_39 at hf
  refine iter_ind (P := fun z r => ∀ (H : Heap) (locs : List Loc) (ls : Array Slot), ZP E s h0 z.1 H locs → lv_has ls 4 [(0, .ref x0), (1, .ref x1), (2, .int (zI x2)), (3, .int (zI z.2))] → (Sum.elim (fun z => ∀ (H : Heap) (locs : List Loc) (ls : Array Slot), ZP E s h0 z.1 H locs → lv_has ls 4 [(0, .ref x0), (1, .ref x1), (2, .int (zI z.2))] → W p l e R s m args below meth c H locs (pX z.1 - pX h0) (pS z.1 - pS h0) Q (F0 m 15 ls [])) (fun r => KP E below args s Q h0 r none)) r → W p l e R s m args below meth c H locs (pX z.1 - pX h0) (pS z.1 - pS h0) Q (F0 m 39 ls [])) ?_ ?_ hf H locs ls hz hl hk
  · intro z r h1 H locs ls hz hl hk; exact w_X0_ground_39s C hr h1 hz hl hk
  · intro z z1 r h1 ih H locs ls hz hl hk; exact w_X0_ground_39s C hr h1 hz hl (fun H locs ls hz hl => ih H locs ls hz hl hk)

theorem w_X0_ground_15s {p : Program} {l : Launch} {e : Env} {R : Room} {s : State} {m : MethodId} {args : Array Value} {below : List Frame} {meth : Method} {c : Code} {Q : State → Prop} {E : PEw} {h0 h : HP} {H : Heap} {locs : List Loc} (C : PC E p s m args meth c RX0 cX0_ground 4 none "ground") (hr : 0 ≤ R.frames ∧ 0 ≤ R.locals ∧ RBw R h0) {x0 : Nat} {x1 : Nat} {x2 : Int} {res : (HP × Int) ⊕ (HP)} (hf : f_X0_ground_15s h x0 x1 x2 = some res) (hz : ZP E s h0 h H locs) {ls : Array Slot} (hl : lv_has ls 4 [(0, .ref x0), (1, .ref x1), (2, .int (zI x2))]) (hk : (Sum.elim (fun z => ∀ (H : Heap) (locs : List Loc) (ls : Array Slot), ZP E s h0 z.1 H locs → lv_has ls 4 [(0, .ref x0), (1, .ref x1), (2, .int (zI z.2))] → W p l e R s m args below meth c H locs (pX z.1 - pX h0) (pS z.1 - pS h0) Q (F0 m 15 ls [])) (fun r => KP E below args s Q h0 r none)) res) : W p l e R s m args below meth c H locs (pX h - pX h0) (pS h - pS h0) Q (F0 m 15 ls []) := by
  unfold f_X0_ground_15s at hf
  have hx := C.1
  have hb := C.2.1
  refine lv_iload_n hx hb dX0_ground_15 rfl (lv_at hl 2 rfl) ?_
  refine lv_aload_n hx hb dX0_ground_16 rfl (lv_at hl 1 rfl) ?_
  obtain ⟨hg, hf⟩ := gd_inv hf
  refine zg_geti gP C hz 2 10 (gkp (by decide) hg) (by decide) (by decide) (Or.inr ⟨_, C.nw q178⟩) (fun _ h => h) dX0_ground_17 ?_
  refine lv_aload_n hx hb dX0_ground_20 rfl (lv_at hl 1 rfl) ?_
  obtain ⟨hg, hf⟩ := gd_inv hf
  refine zg_geti gP C hz 2 12 (gkp (by decide) hg) (by decide) (by decide) (Or.inr ⟨_, C.nw q181⟩) (fun _ h => h) dX0_ground_21 ?_
  refine zl_iadd hx hb dX0_ground_24 ?_
  refine zl_icmp_ge (tgt := 90) hx hb dX0_ground_25 (by decide) (fun hc => ?_) (fun hc => ?_)
  · rw [if_pos hc] at hf
    refine lv_iload_n hx hb dX0_ground_28 rfl (lv_at hl 2 rfl) ?_
    refine zl_bipush hx hb dX0_ground_29 (by decide) ?_
    refine zl_icmp_ge (tgt := 90) hx hb dX0_ground_31 (by decide) (fun hc => ?_) (fun hc => ?_)
    · rw [if_pos hc] at hf
      refine lv_aload_n hx hb dX0_ground_34 rfl (lv_at hl 1 rfl) ?_
      obtain ⟨hg, hf⟩ := gd_inv hf
      refine zg_geti gP C hz 2 9 (gkp (by decide) hg) (by decide) (by decide) (Or.inr ⟨_, C.nw q176⟩) (fun _ h => h) dX0_ground_35 ?_
      obtain ⟨y1, ey1, hf⟩ := bnd_inv hf
      refine zl_topi ey1 ?_
      refine lv_istore_n (lv' := [(3, .int (zI y1)), (0, .ref x0), (1, .ref x1), (2, .int (zI x2))]) hx hb dX0_ground_38 rfl hl (by decide) rfl (fun ls hl => ?_)
      exact w_X0_ground_39 C hr hf hz (lv_sub hl [1, 2, 3, 0] rfl) hk
    · rw [if_neg hc] at hf
      obtain rfl := Option.some.inj hf
      exact zg_vret C hz hk dX0_ground_90
  · rw [if_neg hc] at hf
    obtain rfl := Option.some.inj hf
    exact zg_vret C hz hk dX0_ground_90

theorem w_X0_ground_15 {p : Program} {l : Launch} {e : Env} {R : Room} {s : State} {m : MethodId} {args : Array Value} {below : List Frame} {meth : Method} {c : Code} {Q : State → Prop} {E : PEw} {h0 h : HP} {H : Heap} {locs : List Loc} (C : PC E p s m args meth c RX0 cX0_ground 4 none "ground") (hr : 0 ≤ R.frames ∧ 0 ≤ R.locals ∧ RBw R h0) {x0 : Nat} {x1 : Nat} {x2 : Int} {res : HP} (hf : f_X0_ground_15 h x0 x1 x2 = some res) (hz : ZP E s h0 h H locs) {ls : Array Slot} (hl : lv_has ls 4 [(0, .ref x0), (1, .ref x1), (2, .int (zI x2))]) (hk : KP E below args s Q h0 res none) : W p l e R s m args below meth c H locs (pX h - pX h0) (pS h - pS h0) Q (F0 m 15 ls []) := by
  unfold f_X0_ground_15 at hf
  refine iter_ind (P := fun z r => ∀ (H : Heap) (locs : List Loc) (ls : Array Slot), ZP E s h0 z.1 H locs → lv_has ls 4 [(0, .ref x0), (1, .ref x1), (2, .int (zI z.2))] → KP E below args s Q h0 r none → W p l e R s m args below meth c H locs (pX z.1 - pX h0) (pS z.1 - pS h0) Q (F0 m 15 ls [])) ?_ ?_ hf H locs ls hz hl hk
  · intro z r h1 H locs ls hz hl hk; exact w_X0_ground_15s C hr h1 hz hl hk
  · intro z z1 r h1 ih H locs ls hz hl hk; exact w_X0_ground_15s C hr h1 hz hl (fun H locs ls hz hl => ih H locs ls hz hl hk)

theorem w_X0_ground {p : Program} {l : Launch} {e : Env} {R : Room} {s : State} {m : MethodId} {args : Array Value} {below : List Frame} {meth : Method} {c : Code} {Q : State → Prop} {E : PEw} {h0 h : HP} {H : Heap} {locs : List Loc} (C : PC E p s m args meth c RX0 cX0_ground 4 none "ground") (hr : 0 ≤ R.frames ∧ 0 ≤ R.locals ∧ RBw R h0) {x0 : Nat} {x1 : Nat} {res : HP} (hf : f_X0_ground h x0 x1 = some res) (hz : ZP E s h0 h H locs) {ls : Array Slot} (hl : lv_has ls 4 [(0, .ref x0), (1, .ref x1)]) (hk : KP E below args s Q h0 res none) : W p l e R s m args below meth c H locs (pX h - pX h0) (pS h - pS h0) Q (F0 m 0 ls []) := by
  unfold f_X0_ground at hf
  have hx := C.1
  have hb := C.2.1
  refine lv_aload_n hx hb dX0_ground_0 rfl (lv_at hl 1 rfl) ?_
  obtain ⟨hg, hf⟩ := gd_inv hf
  refine zg_getp gP C hz 2 7 (gkp (by decide) hg) (by decide) (by decide) (Or.inr ⟨_, C.nw q173⟩) (fun _ h => h) dX0_ground_1 ?_
  refine zl_iconst hx hb dX0_ground_4 ?_
  obtain ⟨a1, ea1, hf⟩ := bd_inv hf
  rw [zx_rf ea1]
  obtain ⟨hg, hf⟩ := gd_inv hf
  obtain ⟨hi, hf⟩ := gd_inv hf
  refine zg_iald gP C hz hg hi dX0_ground_5 ?_
  refine zl_if_ne (tgt := 10) hx hb dX0_ground_6 (by decide) (fun hc => ?_) (fun hc => ?_)
  · rw [if_pos hc] at hf
    obtain rfl := Option.some.inj hf
    exact zg_vret C hz hk dX0_ground_9
  · rw [if_neg hc] at hf
    refine lv_aload_n hx hb dX0_ground_10 rfl (lv_at hl 1 rfl) ?_
    obtain ⟨hg, hf⟩ := gd_inv hf
    refine zg_geti gP C hz 2 10 (gkp (by decide) hg) (by decide) (by decide) (Or.inr ⟨_, C.nw q178⟩) (fun _ h => h) dX0_ground_11 ?_
    obtain ⟨y2, ey2, hf⟩ := bnd_inv hf
    refine zl_topi ey2 ?_
    refine lv_istore_n (lv' := [(2, .int (zI y2)), (0, .ref x0), (1, .ref x1)]) hx hb dX0_ground_14 rfl hl (by decide) rfl (fun ls hl => ?_)
    exact w_X0_ground_15 C hr hf hz (lv_sub hl [1, 2, 0] rfl) hk

theorem met_X0_ground (l : Launch) (E : PEw) {h : HP} {x0 : Nat} {x1 : Nat} {res : HP} (hf : f_X0_ground h x0 x1 = some res) : Met l yX0_ground (ws_ yX0_ground cX0_ground 4 none) (rmP h 0 0) (PP E h [.ref x0, .ref x1]) (QP E h res none) (pX res - pX h) (pS res - pS h) (eF E) := by
  refine Met.ofW (cc := cX0_ground) (maxL := 4) (ret := none) (by decide) rfl ?_
  intro p e s m args below meth c s₁ B hml hv
  obtain ⟨rfl, hP0⟩ := hv
  have hts := atoms_spec (ws := ws_ yX0_ground cX0_ground 4 none) B.pre
  have hts : ∀ w ∈ lw_all, w.before _ s = true := fun w h => hts w (List.mem_cons_of_mem _ h)
  have C : PC E p s m _ meth c RX0 cX0_ground 4 none "ground" := ⟨B.exec, B.bytes, B.returns, B.notSynchronized, hml, findClass_of_methodNamed B.named, hts, hP0.2, (name_of_methodNamed B.named B.method).1⟩
  have hz : ZP E s h h s.heap [] := ZG.start hP0.1
  have hl := lv_entry ([.ref x0, .ref x1]) (n := 4) (Nat.le_of_ble_eq_true rfl)
  rw [lg_entry_eq]
  generalize (lg_sl ([.ref x0, .ref x1]) ++ List.replicate (4 - (lg_sl ([.ref x0, .ref x1])).length) Slot.unset).toArray = ls at hl ⊢
  have hl : lv_has ls 4 [(0, .ref x0), (1, .ref x1)] := hl
  refine W.cs (cells' := pX h - pX h) (slots' := pS h - pS h) (Nat.sub_self _).symm (Nat.sub_self _).symm ?_
  exact w_X0_ground C ⟨Nat.le_refl _, Nat.le_refl _, RBw.rm⟩ hf hz hl rfl

theorem w_X0_glyph_99 {p : Program} {l : Launch} {e : Env} {R : Room} {s : State} {m : MethodId} {args : Array Value} {below : List Frame} {meth : Method} {c : Code} {Q : State → Prop} {E : PEw} {h0 h : HP} {H : Heap} {locs : List Loc} (C : PC E p s m args meth c RX0 cX0_glyph 8 none "glyph") (hr : 0 ≤ R.frames ∧ 0 ≤ R.locals ∧ RBw R h0) {x0 : Nat} {x1 : Int} {x2 : Int} {x3 : Int} {x4 : Nat} {x5 : Int} {x6 : Int} {x7 : Int} {res : (HP × Int) ⊕ ((HP × Int) ⊕ (HP))} (hf : f_X0_glyph_99 h x0 x1 x2 x3 x4 x5 x6 x7 = some res) (hz : ZP E s h0 h H locs) {ls : Array Slot} (hl : lv_has ls 8 [(0, .ref x0), (1, .int (zI x1)), (2, .int (zI x2)), (3, .int (zI x3)), (4, .ref x4), (5, .int (zI x5)), (6, .int (zI x6)), (7, .int (zI x7))]) (hk : (Sum.elim (fun z => ∀ (H : Heap) (locs : List Loc) (ls : Array Slot), ZP E s h0 z.1 H locs → lv_has ls 8 [(0, .ref x0), (1, .int (zI x1)), (2, .int (zI x2)), (3, .int (zI x3)), (4, .ref x4), (5, .int (zI x5)), (6, .int (zI x6)), (7, .int (zI z.2))] → W p l e R s m args below meth c H locs (pX z.1 - pX h0) (pS z.1 - pS h0) Q (F0 m 31 ls [])) (Sum.elim (fun z => ∀ (H : Heap) (locs : List Loc) (ls : Array Slot), ZP E s h0 z.1 H locs → lv_has ls 8 [(0, .ref x0), (1, .int (zI x1)), (2, .int (zI x2)), (3, .int (zI x3)), (4, .ref x4), (5, .int (zI x5)), (6, .int (zI z.2))] → W p l e R s m args below meth c H locs (pX z.1 - pX h0) (pS z.1 - pS h0) Q (F0 m 12 ls [])) (fun r => KP E below args s Q h0 r none))) res) : W p l e R s m args below meth c H locs (pX h - pX h0) (pS h - pS h0) Q (F0 m 99 ls []) := by
  unfold f_X0_glyph_99 at hf
  have hx := C.1
  have hb := C.2.1
  refine zl_iinc (x := x7) (n := 1) (lv' := [(7, .int (zI (x7 + 1))), (0, .ref x0), (1, .int (zI x1)), (2, .int (zI x2)), (3, .int (zI x3)), (4, .ref x4), (5, .int (zI x5)), (6, .int (zI x6))]) (k := 7) hx hb dX0_glyph_99 hl rfl (by decide) rfl (fun ls hl => ?_)
  refine lv_goto (tgt := 31) hx hb dX0_glyph_102 (by decide) ?_
  obtain rfl := Option.some.inj hf
  exact hk _ _ _ hz (lv_sub hl [1, 2, 3, 4, 5, 6, 7, 0] rfl)

theorem w_X0_glyph_105 {p : Program} {l : Launch} {e : Env} {R : Room} {s : State} {m : MethodId} {args : Array Value} {below : List Frame} {meth : Method} {c : Code} {Q : State → Prop} {E : PEw} {h0 h : HP} {H : Heap} {locs : List Loc} (C : PC E p s m args meth c RX0 cX0_glyph 8 none "glyph") (hr : 0 ≤ R.frames ∧ 0 ≤ R.locals ∧ RBw R h0) {x0 : Nat} {x1 : Int} {x2 : Int} {x3 : Int} {x4 : Nat} {x5 : Int} {x6 : Int} {res : (HP × Int) ⊕ (HP)} (hf : f_X0_glyph_105 h x0 x1 x2 x3 x4 x5 x6 = some res) (hz : ZP E s h0 h H locs) {ls : Array Slot} (hl : lv_has ls 8 [(0, .ref x0), (1, .int (zI x1)), (2, .int (zI x2)), (3, .int (zI x3)), (4, .ref x4), (5, .int (zI x5)), (6, .int (zI x6))]) (hk : (Sum.elim (fun z => ∀ (H : Heap) (locs : List Loc) (ls : Array Slot), ZP E s h0 z.1 H locs → lv_has ls 8 [(0, .ref x0), (1, .int (zI x1)), (2, .int (zI x2)), (3, .int (zI x3)), (4, .ref x4), (5, .int (zI x5)), (6, .int (zI z.2))] → W p l e R s m args below meth c H locs (pX z.1 - pX h0) (pS z.1 - pS h0) Q (F0 m 12 ls [])) (fun r => KP E below args s Q h0 r none)) res) : W p l e R s m args below meth c H locs (pX h - pX h0) (pS h - pS h0) Q (F0 m 105 ls []) := by
  unfold f_X0_glyph_105 at hf
  have hx := C.1
  have hb := C.2.1
  refine zl_iinc (x := x6) (n := 1) (lv' := [(6, .int (zI (x6 + 1))), (0, .ref x0), (1, .int (zI x1)), (2, .int (zI x2)), (3, .int (zI x3)), (4, .ref x4), (5, .int (zI x5))]) (k := 6) hx hb dX0_glyph_105 hl rfl (by decide) rfl (fun ls hl => ?_)
  refine lv_goto (tgt := 12) hx hb dX0_glyph_108 (by decide) ?_
  obtain rfl := Option.some.inj hf
  exact hk _ _ _ hz (lv_sub hl [1, 2, 3, 4, 5, 6, 0] rfl)

theorem w_X0_glyph_31s {p : Program} {l : Launch} {e : Env} {R : Room} {s : State} {m : MethodId} {args : Array Value} {below : List Frame} {meth : Method} {c : Code} {Q : State → Prop} {E : PEw} {h0 h : HP} {H : Heap} {locs : List Loc} (C : PC E p s m args meth c RX0 cX0_glyph 8 none "glyph") (hr : 0 ≤ R.frames ∧ 0 ≤ R.locals ∧ RBw R h0) {x0 : Nat} {x1 : Int} {x2 : Int} {x3 : Int} {x4 : Nat} {x5 : Int} {x6 : Int} {x7 : Int} {res : (HP × Int) ⊕ ((HP × Int) ⊕ (HP))} (hf : f_X0_glyph_31s h x0 x1 x2 x3 x4 x5 x6 x7 = some res) (hz : ZP E s h0 h H locs) {ls : Array Slot} (hl : lv_has ls 8 [(0, .ref x0), (1, .int (zI x1)), (2, .int (zI x2)), (3, .int (zI x3)), (4, .ref x4), (5, .int (zI x5)), (6, .int (zI x6)), (7, .int (zI x7))]) (hk : (Sum.elim (fun z => ∀ (H : Heap) (locs : List Loc) (ls : Array Slot), ZP E s h0 z.1 H locs → lv_has ls 8 [(0, .ref x0), (1, .int (zI x1)), (2, .int (zI x2)), (3, .int (zI x3)), (4, .ref x4), (5, .int (zI x5)), (6, .int (zI x6)), (7, .int (zI z.2))] → W p l e R s m args below meth c H locs (pX z.1 - pX h0) (pS z.1 - pS h0) Q (F0 m 31 ls [])) (Sum.elim (fun z => ∀ (H : Heap) (locs : List Loc) (ls : Array Slot), ZP E s h0 z.1 H locs → lv_has ls 8 [(0, .ref x0), (1, .int (zI x1)), (2, .int (zI x2)), (3, .int (zI x3)), (4, .ref x4), (5, .int (zI x5)), (6, .int (zI z.2))] → W p l e R s m args below meth c H locs (pX z.1 - pX h0) (pS z.1 - pS h0) Q (F0 m 12 ls [])) (fun r => KP E below args s Q h0 r none))) res) : W p l e R s m args below meth c H locs (pX h - pX h0) (pS h - pS h0) Q (F0 m 31 ls []) := by
  unfold f_X0_glyph_31s at hf
  have hx := C.1
  have hb := C.2.1
  refine lv_iload hx hb dX0_glyph_31 (lv_at hl 7 rfl) ?_
  refine lv_iload hx hb dX0_glyph_33 (lv_at hl 5 rfl) ?_
  refine zl_icmp_ge (tgt := 105) hx hb dX0_glyph_35 (by decide) (fun hc => ?_) (fun hc => ?_)
  · rw [if_pos hc] at hf
    refine lv_iload_n hx hb dX0_glyph_38 rfl (lv_at hl 2 rfl) ?_
    refine lv_iload hx hb dX0_glyph_39 (lv_at hl 7 rfl) ?_
    refine zl_iadd hx hb dX0_glyph_41 ?_
    refine lv_aload_n hx hb dX0_glyph_42 rfl (lv_at hl 0 rfl) ?_
    obtain ⟨hg, hf⟩ := gd_inv hf
    refine zg_geti gP C hz 1 17 (gkp (by decide) hg) (by decide) (by decide) (Or.inl (C.w q417)) (fun _ h => h) dX0_glyph_43 ?_
    refine zl_icmp_ge (tgt := 105) hx hb dX0_glyph_46 (by decide) (fun hc => ?_) (fun hc => ?_)
    · rw [if_pos hc] at hf
      refine lv_iload_n hx hb dX0_glyph_49 rfl (lv_at hl 1 rfl) ?_
      refine zl_iconst hx hb dX0_glyph_50 ?_
      refine zl_iconst hx hb dX0_glyph_51 ?_
      refine lv_iload hx hb dX0_glyph_52 (lv_at hl 6 rfl) ?_
      refine zl_imul hx hb dX0_glyph_54 ?_
      refine lv_iload hx hb dX0_glyph_55 (lv_at hl 5 rfl) ?_
      obtain ⟨hg, hf⟩ := gd_inv hf
      refine zl_idiv hx hb hg dX0_glyph_57 ?_
      refine zl_imul hx hb dX0_glyph_58 ?_
      refine zl_iconst hx hb dX0_glyph_59 ?_
      refine lv_iload hx hb dX0_glyph_60 (lv_at hl 7 rfl) ?_
      refine zl_imul hx hb dX0_glyph_62 ?_
      refine lv_iload hx hb dX0_glyph_63 (lv_at hl 5 rfl) ?_
      obtain ⟨hg, hf⟩ := gd_inv hf
      refine zl_idiv hx hb hg dX0_glyph_65 ?_
      refine zl_iadd hx hb dX0_glyph_66 ?_
      refine zl_ishr hx hb dX0_glyph_67 ?_
      refine zl_iconst hx hb dX0_glyph_68 ?_
      refine zl_iand hx hb dX0_glyph_69 ?_
      refine zl_iconst hx hb dX0_glyph_70 ?_
      refine zl_icmp_ne (tgt := 99) hx hb dX0_glyph_71 (by decide) (fun hc => ?_) (fun hc => ?_)
      · rw [if_pos hc] at hf
        refine lv_aload_n hx hb dX0_glyph_74 rfl (lv_at hl 0 rfl) ?_
        obtain ⟨hg, hf⟩ := gd_inv hf
        refine zg_getp gP C hz 1 19 (gkp (by decide) hg) (by decide) (by decide) (Or.inl (C.w q419)) (fun _ h => h) dX0_glyph_75 ?_
        refine zl_bipush hx hb dX0_glyph_78 (by decide) ?_
        refine lv_iload_n hx hb dX0_glyph_80 rfl (lv_at hl 3 rfl) ?_
        refine lv_iload hx hb dX0_glyph_81 (lv_at hl 6 rfl) ?_
        refine zl_iadd hx hb dX0_glyph_83 ?_
        refine zl_imul hx hb dX0_glyph_84 ?_
        refine lv_iload_n hx hb dX0_glyph_85 rfl (lv_at hl 2 rfl) ?_
        refine zl_iadd hx hb dX0_glyph_86 ?_
        refine lv_iload hx hb dX0_glyph_87 (lv_at hl 7 rfl) ?_
        refine zl_iadd hx hb dX0_glyph_89 ?_
        refine lv_aload hx hb dX0_glyph_90 (lv_at hl 4 rfl) ?_
        obtain ⟨hg, hf⟩ := gd_inv hf
        refine zg_getp gP C hz 2 7 (gkp (by decide) hg) (by decide) (by decide) (Or.inr ⟨_, C.nw q173⟩) (fun _ h => h) dX0_glyph_92 ?_
        refine zl_iconst hx hb dX0_glyph_95 ?_
        obtain ⟨a1, ea1, hf⟩ := bd_inv hf
        rw [zx_rf ea1]
        obtain ⟨hg, hf⟩ := gd_inv hf
        obtain ⟨hi, hf⟩ := gd_inv hf
        refine zg_iald gP C hz hg hi dX0_glyph_96 ?_
        refine zl_i2b hx hb dX0_glyph_97 ?_
        obtain ⟨a2, ea2, hf⟩ := bd_inv hf
        rw [zx_rf ea2]
        obtain ⟨hg, hf⟩ := gd_inv hf
        obtain ⟨hi, hf⟩ := gd_inv hf
        obtain ⟨h3, eh3, hf⟩ := bnd_inv hf
        refine zg_bast gP (by decide) C hz hg hi dX0_glyph_98 eh3 (fun H locs hz => ?_)
        exact w_X0_glyph_99 C hr hf hz (lv_sub hl [0, 1, 2, 3, 4, 5, 6, 7] rfl) hk
      · rw [if_neg hc] at hf
        exact w_X0_glyph_99 C hr hf hz (lv_sub hl [0, 1, 2, 3, 4, 5, 6, 7] rfl) hk
    · rw [if_neg hc] at hf
      obtain ⟨r0, hm0, rfl⟩ := mr_inv hf
      exact w_X0_glyph_105 C hr hm0 hz (lv_sub hl [0, 1, 2, 3, 4, 5, 6] rfl) hk
  · rw [if_neg hc] at hf
    obtain ⟨r0, hm0, rfl⟩ := mr_inv hf
    exact w_X0_glyph_105 C hr hm0 hz (lv_sub hl [0, 1, 2, 3, 4, 5, 6] rfl) hk

theorem w_X0_glyph_31 {p : Program} {l : Launch} {e : Env} {R : Room} {s : State} {m : MethodId} {args : Array Value} {below : List Frame} {meth : Method} {c : Code} {Q : State → Prop} {E : PEw} {h0 h : HP} {H : Heap} {locs : List Loc} (C : PC E p s m args meth c RX0 cX0_glyph 8 none "glyph") (hr : 0 ≤ R.frames ∧ 0 ≤ R.locals ∧ RBw R h0) {x0 : Nat} {x1 : Int} {x2 : Int} {x3 : Int} {x4 : Nat} {x5 : Int} {x6 : Int} {x7 : Int} {res : (HP × Int) ⊕ (HP)} (hf : f_X0_glyph_31 h x0 x1 x2 x3 x4 x5 x6 x7 = some res) (hz : ZP E s h0 h H locs) {ls : Array Slot} (hl : lv_has ls 8 [(0, .ref x0), (1, .int (zI x1)), (2, .int (zI x2)), (3, .int (zI x3)), (4, .ref x4), (5, .int (zI x5)), (6, .int (zI x6)), (7, .int (zI x7))]) (hk : (Sum.elim (fun z => ∀ (H : Heap) (locs : List Loc) (ls : Array Slot), ZP E s h0 z.1 H locs → lv_has ls 8 [(0, .ref x0), (1, .int (zI x1)), (2, .int (zI x2)), (3, .int (zI x3)), (4, .ref x4), (5, .int (zI x5)), (6, .int (zI z.2))] → W p l e R s m args below meth c H locs (pX z.1 - pX h0) (pS z.1 - pS h0) Q (F0 m 12 ls [])) (fun r => KP E below args s Q h0 r none)) res) : W p l e R s m args below meth c H locs (pX h - pX h0) (pS h - pS h0) Q (F0 m 31 ls []) := by
  unfold f_X0_glyph_31 at hf
  refine iter_ind (P := fun z r => ∀ (H : Heap) (locs : List Loc) (ls : Array Slot), ZP E s h0 z.1 H locs → lv_has ls 8 [(0, .ref x0), (1, .int (zI x1)), (2, .int (zI x2)), (3, .int (zI x3)), (4, .ref x4), (5, .int (zI x5)), (6, .int (zI x6)), (7, .int (zI z.2))] → (Sum.elim (fun z => ∀ (H : Heap) (locs : List Loc) (ls : Array Slot), ZP E s h0 z.1 H locs → lv_has ls 8 [(0, .ref x0), (1, .int (zI x1)), (2, .int (zI x2)), (3, .int (zI x3)), (4, .ref x4), (5, .int (zI x5)), (6, .int (zI z.2))] → W p l e R s m args below meth c H locs (pX z.1 - pX h0) (pS z.1 - pS h0) Q (F0 m 12 ls [])) (fun r => KP E below args s Q h0 r none)) r → W p l e R s m args below meth c H locs (pX z.1 - pX h0) (pS z.1 - pS h0) Q (F0 m 31 ls [])) ?_ ?_ hf H locs ls hz hl hk
  · intro z r h1 H locs ls hz hl hk; exact w_X0_glyph_31s C hr h1 hz hl hk
  · intro z z1 r h1 ih H locs ls hz hl hk; exact w_X0_glyph_31s C hr h1 hz hl (fun H locs ls hz hl => ih H locs ls hz hl hk)

theorem w_X0_glyph_12s {p : Program} {l : Launch} {e : Env} {R : Room} {s : State} {m : MethodId} {args : Array Value} {below : List Frame} {meth : Method} {c : Code} {Q : State → Prop} {E : PEw} {h0 h : HP} {H : Heap} {locs : List Loc} (C : PC E p s m args meth c RX0 cX0_glyph 8 none "glyph") (hr : 0 ≤ R.frames ∧ 0 ≤ R.locals ∧ RBw R h0) {x0 : Nat} {x1 : Int} {x2 : Int} {x3 : Int} {x4 : Nat} {x5 : Int} {x6 : Int} {res : (HP × Int) ⊕ (HP)} (hf : f_X0_glyph_12s h x0 x1 x2 x3 x4 x5 x6 = some res) (hz : ZP E s h0 h H locs) {ls : Array Slot} (hl : lv_has ls 8 [(0, .ref x0), (1, .int (zI x1)), (2, .int (zI x2)), (3, .int (zI x3)), (4, .ref x4), (5, .int (zI x5)), (6, .int (zI x6))]) (hk : (Sum.elim (fun z => ∀ (H : Heap) (locs : List Loc) (ls : Array Slot), ZP E s h0 z.1 H locs → lv_has ls 8 [(0, .ref x0), (1, .int (zI x1)), (2, .int (zI x2)), (3, .int (zI x3)), (4, .ref x4), (5, .int (zI x5)), (6, .int (zI z.2))] → W p l e R s m args below meth c H locs (pX z.1 - pX h0) (pS z.1 - pS h0) Q (F0 m 12 ls [])) (fun r => KP E below args s Q h0 r none)) res) : W p l e R s m args below meth c H locs (pX h - pX h0) (pS h - pS h0) Q (F0 m 12 ls []) := by
  unfold f_X0_glyph_12s at hf
  have hx := C.1
  have hb := C.2.1
  refine lv_iload hx hb dX0_glyph_12 (lv_at hl 6 rfl) ?_
  refine lv_iload hx hb dX0_glyph_14 (lv_at hl 5 rfl) ?_
  refine zl_icmp_ge (tgt := 111) hx hb dX0_glyph_16 (by decide) (fun hc => ?_) (fun hc => ?_)
  · rw [if_pos hc] at hf
    refine lv_iload_n hx hb dX0_glyph_19 rfl (lv_at hl 3 rfl) ?_
    refine lv_iload hx hb dX0_glyph_20 (lv_at hl 6 rfl) ?_
    refine zl_iadd hx hb dX0_glyph_22 ?_
    refine zl_bipush hx hb dX0_glyph_23 (by decide) ?_
    refine zl_icmp_ge (tgt := 111) hx hb dX0_glyph_25 (by decide) (fun hc => ?_) (fun hc => ?_)
    · rw [if_pos hc] at hf
      refine zl_iconst hx hb dX0_glyph_28 ?_
      refine lv_istore (lv' := [(7, .int (zI 0)), (0, .ref x0), (1, .int (zI x1)), (2, .int (zI x2)), (3, .int (zI x3)), (4, .ref x4), (5, .int (zI x5)), (6, .int (zI x6))]) hx hb dX0_glyph_29 hl (by decide) rfl (fun ls hl => ?_)
      exact w_X0_glyph_31 C hr hf hz (lv_sub hl [1, 2, 3, 4, 5, 6, 7, 0] rfl) hk
    · rw [if_neg hc] at hf
      obtain rfl := Option.some.inj hf
      exact zg_vret C hz hk dX0_glyph_111
  · rw [if_neg hc] at hf
    obtain rfl := Option.some.inj hf
    exact zg_vret C hz hk dX0_glyph_111

theorem w_X0_glyph_12 {p : Program} {l : Launch} {e : Env} {R : Room} {s : State} {m : MethodId} {args : Array Value} {below : List Frame} {meth : Method} {c : Code} {Q : State → Prop} {E : PEw} {h0 h : HP} {H : Heap} {locs : List Loc} (C : PC E p s m args meth c RX0 cX0_glyph 8 none "glyph") (hr : 0 ≤ R.frames ∧ 0 ≤ R.locals ∧ RBw R h0) {x0 : Nat} {x1 : Int} {x2 : Int} {x3 : Int} {x4 : Nat} {x5 : Int} {x6 : Int} {res : HP} (hf : f_X0_glyph_12 h x0 x1 x2 x3 x4 x5 x6 = some res) (hz : ZP E s h0 h H locs) {ls : Array Slot} (hl : lv_has ls 8 [(0, .ref x0), (1, .int (zI x1)), (2, .int (zI x2)), (3, .int (zI x3)), (4, .ref x4), (5, .int (zI x5)), (6, .int (zI x6))]) (hk : KP E below args s Q h0 res none) : W p l e R s m args below meth c H locs (pX h - pX h0) (pS h - pS h0) Q (F0 m 12 ls []) := by
  unfold f_X0_glyph_12 at hf
  refine iter_ind (P := fun z r => ∀ (H : Heap) (locs : List Loc) (ls : Array Slot), ZP E s h0 z.1 H locs → lv_has ls 8 [(0, .ref x0), (1, .int (zI x1)), (2, .int (zI x2)), (3, .int (zI x3)), (4, .ref x4), (5, .int (zI x5)), (6, .int (zI z.2))] → KP E below args s Q h0 r none → W p l e R s m args below meth c H locs (pX z.1 - pX h0) (pS z.1 - pS h0) Q (F0 m 12 ls [])) ?_ ?_ hf H locs ls hz hl hk
  · intro z r h1 H locs ls hz hl hk; exact w_X0_glyph_12s C hr h1 hz hl hk
  · intro z z1 r h1 ih H locs ls hz hl hk; exact w_X0_glyph_12s C hr h1 hz hl (fun H locs ls hz hl => ih H locs ls hz hl hk)

theorem w_X0_glyph {p : Program} {l : Launch} {e : Env} {R : Room} {s : State} {m : MethodId} {args : Array Value} {below : List Frame} {meth : Method} {c : Code} {Q : State → Prop} {E : PEw} {h0 h : HP} {H : Heap} {locs : List Loc} (C : PC E p s m args meth c RX0 cX0_glyph 8 none "glyph") (hr : 0 ≤ R.frames ∧ 0 ≤ R.locals ∧ RBw R h0) {x0 : Nat} {x1 : Int} {x2 : Int} {x3 : Int} {x4 : Nat} {res : HP} (hf : f_X0_glyph h x0 x1 x2 x3 x4 = some res) (hz : ZP E s h0 h H locs) {ls : Array Slot} (hl : lv_has ls 8 [(0, .ref x0), (1, .int (zI x1)), (2, .int (zI x2)), (3, .int (zI x3)), (4, .ref x4)]) (hk : KP E below args s Q h0 res none) : W p l e R s m args below meth c H locs (pX h - pX h0) (pS h - pS h0) Q (F0 m 0 ls []) := by
  unfold f_X0_glyph at hf
  have hx := C.1
  have hb := C.2.1
  refine lv_aload hx hb dX0_glyph_0 (lv_at hl 4 rfl) ?_
  obtain ⟨hg, hf⟩ := gd_inv hf
  refine zg_getp gP C hz 2 7 (gkp (by decide) hg) (by decide) (by decide) (Or.inr ⟨_, C.nw q173⟩) (fun _ h => h) dX0_glyph_2 ?_
  refine zl_iconst hx hb dX0_glyph_5 ?_
  obtain ⟨a1, ea1, hf⟩ := bd_inv hf
  rw [zx_rf ea1]
  obtain ⟨hg, hf⟩ := gd_inv hf
  obtain ⟨hi, hf⟩ := gd_inv hf
  refine zg_iald gP C hz hg hi dX0_glyph_6 ?_
  obtain ⟨y2, ey2, hf⟩ := bnd_inv hf
  refine zl_topi ey2 ?_
  refine lv_istore (lv' := [(5, .int (zI y2)), (0, .ref x0), (1, .int (zI x1)), (2, .int (zI x2)), (3, .int (zI x3)), (4, .ref x4)]) hx hb dX0_glyph_7 hl (by decide) rfl (fun ls hl => ?_)
  refine zl_iconst hx hb dX0_glyph_9 ?_
  refine lv_istore (lv' := [(6, .int (zI 0)), (5, .int (zI y2)), (0, .ref x0), (1, .int (zI x1)), (2, .int (zI x2)), (3, .int (zI x3)), (4, .ref x4)]) hx hb dX0_glyph_10 hl (by decide) rfl (fun ls hl => ?_)
  exact w_X0_glyph_12 C hr hf hz (lv_sub hl [2, 3, 4, 5, 6, 1, 0] rfl) hk

theorem met_X0_glyph (l : Launch) (E : PEw) {h : HP} {x0 : Nat} {x1 : Int} {x2 : Int} {x3 : Int} {x4 : Nat} {res : HP} (hf : f_X0_glyph h x0 x1 x2 x3 x4 = some res) : Met l yX0_glyph (ws_ yX0_glyph cX0_glyph 8 none) (rmP h 0 0) (PP E h [.ref x0, .int (zI x1), .int (zI x2), .int (zI x3), .ref x4]) (QP E h res none) (pX res - pX h) (pS res - pS h) (eF E) := by
  refine Met.ofW (cc := cX0_glyph) (maxL := 8) (ret := none) (by decide) rfl ?_
  intro p e s m args below meth c s₁ B hml hv
  obtain ⟨rfl, hP0⟩ := hv
  have hts := atoms_spec (ws := ws_ yX0_glyph cX0_glyph 8 none) B.pre
  have hts : ∀ w ∈ lw_all, w.before _ s = true := fun w h => hts w (List.mem_cons_of_mem _ h)
  have C : PC E p s m _ meth c RX0 cX0_glyph 8 none "glyph" := ⟨B.exec, B.bytes, B.returns, B.notSynchronized, hml, findClass_of_methodNamed B.named, hts, hP0.2, (name_of_methodNamed B.named B.method).1⟩
  have hz : ZP E s h h s.heap [] := ZG.start hP0.1
  have hl := lv_entry ([.ref x0, .int (zI x1), .int (zI x2), .int (zI x3), .ref x4]) (n := 8) (Nat.le_of_ble_eq_true rfl)
  rw [lg_entry_eq]
  generalize (lg_sl ([.ref x0, .int (zI x1), .int (zI x2), .int (zI x3), .ref x4]) ++ List.replicate (8 - (lg_sl ([.ref x0, .int (zI x1), .int (zI x2), .int (zI x3), .ref x4])).length) Slot.unset).toArray = ls at hl ⊢
  have hl : lv_has ls 8 [(0, .ref x0), (1, .int (zI x1)), (2, .int (zI x2)), (3, .int (zI x3)), (4, .ref x4)] := hl
  refine W.cs (cells' := pX h - pX h) (slots' := pS h - pS h) (Nat.sub_self _).symm (Nat.sub_self _).symm ?_
  exact w_X0_glyph C ⟨Nat.le_refl _, Nat.le_refl _, RBw.rm⟩ hf hz hl rfl

theorem w_X0_paint_58 {p : Program} {l : Launch} {e : Env} {R : Room} {s : State} {m : MethodId} {args : Array Value} {below : List Frame} {meth : Method} {c : Code} {Q : State → Prop} {E : PEw} {h0 h : HP} {H : Heap} {locs : List Loc} (C : PC E p s m args meth c RX0 cX0_paint 5 none "paint") (hr : 4 ≤ R.frames ∧ 88 ≤ R.locals ∧ RBw R h0) {x0 : Nat} {x1 : Int} {res : (HP × Int) ⊕ (HP)} (hf : f_X0_paint_58 h x0 x1 = some res) (hz : ZP E s h0 h H locs) {ls : Array Slot} (hl : lv_has ls 5 [(0, .ref x0), (1, .int (zI x1))]) (hk : (Sum.elim (fun z => ∀ (H : Heap) (locs : List Loc) (ls : Array Slot), ZP E s h0 z.1 H locs → lv_has ls 5 [(0, .ref x0), (1, .int (zI z.2))] → W p l e R s m args below meth c H locs (pX z.1 - pX h0) (pS z.1 - pS h0) Q (F0 m 10 ls [])) (fun r => KP E below args s Q h0 r none)) res) : W p l e R s m args below meth c H locs (pX h - pX h0) (pS h - pS h0) Q (F0 m 58 ls []) := by
  unfold f_X0_paint_58 at hf
  have hx := C.1
  have hb := C.2.1
  refine zl_iinc (x := x1) (n := 1) (lv' := [(1, .int (zI (x1 + 1))), (0, .ref x0)]) (k := 1) hx hb dX0_paint_58 hl rfl (by decide) rfl (fun ls hl => ?_)
  refine lv_goto (tgt := 10) hx hb dX0_paint_61 (by decide) ?_
  obtain rfl := Option.some.inj hf
  exact hk _ _ _ hz (lv_sub hl [1, 0] rfl)

theorem w_X0_paint_171 {p : Program} {l : Launch} {e : Env} {R : Room} {s : State} {m : MethodId} {args : Array Value} {below : List Frame} {meth : Method} {c : Code} {Q : State → Prop} {E : PEw} {h0 h : HP} {H : Heap} {locs : List Loc} (C : PC E p s m args meth c RX0 cX0_paint 5 none "paint") (hr : 4 ≤ R.frames ∧ 88 ≤ R.locals ∧ RBw R h0) {x0 : Nat} {x1 : Int} {res : (HP × Int) ⊕ (HP)} (hf : f_X0_paint_171 h x0 x1 = some res) (hz : ZP E s h0 h H locs) {ls : Array Slot} (hl : lv_has ls 5 [(0, .ref x0), (1, .int (zI x1))]) (hk : (Sum.elim (fun z => ∀ (H : Heap) (locs : List Loc) (ls : Array Slot), ZP E s h0 z.1 H locs → lv_has ls 5 [(0, .ref x0), (1, .int (zI z.2))] → W p l e R s m args below meth c H locs (pX z.1 - pX h0) (pS z.1 - pS h0) Q (F0 m 66 ls [])) (fun r => KP E below args s Q h0 r none)) res) : W p l e R s m args below meth c H locs (pX h - pX h0) (pS h - pS h0) Q (F0 m 171 ls []) := by
  unfold f_X0_paint_171 at hf
  have hx := C.1
  have hb := C.2.1
  refine zl_iinc (x := x1) (n := 1) (lv' := [(1, .int (zI (x1 + 1))), (0, .ref x0)]) (k := 1) hx hb dX0_paint_171 hl rfl (by decide) rfl (fun ls hl => ?_)
  refine lv_goto (tgt := 66) hx hb dX0_paint_174 (by decide) ?_
  obtain rfl := Option.some.inj hf
  exact hk _ _ _ hz (lv_sub hl [1, 0] rfl)

theorem w_X0_paint_165 {p : Program} {l : Launch} {e : Env} {R : Room} {s : State} {m : MethodId} {args : Array Value} {below : List Frame} {meth : Method} {c : Code} {Q : State → Prop} {E : PEw} {h0 h : HP} {H : Heap} {locs : List Loc} (C : PC E p s m args meth c RX0 cX0_paint 5 none "paint") (hr : 4 ≤ R.frames ∧ 88 ≤ R.locals ∧ RBw R h0) {x0 : Nat} {x1 : Int} {x3 : Nat} {x4 : Int} {res : (HP × Int) ⊕ ((HP × Int) ⊕ (HP))} (hf : f_X0_paint_165 h x0 x1 x3 x4 = some res) (hz : ZP E s h0 h H locs) {ls : Array Slot} (hl : lv_has ls 5 [(0, .ref x0), (1, .int (zI x1)), (3, .ref x3), (4, .int (zI x4))]) (hk : (Sum.elim (fun z => ∀ (H : Heap) (locs : List Loc) (ls : Array Slot), ZP E s h0 z.1 H locs → lv_has ls 5 [(0, .ref x0), (1, .int (zI x1)), (3, .ref x3), (4, .int (zI z.2))] → W p l e R s m args below meth c H locs (pX z.1 - pX h0) (pS z.1 - pS h0) Q (F0 m 104 ls [])) (Sum.elim (fun z => ∀ (H : Heap) (locs : List Loc) (ls : Array Slot), ZP E s h0 z.1 H locs → lv_has ls 5 [(0, .ref x0), (1, .int (zI z.2))] → W p l e R s m args below meth c H locs (pX z.1 - pX h0) (pS z.1 - pS h0) Q (F0 m 66 ls [])) (fun r => KP E below args s Q h0 r none))) res) : W p l e R s m args below meth c H locs (pX h - pX h0) (pS h - pS h0) Q (F0 m 165 ls []) := by
  unfold f_X0_paint_165 at hf
  have hx := C.1
  have hb := C.2.1
  refine zl_iinc (x := x4) (n := 1) (lv' := [(4, .int (zI (x4 + 1))), (0, .ref x0), (1, .int (zI x1)), (3, .ref x3)]) (k := 3) hx hb dX0_paint_165 hl rfl (by decide) rfl (fun ls hl => ?_)
  refine lv_goto (tgt := 104) hx hb dX0_paint_168 (by decide) ?_
  obtain rfl := Option.some.inj hf
  exact hk _ _ _ hz (lv_sub hl [1, 2, 3, 0] rfl)

theorem w_X0_paint_104s {p : Program} {l : Launch} {e : Env} {R : Room} {s : State} {m : MethodId} {args : Array Value} {below : List Frame} {meth : Method} {c : Code} {Q : State → Prop} {E : PEw} {h0 h : HP} {H : Heap} {locs : List Loc} (C : PC E p s m args meth c RX0 cX0_paint 5 none "paint") (hr : 4 ≤ R.frames ∧ 88 ≤ R.locals ∧ RBw R h0) {x0 : Nat} {x1 : Int} {x3 : Nat} {x4 : Int} {res : (HP × Int) ⊕ ((HP × Int) ⊕ (HP))} (hf : f_X0_paint_104s h x0 x1 x3 x4 = some res) (hz : ZP E s h0 h H locs) {ls : Array Slot} (hl : lv_has ls 5 [(0, .ref x0), (1, .int (zI x1)), (3, .ref x3), (4, .int (zI x4))]) (hk : (Sum.elim (fun z => ∀ (H : Heap) (locs : List Loc) (ls : Array Slot), ZP E s h0 z.1 H locs → lv_has ls 5 [(0, .ref x0), (1, .int (zI x1)), (3, .ref x3), (4, .int (zI z.2))] → W p l e R s m args below meth c H locs (pX z.1 - pX h0) (pS z.1 - pS h0) Q (F0 m 104 ls [])) (Sum.elim (fun z => ∀ (H : Heap) (locs : List Loc) (ls : Array Slot), ZP E s h0 z.1 H locs → lv_has ls 5 [(0, .ref x0), (1, .int (zI z.2))] → W p l e R s m args below meth c H locs (pX z.1 - pX h0) (pS z.1 - pS h0) Q (F0 m 66 ls [])) (fun r => KP E below args s Q h0 r none))) res) : W p l e R s m args below meth c H locs (pX h - pX h0) (pS h - pS h0) Q (F0 m 104 ls []) := by
  unfold f_X0_paint_104s at hf
  have hx := C.1
  have hb := C.2.1
  refine lv_iload hx hb dX0_paint_104 (lv_at hl 3 rfl) ?_
  refine lv_aload_n hx hb dX0_paint_106 rfl (lv_at hl 2 rfl) ?_
  obtain ⟨hg, hf⟩ := gd_inv hf
  refine zg_getp gP C hz 3 2 (gkp (by decide) hg) (by decide) (by decide) (Or.inr ⟨_, C.nw q776⟩) (fun _ h => h) dX0_paint_107 ?_
  obtain ⟨a1, ea1, hf⟩ := bd_inv hf
  rw [zx_rf ea1]
  obtain ⟨y2, ey2, hf⟩ := bd_inv hf
  refine zj_sLen C hz hr ey2 (rest := [.int (zI x4)]) q883 q753 (C.w q754) q99 q755 hl.1 ⟨Nat.le_trans (by decide) hr.1, Nat.le_trans (by decide) hr.2.1⟩ (Nat.le_of_ble_eq_true rfl) dX0_paint_110 (fun H locs hz => ?_)
  refine zl_icmp_ge (tgt := 171) hx hb dX0_paint_113 (by decide) (fun hc => ?_) (fun hc => ?_)
  · rw [if_pos hc] at hf
    refine lv_aload_n hx hb dX0_paint_116 rfl (lv_at hl 2 rfl) ?_
    obtain ⟨hg, hf⟩ := gd_inv hf
    refine zg_getp gP C hz 3 3 (gkp (by decide) hg) (by decide) (by decide) (Or.inr ⟨_, C.nw q779⟩) (fun _ h => h) dX0_paint_117 ?_
    refine lv_iload hx hb dX0_paint_120 (lv_at hl 3 rfl) ?_
    obtain ⟨a3, ea3, hf⟩ := bd_inv hf
    rw [zx_rf ea3]
    obtain ⟨hg, hf⟩ := gd_inv hf
    obtain ⟨hi, hf⟩ := gd_inv hf
    refine zg_iald gP C hz hg hi dX0_paint_122 ?_
    refine zl_iconst hx hb dX0_paint_123 ?_
    refine zl_icmp_eq (tgt := 165) hx hb dX0_paint_124 (by decide) (fun hc => ?_) (fun hc => ?_)
    · rw [if_pos hc] at hf
      exact w_X0_paint_165 C hr hf hz (lv_sub hl [0, 1, 2, 3] rfl) hk
    · rw [if_neg hc] at hf
      refine lv_aload_n hx hb dX0_paint_127 rfl (lv_at hl 0 rfl) ?_
      refine lv_aload_n hx hb dX0_paint_128 rfl (lv_at hl 2 rfl) ?_
      obtain ⟨hg, hf⟩ := gd_inv hf
      refine zg_getp gP C hz 3 2 (gkp (by decide) hg) (by decide) (by decide) (Or.inr ⟨_, C.nw q776⟩) (fun _ h => h) dX0_paint_129 ?_
      refine lv_iload hx hb dX0_paint_132 (lv_at hl 3 rfl) ?_
      obtain ⟨a4, ea4, hf⟩ := bd_inv hf
      rw [zx_rf ea4]
      obtain ⟨y5, ey5, hf⟩ := bd_inv hf
      refine zj_sAt C hz hr ey5 (rest := [.ref x0]) q884 q885 (C.w q886) q99 q887 hl.1 ⟨Nat.le_trans (by decide) hr.1, Nat.le_trans (by decide) hr.2.1⟩ (Nat.le_of_ble_eq_true rfl) dX0_paint_134 (fun H locs hz => ?_)
      refine lv_aload_n hx hb dX0_paint_137 rfl (lv_at hl 2 rfl) ?_
      obtain ⟨hg, hf⟩ := gd_inv hf
      refine zg_getp gP C hz 3 3 (gkp (by decide) hg) (by decide) (by decide) (Or.inr ⟨_, C.nw q779⟩) (fun _ h => h) dX0_paint_138 ?_
      refine lv_iload hx hb dX0_paint_141 (lv_at hl 3 rfl) ?_
      obtain ⟨a6, ea6, hf⟩ := bd_inv hf
      rw [zx_rf ea6]
      obtain ⟨hg, hf⟩ := gd_inv hf
      obtain ⟨hi, hf⟩ := gd_inv hf
      refine zg_iald gP C hz hg hi dX0_paint_143 ?_
      refine zl_ldcw (v := 65535) hx hb C.2.2.2.2.2.1 (C.w q1048) dX0_paint_144 ?_
      refine zl_iand hx hb dX0_paint_147 ?_
      refine lv_aload_n hx hb dX0_paint_148 rfl (lv_at hl 2 rfl) ?_
      obtain ⟨hg, hf⟩ := gd_inv hf
      refine zg_getp gP C hz 3 3 (gkp (by decide) hg) (by decide) (by decide) (Or.inr ⟨_, C.nw q779⟩) (fun _ h => h) dX0_paint_149 ?_
      refine lv_iload hx hb dX0_paint_152 (lv_at hl 3 rfl) ?_
      obtain ⟨a7, ea7, hf⟩ := bd_inv hf
      rw [zx_rf ea7]
      obtain ⟨hg, hf⟩ := gd_inv hf
      obtain ⟨hi, hf⟩ := gd_inv hf
      refine zg_iald gP C hz hg hi dX0_paint_154 ?_
      refine zl_bipush hx hb dX0_paint_155 (by decide) ?_
      refine zl_ishr hx hb dX0_paint_157 ?_
      refine lv_aload_n hx hb dX0_paint_158 rfl (lv_at hl 2 rfl) ?_
      obtain ⟨hg, hf⟩ := gd_inv hf
      refine zg_getp gP C hz 3 0 (gkp (by decide) hg) (by decide) (by decide) (Or.inl (C.w q193)) (C.sm q189) dX0_paint_159 ?_
      obtain ⟨a8, ea8, hf⟩ := bd_inv hf
      rw [zx_rf ea8]
      obtain ⟨hg, hf⟩ := gd_inv hf
      obtain ⟨y9, ey9, hf⟩ := bd_inv hf
      refine zg_callV gP C hz hr (n := 4) (rest := []) (gkp (by decide) hg) (met_X0_glyph l E ey9) q1049 q1051 (C.w qs32) q89 q1052 (by decide +kernel) ⟨Nat.le_trans (by decide) hr.1, Nat.le_trans (by decide) hr.2.1⟩ rfl hl.1 rfl (Nat.le_of_ble_eq_true rfl) dX0_paint_162 (fun H locs hz => ?_)
      exact w_X0_paint_165 C hr hf hz (lv_sub hl [0, 1, 2, 3] rfl) hk
  · rw [if_neg hc] at hf
    obtain ⟨r0, hm0, rfl⟩ := mr_inv hf
    exact w_X0_paint_171 C hr hm0 hz (lv_sub hl [0, 1] rfl) hk

theorem w_X0_paint_104 {p : Program} {l : Launch} {e : Env} {R : Room} {s : State} {m : MethodId} {args : Array Value} {below : List Frame} {meth : Method} {c : Code} {Q : State → Prop} {E : PEw} {h0 h : HP} {H : Heap} {locs : List Loc} (C : PC E p s m args meth c RX0 cX0_paint 5 none "paint") (hr : 4 ≤ R.frames ∧ 88 ≤ R.locals ∧ RBw R h0) {x0 : Nat} {x1 : Int} {x3 : Nat} {x4 : Int} {res : (HP × Int) ⊕ (HP)} (hf : f_X0_paint_104 h x0 x1 x3 x4 = some res) (hz : ZP E s h0 h H locs) {ls : Array Slot} (hl : lv_has ls 5 [(0, .ref x0), (1, .int (zI x1)), (3, .ref x3), (4, .int (zI x4))]) (hk : (Sum.elim (fun z => ∀ (H : Heap) (locs : List Loc) (ls : Array Slot), ZP E s h0 z.1 H locs → lv_has ls 5 [(0, .ref x0), (1, .int (zI z.2))] → W p l e R s m args below meth c H locs (pX z.1 - pX h0) (pS z.1 - pS h0) Q (F0 m 66 ls [])) (fun r => KP E below args s Q h0 r none)) res) : W p l e R s m args below meth c H locs (pX h - pX h0) (pS h - pS h0) Q (F0 m 104 ls []) := by
  unfold f_X0_paint_104 at hf
  refine iter_ind (P := fun z r => ∀ (H : Heap) (locs : List Loc) (ls : Array Slot), ZP E s h0 z.1 H locs → lv_has ls 5 [(0, .ref x0), (1, .int (zI x1)), (3, .ref x3), (4, .int (zI z.2))] → (Sum.elim (fun z => ∀ (H : Heap) (locs : List Loc) (ls : Array Slot), ZP E s h0 z.1 H locs → lv_has ls 5 [(0, .ref x0), (1, .int (zI z.2))] → W p l e R s m args below meth c H locs (pX z.1 - pX h0) (pS z.1 - pS h0) Q (F0 m 66 ls [])) (fun r => KP E below args s Q h0 r none)) r → W p l e R s m args below meth c H locs (pX z.1 - pX h0) (pS z.1 - pS h0) Q (F0 m 104 ls [])) ?_ ?_ hf H locs ls hz hl hk
  · intro z r h1 H locs ls hz hl hk; exact w_X0_paint_104s C hr h1 hz hl hk
  · intro z z1 r h1 ih H locs ls hz hl hk; exact w_X0_paint_104s C hr h1 hz hl (fun H locs ls hz hl => ih H locs ls hz hl hk)

theorem w_X0_paint_66s {p : Program} {l : Launch} {e : Env} {R : Room} {s : State} {m : MethodId} {args : Array Value} {below : List Frame} {meth : Method} {c : Code} {Q : State → Prop} {E : PEw} {h0 h : HP} {H : Heap} {locs : List Loc} (C : PC E p s m args meth c RX0 cX0_paint 5 none "paint") (hr : 4 ≤ R.frames ∧ 88 ≤ R.locals ∧ RBw R h0) {x0 : Nat} {x1 : Int} {res : (HP × Int) ⊕ (HP)} (hf : f_X0_paint_66s h x0 x1 = some res) (hz : ZP E s h0 h H locs) {ls : Array Slot} (hl : lv_has ls 5 [(0, .ref x0), (1, .int (zI x1))]) (hk : (Sum.elim (fun z => ∀ (H : Heap) (locs : List Loc) (ls : Array Slot), ZP E s h0 z.1 H locs → lv_has ls 5 [(0, .ref x0), (1, .int (zI z.2))] → W p l e R s m args below meth c H locs (pX z.1 - pX h0) (pS z.1 - pS h0) Q (F0 m 66 ls [])) (fun r => KP E below args s Q h0 r none)) res) : W p l e R s m args below meth c H locs (pX h - pX h0) (pS h - pS h0) Q (F0 m 66 ls []) := by
  unfold f_X0_paint_66s at hf
  have hx := C.1
  have hb := C.2.1
  refine lv_iload_n hx hb dX0_paint_66 rfl (lv_at hl 1 rfl) ?_
  refine lv_aload_n hx hb dX0_paint_67 rfl (lv_at hl 0 rfl) ?_
  obtain ⟨hg, hf⟩ := gd_inv hf
  refine zg_getp gP C hz 1 15 (gkp (by decide) hg) (by decide) (by decide) (Or.inl (C.w q415)) (fun _ h => h) dX0_paint_68 ?_
  obtain ⟨a1, ea1, hf⟩ := bd_inv hf
  rw [zx_rf ea1]
  obtain ⟨y2, ey2, hf⟩ := bd_inv hf
  refine zj_lLen C hz hr ey2 (rest := [.int (zI x1)]) q549 q550 (C.w q551) q94 q552 hl.1 ⟨Nat.le_trans (by decide) hr.1, Nat.le_trans (by decide) hr.2.1⟩ (Nat.le_of_ble_eq_true rfl) dX0_paint_71 (fun H locs hz => ?_)
  refine zl_icmp_ge (tgt := 177) hx hb dX0_paint_74 (by decide) (fun hc => ?_) (fun hc => ?_)
  · rw [if_pos hc] at hf
    refine lv_aload_n hx hb dX0_paint_77 rfl (lv_at hl 0 rfl) ?_
    obtain ⟨hg, hf⟩ := gd_inv hf
    refine zg_getp gP C hz 1 15 (gkp (by decide) hg) (by decide) (by decide) (Or.inl (C.w q415)) (fun _ h => h) dX0_paint_78 ?_
    refine lv_iload_n hx hb dX0_paint_81 rfl (lv_at hl 1 rfl) ?_
    obtain ⟨a3, ea3, hf⟩ := bd_inv hf
    rw [zx_rf ea3]
    obtain ⟨y4, ey4, hf⟩ := bd_inv hf
    refine zj_lGet C hz hr ey4 (rest := []) q553 q554 (C.w q555) q94 q556 hl.1 ⟨Nat.le_trans (by decide) hr.1, Nat.le_trans (by decide) hr.2.1⟩ (Nat.le_of_ble_eq_true rfl) dX0_paint_82 (fun H locs hz => ?_)
    obtain ⟨hg, hf⟩ := gd_inv hf
    refine zg_castN gP C hz hg q704 dX0_paint_85 ?_
    refine lv_astore_n (lv' := [(2, .ref y4), (0, .ref x0), (1, .int (zI x1))]) hx hb dX0_paint_88 rfl hl (by decide) rfl (fun ls hl => ?_)
    refine lv_aload_n hx hb dX0_paint_89 rfl (lv_at hl 0 rfl) ?_
    obtain ⟨hg, hf⟩ := gd_inv hf
    refine zg_inst3 gP C hz hg q705 dX0_paint_90 ?_
    refine zl_if_eq (tgt := 171) hx hb dX0_paint_93 (by decide) (fun hc => ?_) (fun hc => ?_)
    · rw [if_pos hc] at hf
      exact w_X0_paint_171 C hr hf hz (lv_sub hl [1, 2] rfl) hk
    · rw [if_neg hc] at hf
      refine lv_aload_n hx hb dX0_paint_96 rfl (lv_at hl 0 rfl) ?_
      obtain ⟨hg, hf⟩ := gd_inv hf
      refine zg_cast3 gP C hz hg q705 dX0_paint_97 ?_
      refine lv_astore_n (lv' := [(3, .ref y4), (2, .ref y4), (0, .ref x0), (1, .int (zI x1))]) hx hb dX0_paint_100 rfl hl (by decide) rfl (fun ls hl => ?_)
      refine zl_iconst hx hb dX0_paint_101 ?_
      refine lv_istore (lv' := [(4, .int (zI 0)), (3, .ref y4), (2, .ref y4), (0, .ref x0), (1, .int (zI x1))]) hx hb dX0_paint_102 hl (by decide) rfl (fun ls hl => ?_)
      exact w_X0_paint_104 C hr hf hz (lv_sub hl [3, 4, 1, 0] rfl) hk
  · rw [if_neg hc] at hf
    obtain rfl := Option.some.inj hf
    exact zg_vret C hz hk dX0_paint_177

theorem w_X0_paint_66 {p : Program} {l : Launch} {e : Env} {R : Room} {s : State} {m : MethodId} {args : Array Value} {below : List Frame} {meth : Method} {c : Code} {Q : State → Prop} {E : PEw} {h0 h : HP} {H : Heap} {locs : List Loc} (C : PC E p s m args meth c RX0 cX0_paint 5 none "paint") (hr : 4 ≤ R.frames ∧ 88 ≤ R.locals ∧ RBw R h0) {x0 : Nat} {x1 : Int} {res : HP} (hf : f_X0_paint_66 h x0 x1 = some res) (hz : ZP E s h0 h H locs) {ls : Array Slot} (hl : lv_has ls 5 [(0, .ref x0), (1, .int (zI x1))]) (hk : KP E below args s Q h0 res none) : W p l e R s m args below meth c H locs (pX h - pX h0) (pS h - pS h0) Q (F0 m 66 ls []) := by
  unfold f_X0_paint_66 at hf
  refine iter_ind (P := fun z r => ∀ (H : Heap) (locs : List Loc) (ls : Array Slot), ZP E s h0 z.1 H locs → lv_has ls 5 [(0, .ref x0), (1, .int (zI z.2))] → KP E below args s Q h0 r none → W p l e R s m args below meth c H locs (pX z.1 - pX h0) (pS z.1 - pS h0) Q (F0 m 66 ls [])) ?_ ?_ hf H locs ls hz hl hk
  · intro z r h1 H locs ls hz hl hk; exact w_X0_paint_66s C hr h1 hz hl hk
  · intro z z1 r h1 ih H locs ls hz hl hk; exact w_X0_paint_66s C hr h1 hz hl (fun H locs ls hz hl => ih H locs ls hz hl hk)

theorem w_X0_paint_64 {p : Program} {l : Launch} {e : Env} {R : Room} {s : State} {m : MethodId} {args : Array Value} {below : List Frame} {meth : Method} {c : Code} {Q : State → Prop} {E : PEw} {h0 h : HP} {H : Heap} {locs : List Loc} (C : PC E p s m args meth c RX0 cX0_paint 5 none "paint") (hr : 4 ≤ R.frames ∧ 88 ≤ R.locals ∧ RBw R h0) {x0 : Nat} {res : HP} (hf : f_X0_paint_64 h x0 = some res) (hz : ZP E s h0 h H locs) {ls : Array Slot} (hl : lv_has ls 5 [(0, .ref x0)]) (hk : KP E below args s Q h0 res none) : W p l e R s m args below meth c H locs (pX h - pX h0) (pS h - pS h0) Q (F0 m 64 ls []) := by
  unfold f_X0_paint_64 at hf
  have hx := C.1
  have hb := C.2.1
  refine zl_iconst hx hb dX0_paint_64 ?_
  refine lv_istore_n (lv' := [(1, .int (zI 0)), (0, .ref x0)]) hx hb dX0_paint_65 rfl hl (by decide) rfl (fun ls hl => ?_)
  exact w_X0_paint_66 C hr hf hz (lv_sub hl [1, 0] rfl) hk

theorem w_X0_paint_10s {p : Program} {l : Launch} {e : Env} {R : Room} {s : State} {m : MethodId} {args : Array Value} {below : List Frame} {meth : Method} {c : Code} {Q : State → Prop} {E : PEw} {h0 h : HP} {H : Heap} {locs : List Loc} (C : PC E p s m args meth c RX0 cX0_paint 5 none "paint") (hr : 4 ≤ R.frames ∧ 88 ≤ R.locals ∧ RBw R h0) {x0 : Nat} {x1 : Int} {res : (HP × Int) ⊕ (HP)} (hf : f_X0_paint_10s h x0 x1 = some res) (hz : ZP E s h0 h H locs) {ls : Array Slot} (hl : lv_has ls 5 [(0, .ref x0), (1, .int (zI x1))]) (hk : (Sum.elim (fun z => ∀ (H : Heap) (locs : List Loc) (ls : Array Slot), ZP E s h0 z.1 H locs → lv_has ls 5 [(0, .ref x0), (1, .int (zI z.2))] → W p l e R s m args below meth c H locs (pX z.1 - pX h0) (pS z.1 - pS h0) Q (F0 m 10 ls [])) (fun r => KP E below args s Q h0 r none)) res) : W p l e R s m args below meth c H locs (pX h - pX h0) (pS h - pS h0) Q (F0 m 10 ls []) := by
  unfold f_X0_paint_10s at hf
  have hx := C.1
  have hb := C.2.1
  refine lv_iload_n hx hb dX0_paint_10 rfl (lv_at hl 1 rfl) ?_
  refine lv_aload_n hx hb dX0_paint_11 rfl (lv_at hl 0 rfl) ?_
  obtain ⟨hg, hf⟩ := gd_inv hf
  refine zg_getp gP C hz 1 15 (gkp (by decide) hg) (by decide) (by decide) (Or.inl (C.w q415)) (fun _ h => h) dX0_paint_12 ?_
  obtain ⟨a1, ea1, hf⟩ := bd_inv hf
  rw [zx_rf ea1]
  obtain ⟨y2, ey2, hf⟩ := bd_inv hf
  refine zj_lLen C hz hr ey2 (rest := [.int (zI x1)]) q549 q550 (C.w q551) q94 q552 hl.1 ⟨Nat.le_trans (by decide) hr.1, Nat.le_trans (by decide) hr.2.1⟩ (Nat.le_of_ble_eq_true rfl) dX0_paint_15 (fun H locs hz => ?_)
  refine zl_icmp_ge (tgt := 64) hx hb dX0_paint_18 (by decide) (fun hc => ?_) (fun hc => ?_)
  · rw [if_pos hc] at hf
    refine lv_aload_n hx hb dX0_paint_21 rfl (lv_at hl 0 rfl) ?_
    obtain ⟨hg, hf⟩ := gd_inv hf
    refine zg_getp gP C hz 1 15 (gkp (by decide) hg) (by decide) (by decide) (Or.inl (C.w q415)) (fun _ h => h) dX0_paint_22 ?_
    refine lv_iload_n hx hb dX0_paint_25 rfl (lv_at hl 1 rfl) ?_
    obtain ⟨a3, ea3, hf⟩ := bd_inv hf
    rw [zx_rf ea3]
    obtain ⟨y4, ey4, hf⟩ := bd_inv hf
    refine zj_lGet C hz hr ey4 (rest := []) q553 q554 (C.w q555) q94 q556 hl.1 ⟨Nat.le_trans (by decide) hr.1, Nat.le_trans (by decide) hr.2.1⟩ (Nat.le_of_ble_eq_true rfl) dX0_paint_26 (fun H locs hz => ?_)
    obtain ⟨hg, hf⟩ := gd_inv hf
    refine zg_castN gP C hz hg q704 dX0_paint_29 ?_
    refine lv_astore_n (lv' := [(2, .ref y4), (0, .ref x0), (1, .int (zI x1))]) hx hb dX0_paint_32 rfl hl (by decide) rfl (fun ls hl => ?_)
    refine lv_aload_n hx hb dX0_paint_33 rfl (lv_at hl 0 rfl) ?_
    obtain ⟨hg, hf⟩ := gd_inv hf
    refine zg_inst2 gP C hz hg q124 dX0_paint_34 ?_
    refine zl_if_eq (tgt := 58) hx hb dX0_paint_37 (by decide) (fun hc => ?_) (fun hc => ?_)
    · rw [if_pos hc] at hf
      exact w_X0_paint_58 C hr hf hz (lv_sub hl [1, 2] rfl) hk
    · rw [if_neg hc] at hf
      refine lv_aload_n hx hb dX0_paint_40 rfl (lv_at hl 0 rfl) ?_
      obtain ⟨hg, hf⟩ := gd_inv hf
      refine zg_cast2 gP C hz hg q124 dX0_paint_41 ?_
      obtain ⟨hg, hf⟩ := gd_inv hf
      obtain ⟨y5, ey5, hf⟩ := bd_inv hf
      refine zg_callV gP C hz hr (n := 0) (rest := []) (gkp (by decide) hg) (met_X2_box l E ey5) q995 q996 (C.w q997) q91 q998 (by decide +kernel) ⟨Nat.le_trans (by decide) hr.1, Nat.le_trans (by decide) hr.2.1⟩ rfl hl.1 rfl (Nat.le_of_ble_eq_true rfl) dX0_paint_44 (fun H locs hz => ?_)
      refine zl_if_eq (tgt := 58) hx hb dX0_paint_47 (by decide) (fun hc => ?_) (fun hc => ?_)
      · rw [if_pos hc] at hf
        exact w_X0_paint_58 C hr hf hz (lv_sub hl [1, 2] rfl) hk
      · rw [if_neg hc] at hf
        refine lv_aload_n hx hb dX0_paint_50 rfl (lv_at hl 1 rfl) ?_
        refine lv_aload_n hx hb dX0_paint_51 rfl (lv_at hl 0 rfl) ?_
        obtain ⟨hg, hf⟩ := gd_inv hf
        refine zg_cast2 gP C hz hg q124 dX0_paint_52 ?_
        obtain ⟨hg, hf⟩ := gd_inv hf
        obtain ⟨y6, ey6, hf⟩ := bd_inv hf
        refine zg_callV gP C hz hr (n := 1) (rest := []) (gkp (by decide) hg) (met_X0_ground l E ey6) q1044 q1046 (C.w qs31) q89 q1047 (by decide +kernel) ⟨Nat.le_trans (by decide) hr.1, Nat.le_trans (by decide) hr.2.1⟩ rfl hl.1 rfl (Nat.le_of_ble_eq_true rfl) dX0_paint_55 (fun H locs hz => ?_)
        exact w_X0_paint_58 C hr hf hz (lv_sub hl [1, 2] rfl) hk
  · rw [if_neg hc] at hf
    obtain ⟨r0, hm0, rfl⟩ := mr_inv hf
    exact w_X0_paint_64 C hr hm0 hz (lv_sub hl [0] rfl) hk

theorem w_X0_paint_10 {p : Program} {l : Launch} {e : Env} {R : Room} {s : State} {m : MethodId} {args : Array Value} {below : List Frame} {meth : Method} {c : Code} {Q : State → Prop} {E : PEw} {h0 h : HP} {H : Heap} {locs : List Loc} (C : PC E p s m args meth c RX0 cX0_paint 5 none "paint") (hr : 4 ≤ R.frames ∧ 88 ≤ R.locals ∧ RBw R h0) {x0 : Nat} {x1 : Int} {res : HP} (hf : f_X0_paint_10 h x0 x1 = some res) (hz : ZP E s h0 h H locs) {ls : Array Slot} (hl : lv_has ls 5 [(0, .ref x0), (1, .int (zI x1))]) (hk : KP E below args s Q h0 res none) : W p l e R s m args below meth c H locs (pX h - pX h0) (pS h - pS h0) Q (F0 m 10 ls []) := by
  unfold f_X0_paint_10 at hf
  refine iter_ind (P := fun z r => ∀ (H : Heap) (locs : List Loc) (ls : Array Slot), ZP E s h0 z.1 H locs → lv_has ls 5 [(0, .ref x0), (1, .int (zI z.2))] → KP E below args s Q h0 r none → W p l e R s m args below meth c H locs (pX z.1 - pX h0) (pS z.1 - pS h0) Q (F0 m 10 ls [])) ?_ ?_ hf H locs ls hz hl hk
  · intro z r h1 H locs ls hz hl hk; exact w_X0_paint_10s C hr h1 hz hl hk
  · intro z z1 r h1 ih H locs ls hz hl hk; exact w_X0_paint_10s C hr h1 hz hl (fun H locs ls hz hl => ih H locs ls hz hl hk)

theorem w_X0_paint {p : Program} {l : Launch} {e : Env} {R : Room} {s : State} {m : MethodId} {args : Array Value} {below : List Frame} {meth : Method} {c : Code} {Q : State → Prop} {E : PEw} {h0 h : HP} {H : Heap} {locs : List Loc} (C : PC E p s m args meth c RX0 cX0_paint 5 none "paint") (hr : 4 ≤ R.frames ∧ 88 ≤ R.locals ∧ RBw R h0) {x0 : Nat} {res : HP} (hf : f_X0_paint h x0 = some res) (hz : ZP E s h0 h H locs) {ls : Array Slot} (hl : lv_has ls 5 [(0, .ref x0)]) (hk : KP E below args s Q h0 res none) : W p l e R s m args below meth c H locs (pX h - pX h0) (pS h - pS h0) Q (F0 m 0 ls []) := by
  unfold f_X0_paint at hf
  have hx := C.1
  have hb := C.2.1
  refine lv_aload_n hx hb dX0_paint_0 rfl (lv_at hl 0 rfl) ?_
  obtain ⟨hg, hf⟩ := gd_inv hf
  refine zg_getp gP C hz 1 19 (gkp (by decide) hg) (by decide) (by decide) (Or.inl (C.w q419)) (fun _ h => h) dX0_paint_1 ?_
  refine zl_iconst hx hb dX0_paint_4 ?_
  obtain ⟨a1, ea1, hf⟩ := bd_inv hf
  rw [zx_rf ea1]
  obtain ⟨y2, ey2, hf⟩ := bd_inv hf
  refine zg_callS gP C hz hr (n := 2) (rest := []) (met_J10_fill_3 l E ey2) q1041 q1042 q105 q1043 (by decide +kernel) ⟨Nat.le_trans (by decide) hr.1, Nat.le_trans (by decide) hr.2.1⟩ rfl hl.1 rfl (Nat.le_of_ble_eq_true rfl) dX0_paint_5 (fun H locs hz => ?_)
  refine zl_iconst hx hb dX0_paint_8 ?_
  refine lv_istore_n (lv' := [(1, .int (zI 0)), (0, .ref x0)]) hx hb dX0_paint_9 rfl hl (by decide) rfl (fun ls hl => ?_)
  exact w_X0_paint_10 C hr hf hz (lv_sub hl [1, 0] rfl) hk

theorem met_X0_paint (l : Launch) (E : PEw) {h : HP} {x0 : Nat} {res : HP} (hf : f_X0_paint h x0 = some res) : Met l yX0_paint (ws_ yX0_paint cX0_paint 5 none) (rmP h 4 88) (PP E h [.ref x0]) (QP E h res none) (pX res - pX h) (pS res - pS h) (eF E) := by
  refine Met.ofW (cc := cX0_paint) (maxL := 5) (ret := none) (by decide) rfl ?_
  intro p e s m args below meth c s₁ B hml hv
  obtain ⟨rfl, hP0⟩ := hv
  have hts := atoms_spec (ws := ws_ yX0_paint cX0_paint 5 none) B.pre
  have hts : ∀ w ∈ lw_all, w.before _ s = true := fun w h => hts w (List.mem_cons_of_mem _ h)
  have C : PC E p s m _ meth c RX0 cX0_paint 5 none "paint" := ⟨B.exec, B.bytes, B.returns, B.notSynchronized, hml, findClass_of_methodNamed B.named, hts, hP0.2, (name_of_methodNamed B.named B.method).1⟩
  have hz : ZP E s h h s.heap [] := ZG.start hP0.1
  have hl := lv_entry ([.ref x0]) (n := 5) (Nat.le_of_ble_eq_true rfl)
  rw [lg_entry_eq]
  generalize (lg_sl ([.ref x0]) ++ List.replicate (5 - (lg_sl ([.ref x0])).length) Slot.unset).toArray = ls at hl ⊢
  have hl : lv_has ls 5 [(0, .ref x0)] := hl
  refine W.cs (cells' := pX h - pX h) (slots' := pS h - pS h) (Nat.sub_self _).symm (Nat.sub_self _).symm ?_
  exact w_X0_paint C ⟨Nat.le_refl _, Nat.le_refl _, RBw.rm⟩ hf hz hl rfl

theorem w_X0_layout_67 {p : Program} {l : Launch} {e : Env} {R : Room} {s : State} {m : MethodId} {args : Array Value} {below : List Frame} {meth : Method} {c : Code} {Q : State → Prop} {E : PEw} {h0 h : HP} {H : Heap} {locs : List Loc} (C : PC E p s m args meth c RX0 cX0_layout 4 (some .int) "layout") (hr : 421 ≤ R.frames ∧ 9809 ≤ R.locals ∧ RBw R h0) {x0 : Nat} {x1 : Int} {x2 : Int} {res : (HP × Int) ⊕ (HP × Int)} (hf : f_X0_layout_67 h x0 x1 x2 = some res) (hz : ZP E s h0 h H locs) {ls : Array Slot} (hl : lv_has ls 4 [(0, .ref x0), (1, .int (zI x1)), (2, .int (zI x2))]) (hk : (Sum.elim (fun z => ∀ (H : Heap) (locs : List Loc) (ls : Array Slot), ZP E s h0 z.1 H locs → lv_has ls 4 [(0, .ref x0), (1, .int (zI x1)), (2, .int (zI z.2))] → W p l e R s m args below meth c H locs (pX z.1 - pX h0) (pS z.1 - pS h0) Q (F0 m 26 ls [])) (fun r => KP E below args s Q h0 r.1 (some (.int (zI r.2))))) res) : W p l e R s m args below meth c H locs (pX h - pX h0) (pS h - pS h0) Q (F0 m 67 ls []) := by
  unfold f_X0_layout_67 at hf
  have hx := C.1
  have hb := C.2.1
  refine zl_iinc (x := x2) (n := 1) (lv' := [(2, .int (zI (x2 + 1))), (0, .ref x0), (1, .int (zI x1))]) (k := 2) hx hb dX0_layout_67 hl rfl (by decide) rfl (fun ls hl => ?_)
  refine lv_goto (tgt := 26) hx hb dX0_layout_70 (by decide) ?_
  obtain rfl := Option.some.inj hf
  exact hk _ _ _ hz (lv_sub hl [1, 2, 0] rfl)

theorem w_X0_layout_73 {p : Program} {l : Launch} {e : Env} {R : Room} {s : State} {m : MethodId} {args : Array Value} {below : List Frame} {meth : Method} {c : Code} {Q : State → Prop} {E : PEw} {h0 h : HP} {H : Heap} {locs : List Loc} (C : PC E p s m args meth c RX0 cX0_layout 4 (some .int) "layout") (hr : 421 ≤ R.frames ∧ 9809 ≤ R.locals ∧ RBw R h0) {x0 : Nat} {x1 : Int} {res : HP × Int} (hf : f_X0_layout_73 h x0 x1 = some res) (hz : ZP E s h0 h H locs) {ls : Array Slot} (hl : lv_has ls 4 [(0, .ref x0), (1, .int (zI x1))]) (hk : KP E below args s Q h0 res.1 (some (.int (zI res.2)))) : W p l e R s m args below meth c H locs (pX h - pX h0) (pS h - pS h0) Q (F0 m 73 ls []) := by
  unfold f_X0_layout_73 at hf
  have hx := C.1
  have hb := C.2.1
  refine lv_aload_n hx hb dX0_layout_73 rfl (lv_at hl 0 rfl) ?_
  obtain ⟨hg, hf⟩ := gd_inv hf
  refine zg_getp gP C hz 1 18 (gkp (by decide) hg) (by decide) (by decide) (Or.inl (C.w q418)) (fun _ h => h) dX0_layout_74 ?_
  refine zl_iconst hx hb dX0_layout_77 ?_
  obtain ⟨a1, ea1, hf⟩ := bd_inv hf
  rw [zx_rf ea1]
  obtain ⟨hg, hf⟩ := gd_inv hf
  obtain ⟨h2, eh2, hf⟩ := bnd_inv hf
  refine zg_puti gP C hz 5 3 (gkp (by decide) hg) (by decide) (by decide) rfl (by decide) (Or.inr ⟨_, C.nw q311⟩) (fun _ h => h) dX0_layout_78 eh2 (fun H locs hz => ?_)
  refine lv_aload_n hx hb dX0_layout_81 rfl (lv_at hl 0 rfl) ?_
  obtain ⟨hg, hf⟩ := gd_inv hf
  refine zg_getp gP C hz 1 0 (gkp (by decide) hg) (by decide) (by decide) (Or.inl (C.w q400)) (fun _ h => h) dX0_layout_82 ?_
  refine zl_iconst hx hb dX0_layout_85 ?_
  refine zl_iconst hx hb dX0_layout_86 ?_
  refine lv_iload_n hx hb dX0_layout_87 rfl (lv_at hl 1 rfl) ?_
  refine lv_aload_n hx hb dX0_layout_88 rfl (lv_at hl 0 rfl) ?_
  obtain ⟨hg, hf⟩ := gd_inv hf
  refine zg_getp gP C hz 1 18 (gkp (by decide) hg) (by decide) (by decide) (Or.inl (C.w q418)) (fun _ h => h) dX0_layout_89 ?_
  obtain ⟨a3, ea3, hf⟩ := bd_inv hf
  rw [zx_rf ea3]
  obtain ⟨a4, ea4, hf⟩ := bd_inv hf
  rw [zx_rf ea4]
  obtain ⟨y5, ey5, hf⟩ := bd_inv hf
  refine zg_callS gP C hz hr (n := 5) (rest := []) (met_X0_lay l E ey5) q988 q989 q89 q990 (by decide +kernel) ⟨Nat.le_trans (by decide) hr.1, Nat.le_trans (by decide) hr.2.1⟩ rfl hl.1 rfl (Nat.le_of_ble_eq_true rfl) dX0_layout_92 (fun H locs hz => ?_)
  refine lv_aload_n hx hb dX0_layout_95 rfl (lv_at hl 0 rfl) ?_
  refine lv_iload_n hx hb dX0_layout_96 rfl (lv_at hl 1 rfl) ?_
  obtain ⟨hg, hf⟩ := gd_inv hf
  obtain ⟨h6, eh6, hf⟩ := bnd_inv hf
  refine zg_puti gP C hz 1 17 (gkp (by decide) hg) (by decide) (by decide) rfl (by decide) (Or.inl (C.w q417)) (fun _ h => h) dX0_layout_97 eh6 (fun H locs hz => ?_)
  refine lv_aload_n hx hb dX0_layout_100 rfl (lv_at hl 0 rfl) ?_
  obtain ⟨hg, hf⟩ := gd_inv hf
  obtain ⟨y7, ey7, hf⟩ := bd_inv hf
  refine zg_callV gP C hz hr (n := 0) (rest := []) (gkp (by decide) hg) (met_X0_paint l E ey7) q1037 q1039 (C.w qs30) q89 q1040 (by decide +kernel) ⟨Nat.le_trans (by decide) hr.1, Nat.le_trans (by decide) hr.2.1⟩ rfl hl.1 rfl (Nat.le_of_ble_eq_true rfl) dX0_layout_101 (fun H locs hz => ?_)
  refine lv_aload_n hx hb dX0_layout_104 rfl (lv_at hl 0 rfl) ?_
  obtain ⟨hg, hf⟩ := gd_inv hf
  refine zg_getp gP C hz 1 0 (gkp (by decide) hg) (by decide) (by decide) (Or.inl (C.w q400)) (fun _ h => h) dX0_layout_105 ?_
  obtain ⟨a8, ea8, hf⟩ := bd_inv hf
  rw [zx_rf ea8]
  obtain ⟨hg, hf⟩ := gd_inv hf
  refine zg_geti gP C hz 2 12 (gkp (by decide) hg) (by decide) (by decide) (Or.inr ⟨_, C.nw q181⟩) (fun _ h => h) dX0_layout_108 ?_
  obtain rfl := Option.some.inj hf
  exact zg_iret C hz hk dX0_layout_111

theorem w_X0_layout_26s {p : Program} {l : Launch} {e : Env} {R : Room} {s : State} {m : MethodId} {args : Array Value} {below : List Frame} {meth : Method} {c : Code} {Q : State → Prop} {E : PEw} {h0 h : HP} {H : Heap} {locs : List Loc} (C : PC E p s m args meth c RX0 cX0_layout 4 (some .int) "layout") (hr : 421 ≤ R.frames ∧ 9809 ≤ R.locals ∧ RBw R h0) {x0 : Nat} {x1 : Int} {x2 : Int} {res : (HP × Int) ⊕ (HP × Int)} (hf : f_X0_layout_26s h x0 x1 x2 = some res) (hz : ZP E s h0 h H locs) {ls : Array Slot} (hl : lv_has ls 4 [(0, .ref x0), (1, .int (zI x1)), (2, .int (zI x2))]) (hk : (Sum.elim (fun z => ∀ (H : Heap) (locs : List Loc) (ls : Array Slot), ZP E s h0 z.1 H locs → lv_has ls 4 [(0, .ref x0), (1, .int (zI x1)), (2, .int (zI z.2))] → W p l e R s m args below meth c H locs (pX z.1 - pX h0) (pS z.1 - pS h0) Q (F0 m 26 ls [])) (fun r => KP E below args s Q h0 r.1 (some (.int (zI r.2))))) res) : W p l e R s m args below meth c H locs (pX h - pX h0) (pS h - pS h0) Q (F0 m 26 ls []) := by
  unfold f_X0_layout_26s at hf
  have hx := C.1
  have hb := C.2.1
  refine lv_iload_n hx hb dX0_layout_26 rfl (lv_at hl 2 rfl) ?_
  refine lv_aload_n hx hb dX0_layout_27 rfl (lv_at hl 0 rfl) ?_
  obtain ⟨hg, hf⟩ := gd_inv hf
  refine zg_getp gP C hz 1 15 (gkp (by decide) hg) (by decide) (by decide) (Or.inl (C.w q415)) (fun _ h => h) dX0_layout_28 ?_
  obtain ⟨a1, ea1, hf⟩ := bd_inv hf
  rw [zx_rf ea1]
  obtain ⟨y2, ey2, hf⟩ := bd_inv hf
  refine zj_lLen C hz hr ey2 (rest := [.int (zI x2)]) q549 q550 (C.w q551) q94 q552 hl.1 ⟨Nat.le_trans (by decide) hr.1, Nat.le_trans (by decide) hr.2.1⟩ (Nat.le_of_ble_eq_true rfl) dX0_layout_31 (fun H locs hz => ?_)
  refine zl_icmp_ge (tgt := 73) hx hb dX0_layout_34 (by decide) (fun hc => ?_) (fun hc => ?_)
  · rw [if_pos hc] at hf
    refine lv_aload_n hx hb dX0_layout_37 rfl (lv_at hl 0 rfl) ?_
    obtain ⟨hg, hf⟩ := gd_inv hf
    refine zg_getp gP C hz 1 15 (gkp (by decide) hg) (by decide) (by decide) (Or.inl (C.w q415)) (fun _ h => h) dX0_layout_38 ?_
    refine lv_iload_n hx hb dX0_layout_41 rfl (lv_at hl 2 rfl) ?_
    obtain ⟨a3, ea3, hf⟩ := bd_inv hf
    rw [zx_rf ea3]
    obtain ⟨y4, ey4, hf⟩ := bd_inv hf
    refine zj_lGet C hz hr ey4 (rest := []) q553 q554 (C.w q555) q94 q556 hl.1 ⟨Nat.le_trans (by decide) hr.1, Nat.le_trans (by decide) hr.2.1⟩ (Nat.le_of_ble_eq_true rfl) dX0_layout_42 (fun H locs hz => ?_)
    obtain ⟨hg, hf⟩ := gd_inv hf
    refine zg_castN gP C hz hg q704 dX0_layout_45 ?_
    refine lv_astore_n (lv' := [(3, .ref y4), (0, .ref x0), (1, .int (zI x1)), (2, .int (zI x2))]) hx hb dX0_layout_48 rfl hl (by decide) rfl (fun ls hl => ?_)
    refine lv_aload_n hx hb dX0_layout_49 rfl (lv_at hl 0 rfl) ?_
    obtain ⟨hg, hf⟩ := gd_inv hf
    refine zg_inst3 gP C hz hg q705 dX0_layout_50 ?_
    refine zl_if_eq (tgt := 67) hx hb dX0_layout_53 (by decide) (fun hc => ?_) (fun hc => ?_)
    · rw [if_pos hc] at hf
      exact w_X0_layout_67 C hr hf hz (lv_sub hl [1, 2, 3] rfl) hk
    · rw [if_neg hc] at hf
      refine lv_aload_n hx hb dX0_layout_56 rfl (lv_at hl 0 rfl) ?_
      obtain ⟨hg, hf⟩ := gd_inv hf
      refine zg_cast3 gP C hz hg q705 dX0_layout_57 ?_
      obtain ⟨hg, hf⟩ := gd_inv hf
      refine zg_getp gP C hz 3 3 (gkp (by decide) hg) (by decide) (by decide) (Or.inr ⟨_, C.nw q779⟩) (fun _ h => h) dX0_layout_60 ?_
      refine zl_iconst hx hb dX0_layout_63 ?_
      obtain ⟨a5, ea5, hf⟩ := bd_inv hf
      rw [zx_rf ea5]
      obtain ⟨y6, ey6, hf⟩ := bd_inv hf
      refine zg_callS gP C hz hr (n := 2) (rest := []) (met_J10_fill_2 l E ey6) q985 q986 q105 q987 (by decide +kernel) ⟨Nat.le_trans (by decide) hr.1, Nat.le_trans (by decide) hr.2.1⟩ rfl hl.1 rfl (Nat.le_of_ble_eq_true rfl) dX0_layout_64 (fun H locs hz => ?_)
      exact w_X0_layout_67 C hr hf hz (lv_sub hl [1, 2, 3] rfl) hk
  · rw [if_neg hc] at hf
    obtain ⟨r0, hm0, rfl⟩ := mr_inv hf
    exact w_X0_layout_73 C hr hm0 hz (lv_sub hl [0, 1] rfl) hk

theorem w_X0_layout_26 {p : Program} {l : Launch} {e : Env} {R : Room} {s : State} {m : MethodId} {args : Array Value} {below : List Frame} {meth : Method} {c : Code} {Q : State → Prop} {E : PEw} {h0 h : HP} {H : Heap} {locs : List Loc} (C : PC E p s m args meth c RX0 cX0_layout 4 (some .int) "layout") (hr : 421 ≤ R.frames ∧ 9809 ≤ R.locals ∧ RBw R h0) {x0 : Nat} {x1 : Int} {x2 : Int} {res : HP × Int} (hf : f_X0_layout_26 h x0 x1 x2 = some res) (hz : ZP E s h0 h H locs) {ls : Array Slot} (hl : lv_has ls 4 [(0, .ref x0), (1, .int (zI x1)), (2, .int (zI x2))]) (hk : KP E below args s Q h0 res.1 (some (.int (zI res.2)))) : W p l e R s m args below meth c H locs (pX h - pX h0) (pS h - pS h0) Q (F0 m 26 ls []) := by
  unfold f_X0_layout_26 at hf
  refine iter_ind (P := fun z r => ∀ (H : Heap) (locs : List Loc) (ls : Array Slot), ZP E s h0 z.1 H locs → lv_has ls 4 [(0, .ref x0), (1, .int (zI x1)), (2, .int (zI z.2))] → KP E below args s Q h0 r.1 (some (.int (zI r.2))) → W p l e R s m args below meth c H locs (pX z.1 - pX h0) (pS z.1 - pS h0) Q (F0 m 26 ls [])) ?_ ?_ hf H locs ls hz hl hk
  · intro z r h1 H locs ls hz hl hk; exact w_X0_layout_26s C hr h1 hz hl hk
  · intro z z1 r h1 ih H locs ls hz hl hk; exact w_X0_layout_26s C hr h1 hz hl (fun H locs ls hz hl => ih H locs ls hz hl hk)

theorem w_X0_layout {p : Program} {l : Launch} {e : Env} {R : Room} {s : State} {m : MethodId} {args : Array Value} {below : List Frame} {meth : Method} {c : Code} {Q : State → Prop} {E : PEw} {h0 h : HP} {H : Heap} {locs : List Loc} (C : PC E p s m args meth c RX0 cX0_layout 4 (some .int) "layout") (hr : 421 ≤ R.frames ∧ 9809 ≤ R.locals ∧ RBw R h0) {x0 : Nat} {x1 : Int} {res : HP × Int} (hf : f_X0_layout h x0 x1 = some res) (hz : ZP E s h0 h H locs) {ls : Array Slot} (hl : lv_has ls 4 [(0, .ref x0), (1, .int (zI x1))]) (hk : KP E below args s Q h0 res.1 (some (.int (zI res.2)))) : W p l e R s m args below meth c H locs (pX h - pX h0) (pS h - pS h0) Q (F0 m 0 ls []) := by
  unfold f_X0_layout at hf
  have hx := C.1
  have hb := C.2.1
  refine lv_iload_n hx hb dX0_layout_0 rfl (lv_at hl 1 rfl) ?_
  refine zl_iconst hx hb dX0_layout_1 ?_
  refine zl_icmp_lt (tgt := 18) hx hb dX0_layout_2 (by decide) (fun hc => ?_) (fun hc => ?_)
  · rw [if_pos hc] at hf
    refine zl_iconst hx hb dX0_layout_18 ?_
    obtain rfl := Option.some.inj hf
    exact zg_iret C hz hk dX0_layout_19
  · rw [if_neg hc] at hf
    refine lv_iload_n hx hb dX0_layout_5 rfl (lv_at hl 1 rfl) ?_
    refine zl_bipush hx hb dX0_layout_6 (by decide) ?_
    refine zl_icmp_gt (tgt := 18) hx hb dX0_layout_8 (by decide) (fun hc => ?_) (fun hc => ?_)
    · rw [if_pos hc] at hf
      refine zl_iconst hx hb dX0_layout_18 ?_
      obtain rfl := Option.some.inj hf
      exact zg_iret C hz hk dX0_layout_19
    · rw [if_neg hc] at hf
      refine lv_aload_n hx hb dX0_layout_11 rfl (lv_at hl 0 rfl) ?_
      obtain ⟨hg, hf⟩ := gd_inv hf
      refine zg_geti gP C hz 1 7 (gkp (by decide) hg) (by decide) (by decide) (Or.inl (C.w q407)) (fun _ h => h) dX0_layout_12 ?_
      refine zl_if_eq (tgt := 20) hx hb dX0_layout_15 (by decide) (fun hc => ?_) (fun hc => ?_)
      · rw [if_pos hc] at hf
        refine lv_aload_n hx hb dX0_layout_20 rfl (lv_at hl 0 rfl) ?_
        obtain ⟨hg, hf⟩ := gd_inv hf
        obtain ⟨y1, ey1, hf⟩ := bd_inv hf
        refine zg_callV gP C hz hr (n := 0) (rest := []) (gkp (by decide) hg) (met_X0_refresh l E ey1) q961 q963 (C.w qs29) q89 q964 (by decide +kernel) ⟨Nat.le_trans (by decide) hr.1, Nat.le_trans (by decide) hr.2.1⟩ rfl hl.1 rfl (Nat.le_of_ble_eq_true rfl) dX0_layout_21 (fun H locs hz => ?_)
        refine zl_iconst hx hb dX0_layout_24 ?_
        refine lv_istore_n (lv' := [(2, .int (zI 0)), (0, .ref x0), (1, .int (zI x1))]) hx hb dX0_layout_25 rfl hl (by decide) rfl (fun ls hl => ?_)
        exact w_X0_layout_26 C hr hf hz (lv_sub hl [1, 2, 0] rfl) hk
      · rw [if_neg hc] at hf
        refine zl_iconst hx hb dX0_layout_18 ?_
        obtain rfl := Option.some.inj hf
        exact zg_iret C hz hk dX0_layout_19

theorem met_X0_layout (l : Launch) (E : PEw) {h : HP} {x0 : Nat} {x1 : Int} {res : HP × Int} (hf : f_X0_layout h x0 x1 = some res) : Met l yX0_layout (ws_ yX0_layout cX0_layout 4 (some .int)) (rmP h 421 9809) (PP E h [.ref x0, .int (zI x1)]) (QP E h res.1 (some (.int (zI res.2)))) (pX res.1 - pX h) (pS res.1 - pS h) (eF E) := by
  refine Met.ofW (cc := cX0_layout) (maxL := 4) (ret := (some .int)) (by decide) rfl ?_
  intro p e s m args below meth c s₁ B hml hv
  obtain ⟨rfl, hP0⟩ := hv
  have hts := atoms_spec (ws := ws_ yX0_layout cX0_layout 4 (some .int)) B.pre
  have hts : ∀ w ∈ lw_all, w.before _ s = true := fun w h => hts w (List.mem_cons_of_mem _ h)
  have C : PC E p s m _ meth c RX0 cX0_layout 4 (some .int) "layout" := ⟨B.exec, B.bytes, B.returns, B.notSynchronized, hml, findClass_of_methodNamed B.named, hts, hP0.2, (name_of_methodNamed B.named B.method).1⟩
  have hz : ZP E s h h s.heap [] := ZG.start hP0.1
  have hl := lv_entry ([.ref x0, .int (zI x1)]) (n := 4) (Nat.le_of_ble_eq_true rfl)
  rw [lg_entry_eq]
  generalize (lg_sl ([.ref x0, .int (zI x1)]) ++ List.replicate (4 - (lg_sl ([.ref x0, .int (zI x1)])).length) Slot.unset).toArray = ls at hl ⊢
  have hl : lv_has ls 4 [(0, .ref x0), (1, .int (zI x1))] := hl
  refine W.cs (cells' := pX h - pX h) (slots' := pS h - pS h) (Nat.sub_self _).symm (Nat.sub_self _).symm ?_
  exact w_X0_layout C ⟨Nat.le_refl _, Nat.le_refl _, RBw.rm⟩ hf hz hl rfl

theorem w_X0_nodes {p : Program} {l : Launch} {e : Env} {R : Room} {s : State} {m : MethodId} {args : Array Value} {below : List Frame} {meth : Method} {c : Code} {Q : State → Prop} {E : PEw} {h0 h : HP} {H : Heap} {locs : List Loc} (C : PC E p s m args meth c RX0 cX0_nodes 1 (some .int) "nodes") (hr : 0 ≤ R.frames ∧ 0 ≤ R.locals ∧ RBw R h0) {x0 : Nat} {res : Int} (hf : f_X0_nodes h x0 = some res) (hz : ZP E s h0 h H locs) {ls : Array Slot} (hl : lv_has ls 1 [(0, .ref x0)]) (hk : KP E below args s Q h0 h (some (.int (zI res)))) : W p l e R s m args below meth c H locs (pX h - pX h0) (pS h - pS h0) Q (F0 m 0 ls []) := by
  unfold f_X0_nodes at hf
  have hx := C.1
  have hb := C.2.1
  refine lv_aload_n hx hb dX0_nodes_0 rfl (lv_at hl 0 rfl) ?_
  obtain ⟨hg, hf⟩ := gd_inv hf
  refine zg_geti gP C hz 1 7 (gkp (by decide) hg) (by decide) (by decide) (Or.inl (C.w q407)) (fun _ h => h) dX0_nodes_1 ?_
  refine zl_if_eq (tgt := 11) hx hb dX0_nodes_4 (by decide) (fun hc => ?_) (fun hc => ?_)
  · rw [if_pos hc] at hf
    refine zl_iconst hx hb dX0_nodes_11 ?_
    refine lv_aload_n hx hb dX0_nodes_12 rfl (lv_at hl 0 rfl) ?_
    obtain ⟨hg, hf⟩ := gd_inv hf
    refine zg_geti gP C hz 1 3 (gkp (by decide) hg) (by decide) (by decide) (Or.inl (C.w q403)) (fun _ h => h) dX0_nodes_13 ?_
    refine zl_iadd hx hb dX0_nodes_16 ?_
    refine lv_aload_n hx hb dX0_nodes_17 rfl (lv_at hl 0 rfl) ?_
    obtain ⟨hg, hf⟩ := gd_inv hf
    refine zg_geti gP C hz 1 4 (gkp (by decide) hg) (by decide) (by decide) (Or.inl (C.w q404)) (fun _ h => h) dX0_nodes_18 ?_
    refine zl_iadd hx hb dX0_nodes_21 ?_
    obtain rfl := Option.some.inj hf
    exact zg_iret C hz hk dX0_nodes_22
  · rw [if_neg hc] at hf
    refine zl_iconst hx hb dX0_nodes_7 ?_
    refine lv_goto (tgt := 22) hx hb dX0_nodes_8 (by decide) ?_
    obtain rfl := Option.some.inj hf
    exact zg_iret C hz hk dX0_nodes_22

theorem met_X0_nodes (l : Launch) (E : PEw) {h : HP} {x0 : Nat} {res : Int} (hf : f_X0_nodes h x0 = some res) : Met l yX0_nodes (ws_ yX0_nodes cX0_nodes 1 (some .int)) (rmP h 0 0) (PP E h [.ref x0]) (QP E h h (some (.int (zI res)))) (pX h - pX h) (pS h - pS h) (eF E) := by
  refine Met.ofW (cc := cX0_nodes) (maxL := 1) (ret := (some .int)) (by decide) rfl ?_
  intro p e s m args below meth c s₁ B hml hv
  obtain ⟨rfl, hP0⟩ := hv
  have hts := atoms_spec (ws := ws_ yX0_nodes cX0_nodes 1 (some .int)) B.pre
  have hts : ∀ w ∈ lw_all, w.before _ s = true := fun w h => hts w (List.mem_cons_of_mem _ h)
  have C : PC E p s m _ meth c RX0 cX0_nodes 1 (some .int) "nodes" := ⟨B.exec, B.bytes, B.returns, B.notSynchronized, hml, findClass_of_methodNamed B.named, hts, hP0.2, (name_of_methodNamed B.named B.method).1⟩
  have hz : ZP E s h h s.heap [] := ZG.start hP0.1
  have hl := lv_entry ([.ref x0]) (n := 1) (Nat.le_of_ble_eq_true rfl)
  rw [lg_entry_eq]
  generalize (lg_sl ([.ref x0]) ++ List.replicate (1 - (lg_sl ([.ref x0])).length) Slot.unset).toArray = ls at hl ⊢
  have hl : lv_has ls 1 [(0, .ref x0)] := hl
  refine W.cs (cells' := pX h - pX h) (slots' := pS h - pS h) (Nat.sub_self _).symm (Nat.sub_self _).symm ?_
  exact w_X0_nodes C ⟨Nat.le_refl _, Nat.le_refl _, RBw.rm⟩ hf hz hl rfl

theorem w_X0_node_19 {p : Program} {l : Launch} {e : Env} {R : Room} {s : State} {m : MethodId} {args : Array Value} {below : List Frame} {meth : Method} {c : Code} {Q : State → Prop} {E : PEw} {h0 h : HP} {H : Heap} {locs : List Loc} (C : PC E p s m args meth c RX0 cX0_node 2 (some (.object "PlainPage$Node")) "node") (hr : 332 ≤ R.frames ∧ 7574 ≤ R.locals ∧ RBw R h0) {res : HP × Option Nat} (hf : f_X0_node_19 h = some res) (hz : ZP E s h0 h H locs) {ls : Array Slot} (hl : lv_has ls 2 []) (hk : KP E below args s Q h0 res.1 (some (va_rf res.2))) : W p l e R s m args below meth c H locs (pX h - pX h0) (pS h - pS h0) Q (F0 m 19 ls []) := by
  unfold f_X0_node_19 at hf
  have hx := C.1
  have hb := C.2.1
  refine lv_null hx hb dX0_node_19 ?_
  refine lv_goto (tgt := 34) hx hb dX0_node_20 (by decide) ?_
  obtain rfl := Option.some.inj hf
  exact zg_aret_o C hz hk dX0_node_34

theorem w_X0_node {p : Program} {l : Launch} {e : Env} {R : Room} {s : State} {m : MethodId} {args : Array Value} {below : List Frame} {meth : Method} {c : Code} {Q : State → Prop} {E : PEw} {h0 h : HP} {H : Heap} {locs : List Loc} (C : PC E p s m args meth c RX0 cX0_node 2 (some (.object "PlainPage$Node")) "node") (hr : 332 ≤ R.frames ∧ 7574 ≤ R.locals ∧ RBw R h0) {x0 : Nat} {x1 : Int} {res : HP × Option Nat} (hf : f_X0_node h x0 x1 = some res) (hz : ZP E s h0 h H locs) {ls : Array Slot} (hl : lv_has ls 2 [(0, .ref x0), (1, .int (zI x1))]) (hk : KP E below args s Q h0 res.1 (some (va_rf res.2))) : W p l e R s m args below meth c H locs (pX h - pX h0) (pS h - pS h0) Q (F0 m 0 ls []) := by
  unfold f_X0_node at hf
  have hx := C.1
  have hb := C.2.1
  refine lv_aload_n hx hb dX0_node_0 rfl (lv_at hl 0 rfl) ?_
  obtain ⟨hg, hf⟩ := gd_inv hf
  obtain ⟨y1, ey1, hf⟩ := bd_inv hf
  refine zg_callV gP C hz hr (n := 0) (rest := []) (gkp (by decide) hg) (met_X0_refresh l E ey1) q961 q963 (C.w qs29) q89 q964 (by decide +kernel) ⟨Nat.le_trans (by decide) hr.1, Nat.le_trans (by decide) hr.2.1⟩ rfl hl.1 rfl (Nat.le_of_ble_eq_true rfl) dX0_node_1 (fun H locs hz => ?_)
  refine lv_iload_n hx hb dX0_node_4 rfl (lv_at hl 1 rfl) ?_
  refine zl_if_lt (tgt := 19) hx hb dX0_node_5 (by decide) (fun hc => ?_) (fun hc => ?_)
  · rw [if_pos hc] at hf
    exact w_X0_node_19 C hr hf hz (lv_sub hl [] rfl) hk
  · rw [if_neg hc] at hf
    refine lv_iload_n hx hb dX0_node_8 rfl (lv_at hl 1 rfl) ?_
    refine lv_aload_n hx hb dX0_node_9 rfl (lv_at hl 0 rfl) ?_
    obtain ⟨hg, hf⟩ := gd_inv hf
    refine zg_getp gP C hz 1 15 (gkp (by decide) hg) (by decide) (by decide) (Or.inl (C.w q415)) (fun _ h => h) dX0_node_10 ?_
    obtain ⟨a2, ea2, hf⟩ := bd_inv hf
    rw [zx_rf ea2]
    obtain ⟨y3, ey3, hf⟩ := bd_inv hf
    refine zj_lLen C hz hr ey3 (rest := [.int (zI x1)]) q549 q550 (C.w q551) q94 q552 hl.1 ⟨Nat.le_trans (by decide) hr.1, Nat.le_trans (by decide) hr.2.1⟩ (Nat.le_of_ble_eq_true rfl) dX0_node_13 (fun H locs hz => ?_)
    refine zl_icmp_lt (tgt := 23) hx hb dX0_node_16 (by decide) (fun hc => ?_) (fun hc => ?_)
    · rw [if_pos hc] at hf
      refine lv_aload_n hx hb dX0_node_23 rfl (lv_at hl 0 rfl) ?_
      obtain ⟨hg, hf⟩ := gd_inv hf
      refine zg_getp gP C hz 1 15 (gkp (by decide) hg) (by decide) (by decide) (Or.inl (C.w q415)) (fun _ h => h) dX0_node_24 ?_
      refine lv_iload_n hx hb dX0_node_27 rfl (lv_at hl 1 rfl) ?_
      obtain ⟨a4, ea4, hf⟩ := bd_inv hf
      rw [zx_rf ea4]
      obtain ⟨y5, ey5, hf⟩ := bd_inv hf
      refine zj_lGet C hz hr ey5 (rest := []) q553 q554 (C.w q555) q94 q556 hl.1 ⟨Nat.le_trans (by decide) hr.1, Nat.le_trans (by decide) hr.2.1⟩ (Nat.le_of_ble_eq_true rfl) dX0_node_28 (fun H locs hz => ?_)
      obtain ⟨hg, hf⟩ := gd_inv hf
      refine zg_castN gP C hz hg q704 dX0_node_31 ?_
      obtain rfl := Option.some.inj hf
      exact zg_aret_o C hz hk dX0_node_34
    · rw [if_neg hc] at hf
      exact w_X0_node_19 C hr hf hz (lv_sub hl [] rfl) hk

theorem met_X0_node (l : Launch) (E : PEw) {h : HP} {x0 : Nat} {x1 : Int} {res : HP × Option Nat} (hf : f_X0_node h x0 x1 = some res) : Met l yX0_node (ws_ yX0_node cX0_node 2 (some (.object "PlainPage$Node"))) (rmP h 332 7574) (PP E h [.ref x0, .int (zI x1)]) (QP E h res.1 (some (va_rf res.2))) (pX res.1 - pX h) (pS res.1 - pS h) (eF E) := by
  refine Met.ofW (cc := cX0_node) (maxL := 2) (ret := (some (.object "PlainPage$Node"))) (by decide) rfl ?_
  intro p e s m args below meth c s₁ B hml hv
  obtain ⟨rfl, hP0⟩ := hv
  have hts := atoms_spec (ws := ws_ yX0_node cX0_node 2 (some (.object "PlainPage$Node"))) B.pre
  have hts : ∀ w ∈ lw_all, w.before _ s = true := fun w h => hts w (List.mem_cons_of_mem _ h)
  have C : PC E p s m _ meth c RX0 cX0_node 2 (some (.object "PlainPage$Node")) "node" := ⟨B.exec, B.bytes, B.returns, B.notSynchronized, hml, findClass_of_methodNamed B.named, hts, hP0.2, (name_of_methodNamed B.named B.method).1⟩
  have hz : ZP E s h h s.heap [] := ZG.start hP0.1
  have hl := lv_entry ([.ref x0, .int (zI x1)]) (n := 2) (Nat.le_of_ble_eq_true rfl)
  rw [lg_entry_eq]
  generalize (lg_sl ([.ref x0, .int (zI x1)]) ++ List.replicate (2 - (lg_sl ([.ref x0, .int (zI x1)])).length) Slot.unset).toArray = ls at hl ⊢
  have hl : lv_has ls 2 [(0, .ref x0), (1, .int (zI x1))] := hl
  refine W.cs (cells' := pX h - pX h) (slots' := pS h - pS h) (Nat.sub_self _).symm (Nat.sub_self _).symm ?_
  exact w_X0_node C ⟨Nat.le_refl _, Nat.le_refl _, RBw.rm⟩ hf hz hl rfl

theorem w_X2_name {p : Program} {l : Launch} {e : Env} {R : Room} {s : State} {m : MethodId} {args : Array Value} {below : List Frame} {meth : Method} {c : Code} {Q : State → Prop} {E : PEw} {h0 h : HP} {H : Heap} {locs : List Loc} (C : PC E p s m args meth c RX2 cX2_name 1 (some .int) "name") (hr : 0 ≤ R.frames ∧ 0 ≤ R.locals ∧ RBw R h0) {x0 : Nat} {res : Int} (hf : f_X2_name h x0 = some res) (hz : ZP E s h0 h H locs) {ls : Array Slot} (hl : lv_has ls 1 [(0, .ref x0)]) (hk : KP E below args s Q h0 h (some (.int (zI res)))) : W p l e R s m args below meth c H locs (pX h - pX h0) (pS h - pS h0) Q (F0 m 0 ls []) := by
  unfold f_X2_name at hf
  have hx := C.1
  have hb := C.2.1
  refine lv_aload_n hx hb dX2_name_0 rfl (lv_at hl 0 rfl) ?_
  obtain ⟨hg, hf⟩ := gd_inv hf
  refine zg_geti gP C hz 2 2 (gkp (by decide) hg) (by decide) (by decide) (Or.inl (C.w q160)) (fun _ h => h) dX2_name_1 ?_
  obtain rfl := Option.some.inj hf
  exact zg_iret C hz hk dX2_name_4

theorem met_X2_name (l : Launch) (E : PEw) {h : HP} {x0 : Nat} {res : Int} (hf : f_X2_name h x0 = some res) : Met l yX2_name (ws_ yX2_name cX2_name 1 (some .int)) (rmP h 0 0) (PP E h [.ref x0]) (QP E h h (some (.int (zI res)))) (pX h - pX h) (pS h - pS h) (eF E) := by
  refine Met.ofW (cc := cX2_name) (maxL := 1) (ret := (some .int)) (by decide) rfl ?_
  intro p e s m args below meth c s₁ B hml hv
  obtain ⟨rfl, hP0⟩ := hv
  have hts := atoms_spec (ws := ws_ yX2_name cX2_name 1 (some .int)) B.pre
  have hts : ∀ w ∈ lw_all, w.before _ s = true := fun w h => hts w (List.mem_cons_of_mem _ h)
  have C : PC E p s m _ meth c RX2 cX2_name 1 (some .int) "name" := ⟨B.exec, B.bytes, B.returns, B.notSynchronized, hml, findClass_of_methodNamed B.named, hts, hP0.2, (name_of_methodNamed B.named B.method).1⟩
  have hz : ZP E s h h s.heap [] := ZG.start hP0.1
  have hl := lv_entry ([.ref x0]) (n := 1) (Nat.le_of_ble_eq_true rfl)
  rw [lg_entry_eq]
  generalize (lg_sl ([.ref x0]) ++ List.replicate (1 - (lg_sl ([.ref x0])).length) Slot.unset).toArray = ls at hl ⊢
  have hl : lv_has ls 1 [(0, .ref x0)] := hl
  refine W.cs (cells' := pX h - pX h) (slots' := pS h - pS h) (Nat.sub_self _).symm (Nat.sub_self _).symm ?_
  exact w_X2_name C ⟨Nat.le_refl _, Nat.le_refl _, RBw.rm⟩ hf hz hl rfl

theorem w_X6_name {p : Program} {l : Launch} {e : Env} {R : Room} {s : State} {m : MethodId} {args : Array Value} {below : List Frame} {meth : Method} {c : Code} {Q : State → Prop} {E : PEw} {h0 h : HP} {H : Heap} {locs : List Loc} (C : PC E p s m args meth c RX6 cX6_name 1 (some .int) "name") (hr : 0 ≤ R.frames ∧ 0 ≤ R.locals ∧ RBw R h0) {x0 : Nat} {res : Int} (hf : f_X6_name h x0 = some res) (hz : ZP E s h0 h H locs) {ls : Array Slot} (hl : lv_has ls 1 [(0, .ref x0)]) (hk : KP E below args s Q h0 h (some (.int (zI res)))) : W p l e R s m args below meth c H locs (pX h - pX h0) (pS h - pS h0) Q (F0 m 0 ls []) := by
  unfold f_X6_name at hf
  have hx := C.1
  have hb := C.2.1
  refine zl_iconst hx hb dX6_name_0 ?_
  obtain rfl := Option.some.inj hf
  exact zg_iret C hz hk dX6_name_1

theorem met_X6_name (l : Launch) (E : PEw) {h : HP} {x0 : Nat} {res : Int} (hf : f_X6_name h x0 = some res) : Met l yX6_name (ws_ yX6_name cX6_name 1 (some .int)) (rmP h 0 0) (PP E h [.ref x0]) (QP E h h (some (.int (zI res)))) (pX h - pX h) (pS h - pS h) (eF E) := by
  refine Met.ofW (cc := cX6_name) (maxL := 1) (ret := (some .int)) (by decide) rfl ?_
  intro p e s m args below meth c s₁ B hml hv
  obtain ⟨rfl, hP0⟩ := hv
  have hts := atoms_spec (ws := ws_ yX6_name cX6_name 1 (some .int)) B.pre
  have hts : ∀ w ∈ lw_all, w.before _ s = true := fun w h => hts w (List.mem_cons_of_mem _ h)
  have C : PC E p s m _ meth c RX6 cX6_name 1 (some .int) "name" := ⟨B.exec, B.bytes, B.returns, B.notSynchronized, hml, findClass_of_methodNamed B.named, hts, hP0.2, (name_of_methodNamed B.named B.method).1⟩
  have hz : ZP E s h h s.heap [] := ZG.start hP0.1
  have hl := lv_entry ([.ref x0]) (n := 1) (Nat.le_of_ble_eq_true rfl)
  rw [lg_entry_eq]
  generalize (lg_sl ([.ref x0]) ++ List.replicate (1 - (lg_sl ([.ref x0])).length) Slot.unset).toArray = ls at hl ⊢
  have hl : lv_has ls 1 [(0, .ref x0)] := hl
  refine W.cs (cells' := pX h - pX h) (slots' := pS h - pS h) (Nat.sub_self _).symm (Nat.sub_self _).symm ?_
  exact w_X6_name C ⟨Nat.le_refl _, Nat.le_refl _, RBw.rm⟩ hf hz hl rfl

theorem zp_virt_name {p : Program} {l : Launch} {e : Env} {R : Room} {s : State} {m : MethodId} {args : Array Value} {below : List Frame} {meth : Method} {c : Code} {H : Heap} {locs : List Loc} {Q : State → Prop} {cc : ByteArray} {pc index : Nat} {ls : Array Slot} {rest : List Value} {E : PEw} {own : String} {nL : Nat} {ret : Option FieldType} {nm : String} {h0 h : HP} {a : Nat} {y : Int} (C : PC E p s m args meth c own cc nL ret nm) (hz : ZP E s h0 h H locs) {F1 F2 : Prop} (hr : F1 ∧ F2 ∧ RBw R h0) (hg : isN (pK h a)) (ey : v_name h a = some y) (q1 : Cond.methodLink own index ⟨"PlainPage$Node", "name", "()I"⟩ ∈ lw_all) (hl : ls.size = nL) (hR : 0 + 1 ≤ R.frames ∧ 8 + (1 + 11) + 0 ≤ R.locals) (hcat : (rest.map fun v => v.category).sum ≤ 8) (hdg : decode cc pc = .ok (.invokevirtual index, 3)) (kk : ∀ (H : Heap) (locs : List Loc), ZP E s h0 h H locs → W p l e R s m args below meth c H locs (pX h - pX h0) (pS h - pS h0) Q (F0 m (pc + 3) ls (.int (zI y) :: rest))) : W p l e R s m args below meth c H locs (pX h - pX h0) (pS h - pS h0) Q (F0 m pc ls (.ref a :: rest)) := by
  unfold v_name at ey
  rcases hg with hg | hg
  · rw [if_neg (by omega)] at ey
    exact zg_callO (v := some (.int (zI y))) (As := []) (n := 0) (cl := 2) gP C hz hr (gkp (by decide) hg) (met_X2_name l E ey) q1 q1069 q1067 q1068 q1066 q91 q1070 (by decide +kernel) hR rfl hl rfl hcat hdg kk
  · rw [if_pos hg] at ey
    exact zg_callO (v := some (.int (zI y))) (As := []) (n := 0) (cl := 3) gP C hz hr (gkp (by decide) hg) (met_X6_name l E ey) q1 q1072 q1067 q1071 q1066 q112 q1073 (by decide +kernel) hR rfl hl rfl hcat hdg kk

theorem w_X0_name {p : Program} {l : Launch} {e : Env} {R : Room} {s : State} {m : MethodId} {args : Array Value} {below : List Frame} {meth : Method} {c : Code} {Q : State → Prop} {E : PEw} {h0 h : HP} {H : Heap} {locs : List Loc} (C : PC E p s m args meth c RX0 cX0_name 3 (some .int) "name") (hr : 333 ≤ R.frames ∧ 7595 ≤ R.locals ∧ RBw R h0) {x0 : Nat} {x1 : Int} {res : HP × Int} (hf : f_X0_name h x0 x1 = some res) (hz : ZP E s h0 h H locs) {ls : Array Slot} (hl : lv_has ls 3 [(0, .ref x0), (1, .int (zI x1))]) (hk : KP E below args s Q h0 res.1 (some (.int (zI res.2)))) : W p l e R s m args below meth c H locs (pX h - pX h0) (pS h - pS h0) Q (F0 m 0 ls []) := by
  unfold f_X0_name at hf
  have hx := C.1
  have hb := C.2.1
  refine lv_aload_n hx hb dX0_name_0 rfl (lv_at hl 0 rfl) ?_
  refine lv_iload_n hx hb dX0_name_1 rfl (lv_at hl 1 rfl) ?_
  obtain ⟨hg, hf⟩ := gd_inv hf
  obtain ⟨y1, ey1, hf⟩ := bd_inv hf
  refine zg_callV gP C hz hr (n := 1) (rest := []) (gkp (by decide) hg) (met_X0_node l E ey1) q1061 q1063 (C.w qs33) q89 q1064 (by decide +kernel) ⟨Nat.le_trans (by decide) hr.1, Nat.le_trans (by decide) hr.2.1⟩ rfl hl.1 rfl (Nat.le_of_ble_eq_true rfl) dX0_name_2 (fun H locs hz => ?_)
  refine zl_astore_n_o (lv' := [(2, va_rf y1.2), (0, .ref x0), (1, .int (zI x1))]) hx hb dX0_name_5 rfl hl (by decide) rfl (fun ls hl => ?_)
  refine zl_aload_n_o hx hb dX0_name_6 rfl (lv_at hl 0 rfl) ?_
  rcases nl_inv hf with ⟨ho, hf⟩ | ⟨a2, ho, hf⟩
  · rw [zx_nul ho]
    refine lv_ifnonnullN hx hb dX0_name_7 ?_
    refine zl_iconst hx hb dX0_name_10 ?_
    refine lv_goto (tgt := 18) hx hb dX0_name_11 (by decide) ?_
    obtain rfl := Option.some.inj hf
    exact zg_iret C hz hk dX0_name_18
  · rw [zx_rf ho] at hl ⊢
    refine lv_ifnonnull (tgt := 14) hx hb dX0_name_7 (by decide) ?_
    refine lv_aload_n hx hb dX0_name_14 rfl (lv_at hl 0 rfl) ?_
    obtain ⟨hg, hf⟩ := gd_inv hf
    obtain ⟨y3, ey3, hf⟩ := bd_inv hf
    refine zp_virt_name C hz hr hg ey3 q1065 hl.1 ⟨Nat.le_trans (by decide) hr.1, Nat.le_trans (by decide) hr.2.1⟩ (Nat.le_of_ble_eq_true rfl) dX0_name_15 (fun H locs hz => ?_)
    obtain rfl := Option.some.inj hf
    exact zg_iret C hz hk dX0_name_18

theorem met_X0_name (l : Launch) (E : PEw) {h : HP} {x0 : Nat} {x1 : Int} {res : HP × Int} (hf : f_X0_name h x0 x1 = some res) : Met l yX0_name (ws_ yX0_name cX0_name 3 (some .int)) (rmP h 333 7595) (PP E h [.ref x0, .int (zI x1)]) (QP E h res.1 (some (.int (zI res.2)))) (pX res.1 - pX h) (pS res.1 - pS h) (eF E) := by
  refine Met.ofW (cc := cX0_name) (maxL := 3) (ret := (some .int)) (by decide) rfl ?_
  intro p e s m args below meth c s₁ B hml hv
  obtain ⟨rfl, hP0⟩ := hv
  have hts := atoms_spec (ws := ws_ yX0_name cX0_name 3 (some .int)) B.pre
  have hts : ∀ w ∈ lw_all, w.before _ s = true := fun w h => hts w (List.mem_cons_of_mem _ h)
  have C : PC E p s m _ meth c RX0 cX0_name 3 (some .int) "name" := ⟨B.exec, B.bytes, B.returns, B.notSynchronized, hml, findClass_of_methodNamed B.named, hts, hP0.2, (name_of_methodNamed B.named B.method).1⟩
  have hz : ZP E s h h s.heap [] := ZG.start hP0.1
  have hl := lv_entry ([.ref x0, .int (zI x1)]) (n := 3) (Nat.le_of_ble_eq_true rfl)
  rw [lg_entry_eq]
  generalize (lg_sl ([.ref x0, .int (zI x1)]) ++ List.replicate (3 - (lg_sl ([.ref x0, .int (zI x1)])).length) Slot.unset).toArray = ls at hl ⊢
  have hl : lv_has ls 3 [(0, .ref x0), (1, .int (zI x1))] := hl
  refine W.cs (cells' := pX h - pX h) (slots' := pS h - pS h) (Nat.sub_self _).symm (Nat.sub_self _).symm ?_
  exact w_X0_name C ⟨Nat.le_refl _, Nat.le_refl _, RBw.rm⟩ hf hz hl rfl

