set_option maxRecDepth 100000
theorem w_dropEntry_12s {p : Program} {l : Launch} {e : Env} {R : Room} {s : State} {m : MethodId} {args : Array Value} {below : List Frame} {meth : Method} {c : Code} {Q : State → Prop} {D : va_G} {cI cZ : ClassId} {mo : Nat} {ad : Nat → Nat} {H : Heap} {locs : List Loc} {M : MS} (C : MC p s m args meth c D cI cZ cX5_dropEntry 3 none) (hR : 0 ≤ R.frames ∧ 0 ≤ R.locals) {x2 : Int} {res : (MS × Int) ⊕ (MS)} (hf : m_dropEntry_12s M x2 = some res) (hZ : ZM D cI cZ mo ad s.heap M H locs) {ls : Array Slot} (hl : lv_has ls 3 [(0, .ref mo), (2, .int (zI x2))]) (hK : (Sum.elim (fun z => ∀ (H : Heap) (locs : List Loc) (ls : Array Slot), ZM D cI cZ mo ad s.heap z.1 H locs → lv_has ls 3 [(0, .ref mo), (2, .int (zI z.2))] → W p l e R s m args below meth c H locs 0 0 Q (F0 m 12 ls [])) (fun r => KM below D cI cZ mo ad args s Q r none)) res) : W p l e R s m args below meth c H locs 0 0 Q (F0 m 12 ls []) := by
  unfold m_dropEntry_12s at hf
  have hx := C.1
  have hb := C.2.1
  have hts := C.2.2.2.2.2.2.1
  refine lv_iload_n hx hb dX5_dropEntry_12 rfl (lv_at hl 1 rfl) ?_
  refine lv_aload_n hx hb dX5_dropEntry_13 rfl (lv_at hl 0 rfl) ?_
  refine zm_geti C hZ 16 (by decide) rfl q1157 dX5_dropEntry_14 ?_
  refine zl_icmp_ge (tgt := 54) hx hb dX5_dropEntry_17 (by decide) (fun hc => ?_) (fun hc => ?_)
  · rw [if_pos hc] at hf
    refine lv_aload_n hx hb dX5_dropEntry_20 rfl (lv_at hl 0 rfl) ?_
    refine zm_geta C hZ 14 (by decide) (by decide) q1155 dX5_dropEntry_21 ?_
    refine lv_iload_n hx hb dX5_dropEntry_24 rfl (lv_at hl 1 rfl) ?_
    refine lv_aload_n hx hb dX5_dropEntry_25 rfl (lv_at hl 0 rfl) ?_
    refine zm_geta C hZ 14 (by decide) (by decide) q1155 dX5_dropEntry_26 ?_
    refine lv_iload_n hx hb dX5_dropEntry_29 rfl (lv_at hl 1 rfl) ?_
    refine zl_iconst hx hb dX5_dropEntry_30 ?_
    refine zl_iadd hx hb dX5_dropEntry_31 ?_
    obtain ⟨hg, hf⟩ := gd_inv hf
    refine zm_iald C hZ 14 (by decide) rfl rfl hg dX5_dropEntry_32 ?_
    obtain ⟨hg, hf⟩ := gd_inv hf
    obtain ⟨M2, eM2, hf⟩ := bnd_inv hf
    refine zm_iast C hZ 14 (by decide) rfl rfl hg dX5_dropEntry_33 (fun H locs hZ => ?_)
    rw [← eM2] at hZ
    refine lv_aload_n hx hb dX5_dropEntry_34 rfl (lv_at hl 0 rfl) ?_
    refine zm_geta C hZ 15 (by decide) (by decide) q1156 dX5_dropEntry_35 ?_
    refine lv_iload_n hx hb dX5_dropEntry_38 rfl (lv_at hl 1 rfl) ?_
    refine lv_aload_n hx hb dX5_dropEntry_39 rfl (lv_at hl 0 rfl) ?_
    refine zm_geta C hZ 15 (by decide) (by decide) q1156 dX5_dropEntry_40 ?_
    refine lv_iload_n hx hb dX5_dropEntry_43 rfl (lv_at hl 1 rfl) ?_
    refine zl_iconst hx hb dX5_dropEntry_44 ?_
    refine zl_iadd hx hb dX5_dropEntry_45 ?_
    obtain ⟨hg, hf⟩ := gd_inv hf
    refine zm_iald C hZ 15 (by decide) rfl rfl hg dX5_dropEntry_46 ?_
    obtain ⟨hg, hf⟩ := gd_inv hf
    obtain ⟨M3, eM3, hf⟩ := bnd_inv hf
    refine zm_iast C hZ 15 (by decide) rfl rfl hg dX5_dropEntry_47 (fun H locs hZ => ?_)
    rw [← eM3] at hZ
    refine zl_iinc (x := x2) (n := 1) (lv' := [(2, .int (zI (x2 + 1))), (0, .ref mo)]) (k := 1) hx hb dX5_dropEntry_48 hl rfl (by decide) rfl (fun ls hl => ?_)
    refine lv_goto (tgt := 12) hx hb dX5_dropEntry_51 (by decide) ?_
    obtain rfl := Option.some.inj hf
    exact hK _ _ _ hZ (lv_sub hl [1, 0] rfl)
  · rw [if_neg hc] at hf
    obtain rfl := Option.some.inj hf
    exact zm_vret C hZ hK dX5_dropEntry_54

theorem w_dropEntry_12 {p : Program} {l : Launch} {e : Env} {R : Room} {s : State} {m : MethodId} {args : Array Value} {below : List Frame} {meth : Method} {c : Code} {Q : State → Prop} {D : va_G} {cI cZ : ClassId} {mo : Nat} {ad : Nat → Nat} {H : Heap} {locs : List Loc} {M : MS} (C : MC p s m args meth c D cI cZ cX5_dropEntry 3 none) (hR : 0 ≤ R.frames ∧ 0 ≤ R.locals) {x2 : Int} {res : MS} (hf : m_dropEntry_12 M x2 = some res) (hZ : ZM D cI cZ mo ad s.heap M H locs) {ls : Array Slot} (hl : lv_has ls 3 [(0, .ref mo), (2, .int (zI x2))]) (hK : KM below D cI cZ mo ad args s Q res none) : W p l e R s m args below meth c H locs 0 0 Q (F0 m 12 ls []) := by
  unfold m_dropEntry_12 at hf
  refine iter_ind (P := fun z r => ∀ (H : Heap) (locs : List Loc) (ls : Array Slot), ZM D cI cZ mo ad s.heap z.1 H locs → lv_has ls 3 [(0, .ref mo), (2, .int (zI z.2))] → KM below D cI cZ mo ad args s Q r none → W p l e R s m args below meth c H locs 0 0 Q (F0 m 12 ls [])) ?_ ?_ hf H locs ls hZ hl hK
  · intro z r h1 H locs ls hZ hl hK; exact w_dropEntry_12s C hR h1 hZ hl hK
  · intro z z1 r h1 ih H locs ls hZ hl hK; exact w_dropEntry_12s C hR h1 hZ hl (fun H locs ls hZ hl => ih H locs ls hZ hl hK)

theorem w_dropEntry {p : Program} {l : Launch} {e : Env} {R : Room} {s : State} {m : MethodId} {args : Array Value} {below : List Frame} {meth : Method} {c : Code} {Q : State → Prop} {D : va_G} {cI cZ : ClassId} {mo : Nat} {ad : Nat → Nat} {H : Heap} {locs : List Loc} {M : MS} (C : MC p s m args meth c D cI cZ cX5_dropEntry 3 none) (hR : 0 ≤ R.frames ∧ 0 ≤ R.locals) {x1 : Int} {res : MS} (hf : m_dropEntry M x1 = some res) (hZ : ZM D cI cZ mo ad s.heap M H locs) {ls : Array Slot} (hl : lv_has ls 3 [(0, .ref mo), (1, .int (zI x1))]) (hK : KM below D cI cZ mo ad args s Q res none) : W p l e R s m args below meth c H locs 0 0 Q (F0 m 0 ls []) := by
  unfold m_dropEntry at hf
  have hx := C.1
  have hb := C.2.1
  have hts := C.2.2.2.2.2.2.1
  refine lv_aload_n hx hb dX5_dropEntry_0 rfl (lv_at hl 0 rfl) ?_
  refine lv_dup hx hb dX5_dropEntry_1 rfl ?_
  refine zm_geti C hZ 16 (by decide) rfl q1157 dX5_dropEntry_2 ?_
  refine zl_iconst hx hb dX5_dropEntry_5 ?_
  refine zl_isub hx hb dX5_dropEntry_6 ?_
  obtain ⟨M1, eM1, hf⟩ := bnd_inv hf
  refine zm_puti C hZ 16 (by decide) rfl rfl q1157 dX5_dropEntry_7 (fun H locs hZ => ?_)
  rw [← eM1] at hZ
  refine lv_iload_n hx hb dX5_dropEntry_10 rfl (lv_at hl 1 rfl) ?_
  refine lv_istore_n (lv' := [(2, .int (zI x1)), (0, .ref mo), (1, .int (zI x1))]) hx hb dX5_dropEntry_11 rfl hl (by decide) rfl (fun ls hl => ?_)
  exact w_dropEntry_12 C hR hf hZ (lv_sub hl [1, 0] rfl) hK

theorem met_dropEntry (l : Launch) (D : va_G) (cI cZ : ClassId) (mo : Nat) (ad : Nat → Nat) {M : MS} {x1 : Int} {res : MS} (hf : m_dropEntry M x1 = some res) : Met l yX5_dropEntry (ws_ yX5_dropEntry cX5_dropEntry 3 none) ({ frames := 0, cells := 0, slots := 0, locals := 0 }) (PM D cI cZ mo ad M [.int (zI x1)]) (QM D cI cZ mo ad res none) 0 0 (MA mo ad) := by
  refine Met.ofW (cc := cX5_dropEntry) (maxL := 3) (ret := none) (by decide) rfl ?_
  intro p e s m args below meth c s₁ B hml hv
  obtain ⟨rfl, hRM, hK0⟩ := hv
  have hts := atoms_spec (ws := ws_ yX5_dropEntry cX5_dropEntry 3 none) B.pre
  have hts : ∀ w ∈ lw_all, w.before _ s = true := fun w h => hts w (List.mem_cons_of_mem _ h)
  have C : MC p s m _ meth c D cI cZ cX5_dropEntry 3 none := ⟨B.exec, B.bytes, B.returns, B.notSynchronized, hml, findClass_of_methodNamed B.named, hts, hK0⟩
  have hZ : ZM D cI cZ mo ad s.heap M s.heap [] := ⟨hRM, rfl, fun _ _ => rfl, fun _ h => by cases h⟩
  have hl := lv_entry ([.ref mo, .int (zI x1)]) (n := 3) (Nat.le_of_ble_eq_true rfl)
  rw [lg_entry_eq]
  generalize (lg_sl ([.ref mo, .int (zI x1)]) ++ List.replicate (3 - (lg_sl ([.ref mo, .int (zI x1)])).length) Slot.unset).toArray = ls at hl ⊢
  have hl : lv_has ls 3 [(0, .ref mo), (1, .int (zI x1))] := hl
  exact w_dropEntry C ⟨Nat.le_refl _, Nat.le_refl _⟩ hf hZ hl rfl

theorem w_list_74 {p : Program} {l : Launch} {e : Env} {R : Room} {s : State} {m : MethodId} {args : Array Value} {below : List Frame} {meth : Method} {c : Code} {Q : State → Prop} {D : va_G} {cI cZ : ClassId} {mo : Nat} {ad : Nat → Nat} {H : Heap} {locs : List Loc} {M : MS} (C : MC p s m args meth c D cI cZ cX5_list 6 none) (hR : 1 ≤ R.frames ∧ 22 ≤ R.locals) {x1 x2 : Int} {res : MS} (hf : m_list_74 M x1 x2 = some res) (hZ : ZM D cI cZ mo ad s.heap M H locs) {ls : Array Slot} (hl : lv_has ls 6 [(0, .ref mo), (1, .int (zI x1)), (2, .int (zI x2))]) (hK : KM below D cI cZ mo ad args s Q res none) : W p l e R s m args below meth c H locs 0 0 Q (F0 m 74 ls []) := by
  unfold m_list_74 at hf
  have hx := C.1
  have hb := C.2.1
  have hts := C.2.2.2.2.2.2.1
  refine lv_aload_n hx hb dX5_list_74 rfl (lv_at hl 0 rfl) ?_
  refine zm_geta C hZ 14 (by decide) (by decide) q1155 dX5_list_75 ?_
  refine lv_aload_n hx hb dX5_list_78 rfl (lv_at hl 0 rfl) ?_
  refine zm_geti C hZ 16 (by decide) rfl q1157 dX5_list_79 ?_
  refine lv_iload_n hx hb dX5_list_82 rfl (lv_at hl 1 rfl) ?_
  obtain ⟨hg, hf⟩ := gd_inv hf
  obtain ⟨M3, eM3, hf⟩ := bnd_inv hf
  refine zm_iast C hZ 14 (by decide) rfl rfl hg dX5_list_83 (fun H locs hZ => ?_)
  rw [← eM3] at hZ
  refine lv_aload_n hx hb dX5_list_84 rfl (lv_at hl 0 rfl) ?_
  refine zm_geta C hZ 15 (by decide) (by decide) q1156 dX5_list_85 ?_
  refine lv_aload_n hx hb dX5_list_88 rfl (lv_at hl 0 rfl) ?_
  refine zm_geti C hZ 16 (by decide) rfl q1157 dX5_list_89 ?_
  refine lv_iload_n hx hb dX5_list_92 rfl (lv_at hl 2 rfl) ?_
  obtain ⟨hg, hf⟩ := gd_inv hf
  obtain ⟨M4, eM4, hf⟩ := bnd_inv hf
  refine zm_iast C hZ 15 (by decide) rfl rfl hg dX5_list_93 (fun H locs hZ => ?_)
  rw [← eM4] at hZ
  refine lv_aload_n hx hb dX5_list_94 rfl (lv_at hl 0 rfl) ?_
  refine lv_dup hx hb dX5_list_95 rfl ?_
  refine zm_geti C hZ 16 (by decide) rfl q1157 dX5_list_96 ?_
  refine zl_iconst hx hb dX5_list_99 ?_
  refine zl_iadd hx hb dX5_list_100 ?_
  obtain ⟨M5, eM5, hf⟩ := bnd_inv hf
  refine zm_puti C hZ 16 (by decide) rfl rfl q1157 dX5_list_101 (fun H locs hZ => ?_)
  rw [← eM5] at hZ
  obtain rfl := Option.some.inj hf
  exact zm_vret C hZ hK dX5_list_104

theorem w_list_63 {p : Program} {l : Launch} {e : Env} {R : Room} {s : State} {m : MethodId} {args : Array Value} {below : List Frame} {meth : Method} {c : Code} {Q : State → Prop} {D : va_G} {cI cZ : ClassId} {mo : Nat} {ad : Nat → Nat} {H : Heap} {locs : List Loc} {M : MS} (C : MC p s m args meth c D cI cZ cX5_list 6 none) (hR : 1 ≤ R.frames ∧ 22 ≤ R.locals) {x1 x2 x3 x4 : Int} {res : MS} (hf : m_list_63 M x1 x2 x3 x4 = some res) (hZ : ZM D cI cZ mo ad s.heap M H locs) {ls : Array Slot} (hl : lv_has ls 6 [(0, .ref mo), (1, .int (zI x1)), (2, .int (zI x2)), (3, .int (zI x3)), (4, .int (zI x4))]) (hK : KM below D cI cZ mo ad args s Q res none) : W p l e R s m args below meth c H locs 0 0 Q (F0 m 63 ls []) := by
  unfold m_list_63 at hf
  have hx := C.1
  have hb := C.2.1
  have hts := C.2.2.2.2.2.2.1
  refine lv_iload hx hb dX5_list_63 (lv_at hl 4 rfl) ?_
  refine zl_iconst hx hb dX5_list_65 ?_
  refine zl_icmp_ne (tgt := 74) hx hb dX5_list_66 (by decide) (fun hc => ?_) (fun hc => ?_)
  · rw [if_pos hc] at hf
    refine lv_aload_n hx hb dX5_list_69 rfl (lv_at hl 0 rfl) ?_
    refine lv_iload_n hx hb dX5_list_70 rfl (lv_at hl 3 rfl) ?_
    obtain ⟨y2, ey2, hf⟩ := bd_inv hf
    refine zm_callV C hZ (n := 1) (rest := []) (met_dropEntry l D cI cZ mo ad ey2) (lw_V q1415 q1417 qs57 q107 q1418) rfl rfl (by decide +kernel) ⟨Nat.le_trans (by decide) hR.1, Nat.le_trans (by decide) hR.2⟩ rfl hl.1 rfl (Nat.le_of_ble_eq_true rfl) dX5_list_71 (fun H locs hZ => ?_)
    exact w_list_74 C hR hf hZ (lv_sub hl [0, 1, 2] rfl) hK
  · rw [if_neg hc] at hf
    exact w_list_74 C hR hf hZ (lv_sub hl [0, 1, 2] rfl) hK

theorem w_list_54 {p : Program} {l : Launch} {e : Env} {R : Room} {s : State} {m : MethodId} {args : Array Value} {below : List Frame} {meth : Method} {c : Code} {Q : State → Prop} {D : va_G} {cI cZ : ClassId} {mo : Nat} {ad : Nat → Nat} {H : Heap} {locs : List Loc} {M : MS} (C : MC p s m args meth c D cI cZ cX5_list 6 none) (hR : 1 ≤ R.frames ∧ 22 ≤ R.locals) {x1 x2 x3 x5 t0 t1 : Int} {res : (Int × Int × Int) ⊕ (MS)} (hf : m_list_54 M x1 x2 x3 x5 t0 t1 = some res) (hZ : ZM D cI cZ mo ad s.heap M H locs) {ls : Array Slot} (hl : lv_has ls 6 [(0, .ref mo), (1, .int (zI x1)), (2, .int (zI x2)), (3, .int (zI x3)), (5, .int (zI x5))]) (hK : (Sum.elim (fun z => ∀ (H : Heap) (locs : List Loc) (ls : Array Slot), ZM D cI cZ mo ad s.heap M H locs → lv_has ls 6 [(0, .ref mo), (1, .int (zI x1)), (2, .int (zI x2)), (3, .int (zI z.1)), (4, .int (zI z.2.1)), (5, .int (zI z.2.2))] → W p l e R s m args below meth c H locs 0 0 Q (F0 m 13 ls [])) (fun r => KM below D cI cZ mo ad args s Q r none)) res) : W p l e R s m args below meth c H locs 0 0 Q (F0 m 54 ls [.int (zI t0), .int (zI t1)]) := by
  unfold m_list_54 at hf
  have hx := C.1
  have hb := C.2.1
  have hts := C.2.2.2.2.2.2.1
  refine zl_iadd hx hb dX5_list_54 ?_
  obtain ⟨y2, ey2, hf⟩ := bnd_inv hf
  refine zl_top ey2 ?_
  refine lv_istore (lv' := [(4, .int (zI y2)), (0, .ref mo), (1, .int (zI x1)), (2, .int (zI x2)), (3, .int (zI x3)), (5, .int (zI x5))]) hx hb dX5_list_55 hl (by decide) rfl (fun ls hl => ?_)
  refine zl_iinc (x := x5) (n := (-1)) (lv' := [(5, .int (zI (x5 + (-1)))), (4, .int (zI y2)), (0, .ref mo), (1, .int (zI x1)), (2, .int (zI x2)), (3, .int (zI x3))]) (k := 5) hx hb dX5_list_57 hl rfl (by decide) rfl (fun ls hl => ?_)
  refine lv_goto (tgt := 13) hx hb dX5_list_60 (by decide) ?_
  obtain rfl := Option.some.inj hf
  exact hK _ _ _ hZ (lv_sub hl [2, 3, 4, 5, 1, 0] rfl)

theorem w_list_35 {p : Program} {l : Launch} {e : Env} {R : Room} {s : State} {m : MethodId} {args : Array Value} {below : List Frame} {meth : Method} {c : Code} {Q : State → Prop} {D : va_G} {cI cZ : ClassId} {mo : Nat} {ad : Nat → Nat} {H : Heap} {locs : List Loc} {M : MS} (C : MC p s m args meth c D cI cZ cX5_list 6 none) (hR : 1 ≤ R.frames ∧ 22 ≤ R.locals) {x1 x2 x4 x5 t0 : Int} {res : (Int × Int × Int) ⊕ (MS)} (hf : m_list_35 M x1 x2 x4 x5 t0 = some res) (hZ : ZM D cI cZ mo ad s.heap M H locs) {ls : Array Slot} (hl : lv_has ls 6 [(0, .ref mo), (1, .int (zI x1)), (2, .int (zI x2)), (4, .int (zI x4)), (5, .int (zI x5))]) (hK : (Sum.elim (fun z => ∀ (H : Heap) (locs : List Loc) (ls : Array Slot), ZM D cI cZ mo ad s.heap M H locs → lv_has ls 6 [(0, .ref mo), (1, .int (zI x1)), (2, .int (zI x2)), (3, .int (zI z.1)), (4, .int (zI z.2.1)), (5, .int (zI z.2.2))] → W p l e R s m args below meth c H locs 0 0 Q (F0 m 13 ls [])) (fun r => KM below D cI cZ mo ad args s Q r none)) res) : W p l e R s m args below meth c H locs 0 0 Q (F0 m 35 ls [.int (zI t0)]) := by
  unfold m_list_35 at hf
  have hx := C.1
  have hb := C.2.1
  have hts := C.2.2.2.2.2.2.1
  refine lv_istore_n (lv' := [(3, .int (zI t0)), (0, .ref mo), (1, .int (zI x1)), (2, .int (zI x2)), (4, .int (zI x4)), (5, .int (zI x5))]) hx hb dX5_list_35 rfl hl (by decide) rfl (fun ls hl => ?_)
  refine lv_iload hx hb dX5_list_36 (lv_at hl 4 rfl) ?_
  refine lv_aload_n hx hb dX5_list_38 rfl (lv_at hl 1 rfl) ?_
  refine zm_geta C hZ 15 (by decide) (by decide) q1156 dX5_list_39 ?_
  refine lv_iload hx hb dX5_list_42 (lv_at hl 5 rfl) ?_
  obtain ⟨hg, hf⟩ := gd_inv hf
  refine zm_iald C hZ 15 (by decide) rfl rfl hg dX5_list_44 ?_
  refine lv_iload_n hx hb dX5_list_45 rfl (lv_at hl 3 rfl) ?_
  refine zl_icmp_ne (tgt := 53) hx hb dX5_list_46 (by decide) (fun hc => ?_) (fun hc => ?_)
  · rw [if_pos hc] at hf
    refine zl_iconst hx hb dX5_list_49 ?_
    refine lv_goto (tgt := 54) hx hb dX5_list_50 (by decide) ?_
    exact w_list_54 C hR hf hZ (lv_sub hl [1, 2, 3, 0, 5] rfl) hK
  · rw [if_neg hc] at hf
    refine zl_iconst hx hb dX5_list_53 ?_
    exact w_list_54 C hR hf hZ (lv_sub hl [1, 2, 3, 0, 5] rfl) hK

theorem w_list_13s {p : Program} {l : Launch} {e : Env} {R : Room} {s : State} {m : MethodId} {args : Array Value} {below : List Frame} {meth : Method} {c : Code} {Q : State → Prop} {D : va_G} {cI cZ : ClassId} {mo : Nat} {ad : Nat → Nat} {H : Heap} {locs : List Loc} {M : MS} (C : MC p s m args meth c D cI cZ cX5_list 6 none) (hR : 1 ≤ R.frames ∧ 22 ≤ R.locals) {x1 x2 x3 x4 x5 : Int} {res : (Int × Int × Int) ⊕ (MS)} (hf : m_list_13s M x1 x2 x3 x4 x5 = some res) (hZ : ZM D cI cZ mo ad s.heap M H locs) {ls : Array Slot} (hl : lv_has ls 6 [(0, .ref mo), (1, .int (zI x1)), (2, .int (zI x2)), (3, .int (zI x3)), (4, .int (zI x4)), (5, .int (zI x5))]) (hK : (Sum.elim (fun z => ∀ (H : Heap) (locs : List Loc) (ls : Array Slot), ZM D cI cZ mo ad s.heap M H locs → lv_has ls 6 [(0, .ref mo), (1, .int (zI x1)), (2, .int (zI x2)), (3, .int (zI z.1)), (4, .int (zI z.2.1)), (5, .int (zI z.2.2))] → W p l e R s m args below meth c H locs 0 0 Q (F0 m 13 ls [])) (fun r => KM below D cI cZ mo ad args s Q r none)) res) : W p l e R s m args below meth c H locs 0 0 Q (F0 m 13 ls []) := by
  unfold m_list_13s at hf
  have hx := C.1
  have hb := C.2.1
  have hts := C.2.2.2.2.2.2.1
  refine lv_iload hx hb dX5_list_13 (lv_at hl 5 rfl) ?_
  refine zl_if_lt (tgt := 63) hx hb dX5_list_15 (by decide) (fun hc => ?_) (fun hc => ?_)
  · rw [if_pos hc] at hf
    obtain ⟨r0, hm0, rfl⟩ := mr_inv hf
    exact w_list_63 C hR hm0 hZ (lv_sub hl [0, 1, 2, 3, 4] rfl) hK
  · rw [if_neg hc] at hf
    refine lv_aload_n hx hb dX5_list_18 rfl (lv_at hl 0 rfl) ?_
    refine zm_geta C hZ 15 (by decide) (by decide) q1156 dX5_list_19 ?_
    refine lv_iload hx hb dX5_list_22 (lv_at hl 5 rfl) ?_
    obtain ⟨hg, hf⟩ := gd_inv hf
    refine zm_iald C hZ 15 (by decide) rfl rfl hg dX5_list_24 ?_
    refine lv_iload_n hx hb dX5_list_25 rfl (lv_at hl 2 rfl) ?_
    refine zl_icmp_ne (tgt := 34) hx hb dX5_list_26 (by decide) (fun hc => ?_) (fun hc => ?_)
    · rw [if_pos hc] at hf
      refine lv_iload hx hb dX5_list_29 (lv_at hl 5 rfl) ?_
      refine lv_goto (tgt := 35) hx hb dX5_list_31 (by decide) ?_
      exact w_list_35 C hR hf hZ (lv_sub hl [0, 1, 2, 4, 5] rfl) hK
    · rw [if_neg hc] at hf
      refine lv_iload_n hx hb dX5_list_34 rfl (lv_at hl 3 rfl) ?_
      exact w_list_35 C hR hf hZ (lv_sub hl [0, 1, 2, 4, 5] rfl) hK

theorem w_list_13 {p : Program} {l : Launch} {e : Env} {R : Room} {s : State} {m : MethodId} {args : Array Value} {below : List Frame} {meth : Method} {c : Code} {Q : State → Prop} {D : va_G} {cI cZ : ClassId} {mo : Nat} {ad : Nat → Nat} {H : Heap} {locs : List Loc} {M : MS} (C : MC p s m args meth c D cI cZ cX5_list 6 none) (hR : 1 ≤ R.frames ∧ 22 ≤ R.locals) {x1 x2 x3 x4 x5 : Int} {res : MS} (hf : m_list_13 M x1 x2 x3 x4 x5 = some res) (hZ : ZM D cI cZ mo ad s.heap M H locs) {ls : Array Slot} (hl : lv_has ls 6 [(0, .ref mo), (1, .int (zI x1)), (2, .int (zI x2)), (3, .int (zI x3)), (4, .int (zI x4)), (5, .int (zI x5))]) (hK : KM below D cI cZ mo ad args s Q res none) : W p l e R s m args below meth c H locs 0 0 Q (F0 m 13 ls []) := by
  unfold m_list_13 at hf
  refine iter_ind (P := fun z r => ∀ (H : Heap) (locs : List Loc) (ls : Array Slot), ZM D cI cZ mo ad s.heap M H locs → lv_has ls 6 [(0, .ref mo), (1, .int (zI x1)), (2, .int (zI x2)), (3, .int (zI z.1)), (4, .int (zI z.2.1)), (5, .int (zI z.2.2))] → KM below D cI cZ mo ad args s Q r none → W p l e R s m args below meth c H locs 0 0 Q (F0 m 13 ls [])) ?_ ?_ hf H locs ls hZ hl hK
  · intro z r h1 H locs ls hZ hl hK; exact w_list_13s C hR h1 hZ hl hK
  · intro z z1 r h1 ih H locs ls hZ hl hK; exact w_list_13s C hR h1 hZ hl (fun H locs ls hZ hl => ih H locs ls hZ hl hK)

theorem w_list {p : Program} {l : Launch} {e : Env} {R : Room} {s : State} {m : MethodId} {args : Array Value} {below : List Frame} {meth : Method} {c : Code} {Q : State → Prop} {D : va_G} {cI cZ : ClassId} {mo : Nat} {ad : Nat → Nat} {H : Heap} {locs : List Loc} {M : MS} (C : MC p s m args meth c D cI cZ cX5_list 6 none) (hR : 1 ≤ R.frames ∧ 22 ≤ R.locals) {x1 x2 : Int} {res : MS} (hf : m_list M x1 x2 = some res) (hZ : ZM D cI cZ mo ad s.heap M H locs) {ls : Array Slot} (hl : lv_has ls 6 [(0, .ref mo), (1, .int (zI x1)), (2, .int (zI x2))]) (hK : KM below D cI cZ mo ad args s Q res none) : W p l e R s m args below meth c H locs 0 0 Q (F0 m 0 ls []) := by
  unfold m_list at hf
  have hx := C.1
  have hb := C.2.1
  have hts := C.2.2.2.2.2.2.1
  refine zl_iconst hx hb dX5_list_0 ?_
  refine lv_istore_n (lv' := [(3, .int (zI (-1))), (0, .ref mo), (1, .int (zI x1)), (2, .int (zI x2))]) hx hb dX5_list_1 rfl hl (by decide) rfl (fun ls hl => ?_)
  refine zl_iconst hx hb dX5_list_2 ?_
  refine lv_istore (lv' := [(4, .int (zI 0)), (3, .int (zI (-1))), (0, .ref mo), (1, .int (zI x1)), (2, .int (zI x2))]) hx hb dX5_list_3 hl (by decide) rfl (fun ls hl => ?_)
  refine lv_aload_n hx hb dX5_list_5 rfl (lv_at hl 2 rfl) ?_
  refine zm_geti C hZ 16 (by decide) rfl q1157 dX5_list_6 ?_
  refine zl_iconst hx hb dX5_list_9 ?_
  refine zl_isub hx hb dX5_list_10 ?_
  obtain ⟨y1, ey1, hf⟩ := bnd_inv hf
  refine zl_top ey1 ?_
  refine lv_istore (lv' := [(5, .int (zI y1)), (4, .int (zI 0)), (3, .int (zI (-1))), (0, .ref mo), (1, .int (zI x1)), (2, .int (zI x2))]) hx hb dX5_list_11 hl (by decide) rfl (fun ls hl => ?_)
  exact w_list_13 C hR hf hZ (lv_sub hl [3, 4, 5, 2, 1, 0] rfl) hK

theorem met_list (l : Launch) (D : va_G) (cI cZ : ClassId) (mo : Nat) (ad : Nat → Nat) {M : MS} {x1 x2 : Int} {res : MS} (hf : m_list M x1 x2 = some res) : Met l yX5_list (ws_ yX5_list cX5_list 6 none) ({ frames := 1, cells := 0, slots := 0, locals := 22 }) (PM D cI cZ mo ad M [.int (zI x1), .int (zI x2)]) (QM D cI cZ mo ad res none) 0 0 (MA mo ad) := by
  refine Met.ofW (cc := cX5_list) (maxL := 6) (ret := none) (by decide) rfl ?_
  intro p e s m args below meth c s₁ B hml hv
  obtain ⟨rfl, hRM, hK0⟩ := hv
  have hts := atoms_spec (ws := ws_ yX5_list cX5_list 6 none) B.pre
  have hts : ∀ w ∈ lw_all, w.before _ s = true := fun w h => hts w (List.mem_cons_of_mem _ h)
  have C : MC p s m _ meth c D cI cZ cX5_list 6 none := ⟨B.exec, B.bytes, B.returns, B.notSynchronized, hml, findClass_of_methodNamed B.named, hts, hK0⟩
  have hZ : ZM D cI cZ mo ad s.heap M s.heap [] := ⟨hRM, rfl, fun _ _ => rfl, fun _ h => by cases h⟩
  have hl := lv_entry ([.ref mo, .int (zI x1), .int (zI x2)]) (n := 6) (Nat.le_of_ble_eq_true rfl)
  rw [lg_entry_eq]
  generalize (lg_sl ([.ref mo, .int (zI x1), .int (zI x2)]) ++ List.replicate (6 - (lg_sl ([.ref mo, .int (zI x1), .int (zI x2)])).length) Slot.unset).toArray = ls at hl ⊢
  have hl : lv_has ls 6 [(0, .ref mo), (1, .int (zI x1)), (2, .int (zI x2))] := hl
  exact w_list C ⟨Nat.le_refl _, Nat.le_refl _⟩ hf hZ hl rfl

theorem w_start_86 {p : Program} {l : Launch} {e : Env} {R : Room} {s : State} {m : MethodId} {args : Array Value} {below : List Frame} {meth : Method} {c : Code} {Q : State → Prop} {D : va_G} {cI cZ : ClassId} {mo : Nat} {ad : Nat → Nat} {H : Heap} {locs : List Loc} {M : MS} (C : MC p s m args meth c D cI cZ cX5_start 5 none) (hR : 6 ≤ R.frames ∧ 135 ≤ R.locals) {x1 x3 x4 : Int} {res : MS} (hf : m_start_86 M x1 x3 x4 = some res) (hZ : ZM D cI cZ mo ad s.heap M H locs) {ls : Array Slot} (hl : lv_has ls 5 [(0, .ref mo), (1, .int (zI x1)), (3, .int (zI x3)), (4, .int (zI x4))]) (hK : KM below D cI cZ mo ad args s Q res none) : W p l e R s m args below meth c H locs 0 0 Q (F0 m 86 ls []) := by
  unfold m_start_86 at hf
  have hx := C.1
  have hb := C.2.1
  have hts := C.2.2.2.2.2.2.1
  refine lv_iload_n hx hb dX5_start_86 rfl (lv_at hl 1 rfl) ?_
  obtain ⟨y5, ey5, hf⟩ := bd_inv hf
  refine zm_callS C (n := 1) (rest := []) (met_bit l ey5) (lw_S q1351 q1352 q107 q1353) rfl rfl (by decide +kernel) ⟨Nat.le_trans (by decide) hR.1, Nat.le_trans (by decide) hR.2⟩ rfl hl.1 rfl (Nat.le_of_ble_eq_true rfl) dX5_start_87 (Nat.zero_le _) (Nat.zero_le _) ?_
  refine zl_ldc (v := 262402) hx hb C.2.2.2.2.2.1 (hts _ q1410) dX5_start_90 ?_
  refine zl_iand hx hb dX5_start_92 ?_
  refine zl_if_eq (tgt := 103) hx hb dX5_start_93 (by decide) (fun hc => ?_) (fun hc => ?_)
  · rw [if_pos hc] at hf
    obtain rfl := Option.some.inj hf
    exact zm_vret C hZ hK dX5_start_103
  · rw [if_neg hc] at hf
    refine lv_aload_n hx hb dX5_start_96 rfl (lv_at hl 0 rfl) ?_
    refine lv_iload hx hb dX5_start_97 (lv_at hl 3 rfl) ?_
    refine lv_iload_n hx hb dX5_start_99 rfl (lv_at hl 2 rfl) ?_
    obtain ⟨y6, ey6, hf⟩ := bd_inv hf
    refine zm_callV C hZ (n := 2) (rest := []) (met_list l D cI cZ mo ad ey6) (lw_V q1411 q1413 qs56 q107 q1414) rfl rfl (by decide +kernel) ⟨Nat.le_trans (by decide) hR.1, Nat.le_trans (by decide) hR.2⟩ rfl hl.1 rfl (Nat.le_of_ble_eq_true rfl) dX5_start_100 (fun H locs hZ => ?_)
    obtain rfl := Option.some.inj hf
    exact zm_vret C hZ hK dX5_start_103

theorem w_start_47 {p : Program} {l : Launch} {e : Env} {R : Room} {s : State} {m : MethodId} {args : Array Value} {below : List Frame} {meth : Method} {c : Code} {Q : State → Prop} {D : va_G} {cI cZ : ClassId} {mo : Nat} {ad : Nat → Nat} {H : Heap} {locs : List Loc} {M : MS} (C : MC p s m args meth c D cI cZ cX5_start 5 none) (hR : 6 ≤ R.frames ∧ 135 ≤ R.locals) {x1 x2 : Int} {res : MS} (hf : m_start_47 M x1 x2 = some res) (hZ : ZM D cI cZ mo ad s.heap M H locs) {ls : Array Slot} (hl : lv_has ls 5 [(0, .ref mo), (1, .int (zI x1)), (2, .int (zI x2))]) (hK : KM below D cI cZ mo ad args s Q res none) : W p l e R s m args below meth c H locs 0 0 Q (F0 m 47 ls []) := by
  unfold m_start_47 at hf
  have hx := C.1
  have hb := C.2.1
  have hts := C.2.2.2.2.2.2.1
  refine lv_aload_n hx hb dX5_start_47 rfl (lv_at hl 0 rfl) ?_
  obtain ⟨y3, ey3, hf⟩ := bd_inv hf
  refine zm_callV C hZ (n := 0) (rest := []) (met_listOwner l D cI cZ mo ad ey3) (lw_V q1396 q1398 qs53 q107 q1399) rfl rfl (by decide +kernel) ⟨Nat.le_trans (by decide) hR.1, Nat.le_trans (by decide) hR.2⟩ rfl hl.1 rfl (Nat.le_of_ble_eq_true rfl) dX5_start_48 (fun H locs hZ => ?_)
  refine lv_istore_n (lv' := [(3, .int (zI y3)), (0, .ref mo), (1, .int (zI x1)), (2, .int (zI x2))]) hx hb dX5_start_51 rfl hl (by decide) rfl (fun ls hl => ?_)
  refine lv_aload_n hx hb dX5_start_52 rfl (lv_at hl 1 rfl) ?_
  refine lv_iload_n hx hb dX5_start_53 rfl (lv_at hl 2 rfl) ?_
  refine lv_iload_n hx hb dX5_start_54 rfl (lv_at hl 3 rfl) ?_
  obtain ⟨y4, ey4, hf⟩ := bd_inv hf
  refine zm_callV C hZ (n := 2) (rest := []) (met_create l D cI cZ mo ad ey4) (lw_V q1384 q1386 qs50 q107 q1387) rfl rfl (by decide +kernel) ⟨Nat.le_trans (by decide) hR.1, Nat.le_trans (by decide) hR.2⟩ rfl hl.1 rfl (Nat.le_of_ble_eq_true rfl) dX5_start_55 (fun H locs hZ => ?_)
  refine lv_istore (lv' := [(4, .int (zI y4.2)), (3, .int (zI y3)), (0, .ref mo), (1, .int (zI x1)), (2, .int (zI x2))]) hx hb dX5_start_58 hl (by decide) rfl (fun ls hl => ?_)
  refine lv_aload_n hx hb dX5_start_60 rfl (lv_at hl 2 rfl) ?_
  refine zm_geti C hZ 4 (by decide) rfl q1145 dX5_start_61 ?_
  refine zl_if_eq (tgt := 68) hx hb dX5_start_64 (by decide) (fun hc => ?_) (fun hc => ?_)
  · rw [if_pos hc] at hf
    refine lv_iload_n hx hb dX5_start_68 rfl (lv_at hl 3 rfl) ?_
    refine zl_bipush hx hb dX5_start_69 (by decide) ?_
    refine zl_icmp_eq (tgt := 86) hx hb dX5_start_71 (by decide) (fun hc => ?_) (fun hc => ?_)
    · rw [if_pos hc] at hf
      exact w_start_86 C hR hf hZ (lv_sub hl [2, 3, 1, 0] rfl) hK
    · rw [if_neg hc] at hf
      refine lv_iload_n hx hb dX5_start_74 rfl (lv_at hl 3 rfl) ?_
      refine zl_bipush hx hb dX5_start_75 (by decide) ?_
      refine zl_icmp_eq (tgt := 86) hx hb dX5_start_77 (by decide) (fun hc => ?_) (fun hc => ?_)
      · rw [if_pos hc] at hf
        exact w_start_86 C hR hf hZ (lv_sub hl [2, 3, 1, 0] rfl) hK
      · rw [if_neg hc] at hf
        refine lv_aload_n hx hb dX5_start_80 rfl (lv_at hl 2 rfl) ?_
        refine lv_iload hx hb dX5_start_81 (lv_at hl 0 rfl) ?_
        obtain ⟨y5, ey5, hf⟩ := bd_inv hf
        refine zm_callV C hZ (n := 1) (rest := []) (met_push l D cI cZ mo ad ey5) (lw_V q1388 q1390 qs51 q107 q1391) rfl rfl (by decide +kernel) ⟨Nat.le_trans (by decide) hR.1, Nat.le_trans (by decide) hR.2⟩ rfl hl.1 rfl (Nat.le_of_ble_eq_true rfl) dX5_start_83 (fun H locs hZ => ?_)
        exact w_start_86 C hR hf hZ (lv_sub hl [2, 3, 1, 0] rfl) hK
  · rw [if_neg hc] at hf
    obtain rfl := Option.some.inj hf
    exact zm_vret C hZ hK dX5_start_67

theorem w_start_21 {p : Program} {l : Launch} {e : Env} {R : Room} {s : State} {m : MethodId} {args : Array Value} {below : List Frame} {meth : Method} {c : Code} {Q : State → Prop} {D : va_G} {cI cZ : ClassId} {mo : Nat} {ad : Nat → Nat} {H : Heap} {locs : List Loc} {M : MS} (C : MC p s m args meth c D cI cZ cX5_start 5 none) (hR : 6 ≤ R.frames ∧ 135 ≤ R.locals) {x1 x2 : Int} {res : MS} (hf : m_start_21 M x1 x2 = some res) (hZ : ZM D cI cZ mo ad s.heap M H locs) {ls : Array Slot} (hl : lv_has ls 5 [(0, .ref mo), (1, .int (zI x1)), (2, .int (zI x2))]) (hK : KM below D cI cZ mo ad args s Q res none) : W p l e R s m args below meth c H locs 0 0 Q (F0 m 21 ls []) := by
  unfold m_start_21 at hf
  have hx := C.1
  have hb := C.2.1
  have hts := C.2.2.2.2.2.2.1
  refine lv_aload_n hx hb dX5_start_21 rfl (lv_at hl 0 rfl) ?_
  refine lv_aload_n hx hb dX5_start_22 rfl (lv_at hl 0 rfl) ?_
  refine zm_geta C hZ 12 (by decide) (by decide) q1153 dX5_start_23 ?_
  refine lv_aload_n hx hb dX5_start_26 rfl (lv_at hl 0 rfl) ?_
  refine zm_geti C hZ 13 (by decide) rfl q1154 dX5_start_27 ?_
  refine zl_iconst hx hb dX5_start_30 ?_
  refine zl_isub hx hb dX5_start_31 ?_
  obtain ⟨hg, hf⟩ := gd_inv hf
  refine zm_iald C hZ 12 (by decide) rfl rfl hg dX5_start_32 ?_
  obtain ⟨y2, ey2, hf⟩ := bd_inv hf
  refine zm_callV C hZ (n := 1) (rest := []) (met_insideTop l D cI cZ mo ad ey2) (lw_V q1372 q1374 qs47 q107 q1375) rfl rfl (by decide +kernel) ⟨Nat.le_trans (by decide) hR.1, Nat.le_trans (by decide) hR.2⟩ rfl hl.1 rfl (Nat.le_of_ble_eq_true rfl) dX5_start_33 (fun H locs hZ => ?_)
  refine lv_goto (tgt := 47) hx hb dX5_start_36 (by decide) ?_
  exact w_start_47 C hR hf hZ (lv_sub hl [0, 1, 2] rfl) hK

theorem w_start {p : Program} {l : Launch} {e : Env} {R : Room} {s : State} {m : MethodId} {args : Array Value} {below : List Frame} {meth : Method} {c : Code} {Q : State → Prop} {D : va_G} {cI cZ : ClassId} {mo : Nat} {ad : Nat → Nat} {H : Heap} {locs : List Loc} {M : MS} (C : MC p s m args meth c D cI cZ cX5_start 5 none) (hR : 6 ≤ R.frames ∧ 135 ≤ R.locals) {x1 x2 : Int} {res : MS} (hf : m_start M x1 x2 = some res) (hZ : ZM D cI cZ mo ad s.heap M H locs) {ls : Array Slot} (hl : lv_has ls 5 [(0, .ref mo), (1, .int (zI x1)), (2, .int (zI x2))]) (hK : KM below D cI cZ mo ad args s Q res none) : W p l e R s m args below meth c H locs 0 0 Q (F0 m 0 ls []) := by
  unfold m_start at hf
  have hx := C.1
  have hb := C.2.1
  have hts := C.2.2.2.2.2.2.1
  refine lv_aload_n hx hb dX5_start_0 rfl (lv_at hl 0 rfl) ?_
  refine lv_iload_n hx hb dX5_start_1 rfl (lv_at hl 1 rfl) ?_
  obtain ⟨y1, ey1, hf⟩ := bd_inv hf
  refine zm_callV C hZ (n := 1) (rest := []) (met_clearWay l D cI cZ mo ad ey1) (lw_V q1347 q1349 qs42 q107 q1350) rfl rfl (by decide +kernel) ⟨Nat.le_trans (by decide) hR.1, Nat.le_trans (by decide) hR.2⟩ rfl hl.1 rfl (Nat.le_of_ble_eq_true rfl) dX5_start_2 (fun H locs hZ => ?_)
  refine zl_if_ne (tgt := 9) hx hb dX5_start_5 (by decide) (fun hc => ?_) (fun hc => ?_)
  · rw [if_pos hc] at hf
    obtain rfl := Option.some.inj hf
    exact zm_vret C hZ hK dX5_start_8
  · rw [if_neg hc] at hf
    refine lv_iload_n hx hb dX5_start_9 rfl (lv_at hl 1 rfl) ?_
    refine zl_bipush hx hb dX5_start_10 (by decide) ?_
    refine zl_icmp_eq (tgt := 21) hx hb dX5_start_12 (by decide) (fun hc => ?_) (fun hc => ?_)
    · rw [if_pos hc] at hf
      exact w_start_21 C hR hf hZ (lv_sub hl [0, 1, 2] rfl) hK
    · rw [if_neg hc] at hf
      refine lv_iload_n hx hb dX5_start_15 rfl (lv_at hl 1 rfl) ?_
      refine zl_bipush hx hb dX5_start_16 (by decide) ?_
      refine zl_icmp_ne (tgt := 39) hx hb dX5_start_18 (by decide) (fun hc => ?_) (fun hc => ?_)
      · rw [if_pos hc] at hf
        exact w_start_21 C hR hf hZ (lv_sub hl [0, 1, 2] rfl) hK
      · rw [if_neg hc] at hf
        refine lv_aload_n hx hb dX5_start_39 rfl (lv_at hl 0 rfl) ?_
        refine lv_aload_n hx hb dX5_start_40 rfl (lv_at hl 0 rfl) ?_
        refine zm_geti C hZ 13 (by decide) rfl q1154 dX5_start_41 ?_
        obtain ⟨y2, ey2, hf⟩ := bd_inv hf
        refine zm_callV C hZ (n := 1) (rest := []) (met_findPlace l D cI cZ mo ad ey2) (lw_V q1404 q1406 qs55 q107 q1407) rfl rfl (by decide +kernel) ⟨Nat.le_trans (by decide) hR.1, Nat.le_trans (by decide) hR.2⟩ rfl hl.1 rfl (Nat.le_of_ble_eq_true rfl) dX5_start_44 (fun H locs hZ => ?_)
        exact w_start_47 C hR hf hZ (lv_sub hl [0, 1, 2] rfl) hK

theorem met_start (l : Launch) (D : va_G) (cI cZ : ClassId) (mo : Nat) (ad : Nat → Nat) {M : MS} {x1 x2 : Int} {res : MS} (hf : m_start M x1 x2 = some res) : Met l yX5_start (ws_ yX5_start cX5_start 5 none) ({ frames := 6, cells := 0, slots := 0, locals := 135 }) (PM D cI cZ mo ad M [.int (zI x1), .int (zI x2)]) (QM D cI cZ mo ad res none) 0 0 (MA mo ad) := by
  refine Met.ofW (cc := cX5_start) (maxL := 5) (ret := none) (by decide) rfl ?_
  intro p e s m args below meth c s₁ B hml hv
  obtain ⟨rfl, hRM, hK0⟩ := hv
  have hts := atoms_spec (ws := ws_ yX5_start cX5_start 5 none) B.pre
  have hts : ∀ w ∈ lw_all, w.before _ s = true := fun w h => hts w (List.mem_cons_of_mem _ h)
  have C : MC p s m _ meth c D cI cZ cX5_start 5 none := ⟨B.exec, B.bytes, B.returns, B.notSynchronized, hml, findClass_of_methodNamed B.named, hts, hK0⟩
  have hZ : ZM D cI cZ mo ad s.heap M s.heap [] := ⟨hRM, rfl, fun _ _ => rfl, fun _ h => by cases h⟩
  have hl := lv_entry ([.ref mo, .int (zI x1), .int (zI x2)]) (n := 5) (Nat.le_of_ble_eq_true rfl)
  rw [lg_entry_eq]
  generalize (lg_sl ([.ref mo, .int (zI x1), .int (zI x2)]) ++ List.replicate (5 - (lg_sl ([.ref mo, .int (zI x1), .int (zI x2)])).length) Slot.unset).toArray = ls at hl ⊢
  have hl : lv_has ls 5 [(0, .ref mo), (1, .int (zI x1)), (2, .int (zI x2))] := hl
  exact w_start C ⟨Nat.le_refl _, Nat.le_refl _⟩ hf hZ hl rfl

theorem w_adopt_268 {p : Program} {l : Launch} {e : Env} {R : Room} {s : State} {m : MethodId} {args : Array Value} {below : List Frame} {meth : Method} {c : Code} {Q : State → Prop} {D : va_G} {cI cZ : ClassId} {mo : Nat} {ad : Nat → Nat} {H : Heap} {locs : List Loc} {M : MS} (C : MC p s m args meth c D cI cZ cX5_adopt 10 none) (hR : 4 ≤ R.frames ∧ 86 ≤ R.locals) {x1 x2 x3 x4 x6 x7 x8 x9 t0 t1 t2 : Int} {res : (MS × Int) ⊕ (MS)} (hf : m_adopt_268 M x1 x2 x3 x4 x6 x7 x8 x9 t0 t1 t2 = some res) (hZ : ZM D cI cZ mo ad s.heap M H locs) {ls : Array Slot} (hl : lv_has ls 10 [(0, .ref mo), (1, .int (zI x1)), (2, .int (zI x2)), (3, .int (zI x3)), (4, .int (zI x4)), (6, .int (zI x6)), (7, .int (zI x7)), (8, .int (zI x8)), (9, .int (zI x9))]) (hK : (Sum.elim (fun z => ∀ (H : Heap) (locs : List Loc) (ls : Array Slot), ZM D cI cZ mo ad s.heap z.1 H locs → lv_has ls 10 [(0, .ref mo), (1, .int (zI x1)), (2, .int (zI x2)), (3, .int (zI x3)), (4, .int (zI x4)), (6, .int (zI x6)), (7, .int (zI x7)), (8, .int (zI x8)), (9, .int (zI z.2))] → W p l e R s m args below meth c H locs 0 0 Q (F0 m 217 ls [])) (fun r => KM below D cI cZ mo ad args s Q r none)) res) : W p l e R s m args below meth c H locs 0 0 Q (F0 m 268 ls [.int (zI t0), .int (zI t1), .int (zI t2), .ref (ad 10)]) := by
  unfold m_adopt_268 at hf
  have hx := C.1
  have hb := C.2.1
  have hts := C.2.2.2.2.2.2.1
  refine zl_iadd hx hb dX5_adopt_268 ?_
  obtain ⟨hg, hf⟩ := gd_inv hf
  obtain ⟨M17, eM17, hf⟩ := bnd_inv hf
  refine zm_iast C hZ 10 (by decide) rfl rfl hg dX5_adopt_269 (fun H locs hZ => ?_)
  rw [← eM17] at hZ
  refine zl_iinc (x := x9) (n := 1) (lv' := [(9, .int (zI (x9 + 1))), (0, .ref mo), (1, .int (zI x1)), (2, .int (zI x2)), (3, .int (zI x3)), (4, .int (zI x4)), (6, .int (zI x6)), (7, .int (zI x7)), (8, .int (zI x8))]) (k := 8) hx hb dX5_adopt_270 hl rfl (by decide) rfl (fun ls hl => ?_)
  refine lv_goto (tgt := 217) hx hb dX5_adopt_273 (by decide) ?_
  obtain rfl := Option.some.inj hf
  exact hK _ _ _ hZ (lv_sub hl [1, 2, 3, 4, 5, 6, 7, 8, 0] rfl)

theorem w_adopt_312 {p : Program} {l : Launch} {e : Env} {R : Room} {s : State} {m : MethodId} {args : Array Value} {below : List Frame} {meth : Method} {c : Code} {Q : State → Prop} {D : va_G} {cI cZ : ClassId} {mo : Nat} {ad : Nat → Nat} {H : Heap} {locs : List Loc} {M : MS} (C : MC p s m args meth c D cI cZ cX5_adopt 10 none) (hR : 4 ≤ R.frames ∧ 86 ≤ R.locals) {x1 x2 x3 x4 x8 : Int} {res : MS} (hf : m_adopt_312 M x1 x2 x3 x4 x8 = some res) (hZ : ZM D cI cZ mo ad s.heap M H locs) {ls : Array Slot} (hl : lv_has ls 10 [(0, .ref mo), (1, .int (zI x1)), (2, .int (zI x2)), (3, .int (zI x3)), (4, .int (zI x4)), (8, .int (zI x8))]) (hK : KM below D cI cZ mo ad args s Q res none) : W p l e R s m args below meth c H locs 0 0 Q (F0 m 312 ls []) := by
  unfold m_adopt_312 at hf
  have hx := C.1
  have hb := C.2.1
  have hts := C.2.2.2.2.2.2.1
  refine lv_aload_n hx hb dX5_adopt_312 rfl (lv_at hl 0 rfl) ?_
  refine lv_dup hx hb dX5_adopt_313 rfl ?_
  refine zm_geti C hZ 13 (by decide) rfl q1154 dX5_adopt_314 ?_
  refine lv_iload_n hx hb dX5_adopt_317 rfl (lv_at hl 3 rfl) ?_
  refine lv_iload_n hx hb dX5_adopt_318 rfl (lv_at hl 1 rfl) ?_
  refine zl_isub hx hb dX5_adopt_319 ?_
  refine zl_isub hx hb dX5_adopt_320 ?_
  obtain ⟨M18, eM18, hf⟩ := bnd_inv hf
  refine zm_puti C hZ 13 (by decide) rfl rfl q1154 dX5_adopt_321 (fun H locs hZ => ?_)
  rw [← eM18] at hZ
  refine lv_aload_n hx hb dX5_adopt_324 rfl (lv_at hl 0 rfl) ?_
  refine lv_iload hx hb dX5_adopt_325 (lv_at hl 5 rfl) ?_
  refine zl_iconst hx hb dX5_adopt_327 ?_
  refine zl_iadd hx hb dX5_adopt_328 ?_
  obtain ⟨M19, eM19, hf⟩ := bnd_inv hf
  refine zm_puti C hZ 20 (by decide) rfl rfl q1161 dX5_adopt_329 (fun H locs hZ => ?_)
  rw [← eM19] at hZ
  refine lv_aload_n hx hb dX5_adopt_332 rfl (lv_at hl 0 rfl) ?_
  refine lv_aload_n hx hb dX5_adopt_333 rfl (lv_at hl 0 rfl) ?_
  refine zm_geta C hZ 10 (by decide) (by decide) q1151 dX5_adopt_334 ?_
  refine lv_iload hx hb dX5_adopt_337 (lv_at hl 4 rfl) ?_
  obtain ⟨hg, hf⟩ := gd_inv hf
  refine zm_iald C hZ 10 (by decide) rfl rfl hg dX5_adopt_339 ?_
  refine zl_iconst hx hb dX5_adopt_340 ?_
  refine zl_iadd hx hb dX5_adopt_341 ?_
  obtain ⟨M20, eM20, hf⟩ := bnd_inv hf
  refine zm_puti C hZ 21 (by decide) rfl rfl q1162 dX5_adopt_342 (fun H locs hZ => ?_)
  rw [← eM20] at hZ
  refine lv_aload_n hx hb dX5_adopt_345 rfl (lv_at hl 0 rfl) ?_
  refine zm_geta C hZ 11 (by decide) (by decide) q1152 dX5_adopt_346 ?_
  refine zl_iconst hx hb dX5_adopt_349 ?_
  refine lv_aload_n hx hb dX5_adopt_350 rfl (lv_at hl 0 rfl) ?_
  refine lv_aload_n hx hb dX5_adopt_351 rfl (lv_at hl 0 rfl) ?_
  refine zm_geta C hZ 8 (by decide) (by decide) q1149 dX5_adopt_352 ?_
  refine lv_iload_n hx hb dX5_adopt_355 rfl (lv_at hl 2 rfl) ?_
  obtain ⟨hg, hf⟩ := gd_inv hf
  refine zm_iald C hZ 8 (by decide) rfl rfl hg dX5_adopt_356 ?_
  refine lv_aload_n hx hb dX5_adopt_357 rfl (lv_at hl 0 rfl) ?_
  refine zm_geta C hZ 9 (by decide) (by decide) q1150 dX5_adopt_358 ?_
  refine lv_iload_n hx hb dX5_adopt_361 rfl (lv_at hl 2 rfl) ?_
  obtain ⟨hg, hf⟩ := gd_inv hf
  refine zm_iald C hZ 9 (by decide) rfl rfl hg dX5_adopt_362 ?_
  obtain ⟨y21, ey21, hf⟩ := bd_inv hf
  refine zm_callV C hZ (n := 2) (rest := [.int (zI 0), .ref (ad 11)]) (met_create l D cI cZ mo ad ey21) (lw_V q1384 q1386 qs50 q107 q1387) rfl rfl (by decide +kernel) ⟨Nat.le_trans (by decide) hR.1, Nat.le_trans (by decide) hR.2⟩ rfl hl.1 rfl (Nat.le_of_ble_eq_true rfl) dX5_adopt_363 (fun H locs hZ => ?_)
  obtain ⟨hg, hf⟩ := gd_inv hf
  obtain ⟨M22, eM22, hf⟩ := bnd_inv hf
  refine zm_iast C hZ 11 (by decide) rfl rfl hg dX5_adopt_366 (fun H locs hZ => ?_)
  rw [← eM22] at hZ
  obtain rfl := Option.some.inj hf
  exact zm_vret C hZ hK dX5_adopt_367

theorem w_adopt_279s {p : Program} {l : Launch} {e : Env} {R : Room} {s : State} {m : MethodId} {args : Array Value} {below : List Frame} {meth : Method} {c : Code} {Q : State → Prop} {D : va_G} {cI cZ : ClassId} {mo : Nat} {ad : Nat → Nat} {H : Heap} {locs : List Loc} {M : MS} (C : MC p s m args meth c D cI cZ cX5_adopt 10 none) (hR : 4 ≤ R.frames ∧ 86 ≤ R.locals) {x1 x2 x3 x4 x8 x9 : Int} {res : (MS × Int) ⊕ (MS)} (hf : m_adopt_279s M x1 x2 x3 x4 x8 x9 = some res) (hZ : ZM D cI cZ mo ad s.heap M H locs) {ls : Array Slot} (hl : lv_has ls 10 [(0, .ref mo), (1, .int (zI x1)), (2, .int (zI x2)), (3, .int (zI x3)), (4, .int (zI x4)), (8, .int (zI x8)), (9, .int (zI x9))]) (hK : (Sum.elim (fun z => ∀ (H : Heap) (locs : List Loc) (ls : Array Slot), ZM D cI cZ mo ad s.heap z.1 H locs → lv_has ls 10 [(0, .ref mo), (1, .int (zI x1)), (2, .int (zI x2)), (3, .int (zI x3)), (4, .int (zI x4)), (8, .int (zI x8)), (9, .int (zI z.2))] → W p l e R s m args below meth c H locs 0 0 Q (F0 m 279 ls [])) (fun r => KM below D cI cZ mo ad args s Q r none)) res) : W p l e R s m args below meth c H locs 0 0 Q (F0 m 279 ls []) := by
  unfold m_adopt_279s at hf
  have hx := C.1
  have hb := C.2.1
  have hts := C.2.2.2.2.2.2.1
  refine lv_iload hx hb dX5_adopt_279 (lv_at hl 6 rfl) ?_
  refine lv_aload_n hx hb dX5_adopt_281 rfl (lv_at hl 0 rfl) ?_
  refine zm_geti C hZ 13 (by decide) rfl q1154 dX5_adopt_282 ?_
  refine zl_icmp_ge (tgt := 312) hx hb dX5_adopt_285 (by decide) (fun hc => ?_) (fun hc => ?_)
  · rw [if_pos hc] at hf
    refine lv_aload_n hx hb dX5_adopt_288 rfl (lv_at hl 0 rfl) ?_
    refine zm_geta C hZ 12 (by decide) (by decide) q1153 dX5_adopt_289 ?_
    refine lv_iload_n hx hb dX5_adopt_292 rfl (lv_at hl 1 rfl) ?_
    refine lv_iload hx hb dX5_adopt_293 (lv_at hl 6 rfl) ?_
    refine zl_iadd hx hb dX5_adopt_295 ?_
    refine lv_iload_n hx hb dX5_adopt_296 rfl (lv_at hl 3 rfl) ?_
    refine zl_isub hx hb dX5_adopt_297 ?_
    refine lv_aload_n hx hb dX5_adopt_298 rfl (lv_at hl 0 rfl) ?_
    refine zm_geta C hZ 12 (by decide) (by decide) q1153 dX5_adopt_299 ?_
    refine lv_iload hx hb dX5_adopt_302 (lv_at hl 6 rfl) ?_
    obtain ⟨hg, hf⟩ := gd_inv hf
    refine zm_iald C hZ 12 (by decide) rfl rfl hg dX5_adopt_304 ?_
    obtain ⟨hg, hf⟩ := gd_inv hf
    obtain ⟨M17, eM17, hf⟩ := bnd_inv hf
    refine zm_iast C hZ 12 (by decide) rfl rfl hg dX5_adopt_305 (fun H locs hZ => ?_)
    rw [← eM17] at hZ
    refine zl_iinc (x := x9) (n := 1) (lv' := [(9, .int (zI (x9 + 1))), (0, .ref mo), (1, .int (zI x1)), (2, .int (zI x2)), (3, .int (zI x3)), (4, .int (zI x4)), (8, .int (zI x8))]) (k := 6) hx hb dX5_adopt_306 hl rfl (by decide) rfl (fun ls hl => ?_)
    refine lv_goto (tgt := 279) hx hb dX5_adopt_309 (by decide) ?_
    obtain rfl := Option.some.inj hf
    exact hK _ _ _ hZ (lv_sub hl [1, 2, 3, 4, 5, 6, 0] rfl)
  · rw [if_neg hc] at hf
    obtain ⟨r0, hm0, rfl⟩ := mr_inv hf
    exact w_adopt_312 C hR hm0 hZ (lv_sub hl [0, 1, 2, 3, 4, 5] rfl) hK

theorem w_adopt_279 {p : Program} {l : Launch} {e : Env} {R : Room} {s : State} {m : MethodId} {args : Array Value} {below : List Frame} {meth : Method} {c : Code} {Q : State → Prop} {D : va_G} {cI cZ : ClassId} {mo : Nat} {ad : Nat → Nat} {H : Heap} {locs : List Loc} {M : MS} (C : MC p s m args meth c D cI cZ cX5_adopt 10 none) (hR : 4 ≤ R.frames ∧ 86 ≤ R.locals) {x1 x2 x3 x4 x8 x9 : Int} {res : MS} (hf : m_adopt_279 M x1 x2 x3 x4 x8 x9 = some res) (hZ : ZM D cI cZ mo ad s.heap M H locs) {ls : Array Slot} (hl : lv_has ls 10 [(0, .ref mo), (1, .int (zI x1)), (2, .int (zI x2)), (3, .int (zI x3)), (4, .int (zI x4)), (8, .int (zI x8)), (9, .int (zI x9))]) (hK : KM below D cI cZ mo ad args s Q res none) : W p l e R s m args below meth c H locs 0 0 Q (F0 m 279 ls []) := by
  unfold m_adopt_279 at hf
  refine iter_ind (P := fun z r => ∀ (H : Heap) (locs : List Loc) (ls : Array Slot), ZM D cI cZ mo ad s.heap z.1 H locs → lv_has ls 10 [(0, .ref mo), (1, .int (zI x1)), (2, .int (zI x2)), (3, .int (zI x3)), (4, .int (zI x4)), (8, .int (zI x8)), (9, .int (zI z.2))] → KM below D cI cZ mo ad args s Q r none → W p l e R s m args below meth c H locs 0 0 Q (F0 m 279 ls [])) ?_ ?_ hf H locs ls hZ hl hK
  · intro z r h1 H locs ls hZ hl hK; exact w_adopt_279s C hR h1 hZ hl hK
  · intro z z1 r h1 ih H locs ls hZ hl hK; exact w_adopt_279s C hR h1 hZ hl (fun H locs ls hZ hl => ih H locs ls hZ hl hK)

theorem w_adopt_276 {p : Program} {l : Launch} {e : Env} {R : Room} {s : State} {m : MethodId} {args : Array Value} {below : List Frame} {meth : Method} {c : Code} {Q : State → Prop} {D : va_G} {cI cZ : ClassId} {mo : Nat} {ad : Nat → Nat} {H : Heap} {locs : List Loc} {M : MS} (C : MC p s m args meth c D cI cZ cX5_adopt 10 none) (hR : 4 ≤ R.frames ∧ 86 ≤ R.locals) {x1 x2 x3 x4 x8 : Int} {res : MS} (hf : m_adopt_276 M x1 x2 x3 x4 x8 = some res) (hZ : ZM D cI cZ mo ad s.heap M H locs) {ls : Array Slot} (hl : lv_has ls 10 [(0, .ref mo), (1, .int (zI x1)), (2, .int (zI x2)), (3, .int (zI x3)), (4, .int (zI x4)), (8, .int (zI x8))]) (hK : KM below D cI cZ mo ad args s Q res none) : W p l e R s m args below meth c H locs 0 0 Q (F0 m 276 ls []) := by
  unfold m_adopt_276 at hf
  have hx := C.1
  have hb := C.2.1
  have hts := C.2.2.2.2.2.2.1
  refine lv_iload_n hx hb dX5_adopt_276 rfl (lv_at hl 3 rfl) ?_
  refine lv_istore (lv' := [(9, .int (zI x3)), (0, .ref mo), (1, .int (zI x1)), (2, .int (zI x2)), (3, .int (zI x3)), (4, .int (zI x4)), (8, .int (zI x8))]) hx hb dX5_adopt_277 hl (by decide) rfl (fun ls hl => ?_)
  exact w_adopt_279 C hR hf hZ (lv_sub hl [1, 2, 3, 4, 5, 6, 0] rfl) hK

theorem w_adopt_217s {p : Program} {l : Launch} {e : Env} {R : Room} {s : State} {m : MethodId} {args : Array Value} {below : List Frame} {meth : Method} {c : Code} {Q : State → Prop} {D : va_G} {cI cZ : ClassId} {mo : Nat} {ad : Nat → Nat} {H : Heap} {locs : List Loc} {M : MS} (C : MC p s m args meth c D cI cZ cX5_adopt 10 none) (hR : 4 ≤ R.frames ∧ 86 ≤ R.locals) {x1 x2 x3 x4 x6 x7 x8 x9 : Int} {res : (MS × Int) ⊕ (MS)} (hf : m_adopt_217s M x1 x2 x3 x4 x6 x7 x8 x9 = some res) (hZ : ZM D cI cZ mo ad s.heap M H locs) {ls : Array Slot} (hl : lv_has ls 10 [(0, .ref mo), (1, .int (zI x1)), (2, .int (zI x2)), (3, .int (zI x3)), (4, .int (zI x4)), (6, .int (zI x6)), (7, .int (zI x7)), (8, .int (zI x8)), (9, .int (zI x9))]) (hK : (Sum.elim (fun z => ∀ (H : Heap) (locs : List Loc) (ls : Array Slot), ZM D cI cZ mo ad s.heap z.1 H locs → lv_has ls 10 [(0, .ref mo), (1, .int (zI x1)), (2, .int (zI x2)), (3, .int (zI x3)), (4, .int (zI x4)), (6, .int (zI x6)), (7, .int (zI x7)), (8, .int (zI x8)), (9, .int (zI z.2))] → W p l e R s m args below meth c H locs 0 0 Q (F0 m 217 ls [])) (fun r => KM below D cI cZ mo ad args s Q r none)) res) : W p l e R s m args below meth c H locs 0 0 Q (F0 m 217 ls []) := by
  unfold m_adopt_217s at hf
  have hx := C.1
  have hb := C.2.1
  have hts := C.2.2.2.2.2.2.1
  refine lv_iload hx hb dX5_adopt_217 (lv_at hl 8 rfl) ?_
  refine lv_iload hx hb dX5_adopt_219 (lv_at hl 5 rfl) ?_
  refine zl_icmp_ge (tgt := 276) hx hb dX5_adopt_221 (by decide) (fun hc => ?_) (fun hc => ?_)
  · rw [if_pos hc] at hf
    refine lv_aload_n hx hb dX5_adopt_224 rfl (lv_at hl 0 rfl) ?_
    refine zm_geta C hZ 6 (by decide) (by decide) q1147 dX5_adopt_225 ?_
    refine lv_iload hx hb dX5_adopt_228 (lv_at hl 7 rfl) ?_
    refine lv_iload hx hb dX5_adopt_230 (lv_at hl 8 rfl) ?_
    refine zl_iadd hx hb dX5_adopt_232 ?_
    refine lv_aload_n hx hb dX5_adopt_233 rfl (lv_at hl 0 rfl) ?_
    refine zm_geta C hZ 11 (by decide) (by decide) q1152 dX5_adopt_234 ?_
    refine lv_iload hx hb dX5_adopt_237 (lv_at hl 8 rfl) ?_
    obtain ⟨hg, hf⟩ := gd_inv hf
    refine zm_iald C hZ 11 (by decide) rfl rfl hg dX5_adopt_239 ?_
    obtain ⟨hg, hf⟩ := gd_inv hf
    obtain ⟨M15, eM15, hf⟩ := bnd_inv hf
    refine zm_iast C hZ 6 (by decide) rfl rfl hg dX5_adopt_240 (fun H locs hZ => ?_)
    rw [← eM15] at hZ
    refine lv_aload_n hx hb dX5_adopt_241 rfl (lv_at hl 0 rfl) ?_
    refine zm_geta C hZ 10 (by decide) (by decide) q1151 dX5_adopt_242 ?_
    refine lv_aload_n hx hb dX5_adopt_245 rfl (lv_at hl 0 rfl) ?_
    refine zm_geta C hZ 11 (by decide) (by decide) q1152 dX5_adopt_246 ?_
    refine lv_iload hx hb dX5_adopt_249 (lv_at hl 8 rfl) ?_
    obtain ⟨hg, hf⟩ := gd_inv hf
    refine zm_iald C hZ 11 (by decide) rfl rfl hg dX5_adopt_251 ?_
    obtain ⟨y16, ey16, hf⟩ := bnd_inv hf
    refine zl_top ey16 ?_
    refine lv_dup2_11 hx hb dX5_adopt_252 rfl rfl ?_
    obtain ⟨hg, hf⟩ := gd_inv hf
    refine zm_iald C hZ 10 (by decide) rfl rfl hg dX5_adopt_253 ?_
    refine lv_iload hx hb dX5_adopt_254 (lv_at hl 8 rfl) ?_
    refine zl_if_ne (tgt := 264) hx hb dX5_adopt_256 (by decide) (fun hc => ?_) (fun hc => ?_)
    · rw [if_pos hc] at hf
      refine lv_iload hx hb dX5_adopt_259 (lv_at hl 6 rfl) ?_
      refine lv_goto (tgt := 268) hx hb dX5_adopt_261 (by decide) ?_
      exact w_adopt_268 C hR hf hZ (lv_sub hl [0, 1, 2, 3, 4, 5, 6, 7, 8] rfl) hK
    · rw [if_neg hc] at hf
      refine lv_iload hx hb dX5_adopt_264 (lv_at hl 6 rfl) ?_
      refine zl_iconst hx hb dX5_adopt_266 ?_
      refine zl_iadd hx hb dX5_adopt_267 ?_
      exact w_adopt_268 C hR hf hZ (lv_sub hl [0, 1, 2, 3, 4, 5, 6, 7, 8] rfl) hK
  · rw [if_neg hc] at hf
    obtain ⟨r0, hm0, rfl⟩ := mr_inv hf
    exact w_adopt_276 C hR hm0 hZ (lv_sub hl [0, 1, 2, 3, 4, 7] rfl) hK

theorem w_adopt_217 {p : Program} {l : Launch} {e : Env} {R : Room} {s : State} {m : MethodId} {args : Array Value} {below : List Frame} {meth : Method} {c : Code} {Q : State → Prop} {D : va_G} {cI cZ : ClassId} {mo : Nat} {ad : Nat → Nat} {H : Heap} {locs : List Loc} {M : MS} (C : MC p s m args meth c D cI cZ cX5_adopt 10 none) (hR : 4 ≤ R.frames ∧ 86 ≤ R.locals) {x1 x2 x3 x4 x6 x7 x8 x9 : Int} {res : MS} (hf : m_adopt_217 M x1 x2 x3 x4 x6 x7 x8 x9 = some res) (hZ : ZM D cI cZ mo ad s.heap M H locs) {ls : Array Slot} (hl : lv_has ls 10 [(0, .ref mo), (1, .int (zI x1)), (2, .int (zI x2)), (3, .int (zI x3)), (4, .int (zI x4)), (6, .int (zI x6)), (7, .int (zI x7)), (8, .int (zI x8)), (9, .int (zI x9))]) (hK : KM below D cI cZ mo ad args s Q res none) : W p l e R s m args below meth c H locs 0 0 Q (F0 m 217 ls []) := by
  unfold m_adopt_217 at hf
  refine iter_ind (P := fun z r => ∀ (H : Heap) (locs : List Loc) (ls : Array Slot), ZM D cI cZ mo ad s.heap z.1 H locs → lv_has ls 10 [(0, .ref mo), (1, .int (zI x1)), (2, .int (zI x2)), (3, .int (zI x3)), (4, .int (zI x4)), (6, .int (zI x6)), (7, .int (zI x7)), (8, .int (zI x8)), (9, .int (zI z.2))] → KM below D cI cZ mo ad args s Q r none → W p l e R s m args below meth c H locs 0 0 Q (F0 m 217 ls [])) ?_ ?_ hf H locs ls hZ hl hK
  · intro z r h1 H locs ls hZ hl hK; exact w_adopt_217s C hR h1 hZ hl hK
  · intro z z1 r h1 ih H locs ls hZ hl hK; exact w_adopt_217s C hR h1 hZ hl (fun H locs ls hZ hl => ih H locs ls hZ hl hK)

theorem w_adopt_203 {p : Program} {l : Launch} {e : Env} {R : Room} {s : State} {m : MethodId} {args : Array Value} {below : List Frame} {meth : Method} {c : Code} {Q : State → Prop} {D : va_G} {cI cZ : ClassId} {mo : Nat} {ad : Nat → Nat} {H : Heap} {locs : List Loc} {M : MS} (C : MC p s m args meth c D cI cZ cX5_adopt 10 none) (hR : 4 ≤ R.frames ∧ 86 ≤ R.locals) {x1 x2 x3 x4 x6 x7 x8 : Int} {res : MS} (hf : m_adopt_203 M x1 x2 x3 x4 x6 x7 x8 = some res) (hZ : ZM D cI cZ mo ad s.heap M H locs) {ls : Array Slot} (hl : lv_has ls 10 [(0, .ref mo), (1, .int (zI x1)), (2, .int (zI x2)), (3, .int (zI x3)), (4, .int (zI x4)), (6, .int (zI x6)), (7, .int (zI x7)), (8, .int (zI x8))]) (hK : KM below D cI cZ mo ad args s Q res none) : W p l e R s m args below meth c H locs 0 0 Q (F0 m 203 ls []) := by
  unfold m_adopt_203 at hf
  have hx := C.1
  have hb := C.2.1
  have hts := C.2.2.2.2.2.2.1
  refine lv_aload_n hx hb dX5_adopt_203 rfl (lv_at hl 0 rfl) ?_
  refine lv_dup hx hb dX5_adopt_204 rfl ?_
  refine zm_geti C hZ 5 (by decide) rfl q1146 dX5_adopt_205 ?_
  refine lv_iload hx hb dX5_adopt_208 (lv_at hl 5 rfl) ?_
  refine zl_iadd hx hb dX5_adopt_210 ?_
  obtain ⟨M14, eM14, hf⟩ := bnd_inv hf
  refine zm_puti C hZ 5 (by decide) rfl rfl q1146 dX5_adopt_211 (fun H locs hZ => ?_)
  rw [← eM14] at hZ
  refine zl_iconst hx hb dX5_adopt_214 ?_
  refine lv_istore (lv' := [(9, .int (zI 0)), (0, .ref mo), (1, .int (zI x1)), (2, .int (zI x2)), (3, .int (zI x3)), (4, .int (zI x4)), (6, .int (zI x6)), (7, .int (zI x7)), (8, .int (zI x8))]) hx hb dX5_adopt_215 hl (by decide) rfl (fun ls hl => ?_)
  exact w_adopt_217 C hR hf hZ (lv_sub hl [1, 2, 3, 4, 5, 6, 7, 8, 0] rfl) hK

theorem w_adopt_173s {p : Program} {l : Launch} {e : Env} {R : Room} {s : State} {m : MethodId} {args : Array Value} {below : List Frame} {meth : Method} {c : Code} {Q : State → Prop} {D : va_G} {cI cZ : ClassId} {mo : Nat} {ad : Nat → Nat} {H : Heap} {locs : List Loc} {M : MS} (C : MC p s m args meth c D cI cZ cX5_adopt 10 none) (hR : 4 ≤ R.frames ∧ 86 ≤ R.locals) {x1 x2 x3 x4 x6 x7 x8 x9 : Int} {res : (MS × Int) ⊕ (MS)} (hf : m_adopt_173s M x1 x2 x3 x4 x6 x7 x8 x9 = some res) (hZ : ZM D cI cZ mo ad s.heap M H locs) {ls : Array Slot} (hl : lv_has ls 10 [(0, .ref mo), (1, .int (zI x1)), (2, .int (zI x2)), (3, .int (zI x3)), (4, .int (zI x4)), (6, .int (zI x6)), (7, .int (zI x7)), (8, .int (zI x8)), (9, .int (zI x9))]) (hK : (Sum.elim (fun z => ∀ (H : Heap) (locs : List Loc) (ls : Array Slot), ZM D cI cZ mo ad s.heap z.1 H locs → lv_has ls 10 [(0, .ref mo), (1, .int (zI x1)), (2, .int (zI x2)), (3, .int (zI x3)), (4, .int (zI x4)), (6, .int (zI x6)), (7, .int (zI x7)), (8, .int (zI x8)), (9, .int (zI z.2))] → W p l e R s m args below meth c H locs 0 0 Q (F0 m 173 ls [])) (fun r => KM below D cI cZ mo ad args s Q r none)) res) : W p l e R s m args below meth c H locs 0 0 Q (F0 m 173 ls []) := by
  unfold m_adopt_173s at hf
  have hx := C.1
  have hb := C.2.1
  have hts := C.2.2.2.2.2.2.1
  refine lv_iload hx hb dX5_adopt_173 (lv_at hl 8 rfl) ?_
  refine lv_iload hx hb dX5_adopt_175 (lv_at hl 7 rfl) ?_
  refine zl_icmp_lt (tgt := 203) hx hb dX5_adopt_177 (by decide) (fun hc => ?_) (fun hc => ?_)
  · rw [if_pos hc] at hf
    obtain ⟨r0, hm0, rfl⟩ := mr_inv hf
    exact w_adopt_203 C hR hm0 hZ (lv_sub hl [0, 1, 2, 3, 4, 5, 6, 7] rfl) hK
  · rw [if_neg hc] at hf
    refine lv_aload_n hx hb dX5_adopt_180 rfl (lv_at hl 0 rfl) ?_
    refine zm_geta C hZ 6 (by decide) (by decide) q1147 dX5_adopt_181 ?_
    refine lv_iload hx hb dX5_adopt_184 (lv_at hl 8 rfl) ?_
    refine lv_iload hx hb dX5_adopt_186 (lv_at hl 5 rfl) ?_
    refine zl_iadd hx hb dX5_adopt_188 ?_
    refine lv_aload_n hx hb dX5_adopt_189 rfl (lv_at hl 0 rfl) ?_
    refine zm_geta C hZ 6 (by decide) (by decide) q1147 dX5_adopt_190 ?_
    refine lv_iload hx hb dX5_adopt_193 (lv_at hl 8 rfl) ?_
    obtain ⟨hg, hf⟩ := gd_inv hf
    refine zm_iald C hZ 6 (by decide) rfl rfl hg dX5_adopt_195 ?_
    obtain ⟨hg, hf⟩ := gd_inv hf
    obtain ⟨M14, eM14, hf⟩ := bnd_inv hf
    refine zm_iast C hZ 6 (by decide) rfl rfl hg dX5_adopt_196 (fun H locs hZ => ?_)
    rw [← eM14] at hZ
    refine zl_iinc (x := x9) (n := (-1)) (lv' := [(9, .int (zI (x9 + (-1)))), (0, .ref mo), (1, .int (zI x1)), (2, .int (zI x2)), (3, .int (zI x3)), (4, .int (zI x4)), (6, .int (zI x6)), (7, .int (zI x7)), (8, .int (zI x8))]) (k := 8) hx hb dX5_adopt_197 hl rfl (by decide) rfl (fun ls hl => ?_)
    refine lv_goto (tgt := 173) hx hb dX5_adopt_200 (by decide) ?_
    obtain rfl := Option.some.inj hf
    exact hK _ _ _ hZ (lv_sub hl [1, 2, 3, 4, 5, 6, 7, 8, 0] rfl)

theorem w_adopt_173 {p : Program} {l : Launch} {e : Env} {R : Room} {s : State} {m : MethodId} {args : Array Value} {below : List Frame} {meth : Method} {c : Code} {Q : State → Prop} {D : va_G} {cI cZ : ClassId} {mo : Nat} {ad : Nat → Nat} {H : Heap} {locs : List Loc} {M : MS} (C : MC p s m args meth c D cI cZ cX5_adopt 10 none) (hR : 4 ≤ R.frames ∧ 86 ≤ R.locals) {x1 x2 x3 x4 x6 x7 x8 x9 : Int} {res : MS} (hf : m_adopt_173 M x1 x2 x3 x4 x6 x7 x8 x9 = some res) (hZ : ZM D cI cZ mo ad s.heap M H locs) {ls : Array Slot} (hl : lv_has ls 10 [(0, .ref mo), (1, .int (zI x1)), (2, .int (zI x2)), (3, .int (zI x3)), (4, .int (zI x4)), (6, .int (zI x6)), (7, .int (zI x7)), (8, .int (zI x8)), (9, .int (zI x9))]) (hK : KM below D cI cZ mo ad args s Q res none) : W p l e R s m args below meth c H locs 0 0 Q (F0 m 173 ls []) := by
  unfold m_adopt_173 at hf
  refine iter_ind (P := fun z r => ∀ (H : Heap) (locs : List Loc) (ls : Array Slot), ZM D cI cZ mo ad s.heap z.1 H locs → lv_has ls 10 [(0, .ref mo), (1, .int (zI x1)), (2, .int (zI x2)), (3, .int (zI x3)), (4, .int (zI x4)), (6, .int (zI x6)), (7, .int (zI x7)), (8, .int (zI x8)), (9, .int (zI z.2))] → KM below D cI cZ mo ad args s Q r none → W p l e R s m args below meth c H locs 0 0 Q (F0 m 173 ls [])) ?_ ?_ hf H locs ls hZ hl hK
  · intro z r h1 H locs ls hZ hl hK; exact w_adopt_173s C hR h1 hZ hl hK
  · intro z z1 r h1 ih H locs ls hZ hl hK; exact w_adopt_173s C hR h1 hZ hl (fun H locs ls hZ hl => ih H locs ls hZ hl hK)

theorem w_adopt_140 {p : Program} {l : Launch} {e : Env} {R : Room} {s : State} {m : MethodId} {args : Array Value} {below : List Frame} {meth : Method} {c : Code} {Q : State → Prop} {D : va_G} {cI cZ : ClassId} {mo : Nat} {ad : Nat → Nat} {H : Heap} {locs : List Loc} {M : MS} (C : MC p s m args meth c D cI cZ cX5_adopt 10 none) (hR : 4 ≤ R.frames ∧ 86 ≤ R.locals) {x1 x2 x3 x4 x6 : Int} {res : MS} (hf : m_adopt_140 M x1 x2 x3 x4 x6 = some res) (hZ : ZM D cI cZ mo ad s.heap M H locs) {ls : Array Slot} (hl : lv_has ls 10 [(0, .ref mo), (1, .int (zI x1)), (2, .int (zI x2)), (3, .int (zI x3)), (4, .int (zI x4)), (6, .int (zI x6))]) (hK : KM below D cI cZ mo ad args s Q res none) : W p l e R s m args below meth c H locs 0 0 Q (F0 m 140 ls []) := by
  unfold m_adopt_140 at hf
  have hx := C.1
  have hb := C.2.1
  have hts := C.2.2.2.2.2.2.1
  refine lv_aload_n hx hb dX5_adopt_140 rfl (lv_at hl 0 rfl) ?_
  refine lv_iload_n hx hb dX5_adopt_141 rfl (lv_at hl 1 rfl) ?_
  obtain ⟨y10, ey10, hf⟩ := bd_inv hf
  refine zm_callV C hZ (n := 1) (rest := []) (met_findPlace l D cI cZ mo ad ey10) (lw_V q1404 q1406 qs55 q107 q1407) rfl rfl (by decide +kernel) ⟨Nat.le_trans (by decide) hR.1, Nat.le_trans (by decide) hR.2⟩ rfl hl.1 rfl (Nat.le_of_ble_eq_true rfl) dX5_adopt_142 (fun H locs hZ => ?_)
  refine lv_aload_n hx hb dX5_adopt_145 rfl (lv_at hl 0 rfl) ?_
  refine zm_geti C hZ 21 (by decide) rfl q1162 dX5_adopt_146 ?_
  refine lv_aload_n hx hb dX5_adopt_149 rfl (lv_at hl 0 rfl) ?_
  refine zm_geta C hZ 10 (by decide) (by decide) q1151 dX5_adopt_150 ?_
  refine lv_iload hx hb dX5_adopt_153 (lv_at hl 4 rfl) ?_
  obtain ⟨hg, hf⟩ := gd_inv hf
  refine zm_iald C hZ 10 (by decide) rfl rfl hg dX5_adopt_155 ?_
  refine zl_isub hx hb dX5_adopt_156 ?_
  obtain ⟨y11, ey11, hf⟩ := bnd_inv hf
  refine zl_top ey11 ?_
  refine lv_istore (lv' := [(7, .int (zI y11)), (0, .ref mo), (1, .int (zI x1)), (2, .int (zI x2)), (3, .int (zI x3)), (4, .int (zI x4)), (6, .int (zI x6))]) hx hb dX5_adopt_157 hl (by decide) rfl (fun ls hl => ?_)
  refine lv_aload_n hx hb dX5_adopt_159 rfl (lv_at hl 1 rfl) ?_
  refine zm_geti C hZ 20 (by decide) rfl q1161 dX5_adopt_160 ?_
  obtain ⟨y12, ey12, hf⟩ := bnd_inv hf
  refine zl_top ey12 ?_
  refine lv_istore (lv' := [(8, .int (zI y12)), (7, .int (zI y11)), (0, .ref mo), (1, .int (zI x1)), (2, .int (zI x2)), (3, .int (zI x3)), (4, .int (zI x4)), (6, .int (zI x6))]) hx hb dX5_adopt_163 hl (by decide) rfl (fun ls hl => ?_)
  refine lv_aload_n hx hb dX5_adopt_165 rfl (lv_at hl 2 rfl) ?_
  refine zm_geti C hZ 5 (by decide) rfl q1146 dX5_adopt_166 ?_
  refine zl_iconst hx hb dX5_adopt_169 ?_
  refine zl_isub hx hb dX5_adopt_170 ?_
  obtain ⟨y13, ey13, hf⟩ := bnd_inv hf
  refine zl_top ey13 ?_
  refine lv_istore (lv' := [(9, .int (zI y13)), (8, .int (zI y12)), (7, .int (zI y11)), (0, .ref mo), (1, .int (zI x1)), (2, .int (zI x2)), (3, .int (zI x3)), (4, .int (zI x4)), (6, .int (zI x6))]) hx hb dX5_adopt_171 hl (by decide) rfl (fun ls hl => ?_)
  exact w_adopt_173 C hR hf hZ (lv_sub hl [3, 4, 5, 6, 7, 8, 2, 1, 0] rfl) hK

theorem w_adopt_108s {p : Program} {l : Launch} {e : Env} {R : Room} {s : State} {m : MethodId} {args : Array Value} {below : List Frame} {meth : Method} {c : Code} {Q : State → Prop} {D : va_G} {cI cZ : ClassId} {mo : Nat} {ad : Nat → Nat} {H : Heap} {locs : List Loc} {M : MS} (C : MC p s m args meth c D cI cZ cX5_adopt 10 none) (hR : 4 ≤ R.frames ∧ 86 ≤ R.locals) {x1 x2 x3 x4 x6 x7 : Int} {res : (MS × Int) ⊕ (MS)} (hf : m_adopt_108s M x1 x2 x3 x4 x6 x7 = some res) (hZ : ZM D cI cZ mo ad s.heap M H locs) {ls : Array Slot} (hl : lv_has ls 10 [(0, .ref mo), (1, .int (zI x1)), (2, .int (zI x2)), (3, .int (zI x3)), (4, .int (zI x4)), (6, .int (zI x6)), (7, .int (zI x7))]) (hK : (Sum.elim (fun z => ∀ (H : Heap) (locs : List Loc) (ls : Array Slot), ZM D cI cZ mo ad s.heap z.1 H locs → lv_has ls 10 [(0, .ref mo), (1, .int (zI x1)), (2, .int (zI x2)), (3, .int (zI x3)), (4, .int (zI x4)), (6, .int (zI x6)), (7, .int (zI z.2))] → W p l e R s m args below meth c H locs 0 0 Q (F0 m 108 ls [])) (fun r => KM below D cI cZ mo ad args s Q r none)) res) : W p l e R s m args below meth c H locs 0 0 Q (F0 m 108 ls []) := by
  unfold m_adopt_108s at hf
  have hx := C.1
  have hb := C.2.1
  have hts := C.2.2.2.2.2.2.1
  refine lv_iload hx hb dX5_adopt_108 (lv_at hl 6 rfl) ?_
  refine lv_aload_n hx hb dX5_adopt_110 rfl (lv_at hl 0 rfl) ?_
  refine zm_geti C hZ 5 (by decide) rfl q1146 dX5_adopt_111 ?_
  refine zl_icmp_ge (tgt := 140) hx hb dX5_adopt_114 (by decide) (fun hc => ?_) (fun hc => ?_)
  · rw [if_pos hc] at hf
    refine lv_aload_n hx hb dX5_adopt_117 rfl (lv_at hl 0 rfl) ?_
    refine zm_geta C hZ 6 (by decide) (by decide) q1147 dX5_adopt_118 ?_
    refine lv_iload hx hb dX5_adopt_121 (lv_at hl 6 rfl) ?_
    refine lv_aload_n hx hb dX5_adopt_123 rfl (lv_at hl 0 rfl) ?_
    refine zm_geta C hZ 6 (by decide) (by decide) q1147 dX5_adopt_124 ?_
    refine lv_iload hx hb dX5_adopt_127 (lv_at hl 6 rfl) ?_
    refine lv_iload hx hb dX5_adopt_129 (lv_at hl 5 rfl) ?_
    refine zl_iadd hx hb dX5_adopt_131 ?_
    obtain ⟨hg, hf⟩ := gd_inv hf
    refine zm_iald C hZ 6 (by decide) rfl rfl hg dX5_adopt_132 ?_
    obtain ⟨hg, hf⟩ := gd_inv hf
    obtain ⟨M9, eM9, hf⟩ := bnd_inv hf
    refine zm_iast C hZ 6 (by decide) rfl rfl hg dX5_adopt_133 (fun H locs hZ => ?_)
    rw [← eM9] at hZ
    refine zl_iinc (x := x7) (n := 1) (lv' := [(7, .int (zI (x7 + 1))), (0, .ref mo), (1, .int (zI x1)), (2, .int (zI x2)), (3, .int (zI x3)), (4, .int (zI x4)), (6, .int (zI x6))]) (k := 6) hx hb dX5_adopt_134 hl rfl (by decide) rfl (fun ls hl => ?_)
    refine lv_goto (tgt := 108) hx hb dX5_adopt_137 (by decide) ?_
    obtain rfl := Option.some.inj hf
    exact hK _ _ _ hZ (lv_sub hl [1, 2, 3, 4, 5, 6, 0] rfl)
  · rw [if_neg hc] at hf
    obtain ⟨r0, hm0, rfl⟩ := mr_inv hf
    exact w_adopt_140 C hR hm0 hZ (lv_sub hl [0, 1, 2, 3, 4, 5] rfl) hK

theorem w_adopt_108 {p : Program} {l : Launch} {e : Env} {R : Room} {s : State} {m : MethodId} {args : Array Value} {below : List Frame} {meth : Method} {c : Code} {Q : State → Prop} {D : va_G} {cI cZ : ClassId} {mo : Nat} {ad : Nat → Nat} {H : Heap} {locs : List Loc} {M : MS} (C : MC p s m args meth c D cI cZ cX5_adopt 10 none) (hR : 4 ≤ R.frames ∧ 86 ≤ R.locals) {x1 x2 x3 x4 x6 x7 : Int} {res : MS} (hf : m_adopt_108 M x1 x2 x3 x4 x6 x7 = some res) (hZ : ZM D cI cZ mo ad s.heap M H locs) {ls : Array Slot} (hl : lv_has ls 10 [(0, .ref mo), (1, .int (zI x1)), (2, .int (zI x2)), (3, .int (zI x3)), (4, .int (zI x4)), (6, .int (zI x6)), (7, .int (zI x7))]) (hK : KM below D cI cZ mo ad args s Q res none) : W p l e R s m args below meth c H locs 0 0 Q (F0 m 108 ls []) := by
  unfold m_adopt_108 at hf
  refine iter_ind (P := fun z r => ∀ (H : Heap) (locs : List Loc) (ls : Array Slot), ZM D cI cZ mo ad s.heap z.1 H locs → lv_has ls 10 [(0, .ref mo), (1, .int (zI x1)), (2, .int (zI x2)), (3, .int (zI x3)), (4, .int (zI x4)), (6, .int (zI x6)), (7, .int (zI z.2))] → KM below D cI cZ mo ad args s Q r none → W p l e R s m args below meth c H locs 0 0 Q (F0 m 108 ls [])) ?_ ?_ hf H locs ls hZ hl hK
  · intro z r h1 H locs ls hZ hl hK; exact w_adopt_108s C hR h1 hZ hl hK
  · intro z z1 r h1 ih H locs ls hZ hl hK; exact w_adopt_108s C hR h1 hZ hl (fun H locs ls hZ hl => ih H locs ls hZ hl hK)

theorem w_adopt_93 {p : Program} {l : Launch} {e : Env} {R : Room} {s : State} {m : MethodId} {args : Array Value} {below : List Frame} {meth : Method} {c : Code} {Q : State → Prop} {D : va_G} {cI cZ : ClassId} {mo : Nat} {ad : Nat → Nat} {H : Heap} {locs : List Loc} {M : MS} (C : MC p s m args meth c D cI cZ cX5_adopt 10 none) (hR : 4 ≤ R.frames ∧ 86 ≤ R.locals) {x1 x2 x3 x4 x5 x6 : Int} {res : MS} (hf : m_adopt_93 M x1 x2 x3 x4 x5 x6 = some res) (hZ : ZM D cI cZ mo ad s.heap M H locs) {ls : Array Slot} (hl : lv_has ls 10 [(0, .ref mo), (1, .int (zI x1)), (2, .int (zI x2)), (3, .int (zI x3)), (4, .int (zI x4)), (5, .int (zI x5)), (6, .int (zI x6))]) (hK : KM below D cI cZ mo ad args s Q res none) : W p l e R s m args below meth c H locs 0 0 Q (F0 m 93 ls []) := by
  unfold m_adopt_93 at hf
  have hx := C.1
  have hb := C.2.1
  have hts := C.2.2.2.2.2.2.1
  refine lv_aload_n hx hb dX5_adopt_93 rfl (lv_at hl 0 rfl) ?_
  refine lv_dup hx hb dX5_adopt_94 rfl ?_
  refine zm_geti C hZ 5 (by decide) rfl q1146 dX5_adopt_95 ?_
  refine lv_iload hx hb dX5_adopt_98 (lv_at hl 6 rfl) ?_
  refine zl_isub hx hb dX5_adopt_100 ?_
  obtain ⟨M8, eM8, hf⟩ := bnd_inv hf
  refine zm_puti C hZ 5 (by decide) rfl rfl q1146 dX5_adopt_101 (fun H locs hZ => ?_)
  rw [← eM8] at hZ
  refine lv_iload hx hb dX5_adopt_104 (lv_at hl 5 rfl) ?_
  refine lv_istore (lv' := [(7, .int (zI x5)), (0, .ref mo), (1, .int (zI x1)), (2, .int (zI x2)), (3, .int (zI x3)), (4, .int (zI x4)), (5, .int (zI x5)), (6, .int (zI x6))]) hx hb dX5_adopt_106 hl (by decide) rfl (fun ls hl => ?_)
  exact w_adopt_108 C hR hf hZ (lv_sub hl [1, 2, 3, 4, 5, 7, 0] rfl) hK

theorem w_adopt_63s {p : Program} {l : Launch} {e : Env} {R : Room} {s : State} {m : MethodId} {args : Array Value} {below : List Frame} {meth : Method} {c : Code} {Q : State → Prop} {D : va_G} {cI cZ : ClassId} {mo : Nat} {ad : Nat → Nat} {H : Heap} {locs : List Loc} {M : MS} (C : MC p s m args meth c D cI cZ cX5_adopt 10 none) (hR : 4 ≤ R.frames ∧ 86 ≤ R.locals) {x1 x2 x3 x4 x5 x6 x7 : Int} {res : (MS × Int) ⊕ (MS)} (hf : m_adopt_63s M x1 x2 x3 x4 x5 x6 x7 = some res) (hZ : ZM D cI cZ mo ad s.heap M H locs) {ls : Array Slot} (hl : lv_has ls 10 [(0, .ref mo), (1, .int (zI x1)), (2, .int (zI x2)), (3, .int (zI x3)), (4, .int (zI x4)), (5, .int (zI x5)), (6, .int (zI x6)), (7, .int (zI x7))]) (hK : (Sum.elim (fun z => ∀ (H : Heap) (locs : List Loc) (ls : Array Slot), ZM D cI cZ mo ad s.heap z.1 H locs → lv_has ls 10 [(0, .ref mo), (1, .int (zI x1)), (2, .int (zI x2)), (3, .int (zI x3)), (4, .int (zI x4)), (5, .int (zI x5)), (6, .int (zI x6)), (7, .int (zI z.2))] → W p l e R s m args below meth c H locs 0 0 Q (F0 m 63 ls [])) (fun r => KM below D cI cZ mo ad args s Q r none)) res) : W p l e R s m args below meth c H locs 0 0 Q (F0 m 63 ls []) := by
  unfold m_adopt_63s at hf
  have hx := C.1
  have hb := C.2.1
  have hts := C.2.2.2.2.2.2.1
  refine lv_iload hx hb dX5_adopt_63 (lv_at hl 7 rfl) ?_
  refine lv_iload hx hb dX5_adopt_65 (lv_at hl 6 rfl) ?_
  refine zl_icmp_ge (tgt := 93) hx hb dX5_adopt_67 (by decide) (fun hc => ?_) (fun hc => ?_)
  · rw [if_pos hc] at hf
    refine lv_aload_n hx hb dX5_adopt_70 rfl (lv_at hl 0 rfl) ?_
    refine zm_geta C hZ 11 (by decide) (by decide) q1152 dX5_adopt_71 ?_
    refine lv_iload hx hb dX5_adopt_74 (lv_at hl 7 rfl) ?_
    refine lv_aload_n hx hb dX5_adopt_76 rfl (lv_at hl 0 rfl) ?_
    refine zm_geta C hZ 6 (by decide) (by decide) q1147 dX5_adopt_77 ?_
    refine lv_iload hx hb dX5_adopt_80 (lv_at hl 5 rfl) ?_
    refine lv_iload hx hb dX5_adopt_82 (lv_at hl 7 rfl) ?_
    refine zl_iadd hx hb dX5_adopt_84 ?_
    obtain ⟨hg, hf⟩ := gd_inv hf
    refine zm_iald C hZ 6 (by decide) rfl rfl hg dX5_adopt_85 ?_
    obtain ⟨hg, hf⟩ := gd_inv hf
    obtain ⟨M7, eM7, hf⟩ := bnd_inv hf
    refine zm_iast C hZ 11 (by decide) rfl rfl hg dX5_adopt_86 (fun H locs hZ => ?_)
    rw [← eM7] at hZ
    refine zl_iinc (x := x7) (n := 1) (lv' := [(7, .int (zI (x7 + 1))), (0, .ref mo), (1, .int (zI x1)), (2, .int (zI x2)), (3, .int (zI x3)), (4, .int (zI x4)), (5, .int (zI x5)), (6, .int (zI x6))]) (k := 7) hx hb dX5_adopt_87 hl rfl (by decide) rfl (fun ls hl => ?_)
    refine lv_goto (tgt := 63) hx hb dX5_adopt_90 (by decide) ?_
    obtain rfl := Option.some.inj hf
    exact hK _ _ _ hZ (lv_sub hl [1, 2, 3, 4, 5, 6, 7, 0] rfl)
  · rw [if_neg hc] at hf
    obtain ⟨r0, hm0, rfl⟩ := mr_inv hf
    exact w_adopt_93 C hR hm0 hZ (lv_sub hl [0, 1, 2, 3, 4, 5, 6] rfl) hK

theorem w_adopt_63 {p : Program} {l : Launch} {e : Env} {R : Room} {s : State} {m : MethodId} {args : Array Value} {below : List Frame} {meth : Method} {c : Code} {Q : State → Prop} {D : va_G} {cI cZ : ClassId} {mo : Nat} {ad : Nat → Nat} {H : Heap} {locs : List Loc} {M : MS} (C : MC p s m args meth c D cI cZ cX5_adopt 10 none) (hR : 4 ≤ R.frames ∧ 86 ≤ R.locals) {x1 x2 x3 x4 x5 x6 x7 : Int} {res : MS} (hf : m_adopt_63 M x1 x2 x3 x4 x5 x6 x7 = some res) (hZ : ZM D cI cZ mo ad s.heap M H locs) {ls : Array Slot} (hl : lv_has ls 10 [(0, .ref mo), (1, .int (zI x1)), (2, .int (zI x2)), (3, .int (zI x3)), (4, .int (zI x4)), (5, .int (zI x5)), (6, .int (zI x6)), (7, .int (zI x7))]) (hK : KM below D cI cZ mo ad args s Q res none) : W p l e R s m args below meth c H locs 0 0 Q (F0 m 63 ls []) := by
  unfold m_adopt_63 at hf
  refine iter_ind (P := fun z r => ∀ (H : Heap) (locs : List Loc) (ls : Array Slot), ZM D cI cZ mo ad s.heap z.1 H locs → lv_has ls 10 [(0, .ref mo), (1, .int (zI x1)), (2, .int (zI x2)), (3, .int (zI x3)), (4, .int (zI x4)), (5, .int (zI x5)), (6, .int (zI x6)), (7, .int (zI z.2))] → KM below D cI cZ mo ad args s Q r none → W p l e R s m args below meth c H locs 0 0 Q (F0 m 63 ls [])) ?_ ?_ hf H locs ls hZ hl hK
  · intro z r h1 H locs ls hZ hl hK; exact w_adopt_63s C hR h1 hZ hl hK
  · intro z z1 r h1 ih H locs ls hZ hl hK; exact w_adopt_63s C hR h1 hZ hl (fun H locs ls hZ hl => ih H locs ls hZ hl hK)

theorem w_adopt_33 {p : Program} {l : Launch} {e : Env} {R : Room} {s : State} {m : MethodId} {args : Array Value} {below : List Frame} {meth : Method} {c : Code} {Q : State → Prop} {D : va_G} {cI cZ : ClassId} {mo : Nat} {ad : Nat → Nat} {H : Heap} {locs : List Loc} {M : MS} (C : MC p s m args meth c D cI cZ cX5_adopt 10 none) (hR : 4 ≤ R.frames ∧ 86 ≤ R.locals) {x1 x2 x3 : Int} {res : MS} (hf : m_adopt_33 M x1 x2 x3 = some res) (hZ : ZM D cI cZ mo ad s.heap M H locs) {ls : Array Slot} (hl : lv_has ls 10 [(0, .ref mo), (1, .int (zI x1)), (2, .int (zI x2)), (3, .int (zI x3))]) (hK : KM below D cI cZ mo ad args s Q res none) : W p l e R s m args below meth c H locs 0 0 Q (F0 m 33 ls []) := by
  unfold m_adopt_33 at hf
  have hx := C.1
  have hb := C.2.1
  have hts := C.2.2.2.2.2.2.1
  refine lv_aload_n hx hb dX5_adopt_33 rfl (lv_at hl 0 rfl) ?_
  refine zm_geta C hZ 12 (by decide) (by decide) q1153 dX5_adopt_34 ?_
  refine lv_iload_n hx hb dX5_adopt_37 rfl (lv_at hl 3 rfl) ?_
  obtain ⟨hg, hf⟩ := gd_inv hf
  refine zm_iald C hZ 12 (by decide) rfl rfl hg dX5_adopt_38 ?_
  obtain ⟨y3, ey3, hf⟩ := bnd_inv hf
  refine zl_top ey3 ?_
  refine lv_istore (lv' := [(4, .int (zI y3)), (0, .ref mo), (1, .int (zI x1)), (2, .int (zI x2)), (3, .int (zI x3))]) hx hb dX5_adopt_39 hl (by decide) rfl (fun ls hl => ?_)
  refine lv_aload_n hx hb dX5_adopt_41 rfl (lv_at hl 1 rfl) ?_
  refine lv_iload hx hb dX5_adopt_42 (lv_at hl 0 rfl) ?_
  obtain ⟨y4, ey4, hf⟩ := bd_inv hf
  refine zm_callV C hZ (n := 1) (rest := []) (met_seat l D cI cZ mo ad ey4) (lw_V q1376 q1378 qs48 q107 q1379) rfl rfl (by decide +kernel) ⟨Nat.le_trans (by decide) hR.1, Nat.le_trans (by decide) hR.2⟩ rfl hl.1 rfl (Nat.le_of_ble_eq_true rfl) dX5_adopt_44 (fun H locs hZ => ?_)
  refine lv_istore (lv' := [(5, .int (zI y4)), (4, .int (zI y3)), (0, .ref mo), (1, .int (zI x1)), (2, .int (zI x2)), (3, .int (zI x3))]) hx hb dX5_adopt_47 hl (by decide) rfl (fun ls hl => ?_)
  refine lv_aload_n hx hb dX5_adopt_49 rfl (lv_at hl 2 rfl) ?_
  refine lv_iload hx hb dX5_adopt_50 (lv_at hl 0 rfl) ?_
  obtain ⟨y5, ey5, hf⟩ := bd_inv hf
  refine zm_callV C hZ (n := 1) (rest := []) (met_behind l D cI cZ mo ad ey5) (lw_V q1380 q1382 qs49 q107 q1383) rfl rfl (by decide +kernel) ⟨Nat.le_trans (by decide) hR.1, Nat.le_trans (by decide) hR.2⟩ rfl hl.1 rfl (Nat.le_of_ble_eq_true rfl) dX5_adopt_52 (fun H locs hZ => ?_)
  refine lv_iload hx hb dX5_adopt_55 (lv_at hl 0 rfl) ?_
  refine zl_isub hx hb dX5_adopt_57 ?_
  obtain ⟨y6, ey6, hf⟩ := bnd_inv hf
  refine zl_top ey6 ?_
  refine lv_istore (lv' := [(6, .int (zI y6)), (5, .int (zI y4)), (4, .int (zI y3)), (0, .ref mo), (1, .int (zI x1)), (2, .int (zI x2)), (3, .int (zI x3))]) hx hb dX5_adopt_58 hl (by decide) rfl (fun ls hl => ?_)
  refine zl_iconst hx hb dX5_adopt_60 ?_
  refine lv_istore (lv' := [(7, .int (zI 0)), (6, .int (zI y6)), (5, .int (zI y4)), (4, .int (zI y3)), (0, .ref mo), (1, .int (zI x1)), (2, .int (zI x2)), (3, .int (zI x3))]) hx hb dX5_adopt_61 hl (by decide) rfl (fun ls hl => ?_)
  exact w_adopt_63 C hR hf hZ (lv_sub hl [4, 5, 6, 7, 3, 2, 1, 0] rfl) hK

theorem w_adopt_4s {p : Program} {l : Launch} {e : Env} {R : Room} {s : State} {m : MethodId} {args : Array Value} {below : List Frame} {meth : Method} {c : Code} {Q : State → Prop} {D : va_G} {cI cZ : ClassId} {mo : Nat} {ad : Nat → Nat} {H : Heap} {locs : List Loc} {M : MS} (C : MC p s m args meth c D cI cZ cX5_adopt 10 none) (hR : 4 ≤ R.frames ∧ 86 ≤ R.locals) {x1 x2 x3 : Int} {res : (Int) ⊕ (MS)} (hf : m_adopt_4s M x1 x2 x3 = some res) (hZ : ZM D cI cZ mo ad s.heap M H locs) {ls : Array Slot} (hl : lv_has ls 10 [(0, .ref mo), (1, .int (zI x1)), (2, .int (zI x2)), (3, .int (zI x3))]) (hK : (Sum.elim (fun z => ∀ (H : Heap) (locs : List Loc) (ls : Array Slot), ZM D cI cZ mo ad s.heap M H locs → lv_has ls 10 [(0, .ref mo), (1, .int (zI x1)), (2, .int (zI x2)), (3, .int (zI z))] → W p l e R s m args below meth c H locs 0 0 Q (F0 m 4 ls [])) (fun r => KM below D cI cZ mo ad args s Q r none)) res) : W p l e R s m args below meth c H locs 0 0 Q (F0 m 4 ls []) := by
  unfold m_adopt_4s at hf
  have hx := C.1
  have hb := C.2.1
  have hts := C.2.2.2.2.2.2.1
  refine lv_iload_n hx hb dX5_adopt_4 rfl (lv_at hl 3 rfl) ?_
  refine lv_aload_n hx hb dX5_adopt_5 rfl (lv_at hl 0 rfl) ?_
  refine zm_geti C hZ 13 (by decide) rfl q1154 dX5_adopt_6 ?_
  refine zl_icmp_ge (tgt := 33) hx hb dX5_adopt_9 (by decide) (fun hc => ?_) (fun hc => ?_)
  · rw [if_pos hc] at hf
    refine lv_aload_n hx hb dX5_adopt_12 rfl (lv_at hl 0 rfl) ?_
    refine lv_aload_n hx hb dX5_adopt_13 rfl (lv_at hl 0 rfl) ?_
    refine zm_geta C hZ 12 (by decide) (by decide) q1153 dX5_adopt_14 ?_
    refine lv_iload_n hx hb dX5_adopt_17 rfl (lv_at hl 3 rfl) ?_
    obtain ⟨hg, hf⟩ := gd_inv hf
    refine zm_iald C hZ 12 (by decide) rfl rfl hg dX5_adopt_18 ?_
    refine zl_ldc (v := 1607816) hx hb C.2.2.2.2.2.1 (hts _ q1354) dX5_adopt_19 ?_
    obtain ⟨y2, ey2, hf⟩ := bd_inv hf
    refine zm_callV C hZ (n := 2) (rest := []) (met_named l D cI cZ mo ad ey2) (lw_V q1367 q1369 qs46 q107 q1370) rfl rfl (by decide +kernel) ⟨Nat.le_trans (by decide) hR.1, Nat.le_trans (by decide) hR.2⟩ rfl hl.1 rfl (Nat.le_of_ble_eq_true rfl) dX5_adopt_21 (fun H locs hZ => ?_)
    refine zl_if_ne (tgt := 33) hx hb dX5_adopt_24 (by decide) (fun hc => ?_) (fun hc => ?_)
    · rw [if_pos hc] at hf
      refine zl_iinc (x := x3) (n := 1) (lv' := [(3, .int (zI (x3 + 1))), (0, .ref mo), (1, .int (zI x1)), (2, .int (zI x2))]) (k := 3) hx hb dX5_adopt_27 hl rfl (by decide) rfl (fun ls hl => ?_)
      refine lv_goto (tgt := 4) hx hb dX5_adopt_30 (by decide) ?_
      obtain rfl := Option.some.inj hf
      exact hK _ _ _ hZ (lv_sub hl [1, 2, 3, 0] rfl)
    · rw [if_neg hc] at hf
      obtain ⟨r0, hm0, rfl⟩ := mr_inv hf
      exact w_adopt_33 C hR hm0 hZ (lv_sub hl [0, 1, 2, 3] rfl) hK
  · rw [if_neg hc] at hf
    obtain ⟨r0, hm0, rfl⟩ := mr_inv hf
    exact w_adopt_33 C hR hm0 hZ (lv_sub hl [0, 1, 2, 3] rfl) hK

theorem w_adopt_4 {p : Program} {l : Launch} {e : Env} {R : Room} {s : State} {m : MethodId} {args : Array Value} {below : List Frame} {meth : Method} {c : Code} {Q : State → Prop} {D : va_G} {cI cZ : ClassId} {mo : Nat} {ad : Nat → Nat} {H : Heap} {locs : List Loc} {M : MS} (C : MC p s m args meth c D cI cZ cX5_adopt 10 none) (hR : 4 ≤ R.frames ∧ 86 ≤ R.locals) {x1 x2 x3 : Int} {res : MS} (hf : m_adopt_4 M x1 x2 x3 = some res) (hZ : ZM D cI cZ mo ad s.heap M H locs) {ls : Array Slot} (hl : lv_has ls 10 [(0, .ref mo), (1, .int (zI x1)), (2, .int (zI x2)), (3, .int (zI x3))]) (hK : KM below D cI cZ mo ad args s Q res none) : W p l e R s m args below meth c H locs 0 0 Q (F0 m 4 ls []) := by
  unfold m_adopt_4 at hf
  refine iter_ind (P := fun z r => ∀ (H : Heap) (locs : List Loc) (ls : Array Slot), ZM D cI cZ mo ad s.heap M H locs → lv_has ls 10 [(0, .ref mo), (1, .int (zI x1)), (2, .int (zI x2)), (3, .int (zI z))] → KM below D cI cZ mo ad args s Q r none → W p l e R s m args below meth c H locs 0 0 Q (F0 m 4 ls [])) ?_ ?_ hf H locs ls hZ hl hK
  · intro z r h1 H locs ls hZ hl hK; exact w_adopt_4s C hR h1 hZ hl hK
  · intro z z1 r h1 ih H locs ls hZ hl hK; exact w_adopt_4s C hR h1 hZ hl (fun H locs ls hZ hl => ih H locs ls hZ hl hK)

theorem w_adopt {p : Program} {l : Launch} {e : Env} {R : Room} {s : State} {m : MethodId} {args : Array Value} {below : List Frame} {meth : Method} {c : Code} {Q : State → Prop} {D : va_G} {cI cZ : ClassId} {mo : Nat} {ad : Nat → Nat} {H : Heap} {locs : List Loc} {M : MS} (C : MC p s m args meth c D cI cZ cX5_adopt 10 none) (hR : 4 ≤ R.frames ∧ 86 ≤ R.locals) {x1 x2 : Int} {res : MS} (hf : m_adopt M x1 x2 = some res) (hZ : ZM D cI cZ mo ad s.heap M H locs) {ls : Array Slot} (hl : lv_has ls 10 [(0, .ref mo), (1, .int (zI x1)), (2, .int (zI x2))]) (hK : KM below D cI cZ mo ad args s Q res none) : W p l e R s m args below meth c H locs 0 0 Q (F0 m 0 ls []) := by
  unfold m_adopt at hf
  have hx := C.1
  have hb := C.2.1
  have hts := C.2.2.2.2.2.2.1
  refine lv_iload_n hx hb dX5_adopt_0 rfl (lv_at hl 1 rfl) ?_
  refine zl_iconst hx hb dX5_adopt_1 ?_
  refine zl_iadd hx hb dX5_adopt_2 ?_
  obtain ⟨y1, ey1, hf⟩ := bnd_inv hf
  refine zl_top ey1 ?_
  refine lv_istore_n (lv' := [(3, .int (zI y1)), (0, .ref mo), (1, .int (zI x1)), (2, .int (zI x2))]) hx hb dX5_adopt_3 rfl hl (by decide) rfl (fun ls hl => ?_)
  exact w_adopt_4 C hR hf hZ (lv_sub hl [1, 2, 3, 0] rfl) hK

theorem met_adopt (l : Launch) (D : va_G) (cI cZ : ClassId) (mo : Nat) (ad : Nat → Nat) {M : MS} {x1 x2 : Int} {res : MS} (hf : m_adopt M x1 x2 = some res) : Met l yX5_adopt (ws_ yX5_adopt cX5_adopt 10 none) ({ frames := 4, cells := 0, slots := 0, locals := 86 }) (PM D cI cZ mo ad M [.int (zI x1), .int (zI x2)]) (QM D cI cZ mo ad res none) 0 0 (MA mo ad) := by
  refine Met.ofW (cc := cX5_adopt) (maxL := 10) (ret := none) (by decide) rfl ?_
  intro p e s m args below meth c s₁ B hml hv
  obtain ⟨rfl, hRM, hK0⟩ := hv
  have hts := atoms_spec (ws := ws_ yX5_adopt cX5_adopt 10 none) B.pre
  have hts : ∀ w ∈ lw_all, w.before _ s = true := fun w h => hts w (List.mem_cons_of_mem _ h)
  have C : MC p s m _ meth c D cI cZ cX5_adopt 10 none := ⟨B.exec, B.bytes, B.returns, B.notSynchronized, hml, findClass_of_methodNamed B.named, hts, hK0⟩
  have hZ : ZM D cI cZ mo ad s.heap M s.heap [] := ⟨hRM, rfl, fun _ _ => rfl, fun _ h => by cases h⟩
  have hl := lv_entry ([.ref mo, .int (zI x1), .int (zI x2)]) (n := 10) (Nat.le_of_ble_eq_true rfl)
  rw [lg_entry_eq]
  generalize (lg_sl ([.ref mo, .int (zI x1), .int (zI x2)]) ++ List.replicate (10 - (lg_sl ([.ref mo, .int (zI x1), .int (zI x2)])).length) Slot.unset).toArray = ls at hl ⊢
  have hl : lv_has ls 10 [(0, .ref mo), (1, .int (zI x1)), (2, .int (zI x2))] := hl
  exact w_adopt C ⟨Nat.le_refl _, Nat.le_refl _⟩ hf hZ hl rfl

theorem w_endOther_65 {p : Program} {l : Launch} {e : Env} {R : Room} {s : State} {m : MethodId} {args : Array Value} {below : List Frame} {meth : Method} {c : Code} {Q : State → Prop} {D : va_G} {cI cZ : ClassId} {mo : Nat} {ad : Nat → Nat} {H : Heap} {locs : List Loc} {M : MS} (C : MC p s m args meth c D cI cZ cX5_endOther 6 none) (hR : 5 ≤ R.frames ∧ 115 ≤ R.locals) {x1 x3 : Int} {res : MS} (hf : m_endOther_65 M x1 x3 = some res) (hZ : ZM D cI cZ mo ad s.heap M H locs) {ls : Array Slot} (hl : lv_has ls 6 [(0, .ref mo), (1, .int (zI x1)), (3, .int (zI x3))]) (hK : KM below D cI cZ mo ad args s Q res none) : W p l e R s m args below meth c H locs 0 0 Q (F0 m 65 ls []) := by
  unfold m_endOther_65 at hf
  have hx := C.1
  have hb := C.2.1
  have hts := C.2.2.2.2.2.2.1
  refine lv_iload_n hx hb dX5_endOther_65 rfl (lv_at hl 2 rfl) ?_
  refine zl_if_ge (tgt := 90) hx hb dX5_endOther_66 (by decide) (fun hc => ?_) (fun hc => ?_)
  · rw [if_pos hc] at hf
    refine lv_aload_n hx hb dX5_endOther_69 rfl (lv_at hl 0 rfl) ?_
    refine lv_iload_n hx hb dX5_endOther_70 rfl (lv_at hl 1 rfl) ?_
    refine zl_ldcw (v := 1738892) hx hb C.2.2.2.2.2.1 (hts _ q1427) dX5_endOther_71 ?_
    obtain ⟨y3, ey3, hf⟩ := bd_inv hf
    refine zm_callV C hZ (n := 2) (rest := []) (met_reach l D cI cZ mo ad ey3) (lw_V q1359 q1361 qs44 q107 q1362) rfl rfl (by decide +kernel) ⟨Nat.le_trans (by decide) hR.1, Nat.le_trans (by decide) hR.2⟩ rfl hl.1 rfl (Nat.le_of_ble_eq_true rfl) dX5_endOther_74 (fun H locs hZ => ?_)
    refine zl_if_eq (tgt := 89) hx hb dX5_endOther_77 (by decide) (fun hc => ?_) (fun hc => ?_)
    · rw [if_pos hc] at hf
      obtain rfl := Option.some.inj hf
      exact zm_vret C hZ hK dX5_endOther_89
    · rw [if_neg hc] at hf
      refine lv_aload_n hx hb dX5_endOther_80 rfl (lv_at hl 0 rfl) ?_
      refine lv_aload_n hx hb dX5_endOther_81 rfl (lv_at hl 0 rfl) ?_
      refine lv_iload_n hx hb dX5_endOther_82 rfl (lv_at hl 1 rfl) ?_
      obtain ⟨y4, ey4, hf⟩ := bd_inv hf
      refine zm_callV C hZ (n := 1) (rest := [.ref mo]) (met_topmost l D cI cZ mo ad ey4) (lw_V q1355 q1357 qs43 q107 q1358) rfl rfl (by decide +kernel) ⟨Nat.le_trans (by decide) hR.1, Nat.le_trans (by decide) hR.2⟩ rfl hl.1 rfl (Nat.le_of_ble_eq_true rfl) dX5_endOther_83 (fun H locs hZ => ?_)
      obtain ⟨M5, eM5, hf⟩ := bnd_inv hf
      refine zm_puti C hZ 13 (by decide) rfl rfl q1154 dX5_endOther_86 (fun H locs hZ => ?_)
      rw [← eM5] at hZ
      obtain rfl := Option.some.inj hf
      exact zm_vret C hZ hK dX5_endOther_89
  · rw [if_neg hc] at hf
    refine lv_aload_n hx hb dX5_endOther_90 rfl (lv_at hl 0 rfl) ?_
    refine lv_aload_n hx hb dX5_endOther_91 rfl (lv_at hl 0 rfl) ?_
    refine zm_geta C hZ 14 (by decide) (by decide) q1155 dX5_endOther_92 ?_
    refine lv_iload_n hx hb dX5_endOther_95 rfl (lv_at hl 2 rfl) ?_
    obtain ⟨hg, hf⟩ := gd_inv hf
    refine zm_iald C hZ 14 (by decide) rfl rfl hg dX5_endOther_96 ?_
    obtain ⟨y6, ey6, hf⟩ := bd_inv hf
    refine zm_callV C hZ (n := 1) (rest := []) (met_opened l D cI cZ mo ad ey6) (lw_V q1400 q1402 qs54 q107 q1403) rfl rfl (by decide +kernel) ⟨Nat.le_trans (by decide) hR.1, Nat.le_trans (by decide) hR.2⟩ rfl hl.1 rfl (Nat.le_of_ble_eq_true rfl) dX5_endOther_97 (fun H locs hZ => ?_)
    refine lv_istore (lv' := [(4, .int (zI y6)), (0, .ref mo), (1, .int (zI x1)), (3, .int (zI x3))]) hx hb dX5_endOther_100 hl (by decide) rfl (fun ls hl => ?_)
    refine lv_iload hx hb dX5_endOther_102 (lv_at hl 0 rfl) ?_
    refine zl_if_ge (tgt := 115) hx hb dX5_endOther_104 (by decide) (fun hc => ?_) (fun hc => ?_)
    · rw [if_pos hc] at hf
      refine lv_aload_n hx hb dX5_endOther_107 rfl (lv_at hl 1 rfl) ?_
      refine lv_iload_n hx hb dX5_endOther_108 rfl (lv_at hl 3 rfl) ?_
      obtain ⟨y7, ey7, hf⟩ := bd_inv hf
      refine zm_callV C hZ (n := 1) (rest := []) (met_dropEntry l D cI cZ mo ad ey7) (lw_V q1415 q1417 qs57 q107 q1418) rfl rfl (by decide +kernel) ⟨Nat.le_trans (by decide) hR.1, Nat.le_trans (by decide) hR.2⟩ rfl hl.1 rfl (Nat.le_of_ble_eq_true rfl) dX5_endOther_109 (fun H locs hZ => ?_)
      refine lv_goto (tgt := 167) hx hb dX5_endOther_112 (by decide) ?_
      obtain rfl := Option.some.inj hf
      exact zm_vret C hZ hK dX5_endOther_167
    · rw [if_neg hc] at hf
      refine lv_aload_n hx hb dX5_endOther_115 rfl (lv_at hl 1 rfl) ?_
      refine lv_iload hx hb dX5_endOther_116 (lv_at hl 0 rfl) ?_
      refine zl_ldc (v := 524288) hx hb C.2.2.2.2.2.1 (hts _ q1408) dX5_endOther_118 ?_
      obtain ⟨y8, ey8, hf⟩ := bd_inv hf
      refine zm_callV C hZ (n := 2) (rest := []) (met_above l D cI cZ mo ad ey8) (lw_V q1363 q1365 qs45 q107 q1366) rfl rfl (by decide +kernel) ⟨Nat.le_trans (by decide) hR.1, Nat.le_trans (by decide) hR.2⟩ rfl hl.1 rfl (Nat.le_of_ble_eq_true rfl) dX5_endOther_120 (fun H locs hZ => ?_)
      refine zl_if_ne (tgt := 167) hx hb dX5_endOther_123 (by decide) (fun hc => ?_) (fun hc => ?_)
      · rw [if_pos hc] at hf
        refine lv_aload_n hx hb dX5_endOther_126 rfl (lv_at hl 1 rfl) ?_
        refine zm_geta C hZ 14 (by decide) (by decide) q1155 dX5_endOther_127 ?_
        refine lv_iload_n hx hb dX5_endOther_130 rfl (lv_at hl 3 rfl) ?_
        obtain ⟨hg, hf⟩ := gd_inv hf
        refine zm_iald C hZ 14 (by decide) rfl rfl hg dX5_endOther_131 ?_
        obtain ⟨y9, ey9, hf⟩ := bnd_inv hf
        refine zl_top ey9 ?_
        refine lv_istore (lv' := [(5, .int (zI y9)), (4, .int (zI y6)), (0, .ref mo), (1, .int (zI x1)), (3, .int (zI x3))]) hx hb dX5_endOther_132 hl (by decide) rfl (fun ls hl => ?_)
        refine lv_aload_n hx hb dX5_endOther_134 rfl (lv_at hl 2 rfl) ?_
        refine lv_iload_n hx hb dX5_endOther_135 rfl (lv_at hl 4 rfl) ?_
        obtain ⟨y10, ey10, hf⟩ := bd_inv hf
        refine zm_callV C hZ (n := 1) (rest := []) (met_dropEntry l D cI cZ mo ad ey10) (lw_V q1415 q1417 qs57 q107 q1418) rfl rfl (by decide +kernel) ⟨Nat.le_trans (by decide) hR.1, Nat.le_trans (by decide) hR.2⟩ rfl hl.1 rfl (Nat.le_of_ble_eq_true rfl) dX5_endOther_136 (fun H locs hZ => ?_)
        refine lv_aload_n hx hb dX5_endOther_139 rfl (lv_at hl 2 rfl) ?_
        refine lv_iload hx hb dX5_endOther_140 (lv_at hl 1 rfl) ?_
        refine zl_ldc (v := 1607816) hx hb C.2.2.2.2.2.1 (hts _ q1354) dX5_endOther_142 ?_
        obtain ⟨y11, ey11, hf⟩ := bd_inv hf
        refine zm_callV C hZ (n := 2) (rest := []) (met_above l D cI cZ mo ad ey11) (lw_V q1363 q1365 qs45 q107 q1366) rfl rfl (by decide +kernel) ⟨Nat.le_trans (by decide) hR.1, Nat.le_trans (by decide) hR.2⟩ rfl hl.1 rfl (Nat.le_of_ble_eq_true rfl) dX5_endOther_144 (fun H locs hZ => ?_)
        refine zl_if_eq (tgt := 161) hx hb dX5_endOther_147 (by decide) (fun hc => ?_) (fun hc => ?_)
        · rw [if_pos hc] at hf
          refine lv_aload_n hx hb dX5_endOther_161 rfl (lv_at hl 2 rfl) ?_
          refine lv_iload hx hb dX5_endOther_162 (lv_at hl 1 rfl) ?_
          obtain ⟨M12, eM12, hf⟩ := bnd_inv hf
          refine zm_puti C hZ 13 (by decide) rfl rfl q1154 dX5_endOther_164 (fun H locs hZ => ?_)
          rw [← eM12] at hZ
          obtain rfl := Option.some.inj hf
          exact zm_vret C hZ hK dX5_endOther_167
        · rw [if_neg hc] at hf
          refine lv_aload_n hx hb dX5_endOther_150 rfl (lv_at hl 2 rfl) ?_
          refine lv_iload hx hb dX5_endOther_151 (lv_at hl 1 rfl) ?_
          refine lv_iload hx hb dX5_endOther_153 (lv_at hl 0 rfl) ?_
          obtain ⟨y13, ey13, hf⟩ := bd_inv hf
          refine zm_callV C hZ (n := 2) (rest := []) (met_adopt l D cI cZ mo ad ey13) (lw_V q1428 q1430 qs60 q107 q1431) rfl rfl (by decide +kernel) ⟨Nat.le_trans (by decide) hR.1, Nat.le_trans (by decide) hR.2⟩ rfl hl.1 rfl (Nat.le_of_ble_eq_true rfl) dX5_endOther_155 (fun H locs hZ => ?_)
          refine lv_goto (tgt := 167) hx hb dX5_endOther_158 (by decide) ?_
          obtain rfl := Option.some.inj hf
          exact zm_vret C hZ hK dX5_endOther_167
      · rw [if_neg hc] at hf
        obtain rfl := Option.some.inj hf
        exact zm_vret C hZ hK dX5_endOther_167

theorem w_endOther_59 {p : Program} {l : Launch} {e : Env} {R : Room} {s : State} {m : MethodId} {args : Array Value} {below : List Frame} {meth : Method} {c : Code} {Q : State → Prop} {D : va_G} {cI cZ : ClassId} {mo : Nat} {ad : Nat → Nat} {H : Heap} {locs : List Loc} {M : MS} (C : MC p s m args meth c D cI cZ cX5_endOther 6 none) (hR : 5 ≤ R.frames ∧ 115 ≤ R.locals) {x1 x2 x3 x4 : Int} {res : (Int × Int) ⊕ (MS)} (hf : m_endOther_59 M x1 x2 x3 x4 = some res) (hZ : ZM D cI cZ mo ad s.heap M H locs) {ls : Array Slot} (hl : lv_has ls 6 [(0, .ref mo), (1, .int (zI x1)), (2, .int (zI x2)), (3, .int (zI x3)), (4, .int (zI x4))]) (hK : (Sum.elim (fun z => ∀ (H : Heap) (locs : List Loc) (ls : Array Slot), ZM D cI cZ mo ad s.heap M H locs → lv_has ls 6 [(0, .ref mo), (1, .int (zI x1)), (2, .int (zI x2)), (3, .int (zI z.1)), (4, .int (zI z.2))] → W p l e R s m args below meth c H locs 0 0 Q (F0 m 10 ls [])) (fun r => KM below D cI cZ mo ad args s Q r none)) res) : W p l e R s m args below meth c H locs 0 0 Q (F0 m 59 ls []) := by
  unfold m_endOther_59 at hf
  have hx := C.1
  have hb := C.2.1
  have hts := C.2.2.2.2.2.2.1
  refine zl_iinc (x := x4) (n := 1) (lv' := [(4, .int (zI (x4 + 1))), (0, .ref mo), (1, .int (zI x1)), (2, .int (zI x2)), (3, .int (zI x3))]) (k := 4) hx hb dX5_endOther_59 hl rfl (by decide) rfl (fun ls hl => ?_)
  refine lv_goto (tgt := 10) hx hb dX5_endOther_62 (by decide) ?_
  obtain rfl := Option.some.inj hf
  exact hK _ _ _ hZ (lv_sub hl [1, 2, 3, 4, 0] rfl)

theorem w_endOther_10s {p : Program} {l : Launch} {e : Env} {R : Room} {s : State} {m : MethodId} {args : Array Value} {below : List Frame} {meth : Method} {c : Code} {Q : State → Prop} {D : va_G} {cI cZ : ClassId} {mo : Nat} {ad : Nat → Nat} {H : Heap} {locs : List Loc} {M : MS} (C : MC p s m args meth c D cI cZ cX5_endOther 6 none) (hR : 5 ≤ R.frames ∧ 115 ≤ R.locals) {x1 x2 x3 x4 : Int} {res : (Int × Int) ⊕ (MS)} (hf : m_endOther_10s M x1 x2 x3 x4 = some res) (hZ : ZM D cI cZ mo ad s.heap M H locs) {ls : Array Slot} (hl : lv_has ls 6 [(0, .ref mo), (1, .int (zI x1)), (2, .int (zI x2)), (3, .int (zI x3)), (4, .int (zI x4))]) (hK : (Sum.elim (fun z => ∀ (H : Heap) (locs : List Loc) (ls : Array Slot), ZM D cI cZ mo ad s.heap M H locs → lv_has ls 6 [(0, .ref mo), (1, .int (zI x1)), (2, .int (zI x2)), (3, .int (zI z.1)), (4, .int (zI z.2))] → W p l e R s m args below meth c H locs 0 0 Q (F0 m 10 ls [])) (fun r => KM below D cI cZ mo ad args s Q r none)) res) : W p l e R s m args below meth c H locs 0 0 Q (F0 m 10 ls []) := by
  unfold m_endOther_10s at hf
  have hx := C.1
  have hb := C.2.1
  have hts := C.2.2.2.2.2.2.1
  refine lv_iload hx hb dX5_endOther_10 (lv_at hl 4 rfl) ?_
  refine lv_aload_n hx hb dX5_endOther_12 rfl (lv_at hl 0 rfl) ?_
  refine zm_geti C hZ 16 (by decide) rfl q1157 dX5_endOther_13 ?_
  refine zl_icmp_ge (tgt := 65) hx hb dX5_endOther_16 (by decide) (fun hc => ?_) (fun hc => ?_)
  · rw [if_pos hc] at hf
    refine lv_iload_n hx hb dX5_endOther_19 rfl (lv_at hl 1 rfl) ?_
    obtain ⟨y2, ey2, hf⟩ := bd_inv hf
    refine zm_callS C (n := 1) (rest := []) (met_bit l ey2) (lw_S q1351 q1352 q107 q1353) rfl rfl (by decide +kernel) ⟨Nat.le_trans (by decide) hR.1, Nat.le_trans (by decide) hR.2⟩ rfl hl.1 rfl (Nat.le_of_ble_eq_true rfl) dX5_endOther_20 (Nat.zero_le _) (Nat.zero_le _) ?_
    refine zl_ldc (v := 262402) hx hb C.2.2.2.2.2.1 (hts _ q1410) dX5_endOther_23 ?_
    refine zl_iand hx hb dX5_endOther_25 ?_
    refine zl_if_eq (tgt := 65) hx hb dX5_endOther_26 (by decide) (fun hc => ?_) (fun hc => ?_)
    · rw [if_pos hc] at hf
      obtain ⟨r0, hm0, rfl⟩ := mr_inv hf
      exact w_endOther_65 C hR hm0 hZ (lv_sub hl [0, 1, 3] rfl) hK
    · rw [if_neg hc] at hf
      refine lv_aload_n hx hb dX5_endOther_29 rfl (lv_at hl 0 rfl) ?_
      refine zm_geta C hZ 15 (by decide) (by decide) q1156 dX5_endOther_30 ?_
      refine lv_iload hx hb dX5_endOther_33 (lv_at hl 4 rfl) ?_
      obtain ⟨hg, hf⟩ := gd_inv hf
      refine zm_iald C hZ 15 (by decide) rfl rfl hg dX5_endOther_35 ?_
      refine lv_iload_n hx hb dX5_endOther_36 rfl (lv_at hl 2 rfl) ?_
      refine zl_icmp_ne (tgt := 59) hx hb dX5_endOther_37 (by decide) (fun hc => ?_) (fun hc => ?_)
      · rw [if_pos hc] at hf
        refine lv_aload_n hx hb dX5_endOther_40 rfl (lv_at hl 0 rfl) ?_
        refine zm_geta C hZ 8 (by decide) (by decide) q1149 dX5_endOther_41 ?_
        refine lv_aload_n hx hb dX5_endOther_44 rfl (lv_at hl 0 rfl) ?_
        refine zm_geta C hZ 14 (by decide) (by decide) q1155 dX5_endOther_45 ?_
        refine lv_iload hx hb dX5_endOther_48 (lv_at hl 4 rfl) ?_
        obtain ⟨hg, hf⟩ := gd_inv hf
        refine zm_iald C hZ 14 (by decide) rfl rfl hg dX5_endOther_50 ?_
        obtain ⟨hg, hf⟩ := gd_inv hf
        refine zm_iald C hZ 8 (by decide) rfl rfl hg dX5_endOther_51 ?_
        refine lv_iload_n hx hb dX5_endOther_52 rfl (lv_at hl 1 rfl) ?_
        refine zl_icmp_ne (tgt := 59) hx hb dX5_endOther_53 (by decide) (fun hc => ?_) (fun hc => ?_)
        · rw [if_pos hc] at hf
          refine lv_iload hx hb dX5_endOther_56 (lv_at hl 4 rfl) ?_
          refine lv_istore_n (lv' := [(3, .int (zI x4)), (0, .ref mo), (1, .int (zI x1)), (2, .int (zI x2)), (4, .int (zI x4))]) hx hb dX5_endOther_58 rfl hl (by decide) rfl (fun ls hl => ?_)
          exact w_endOther_59 C hR hf hZ (lv_sub hl [1, 2, 3, 0, 4] rfl) hK
        · rw [if_neg hc] at hf
          exact w_endOther_59 C hR hf hZ (lv_sub hl [0, 1, 2, 3, 4] rfl) hK
      · rw [if_neg hc] at hf
        exact w_endOther_59 C hR hf hZ (lv_sub hl [0, 1, 2, 3, 4] rfl) hK
  · rw [if_neg hc] at hf
    obtain ⟨r0, hm0, rfl⟩ := mr_inv hf
    exact w_endOther_65 C hR hm0 hZ (lv_sub hl [0, 1, 3] rfl) hK

theorem w_endOther_10 {p : Program} {l : Launch} {e : Env} {R : Room} {s : State} {m : MethodId} {args : Array Value} {below : List Frame} {meth : Method} {c : Code} {Q : State → Prop} {D : va_G} {cI cZ : ClassId} {mo : Nat} {ad : Nat → Nat} {H : Heap} {locs : List Loc} {M : MS} (C : MC p s m args meth c D cI cZ cX5_endOther 6 none) (hR : 5 ≤ R.frames ∧ 115 ≤ R.locals) {x1 x2 x3 x4 : Int} {res : MS} (hf : m_endOther_10 M x1 x2 x3 x4 = some res) (hZ : ZM D cI cZ mo ad s.heap M H locs) {ls : Array Slot} (hl : lv_has ls 6 [(0, .ref mo), (1, .int (zI x1)), (2, .int (zI x2)), (3, .int (zI x3)), (4, .int (zI x4))]) (hK : KM below D cI cZ mo ad args s Q res none) : W p l e R s m args below meth c H locs 0 0 Q (F0 m 10 ls []) := by
  unfold m_endOther_10 at hf
  refine iter_ind (P := fun z r => ∀ (H : Heap) (locs : List Loc) (ls : Array Slot), ZM D cI cZ mo ad s.heap M H locs → lv_has ls 6 [(0, .ref mo), (1, .int (zI x1)), (2, .int (zI x2)), (3, .int (zI z.1)), (4, .int (zI z.2))] → KM below D cI cZ mo ad args s Q r none → W p l e R s m args below meth c H locs 0 0 Q (F0 m 10 ls [])) ?_ ?_ hf H locs ls hZ hl hK
  · intro z r h1 H locs ls hZ hl hK; exact w_endOther_10s C hR h1 hZ hl hK
  · intro z z1 r h1 ih H locs ls hZ hl hK; exact w_endOther_10s C hR h1 hZ hl (fun H locs ls hZ hl => ih H locs ls hZ hl hK)

theorem w_endOther {p : Program} {l : Launch} {e : Env} {R : Room} {s : State} {m : MethodId} {args : Array Value} {below : List Frame} {meth : Method} {c : Code} {Q : State → Prop} {D : va_G} {cI cZ : ClassId} {mo : Nat} {ad : Nat → Nat} {H : Heap} {locs : List Loc} {M : MS} (C : MC p s m args meth c D cI cZ cX5_endOther 6 none) (hR : 5 ≤ R.frames ∧ 115 ≤ R.locals) {x1 : Int} {res : MS} (hf : m_endOther M x1 = some res) (hZ : ZM D cI cZ mo ad s.heap M H locs) {ls : Array Slot} (hl : lv_has ls 6 [(0, .ref mo), (1, .int (zI x1))]) (hK : KM below D cI cZ mo ad args s Q res none) : W p l e R s m args below meth c H locs 0 0 Q (F0 m 0 ls []) := by
  unfold m_endOther at hf
  have hx := C.1
  have hb := C.2.1
  have hts := C.2.2.2.2.2.2.1
  refine lv_aload_n hx hb dX5_endOther_0 rfl (lv_at hl 0 rfl) ?_
  obtain ⟨y1, ey1, hf⟩ := bd_inv hf
  refine zm_callV C hZ (n := 0) (rest := []) (met_listOwner l D cI cZ mo ad ey1) (lw_V q1396 q1398 qs53 q107 q1399) rfl rfl (by decide +kernel) ⟨Nat.le_trans (by decide) hR.1, Nat.le_trans (by decide) hR.2⟩ rfl hl.1 rfl (Nat.le_of_ble_eq_true rfl) dX5_endOther_1 (fun H locs hZ => ?_)
  refine lv_istore_n (lv' := [(2, .int (zI y1)), (0, .ref mo), (1, .int (zI x1))]) hx hb dX5_endOther_4 rfl hl (by decide) rfl (fun ls hl => ?_)
  refine zl_iconst hx hb dX5_endOther_5 ?_
  refine lv_istore_n (lv' := [(3, .int (zI (-1))), (2, .int (zI y1)), (0, .ref mo), (1, .int (zI x1))]) hx hb dX5_endOther_6 rfl hl (by decide) rfl (fun ls hl => ?_)
  refine zl_iconst hx hb dX5_endOther_7 ?_
  refine lv_istore (lv' := [(4, .int (zI 0)), (3, .int (zI (-1))), (2, .int (zI y1)), (0, .ref mo), (1, .int (zI x1))]) hx hb dX5_endOther_8 hl (by decide) rfl (fun ls hl => ?_)
  exact w_endOther_10 C hR hf hZ (lv_sub hl [3, 4, 2, 1, 0] rfl) hK

theorem met_endOther (l : Launch) (D : va_G) (cI cZ : ClassId) (mo : Nat) (ad : Nat → Nat) {M : MS} {x1 : Int} {res : MS} (hf : m_endOther M x1 = some res) : Met l yX5_endOther (ws_ yX5_endOther cX5_endOther 6 none) ({ frames := 5, cells := 0, slots := 0, locals := 115 }) (PM D cI cZ mo ad M [.int (zI x1)]) (QM D cI cZ mo ad res none) 0 0 (MA mo ad) := by
  refine Met.ofW (cc := cX5_endOther) (maxL := 6) (ret := none) (by decide) rfl ?_
  intro p e s m args below meth c s₁ B hml hv
  obtain ⟨rfl, hRM, hK0⟩ := hv
  have hts := atoms_spec (ws := ws_ yX5_endOther cX5_endOther 6 none) B.pre
  have hts : ∀ w ∈ lw_all, w.before _ s = true := fun w h => hts w (List.mem_cons_of_mem _ h)
  have C : MC p s m _ meth c D cI cZ cX5_endOther 6 none := ⟨B.exec, B.bytes, B.returns, B.notSynchronized, hml, findClass_of_methodNamed B.named, hts, hK0⟩
  have hZ : ZM D cI cZ mo ad s.heap M s.heap [] := ⟨hRM, rfl, fun _ _ => rfl, fun _ h => by cases h⟩
  have hl := lv_entry ([.ref mo, .int (zI x1)]) (n := 6) (Nat.le_of_ble_eq_true rfl)
  rw [lg_entry_eq]
  generalize (lg_sl ([.ref mo, .int (zI x1)]) ++ List.replicate (6 - (lg_sl ([.ref mo, .int (zI x1)])).length) Slot.unset).toArray = ls at hl ⊢
  have hl : lv_has ls 6 [(0, .ref mo), (1, .int (zI x1))] := hl
  exact w_endOther C ⟨Nat.le_refl _, Nat.le_refl _⟩ hf hZ hl rfl

theorem w_end_67 {p : Program} {l : Launch} {e : Env} {R : Room} {s : State} {m : MethodId} {args : Array Value} {below : List Frame} {meth : Method} {c : Code} {Q : State → Prop} {D : va_G} {cI cZ : ClassId} {mo : Nat} {ad : Nat → Nat} {H : Heap} {locs : List Loc} {M : MS} (C : MC p s m args meth c D cI cZ cX5_end 3 none) (hR : 6 ≤ R.frames ∧ 140 ≤ R.locals) {x1 : Int} {res : MS} (hf : m_end_67 M x1 = some res) (hZ : ZM D cI cZ mo ad s.heap M H locs) {ls : Array Slot} (hl : lv_has ls 3 [(0, .ref mo), (1, .int (zI x1))]) (hK : KM below D cI cZ mo ad args s Q res none) : W p l e R s m args below meth c H locs 0 0 Q (F0 m 67 ls []) := by
  unfold m_end_67 at hf
  have hx := C.1
  have hb := C.2.1
  have hts := C.2.2.2.2.2.2.1
  refine lv_aload_n hx hb dX5_end_67 rfl (lv_at hl 0 rfl) ?_
  refine lv_iload_n hx hb dX5_end_68 rfl (lv_at hl 1 rfl) ?_
  refine zl_iconst hx hb dX5_end_69 ?_
  obtain ⟨y7, ey7, hf⟩ := bd_inv hf
  refine zm_callV C hZ (n := 2) (rest := []) (met_reach l D cI cZ mo ad ey7) (lw_V q1359 q1361 qs44 q107 q1362) rfl rfl (by decide +kernel) ⟨Nat.le_trans (by decide) hR.1, Nat.le_trans (by decide) hR.2⟩ rfl hl.1 rfl (Nat.le_of_ble_eq_true rfl) dX5_end_70 (fun H locs hZ => ?_)
  refine zl_if_eq (tgt := 233) hx hb dX5_end_73 (by decide) (fun hc => ?_) (fun hc => ?_)
  · rw [if_pos hc] at hf
    obtain rfl := Option.some.inj hf
    exact zm_vret C hZ hK dX5_end_233
  · rw [if_neg hc] at hf
    refine lv_aload_n hx hb dX5_end_76 rfl (lv_at hl 0 rfl) ?_
    refine lv_aload_n hx hb dX5_end_77 rfl (lv_at hl 0 rfl) ?_
    refine lv_iload_n hx hb dX5_end_78 rfl (lv_at hl 1 rfl) ?_
    obtain ⟨y8, ey8, hf⟩ := bd_inv hf
    refine zm_callV C hZ (n := 1) (rest := [.ref mo]) (met_topmost l D cI cZ mo ad ey8) (lw_V q1355 q1357 qs43 q107 q1358) rfl rfl (by decide +kernel) ⟨Nat.le_trans (by decide) hR.1, Nat.le_trans (by decide) hR.2⟩ rfl hl.1 rfl (Nat.le_of_ble_eq_true rfl) dX5_end_79 (fun H locs hZ => ?_)
    obtain ⟨M9, eM9, hf⟩ := bnd_inv hf
    refine zm_puti C hZ 13 (by decide) rfl rfl q1154 dX5_end_82 (fun H locs hZ => ?_)
    rw [← eM9] at hZ
    refine lv_goto (tgt := 233) hx hb dX5_end_85 (by decide) ?_
    obtain rfl := Option.some.inj hf
    exact zm_vret C hZ hK dX5_end_233

theorem w_end {p : Program} {l : Launch} {e : Env} {R : Room} {s : State} {m : MethodId} {args : Array Value} {below : List Frame} {meth : Method} {c : Code} {Q : State → Prop} {D : va_G} {cI cZ : ClassId} {mo : Nat} {ad : Nat → Nat} {H : Heap} {locs : List Loc} {M : MS} (C : MC p s m args meth c D cI cZ cX5_end 3 none) (hR : 6 ≤ R.frames ∧ 140 ≤ R.locals) {x1 : Int} {res : MS} (hf : m_end M x1 = some res) (hZ : ZM D cI cZ mo ad s.heap M H locs) {ls : Array Slot} (hl : lv_has ls 3 [(0, .ref mo), (1, .int (zI x1))]) (hK : KM below D cI cZ mo ad args s Q res none) : W p l e R s m args below meth c H locs 0 0 Q (F0 m 0 ls []) := by
  unfold m_end at hf
  have hx := C.1
  have hb := C.2.1
  have hts := C.2.2.2.2.2.2.1
  refine lv_iload_n hx hb dX5_end_0 rfl (lv_at hl 1 rfl) ?_
  refine zl_bipush hx hb dX5_end_1 (by decide) ?_
  refine zl_icmp_ne (tgt := 55) hx hb dX5_end_3 (by decide) (fun hc => ?_) (fun hc => ?_)
  · rw [if_pos hc] at hf
    refine lv_aload_n hx hb dX5_end_6 rfl (lv_at hl 0 rfl) ?_
    refine zl_bipush hx hb dX5_end_7 (by decide) ?_
    refine zl_iconst hx hb dX5_end_9 ?_
    obtain ⟨y1, ey1, hf⟩ := bd_inv hf
    refine zm_callV C hZ (n := 2) (rest := []) (met_reach l D cI cZ mo ad ey1) (lw_V q1359 q1361 qs44 q107 q1362) rfl rfl (by decide +kernel) ⟨Nat.le_trans (by decide) hR.1, Nat.le_trans (by decide) hR.2⟩ rfl hl.1 rfl (Nat.le_of_ble_eq_true rfl) dX5_end_10 (fun H locs hZ => ?_)
    refine zl_if_eq (tgt := 29) hx hb dX5_end_13 (by decide) (fun hc => ?_) (fun hc => ?_)
    · rw [if_pos hc] at hf
      refine lv_aload_n hx hb dX5_end_29 rfl (lv_at hl 0 rfl) ?_
      refine lv_aload_n hx hb dX5_end_30 rfl (lv_at hl 0 rfl) ?_
      refine zm_geti C hZ 13 (by decide) rfl q1154 dX5_end_31 ?_
      obtain ⟨y2, ey2, hf⟩ := bd_inv hf
      refine zm_callV C hZ (n := 1) (rest := []) (met_findPlace l D cI cZ mo ad ey2) (lw_V q1404 q1406 qs55 q107 q1407) rfl rfl (by decide +kernel) ⟨Nat.le_trans (by decide) hR.1, Nat.le_trans (by decide) hR.2⟩ rfl hl.1 rfl (Nat.le_of_ble_eq_true rfl) dX5_end_34 (fun H locs hZ => ?_)
      refine lv_aload_n hx hb dX5_end_37 rfl (lv_at hl 0 rfl) ?_
      refine zl_bipush hx hb dX5_end_38 (by decide) ?_
      refine zl_iconst hx hb dX5_end_40 ?_
      obtain ⟨y3, ey3, hf⟩ := bd_inv hf
      refine zm_callV C hZ (n := 2) (rest := []) (met_create l D cI cZ mo ad ey3) (lw_V q1384 q1386 qs50 q107 q1387) rfl rfl (by decide +kernel) ⟨Nat.le_trans (by decide) hR.1, Nat.le_trans (by decide) hR.2⟩ rfl hl.1 rfl (Nat.le_of_ble_eq_true rfl) dX5_end_41 (fun H locs hZ => ?_)
      refine lv_istore_n (lv' := [(2, .int (zI y3.2)), (0, .ref mo), (1, .int (zI x1))]) hx hb dX5_end_44 rfl hl (by decide) rfl (fun ls hl => ?_)
      refine lv_aload_n hx hb dX5_end_45 rfl (lv_at hl 1 rfl) ?_
      refine zm_geta C hZ 11 (by decide) (by decide) q1152 dX5_end_46 ?_
      refine zl_iconst hx hb dX5_end_49 ?_
      refine lv_iload_n hx hb dX5_end_50 rfl (lv_at hl 0 rfl) ?_
      obtain ⟨hg, hf⟩ := gd_inv hf
      obtain ⟨M4, eM4, hf⟩ := bnd_inv hf
      refine zm_iast C hZ 11 (by decide) rfl rfl hg dX5_end_51 (fun H locs hZ => ?_)
      rw [← eM4] at hZ
      refine lv_goto (tgt := 233) hx hb dX5_end_52 (by decide) ?_
      obtain rfl := Option.some.inj hf
      exact zm_vret C hZ hK dX5_end_233
    · rw [if_neg hc] at hf
      refine lv_aload_n hx hb dX5_end_16 rfl (lv_at hl 0 rfl) ?_
      refine lv_aload_n hx hb dX5_end_17 rfl (lv_at hl 0 rfl) ?_
      refine zl_bipush hx hb dX5_end_18 (by decide) ?_
      obtain ⟨y5, ey5, hf⟩ := bd_inv hf
      refine zm_callV C hZ (n := 1) (rest := [.ref mo]) (met_topmost l D cI cZ mo ad ey5) (lw_V q1355 q1357 qs43 q107 q1358) rfl rfl (by decide +kernel) ⟨Nat.le_trans (by decide) hR.1, Nat.le_trans (by decide) hR.2⟩ rfl hl.1 rfl (Nat.le_of_ble_eq_true rfl) dX5_end_20 (fun H locs hZ => ?_)
      obtain ⟨M6, eM6, hf⟩ := bnd_inv hf
      refine zm_puti C hZ 13 (by decide) rfl rfl q1154 dX5_end_23 (fun H locs hZ => ?_)
      rw [← eM6] at hZ
      refine lv_goto (tgt := 233) hx hb dX5_end_26 (by decide) ?_
      obtain rfl := Option.some.inj hf
      exact zm_vret C hZ hK dX5_end_233
  · rw [if_neg hc] at hf
    refine lv_iload_n hx hb dX5_end_55 rfl (lv_at hl 1 rfl) ?_
    refine zl_bipush hx hb dX5_end_56 (by decide) ?_
    refine zl_icmp_eq (tgt := 67) hx hb dX5_end_58 (by decide) (fun hc => ?_) (fun hc => ?_)
    · rw [if_pos hc] at hf
      exact w_end_67 C hR hf hZ (lv_sub hl [0, 1] rfl) hK
    · rw [if_neg hc] at hf
      refine lv_iload_n hx hb dX5_end_61 rfl (lv_at hl 1 rfl) ?_
      refine zl_bipush hx hb dX5_end_62 (by decide) ?_
      refine zl_icmp_ne (tgt := 88) hx hb dX5_end_64 (by decide) (fun hc => ?_) (fun hc => ?_)
      · rw [if_pos hc] at hf
        exact w_end_67 C hR hf hZ (lv_sub hl [0, 1] rfl) hK
      · rw [if_neg hc] at hf
        refine lv_iload_n hx hb dX5_end_88 rfl (lv_at hl 1 rfl) ?_
        refine zl_bipush hx hb dX5_end_89 (by decide) ?_
        refine zl_icmp_ne (tgt := 118) hx hb dX5_end_91 (by decide) (fun hc => ?_) (fun hc => ?_)
        · rw [if_pos hc] at hf
          refine lv_aload_n hx hb dX5_end_94 rfl (lv_at hl 0 rfl) ?_
          refine zl_bipush hx hb dX5_end_95 (by decide) ?_
          refine zl_ldc (v := 1048580) hx hb C.2.2.2.2.2.1 (hts _ q1371) dX5_end_97 ?_
          obtain ⟨y7, ey7, hf⟩ := bd_inv hf
          refine zm_callV C hZ (n := 2) (rest := []) (met_reach l D cI cZ mo ad ey7) (lw_V q1359 q1361 qs44 q107 q1362) rfl rfl (by decide +kernel) ⟨Nat.le_trans (by decide) hR.1, Nat.le_trans (by decide) hR.2⟩ rfl hl.1 rfl (Nat.le_of_ble_eq_true rfl) dX5_end_99 (fun H locs hZ => ?_)
          refine zl_if_eq (tgt := 233) hx hb dX5_end_102 (by decide) (fun hc => ?_) (fun hc => ?_)
          · rw [if_pos hc] at hf
            obtain rfl := Option.some.inj hf
            exact zm_vret C hZ hK dX5_end_233
          · rw [if_neg hc] at hf
            refine lv_aload_n hx hb dX5_end_105 rfl (lv_at hl 0 rfl) ?_
            refine lv_aload_n hx hb dX5_end_106 rfl (lv_at hl 0 rfl) ?_
            refine zl_bipush hx hb dX5_end_107 (by decide) ?_
            obtain ⟨y8, ey8, hf⟩ := bd_inv hf
            refine zm_callV C hZ (n := 1) (rest := [.ref mo]) (met_topmost l D cI cZ mo ad ey8) (lw_V q1355 q1357 qs43 q107 q1358) rfl rfl (by decide +kernel) ⟨Nat.le_trans (by decide) hR.1, Nat.le_trans (by decide) hR.2⟩ rfl hl.1 rfl (Nat.le_of_ble_eq_true rfl) dX5_end_109 (fun H locs hZ => ?_)
            obtain ⟨M9, eM9, hf⟩ := bnd_inv hf
            refine zm_puti C hZ 13 (by decide) rfl rfl q1154 dX5_end_112 (fun H locs hZ => ?_)
            rw [← eM9] at hZ
            refine lv_goto (tgt := 233) hx hb dX5_end_115 (by decide) ?_
            obtain rfl := Option.some.inj hf
            exact zm_vret C hZ hK dX5_end_233
        · rw [if_neg hc] at hf
          refine lv_iload_n hx hb dX5_end_118 rfl (lv_at hl 1 rfl) ?_
          refine zl_bipush hx hb dX5_end_119 (by decide) ?_
          refine zl_icmp_ne (tgt := 146) hx hb dX5_end_121 (by decide) (fun hc => ?_) (fun hc => ?_)
          · rw [if_pos hc] at hf
            refine lv_aload_n hx hb dX5_end_124 rfl (lv_at hl 0 rfl) ?_
            refine zl_bipush hx hb dX5_end_125 (by decide) ?_
            obtain ⟨y10, ey10, hf⟩ := bd_inv hf
            refine zm_callV C hZ (n := 1) (rest := []) (met_topmost l D cI cZ mo ad ey10) (lw_V q1355 q1357 qs43 q107 q1358) rfl rfl (by decide +kernel) ⟨Nat.le_trans (by decide) hR.1, Nat.le_trans (by decide) hR.2⟩ rfl hl.1 rfl (Nat.le_of_ble_eq_true rfl) dX5_end_127 (fun H locs hZ => ?_)
            refine zl_if_lt (tgt := 233) hx hb dX5_end_130 (by decide) (fun hc => ?_) (fun hc => ?_)
            · rw [if_pos hc] at hf
              obtain rfl := Option.some.inj hf
              exact zm_vret C hZ hK dX5_end_233
            · rw [if_neg hc] at hf
              refine lv_aload_n hx hb dX5_end_133 rfl (lv_at hl 0 rfl) ?_
              refine lv_aload_n hx hb dX5_end_134 rfl (lv_at hl 0 rfl) ?_
              refine zl_bipush hx hb dX5_end_135 (by decide) ?_
              obtain ⟨y11, ey11, hf⟩ := bd_inv hf
              refine zm_callV C hZ (n := 1) (rest := [.ref mo]) (met_topmost l D cI cZ mo ad ey11) (lw_V q1355 q1357 qs43 q107 q1358) rfl rfl (by decide +kernel) ⟨Nat.le_trans (by decide) hR.1, Nat.le_trans (by decide) hR.2⟩ rfl hl.1 rfl (Nat.le_of_ble_eq_true rfl) dX5_end_137 (fun H locs hZ => ?_)
              obtain ⟨M12, eM12, hf⟩ := bnd_inv hf
              refine zm_puti C hZ 13 (by decide) rfl rfl q1154 dX5_end_140 (fun H locs hZ => ?_)
              rw [← eM12] at hZ
              refine lv_goto (tgt := 233) hx hb dX5_end_143 (by decide) ?_
              obtain rfl := Option.some.inj hf
              exact zm_vret C hZ hK dX5_end_233
          · rw [if_neg hc] at hf
            refine lv_iload_n hx hb dX5_end_146 rfl (lv_at hl 1 rfl) ?_
            refine zl_bipush hx hb dX5_end_147 (by decide) ?_
            refine zl_icmp_ne (tgt := 186) hx hb dX5_end_149 (by decide) (fun hc => ?_) (fun hc => ?_)
            · rw [if_pos hc] at hf
              refine lv_aload_n hx hb dX5_end_152 rfl (lv_at hl 0 rfl) ?_
              refine zl_bipush hx hb dX5_end_153 (by decide) ?_
              obtain ⟨y13, ey13, hf⟩ := bd_inv hf
              refine zm_callV C hZ (n := 1) (rest := []) (met_topmost l D cI cZ mo ad ey13) (lw_V q1355 q1357 qs43 q107 q1358) rfl rfl (by decide +kernel) ⟨Nat.le_trans (by decide) hR.1, Nat.le_trans (by decide) hR.2⟩ rfl hl.1 rfl (Nat.le_of_ble_eq_true rfl) dX5_end_155 (fun H locs hZ => ?_)
              refine lv_istore_n (lv' := [(2, .int (zI y13)), (0, .ref mo), (1, .int (zI x1))]) hx hb dX5_end_158 rfl hl (by decide) rfl (fun ls hl => ?_)
              refine lv_iload_n hx hb dX5_end_159 rfl (lv_at hl 0 rfl) ?_
              refine lv_aload_n hx hb dX5_end_160 rfl (lv_at hl 1 rfl) ?_
              refine zl_bipush hx hb dX5_end_161 (by decide) ?_
              obtain ⟨y14, ey14, hf⟩ := bd_inv hf
              refine zm_callV C hZ (n := 1) (rest := [.int (zI y13)]) (met_topmost l D cI cZ mo ad ey14) (lw_V q1355 q1357 qs43 q107 q1358) rfl rfl (by decide +kernel) ⟨Nat.le_trans (by decide) hR.1, Nat.le_trans (by decide) hR.2⟩ rfl hl.1 rfl (Nat.le_of_ble_eq_true rfl) dX5_end_163 (fun H locs hZ => ?_)
              refine zl_icmp_le (tgt := 183) hx hb dX5_end_166 (by decide) (fun hc => ?_) (fun hc => ?_)
              · rw [if_pos hc] at hf
                refine lv_aload_n hx hb dX5_end_169 rfl (lv_at hl 1 rfl) ?_
                refine zl_bipush hx hb dX5_end_170 (by decide) ?_
                obtain ⟨y15, ey15, hf⟩ := bd_inv hf
                refine zm_callV C hZ (n := 1) (rest := []) (met_topmost l D cI cZ mo ad ey15) (lw_V q1355 q1357 qs43 q107 q1358) rfl rfl (by decide +kernel) ⟨Nat.le_trans (by decide) hR.1, Nat.le_trans (by decide) hR.2⟩ rfl hl.1 rfl (Nat.le_of_ble_eq_true rfl) dX5_end_172 (fun H locs hZ => ?_)
                refine zl_if_lt (tgt := 183) hx hb dX5_end_175 (by decide) (fun hc => ?_) (fun hc => ?_)
                · rw [if_pos hc] at hf
                  refine lv_goto (tgt := 233) hx hb dX5_end_183 (by decide) ?_
                  obtain rfl := Option.some.inj hf
                  exact zm_vret C hZ hK dX5_end_233
                · rw [if_neg hc] at hf
                  refine lv_aload_n hx hb dX5_end_178 rfl (lv_at hl 1 rfl) ?_
                  refine lv_iload_n hx hb dX5_end_179 rfl (lv_at hl 0 rfl) ?_
                  obtain ⟨M16, eM16, hf⟩ := bnd_inv hf
                  refine zm_puti C hZ 13 (by decide) rfl rfl q1154 dX5_end_180 (fun H locs hZ => ?_)
                  rw [← eM16] at hZ
                  refine lv_goto (tgt := 233) hx hb dX5_end_183 (by decide) ?_
                  obtain rfl := Option.some.inj hf
                  exact zm_vret C hZ hK dX5_end_233
              · rw [if_neg hc] at hf
                refine lv_goto (tgt := 233) hx hb dX5_end_183 (by decide) ?_
                obtain rfl := Option.some.inj hf
                exact zm_vret C hZ hK dX5_end_233
            · rw [if_neg hc] at hf
              refine lv_iload_n hx hb dX5_end_186 rfl (lv_at hl 1 rfl) ?_
              refine zl_bipush hx hb dX5_end_187 (by decide) ?_
              refine zl_icmp_ne (tgt := 216) hx hb dX5_end_189 (by decide) (fun hc => ?_) (fun hc => ?_)
              · rw [if_pos hc] at hf
                refine lv_aload_n hx hb dX5_end_192 rfl (lv_at hl 0 rfl) ?_
                refine zl_bipush hx hb dX5_end_193 (by decide) ?_
                refine zl_ldc (v := 524288) hx hb C.2.2.2.2.2.1 (hts _ q1408) dX5_end_195 ?_
                obtain ⟨y17, ey17, hf⟩ := bd_inv hf
                refine zm_callV C hZ (n := 2) (rest := []) (met_reach l D cI cZ mo ad ey17) (lw_V q1359 q1361 qs44 q107 q1362) rfl rfl (by decide +kernel) ⟨Nat.le_trans (by decide) hR.1, Nat.le_trans (by decide) hR.2⟩ rfl hl.1 rfl (Nat.le_of_ble_eq_true rfl) dX5_end_197 (fun H locs hZ => ?_)
                refine zl_if_eq (tgt := 233) hx hb dX5_end_200 (by decide) (fun hc => ?_) (fun hc => ?_)
                · rw [if_pos hc] at hf
                  obtain rfl := Option.some.inj hf
                  exact zm_vret C hZ hK dX5_end_233
                · rw [if_neg hc] at hf
                  refine lv_aload_n hx hb dX5_end_203 rfl (lv_at hl 0 rfl) ?_
                  refine lv_aload_n hx hb dX5_end_204 rfl (lv_at hl 0 rfl) ?_
                  refine zl_bipush hx hb dX5_end_205 (by decide) ?_
                  obtain ⟨y18, ey18, hf⟩ := bd_inv hf
                  refine zm_callV C hZ (n := 1) (rest := [.ref mo]) (met_topmost l D cI cZ mo ad ey18) (lw_V q1355 q1357 qs43 q107 q1358) rfl rfl (by decide +kernel) ⟨Nat.le_trans (by decide) hR.1, Nat.le_trans (by decide) hR.2⟩ rfl hl.1 rfl (Nat.le_of_ble_eq_true rfl) dX5_end_207 (fun H locs hZ => ?_)
                  obtain ⟨M19, eM19, hf⟩ := bnd_inv hf
                  refine zm_puti C hZ 13 (by decide) rfl rfl q1154 dX5_end_210 (fun H locs hZ => ?_)
                  rw [← eM19] at hZ
                  refine lv_goto (tgt := 233) hx hb dX5_end_213 (by decide) ?_
                  obtain rfl := Option.some.inj hf
                  exact zm_vret C hZ hK dX5_end_233
              · rw [if_neg hc] at hf
                refine lv_iload_n hx hb dX5_end_216 rfl (lv_at hl 1 rfl) ?_
                refine zl_bipush hx hb dX5_end_217 (by decide) ?_
                refine zl_icmp_eq (tgt := 233) hx hb dX5_end_219 (by decide) (fun hc => ?_) (fun hc => ?_)
                · rw [if_pos hc] at hf
                  obtain rfl := Option.some.inj hf
                  exact zm_vret C hZ hK dX5_end_233
                · rw [if_neg hc] at hf
                  refine lv_iload_n hx hb dX5_end_222 rfl (lv_at hl 1 rfl) ?_
                  refine zl_bipush hx hb dX5_end_223 (by decide) ?_
                  refine zl_icmp_eq (tgt := 233) hx hb dX5_end_225 (by decide) (fun hc => ?_) (fun hc => ?_)
                  · rw [if_pos hc] at hf
                    obtain rfl := Option.some.inj hf
                    exact zm_vret C hZ hK dX5_end_233
                  · rw [if_neg hc] at hf
                    refine lv_aload_n hx hb dX5_end_228 rfl (lv_at hl 0 rfl) ?_
                    refine lv_iload_n hx hb dX5_end_229 rfl (lv_at hl 1 rfl) ?_
                    obtain ⟨y20, ey20, hf⟩ := bd_inv hf
                    refine zm_callV C hZ (n := 1) (rest := []) (met_endOther l D cI cZ mo ad ey20) (lw_V q1423 q1425 qs59 q107 q1426) rfl rfl (by decide +kernel) ⟨Nat.le_trans (by decide) hR.1, Nat.le_trans (by decide) hR.2⟩ rfl hl.1 rfl (Nat.le_of_ble_eq_true rfl) dX5_end_230 (fun H locs hZ => ?_)
                    obtain rfl := Option.some.inj hf
                    exact zm_vret C hZ hK dX5_end_233

theorem met_end (l : Launch) (D : va_G) (cI cZ : ClassId) (mo : Nat) (ad : Nat → Nat) {M : MS} {x1 : Int} {res : MS} (hf : m_end M x1 = some res) : Met l yX5_end (ws_ yX5_end cX5_end 3 none) ({ frames := 6, cells := 0, slots := 0, locals := 140 }) (PM D cI cZ mo ad M [.int (zI x1)]) (QM D cI cZ mo ad res none) 0 0 (MA mo ad) := by
  refine Met.ofW (cc := cX5_end) (maxL := 3) (ret := none) (by decide) rfl ?_
  intro p e s m args below meth c s₁ B hml hv
  obtain ⟨rfl, hRM, hK0⟩ := hv
  have hts := atoms_spec (ws := ws_ yX5_end cX5_end 3 none) B.pre
  have hts : ∀ w ∈ lw_all, w.before _ s = true := fun w h => hts w (List.mem_cons_of_mem _ h)
  have C : MC p s m _ meth c D cI cZ cX5_end 3 none := ⟨B.exec, B.bytes, B.returns, B.notSynchronized, hml, findClass_of_methodNamed B.named, hts, hK0⟩
  have hZ : ZM D cI cZ mo ad s.heap M s.heap [] := ⟨hRM, rfl, fun _ _ => rfl, fun _ h => by cases h⟩
  have hl := lv_entry ([.ref mo, .int (zI x1)]) (n := 3) (Nat.le_of_ble_eq_true rfl)
  rw [lg_entry_eq]
  generalize (lg_sl ([.ref mo, .int (zI x1)]) ++ List.replicate (3 - (lg_sl ([.ref mo, .int (zI x1)])).length) Slot.unset).toArray = ls at hl ⊢
  have hl : lv_has ls 3 [(0, .ref mo), (1, .int (zI x1))] := hl
  exact w_end C ⟨Nat.le_refl _, Nat.le_refl _⟩ hf hZ hl rfl

theorem w_tag_107 {p : Program} {l : Launch} {e : Env} {R : Room} {s : State} {m : MethodId} {args : Array Value} {below : List Frame} {meth : Method} {c : Code} {Q : State → Prop} {D : va_G} {cI cZ : ClassId} {mo : Nat} {ad : Nat → Nat} {H : Heap} {locs : List Loc} {M : MS} (C : MC p s m args meth c D cI cZ cX5_tag 8 (some .int)) (hR : 7 ≤ R.frames ∧ 162 ≤ R.locals) {x2 x3 x4 x5 x6 x7 : Int} {res : (Int × Int) ⊕ (MS × Int)} (hf : m_tag_107 M x2 x3 x4 x5 x6 x7 = some res) (hZ : ZM D cI cZ mo ad s.heap M H locs) {ls : Array Slot} (hl : lv_has ls 8 [(0, .ref mo), (2, .int (zI x2)), (3, .int (zI x3)), (4, .int (zI x4)), (5, .int (zI x5)), (6, .int (zI x6)), (7, .int (zI x7))]) (hK : (Sum.elim (fun z => ∀ (H : Heap) (locs : List Loc) (ls : Array Slot), ZM D cI cZ mo ad s.heap M H locs → lv_has ls 8 [(0, .ref mo), (2, .int (zI x2)), (3, .int (zI x3)), (4, .int (zI x4)), (5, .int (zI x5)), (6, .int (zI z.1)), (7, .int (zI z.2))] → W p l e R s m args below meth c H locs 0 0 Q (F0 m 70 ls [])) (fun r => KM below D cI cZ mo ad args s Q r.1 (some (.int (zI r.2))))) res) : W p l e R s m args below meth c H locs 0 0 Q (F0 m 107 ls []) := by
  unfold m_tag_107 at hf
  have hx := C.1
  have hb := C.2.1
  have hts := C.2.2.2.2.2.2.1
  refine zl_iinc (x := x7) (n := 1) (lv' := [(7, .int (zI (x7 + 1))), (0, .ref mo), (2, .int (zI x2)), (3, .int (zI x3)), (4, .int (zI x4)), (5, .int (zI x5)), (6, .int (zI x6))]) (k := 6) hx hb dX5_tag_107 hl rfl (by decide) rfl (fun ls hl => ?_)
  refine lv_goto (tgt := 70) hx hb dX5_tag_110 (by decide) ?_
  obtain rfl := Option.some.inj hf
  exact hK _ _ _ hZ (lv_sub hl [1, 2, 3, 4, 5, 6, 0] rfl)

theorem w_tag_140 {p : Program} {l : Launch} {e : Env} {R : Room} {s : State} {m : MethodId} {args : Array Value} {below : List Frame} {meth : Method} {c : Code} {Q : State → Prop} {D : va_G} {cI cZ : ClassId} {mo : Nat} {ad : Nat → Nat} {H : Heap} {locs : List Loc} {M : MS} (C : MC p s m args meth c D cI cZ cX5_tag 8 (some .int)) (hR : 7 ≤ R.frames ∧ 162 ≤ R.locals) {x5 : Int} {res : MS × Int} (hf : m_tag_140 M x5 = some res) (hZ : ZM D cI cZ mo ad s.heap M H locs) {ls : Array Slot} (hl : lv_has ls 8 [(5, .int (zI x5))]) (hK : KM below D cI cZ mo ad args s Q res.1 (some (.int (zI res.2)))) : W p l e R s m args below meth c H locs 0 0 Q (F0 m 140 ls []) := by
  unfold m_tag_140 at hf
  have hx := C.1
  have hb := C.2.1
  have hts := C.2.2.2.2.2.2.1
  refine lv_iload hx hb dX5_tag_140 (lv_at hl 0 rfl) ?_
  refine zl_iconst hx hb dX5_tag_142 ?_
  refine zl_iadd hx hb dX5_tag_143 ?_
  obtain rfl := Option.some.inj hf
  exact zm_iret C hZ hK dX5_tag_144

theorem w_tag_113 {p : Program} {l : Launch} {e : Env} {R : Room} {s : State} {m : MethodId} {args : Array Value} {below : List Frame} {meth : Method} {c : Code} {Q : State → Prop} {D : va_G} {cI cZ : ClassId} {mo : Nat} {ad : Nat → Nat} {H : Heap} {locs : List Loc} {M : MS} (C : MC p s m args meth c D cI cZ cX5_tag 8 (some .int)) (hR : 7 ≤ R.frames ∧ 162 ≤ R.locals) {x2 x3 x4 x5 x6 : Int} {res : MS × Int} (hf : m_tag_113 M x2 x3 x4 x5 x6 = some res) (hZ : ZM D cI cZ mo ad s.heap M H locs) {ls : Array Slot} (hl : lv_has ls 8 [(0, .ref mo), (2, .int (zI x2)), (3, .int (zI x3)), (4, .int (zI x4)), (5, .int (zI x5)), (6, .int (zI x6))]) (hK : KM below D cI cZ mo ad args s Q res.1 (some (.int (zI res.2)))) : W p l e R s m args below meth c H locs 0 0 Q (F0 m 113 ls []) := by
  unfold m_tag_113 at hf
  have hx := C.1
  have hb := C.2.1
  have hts := C.2.2.2.2.2.2.1
  refine lv_iload_n hx hb dX5_tag_113 rfl (lv_at hl 1 rfl) ?_
  obtain ⟨y7, ey7, hf⟩ := bd_inv hf
  refine zm_callS C (n := 1) (rest := []) (met_small l ey7) (lw_S q1329 q1330 q107 q1331) rfl rfl (by decide +kernel) ⟨Nat.le_trans (by decide) hR.1, Nat.le_trans (by decide) hR.2⟩ rfl hl.1 rfl (Nat.le_of_ble_eq_true rfl) dX5_tag_114 (Nat.zero_le _) (Nat.zero_le _) ?_
  refine zl_if_eq (tgt := 130) hx hb dX5_tag_117 (by decide) (fun hc => ?_) (fun hc => ?_)
  · rw [if_pos hc] at hf
    refine lv_iload hx hb dX5_tag_130 (lv_at hl 3 rfl) ?_
    refine zl_if_eq (tgt := 140) hx hb dX5_tag_132 (by decide) (fun hc => ?_) (fun hc => ?_)
    · rw [if_pos hc] at hf
      exact w_tag_140 C hR hf hZ (lv_sub hl [4] rfl) hK
    · rw [if_neg hc] at hf
      refine lv_aload_n hx hb dX5_tag_135 rfl (lv_at hl 0 rfl) ?_
      refine lv_iload_n hx hb dX5_tag_136 rfl (lv_at hl 2 rfl) ?_
      obtain ⟨y8, ey8, hf⟩ := bd_inv hf
      refine zm_callV C hZ (n := 1) (rest := []) (met_end l D cI cZ mo ad ey8) (lw_V q1419 q1421 qs58 q107 q1422) rfl rfl (by decide +kernel) ⟨Nat.le_trans (by decide) hR.1, Nat.le_trans (by decide) hR.2⟩ rfl hl.1 rfl (Nat.le_of_ble_eq_true rfl) dX5_tag_137 (fun H locs hZ => ?_)
      exact w_tag_140 C hR hf hZ (lv_sub hl [4] rfl) hK
  · rw [if_neg hc] at hf
    refine lv_aload_n hx hb dX5_tag_120 rfl (lv_at hl 0 rfl) ?_
    refine lv_iload_n hx hb dX5_tag_121 rfl (lv_at hl 1 rfl) ?_
    refine lv_iload hx hb dX5_tag_122 (lv_at hl 5 rfl) ?_
    obtain ⟨y9, ey9, hf⟩ := bd_inv hf
    refine zm_callV C hZ (n := 2) (rest := []) (met_start l D cI cZ mo ad ey9) (lw_V q1343 q1345 qs41 q107 q1346) rfl rfl (by decide +kernel) ⟨Nat.le_trans (by decide) hR.1, Nat.le_trans (by decide) hR.2⟩ rfl hl.1 rfl (Nat.le_of_ble_eq_true rfl) dX5_tag_124 (fun H locs hZ => ?_)
    refine lv_goto (tgt := 140) hx hb dX5_tag_127 (by decide) ?_
    exact w_tag_140 C hR hf hZ (lv_sub hl [4] rfl) hK

theorem w_tag_70s {p : Program} {l : Launch} {e : Env} {R : Room} {s : State} {m : MethodId} {args : Array Value} {below : List Frame} {meth : Method} {c : Code} {Q : State → Prop} {D : va_G} {cI cZ : ClassId} {mo : Nat} {ad : Nat → Nat} {H : Heap} {locs : List Loc} {M : MS} (C : MC p s m args meth c D cI cZ cX5_tag 8 (some .int)) (hR : 7 ≤ R.frames ∧ 162 ≤ R.locals) {x2 x3 x4 x5 x6 x7 : Int} {res : (Int × Int) ⊕ (MS × Int)} (hf : m_tag_70s M x2 x3 x4 x5 x6 x7 = some res) (hZ : ZM D cI cZ mo ad s.heap M H locs) {ls : Array Slot} (hl : lv_has ls 8 [(0, .ref mo), (2, .int (zI x2)), (3, .int (zI x3)), (4, .int (zI x4)), (5, .int (zI x5)), (6, .int (zI x6)), (7, .int (zI x7))]) (hK : (Sum.elim (fun z => ∀ (H : Heap) (locs : List Loc) (ls : Array Slot), ZM D cI cZ mo ad s.heap M H locs → lv_has ls 8 [(0, .ref mo), (2, .int (zI x2)), (3, .int (zI x3)), (4, .int (zI x4)), (5, .int (zI x5)), (6, .int (zI z.1)), (7, .int (zI z.2))] → W p l e R s m args below meth c H locs 0 0 Q (F0 m 70 ls [])) (fun r => KM below D cI cZ mo ad args s Q r.1 (some (.int (zI r.2))))) res) : W p l e R s m args below meth c H locs 0 0 Q (F0 m 70 ls []) := by
  unfold m_tag_70s at hf
  have hx := C.1
  have hb := C.2.1
  have hts := C.2.2.2.2.2.2.1
  refine lv_iload hx hb dX5_tag_70 (lv_at hl 6 rfl) ?_
  refine lv_iload hx hb dX5_tag_72 (lv_at hl 4 rfl) ?_
  refine zl_icmp_ge (tgt := 113) hx hb dX5_tag_74 (by decide) (fun hc => ?_) (fun hc => ?_)
  · rw [if_pos hc] at hf
    refine lv_aload_n hx hb dX5_tag_77 rfl (lv_at hl 0 rfl) ?_
    refine zm_geta C hZ 1 (by decide) (by decide) q1142 dX5_tag_78 ?_
    refine lv_iload hx hb dX5_tag_81 (lv_at hl 6 rfl) ?_
    obtain ⟨hg, hf⟩ := gd_inv hf
    refine zm_iald C hZ 1 (by decide) rfl rfl hg dX5_tag_83 ?_
    obtain ⟨y5, ey5, hf⟩ := bd_inv hf
    refine zm_callS C (n := 1) (rest := []) (met_capital l ey5) (lw_S q1340 q1341 q107 q1342) rfl rfl (by decide +kernel) ⟨Nat.le_trans (by decide) hR.1, Nat.le_trans (by decide) hR.2⟩ rfl hl.1 rfl (Nat.le_of_ble_eq_true rfl) dX5_tag_84 (Nat.zero_le _) (Nat.zero_le _) ?_
    refine zl_if_eq (tgt := 107) hx hb dX5_tag_87 (by decide) (fun hc => ?_) (fun hc => ?_)
    · rw [if_pos hc] at hf
      exact w_tag_107 C hR hf hZ (lv_sub hl [0, 1, 2, 3, 4, 5, 6] rfl) hK
    · rw [if_neg hc] at hf
      refine lv_iload hx hb dX5_tag_90 (lv_at hl 5 rfl) ?_
      refine zl_iconst hx hb dX5_tag_92 ?_
      refine lv_aload_n hx hb dX5_tag_93 rfl (lv_at hl 0 rfl) ?_
      refine zm_geta C hZ 1 (by decide) (by decide) q1142 dX5_tag_94 ?_
      refine lv_iload hx hb dX5_tag_97 (lv_at hl 6 rfl) ?_
      obtain ⟨hg, hf⟩ := gd_inv hf
      refine zm_iald C hZ 1 (by decide) rfl rfl hg dX5_tag_99 ?_
      refine zl_bipush hx hb dX5_tag_100 (by decide) ?_
      refine zl_isub hx hb dX5_tag_102 ?_
      refine zl_ishl hx hb dX5_tag_103 ?_
      refine zl_ior hx hb dX5_tag_104 ?_
      obtain ⟨y6, ey6, hf⟩ := bnd_inv hf
      refine zl_top ey6 ?_
      refine lv_istore (lv' := [(6, .int (zI y6)), (0, .ref mo), (2, .int (zI x2)), (3, .int (zI x3)), (4, .int (zI x4)), (5, .int (zI x5)), (7, .int (zI x7))]) hx hb dX5_tag_105 hl (by decide) rfl (fun ls hl => ?_)
      exact w_tag_107 C hR hf hZ (lv_sub hl [1, 2, 3, 4, 5, 0, 6] rfl) hK
  · rw [if_neg hc] at hf
    obtain ⟨r0, hm0, rfl⟩ := mr_inv hf
    exact w_tag_113 C hR hm0 hZ (lv_sub hl [0, 1, 2, 3, 4, 5] rfl) hK

theorem w_tag_70 {p : Program} {l : Launch} {e : Env} {R : Room} {s : State} {m : MethodId} {args : Array Value} {below : List Frame} {meth : Method} {c : Code} {Q : State → Prop} {D : va_G} {cI cZ : ClassId} {mo : Nat} {ad : Nat → Nat} {H : Heap} {locs : List Loc} {M : MS} (C : MC p s m args meth c D cI cZ cX5_tag 8 (some .int)) (hR : 7 ≤ R.frames ∧ 162 ≤ R.locals) {x2 x3 x4 x5 x6 x7 : Int} {res : MS × Int} (hf : m_tag_70 M x2 x3 x4 x5 x6 x7 = some res) (hZ : ZM D cI cZ mo ad s.heap M H locs) {ls : Array Slot} (hl : lv_has ls 8 [(0, .ref mo), (2, .int (zI x2)), (3, .int (zI x3)), (4, .int (zI x4)), (5, .int (zI x5)), (6, .int (zI x6)), (7, .int (zI x7))]) (hK : KM below D cI cZ mo ad args s Q res.1 (some (.int (zI res.2)))) : W p l e R s m args below meth c H locs 0 0 Q (F0 m 70 ls []) := by
  unfold m_tag_70 at hf
  refine iter_ind (P := fun z r => ∀ (H : Heap) (locs : List Loc) (ls : Array Slot), ZM D cI cZ mo ad s.heap M H locs → lv_has ls 8 [(0, .ref mo), (2, .int (zI x2)), (3, .int (zI x3)), (4, .int (zI x4)), (5, .int (zI x5)), (6, .int (zI z.1)), (7, .int (zI z.2))] → KM below D cI cZ mo ad args s Q r.1 (some (.int (zI r.2))) → W p l e R s m args below meth c H locs 0 0 Q (F0 m 70 ls [])) ?_ ?_ hf H locs ls hZ hl hK
  · intro z r h1 H locs ls hZ hl hK; exact w_tag_70s C hR h1 hZ hl hK
  · intro z z1 r h1 ih H locs ls hZ hl hK; exact w_tag_70s C hR h1 hZ hl (fun H locs ls hZ hl => ih H locs ls hZ hl hK)

theorem w_tag_44 {p : Program} {l : Launch} {e : Env} {R : Room} {s : State} {m : MethodId} {args : Array Value} {below : List Frame} {meth : Method} {c : Code} {Q : State → Prop} {D : va_G} {cI cZ : ClassId} {mo : Nat} {ad : Nat → Nat} {H : Heap} {locs : List Loc} {M : MS} (C : MC p s m args meth c D cI cZ cX5_tag 8 (some .int)) (hR : 7 ≤ R.frames ∧ 162 ≤ R.locals) {x1 x2 x3 t0 : Int} {res : MS × Int} (hf : m_tag_44 M x1 x2 x3 t0 = some res) (hZ : ZM D cI cZ mo ad s.heap M H locs) {ls : Array Slot} (hl : lv_has ls 8 [(0, .ref mo), (1, .int (zI x1)), (2, .int (zI x2)), (3, .int (zI x3))]) (hK : KM below D cI cZ mo ad args s Q res.1 (some (.int (zI res.2)))) : W p l e R s m args below meth c H locs 0 0 Q (F0 m 44 ls [.int (zI t0)]) := by
  unfold m_tag_44 at hf
  have hx := C.1
  have hb := C.2.1
  have hts := C.2.2.2.2.2.2.1
  refine lv_istore (lv' := [(4, .int (zI t0)), (0, .ref mo), (1, .int (zI x1)), (2, .int (zI x2)), (3, .int (zI x3))]) hx hb dX5_tag_44 hl (by decide) rfl (fun ls hl => ?_)
  refine lv_aload_n hx hb dX5_tag_46 rfl (lv_at hl 1 rfl) ?_
  refine lv_iload_n hx hb dX5_tag_47 rfl (lv_at hl 2 rfl) ?_
  refine zl_iconst hx hb dX5_tag_48 ?_
  refine zl_iadd hx hb dX5_tag_49 ?_
  obtain ⟨y3, ey3, hf⟩ := bd_inv hf
  refine zm_callV C hZ (n := 1) (rest := []) (met_closed l D cI cZ mo ad ey3) (lw_V q1336 q1338 qs40 q107 q1339) rfl rfl (by decide +kernel) ⟨Nat.le_trans (by decide) hR.1, Nat.le_trans (by decide) hR.2⟩ rfl hl.1 rfl (Nat.le_of_ble_eq_true rfl) dX5_tag_50 (fun H locs hZ => ?_)
  refine lv_istore (lv' := [(5, .int (zI y3)), (4, .int (zI t0)), (0, .ref mo), (1, .int (zI x1)), (2, .int (zI x2)), (3, .int (zI x3))]) hx hb dX5_tag_53 hl (by decide) rfl (fun ls hl => ?_)
  refine lv_iload hx hb dX5_tag_55 (lv_at hl 0 rfl) ?_
  refine zl_if_ge (tgt := 62) hx hb dX5_tag_57 (by decide) (fun hc => ?_) (fun hc => ?_)
  · rw [if_pos hc] at hf
    refine zl_iconst hx hb dX5_tag_60 ?_
    obtain rfl := Option.some.inj hf
    exact zm_iret C hZ hK dX5_tag_61
  · rw [if_neg hc] at hf
    refine zl_iconst hx hb dX5_tag_62 ?_
    refine lv_istore (lv' := [(6, .int (zI 0)), (5, .int (zI y3)), (4, .int (zI t0)), (0, .ref mo), (1, .int (zI x1)), (2, .int (zI x2)), (3, .int (zI x3))]) hx hb dX5_tag_63 hl (by decide) rfl (fun ls hl => ?_)
    refine lv_iload_n hx hb dX5_tag_65 rfl (lv_at hl 4 rfl) ?_
    refine zl_iconst hx hb dX5_tag_66 ?_
    refine zl_iadd hx hb dX5_tag_67 ?_
    obtain ⟨y4, ey4, hf⟩ := bnd_inv hf
    refine zl_top ey4 ?_
    refine lv_istore (lv' := [(7, .int (zI y4)), (6, .int (zI 0)), (5, .int (zI y3)), (4, .int (zI t0)), (0, .ref mo), (1, .int (zI x1)), (2, .int (zI x2)), (3, .int (zI x3))]) hx hb dX5_tag_68 hl (by decide) rfl (fun ls hl => ?_)
    exact w_tag_70 C hR hf hZ (lv_sub hl [4, 6, 7, 3, 2, 1, 0] rfl) hK

theorem w_tag_43 {p : Program} {l : Launch} {e : Env} {R : Room} {s : State} {m : MethodId} {args : Array Value} {below : List Frame} {meth : Method} {c : Code} {Q : State → Prop} {D : va_G} {cI cZ : ClassId} {mo : Nat} {ad : Nat → Nat} {H : Heap} {locs : List Loc} {M : MS} (C : MC p s m args meth c D cI cZ cX5_tag 8 (some .int)) (hR : 7 ≤ R.frames ∧ 162 ≤ R.locals) {x1 x2 x3 : Int} {res : MS × Int} (hf : m_tag_43 M x1 x2 x3 = some res) (hZ : ZM D cI cZ mo ad s.heap M H locs) {ls : Array Slot} (hl : lv_has ls 8 [(0, .ref mo), (1, .int (zI x1)), (2, .int (zI x2)), (3, .int (zI x3))]) (hK : KM below D cI cZ mo ad args s Q res.1 (some (.int (zI res.2)))) : W p l e R s m args below meth c H locs 0 0 Q (F0 m 43 ls []) := by
  unfold m_tag_43 at hf
  have hx := C.1
  have hb := C.2.1
  have hts := C.2.2.2.2.2.2.1
  refine zl_iconst hx hb dX5_tag_43 ?_
  exact w_tag_44 C hR hf hZ (lv_sub hl [0, 1, 2, 3] rfl) hK

theorem w_tag_26 {p : Program} {l : Launch} {e : Env} {R : Room} {s : State} {m : MethodId} {args : Array Value} {below : List Frame} {meth : Method} {c : Code} {Q : State → Prop} {D : va_G} {cI cZ : ClassId} {mo : Nat} {ad : Nat → Nat} {H : Heap} {locs : List Loc} {M : MS} (C : MC p s m args meth c D cI cZ cX5_tag 8 (some .int)) (hR : 7 ≤ R.frames ∧ 162 ≤ R.locals) {x1 x2 x3 : Int} {res : MS × Int} (hf : m_tag_26 M x1 x2 x3 = some res) (hZ : ZM D cI cZ mo ad s.heap M H locs) {ls : Array Slot} (hl : lv_has ls 8 [(0, .ref mo), (1, .int (zI x1)), (2, .int (zI x2)), (3, .int (zI x3))]) (hK : KM below D cI cZ mo ad args s Q res.1 (some (.int (zI res.2)))) : W p l e R s m args below meth c H locs 0 0 Q (F0 m 26 ls []) := by
  unfold m_tag_26 at hf
  have hx := C.1
  have hb := C.2.1
  have hts := C.2.2.2.2.2.2.1
  refine lv_iload_n hx hb dX5_tag_26 rfl (lv_at hl 2 rfl) ?_
  refine zl_bipush hx hb dX5_tag_27 (by decide) ?_
  refine zl_icmp_ne (tgt := 43) hx hb dX5_tag_29 (by decide) (fun hc => ?_) (fun hc => ?_)
  · rw [if_pos hc] at hf
    refine lv_iload_n hx hb dX5_tag_32 rfl (lv_at hl 3 rfl) ?_
    obtain ⟨y2, ey2, hf⟩ := bd_inv hf
    refine zm_callS C (n := 1) (rest := []) (met_small l ey2) (lw_S q1329 q1330 q107 q1331) rfl rfl (by decide +kernel) ⟨Nat.le_trans (by decide) hR.1, Nat.le_trans (by decide) hR.2⟩ rfl hl.1 rfl (Nat.le_of_ble_eq_true rfl) dX5_tag_33 (Nat.zero_le _) (Nat.zero_le _) ?_
    refine zl_if_eq (tgt := 43) hx hb dX5_tag_36 (by decide) (fun hc => ?_) (fun hc => ?_)
    · rw [if_pos hc] at hf
      exact w_tag_43 C hR hf hZ (lv_sub hl [0, 1, 2, 3] rfl) hK
    · rw [if_neg hc] at hf
      refine zl_iconst hx hb dX5_tag_39 ?_
      refine lv_goto (tgt := 44) hx hb dX5_tag_40 (by decide) ?_
      exact w_tag_44 C hR hf hZ (lv_sub hl [0, 1, 2, 3] rfl) hK
  · rw [if_neg hc] at hf
    exact w_tag_43 C hR hf hZ (lv_sub hl [0, 1, 2, 3] rfl) hK

theorem w_tag {p : Program} {l : Launch} {e : Env} {R : Room} {s : State} {m : MethodId} {args : Array Value} {below : List Frame} {meth : Method} {c : Code} {Q : State → Prop} {D : va_G} {cI cZ : ClassId} {mo : Nat} {ad : Nat → Nat} {H : Heap} {locs : List Loc} {M : MS} (C : MC p s m args meth c D cI cZ cX5_tag 8 (some .int)) (hR : 7 ≤ R.frames ∧ 162 ≤ R.locals) {x1 x2 : Int} {res : MS × Int} (hf : m_tag M x1 x2 = some res) (hZ : ZM D cI cZ mo ad s.heap M H locs) {ls : Array Slot} (hl : lv_has ls 8 [(0, .ref mo), (1, .int (zI x1)), (2, .int (zI x2))]) (hK : KM below D cI cZ mo ad args s Q res.1 (some (.int (zI res.2)))) : W p l e R s m args below meth c H locs 0 0 Q (F0 m 0 ls []) := by
  unfold m_tag at hf
  have hx := C.1
  have hb := C.2.1
  have hts := C.2.2.2.2.2.2.1
  refine lv_aload_n hx hb dX5_tag_0 rfl (lv_at hl 0 rfl) ?_
  refine lv_iload_n hx hb dX5_tag_1 rfl (lv_at hl 1 rfl) ?_
  refine zl_iconst hx hb dX5_tag_2 ?_
  refine zl_iadd hx hb dX5_tag_3 ?_
  obtain ⟨y1, ey1, hf⟩ := bd_inv hf
  refine zm_callV C hZ (n := 1) (rest := []) (met_peek l D cI cZ mo ad ey1) (lw_V q1325 q1327 qs38 q107 q1328) rfl rfl (by decide +kernel) ⟨Nat.le_trans (by decide) hR.1, Nat.le_trans (by decide) hR.2⟩ rfl hl.1 rfl (Nat.le_of_ble_eq_true rfl) dX5_tag_4 (fun H locs hZ => ?_)
  refine lv_istore_n (lv' := [(3, .int (zI y1)), (0, .ref mo), (1, .int (zI x1)), (2, .int (zI x2))]) hx hb dX5_tag_7 rfl hl (by decide) rfl (fun ls hl => ?_)
  refine lv_iload_n hx hb dX5_tag_8 rfl (lv_at hl 3 rfl) ?_
  refine zl_iconst hx hb dX5_tag_9 ?_
  refine zl_icmp_eq (tgt := 24) hx hb dX5_tag_10 (by decide) (fun hc => ?_) (fun hc => ?_)
  · rw [if_pos hc] at hf
    refine zl_iconst hx hb dX5_tag_24 ?_
    obtain rfl := Option.some.inj hf
    exact zm_iret C hZ hK dX5_tag_25
  · rw [if_neg hc] at hf
    refine lv_iload_n hx hb dX5_tag_13 rfl (lv_at hl 3 rfl) ?_
    refine zl_bipush hx hb dX5_tag_14 (by decide) ?_
    refine zl_icmp_ne (tgt := 26) hx hb dX5_tag_16 (by decide) (fun hc => ?_) (fun hc => ?_)
    · rw [if_pos hc] at hf
      refine lv_iload_n hx hb dX5_tag_19 rfl (lv_at hl 0 rfl) ?_
      refine zl_iconst hx hb dX5_tag_20 ?_
      refine zl_icmp_ne (tgt := 26) hx hb dX5_tag_21 (by decide) (fun hc => ?_) (fun hc => ?_)
      · rw [if_pos hc] at hf
        refine zl_iconst hx hb dX5_tag_24 ?_
        obtain rfl := Option.some.inj hf
        exact zm_iret C hZ hK dX5_tag_25
      · rw [if_neg hc] at hf
        exact w_tag_26 C hR hf hZ (lv_sub hl [1, 2, 3, 0] rfl) hK
    · rw [if_neg hc] at hf
      exact w_tag_26 C hR hf hZ (lv_sub hl [1, 2, 3, 0] rfl) hK

theorem met_tag (l : Launch) (D : va_G) (cI cZ : ClassId) (mo : Nat) (ad : Nat → Nat) {M : MS} {x1 x2 : Int} {res : MS × Int} (hf : m_tag M x1 x2 = some res) : Met l yX5_tag (ws_ yX5_tag cX5_tag 8 (some .int)) ({ frames := 7, cells := 0, slots := 0, locals := 162 }) (PM D cI cZ mo ad M [.int (zI x1), .int (zI x2)]) (QM D cI cZ mo ad res.1 (some (.int (zI res.2)))) 0 0 (MA mo ad) := by
  refine Met.ofW (cc := cX5_tag) (maxL := 8) (ret := (some .int)) (by decide) rfl ?_
  intro p e s m args below meth c s₁ B hml hv
  obtain ⟨rfl, hRM, hK0⟩ := hv
  have hts := atoms_spec (ws := ws_ yX5_tag cX5_tag 8 (some .int)) B.pre
  have hts : ∀ w ∈ lw_all, w.before _ s = true := fun w h => hts w (List.mem_cons_of_mem _ h)
  have C : MC p s m _ meth c D cI cZ cX5_tag 8 (some .int) := ⟨B.exec, B.bytes, B.returns, B.notSynchronized, hml, findClass_of_methodNamed B.named, hts, hK0⟩
  have hZ : ZM D cI cZ mo ad s.heap M s.heap [] := ⟨hRM, rfl, fun _ _ => rfl, fun _ h => by cases h⟩
  have hl := lv_entry ([.ref mo, .int (zI x1), .int (zI x2)]) (n := 8) (Nat.le_of_ble_eq_true rfl)
  rw [lg_entry_eq]
  generalize (lg_sl ([.ref mo, .int (zI x1), .int (zI x2)]) ++ List.replicate (8 - (lg_sl ([.ref mo, .int (zI x1), .int (zI x2)])).length) Slot.unset).toArray = ls at hl ⊢
  have hl : lv_has ls 8 [(0, .ref mo), (1, .int (zI x1)), (2, .int (zI x2))] := hl
  exact w_tag C ⟨Nat.le_refl _, Nat.le_refl _⟩ hf hZ hl rfl

