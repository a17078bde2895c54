/-! constants: the texts, the states, the JDK's statics -/
set_option maxRecDepth 100000
theorem zx_ldcW {p : Program} {l : Launch} {e : Env} {R : Room} {s : State} {m : MethodId} {args : Array Value} {below : List Frame} {meth : Method} {c : Code} {T : State} {locs : List Loc} {cells slots : Nat}
    (X : Stand p l e R s m args below meth c T locs cells slots) (hexec : p.tables.exec = Jvm.exec) {own text : String} {index : Nat} {a : Addr} (hown : s.vm.findClass own = some m.cls)
    (hconst : (Cond.stringRef own index text).before args s = true) (hev : (Term.string own index).eval args s none [] s = some (.ref a)) {g : JFrame} (hg : g.method = m) (hdg : decode c.code g.pc = .ok (.ldc_w index, 3)) :
    ∀ target, Steps p.tables e below (T.setTop { g with pc := g.pc + 3, stack := .ref a :: g.stack }) target → Steps p.tables e below (T.setTop g) target := by
  obtain ⟨k, cf, i, a', hk, hcf, hcp, -, hr, hev'⟩ := Cond.stringRef_spec hown hconst
  cases hev.symm.trans hev'
  obtain ⟨k', hk', he⟩ := X.warmed.alike.2.2 _ _ hk
  have hr' : k'.resolved[index]? = some (some (.string a)) := by
    rcases X.warmed.entry hk hk' index with h | ⟨h, -⟩
    · rw [h]; exact hr
    · rw [hr] at h; cases h
  intro target hrest
  subst hg
  jvm_step X.here [hexec, hdg, ldc_w.wp_string (e := e) (s := T) (f := g) X.here.top hk' (by rw [he]; exact hcf) hcp hr']
  exact hrest
section ZCN
variable {p : Program} {l : Launch} {e : Env} {R : Room} {s : State} {m : MethodId} {args : Array Value} {below : List Frame} {meth : Method} {c : Code} {H : Heap} {locs : List Loc} {Q : State → Prop}
variable {cc : ByteArray} {pc : Nat} {ls : Array Slot} {rest : List Value} {E : PEw} {own : String} {nL : Nat} {ret : Option FieldType} {nm : String} {Rp : HP → Heap → Prop} {vis new : Nat → Prop} {h0 h h1 : HP} {cells slots : Nat}
theorem zc_str (C : PC E p s m args meth c own cc nL ret nm) (n : Nat) (hn : n < 11) {index : Nat} (e1 : (sOw n).1 = own) (e2 : (sOw n).2.1 = index) (hdg : decode cc pc = .ok (.ldc index, 2)) (kk : W p l e R s m args below meth c H locs cells slots Q (F0 m (pc + 2) ls (.ref (sK E n) :: rest))) : W p l e R s m args below meth c H locs cells slots Q (F0 m pc ls rest) := by
  subst e1 e2
  exact va_ldcS C.1 C.2.1 C.ow (C.env.2.2.2.2.2.2.2.2.2.2 n hn).1 hdg kk
theorem zc_strW (C : PC E p s m args meth c own cc nL ret nm) (n : Nat) (hn : n < 11) {index : Nat} (e1 : (sOw n).1 = own) (e2 : (sOw n).2.1 = index) (hdg : decode cc pc = .ok (.ldc_w index, 3)) (kk : W p l e R s m args below meth c H locs cells slots Q (F0 m (pc + 3) ls (.ref (sK E n) :: rest))) : W p l e R s m args below meth c H locs cells slots Q (F0 m pc ls rest) := by
  subst e1 e2
  intro T hT X
  obtain ⟨t, a1, b1⟩ := kk T hT X
  have hZ := (C.env.2.2.2.2.2.2.2.2.2.2 n hn).1
  exact ⟨t, zx_ldcW X C.1 C.ow (text := (sOw n).2.2) (a := sK E n) hZ.1 hZ.2 (g := F0 m pc ls rest) rfl (by rw [C.2.1]; exact hdg) t a1, b1⟩
theorem zc_state (C : PC E p s m args meth c own cc nL ret nm) (hz : ZG Rp E s h0 h H locs) {n index : Nat} {o : Int} (hn : n < 8) (lk : lkF own index "PlainPage$State" (stNm.getD n "") "LPlainPage$State;" args s) (ho : o.toNat = n) (hdg : decode cc pc = .ok (.getstatic index, 3)) (kk : W p l e R s m args below meth c H locs cells slots Q (F0 m (pc + 3) ls (.ref (eK E o) :: rest))) : W p l e R s m args below meth c H locs cells slots Q (F0 m pc ls rest) := by
  have hZ := (C.env.2.2.2.2.2.2.2.1.1 n hn).1
  unfold eK at kk
  rw [ho] at kk
  rcases lk with lk | ⟨host, lk⟩
  · exact va_gets C.1 C.2.1 hZ hz.2.1 C.ow lk (fun _ q => q) hdg kk
  · exact va_getsN C.1 C.2.1 hZ hz.2.1 C.ow lk (fun _ q => q) hdg kk
theorem zc_compact (C : PC E p s m args meth c own cc nL ret nm) (hz : ZG Rp E s h0 h H locs) {index : Nat} (q1 : Cond.fieldLink own index "java/lang/String" "COMPACT_STRINGS" "Z" ∈ lw_all) (hdg : decode cc pc = .ok (.getstatic index, 3)) (kk : W p l e R s m args below meth c H locs cells slots Q (F0 m (pc + 3) ls (.int (zI 1) :: rest))) : W p l e R s m args below meth c H locs cells slots Q (F0 m pc ls rest) := va_gets C.1 C.2.1 C.env.2.2.2.2.1 hz.2.1 C.ow (C.w q1) (fun _ q => q) hdg kk
theorem zc_default (G : GoodR Rp E vis new) (C : PC E p s m args meth c own cc nL ret nm) (hz : ZG Rp E s h0 h H locs) {index : Nat} (q1 : Cond.fieldLink own index "java/util/ArrayList" "DEFAULTCAPACITY_EMPTY_ELEMENTDATA" "[Ljava/lang/Object;" ∈ lw_all) (hdg : decode cc pc = .ok (.getstatic index, 3)) (kk : W p l e R s m args below meth c H locs cells slots Q (F0 m (pc + 3) ls (.ref (pD h) :: rest))) : W p l e R s m args below meth c H locs cells slots Q (F0 m pc ls rest) := va_gets C.1 C.2.1 C.env.2.2.1 hz.2.1 C.ow (C.w q1) (fun _ q => q) hdg (by rw [← (G.2.2.1 h H hz.1).2.2.2.1]; exact kk)
theorem zc_fmt (C : PC E p s m args meth c own cc nL ret nm) (hz : ZG Rp E s h0 h H locs) {index : Nat} (q1 : Cond.fieldLink own index "jdk/internal/util/Preconditions" "SIOOBE_FORMATTER" "Ljava/util/function/BiFunction;" ∈ lw_all) (hdg : decode cc pc = .ok (.getstatic index, 3)) (kk : W p l e R s m args below meth c H locs cells slots Q (F0 m (pc + 3) ls (eV E :: rest))) : W p l e R s m args below meth c H locs cells slots Q (F0 m pc ls rest) := va_gets C.1 C.2.1 C.env.2.2.2.2.2.2.1 hz.2.1 C.ow (C.w q1) (fun _ q => q) hdg kk
theorem zc_ldcM (G : GoodR Rp E vis new) (C : PC E p s m args meth c own cc nL ret nm) (hz : ZG Rp E s h0 h H locs) {index : Nat} (q1 : Cond.classLink own index "[Ljava/lang/Object;" ∈ lw_all) (hdg : decode cc pc = .ok (.ldc index, 2)) (kk : W p l e R s m args below meth c H locs cells slots Q (F0 m (pc + 2) ls (.ref (pM h) :: rest))) : W p l e R s m args below meth c H locs cells slots Q (F0 m pc ls rest) := va_ldcM C.1 C.2.1 C.ow (C.w q1) C.env.2.2.2.2.2.1 hdg (by rw [← (G.2.2.1 h H hz.1).2.2.2.2]; exact kk)
theorem zc_getf (C : PC E p s m args meth c own cc nL ret nm) (hz : ZG Rp E s h0 h H locs) {index t : Nat} {o n d : String} {v : Value} (hZ : va_OF o n d v t (eF E) s s.heap) (hl : (Cond.fieldLink own index o n d).before args s = true) (hdg : decode cc pc = .ok (.getfield index, 3)) (kk : W p l e R s m args below meth c H locs cells slots Q (F0 m (pc + 3) ls (v :: rest))) : W p l e R s m args below meth c H locs cells slots Q (F0 m pc ls (.ref t :: rest)) := by
  obtain ⟨cf, k, i, f, cell, a1, a2, a3, a4, a5, -⟩ := hZ.kept hz.2.1.2.1
  exact W.getf C.1 C.2.1 C.ow hl a1 a2 a3 a4 a5 rfl rfl hdg kk
theorem zc_value (C : PC E p s m args meth c own cc nL ret nm) (hz : ZG Rp E s h0 h H locs) {n index : Nat} (hn : n < 11) (q1 : Cond.fieldLink own index "java/lang/String" "value" "[B" ∈ lw_all) (hdg : decode cc pc = .ok (.getfield index, 3)) (kk : W p l e R s m args below meth c H locs cells slots Q (F0 m (pc + 3) ls (.ref (tKw E n) :: rest))) : W p l e R s m args below meth c H locs cells slots Q (F0 m pc ls (.ref (sK E n) :: rest)) := zc_getf C hz (C.env.2.2.2.2.2.2.2.2.2.2 n hn).2.2.2.1 (C.w q1) hdg kk
theorem zc_coder (C : PC E p s m args meth c own cc nL ret nm) (hz : ZG Rp E s h0 h H locs) {n index : Nat} (hn : n < 11) (q1 : Cond.fieldLink own index "java/lang/String" "coder" "B" ∈ lw_all) (hdg : decode cc pc = .ok (.getfield index, 3)) (kk : W p l e R s m args below meth c H locs cells slots Q (F0 m (pc + 3) ls (.int (zI 0) :: rest))) : W p l e R s m args below meth c H locs cells slots Q (F0 m pc ls (.ref (sK E n) :: rest)) := zc_getf C hz (C.env.2.2.2.2.2.2.2.2.2.2 n hn).2.2.1 (C.w q1) hdg kk
theorem zc_bald (C : PC E p s m args meth c own cc nL ret nm) (hz : ZG Rp E s h0 h H locs) {n : Nat} {i : Int} (hg : n < 11 ∧ zin i (sT n).length) (hdg : decode cc pc = .ok (.baload, 1)) (kk : W p l e R s m args below meth c H locs cells slots Q (F0 m (pc + 1) ls (.int (zI ((sT n).getD (zix i) 0)) :: rest))) : W p l e R s m args below meth c H locs cells slots Q (F0 m pc ls (.int (zI i) :: .ref (tKw E n) :: rest)) := by
  obtain ⟨cell, a1, a2, a3, a4, a5, a6, -⟩ := (C.env.2.2.2.2.2.2.2.2.2.2 n hg.1).2.2.2.2.kept hz.2.1.2.1
  obtain ⟨i1, i2⟩ := zin_lt hg.2
  exact W.bald C.1 C.2.1 a1 a2 a3 (fun q => by
    rcases q with q | q
    · exact i1 (Or.inl q)
    · have : (zI i).toNatClampNeg < (sT n).length := i2
      omega) (a6 _ i2) rfl rfl hdg kk
theorem zc_alen (C : PC E p s m args meth c own cc nL ret nm) (hz : ZG Rp E s h0 h H locs) {n : Nat} (hg : n < 11) (hdg : decode cc pc = .ok (.arraylength, 1)) (kk : W p l e R s m args below meth c H locs cells slots Q (F0 m (pc + 1) ls (.int (zI ((sT n).length : Int)) :: rest))) : W p l e R s m args below meth c H locs cells slots Q (F0 m pc ls (.ref (tKw E n) :: rest)) := by
  obtain ⟨cell, a1, a2, a3, a4, a5, a6, -⟩ := (C.env.2.2.2.2.2.2.2.2.2.2 n hg).2.2.2.2.kept hz.2.1.2.1
  exact W.alen C.1 C.2.1 a1 a2 a5 rfl rfl hdg kk
theorem eK_inj (C : PC E p s m args meth c own cc nL ret nm) {a b : Int} (ha : zst a) (hb : zst b) (h : eK E a = eK E b) : a = b := by
  have h1 := C.env.2.2.2.2.2.2.2.1.2 a.toNat b.toNat (by show _ < 8; omega) (by show _ < 8; omega) h
  omega
theorem zc_acmp_eq (C : PC E p s m args meth c own cc nL ret nm) {x y : Int} (hx : zst x) (hy : zst y) {off : Int} {tgt : Nat} (hdg : decode cc pc = .ok (.if_acmp .eq off, 3)) (ht : (pc : Int) + off = (tgt : Int)) (k1 : x = y → W p l e R s m args below meth c H locs cells slots Q (F0 m tgt ls rest)) (k2 : ¬ x = y → W p l e R s m args below meth c H locs cells slots Q (F0 m (pc + 3) ls rest)) : W p l e R s m args below meth c H locs cells slots Q (F0 m pc ls (.ref (eK E y) :: .ref (eK E x) :: rest)) :=
  lv_acmp_eq (rx := some (eK E x)) (ry := some (eK E y)) C.1 C.2.1 hdg ht (fun q => k1 (eK_inj C hx hy (Option.some.inj q))) (fun q => k2 (fun z => q (by rw [z])))
theorem zc_acmp_ne (C : PC E p s m args meth c own cc nL ret nm) {x y : Int} (hx : zst x) (hy : zst y) {off : Int} {tgt : Nat} (hdg : decode cc pc = .ok (.if_acmp .ne off, 3)) (ht : (pc : Int) + off = (tgt : Int)) (k1 : x = y → W p l e R s m args below meth c H locs cells slots Q (F0 m (pc + 3) ls rest)) (k2 : ¬ x = y → W p l e R s m args below meth c H locs cells slots Q (F0 m tgt ls rest)) : W p l e R s m args below meth c H locs cells slots Q (F0 m pc ls (.ref (eK E y) :: .ref (eK E x) :: rest)) :=
  lv_acmp_ne (rx := some (eK E x)) (ry := some (eK E y)) C.1 C.2.1 hdg ht (fun q => k2 (fun z => q (by rw [z]))) (fun q => k1 (eK_inj C hx hy (Option.some.inj q)))
theorem zc_getClass (G : GoodR Rp E visR new) (C : PC E p s m args meth c own cc nL ret nm) (hz : ZG Rp E s h0 h H locs) {a index : Nat} (hg : pK h a = 50) (q1 : Cond.methodLink own index ⟨"java/lang/Object", "getClass", "()Ljava/lang/Class;"⟩ ∈ lw_all) (hl : ls.size = nL) (hR : 1 ≤ R.frames ∧ 22 ≤ R.locals) (hcat : (rest.map fun v => v.category).sum ≤ 8) (hdg : decode cc pc = .ok (.invokevirtual index, 3)) (kk : W p l e R s m args below meth c H locs cells slots Q (F0 m (pc + 3) ls (.ref (pM h) :: rest))) : W p l e R s m args below meth c H locs cells slots Q (F0 m pc ls (.ref a :: rest)) := by
  have hr : ∃ cell : Cell, H[a]? = some cell ∧ cell.vm.isStatics = false ∧ s.vm.findClass "[Ljava/lang/Object;" = some cell.cls := by
    refine ⟨_, (G.1 h H a hz.1 (by rw [hg]; decide)).1.2.2.2.1 hg, rfl, ?_⟩
    obtain ⟨_, _, _, _, _, hx⟩ := (C.env.1.2 2 _ rfl).2
    exact hx
  rw [(G.2.2.1 h H hz.1).2.2.2.2] at kk
  exact va_getC C.1 C.2.1 (C.2.2.2.2.1.trans hl.symm) C.ow (C.w q1) (va_Nw.use (A := args) rfl (C.nwv q1621 rfl)) (C.w q1620) (C.w q368) (C.w q381) C.env.2.2.2.2.2.1 hr hR.1 (by omega) hdg kk
theorem PC.selp (C : PC E p s m args meth c own cc nL ret nm) {y : MethodName} (h : y ∈ prSB) : (Cond.selects "java/lang/StringBuilder" y y).before args s = true := word_at (State.WarmedH.refl s) (Or.inl rfl) (C.env.2.1.2.2 y h)
variable {y : MethodName} {bytes : ByteArray} {maxL n index : Nat} {rt : Option FieldType} {v : Option Value} {As : List Value} {fr lo : Nat}
theorem zg_callQ (G : GoodR Rp E vis new) (C : PC E p s m args meth c own cc nL ret nm) (hz : ZG Rp E s h0 h H locs) {F1 F2 : Prop} (hr : F1 ∧ F2 ∧ RBw R h0) {b : Nat} (hg : b < 11) (hM : Met l y (ws_ y bytes maxL rt) (rmP h fr lo) (PGw Rp E h (.ref (sK E b) :: As)) (QG Rp E h h1 v) (pX h1 - pX h) (pS h1 - pS h) (eF E))
    (q1 : Cond.methodLink own index y ∈ lw_all) (q2 : Cond.instanceMethod y ∈ lw_all) (q3 : (Cond.selects "java/lang/String" y y).before args s = true) (q4 : Cond.initialized y.cls ∈ lw_all) (q5 : Cond.code y bytes maxL rt ∈ lw_all) (hd : lenOK y n) (hR : fr + 1 ≤ R.frames ∧ 8 + (maxL + 11) + lo ≤ R.locals) (hn : As.length = n) (hl : ls.size = nL) {st : List Value} (hst : st = As.reverse ++ .ref (sK E b) :: rest) (hcat : (rest.map fun v => v.category).sum ≤ 8) (hdg : decode cc pc = .ok (.invokevirtual index, 3))
    (kk : ∀ (H : Heap) (locs : List Loc), ZG Rp E s h0 h1 H locs → W p l e R s m args below meth c H locs (pX h1 - pX h0) (pS h1 - pS h0) Q (F0 m (pc + 3) ls (v.toList ++ rest))) : W p l e R s m args below meth c H locs (pX h - pX h0) (pS h - pS h0) Q (F0 m pc ls st) := by
  obtain ⟨cell, a1, a2, a3, -⟩ := (C.env.2.2.2.2.2.2.2.2.2.2 b hg).2.1.kept hz.2.1.2.1
  exact zg_callR G C hz hr ⟨cell, a1, a2, a3⟩ hM q1 q2 q3 q4 q5 hd hR hn hl hst hcat hdg kk
theorem met_ordinal (l : Launch) (E : PEw) (Rp : HP → Heap → Prop) {h : HP} {o : Int} (ho : zst o) : Met l yJ3_ordinal (ws_ yJ3_ordinal cJ3_ordinal 1 (some .int)) (rmP h 0 0) (PGw Rp E h [.ref (eK E o)]) (QG Rp E h h (some (.int (zI o)))) (pX h - pX h) (pS h - pS h) (eF E) := by
  refine Met.ofW (cc := cJ3_ordinal) (maxL := 1) (ret := (some .int)) (by decide) rfl ?_
  intro p e s m args below meth c s₁ B hml hv
  obtain ⟨rfl, hP0⟩ := hv
  have hts := atoms_spec (ws := ws_ yJ3_ordinal cJ3_ordinal 1 (some .int)) B.pre
  have hts : ∀ w ∈ lw_all, w.before _ s = true := fun w h => hts w (List.mem_cons_of_mem _ h)
  have C : PC E p s m _ meth c RJ3 cJ3_ordinal 1 (some .int) "ordinal" := ⟨B.exec, B.bytes, B.returns, B.notSynchronized, hml, findClass_of_methodNamed B.named, hts, hP0.2, (name_of_methodNamed B.named B.method).1⟩
  have hz : ZG Rp E s h h s.heap [] := ZG.start hP0.1
  have hl := lv_entry ([.ref (eK E o)]) (n := 1) (Nat.le_of_ble_eq_true rfl)
  rw [lg_entry_eq]
  generalize (lg_sl ([.ref (eK E o)]) ++ List.replicate (1 - (lg_sl ([.ref (eK E o)])).length) Slot.unset).toArray = ls at hl ⊢
  have hl : lv_has ls 1 [(0, .ref (eK E o))] := hl
  refine W.cs (cells' := pX h - pX h) (slots' := pS h - pS h) (Nat.sub_self _).symm (Nat.sub_self _).symm ?_
  refine lv_aload_n C.1 C.2.1 dJ3_ordinal_0 rfl (lv_at hl 0 rfl) ?_
  have hE := ((C.env.2.2.2.2.2.2.2.1.1 o.toNat (by show _ < 8; omega)).2.2 ("java/lang/Enum", "ordinal", "I", [0, 1, 2, 3, 4, 5, 6, 7]) (by simp [stOrd]))
  have hv : ([0, 1, 2, 3, 4, 5, 6, 7] : List Int32).getD o.toNat 0 = zI o := by
    have h8 : ∀ n : Nat, n < 8 → ([0, 1, 2, 3, 4, 5, 6, 7] : List Int32).getD n 0 = zI (n : Int) := by decide
    rw [h8 o.toNat (by omega)]
    congr 1
    omega
  refine zc_getf C hz hE (C.w q1638) dJ3_ordinal_1 ?_
  show W p l e _ s m _ below meth c s.heap [] _ _ _ (F0 m _ ls [.int (([0, 1, 2, 3, 4, 5, 6, 7] : List Int32).getD o.toNat 0)])
  rw [hv]
  exact zg_iret C hz rfl dJ3_ordinal_4
theorem zc_ordinal (G : GoodR Rp E vis new) (C : PC E p s m args meth c own cc nL ret nm) (hz : ZG Rp E s h0 h H locs) {F1 F2 : Prop} (hr : F1 ∧ F2 ∧ RBw R h0) {o : Int} (hg : zst o) (q1 : Cond.methodLink own index ⟨"PlainPage$State", "ordinal", "()I"⟩ ∈ lw_all) (hl : ls.size = nL) (hR : 1 ≤ R.frames ∧ 20 ≤ R.locals) (hcat : (rest.map fun v => v.category).sum ≤ 8) (hdg : decode cc pc = .ok (.invokevirtual index, 3))
    (kk : ∀ (H : Heap) (locs : List Loc), ZG Rp E s h0 h H locs → W p l e R s m args below meth c H locs (pX h - pX h0) (pS h - pS h0) Q (F0 m (pc + 3) ls (.int (zI o) :: rest))) : W p l e R s m args below meth c H locs (pX h - pX h0) (pS h - pS h0) Q (F0 m pc ls (.ref (eK E o) :: rest)) := by
  have hf := rm_fit (fr := 0) (lo := 0) hr.2.2 hz (G.2.2.1 h H hz.1).2.2.1
  obtain ⟨cellB, hcB, hoB, hclB, -⟩ := (C.env.2.2.2.2.2.2.2.1.1 o.toNat (by show _ < 8; omega)).2.1.kept hz.2.1.2.1
  have hK := zb_back (l := l) (e := e) (below := below) C (met_ordinal l E Rp (h := h) hg) PGw.blind q532 q95 (R := R) ⟨hR.1, hR.2⟩
  refine zg_fin (g := F0 m pc ls (.ref (eK E o) :: rest)) hz rfl rfl (aa := #[.ref (eK E o)]) (v := some (.int (zI o))) ?_ kk
  intro T hT X
  obtain ⟨v', vm₁, ⟨U', l2, c2, s2⟩, hW₁, X', ⟨g', mk, t, L, e1, e2, hq, x1, hL, x2, x3⟩, st⟩ := va_callVU X C.1 (C := "PlainPage$State") (owner := "java/lang/Enum") (x := ⟨"PlainPage$State", "ordinal", "()I"⟩) (y := yJ3_ordinal) (bytes := cJ3_ordinal) (maxL := 1) (ret := some .int) C.ow (C.w q1) (C.w q528) (va_Decl.abs (C.nwv q529 rfl)) (by decide) (C.w q530) (C.w q531) (C.w q532) hK (by rw [hT]; exact hcB) hoB hclB rfl (hl.trans C.2.2.2.2.1.symm) (argsL := []) (rest := rest) (fun sig h => by cases h; rfl) rfl (lv_room hcat) (by rw [C.2.1]; exact hdg)
    (fun vm₁ hW₁ => ⟨hf.1, hf.2, PGw.at C hz (T.setVm vm₁) hT hW₁⟩)
  dsimp only [Pt.U, Pt.locs, Pt.cells, Pt.slots] at X' e1 e2 x1 x2 x3 st
  subst x1; subst x2; subst x3
  exact ⟨v', (T.setVm vm₁).calling g' mk (Value.ref (eK E o) :: []).toArray, t, U', L, hT, X', hL, e1, e2, hq, st⟩
end ZCN
