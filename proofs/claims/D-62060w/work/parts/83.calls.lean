/-! calls: a callee's contract at its own room -/
set_option maxRecDepth 100000
section ZBK
variable {l : Launch} {R : Room} {p : Program} {e : Env} {below : List Frame} {s : State} {sargs : Array Value} {y : MethodName} {len W : Nat}
theorem zb_of {ws : List Cond} {rm : Room} {Pc : Array Value → State → Prop} {Qc : Array Value → State → Outcome → State → Prop} {mc ms : Nat} {free : Addr → Prop} {bytes : ByteArray} {maxL : Nat} {ret : Option FieldType}
    (hM : Met l y ws rm Pc Qc mc ms free) (hblind : FrameBlind Pc)
    (hframes : rm.frames + 1 ≤ R.frames) (hlocals : W + (maxL + 11) + rm.locals ≤ R.locals)
    (hws : ∀ w ∈ ws, ∀ a' U, s.WarmedH U.vm → w.before a' U = true) (hcode : Cond.code y bytes maxL ret ∈ ws) (hinit : ∀ a' U, s.WarmedH U.vm → (Cond.initialized y.cls).before a' U = true) :
    Back l R p e below s sargs y len W (PreOf R rm.cells rm.slots Pc) (PostOf Qc mc ms free) := by
  refine Back.of_free (S := headSpec ws rm) (P := Pc) (K := fun _ _ _ _ _ => True) (Q := fun a st o t => Qc a st o t ∧ ∃ L, FrameEnd st o t L mc ms ∧ ∀ q ∈ L, free q.base) (bytes := bytes) (maxL := maxL) (ret := ret)
    (E := fun a st o t L k n => k = mc ∧ n = ms ∧ ∀ q ∈ L, free q.base) hM hframes hlocals ?_ ?_ (fun _ _ _ _ _ _ _ _ _ => trivial) ?_ ?_
  · intro m meth c A a X hp
    exact ⟨atoms_intro fun w hw => hws w hw _ _ X.warmed, hws _ hcode _ _ X.warmed, hinit _ _ X.warmed, hp.1, hp.2.1⟩
  · intro m meth c A a g mk X hp
    exact hblind _ _ _ _ hp.2.2
  · intro a st o t ⟨hq, L, hF, hL⟩
    exact ⟨L, mc, ms, hF, rfl, rfl, hL⟩
  · intro m meth c A a g mk v t L k n X hp hq hF ⟨e1, e2, hL⟩
    subst e1; subst e2
    exact ⟨g, mk, t, L, rfl, rfl, hq.1, rfl, hL, rfl, rfl⟩
end ZBK
section ZCL
variable {p : Program} {l : Launch} {e : Env} {R : Room} {s : State} {m : MethodId} {args : Array Value} {below : List Frame} {meth : Method} {c : Code} {H : Heap} {locs : List Loc} {Q : State → Prop}
variable {cc : ByteArray} {pc : Nat} {ls : Array Slot} {rest : List Value} {E : PEw} {own : String} {nL : Nat} {ret : Option FieldType} {nm : String} {Rp : HP → Heap → Prop} {vis new : Nat → Prop} {h0 h h1 : HP}
variable {y : MethodName} {bytes : ByteArray} {maxL n index : Nat} {rt : Option FieldType} {rm : Room} {v : Option Value} {As : List Value} {fr lo : Nat}
/-- a call's contract as a Back, with the words all there -/
theorem zb_back (C : PC E p s m args meth c own cc nL ret nm) {mc ms : Nat} {Pc : Array Value → State → Prop} {Qc : Array Value → State → Outcome → State → Prop} {free : Addr → Prop} (hM : Met l y (ws_ y bytes maxL rt) rm Pc Qc mc ms free) (hbl : FrameBlind Pc) (hco : Cond.code y bytes maxL rt ∈ lw_all) (hini : Cond.initialized y.cls ∈ lw_all) (hR : rm.frames + 1 ≤ R.frames ∧ 8 + (maxL + 11) + rm.locals ≤ R.locals) :
    Back l R p e below s args y 3 8 (PreOf R rm.cells rm.slots Pc) (PostOf Qc mc ms free) :=
  zb_of (bytes := bytes) (maxL := maxL) (ret := rt) hM hbl hR.1 hR.2 (pay_in C.2.2.2.2.2.2.1 (lw_meth hco)) List.mem_cons_self (fun a' U hW => word_at hW (Or.inl (by first | rfl | simp [Cond.onTables, Cond.keeps, Cond.steady])) (C.w hini))
theorem PGw.blind : FrameBlind (PGw Rp E h As) := by
  intro a U g mk q
  exact ⟨q.1, q.2.1, ENV.blind q.2.2⟩
/-- behind a call: the new world -/
theorem zg_fin {mc ms : Nat} {g : JFrame} (hz : ZG Rp E s h0 h H locs) (hmc : mc = pX h1 - pX h) (hms : ms = pS h1 - pS h) {aa : Array Value}
    (hrun : va_Run p l e R s m args below meth c H locs (pX h - pX h0) (pS h - pS h0) mc ms g rest (QG Rp E h h1 v aa) (eF E))
    (kk : ∀ (H : Heap) (locs : List Loc), ZG Rp E s h0 h1 H locs → W p l e R s m args below meth c H locs (pX h1 - pX h0) (pS h1 - pS h0) Q { g with pc := g.pc + 3, stack := v.toList ++ rest }) : W p l e R s m args below meth c H locs (pX h - pX h0) (pS h - pS h0) Q g := by
  intro T hT X
  obtain ⟨v', st₀, t, T', L, e0, X', hL, e1, e2, ⟨hv, hRp, hsz, hfr, hl⟩, st⟩ := hrun T hT X
  cases hv
  rw [e0] at hsz hfr
  have c1 : pX h - pX h0 + mc = pX h1 - pX h0 := by
    have := hl.1
    have := hz.2.2.1
    omega
  have c2 : pS h - pS h0 + ms = pS h1 - pS h0 := by
    have := hl.2.1
    have := hz.2.2.2.1
    omega
  rw [c1, c2] at X'
  obtain ⟨t2, a1, b1⟩ := kk T'.heap (locs ++ L) ⟨by rw [e1]; exact hRp, ⟨by rw [e1]; exact Nat.le_trans hz.2.1.1 hsz, fun q g1 g2 => by
      rw [e1, hfr q (Nat.lt_of_lt_of_le g1 hz.2.1.1) g2]
      exact hz.2.1.2.1 q g1 g2, fun x hx => by
      rcases List.mem_append.mp hx with q | q
      · exact hz.2.1.2.2 x q
      · exact hL x q⟩, hz.2.2.tr hl⟩ T' rfl X'
  exact ⟨t2, st t2 a1, b1⟩
theorem rm_fit {fr lo : Nat} (hb : RBw R h0) (hz : ZG Rp E s h0 h H locs) (hx : pX h ≤ pO h + 600000 ∧ pS h ≤ 7302250) : pX h - pX h0 + (rmP h fr lo).cells ≤ R.cells ∧ pS h - pS h0 + (rmP h fr lo).slots ≤ R.slots := by
  have h1 := hz.2.2.1
  have h2 := hz.2.2.2.1
  have h3 := hz.2.2.2.2
  have h4 := hb.1
  have h5 := hb.2
  show _ + (pO h + 600000 - pX h) ≤ _ ∧ _ + (7302250 - pS h) ≤ _
  omega
abbrev lenOK (y : MethodName) (n : Nat) : Prop := y.cls ≠ "java/lang/invoke/MethodHandle" ∧ y.cls ≠ "java/lang/invoke/VarHandle" ∧ (parseMethodDescriptor y.desc).map (fun d => d.parameters.length) = some n
theorem lenOK.sig (hd : lenOK y n) (sig : MethodDescriptor) (h : parseMethodDescriptor y.desc = some sig) : n = sig.parameters.length := by
  have h2 := hd.2.2
  rw [h] at h2
  exact (Option.some.inj h2).symm
theorem PGw.at (C : PC E p s m args meth c own cc nL ret nm) (hz : ZG Rp E s h0 h H locs) : ∀ U : State, U.heap = H → s.WarmedH U.vm → PGw Rp E h As As.toArray U := fun U hU hW => ⟨rfl, by rw [hU]; exact hz.1, C.env.at hz.2.1 hU hW⟩
theorem zg_callR (G : GoodR Rp E vis new) (C : PC E p s m args meth c own cc nL ret nm) (hz : ZG Rp E s h0 h H locs) {F1 F2 : Prop} (hr : F1 ∧ F2 ∧ RBw R h0) {b : Nat} {Cn : String} (hrec : ∃ cell : Cell, H[b]? = some cell ∧ cell.vm.isStatics = false ∧ s.vm.findClass Cn = some cell.cls) (hM : Met l y (ws_ y bytes maxL rt) (rmP h fr lo) (PGw Rp E h (.ref b :: As)) (QG Rp E h h1 v) (pX h1 - pX h) (pS h1 - pS h) (eF E))
    (q1 : Cond.methodLink own index y ∈ lw_all) (q2 : Cond.instanceMethod y ∈ lw_all) (q3 : (Cond.selects Cn y y).before args s = true) (q4 : Cond.initialized y.cls ∈ lw_all) (q5 : Cond.code y bytes maxL rt ∈ lw_all) (hd : lenOK y n) (hR : fr + 1 ≤ R.frames ∧ 8 + (maxL + 11) + lo ≤ R.locals) (hn : As.length = n) (hl : ls.size = nL) {st : List Value} (hst : st = As.reverse ++ .ref b :: rest) (hcat : (rest.map fun v => v.category).sum ≤ 8) (hdg : decode cc pc = .ok (.invokevirtual index, 3))
    (kk : ∀ (H : Heap) (locs : List Loc), ZG Rp E s h0 h1 H locs → W p l e R s m args below meth c H locs (pX h1 - pX h0) (pS h1 - pS h0) Q (F0 m (pc + 3) ls (v.toList ++ rest))) : W p l e R s m args below meth c H locs (pX h - pX h0) (pS h - pS h0) Q (F0 m pc ls st) := by
  subst hst
  have hf := rm_fit (fr := fr) (lo := lo) hr.2.2 hz (G.2.2.1 h H hz.1).2.2.1
  obtain ⟨cellB, hcB, hoB, hclB⟩ := hrec
  have hK := zb_back (l := l) (e := e) (below := below) C hM PGw.blind q5 q4 hR
  refine zg_fin (g := F0 m pc ls (As.reverse ++ .ref b :: rest)) hz rfl rfl (aa := (Value.ref b :: As).toArray) (v := v) ?_ kk
  intro T hT X
  obtain ⟨v', vm₁, ⟨U', l2, c2, s2⟩, hW₁, X', ⟨g', mk, t, L, e1, e2, hq, x1, hL, x2, x3⟩, st⟩ := callV X C.1 (C := Cn) (bytes := bytes) (maxL := maxL) (ret := rt) C.ow (C.w q1) (C.w q2) q3 (C.w q5) ⟨hd.1, hd.2.1⟩ hK (by rw [hT]; exact hcB) hoB hclB rfl (hl.trans C.2.2.2.2.1.symm) (argsL := As) (rest := rest) (fun sig h => hn.trans (hd.sig sig h)) rfl (lv_room hcat) (by rw [C.2.1]; exact hdg)
    (fun vm₁ hW₁ => ⟨hf.1, hf.2, PGw.at C hz (T.setVm vm₁) hT hW₁⟩)
  dsimp only [Pt.U, Pt.locs, Pt.cells, Pt.slots] at X' e1 e2 x1 x2 x3 st
  subst x1; subst x2; subst x3
  exact ⟨v', (T.setVm vm₁).calling g' mk (Value.ref b :: As).toArray, t, U', L, hT, X', hL, e1, e2, hq, st⟩
theorem zg_callV (G : GoodR Rp E vis new) (C : PC E p s m args meth c own cc nL ret nm) (hz : ZG Rp E s h0 h H locs) {F1 F2 : Prop} (hr : F1 ∧ F2 ∧ RBw R h0) {b cl : Nat} (hg : gk vis cl (pK h b)) (hM : Met l y (ws_ y bytes maxL rt) (rmP h fr lo) (PGw Rp E h (.ref b :: As)) (QG Rp E h h1 v) (pX h1 - pX h) (pS h1 - pS h) (eF E))
    (q1 : Cond.methodLink own index y ∈ lw_all) (q2 : Cond.instanceMethod y ∈ lw_all) (q3 : (Cond.selects (cR cl) y y).before args s = true) (q4 : Cond.initialized y.cls ∈ lw_all) (q5 : Cond.code y bytes maxL rt ∈ lw_all) (hd : lenOK y n) (hR : fr + 1 ≤ R.frames ∧ 8 + (maxL + 11) + lo ≤ R.locals) (hn : As.length = n) (hl : ls.size = nL) {st : List Value} (hst : st = As.reverse ++ .ref b :: rest) (hcat : (rest.map fun v => v.category).sum ≤ 8) (hdg : decode cc pc = .ok (.invokevirtual index, 3))
    (kk : ∀ (H : Heap) (locs : List Loc), ZG Rp E s h0 h1 H locs → W p l e R s m args below meth c H locs (pX h1 - pX h0) (pS h1 - pS h0) Q (F0 m (pc + 3) ls (v.toList ++ rest))) : W p l e R s m args below meth c H locs (pX h - pX h0) (pS h - pS h0) Q (F0 m pc ls st) := zg_callR G C hz hr (zg_cell G C hz.1 hg) hM q1 q2 q3 q4 q5 hd hR hn hl hst hcat hdg kk
theorem zg_callS (G : GoodR Rp E vis new) (C : PC E p s m args meth c own cc nL ret nm) (hz : ZG Rp E s h0 h H locs) {F1 F2 : Prop} (hr : F1 ∧ F2 ∧ RBw R h0) (hM : Met l y (ws_ y bytes maxL rt) (rmP h fr lo) (PGw Rp E h As) (QG Rp E h h1 v) (pX h1 - pX h) (pS h1 - pS h) (eF E))
    (q1 : Cond.methodLink own index y ∈ lw_all) (q2 : Cond.static y ∈ lw_all) (q4 : Cond.initialized y.cls ∈ lw_all) (q5 : Cond.code y bytes maxL rt ∈ lw_all) (hd : lenOK y n) (hR : fr + 1 ≤ R.frames ∧ 8 + (maxL + 11) + lo ≤ R.locals) (hn : As.length = n) (hl : ls.size = nL) {st : List Value} (hst : st = As.reverse ++ rest) (hcat : (rest.map fun v => v.category).sum ≤ 8) (hdg : decode cc pc = .ok (.invokestatic index, 3))
    (kk : ∀ (H : Heap) (locs : List Loc), ZG Rp E s h0 h1 H locs → W p l e R s m args below meth c H locs (pX h1 - pX h0) (pS h1 - pS h0) Q (F0 m (pc + 3) ls (v.toList ++ rest))) : W p l e R s m args below meth c H locs (pX h - pX h0) (pS h - pS h0) Q (F0 m pc ls st) := by
  subst hst
  have hf := rm_fit (fr := fr) (lo := lo) hr.2.2 hz (G.2.2.1 h H hz.1).2.2.1
  have hK := zb_back (l := l) (e := e) (below := below) C hM PGw.blind q5 q4 hR
  refine zg_fin (g := F0 m pc ls (As.reverse ++ rest)) hz rfl rfl (aa := As.toArray) (v := v) ?_ kk
  intro T hT X
  obtain ⟨v', vm₁, ⟨U', l2, c2, s2⟩, hW₁, X', ⟨g', mk, t, L, e1, e2, hq, x1, hL, x2, x3⟩, st⟩ := callS X C.1 (bytes := bytes) (maxL := maxL) (ret := rt) C.ow (C.w q1) (C.w q2) (C.w q4) (C.w q5) ⟨hd.1, hd.2.1⟩ hK rfl (hl.trans C.2.2.2.2.1.symm) (argsL := As) (rest := rest) (fun sig h => hn.trans (hd.sig sig h)) rfl (lv_room hcat) (by rw [C.2.1]; exact hdg)
    (fun vm₁ hW₁ => ⟨hf.1, hf.2, PGw.at C hz (T.setVm vm₁) hT hW₁⟩)
  dsimp only [Pt.U, Pt.locs, Pt.cells, Pt.slots] at X' e1 e2 x1 x2 x3 st
  subst x1; subst x2; subst x3
  exact ⟨v', (T.setVm vm₁).calling g' mk As.toArray, t, U', L, hT, X', hL, e1, e2, hq, st⟩
theorem zg_callSN (G : GoodR Rp E vis new) (C : PC E p s m args meth c own cc nL ret nm) (hz : ZG Rp E s h0 h H locs) {F1 F2 : Prop} (hr : F1 ∧ F2 ∧ RBw R h0) {host : String} (hM : Met l y (ws_ y bytes maxL rt) (rmP h fr lo) (PGw Rp E h As) (QG Rp E h h1 v) (pX h1 - pX h) (pS h1 - pS h) (eF E))
    (q1 : Cond.methodLinkNest own index y host ∈ lw_tbl) (q2 : Cond.static y ∈ lw_all) (q4 : Cond.initialized y.cls ∈ lw_all) (q5 : Cond.code y bytes maxL rt ∈ lw_all) (hd : lenOK y n) (hR : fr + 1 ≤ R.frames ∧ 8 + (maxL + 11) + lo ≤ R.locals) (hn : As.length = n) (hl : ls.size = nL) {st : List Value} (hst : st = As.reverse ++ rest) (hcat : (rest.map fun v => v.category).sum ≤ 8) (hdg : decode cc pc = .ok (.invokestatic index, 3))
    (kk : ∀ (H : Heap) (locs : List Loc), ZG Rp E s h0 h1 H locs → W p l e R s m args below meth c H locs (pX h1 - pX h0) (pS h1 - pS h0) Q (F0 m (pc + 3) ls (v.toList ++ rest))) : W p l e R s m args below meth c H locs (pX h - pX h0) (pS h - pS h0) Q (F0 m pc ls st) := by
  subst hst
  have hf := rm_fit (fr := fr) (lo := lo) hr.2.2 hz (G.2.2.1 h H hz.1).2.2.1
  have hK := zb_back (l := l) (e := e) (below := below) C hM PGw.blind q5 q4 hR
  refine zg_fin (g := F0 m pc ls (As.reverse ++ rest)) hz rfl rfl (aa := As.toArray) (v := v) ?_ kk
  intro T hT X
  obtain ⟨v', vm₁, ⟨U', l2, c2, s2⟩, hW₁, X', ⟨g', mk, t, L, e1, e2, hq, x1, hL, x2, x3⟩, st⟩ := va_callSN X C.1 (bytes := bytes) (maxL := maxL) (ret := rt) C.ow (va_Nw.use (A := args) rfl (C.nm' q1)) (C.w q2) (C.w q4) (C.w q5) ⟨hd.1, hd.2.1⟩ hK rfl (hl.trans C.2.2.2.2.1.symm) (argsL := As) (rest := rest) (fun sig h => hn.trans (hd.sig sig h)) rfl (lv_room hcat) (by rw [C.2.1]; exact hdg)
    (fun vm₁ hW₁ => ⟨hf.1, hf.2, PGw.at C hz (T.setVm vm₁) hT hW₁⟩)
  dsimp only [Pt.U, Pt.locs, Pt.cells, Pt.slots] at X' e1 e2 x1 x2 x3 st
  subst x1; subst x2; subst x3
  exact ⟨v', (T.setVm vm₁).calling g' mk As.toArray, t, U', L, hT, X', hL, e1, e2, hq, st⟩
theorem zg_callI (G : GoodR Rp E vis new) (C : PC E p s m args meth c own cc nL ret nm) (hz : ZG Rp E s h0 h H locs) {F1 F2 : Prop} (hr : F1 ∧ F2 ∧ RBw R h0) {b : Nat} (hM : Met l y (ws_ y bytes maxL none) (rmP h fr lo) (PGw Rp E h (.ref b :: As)) (QG Rp E h h1 v) (pX h1 - pX h) (pS h1 - pS h) (eF E))
    (q1 : Cond.methodLink own index y ∈ lw_all) (q2 : Cond.instanceMethod y ∈ lw_all) (q4 : Cond.initialized y.cls ∈ lw_all) (q5 : Cond.code y bytes maxL none ∈ lw_all) (hd : lenOK y n) (hR : fr + 1 ≤ R.frames ∧ 8 + (maxL + 11) + lo ≤ R.locals) (hn : As.length = n) (hl : ls.size = nL) {st : List Value} (hst : st = As.reverse ++ .ref b :: rest) (hcat : (rest.map fun v => v.category).sum ≤ 8) (hdg : decode cc pc = .ok (.invokespecial index, 3))
    (kk : ∀ (H : Heap) (locs : List Loc), ZG Rp E s h0 h1 H locs → W p l e R s m args below meth c H locs (pX h1 - pX h0) (pS h1 - pS h0) Q (F0 m (pc + 3) ls (v.toList ++ rest))) (hy1 : y.name = "<init>" := by rfl) : W p l e R s m args below meth c H locs (pX h - pX h0) (pS h - pS h0) Q (F0 m pc ls st) := by
  subst hst
  have hf := rm_fit (fr := fr) (lo := lo) hr.2.2 hz (G.2.2.1 h H hz.1).2.2.1
  have hK := zb_back (l := l) (e := e) (below := below) C hM PGw.blind q5 q4 hR
  refine zg_fin (g := F0 m pc ls (As.reverse ++ .ref b :: rest)) hz rfl rfl (aa := (Value.ref b :: As).toArray) (v := v) ?_ kk
  intro T hT X
  obtain ⟨v', vm₁, ⟨U', l2, c2, s2⟩, hW₁, X', ⟨g', mk, t, L, e1, e2, hq, x1, hL, x2, x3⟩, st⟩ := callI X C.1 (bytes := bytes) (maxL := maxL) C.ow hy1 (C.w q1) (C.w q2) (C.w q5) ⟨hd.1, hd.2.1⟩ hK rfl (hl.trans C.2.2.2.2.1.symm) (a := b) (argsL := As) (rest := rest) (fun sig h => hn.trans (hd.sig sig h)) rfl (lv_room hcat) (by rw [C.2.1]; exact hdg)
    (fun vm₁ hW₁ => ⟨hf.1, hf.2, PGw.at C hz (T.setVm vm₁) hT hW₁⟩)
  dsimp only [Pt.U, Pt.locs, Pt.cells, Pt.slots] at X' e1 e2 x1 x2 x3 st
  subst x1; subst x2; subst x3
  exact ⟨v', (T.setVm vm₁).calling g' mk (Value.ref b :: As).toArray, t, U', L, hT, X', hL, e1, e2, hq, st⟩
theorem zg_callIN (G : GoodR Rp E vis new) (C : PC E p s m args meth c own cc nL ret nm) (hz : ZG Rp E s h0 h H locs) {F1 F2 : Prop} (hr : F1 ∧ F2 ∧ RBw R h0) {b : Nat} {host : String} (hM : Met l y (ws_ y bytes maxL none) (rmP h fr lo) (PGw Rp E h (.ref b :: As)) (QG Rp E h h1 v) (pX h1 - pX h) (pS h1 - pS h) (eF E))
    (q1 : Cond.methodLinkNest own index y host ∈ lw_tbl) (q2 : Cond.instanceMethod y ∈ lw_all) (q4 : Cond.initialized y.cls ∈ lw_all) (q5 : Cond.code y bytes maxL none ∈ lw_all) (hd : lenOK y n) (hR : fr + 1 ≤ R.frames ∧ 8 + (maxL + 11) + lo ≤ R.locals) (hn : As.length = n) (hl : ls.size = nL) {st : List Value} (hst : st = As.reverse ++ .ref b :: rest) (hcat : (rest.map fun v => v.category).sum ≤ 8) (hdg : decode cc pc = .ok (.invokespecial index, 3))
    (kk : ∀ (H : Heap) (locs : List Loc), ZG Rp E s h0 h1 H locs → W p l e R s m args below meth c H locs (pX h1 - pX h0) (pS h1 - pS h0) Q (F0 m (pc + 3) ls (v.toList ++ rest))) (hy1 : y.name = "<init>" := by rfl) : W p l e R s m args below meth c H locs (pX h - pX h0) (pS h - pS h0) Q (F0 m pc ls st) := by
  subst hst
  have hf := rm_fit (fr := fr) (lo := lo) hr.2.2 hz (G.2.2.1 h H hz.1).2.2.1
  have hK := zb_back (l := l) (e := e) (below := below) C hM PGw.blind q5 q4 hR
  refine zg_fin (g := F0 m pc ls (As.reverse ++ .ref b :: rest)) hz rfl rfl (aa := (Value.ref b :: As).toArray) (v := v) ?_ kk
  intro T hT X
  obtain ⟨v', vm₁, ⟨U', l2, c2, s2⟩, hW₁, X', ⟨g', mk, t, L, e1, e2, hq, x1, hL, x2, x3⟩, st⟩ := va_callIN X C.1 (bytes := bytes) (maxL := maxL) C.ow hy1 (va_Nw.use (A := args) rfl (C.nm' q1)) (C.w q2) (C.w q5) ⟨hd.1, hd.2.1⟩ hK rfl (hl.trans C.2.2.2.2.1.symm) (a := b) (argsL := As) (rest := rest) (fun sig h => hn.trans (hd.sig sig h)) rfl (lv_room hcat) (by rw [C.2.1]; exact hdg)
    (fun vm₁ hW₁ => ⟨hf.1, hf.2, PGw.at C hz (T.setVm vm₁) hT hW₁⟩)
  dsimp only [Pt.U, Pt.locs, Pt.cells, Pt.slots] at X' e1 e2 x1 x2 x3 st
  subst x1; subst x2; subst x3
  exact ⟨v', (T.setVm vm₁).calling g' mk (Value.ref b :: As).toArray, t, U', L, hT, X', hL, e1, e2, hq, st⟩
theorem zg_callSU (G : GoodR Rp E vis new) (C : PC E p s m args meth c own cc nL ret nm) (hz : ZG Rp E s h0 h H locs) {F1 F2 : Prop} (hr : F1 ∧ F2 ∧ RBw R h0) {b cl : Nat} (hg : gk vis cl (pK h b)) (hM : Met l y (ws_ y bytes maxL rt) (rmP h fr lo) (PGw Rp E h (.ref b :: As)) (QG Rp E h h1 v) (pX h1 - pX h) (pS h1 - pS h) (eF E))
    (q1 : Cond.methodLink own index y ∈ lw_all) (q2 : Cond.instanceMethod y ∈ lw_all) (q3 : Cond.sameMethod y.cls y.cls y.name y.desc ∈ lw_all) (q6 : Cond.superclass own y.cls ∈ lw_all) (q4 : Cond.initialized y.cls ∈ lw_all) (q5 : Cond.code y bytes maxL rt ∈ lw_all) (hd : lenOK y n) (hR : fr + 1 ≤ R.frames ∧ 8 + (maxL + 11) + lo ≤ R.locals) (hn : As.length = n) (hl : ls.size = nL) {st : List Value} (hst : st = As.reverse ++ .ref b :: rest) (hcat : (rest.map fun v => v.category).sum ≤ 8) (hdg : decode cc pc = .ok (.invokespecial index, 3))
    (kk : ∀ (H : Heap) (locs : List Loc), ZG Rp E s h0 h1 H locs → W p l e R s m args below meth c H locs (pX h1 - pX h0) (pS h1 - pS h0) Q (F0 m (pc + 3) ls (v.toList ++ rest))) (hno : y.name ≠ "<init>" := by decide) : W p l e R s m args below meth c H locs (pX h - pX h0) (pS h - pS h0) Q (F0 m pc ls st) := by
  subst hst
  have hf := rm_fit (fr := fr) (lo := lo) hr.2.2 hz (G.2.2.1 h H hz.1).2.2.1
  obtain ⟨cellB, hcB, hoB, hclB⟩ := zg_cell G C hz.1 hg
  obtain ⟨kB, hkB, -⟩ := Vm.findClass_spec hclB
  have hK := zb_back (l := l) (e := e) (below := below) C hM PGw.blind q5 q4 hR
  refine zg_fin (g := F0 m pc ls (As.reverse ++ .ref b :: rest)) hz rfl rfl (aa := (Value.ref b :: As).toArray) (v := v) ?_ kk
  intro T hT X
  obtain ⟨v', vm₁, ⟨U', l2, c2, s2⟩, hW₁, X', ⟨g', mk, t, L, e1, e2, hq, x1, hL, x2, x3⟩, st⟩ := va_callSU X C.1 (bytes := bytes) (maxL := maxL) (ret := rt) C.ow (C.w q1) (C.w q3) (C.w q6) (C.w q2) (C.w q5) hno hK (by rw [hT]; exact hcB) hoB hkB rfl (hl.trans C.2.2.2.2.1.symm) (argsL := As) (rest := rest) (fun sig h => hn.trans (hd.sig sig h)) rfl (lv_room hcat) (by rw [C.2.1]; exact hdg)
    (fun vm₁ hW₁ => ⟨hf.1, hf.2, PGw.at C hz (T.setVm vm₁) hT hW₁⟩)
  dsimp only [Pt.U, Pt.locs, Pt.cells, Pt.slots] at X' e1 e2 x1 x2 x3 st
  subst x1; subst x2; subst x3
  exact ⟨v', (T.setVm vm₁).calling g' mk (Value.ref b :: As).toArray, t, U', L, hT, X', hL, e1, e2, hq, st⟩
theorem zg_callO (G : GoodR Rp E vis new) (C : PC E p s m args meth c own cc nL ret nm) (hz : ZG Rp E s h0 h H locs) {F1 F2 : Prop} (hr : F1 ∧ F2 ∧ RBw R h0) {b cl : Nat} {x : MethodName} (hg : gk vis cl (pK h b)) (hM : Met l y (ws_ y bytes maxL rt) (rmP h fr lo) (PGw Rp E h (.ref b :: As)) (QG Rp E h h1 v) (pX h1 - pX h) (pS h1 - pS h) (eF E))
    (q1 : Cond.methodLink own index x ∈ lw_all) (q2 : Cond.instanceMethod y ∈ lw_all) (q3 : Cond.sameMethod x.cls x.cls x.name x.desc ∈ lw_all) (q6 : Cond.selects (cR cl) x y ∈ lw_all) (q7 : Cond.declares ⟨x.cls, x.name, x.desc⟩ ∈ lw_tbl) (q4 : Cond.initialized y.cls ∈ lw_all) (q5 : Cond.code y bytes maxL rt ∈ lw_all) (hd : lenOK x n) (hR : fr + 1 ≤ R.frames ∧ 8 + (maxL + 11) + lo ≤ R.locals) (hn : As.length = n) (hl : ls.size = nL) {st : List Value} (hst : st = As.reverse ++ .ref b :: rest) (hcat : (rest.map fun v => v.category).sum ≤ 8) (hdg : decode cc pc = .ok (.invokevirtual index, 3))
    (kk : ∀ (H : Heap) (locs : List Loc), ZG Rp E s h0 h1 H locs → W p l e R s m args below meth c H locs (pX h1 - pX h0) (pS h1 - pS h0) Q (F0 m (pc + 3) ls (v.toList ++ rest))) : W p l e R s m args below meth c H locs (pX h - pX h0) (pS h - pS h0) Q (F0 m pc ls st) := by
  subst hst
  have hf := rm_fit (fr := fr) (lo := lo) hr.2.2 hz (G.2.2.1 h H hz.1).2.2.1
  obtain ⟨cellB, hcB, hoB, hclB⟩ := zg_cell G C hz.1 hg
  have hK := zb_back (l := l) (e := e) (below := below) C hM PGw.blind q5 q4 hR
  refine zg_fin (g := F0 m pc ls (As.reverse ++ .ref b :: rest)) hz rfl rfl (aa := (Value.ref b :: As).toArray) (v := v) ?_ kk
  intro T hT X
  obtain ⟨v', vm₁, ⟨U', l2, c2, s2⟩, hW₁, X', ⟨g', mk, t, L, e1, e2, hq, x1, hL, x2, x3⟩, st⟩ := va_callVU X C.1 (C := cR cl) (owner := x.cls) (bytes := bytes) (maxL := maxL) (ret := rt) C.ow (C.w q1) (C.w q3) (va_Decl.abs (C.nwv q7 rfl)) ⟨hd.1, hd.2.1⟩ (C.w q6) (C.w q2) (C.w q5) hK (by rw [hT]; exact hcB) hoB hclB rfl (hl.trans C.2.2.2.2.1.symm) (argsL := As) (rest := rest) (fun sig h => hn.trans (hd.sig sig h)) rfl (lv_room hcat) (by rw [C.2.1]; exact hdg)
    (fun vm₁ hW₁ => ⟨hf.1, hf.2, PGw.at C hz (T.setVm vm₁) hT hW₁⟩)
  dsimp only [Pt.U, Pt.locs, Pt.cells, Pt.slots] at X' e1 e2 x1 x2 x3 st
  subst x1; subst x2; subst x3
  exact ⟨v', (T.setVm vm₁).calling g' mk (Value.ref b :: As).toArray, t, U', L, hT, X', hL, e1, e2, hq, st⟩
theorem zg_callS0 (C : PC E p s m args meth c own cc nL ret nm) {cells slots : Nat} (hM : Met l y (ws_ y bytes maxL rt) rm (va_Pc As (fun _ => True)) (QS v) 0 0 (fun _ => False)) (q1 : Cond.methodLink own index y ∈ lw_all) (q2 : Cond.static y ∈ lw_all) (q4 : Cond.initialized y.cls ∈ lw_all) (q5 : Cond.code y bytes maxL rt ∈ lw_all) (hrc : rm.cells = 0) (hrs : rm.slots = 0) (hd : lenOK y n) (hR : rm.frames + 1 ≤ R.frames ∧ 8 + (maxL + 11) + rm.locals ≤ R.locals) (hn : As.length = n) (hl : ls.size = nL) {st : List Value} (hst : st = As.reverse ++ rest) (hcat : (rest.map fun v => v.category).sum ≤ 8) (hdg : decode cc pc = .ok (.invokestatic index, 3)) (hc0 : cells ≤ R.cells) (hs0 : slots ≤ R.slots)
    (kk : W p l e R s m args below meth c H locs cells slots Q (F0 m (pc + 3) ls (v.toList ++ rest))) : W p l e R s m args below meth c H locs cells slots Q (F0 m pc ls st) := by
  subst hst
  have hrun := va_runS (p := p) (l := l) (e := e) (R := R) (m := m) (below := below) (meth := meth) (c := c) (H := H) (locs := locs) (cells := cells) (slots := slots) (g := F0 m pc ls (As.reverse ++ rest)) (rest := rest) (As := As) ⟨C.1, C.2.1, C.2.2.2.2.1, C.ow, C.2.2.2.2.2.2.1⟩ hM (va_cwS n C.2.2.2.2.2.2.1 (lw_S q1 q2 q4 q5) rfl hrc hrs hd hR) ⟨fun a U g mk q => q, fun U hU hW => ⟨rfl, trivial⟩⟩ rfl hn hl rfl (lv_room hcat) hdg ⟨by simpa using hc0, by simpa using hs0⟩
  intro T hT X
  obtain ⟨v', st₀, t, T', L, e0, X', hL, e1, e2, ⟨hv, hh⟩, st⟩ := hrun T hT X
  cases hv
  obtain ⟨t2, a1, b1⟩ := kk T' (by rw [e1, hh, e0]) (Stand.forget X' (fun q h => (hL q h).elim))
  exact ⟨t2, st t2 a1, b1⟩
/-- room that is never used up -/
theorem RBw.have (G : GoodR Rp E vis new) (hz : ZG Rp E s h0 h H locs) {F1 F2 : Prop} (hr : F1 ∧ F2 ∧ RBw R h0) : pX h - pX h0 ≤ R.cells ∧ pS h - pS h0 ≤ R.slots := by
  have h1 := hz.2.2.1
  have h2 := hz.2.2.2.1
  have h3 := hz.2.2.2.2
  have h4 := hr.2.2.1
  have h5 := hr.2.2.2
  have h6 := (G.2.2.1 h H hz.1).2.2.1
  omega
theorem zo_init (C : PC E p s m args meth c own cc nL ret nm) {cells slots a idx : Nat} (q1 : Cond.methodLink own idx Lib.objectInit ∈ lw_all) (hR : 1 ≤ R.frames ∧ 20 ≤ R.locals) (hl : ls.size = nL) (hcat : (rest.map fun v => v.category).sum ≤ 8) (hdg : decode cc pc = .ok (.invokespecial idx, 3)) (kk : W p l e R s m args below meth c H locs cells slots Q (F0 m (pc + 3) ls rest)) : W p l e R s m args below meth c H locs cells slots Q (F0 m pc ls (.ref a :: rest)) :=
  W.objInit C.1 C.2.1 C.ow (C.w q1) (C.w q122) (C.w q123) rfl (hl.trans C.2.2.2.2.1.symm) rfl hdg hR.1 (by show 2 * 0 + _ + 12 ≤ _; omega) kk
end ZCL
