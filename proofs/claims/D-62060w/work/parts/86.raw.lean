/-! the JDK's own level: every cell as it is; and methods without a world -/
set_option maxRecDepth 100000
def RR (E : PEw) (h : HP) (H : Heap) : Prop :=
  (∀ a, pK h a ≠ 0 → pK h a ≠ 59 → cellOf E h a H ∧ eF E a ∧ a < H.size) ∧
  (pX h = H.size ∧ (∀ q : Nat, H.size ≤ q → eF E q) ∧ (pX h ≤ pO h + 600000 ∧ pS h ≤ 7302250) ∧ pD h = eA E 50 ∧ pM h = eA E 51) ∧
  (∀ a, pK h a = 59 → a = eA E 50 ∧ pN h a = 0) ∧ (∀ a j x, pK h a = 50 → pP h a j = some x → isO (pK h x)) ∧ (¬ eF E (eA E 50) ∧ eA E 50 < H.size)
abbrev ZR (E : PEw) : State → HP → HP → Heap → List Loc → Prop := ZG (RR E) E
abbrev PR (E : PEw) : HP → List Value → Array Value → State → Prop := PGw (RR E) E
abbrev QR (E : PEw) : HP → HP → Option Value → Array Value → State → Outcome → State → Prop := QG (RR E) E
abbrev KR (E : PEw) : List Frame → Array Value → State → (State → Prop) → HP → HP → Option Value → Prop := KG (RR E) E
theorem RR.lt {E : PEw} {h : HP} {H : Heap} (hr : RR E h H) {x : Nat} (hx : pK h x ≠ 0) : x < H.size := by
  by_cases e : pK h x = 59
  · rw [(hr.2.2.1 x e).1]
    exact hr.2.2.2.2.2
  · exact (hr.1 x hx e).2.2
theorem wNew_ne {h : HP} {k n a : Nat} (ha : a ≠ pX h) : pK (wNew h k n) a = pK h a ∧ pN (wNew h k n) a = pN h a ∧ pI (wNew h k n) a = pI h a ∧ pP (wNew h k n) a = pP h a := by
  simp [pK, pN, pI, pP, wNew, va_up, ha]
theorem gR {E : PEw} : GoodR (RR E) E visR newR := by
  refine ⟨fun h H a hr hv => hr.1 a hv.1 hv.2, fun h h' H H' a hr hv hu hO hc e2 e3 => ?_, fun h H hr => hr.2.1, fun h H H' k n hr hk hg hc e2 e3 => ?_, fun h H a hr => hr.2.2.1 a, fun h H a j x hr => hr.2.2.2.1 a j x⟩
  · have hX := hu.X
    obtain ⟨r1, r2, r3, r4, r5⟩ := hr
    refine ⟨fun b h1 h2 => ?_, ?_, fun b hb => ?_, fun b j x hb hx => ?_, by rw [e2]; exact r5⟩
    · rw [hu.1] at h1 h2
      obtain ⟨c1, c2, c3⟩ := r1 b h1 h2
      by_cases e : b = a
      · subst e; exact ⟨hc, c2, by rw [e2]; exact c3⟩
      · exact ⟨c1.kept (by rw [hu.1]) (by rw [hu.2.1]) (hu.2.2.1 b e) (hu.2.2.2.1 b e) (e3 b e), c2, by rw [e2]; exact c3⟩
    · rw [hX.1, hX.2.1, hX.2.2.1, hX.2.2.2.1, hX.2.2.2.2.1, e2]
      exact r2
    · rw [hu.1] at hb
      rw [hu.2.1]
      exact r3 b hb
    · rw [hu.1] at hb ⊢
      by_cases e : b = a
      · subst e; exact hO hb j x hx
      · rw [hu.2.2.2.1 b e] at hx
        exact r4 b j x hb hx
  · have hlt : ∀ x, pK h x ≠ 0 → x ≠ pX h := fun x hx e => by
      have h1 := hr.lt hx
      rw [e, hr.2.1.1] at h1
      omega
    obtain ⟨r1, r2, r3, r4, r5⟩ := hr
    obtain ⟨w1, w2, w3, w4⟩ := wNew_at (h := h) (kd := k) (n := n)
    refine ⟨fun b h1 h2 => ?_, ⟨?_, fun q hq => r2.2.1 q (by omega), ?_, r2.2.2.2⟩, fun b hb => ?_, fun b j x hb hx => ?_, r5.1, by have := r5.2; omega⟩
    · by_cases e : b = pX h
      · subst e
        exact ⟨hc, r2.2.1 _ (by omega), by omega⟩
      · obtain ⟨n1, n2, n3, n4⟩ := wNew_ne (k := k) (n := n) e
        rw [n1] at h1 h2
        obtain ⟨c1, c2, c3⟩ := r1 b h1 h2
        exact ⟨c1.kept n1 n2 n3 n4 (e3 b c3), c2, by omega⟩
    · show pX h + 1 = _
      omega
    · exact ⟨hg.1, hg.2⟩
    · by_cases e : b = pX h
      · subst e
        rw [w1] at hb
        exact absurd hb hk.2
      · obtain ⟨n1, n2, n3, n4⟩ := wNew_ne (k := k) (n := n) e
        rw [n1] at hb
        rw [n2]
        exact r3 b hb
    · by_cases e : b = pX h
      · subst e
        rw [w4] at hx
        cases hx
      · obtain ⟨n1, n2, n3, n4⟩ := wNew_ne (k := k) (n := n) e
        rw [n1] at hb
        rw [n4] at hx
        have ho := r4 b j x hb hx
        rw [(wNew_ne (k := k) (n := n) (hlt x (by omega))).1]
        exact ho
def SC' (p : Program) (s : State) (m : MethodId) (args : Array Value) (meth : Method) (c : Code) (own : String) (cc : ByteArray) (nL : Nat) (ret : Option FieldType) : Prop :=
  p.tables.exec = Jvm.exec ∧ c.code = cc ∧ meth.sig.returnType = ret ∧ meth.locks = false ∧ c.maxLocals = nL ∧ s.vm.findClass own = some m.cls ∧ (∀ w ∈ lw_all, w.before args s = true)
section ZSR
variable {p : Program} {l : Launch} {e : Env} {R : Room} {s : State} {m : MethodId} {args : Array Value} {below : List Frame} {meth : Method} {c : Code} {H : Heap} {locs : List Loc} {Q : State → Prop}
variable {cc : ByteArray} {pc : Nat} {ls : Array Slot} {rest : List Value} {own : String} {nL : Nat} {ret : Option FieldType}
variable {y : MethodName} {bytes : ByteArray} {maxL n index : Nat} {rt : Option FieldType} {rm : Room} {v : Option Value} {As : List Value}
theorem SC'.w (C : SC' p s m args meth c own cc nL ret) {w : Cond} (h : w ∈ lw_all) : w.before args s = true := C.2.2.2.2.2.2 w h
theorem zt_iret (C : SC' p s m args meth c own cc nL (some .int)) {v : Int} (hQ : KS below args s Q (some (.int (zI v)))) (hdg : decode cc pc = .ok (.ireturn, 1)) : W p l e R s m args below meth c s.heap [] 0 0 Q (F0 m pc ls [.int (zI v)]) := by
  unfold KS at hQ
  subst hQ
  exact W.iret C.1 C.2.1 C.2.2.1 (fun t ht _ => ⟨rfl, ht⟩) (fun _ h => by cases h) hdg C.2.2.2.1
theorem zt_zret (C : SC' p s m args meth c own cc nL (some .boolean)) {v : Int} (hv : zisB v) (hQ : KS below args s Q (some (.int (zI v)))) (hdg : decode cc pc = .ok (.ireturn, 1)) : W p l e R s m args below meth c s.heap [] 0 0 Q (F0 m pc ls [.int (zI v)]) := by
  unfold KS at hQ
  subst hQ
  exact W.zret C.1 C.2.1 C.2.2.1 (zisB_n hv) (fun t ht _ => ⟨rfl, ht⟩) (fun _ h => by cases h) hdg C.2.2.2.1
theorem zt_callS0 (C : SC' p s m args meth c own cc nL ret) {cells slots : Nat} (hM : Met l y (ws_ y bytes maxL rt) rm (va_Pc As (fun _ => True)) (QS v) 0 0 (fun _ => False)) (q1 : Cond.methodLink own index y ∈ lw_all) (q2 : Cond.static y ∈ lw_all) (q4 : Cond.initialized y.cls ∈ lw_all) (q5 : Cond.code y bytes maxL rt ∈ lw_all) (hrc : rm.cells = 0) (hrs : rm.slots = 0) (hd : lenOK y n) (hR : rm.frames + 1 ≤ R.frames ∧ 8 + (maxL + 11) + rm.locals ≤ R.locals) (hn : As.length = n) (hl : ls.size = nL) {st : List Value} (hst : st = As.reverse ++ rest) (hcat : (rest.map fun v => v.category).sum ≤ 8) (hdg : decode cc pc = .ok (.invokestatic index, 3)) (hc0 : cells ≤ R.cells) (hs0 : slots ≤ R.slots)
    (kk : W p l e R s m args below meth c H locs cells slots Q (F0 m (pc + 3) ls (v.toList ++ rest))) : W p l e R s m args below meth c H locs cells slots Q (F0 m pc ls st) := by
  subst hst
  have hrun := va_runS (p := p) (l := l) (e := e) (R := R) (m := m) (below := below) (meth := meth) (c := c) (H := H) (locs := locs) (cells := cells) (slots := slots) (g := F0 m pc ls (As.reverse ++ rest)) (rest := rest) (As := As) ⟨C.1, C.2.1, C.2.2.2.2.1, C.2.2.2.2.2.1, C.2.2.2.2.2.2⟩ hM (va_cwS n C.2.2.2.2.2.2 (lw_S q1 q2 q4 q5) rfl hrc hrs hd hR) ⟨fun a U g mk q => q, fun U hU hW => ⟨rfl, trivial⟩⟩ rfl hn hl rfl (lv_room hcat) hdg ⟨by simpa using hc0, by simpa using hs0⟩
  intro T hT X
  obtain ⟨v', st₀, t, T', L, e0, X', hL, e1, e2, ⟨hv, hh⟩, st⟩ := hrun T hT X
  cases hv
  obtain ⟨t2, a1, b1⟩ := kk T' (by rw [e1, hh, e0]) (Stand.forget X' (fun q h => (hL q h).elim))
  exact ⟨t2, st t2 a1, b1⟩
theorem zl_mmax (hx : p.tables.exec = Jvm.exec) (hb : c.code = cc) (hml : c.maxLocals = nL) (hl : ls.size = nL) (hown : s.vm.findClass own = some m.cls) (hts : ∀ w ∈ lw_all, w.before args s = true) {cells slots : Nat} {x y : Int} (q1 : Cond.methodLink own index Lib.Math.max.name ∈ lw_all) (hR : 1 ≤ R.frames ∧ 21 ≤ R.locals) (hcat : (rest.map fun v => v.category).sum ≤ 8) (hc : cells ≤ R.cells) (hs : slots ≤ R.slots) (hdg : decode cc pc = .ok (.invokestatic index, 3)) (kk : W p l e R s m args below meth c H locs cells slots Q (F0 m (pc + 3) ls (.int (zI (zmax x y)) :: rest))) : W p l e R s m args below meth c H locs cells slots Q (F0 m pc ls (.int (zI y) :: .int (zI x) :: rest)) := by
  refine va_mmax hx hb (hml.trans hl.symm) hown (hts _ q1) (hts _ q358) (hts _ q104) (hts _ q359) hR.1 (by omega) hc hs hdg ?_
  have e : (if zI x < zI y then zI y else zI x) = zI (zmax x y) := by unfold zmax; split <;> rfl
  rw [e]
  exact kk
theorem zl_mmin (hx : p.tables.exec = Jvm.exec) (hb : c.code = cc) (hml : c.maxLocals = nL) (hl : ls.size = nL) (hown : s.vm.findClass own = some m.cls) (hts : ∀ w ∈ lw_all, w.before args s = true) {cells slots : Nat} {x y : Int} (q1 : Cond.methodLink own index Lib.Math.min.name ∈ lw_all) (hR : 1 ≤ R.frames ∧ 21 ≤ R.locals) (hcat : (rest.map fun v => v.category).sum ≤ 8) (hc : cells ≤ R.cells) (hs : slots ≤ R.slots) (hdg : decode cc pc = .ok (.invokestatic index, 3)) (kk : W p l e R s m args below meth c H locs cells slots Q (F0 m (pc + 3) ls (.int (zI (zmin x y)) :: rest))) : W p l e R s m args below meth c H locs cells slots Q (F0 m pc ls (.int (zI y) :: .int (zI x) :: rest)) := by
  refine va_mmin hx hb (hml.trans hl.symm) hown (hts _ q1) (hts _ q389) (hts _ q104) (hts _ q390) hR.1 (by omega) hc hs hdg ?_
  have e : (if zI y < zI x then zI y else zI x) = zI (zmin x y) := by unfold zmin; split <;> rfl
  rw [e]
  exact kk
theorem PC.fmt {E : PEw} {nm : String} (C : PC E p s m args meth c own cc nL ret nm) : eV E = .null ∨ ∃ a, eV E = .ref a := C.env.2.2.2.2.2.2.2.2.2.1
theorem zl_aload_n_x (hx : p.tables.exec = Jvm.exec) (hb : c.code = cc) {k : Fin 4} {i : Nat} {v : Value} {cells slots : Nat} (hdg : decode cc pc = .ok (.aload_n k, 1)) (hi : (k : Nat) = i) (hl : ls[i]? = some (.val v)) (hv : v = .null ∨ ∃ a, v = .ref a) (kk : W p l e R s m args below meth c H locs cells slots Q (F0 m (pc + 1) ls (v :: rest))) : W p l e R s m args below meth c H locs cells slots Q (F0 m pc ls rest) := by
  rcases hv with rfl | ⟨a, rfl⟩
  · exact lv_aload_nN hx hb hdg hi hl kk
  · exact lv_aload_n hx hb hdg hi hl kk
end ZSR
