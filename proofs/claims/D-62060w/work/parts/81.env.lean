/-! the page's world under the machine: environment, what a picture says of the heap, rows -/
set_option maxRecDepth 100000
abbrev CSw : Type := ClassId × ClassId × ClassId × ClassId
abbrev PEw : Type := va_G × CSw × (Nat → Nat) × (Nat → Prop) × Value
def eD (E : PEw) : va_G := E.1
def eC (E : PEw) : CSw := E.2.1
def eA (E : PEw) : Nat → Nat := E.2.2.1
def eF (E : PEw) : Nat → Prop := E.2.2.2.1
def eV (E : PEw) : Value := E.2.2.2.2
def eK (E : PEw) (o : Int) : Nat := eA E o.toNat
def sK (E : PEw) (n : Nat) : Nat := eA E (10 + n)
def tKw (E : PEw) (n : Nat) : Nat := eA E (30 + n)
abbrev clPw : List vw_C := [(RX5, TX5, 58), (RX0, TX0, 20), (RX2, TX2, 17), (RX6, TX6, 4), (RX3, TX3, 6), (RX4, TX4, 4), (RX7, TX7, 4), (RX8, TX8, 4), (RJ2, TJ2, 3), (RJ5, TJ5, 4)]
abbrev tysP (cs : CSw) : List (ClassId × FieldType) := [(cs.1, .int), (cs.2.1, .byte), (cs.2.2.1, .object "java/lang/Object"), (cs.2.2.2, .object "PlainPage$Text")]
def cR (c : Nat) : String := (clPw.getD c (RX5, TX5, 58)).1
def cT (c : Nat) : u_T := (clPw.getD c (RX5, TX5, 58)).2.1
def fN (c : Nat) : Nat := (clPw.getD c (RX5, TX5, 58)).2.2
def cY (c : Nat) : Nat → FieldType := [tyX5, tyX0, tyX2, tyX6, tyX3, tyX4, tyX7, tyX8, tyJ2, tyJ5].getD c tyX5
theorem c10 {P : Nat → Prop} (h0 : P 0) (h1 : P 1) (h2 : P 2) (h3 : P 3) (h4 : P 4) (h5 : P 5) (h6 : P 6) (h7 : P 7) (h8 : P 8) (h9 : P 9) : ∀ c, c < 10 → P c := by
  intro c hc
  match c, hc with
  | 0, _ => exact h0
  | 1, _ => exact h1
  | 2, _ => exact h2
  | 3, _ => exact h3
  | 4, _ => exact h4
  | 5, _ => exact h5
  | 6, _ => exact h6
  | 7, _ => exact h7
  | 8, _ => exact h8
  | 9, _ => exact h9
  | n + 10, h => exact absurd h (by omega)
theorem cl_at : ∀ c, c < 10 → clPw[c]? = some (cR c, cT c, fN c) := c10 rfl rfl rfl rfl rfl rfl rfl rfl rfl rfl
theorem cl_in : ∀ c, c < 10 → ∀ w ∈ u_ws (cR c) (cT c) (fN c), w ∈ lw_all := c10 in_X5 in_X0 in_X2 in_X6 in_X3 in_X4 in_X7 in_X8 in_J2 in_J5
theorem cl_ty : ∀ c, c < 10 → ∀ k, k < fN c → parseFieldDescriptor (cT c k).2.2.1 = some (cY c k) := c10 tyX5_ok tyX0_ok tyX2_ok tyX6_ok tyX3_ok tyX4_ok tyX7_ok tyX8_ok tyJ2_ok tyJ5_ok
theorem cl_nm : ∀ c, c < 10 → ∀ a, a < fN c → ∀ b, b < fN c → a ≠ b → (cT c a).2.1 ≠ (cT c b).2.1 := c10 nmX5 nmX0 nmX2 nmX6 nmX3 nmX4 nmX7 nmX8 nmJ2 nmJ5
/-- how a field is held: 0 a whole number, 1 a reference, 2 a State -/
def fRf : List (List Nat) := [[], [1, 1, 1, 0, 0, 1, 1, 0, 2, 0, 0, 0, 1, 0, 1, 1, 0, 0, 1, 1], [1, 0, 0, 0, 1, 1, 0, 1, 0, 0, 0, 0, 0, 0, 0, 0, 0], [1, 0, 1, 1], [1, 1, 1, 1, 0, 0], [1, 1, 0, 0], [0, 0, 0, 1], [1, 0, 1, 1], [0, 1, 0], [1, 0, 0, 0]]
def fR (c k : Nat) : Nat := (fRf.getD c []).getD k 0
def kc (k : Nat) : Nat := if k ≤ 7 then k else if k < 28 ∨ k = 90 then 8 else 9
abbrev isObj (k : Nat) : Prop := (1 ≤ k ∧ k ≤ 7) ∨ isLr k ∨ isSr k
theorem kc_lt {k : Nat} : kc k < 10 := by
  unfold kc
  split
  · omega
  · split <;> omega
def eVal (E : PEw) (o : Int) : Value := if o = -1 then .null else .ref (eK E o)
def fV (E : PEw) (h : HP) (a c k : Nat) : Value := if fR c k = 0 then .int (zI (pI h a k)) else if fR c k = 1 then va_rf (pP h a k) else eVal E (pI h a k)
def cellOf (E : PEw) (h : HP) (a : Nat) (H : Heap) : Prop :=
  (isObj (pK h a) → t_OB a ((eD E).1 (kc (pK h a))) (fN (kc (pK h a))) ((eD E).2 (kc (pK h a))) H (fV E h a (kc (pK h a)))) ∧
  (isI (pK h a) → H[a]? = some (arrV (eC E).1 (pN h a) (fun j => .int (zI (pI h a j))))) ∧
  (isY (pK h a) → H[a]? = some (arrV (eC E).2.1 (pN h a) (fun j => .int (zI (pI h a j)))) ∧ ∀ j, zisY (pI h a j)) ∧
  (pK h a = 50 → H[a]? = some (arrV (eC E).2.2.1 (pN h a) (fun j => va_rf (pP h a j)))) ∧
  (pK h a = 46 → H[a]? = some (arrV (eC E).2.2.2 (pN h a) (fun j => va_rf (pP h a j))))
def hle (h h' : HP) : Prop := pX h ≤ pX h' ∧ pS h ≤ pS h' ∧ pO h' = pO h
theorem hle.rf (h : HP) : hle h h := ⟨Nat.le_refl _, Nat.le_refl _, rfl⟩
theorem hle.tr {a b c : HP} (h1 : hle a b) (h2 : hle b c) : hle a c := ⟨Nat.le_trans h1.1 h2.1, Nat.le_trans h1.2.1 h2.2.1, h2.2.2.trans h1.2.2⟩
/-- h' is h but for the numbers and references at a -/
def upd1 (h h' : HP) (a : Nat) : Prop := pK h' = pK h ∧ pN h' = pN h ∧ (∀ b, b ≠ a → pI h' b = pI h b) ∧ (∀ b, b ≠ a → pP h' b = pP h b) ∧ h'.2.2.2.2 = h.2.2.2.2
theorem upd1.X {h h' : HP} {a : Nat} (u : upd1 h h' a) : pX h' = pX h ∧ pS h' = pS h ∧ pO h' = pO h ∧ pD h' = pD h ∧ pM h' = pM h ∧ pL h' = pL h ∧ pB h' = pB h ∧ pC h' = pC h := by
  obtain ⟨-, -, -, -, e⟩ := u
  unfold pX pS pO pD pM pL pB pC
  rw [e]
  exact ⟨rfl, rfl, rfl, rfl, rfl, rfl, rfl, rfl⟩
theorem upd1_wI {h : HP} {a k : Nat} {v : Int} : upd1 h (wI h a k v) a := ⟨rfl, rfl, fun b hb => by simp [pI, wI, va_up, hb], fun _ _ => rfl, rfl⟩
theorem upd1_wP {h : HP} {a k : Nat} {v : Option Nat} : upd1 h (wP h a k v) a := ⟨rfl, rfl, fun _ _ => rfl, fun b hb => by simp [pP, wP, va_up, hb], rfl⟩
theorem upd1_wCI {h : HP} {a b : Nat} {sp dp n : Int} : upd1 h (wCI h a sp b dp n) b := ⟨rfl, rfl, fun q hb => by simp [pI, wCI, va_up, hb], fun _ _ => rfl, rfl⟩
theorem upd1_wCP {h : HP} {a b : Nat} {sp dp n : Int} : upd1 h (wCP h a sp b dp n) b := ⟨rfl, rfl, fun _ _ => rfl, fun q hb => by simp [pP, wCP, va_up, hb], rfl⟩
theorem cellOf.kept {E : PEw} {h h' : HP} {a : Nat} {H H' : Heap} (hc : cellOf E h a H) (e1 : pK h' a = pK h a) (e2 : pN h' a = pN h a) (e3 : pI h' a = pI h a) (e4 : pP h' a = pP h a) (hq : H'[a]? = H[a]?) : cellOf E h' a H' := by
  have e5 : ∀ c, fV E h' a c = fV E h a c := fun c => by funext k; unfold fV; rw [e3, e4]
  refine ⟨fun g => ?_, fun g => ?_, fun g => ?_, fun g => ?_, fun g => ?_⟩
  · rw [e1] at g ⊢
    rw [e5]
    exact (hc.1 g).kept hq
  · rw [e1] at g
    rw [hq, e2, e3]
    exact hc.2.1 g
  · rw [e1] at g
    rw [hq, e2, e3]
    exact hc.2.2.1 g
  · rw [e1] at g
    rw [hq, e2, e4]
    exact hc.2.2.2.1 g
  · rw [e1] at g
    rw [hq, e2, e4]
    exact hc.2.2.2.2 g
/-- a predicate of pictures and heaps that rows can work over -/
def GoodR (Rp : HP → Heap → Prop) (E : PEw) (vis new : Nat → Prop) : Prop :=
  (∀ (h : HP) (H : Heap) (a : Nat), Rp h H → vis (pK h a) → cellOf E h a H ∧ eF E a ∧ a < H.size) ∧
  (∀ (h h' : HP) (H H' : Heap) (a : Nat), Rp h H → vis (pK h a) → upd1 h h' a → (pK h a = 50 → ∀ j x, pP h' a j = some x → isO (pK h x)) → cellOf E h' a H' → H'.size = H.size → (∀ q : Nat, q ≠ a → H'[q]? = H[q]?) → Rp h' H') ∧
  (∀ (h : HP) (H : Heap), Rp h H → pX h = H.size ∧ (∀ q : Nat, H.size ≤ q → eF E q) ∧ (pX h ≤ pO h + 600000 ∧ pS h ≤ 7302250) ∧ pD h = eA E 50 ∧ pM h = eA E 51) ∧
  (∀ (h : HP) (H H' : Heap) (k n : Nat), Rp h H → new k → rm1 h n → cellOf E (wNew h k n) (pX h) H' → H'.size = H.size + 1 → (∀ q : Nat, q < H.size → H'[q]? = H[q]?) → Rp (wNew h k n) H') ∧
  (∀ (h : HP) (H : Heap) (a : Nat), Rp h H → pK h a = 59 → a = eA E 50 ∧ pN h a = 0) ∧
  (∀ (h : HP) (H : Heap) (a j x : Nat), Rp h H → pK h a = 50 → pP h a j = some x → isO (pK h x))
def FRM (E : PEw) (s : State) (H : Heap) (locs : List Loc) : Prop := s.heap.size ≤ H.size ∧ (∀ q : Nat, q < s.heap.size → ¬ eF E q → H[q]? = s.heap[q]?) ∧ ∀ x ∈ locs, eF E x.base
def ZG (Rp : HP → Heap → Prop) (E : PEw) (s : State) (h0 h : HP) (H : Heap) (locs : List Loc) : Prop := Rp h H ∧ FRM E s H locs ∧ hle h0 h
theorem FRM.put {E : PEw} {s : State} {H H' : Heap} {locs : List Loc} {a k : Nat} (f : FRM E s H locs) (ha : eF E a) (z : H'.size = H.size) (oq : ∀ q : Nat, q ≠ a → H'[q]? = H[q]?) : FRM E s H' (locs ++ [⟨a, k⟩]) := by
  refine ⟨by rw [z]; exact f.1, fun q h1 h2 => ?_, fun x hx => ?_⟩
  · rw [oq q (fun e => h2 (e ▸ ha))]
    exact f.2.1 q h1 h2
  · rcases List.mem_append.mp hx with h | h
    · exact f.2.2 x h
    · rw [List.mem_singleton.mp h]; exact ha
theorem FRM.new {E : PEw} {s : State} {H H' : Heap} {locs : List Loc} (f : FRM E s H locs) (z : H'.size = H.size + 1) (oq : ∀ q : Nat, q < H.size → H'[q]? = H[q]?) : FRM E s H' locs :=
  ⟨by have := f.1; omega, fun q h1 h2 => by rw [oq q (Nat.lt_of_lt_of_le h1 f.1)]; exact f.2.1 q h1 h2, f.2.2⟩
/-- words that ride beside the lists -/
def isNest (w : Cond) : Bool := match w with
  | .fieldLinkNest .. => true
  | .methodLinkNest .. => true
  | .castable .. => true
  | .declares .. => true
  | _ => false
def prSB : List MethodName := [yJ4_ensureCapacityInternal, yJ4_newCapacity]
def NWs (s : State) : Prop := (∀ w ∈ lw_tbl, isNest w = true → va_Nw w s) ∧ (va_AO "java/lang/Object" s ∧ va_AO "PlainPage$Text" s) ∧ ∀ y ∈ prSB, (Cond.selects "java/lang/StringBuilder" y y).before #[] s = true
theorem NWs.warm {s U : State} (hW : s.WarmedH U.vm) (h : NWs s) : NWs U := by
  refine ⟨fun w hw hn => ?_, ⟨h.2.1.1.moved hW.alike, h.2.1.2.moved hW.alike⟩, fun y hy => word_at hW (Or.inl rfl) (h.2.2 y hy)⟩
  have h1 := h.1 w hw hn
  cases w <;> first | exact va_Nw.warmF hW h1 | exact va_Nw.warmM hW h1 | exact va_Nw.warmC hW h1 | exact va_Nw.warmD hW h1 | cases hn
theorem NWs.same {s U : State} (hv : s.vm = U.vm) (h : NWs s) : NWs U := by
  refine ⟨fun w hw hn => ?_, ⟨h.2.1.1.moved (hv ▸ Vm.Alike.refl _), h.2.1.2.moved (hv ▸ Vm.Alike.refl _)⟩, fun y hy => word_at (show s.WarmedH U.vm from hv ▸ State.WarmedH.refl s) (Or.inl rfl) (h.2.2 y hy)⟩
  have h1 := h.1 w hw hn
  refine va_Nw.same ?_ hv h1
  cases w <;> first | rfl | cases hn
def stNm : List String := ["TEXT", "LESS", "SLASH", "START", "END", "COMMENT", "AND", "LETTER"]
def stOrd : List (String × String × String × List Int32) := [("java/lang/Enum", "ordinal", "I", [0, 1, 2, 3, 4, 5, 6, 7])]
/-- the constant texts: the class and entry that name them -/
def sOw (n : Nat) : String × Nat × String := [("PlainPage", 199, ""), ("PlainPage", 271, "c"), ("PlainPage", 276, "uc"), ("PlainPage", 284, "t"), ("PlainPage", 286, "bis"), ("PlainPage", 291, "pdulhtrc"), ("PlainPage", 269, "pdulht"), ("PlainPage", 319, "cbsdmpw"), ("PlainPage", 321, "bin"), ("PlainPage$Element", 40, "pdulht"), ("PlainPage$Element", 48, "bis")].getD n ("", 0, "")
def CStr (E : PEw) (U : State) (H : Heap) (n : Nat) : Prop := vk_R (sOw n).1 (sOw n).2.1 (sOw n).2.2 (sK E n) U ∧ va_O "java/lang/String" (sK E n) (eF E) U H ∧ va_OF "java/lang/String" "coder" "B" (.int 0) (sK E n) (eF E) U H ∧ va_OF "java/lang/String" "value" "[B" (.ref (tKw E n)) (sK E n) (eF E) U H ∧ va_T .byte (tKw E n) (sT n).length (fun j => .int (zI ((sT n).getD j 0))) (eF E) U H
def CEV (E : PEw) (U : State) (H : Heap) : Prop :=
  va_Z "java/util/ArrayList" "DEFAULTCAPACITY_EMPTY_ELEMENTDATA" "[Ljava/lang/Object;" (.ref (eA E 50)) (eF E) U H ∧
  va_T (.object "java/lang/Object") (eA E 50) 0 (fun _ => .null) (eF E) U H ∧
  va_Z "java/lang/String" "COMPACT_STRINGS" "Z" (.int 1) (eF E) U H ∧
  va_Mi "[Ljava/lang/Object;" (eA E 51) U ∧
  va_Z "jdk/internal/util/Preconditions" "SIOOBE_FORMATTER" "Ljava/util/function/BiFunction;" (eV E) (eF E) U H ∧
  va_En "PlainPage$State" "LPlainPage$State;" stNm stOrd (eA E) (eF E) U H ∧
  (va_Nc "PlainPage$Text" "PlainPage$Element" U ∧ va_Nc "PlainPage$Element" "PlainPage$Text" U) ∧
  (eV E = .null ∨ ∃ a, eV E = .ref a) ∧
  ∀ n, n < 11 → CStr E U H n
theorem CStr.to {E : PEw} {u U : State} {H H1 : Heap} {n : Nat} (hvm : u.vm.Alike U.vm) (hq : ∀ a : Nat, a < H.size → ¬ eF E a → H1[a]? = H[a]?) (hR : vk_R (sOw n).1 (sOw n).2.1 (sOw n).2.2 (sK E n) u → vk_R (sOw n).1 (sOw n).2.1 (sOw n).2.2 (sK E n) U) (h : CStr E u H n) : CStr E U H1 n :=
  ⟨hR h.1, (h.2.1.moved hvm).kept hq, (h.2.2.1.moved hvm).kept hq, (h.2.2.2.1.moved hvm).kept hq, (h.2.2.2.2.moved hvm).kept hq⟩
theorem CEV.to {E : PEw} {u U : State} {H H1 : Heap} (hvm : u.vm.Alike U.vm) (hq : ∀ a : Nat, a < H.size → ¬ eF E a → H1[a]? = H[a]?) (hR : ∀ n, vk_R (sOw n).1 (sOw n).2.1 (sOw n).2.2 (sK E n) u → vk_R (sOw n).1 (sOw n).2.1 (sOw n).2.2 (sK E n) U) (h : CEV E u H) : CEV E U H1 := by
  obtain ⟨h1, h2, h3, h4, h5, h6, h7, h8, h9⟩ := h
  exact ⟨(h1.moved hvm).kept hq, (h2.moved hvm).kept hq, (h3.moved hvm).kept hq, h4.moved hvm, (h5.moved hvm).kept hq, (h6.moved hvm).kept hq, ⟨h7.1.moved hvm, h7.2.moved hvm⟩, h8, fun n hn => (h9 n hn).to hvm hq (hR n)⟩
def ENV (E : PEw) (U : State) : Prop := va_K (eD E) clPw (tysP (eC E)) U ∧ NWs U ∧ CEV E U U.heap
theorem ENV.blind {E : PEw} {U : State} {g : JFrame} {mk : MethodId} {a : Array Value} (h : ENV E U) : ENV E (U.calling g mk a) :=
  ⟨va_K.moved (u := U) (U := U.calling g mk a) (Vm.Alike.refl U.vm) h.1, NWs.same (s := U) (U := U.calling g mk a) rfl h.2.1, CEV.to (u := U) (U := U.calling g mk a) (Vm.Alike.refl U.vm) (fun _ _ _ => rfl) (fun _ q => vk_R.same (u := U) (U := U.calling g mk a) rfl q) h.2.2⟩
theorem ENV.at {E : PEw} {s U : State} {H : Heap} {locs : List Loc} (h : ENV E s) (f : FRM E s H locs) (hU : U.heap = H) (hW : s.WarmedH U.vm) : ENV E U :=
  ⟨va_K.moved hW.alike h.1, h.2.1.warm hW, h.2.2.to hW.alike (fun a h1 h2 => by rw [hU]; exact f.2.1 a h1 h2) (fun _ q => q.warm hW)⟩
theorem CEV.now {E : PEw} {s : State} {H : Heap} {locs : List Loc} (h : ENV E s) (f : FRM E s H locs) : CEV E s H := h.2.2.to (Vm.Alike.refl _) f.2.1 (fun _ q => q)
def PGw (Rp : HP → Heap → Prop) (E : PEw) (h : HP) (As : List Value) : Array Value → State → Prop := va_Pc As (fun U => Rp h U.heap ∧ ENV E U)
def QG (Rp : HP → Heap → Prop) (E : PEw) (h h' : HP) (v : Option Value) : Array Value → State → Outcome → State → Prop := fun _ st o t => o = .returned v ∧ Rp h' t.heap ∧ st.heap.size ≤ t.heap.size ∧ (∀ q : Nat, q < st.heap.size → ¬ eF E q → t.heap[q]? = st.heap[q]?) ∧ hle h h'
def KG (Rp : HP → Heap → Prop) (E : PEw) (below : List Frame) (args : Array Value) (s : State) (Q : State → Prop) (h0 h : HP) (v : Option Value) : Prop := MQ below (QG Rp E h0 h v) args s (pX h - pX h0) (pS h - pS h0) (eF E) = Q
theorem ZG.start {Rp : HP → Heap → Prop} {E : PEw} {s : State} {h : HP} (hr : Rp h s.heap) : ZG Rp E s h h s.heap [] := ⟨hr, ⟨Nat.le_refl _, fun _ _ _ => rfl, fun _ q => by cases q⟩, hle.rf h⟩
def rmP (h : HP) (fr lo : Nat) : Room := { frames := fr, cells := pO h + 600000 - pX h, slots := 7302250 - pS h, locals := lo }
def RBw (R : Room) (h0 : HP) : Prop := pO h0 + 600000 - pX h0 ≤ R.cells ∧ 7302250 - pS h0 ≤ R.slots
theorem RBw.rm {h : HP} {fr lo : Nat} : RBw (rmP h fr lo) h := ⟨Nat.le_refl _, Nat.le_refl _⟩
def PC (E : PEw) (p : Program) (s : State) (m : MethodId) (args : Array Value) (meth : Method) (c : Code) (own : String) (cc : ByteArray) (nL : Nat) (ret : Option FieldType) (nm : String) : Prop :=
  p.tables.exec = Jvm.exec ∧ c.code = cc ∧ meth.sig.returnType = ret ∧ meth.locks = false ∧ c.maxLocals = nL ∧ s.vm.findClass own = some m.cls ∧ (∀ w ∈ lw_all, w.before args s = true) ∧ ENV E s ∧ meth.name = nm
section PCS
variable {p : Program} {s : State} {m : MethodId} {args : Array Value} {meth : Method} {c : Code} {E : PEw} {own : String} {cc : ByteArray} {nL : Nat} {ret : Option FieldType} {nm : String}
theorem PC.w (C : PC E p s m args meth c own cc nL ret nm) {w : Cond} (h : w ∈ lw_all) : w.before args s = true := C.2.2.2.2.2.2.1 w h
theorem PC.ow (C : PC E p s m args meth c own cc nL ret nm) : s.vm.findClass own = some m.cls := C.2.2.2.2.2.1
theorem PC.env (C : PC E p s m args meth c own cc nL ret nm) : ENV E s := C.2.2.2.2.2.2.2.1
theorem PC.nwv (C : PC E p s m args meth c own cc nL ret nm) {w : Cond} (h : w ∈ lw_tbl) (g : isNest w = true) : va_Nw w s := C.env.2.1.1 w h g
theorem PC.nw (C : PC E p s m args meth c own cc nL ret nm) {a b d f : String} {i : Nat} {host : String} (h : Cond.fieldLinkNest a i b d f host ∈ lw_tbl) : (Cond.fieldLinkNest a i b d f host).before args s = true := va_Nw.use (A := args) rfl (C.nwv h rfl)
theorem PC.nm' (C : PC E p s m args meth c own cc nL ret nm) {a : String} {i : Nat} {y : MethodName} {host : String} (h : Cond.methodLinkNest a i y host ∈ lw_tbl) : va_Nw (Cond.methodLinkNest a i y host) s := C.nwv h rfl
theorem PC.sm (C : PC E p s m args meth c own cc nL ret nm) {ref owner name desc : String} (h : Cond.sameField ref owner name desc ∈ lw_all) : ∀ x, s.fieldFound? owner name desc = some x → s.fieldFound? ref name desc = some x := u_same (C.w h)
end PCS
abbrev lkF (own : String) (index : Nat) (ref n d : String) (args : Array Value) (s : State) : Prop := (Cond.fieldLink own index ref n d).before args s = true ∨ ∃ host, (Cond.fieldLinkNest own index ref n d host).before args s = true
def gk (vis : Nat → Prop) (c k : Nat) : Prop := kc k = c ∧ isObj k ∧ vis k
