set_option maxRecDepth 100000
abbrev clM : List vw_C := [(RX5, TX5, 58)]
abbrev tyM (cI cZ : ClassId) : List (ClassId × FieldType) := [(cI, .int), (cZ, .boolean)]
theorem mAr_len : mAr.length = 58 ∧ mBo.length = 58 ∧ mLn.length = 58 := by decide
theorem tX5_o : ∀ k, k < 58 → (TX5 k).1 = RX5 ∧ (TX5 k).2.2.2 = false := by decide +kernel
theorem tX5_i : ∀ k, k < 58 → mAr.getD k 0 = 0 → mBo.getD k 0 = 0 → tyX5 k = .int := by decide +kernel
theorem tX5_b : ∀ k, k < 58 → mAr.getD k 0 = 0 → mBo.getD k 0 = 1 → tyX5 k = .boolean := by decide +kernel
def mFv (M : MS) (ad : Nat → Nat) (k : Nat) : Value := if mAr.getD k 0 = 0 then .int (zI (M.1 k)) else .ref (ad k)
def mCl (cI cZ : ClassId) (k : Nat) : ClassId := if mAr.getD k 0 = 2 then cZ else cI
def mAt (k : Nat) : Prop := k < 58 ∧ mAr.getD k 0 ≠ 0
def RM (D : va_G) (cI cZ : ClassId) (mo : Nat) (ad : Nat → Nat) (M : MS) (H : Heap) : Prop :=
  t_OB mo (D.1 0) 58 (D.2 0) H (mFv M ad) ∧ (∀ k, mAt k → H[ad k]? = some (arrV (mCl cI cZ k) (mLn.getD k 0) (fun j => .int (zI (M.2 k j))))) ∧ (∀ i j, mAt i → mAt j → ad i = ad j → i = j) ∧ ∀ k, mAt k → ad k ≠ mo
def MA (mo : Nat) (ad : Nat → Nat) (q : Nat) : Prop := q = mo ∨ ∃ k, mAt k ∧ q = ad k
def ZM (D : va_G) (cI cZ : ClassId) (mo : Nat) (ad : Nat → Nat) (H0 : Heap) (M : MS) (H : Heap) (locs : List Loc) : Prop :=
  RM D cI cZ mo ad M H ∧ H.size = H0.size ∧ (∀ q : Nat, ¬ MA mo ad q → H[q]? = H0[q]?) ∧ ∀ x ∈ locs, MA mo ad x.base
/-- what stays through a method of the reference -/
def MC (p : Program) (s : State) (m : MethodId) (args : Array Value) (meth : Method) (c : Code) (D : va_G) (cI cZ : ClassId) (cc : ByteArray) (nL : Nat) (ret : Option FieldType) : Prop :=
  p.tables.exec = Jvm.exec ∧ c.code = cc ∧ meth.sig.returnType = ret ∧ meth.locks = false ∧ c.maxLocals = nL ∧ s.vm.findClass RX5 = some m.cls ∧ (∀ w ∈ lw_all, w.before args s = true) ∧ va_K D clM (tyM cI cZ) s
def PM (D : va_G) (cI cZ : ClassId) (mo : Nat) (ad : Nat → Nat) (M : MS) (As : List Value) : Array Value → State → Prop := va_Pc (.ref mo :: As) (fun U => RM D cI cZ mo ad M U.heap ∧ va_K D clM (tyM cI cZ) U)
def QM (D : va_G) (cI cZ : ClassId) (mo : Nat) (ad : Nat → Nat) (M : MS) (v : Option Value) : Array Value → State → Outcome → State → Prop := fun _ st o t => o = .returned v ∧ RM D cI cZ mo ad M t.heap ∧ t.heap.size = st.heap.size ∧ ∀ q : Nat, ¬ MA mo ad q → t.heap[q]? = st.heap[q]?
def QS (v : Option Value) : Array Value → State → Outcome → State → Prop := fun _ st o t => o = .returned v ∧ t.heap = st.heap
def KM (below : List Frame) (D : va_G) (cI cZ : ClassId) (mo : Nat) (ad : Nat → Nat) (args : Array Value) (s : State) (Q : State → Prop) (M : MS) (v : Option Value) : Prop := MQ below (QM D cI cZ mo ad M v) args s 0 0 (MA mo ad) = Q
theorem mFv_i {M : MS} {ad : Nat → Nat} {k : Nat} (h : mAr.getD k 0 = 0) : mFv M ad k = .int (zI (M.1 k)) := if_pos h
theorem mFv_a {M : MS} {ad : Nat → Nat} {k : Nat} (h : mAr.getD k 0 ≠ 0) : mFv M ad k = .ref (ad k) := if_neg h
theorem RM.kept {D : va_G} {cI cZ : ClassId} {mo : Nat} {ad : Nat → Nat} {M : MS} {H H1 : Heap} (h : RM D cI cZ mo ad M H) (hq : ∀ q, MA mo ad q → H1[q]? = H[q]?) : RM D cI cZ mo ad M H1 :=
  ⟨h.1.kept (hq mo (Or.inl rfl)), fun k hk => by rw [hq (ad k) (Or.inr ⟨k, hk, rfl⟩)]; exact h.2.1 k hk, h.2.2⟩
theorem RM.setI {D : va_G} {cI cZ : ClassId} {mo : Nat} {ad : Nat → Nat} {M : MS} {H H1 : Heap} {k : Nat} {v : Int} (h : RM D cI cZ mo ad M H) (ha : mAr.getD k 0 = 0) (ho : t_OB mo (D.1 0) 58 (D.2 0) H1 (updV (mFv M ad) k (.int (zI v)))) (hq : ∀ q, q ≠ mo → H1[q]? = H[q]?) : RM D cI cZ mo ad (sI M k v) H1 := by
  refine ⟨ho.to fun j _ => ?_, fun j hj => ?_, h.2.2⟩
  · by_cases e : j = k
    · subst e
      rw [mFv_i ha]
      simp [updV, sI, va_up]
    · simp [updV, e, mFv, sI, va_up]
  · rw [hq _ (h.2.2.2 j hj)]
    exact h.2.1 j hj
theorem RM.setA {D : va_G} {cI cZ : ClassId} {mo : Nat} {ad : Nat → Nat} {M : MS} {H H1 : Heap} {k i : Nat} {v : Int} (h : RM D cI cZ mo ad M H) (ha : mAt k) (ho : H1[ad k]? = some (arrV (mCl cI cZ k) (mLn.getD k 0) (updV (fun j => .int (zI (M.2 k j))) i (.int (zI v))))) (hq : ∀ q, q ≠ ad k → H1[q]? = H[q]?) : RM D cI cZ mo ad (sA M k i v) H1 := by
  refine ⟨(h.1.kept (hq mo (Ne.symm (h.2.2.2 k ha)))).to fun j _ => rfl, fun j hj => ?_, h.2.2⟩
  by_cases e : j = k
  · subst e
    rw [ho]
    congr 2
    funext q
    by_cases hqi : q = i
    · subst hqi; simp [updV, sA, va_up]
    · simp [updV, sA, va_up, hqi]
  · rw [hq _ (fun z => e (h.2.2.1 j k hj ha z)), h.2.1 j hj]
    simp [sA, va_up, e]
section ZMR
variable {p : Program} {l : Launch} {e : Env} {R : Room} {s : State} {m : MethodId} {args : Array Value} {below : List Frame} {meth : Method} {c : Code} {H : Heap} {locs : List Loc} {Q : State → Prop}
variable {cc : ByteArray} {pc : Nat} {ls : Array Slot} {rest : List Value} {D : va_G} {cI cZ : ClassId} {nL : Nat} {ret : Option FieldType} {mo : Nat} {ad : Nat → Nat} {H0 : Heap} {M : MS}
theorem zm_getV (C : MC p s m args meth c D cI cZ cc nL ret) (hZ : ZM D cI cZ mo ad H0 M H locs) (k : Nat) (hk : k < 58) {index : Nat} (hq : Cond.fieldLink RX5 index RX5 (TX5 k).2.1 (TX5 k).2.2.1 ∈ lw_all) (hdg : decode cc pc = .ok (.getfield index, 3))
    (kk : W p l e R s m args below meth c H locs 0 0 Q (F0 m (pc + 3) ls (mFv M ad k :: rest))) : W p l e R s m args below meth c H locs 0 0 Q (F0 m pc ls (.ref mo :: rest)) := by
  obtain ⟨hx, hb, -, -, -, hown, hts, hK⟩ := C
  obtain ⟨cell, q1, q2, q3, q4⟩ := hZ.1.1
  obtain ⟨hS, hfc, kC, hkC, hkind⟩ := hK.1 0 _ rfl
  obtain ⟨cf, kf, fi, f, hi, hsl⟩ := hS k hk
  have hi' : s.fieldFound? RX5 (TX5 k).2.1 (TX5 k).2.2.1 = some (cf, kf, fi, f) := by rw [← (tX5_o k hk).1]; exact hi
  refine W.getf hx hb hown (hts _ hq) hi' (u_facts hfc hkC (u_lays hts in_X5 hk) hi).1 q1 (by rw [q3]; exact fun h => by cases h) (v := mFv M ad k) ?_ rfl rfl hdg kk
  rw [hsl, q4 k hk]
theorem zm_geti (C : MC p s m args meth c D cI cZ cc nL ret) (hZ : ZM D cI cZ mo ad H0 M H locs) (k : Nat) (hk : k < 58) (ha : mAr.getD k 0 = 0) {index : Nat} (hq : Cond.fieldLink RX5 index RX5 (TX5 k).2.1 (TX5 k).2.2.1 ∈ lw_all) (hdg : decode cc pc = .ok (.getfield index, 3))
    (kk : W p l e R s m args below meth c H locs 0 0 Q (F0 m (pc + 3) ls (.int (zI (M.1 k)) :: rest))) : W p l e R s m args below meth c H locs 0 0 Q (F0 m pc ls (.ref mo :: rest)) := zm_getV C hZ k hk hq hdg (by rw [mFv_i ha]; exact kk)
theorem zm_geta (C : MC p s m args meth c D cI cZ cc nL ret) (hZ : ZM D cI cZ mo ad H0 M H locs) (k : Nat) (hk : k < 58) (ha : mAr.getD k 0 ≠ 0) {index : Nat} (hq : Cond.fieldLink RX5 index RX5 (TX5 k).2.1 (TX5 k).2.2.1 ∈ lw_all) (hdg : decode cc pc = .ok (.getfield index, 3))
    (kk : W p l e R s m args below meth c H locs 0 0 Q (F0 m (pc + 3) ls (.ref (ad k) :: rest))) : W p l e R s m args below meth c H locs 0 0 Q (F0 m pc ls (.ref mo :: rest)) := zm_getV C hZ k hk hq hdg (by rw [mFv_a ha]; exact kk)
theorem zm_putV (C : MC p s m args meth c D cI cZ cc nL ret) (hZ : ZM D cI cZ mo ad H0 M H locs) (k : Nat) (hk : k < 58) (ha : mAr.getD k 0 = 0) {v : Int} (hn : narrow (tyX5 k) (.int (zI v)) = .int (zI v)) (hf : fits (tyX5 k) (.int (zI v)) = true) {index : Nat} (hq : Cond.fieldLink RX5 index RX5 (TX5 k).2.1 (TX5 k).2.2.1 ∈ lw_all) (hdg : decode cc pc = .ok (.putfield index, 3))
    (kk : ∀ (H : Heap) (locs : List Loc), ZM D cI cZ mo ad H0 (sI M k v) H locs → W p l e R s m args below meth c H locs 0 0 Q (F0 m (pc + 3) ls rest)) : W p l e R s m args below meth c H locs 0 0 Q (F0 m pc ls (.int (zI v) :: .ref mo :: rest)) := by
  obtain ⟨hx, hb, -, -, -, hown, hts, hK⟩ := C
  have hap := va_apart (own := RX5) hts in_X5 tyX5 tyX5_ok nmX5 hK (ci := 0) rfl
  obtain ⟨cell, q1, q2, q3, q4⟩ := hZ.1.1
  obtain ⟨hS, hfc, kC, hkC, hkind⟩ := hK.1 0 _ rfl
  obtain ⟨cf, kf, fi, f, hi, hsl⟩ := hS k hk
  have hi' : s.fieldFound? RX5 (TX5 k).2.1 (TX5 k).2.2.1 = some (cf, kf, fi, f) := by rw [← (tX5_o k hk).1]; exact hi
  have hlay := hts _ (in_X5 _ (u_in_lay hk))
  unfold u_lay at hlay
  rw [if_neg (by rw [(tX5_o k hk).2]; decide)] at hlay
  have hst := (u_facts hfc hkC (u_lays hts in_X5 hk) hi).1
  have h6 := u_store hfc hkC hkind hlay hi (tyX5_ok k hk) hn hf
  refine W.putK hx hb (f := f) ⟨hown, hts _ hq, ⟨_, _, _, hi'⟩, hst⟩ (by rw [q2]; exact h6) q1 q3 (by rw [hsl]; exact k2_hasslot (q4 k hk)) rfl rfl hdg fun H' e1 e2 e3 => ?_
  rw [hsl] at e1 ⊢
  refine kk H' _ ⟨hZ.1.setI ha ⟨_, e1, q2, q3, t_set q4 hap hk _⟩ e3, e2.trans hZ.2.1, fun q h => (e3 q (fun z => h (Or.inl z))).trans (hZ.2.2.1 q h), fun x hx => ?_⟩
  rcases List.mem_append.mp hx with h | h
  · exact hZ.2.2.2 x h
  · rw [List.mem_singleton.mp h]; exact Or.inl rfl
theorem zm_puti (C : MC p s m args meth c D cI cZ cc nL ret) (hZ : ZM D cI cZ mo ad H0 M H locs) (k : Nat) (hk : k < 58) (ha : mAr.getD k 0 = 0) (hb0 : mBo.getD k 0 = 0) {v : Int} {index : Nat} (hq : Cond.fieldLink RX5 index RX5 (TX5 k).2.1 (TX5 k).2.2.1 ∈ lw_all) (hdg : decode cc pc = .ok (.putfield index, 3))
    (kk : ∀ (H : Heap) (locs : List Loc), ZM D cI cZ mo ad H0 (sI M k v) H locs → W p l e R s m args below meth c H locs 0 0 Q (F0 m (pc + 3) ls rest)) : W p l e R s m args below meth c H locs 0 0 Q (F0 m pc ls (.int (zI v) :: .ref mo :: rest)) :=
  zm_putV C hZ k hk ha (by rw [tX5_i k hk ha hb0]; rfl) (by rw [tX5_i k hk ha hb0]; rfl) hq hdg kk
theorem zm_putb (C : MC p s m args meth c D cI cZ cc nL ret) (hZ : ZM D cI cZ mo ad H0 M H locs) (k : Nat) (hk : k < 58) (ha : mAr.getD k 0 = 0) (hb0 : mBo.getD k 0 = 1) {v : Int} (hv : zisB v) {index : Nat} (hq : Cond.fieldLink RX5 index RX5 (TX5 k).2.1 (TX5 k).2.2.1 ∈ lw_all) (hdg : decode cc pc = .ok (.putfield index, 3))
    (kk : ∀ (H : Heap) (locs : List Loc), ZM D cI cZ mo ad H0 (sI M k v) H locs → W p l e R s m args below meth c H locs 0 0 Q (F0 m (pc + 3) ls rest)) : W p l e R s m args below meth c H locs 0 0 Q (F0 m pc ls (.int (zI v) :: .ref mo :: rest)) :=
  zm_putV C hZ k hk ha (by rw [tX5_b k hk ha hb0]; exact zisB_n hv) (by rw [tX5_b k hk ha hb0]; exact zisB_f hv) hq hdg kk
theorem zm_iald (C : MC p s m args meth c D cI cZ cc nL ret) (hZ : ZM D cI cZ mo ad H0 M H locs) (k : Nat) (hk : k < 58) (ha : mAr.getD k 0 = 1) {n : Nat} (hn : mLn.getD k 0 = n) {i : Int} (hi : zin i n) (hdg : decode cc pc = .ok (.iaload, 1))
    (kk : W p l e R s m args below meth c H locs 0 0 Q (F0 m (pc + 1) ls (.int (zI (M.2 k (zix i))) :: rest))) : W p l e R s m args below meth c H locs 0 0 Q (F0 m pc ls (.int (zI i) :: .ref (ad k) :: rest)) := by
  subst hn
  have hin := zin_vp.mp hi
  have hlt : (zI i).toNatClampNeg < mLn.getD k 0 := Nat.not_le.mp fun q => hin (Or.inr q)
  have hc := hZ.1.2.1 k ⟨hk, by rw [ha]; decide⟩
  have hcl : mCl cI cZ k = cI := if_neg (by rw [ha]; decide)
  rw [hcl] at hc
  exact W.iald (v := .int (zI (M.2 k (zix i)))) C.1 C.2.1 hc ((C.2.2.2.2.2.2.2.2 0 _ rfl).1 _ _) (fun q => by cases q) (by rw [arrV_size]; exact hin) (by rw [arrV_read _ _ hlt]; rfl) rfl rfl hdg kk
theorem zm_zald (C : MC p s m args meth c D cI cZ cc nL ret) (hZ : ZM D cI cZ mo ad H0 M H locs) (k : Nat) (hk : k < 58) (ha : mAr.getD k 0 = 2) {n : Nat} (hn : mLn.getD k 0 = n) {i : Int} (hi : zin i n) (hdg : decode cc pc = .ok (.baload, 1))
    (kk : W p l e R s m args below meth c H locs 0 0 Q (F0 m (pc + 1) ls (.int (zI (M.2 k (zix i))) :: rest))) : W p l e R s m args below meth c H locs 0 0 Q (F0 m pc ls (.int (zI i) :: .ref (ad k) :: rest)) := by
  subst hn
  have hin := zin_vp.mp hi
  have hlt : (zI i).toNatClampNeg < mLn.getD k 0 := Nat.not_le.mp fun q => hin (Or.inr q)
  have hc := hZ.1.2.1 k ⟨hk, by rw [ha]; decide⟩
  have hcl : mCl cI cZ k = cZ := if_pos ha
  rw [hcl] at hc
  exact W.zald (v := .int (zI (M.2 k (zix i)))) C.1 C.2.1 hc ((C.2.2.2.2.2.2.2.2 1 _ rfl).1 _ _) (fun q => by cases q) (by rw [arrV_size]; exact hin) (by rw [arrV_read _ _ hlt]; rfl) rfl rfl hdg kk
theorem zm_iast (C : MC p s m args meth c D cI cZ cc nL ret) (hZ : ZM D cI cZ mo ad H0 M H locs) (k : Nat) (hk : k < 58) (ha : mAr.getD k 0 = 1) {n : Nat} (hn : mLn.getD k 0 = n) {i v : Int} (hi : zin i n) (hdg : decode cc pc = .ok (.iastore, 1))
    (kk : ∀ (H : Heap) (locs : List Loc), ZM D cI cZ mo ad H0 (sA M k (zix i) v) H locs → W p l e R s m args below meth c H locs 0 0 Q (F0 m (pc + 1) ls rest)) : W p l e R s m args below meth c H locs 0 0 Q (F0 m pc ls (.int (zI v) :: .int (zI i) :: .ref (ad k) :: rest)) := by
  subst hn
  have hin := zin_vp.mp hi
  have hat : mAt k := ⟨hk, by rw [ha]; decide⟩
  have hc := hZ.1.2.1 k hat
  have hcl : mCl cI cZ k = cI := if_neg (by rw [ha]; decide)
  have hc' := hc
  rw [hcl] at hc'
  refine W.iast C.1 C.2.1 hc' ((C.2.2.2.2.2.2.2.2 0 _ rfl).1 _ _) (fun q => by cases q) (by rw [arrV_size]; exact hin) rfl rfl hdg fun H1 e1 e2 e3 => ?_
  rw [arrV_store, ← hcl] at e1
  refine kk H1 _ ⟨hZ.1.setA hat e1 e3, e2.trans hZ.2.1, fun q h => (e3 q (fun z => h (Or.inr ⟨k, hat, z⟩))).trans (hZ.2.2.1 q h), fun x hx => ?_⟩
  rcases List.mem_append.mp hx with h | h
  · exact hZ.2.2.2 x h
  · rw [List.mem_singleton.mp h]; exact Or.inr ⟨k, hat, rfl⟩
theorem zm_zast (C : MC p s m args meth c D cI cZ cc nL ret) (hZ : ZM D cI cZ mo ad H0 M H locs) (k : Nat) (hk : k < 58) (ha : mAr.getD k 0 = 2) {n : Nat} (hn : mLn.getD k 0 = n) {i v : Int} (hi : zin i n) (hv : zisB v) (hdg : decode cc pc = .ok (.bastore, 1))
    (kk : ∀ (H : Heap) (locs : List Loc), ZM D cI cZ mo ad H0 (sA M k (zix i) v) H locs → W p l e R s m args below meth c H locs 0 0 Q (F0 m (pc + 1) ls rest)) : W p l e R s m args below meth c H locs 0 0 Q (F0 m pc ls (.int (zI v) :: .int (zI i) :: .ref (ad k) :: rest)) := by
  subst hn
  have hin := zin_vp.mp hi
  have hat : mAt k := ⟨hk, by rw [ha]; decide⟩
  have hc := hZ.1.2.1 k hat
  have hcl : mCl cI cZ k = cZ := if_pos ha
  have hc' := hc
  rw [hcl] at hc'
  refine W.zast C.1 C.2.1 hc' ((C.2.2.2.2.2.2.2.2 1 _ rfl).1 _ _) (fun q => by cases q) (by rw [arrV_size]; exact hin) rfl rfl hdg fun H1 e1 e2 e3 => ?_
  rw [zisB_n hv, arrV_store, ← hcl] at e1
  refine kk H1 _ ⟨hZ.1.setA hat e1 e3, e2.trans hZ.2.1, fun q h => (e3 q (fun z => h (Or.inr ⟨k, hat, z⟩))).trans (hZ.2.2.1 q h), fun x hx => ?_⟩
  rcases List.mem_append.mp hx with h | h
  · exact hZ.2.2.2 x h
  · rw [List.mem_singleton.mp h]; exact Or.inr ⟨k, hat, rfl⟩
theorem zm_iret (C : MC p s m args meth c D cI cZ cc nL (some .int)) (hZ : ZM D cI cZ mo ad s.heap M H locs) {v : Int} (hQ : KM below D cI cZ mo ad args s Q M (some (.int (zI v)))) (hdg : decode cc pc = .ok (.ireturn, 1)) : W p l e R s m args below meth c H locs 0 0 Q (F0 m pc ls [.int (zI v)]) := by
  unfold KM at hQ
  subst hQ
  exact W.iret C.1 C.2.1 C.2.2.1 (fun t ht _ => ⟨rfl, by rw [ht]; exact hZ.1, by rw [ht]; exact hZ.2.1, by rw [ht]; exact hZ.2.2.1⟩) hZ.2.2.2 hdg C.2.2.2.1
theorem zm_zret (C : MC p s m args meth c D cI cZ cc nL (some .boolean)) (hZ : ZM D cI cZ mo ad s.heap M H locs) {v : Int} (hv : zisB v) (hQ : KM below D cI cZ mo ad args s Q M (some (.int (zI v)))) (hdg : decode cc pc = .ok (.ireturn, 1)) : W p l e R s m args below meth c H locs 0 0 Q (F0 m pc ls [.int (zI v)]) := by
  unfold KM at hQ
  subst hQ
  exact W.zret C.1 C.2.1 C.2.2.1 (zisB_n hv) (fun t ht _ => ⟨rfl, by rw [ht]; exact hZ.1, by rw [ht]; exact hZ.2.1, by rw [ht]; exact hZ.2.2.1⟩) hZ.2.2.2 hdg C.2.2.2.1
theorem zm_vret (C : MC p s m args meth c D cI cZ cc nL none) (hZ : ZM D cI cZ mo ad s.heap M H locs) (hQ : KM below D cI cZ mo ad args s Q M none) (hdg : decode cc pc = .ok (.return_, 1)) : W p l e R s m args below meth c H locs 0 0 Q (F0 m pc ls []) := by
  unfold KM at hQ
  subst hQ
  exact W.vret C.1 C.2.1 C.2.2.1 (fun t ht _ => ⟨rfl, by rw [ht]; exact hZ.1, by rw [ht]; exact hZ.2.1, by rw [ht]; exact hZ.2.2.1⟩) hZ.2.2.2 hdg C.2.2.2.1
theorem zm_callV (C : MC p s m args meth c D cI cZ cc nL ret) (hZ : ZM D cI cZ mo ad H0 M H locs) {y : MethodName} {bytes : ByteArray} {maxL n index : Nat} {rt : Option FieldType} {rm : Room} {v : Option Value} {M' : MS} {As : List Value}
    (hM : Met l y (ws_ y bytes maxL rt) rm (PM D cI cZ mo ad M As) (QM D cI cZ mo ad M' v) 0 0 (MA mo ad)) (hw : GoodIn lw_all (wsV RX5 index RX5 y (ws_ y bytes maxL rt))) (hrc : rm.cells = 0) (hrs : rm.slots = 0)
    (hd : y.cls = RX5 ∧ y.cls ≠ "java/lang/invoke/MethodHandle" ∧ y.cls ≠ "java/lang/invoke/VarHandle" ∧ (parseMethodDescriptor y.desc).map (fun d => d.parameters.length) = some n) (hR : rm.frames + 1 ≤ R.frames ∧ 8 + (maxL + 11) + rm.locals ≤ R.locals) (hn : As.length = n) (hl : ls.size = nL) {st : List Value} (hst : st = As.reverse ++ .ref mo :: rest) (hcat : (rest.map fun v => v.category).sum ≤ 8) (hdg : decode cc pc = .ok (.invokevirtual index, 3))
    (kk : ∀ (H : Heap) (locs : List Loc), ZM D cI cZ mo ad H0 M' H locs → W p l e R s m args below meth c H locs 0 0 Q (F0 m (pc + 3) ls (v.toList ++ rest))) : W p l e R s m args below meth c H locs 0 0 Q (F0 m pc ls st) := by
  obtain ⟨hx, hb, -, -, hml, hown, hts, hK⟩ := C
  subst hst
  have hrec : ∃ cell : Cell, H[mo]? = some cell ∧ cell.vm.isStatics = false ∧ s.vm.findClass RX5 = some cell.cls := by
    obtain ⟨cell, q1, q2, q3, -⟩ := hZ.1.1
    exact ⟨cell, q1, by rw [q3]; rfl, by rw [q2]; exact (hK.1 0 _ rfl).2.1⟩
  have hrun := va_runV (p := p) (l := l) (e := e) (R := R) (m := m) (below := below) (meth := meth) (c := c) (H := H) (locs := locs) (cells := 0) (slots := 0) (g := F0 m pc ls (As.reverse ++ .ref mo :: rest)) (rest := rest) (b := mo) (As := As) ⟨hx, hb, hml, hown, hts⟩ hM (cwV n hts hw rfl hrc hrs hd hR) ⟨fun a U g mk q => by obtain ⟨q0, qR, qK⟩ := q; exact ⟨q0, qR, va_K.moved (u := U) (U := U.calling g mk a) (Vm.Alike.refl U.vm) qK⟩, hrec, fun U hU hW => ⟨rfl, by rw [hU]; exact hZ.1, va_K.moved hW.alike hK⟩⟩ rfl hn hl rfl (lv_room hcat) hdg ⟨Nat.zero_le _, Nat.zero_le _⟩
  intro T hT X
  obtain ⟨v', st₀, t, T', L, h0, X', hL, e1, e2, ⟨hv, hRM, hsz, hfr⟩, st⟩ := hrun T hT X
  cases hv
  rw [h0] at hsz hfr
  obtain ⟨t2, a1, b1⟩ := kk T'.heap (locs ++ L) ⟨by rw [e1]; exact hRM, by rw [e1]; exact hsz.trans hZ.2.1, fun q h => by rw [e1]; exact (hfr q h).trans (hZ.2.2.1 q h), fun x hx => by
      rcases List.mem_append.mp hx with h | h
      · exact hZ.2.2.2 x h
      · exact hL x h⟩ T' rfl X'
  exact ⟨t2, st t2 a1, b1⟩
theorem zm_callS (C : MC p s m args meth c D cI cZ cc nL ret) {y : MethodName} {bytes : ByteArray} {maxL n index : Nat} {rt : Option FieldType} {rm : Room} {v : Option Value} {As : List Value} {cells slots : Nat}
    (hM : Met l y (ws_ y bytes maxL rt) rm (va_Pc As (fun _ => True)) (QS v) 0 0 (fun _ => False)) (hw : GoodIn lw_all (va_wsS RX5 index y (ws_ y bytes maxL rt))) (hrc : rm.cells = 0) (hrs : rm.slots = 0)
    (hd : y.cls ≠ "java/lang/invoke/MethodHandle" ∧ y.cls ≠ "java/lang/invoke/VarHandle" ∧ (parseMethodDescriptor y.desc).map (fun d => d.parameters.length) = some n) (hR : rm.frames + 1 ≤ R.frames ∧ 8 + (maxL + 11) + rm.locals ≤ R.locals) (hn : As.length = n) (hl : ls.size = nL) {st : List Value} (hst : st = As.reverse ++ rest) (hcat : (rest.map fun v => v.category).sum ≤ 8) (hdg : decode cc pc = .ok (.invokestatic index, 3)) (hc0 : cells ≤ R.cells) (hs0 : slots ≤ R.slots)
    (kk : W p l e R s m args below meth c H locs cells slots Q (F0 m (pc + 3) ls (v.toList ++ rest))) : W p l e R s m args below meth c H locs cells slots Q (F0 m pc ls st) := by
  obtain ⟨hx, hb, -, -, hml, hown, hts, hK⟩ := C
  subst hst
  have hrun := va_runS (p := p) (l := l) (e := e) (R := R) (m := m) (below := below) (meth := meth) (c := c) (H := H) (locs := locs) (cells := cells) (slots := slots) (g := F0 m pc ls (As.reverse ++ rest)) (rest := rest) (As := As) ⟨hx, hb, hml, hown, hts⟩ hM (va_cwS n hts hw rfl hrc hrs hd hR) ⟨fun a U g mk q => q, fun U hU hW => ⟨rfl, trivial⟩⟩ rfl hn hl rfl (lv_room hcat) hdg ⟨by simpa using hc0, by simpa using hs0⟩
  intro T hT X
  obtain ⟨v', st₀, t, T', L, h0, X', hL, e1, e2, ⟨hv, hh⟩, st⟩ := hrun T hT X
  cases hv
  obtain ⟨t2, a1, b1⟩ := kk T' (by rw [e1, hh, h0]) (Stand.forget X' (fun q h => (hL q h).elim))
  exact ⟨t2, st t2 a1, b1⟩
/-- what stays through a static method of the reference -/
def SC (p : Program) (s : State) (m : MethodId) (args : Array Value) (meth : Method) (c : Code) (cc : ByteArray) (nL : Nat) (ret : Option FieldType) : Prop :=
  p.tables.exec = Jvm.exec ∧ c.code = cc ∧ meth.sig.returnType = ret ∧ meth.locks = false ∧ c.maxLocals = nL ∧ s.vm.findClass RX5 = some m.cls ∧ (∀ w ∈ lw_all, w.before args s = true)
def KS (below : List Frame) (args : Array Value) (s : State) (Q : State → Prop) (v : Option Value) : Prop := MQ below (QS v) args s 0 0 (fun _ => False) = Q
theorem zs_iret (C : SC p s m args meth c cc nL (some .int)) {v : Int} (hQ : KS below args s Q (some (.int (zI v)))) (hdg : decode cc pc = .ok (.ireturn, 1)) : W p l e R s m args below meth c s.heap [] 0 0 Q (F0 m pc ls [.int (zI v)]) := by
  unfold KS at hQ
  subst hQ
  exact W.iret C.1 C.2.1 C.2.2.1 (fun t ht _ => ⟨rfl, ht⟩) (fun _ h => by cases h) hdg C.2.2.2.1
theorem zs_zret (C : SC p s m args meth c cc nL (some .boolean)) {v : Int} (hv : zisB v) (hQ : KS below args s Q (some (.int (zI v)))) (hdg : decode cc pc = .ok (.ireturn, 1)) : W p l e R s m args below meth c s.heap [] 0 0 Q (F0 m pc ls [.int (zI v)]) := by
  unfold KS at hQ
  subst hQ
  exact W.zret C.1 C.2.1 C.2.2.1 (zisB_n hv) (fun t ht _ => ⟨rfl, ht⟩) (fun _ h => by cases h) hdg C.2.2.2.1
theorem zs_callS (C : SC p s m args meth c cc nL ret) {y : MethodName} {bytes : ByteArray} {maxL n index : Nat} {rt : Option FieldType} {rm : Room} {v : Option Value} {As : List Value} {cells slots : Nat}
    (hM : Met l y (ws_ y bytes maxL rt) rm (va_Pc As (fun _ => True)) (QS v) 0 0 (fun _ => False)) (hw : GoodIn lw_all (va_wsS RX5 index y (ws_ y bytes maxL rt))) (hrc : rm.cells = 0) (hrs : rm.slots = 0)
    (hd : y.cls ≠ "java/lang/invoke/MethodHandle" ∧ y.cls ≠ "java/lang/invoke/VarHandle" ∧ (parseMethodDescriptor y.desc).map (fun d => d.parameters.length) = some n) (hR : rm.frames + 1 ≤ R.frames ∧ 8 + (maxL + 11) + rm.locals ≤ R.locals) (hn : As.length = n) (hl : ls.size = nL) {st : List Value} (hst : st = As.reverse ++ rest) (hcat : (rest.map fun v => v.category).sum ≤ 8) (hdg : decode cc pc = .ok (.invokestatic index, 3)) (hc0 : cells ≤ R.cells) (hs0 : slots ≤ R.slots)
    (kk : W p l e R s m args below meth c H locs cells slots Q (F0 m (pc + 3) ls (v.toList ++ rest))) : W p l e R s m args below meth c H locs cells slots Q (F0 m pc ls st) := by
  obtain ⟨hx, hb, -, -, hml, hown, hts⟩ := C
  subst hst
  have hrun := va_runS (p := p) (l := l) (e := e) (R := R) (m := m) (below := below) (meth := meth) (c := c) (H := H) (locs := locs) (cells := cells) (slots := slots) (g := F0 m pc ls (As.reverse ++ rest)) (rest := rest) (As := As) ⟨hx, hb, hml, hown, hts⟩ hM (va_cwS n hts hw rfl hrc hrs hd hR) ⟨fun a U g mk q => q, fun U hU hW => ⟨rfl, trivial⟩⟩ rfl hn hl rfl (lv_room hcat) hdg ⟨by simpa using hc0, by simpa using hs0⟩
  intro T hT X
  obtain ⟨v', st₀, t, T', L, h0, X', hL, e1, e2, ⟨hv, hh⟩, st⟩ := hrun T hT X
  cases hv
  obtain ⟨t2, a1, b1⟩ := kk T' (by rw [e1, hh, h0]) (Stand.forget X' (fun q h => (hL q h).elim))
  exact ⟨t2, st t2 a1, b1⟩
end ZMR
