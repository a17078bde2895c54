/-! System.arraycopy; the rows of methods without a world -/
set_option maxRecDepth 100000
section ZCP
variable {p : Program} {l : Launch} {e : Env} {R : Room} {s : State} {m : MethodId} {args : Array Value} {below : List Frame} {meth : Method} {c : Code} {H : Heap} {locs : List Loc} {Q : State → Prop}
variable {cc : ByteArray} {pc : Nat} {ls : Array Slot} {rest : List Value} {E : PEw} {own : String} {nL : Nat} {ret : Option FieldType} {nm : String} {Rp : HP → Heap → Prop} {vis new : Nat → Prop} {h0 h h1 : HP} {cells slots : Nat}
theorem zw_copyi {a0 a : Nat} {c0 c1 : ClassId} {n0 n1 : Nat} {f g : Nat → Int32} {ty : FieldType} (C : PC E p s m args meth c own cc nL ret nm) (hl : ls.size = nL) {index : Nat} (q1 : Cond.methodLink own index arraycopyName ∈ lw_all) (hA0 : ArrOfT s c0 ty) (hA1 : ArrOfT s c1 ty) (hc0 : H[a0]? = some (arrV c0 n0 (fun j => .int (f j)))) (hc1 : H[a]? = some (arrV c1 n1 (fun j => .int (g j)))) (hprim : refKind ty = false)
    {sp dp n : Int32} (h1 : ¬ sp < 0) (h2 : ¬ dp < 0) (h3 : ¬ n < 0) (h4 : sp.toNatClampNeg + n.toNatClampNeg ≤ n0) (h5 : dp.toNatClampNeg + n.toNatClampNeg ≤ n1) (hfit : ∀ i, i < n.toNatClampNeg → fits ty (.int (f (sp.toNatClampNeg + i))) = true)
    (hframes : 1 ≤ R.frames) (hlocals : (rest.map fun v => v.category).sum + (nativeFrameWords "java/lang/System" "arraycopy" 5 + 11) ≤ R.locals) (hdg : decode cc pc = .ok (.invokestatic index, 3))
    (kk : ∀ (H1 : Heap) (L : List Loc), H1[a]? = some (arrV c1 n1 (fun j => .int (va_cpy f g sp.toNatClampNeg dp.toNatClampNeg n.toNatClampNeg j))) → H1.size = H.size → (∀ q : Nat, q ≠ a → H1[q]? = H[q]?) → (∀ x ∈ L, x.base = a) → W p l e R s m args below meth c H1 (locs ++ L) cells slots Q (F0 m (pc + 3) ls rest)) : W p l e R s m args below meth c H locs cells slots Q (F0 m pc ls (.int n :: .int dp :: .ref a :: .int sp :: .ref a0 :: rest)) := by
  have nn : ∀ z : Int32, ¬ z < 0 → z.toInt = (z.toNatClampNeg : Int) := by
    intro z hz
    have hz0 : (0 : Int) ≤ z.toInt := by
      have := Int32.not_lt.mp hz
      simpa using Int32.le_iff_toInt_le.mp this
    show z.toInt = ((z.toInt.toNat : Nat) : Int)
    omega
  intro T hT X
  obtain ⟨-, k0, hk0, cm0, hkk0⟩ := hA0 n0 (fun j => .int (f j))
  obtain ⟨-, k1, hk1, cm1, hkk1⟩ := hA1 n1 (fun j => .int (g j))
  obtain ⟨vm', X', step⟩ := X.arraycopy C.1 C.ow (C.w q1) (C.w q393) (C.w q392) (C.w q106) (src := a0) (dst := a) (cs := arrV c0 n0 (fun j => .int (f j))) (cd := arrV c1 n1 (fun j => .int (g j))) (srcPos := sp) (destPos := dp) (n := n) (by rw [hT]; exact hc0) (by rw [hT]; exact hc1)
    (fun _ h => by cases h) (fun _ h => by cases h) (fun h => by cases h) (fun h => by cases h) hk0 hk1 hkk0 hkk1 (by simp [hprim]) h1 h2 h3
    (by rw [nn sp h1, nn n h3, arrV_size]; omega)
    (by rw [nn dp h2, nn n h3, arrV_size]; omega)
    (fun vm₁ hal i hi => by
      have e : (arrV c0 n0 (fun j => .int (f j))).slots.getD (sp.toNatClampNeg + i) .null = .int (f (sp.toNatClampNeg + i)) := by
        rw [Array.getD_eq_getD_getElem?, arrV_read _ _ (by omega)]
        rfl
      refine ⟨?_, ?_⟩
      · rw [e]
        exact hfit i hi
      · rw [e]
        exact trivial)
    (g := F0 m pc ls (.int n :: .int dp :: .ref a :: .int sp :: .ref a0 :: rest)) rfl (by rw [C.2.2.2.2.1]; exact hl) (rest := rest) rfl (by rw [C.2.1]; exact hdg) hframes (by show 2 * 0 + _ + _ ≤ _; omega)
  have e1 : copied (arrV c0 n0 (fun j => .int (f j))) (arrV c1 n1 (fun j => .int (g j))) sp dp n = arrV c1 n1 (fun j => .int (va_cpy f g sp.toNatClampNeg dp.toNatClampNeg n.toNatClampNeg j)) := va_copied (fun z => .int z) c0 c1 f g h4
  rw [e1] at X' step
  have hla : a < H.size := (Array.getElem?_eq_some_iff.mp hc1).1
  have hheap : ((T.setVm vm').setCell a (arrV c1 n1 (fun j => .int (va_cpy f g sp.toNatClampNeg dp.toNatClampNeg n.toNatClampNeg j)))).heap = H.setIfInBounds a (arrV c1 n1 (fun j => .int (va_cpy f g sp.toNatClampNeg dp.toNatClampNeg n.toNatClampNeg j))) := by rw [← hT]; rfl
  obtain ⟨t, a1, b1⟩ := kk _ _ (show (H.setIfInBounds a _)[a]? = some _ by simp [Array.getElem?_setIfInBounds, hla]) (by simp) (fun q hq => by simp [Array.getElem?_setIfInBounds, Ne.symm hq]) (fun x hx => by
      obtain ⟨z, -, hz⟩ := List.mem_map.mp hx
      rw [← hz]) _ hheap X'
  exact ⟨t, step t a1, b1⟩
theorem zw_copyq {a0 a : Nat} {c0 c1 : ClassId} {n0 n1 : Nat} {f g : Nat → Option Nat} {E1 : String} (C : PC E p s m args meth c own cc nL ret nm) (hl : ls.size = nL) {index : Nat} (q1 : Cond.methodLink own index arraycopyName ∈ lw_all) (hA0 : ArrOfT s c0 (.object E1)) (hA1 : ArrOfT s c1 (.object E1)) (hR1 : va_RA s c1 (.object E1)) (hc0 : H[a0]? = some (arrV c0 n0 (fun j => va_rf (f j)))) (hc1 : H[a]? = some (arrV c1 n1 (fun j => va_rf (g j))))
    {sp dp n : Int32} (h1 : ¬ sp < 0) (h2 : ¬ dp < 0) (h3 : ¬ n < 0) (h4 : sp.toNatClampNeg + n.toNatClampNeg ≤ n0) (h5 : dp.toNatClampNeg + n.toNatClampNeg ≤ n1) (hel : ∀ i : Nat, i < n.toNatClampNeg → ∀ y : Nat, f (sp.toNatClampNeg + i) = some y → va_Any E1 s H y)
    (hframes : 1 ≤ R.frames) (hlocals : (rest.map fun v => v.category).sum + (nativeFrameWords "java/lang/System" "arraycopy" 5 + 11) ≤ R.locals) (hdg : decode cc pc = .ok (.invokestatic index, 3))
    (kk : ∀ (H1 : Heap) (L : List Loc), H1[a]? = some (arrV c1 n1 (fun j => va_rf (va_cpy f g sp.toNatClampNeg dp.toNatClampNeg n.toNatClampNeg j))) → H1.size = H.size → (∀ q : Nat, q ≠ a → H1[q]? = H[q]?) → (∀ x ∈ L, x.base = a) → W p l e R s m args below meth c H1 (locs ++ L) cells slots Q (F0 m (pc + 3) ls rest)) : W p l e R s m args below meth c H locs cells slots Q (F0 m pc ls (.int n :: .int dp :: .ref a :: .int sp :: .ref a0 :: rest)) := by
  have nn : ∀ z : Int32, ¬ z < 0 → z.toInt = (z.toNatClampNeg : Int) := by
    intro z hz
    have hz0 : (0 : Int) ≤ z.toInt := by
      have := Int32.not_lt.mp hz
      simpa using Int32.le_iff_toInt_le.mp this
    show z.toInt = ((z.toInt.toNat : Nat) : Int)
    omega
  intro T hT X
  obtain ⟨-, k0, hk0, cm0, hkk0⟩ := hA0 n0 (fun j => va_rf (f j))
  obtain ⟨-, k1, hk1, cm1, hkk1⟩ := hA1 n1 (fun j => va_rf (g j))
  obtain ⟨vm', X', step⟩ := X.arraycopy C.1 C.ow (C.w q1) (C.w q393) (C.w q392) (C.w q106) (src := a0) (dst := a) (cs := arrV c0 n0 (fun j => va_rf (f j))) (cd := arrV c1 n1 (fun j => va_rf (g j))) (srcPos := sp) (destPos := dp) (n := n) (by rw [hT]; exact hc0) (by rw [hT]; exact hc1)
    (fun _ h => by cases h) (fun _ h => by cases h) (fun h => by cases h) (fun h => by cases h) hk0 hk1 hkk0 hkk1 rfl h1 h2 h3
    (by rw [nn sp h1, nn n h3, arrV_size]; omega)
    (by rw [nn dp h2, nn n h3, arrV_size]; omega)
    (fun vm₁ hal i hi => by
      have e : (arrV c0 n0 (fun j => va_rf (f j))).slots.getD (sp.toNatClampNeg + i) .null = va_rf (f (sp.toNatClampNeg + i)) := by
        rw [Array.getD_eq_getD_getElem?, arrV_read _ _ (by omega)]
        rfl
      rw [e]
      cases hy : f (sp.toNatClampNeg + i) with
      | none => exact ⟨rfl, trivial⟩
      | some y =>
        obtain ⟨cellV, g1, g2, ⟨kC, hkC⟩, hasg⟩ := hel i hi y hy
        obtain ⟨kA, comp, r1, r2, r3, -⟩ := hR1
        cases hk1.symm.trans r1
        cases hkk1.symm.trans r2
        obtain ⟨kE, hkE, -⟩ := Vm.findClass_spec r3
        obtain ⟨kC', hkC', -⟩ := hal.2.2 _ _ hkC
        obtain ⟨kE', hkE', -⟩ := hal.2.2 _ _ hkE
        refine ⟨rfl, cellV, (show T.heap[y]? = some cellV by rw [hT]; exact g1), (fun q h => by rw [h] at g2; cases g2), ⟨kC', hkC'⟩, ?_, ?_⟩
        · exact ⟨kE', hkE'⟩
        · show vm₁.assignable _ _ = true
          rw [hal.assignable]
          exact hasg _ r3)
    (g := F0 m pc ls (.int n :: .int dp :: .ref a :: .int sp :: .ref a0 :: rest)) rfl (by rw [C.2.2.2.2.1]; exact hl) (rest := rest) rfl (by rw [C.2.1]; exact hdg) hframes (by show 2 * 0 + _ + _ ≤ _; omega)
  have e1 : copied (arrV c0 n0 (fun j => va_rf (f j))) (arrV c1 n1 (fun j => va_rf (g j))) sp dp n = arrV c1 n1 (fun j => va_rf (va_cpy f g sp.toNatClampNeg dp.toNatClampNeg n.toNatClampNeg j)) := va_copied (fun z => va_rf z) c0 c1 f g h4
  rw [e1] at X' step
  have hla : a < H.size := (Array.getElem?_eq_some_iff.mp hc1).1
  have hheap : ((T.setVm vm').setCell a (arrV c1 n1 (fun j => va_rf (va_cpy f g sp.toNatClampNeg dp.toNatClampNeg n.toNatClampNeg j)))).heap = H.setIfInBounds a (arrV c1 n1 (fun j => va_rf (va_cpy f g sp.toNatClampNeg dp.toNatClampNeg n.toNatClampNeg j))) := by rw [← hT]; rfl
  obtain ⟨t, a1, b1⟩ := kk _ _ (show (H.setIfInBounds a _)[a]? = some _ by simp [Array.getElem?_setIfInBounds, hla]) (by simp) (fun q hq => by simp [Array.getElem?_setIfInBounds, Ne.symm hq]) (fun x hx => by
      obtain ⟨z, -, hz⟩ := List.mem_map.mp hx
      rw [← hz]) _ hheap X'
  exact ⟨t, step t a1, b1⟩
theorem zcp_nat {z : Int} (h : 0 ≤ (zI z).toInt) : ¬ zI z < 0 ∧ ((zix z : Nat) : Int) = (zI z).toInt := by
  refine ⟨fun q => ?_, ?_⟩
  · have := Int32.lt_iff_toInt_lt.mp q
    simp at this
    omega
  · unfold zix
    show (((zI z).toInt.toNat : Nat) : Int) = _
    omega
theorem FRM.putL {H' : Heap} {a : Nat} {L : List Loc} (f : FRM E s H locs) (ha : eF E a) (z : H'.size = H.size) (oq : ∀ q : Nat, q ≠ a → H'[q]? = H[q]?) (hL : ∀ x ∈ L, x.base = a) : FRM E s H' (locs ++ L) := by
  refine ⟨by rw [z]; exact f.1, fun q g1 g2 => ?_, fun x hx => ?_⟩
  · rw [oq q (fun e => g2 (e ▸ ha))]
    exact f.2.1 q g1 g2
  · rcases List.mem_append.mp hx with q | q
    · exact f.2.2 x q
    · rw [hL x q]; exact ha
theorem zg_copyK {a b index : Nat} {sp dp n : Int} (G : GoodR Rp E vis new) (C : PC E p s m args meth c own cc nL ret nm) (hz : ZG Rp E s h0 h H locs) (hg : cpOK h a sp b dp n) (ty : FieldType) (cA : ClassId) (hvb : vis (pK h b)) (hA : ArrOfT s cA ty) (hp : refKind ty = false) (c0 : H[a]? = some (arrV cA (pN h a) (fun j => .int (zI (pI h a j))))) (c1 : H[b]? = some (arrV cA (pN h b) (fun j => .int (zI (pI h b j))))) (hfit : ∀ i, fits ty (.int (zI (pI h a i))) = true) (hne : pK h b ≠ 50) (hcell : ∀ H' : Heap, H'[b]? = some (arrV cA (pN h b) (fun j => .int (zI (pI (wCI h a sp b dp n) b j)))) → cellOf E (wCI h a sp b dp n) b H') (q1 : Cond.methodLink own index arraycopyName ∈ lw_all) (hl : ls.size = nL) (hR : 1 ≤ R.frames ∧ 44 ≤ R.locals) (hcat : (rest.map fun v => v.category).sum ≤ 8) (hdg : decode cc pc = .ok (.invokestatic index, 3)) (eh : h1 = wCI h a sp b dp n)
    (kk : ∀ (H : Heap) (locs : List Loc), ZG Rp E s h0 h1 H locs → W p l e R s m args below meth c H locs (pX h1 - pX h0) (pS h1 - pS h0) Q (F0 m (pc + 3) ls rest)) : W p l e R s m args below meth c H locs (pX h - pX h0) (pS h - pS h0) Q (F0 m pc ls (.int (zI n) :: .int (zI dp) :: .ref b :: .int (zI sp) :: .ref a :: rest)) := by
  subst eh
  obtain ⟨g1, g2, g3, g4, g5⟩ := hg
  obtain ⟨s1, s2⟩ := zcp_nat g1
  obtain ⟨d1, d2⟩ := zcp_nat g2
  obtain ⟨n1, n2⟩ := zcp_nat g3
  have hnf : nativeFrameWords "java/lang/System" "arraycopy" 5 + 11 ≤ 36 := by decide
  refine zw_copyi C hl q1 hA hA c0 c1 hp s1 d1 n1 (by show zix sp + zix n ≤ _; omega) (by show zix dp + zix n ≤ _; omega) (fun i _ => hfit _) hR.1 (by omega) hdg (fun H1 L e1 e2 e3 e4 => ?_)
  refine kk H1 _ ⟨G.2.1 h _ H H1 b hz.1 hvb upd1_wCI (fun q => absurd q hne) (hcell H1 ?_) e2 e3, hz.2.1.putL (G.1 h H b hz.1 hvb).2.1 e2 e3 e4, hz.2.2⟩
  rw [e1]
  congr 2
  funext j
  have e5 : pI (wCI h a sp b dp n) b = va_cpy (pI h a) (pI h b) (zix sp) (zix dp) (zix n) := by simp [pI, wCI, va_up]
  rw [e5]
  simp only [va_cpy, zix]
  by_cases hc : (zI dp).toNatClampNeg ≤ j ∧ j < (zI dp).toNatClampNeg + (zI n).toNatClampNeg
  · simp [hc]
  · simp [hc]
theorem zg_copyI {a b index : Nat} {sp dp n : Int} (G : GoodR Rp E vis new) (C : PC E p s m args meth c own cc nL ret nm) (hz : ZG Rp E s h0 h H locs) (hg : cpOKI h a sp b dp n) (q1 : Cond.methodLink own index arraycopyName ∈ lw_all) (hl : ls.size = nL) (hR : 1 ≤ R.frames ∧ 44 ≤ R.locals) (hcat : (rest.map fun v => v.category).sum ≤ 8) (hdg : decode cc pc = .ok (.invokestatic index, 3)) (eh : h1 = wCI h a sp b dp n)
    (kk : ∀ (H : Heap) (locs : List Loc), ZG Rp E s h0 h1 H locs → W p l e R s m args below meth c H locs (pX h1 - pX h0) (pS h1 - pS h0) Q (F0 m (pc + 3) ls rest)) (hv : ∀ k, isI k → vis k := by exact fun _ => vP_I) : W p l e R s m args below meth c H locs (pX h - pX h0) (pS h - pS h0) Q (F0 m pc ls (.int (zI n) :: .int (zI dp) :: .ref b :: .int (zI sp) :: .ref a :: rest)) := by
  obtain ⟨⟨k1, k2⟩, hc⟩ := hg
  exact zg_copyK G C hz hc .int (eC E).1 (hv _ k2) (C.env.1.2 0 _ rfl).1 rfl ((G.1 h H a hz.1 (hv _ k1)).1.2.1 k1) ((G.1 h H b hz.1 (hv _ k2)).1.2.1 k2) (fun _ => rfl) (by omega) (fun H' e => cellOf_i k2 e) q1 hl hR hcat hdg eh kk
theorem zg_copyY {a b index : Nat} {sp dp n : Int} (G : GoodR Rp E vis new) (C : PC E p s m args meth c own cc nL ret nm) (hz : ZG Rp E s h0 h H locs) (hg : cpOKY h a sp b dp n) (q1 : Cond.methodLink own index arraycopyName ∈ lw_all) (hl : ls.size = nL) (hR : 1 ≤ R.frames ∧ 44 ≤ R.locals) (hcat : (rest.map fun v => v.category).sum ≤ 8) (hdg : decode cc pc = .ok (.invokestatic index, 3)) (eh : h1 = wCI h a sp b dp n)
    (kk : ∀ (H : Heap) (locs : List Loc), ZG Rp E s h0 h1 H locs → W p l e R s m args below meth c H locs (pX h1 - pX h0) (pS h1 - pS h0) Q (F0 m (pc + 3) ls rest)) (hv : vis 51 := by decide) : W p l e R s m args below meth c H locs (pX h - pX h0) (pS h - pS h0) Q (F0 m pc ls (.int (zI n) :: .int (zI dp) :: .ref b :: .int (zI sp) :: .ref a :: rest)) := by
  obtain ⟨⟨k1, k2⟩, hc⟩ := hg
  have va : vis (pK h a) := by rw [k1]; exact hv
  have vb : vis (pK h b) := by rw [k2]; exact hv
  have ca := (G.1 h H a hz.1 va).1.2.2.1 (Or.inr k1)
  have cb := (G.1 h H b hz.1 vb).1.2.2.1 (Or.inr k2)
  refine zg_copyK G C hz hc .byte (eC E).2.1 vb (C.env.1.2 1 _ rfl).1 rfl ca.1 cb.1 (fun i => (zisY_n (ca.2 i)).2) (by omega) (fun H' e => cellOf_y (Or.inr k2) ⟨e, fun j => ?_⟩) q1 hl hR hcat hdg eh kk
  have e5 : pI (wCI h a sp b dp n) b = va_cpy (pI h a) (pI h b) (zix sp) (zix dp) (zix n) := by simp [pI, wCI, va_up]
  rw [e5]
  simp only [va_cpy]
  split
  · exact ca.2 _
  · exact cb.2 _
theorem zg_copyP {a b index : Nat} {sp dp n : Int} (G : GoodR Rp E visR new) (C : PC E p s m args meth c own cc nL ret nm) (hz : ZG Rp E s h0 h H locs) (hg : cpOKP h a sp b dp n) (q1 : Cond.methodLink own index arraycopyName ∈ lw_all) (hl : ls.size = nL) (hR : 1 ≤ R.frames ∧ 44 ≤ R.locals) (hcat : (rest.map fun v => v.category).sum ≤ 8) (hdg : decode cc pc = .ok (.invokestatic index, 3)) (eh : h1 = wCP h a sp b dp n)
    (kk : ∀ (H : Heap) (locs : List Loc), ZG Rp E s h0 h1 H locs → W p l e R s m args below meth c H locs (pX h1 - pX h0) (pS h1 - pS h0) Q (F0 m (pc + 3) ls rest)) : W p l e R s m args below meth c H locs (pX h - pX h0) (pS h - pS h0) Q (F0 m pc ls (.int (zI n) :: .int (zI dp) :: .ref b :: .int (zI sp) :: .ref a :: rest)) := by
  subst eh
  obtain ⟨⟨k1, k2⟩, g1, g2, g3, g4, g5⟩ := hg
  obtain ⟨s1, s2⟩ := zcp_nat g1
  obtain ⟨d1, d2⟩ := zcp_nat g2
  obtain ⟨n1, n2⟩ := zcp_nat g3
  have hnf : nativeFrameWords "java/lang/System" "arraycopy" 5 + 11 ≤ 36 := by decide
  have va : visR (pK h a) := by rw [k1]; decide
  have vb : visR (pK h b) := by rw [k2]; decide
  have e5 : pP (wCP h a sp b dp n) b = va_cpy (pP h a) (pP h b) (zix sp) (zix dp) (zix n) := by simp [pP, wCP, va_up]
  refine zw_copyq C hl q1 (C.env.1.2 2 _ rfl).1 (C.env.1.2 2 _ rfl).1 (C.env.1.2 2 _ rfl).2 ((G.1 h H a hz.1 va).1.2.2.2.1 k1) ((G.1 h H b hz.1 vb).1.2.2.2.1 k2) s1 d1 n1 (by show zix sp + zix n ≤ _; omega) (by show zix dp + zix n ≤ _; omega) (fun i _ y hy => ?_) hR.1 (by omega) hdg (fun H1 L e1 e2 e3 e4 => ?_)
  · have ho := G.2.2.2.2.2 h H a _ y hz.1 k1 hy
    exact (zg_any G C hz.1 ho (by omega)).1
  · refine kk H1 _ ⟨G.2.1 h _ H H1 b hz.1 vb upd1_wCP (fun q j x hx => ?_) (cellOf_q k2 ?_) e2 e3, hz.2.1.putL (G.1 h H b hz.1 vb).2.1 e2 e3 e4, hz.2.2⟩
    · rw [e5] at hx
      simp only [va_cpy] at hx
      split at hx
      · exact G.2.2.2.2.2 h H a _ x hz.1 k1 hx
      · exact G.2.2.2.2.2 h H b _ x hz.1 k2 hx
    · rw [e1, e5]
      rfl
end ZCP
