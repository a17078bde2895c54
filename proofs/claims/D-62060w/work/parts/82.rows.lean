set_option maxRecDepth 100000
theorem zx_rf {x : Option Nat} {a : Nat} (h : x = some a) : va_rf x = .ref a := by rw [h]; rfl
theorem zx_nul {x : Option Nat} (h : x = none) : va_rf x = .null := by rw [h]; rfl
theorem zx_cat (x : Option Nat) : (va_rf x).category = 1 := by cases x <;> rfl
theorem zx_or (x : Option Nat) : va_rf x = .null ∨ ∃ a, va_rf x = .ref a := by
  cases x with
  | none => exact Or.inl rfl
  | some a => exact Or.inr ⟨a, rfl⟩
theorem zisC_n {a : Int} (h : zisC a) : narrow .char (.int (zI a)) = .int (zI a) ∧ fits .char (.int (zI a)) = true := by
  have e : zI a = nI (zI a).toInt.toNat := by
    apply Int32.toInt_inj.mp
    rw [nI_toInt (by omega)]
    omega
  rw [e]
  exact pk_charN (by omega)
theorem zisY_b {a : Int} (h : zisY a) : (zI a).toInt8.toInt32 = zI a := by
  apply Int32.toInt_inj.mp
  rw [Int8.toInt_toInt32, Int32.toInt_toInt8]
  exact Int.bmod_eq_of_le (by omega) (by omega)
theorem zisY_n {a : Int} (h : zisY a) : narrow .byte (.int (zI a)) = .int (zI a) ∧ fits .byte (.int (zI a)) = true := by
  rw [← zisY_b h]
  exact ⟨pk_nb _, pk_fb _⟩
theorem zi2b_nw (a : Int) : narrow .byte (.int (zI a)) = .int (zI (zi2b a)) := by
  unfold zi2b
  rw [zI_of]
  rfl
theorem zi2b_y (a : Int) : zisY (zi2b a) := by
  unfold zi2b zisY
  rw [zI_of, Int8.toInt_toInt32]
  have h1 := Int8.le_toInt (zI a).toInt8
  have h2 := Int8.toInt_lt (zI a).toInt8
  omega
section ZL2
variable {p : Program} {l : Launch} {e : Env} {R : Room} {s : State} {m : MethodId} {args : Array Value} {below : List Frame} {meth : Method} {c : Code} {H : Heap} {locs : List Loc} {cells slots : Nat} {Q : State → Prop}
variable {cc : ByteArray} {pc : Nat} {ls : Array Slot} {rest : List Value}
theorem zl_aload_n_o (hx : p.tables.exec = Jvm.exec) (hb : c.code = cc) {k : Fin 4} {i : Nat} {x : Option Nat} (hdg : decode cc pc = .ok (.aload_n k, 1)) (hi : (k : Nat) = i) (hl : ls[i]? = some (.val (va_rf x))) (kk : W p l e R s m args below meth c H locs cells slots Q (F0 m (pc + 1) ls (va_rf x :: rest))) : W p l e R s m args below meth c H locs cells slots Q (F0 m pc ls rest) := by
  cases x with
  | none => exact lv_aload_nN hx hb hdg hi hl kk
  | some a => exact lv_aload_n hx hb hdg hi hl kk
theorem zl_aload_o (hx : p.tables.exec = Jvm.exec) (hb : c.code = cc) {i : Nat} {x : Option Nat} (hdg : decode cc pc = .ok (.aload i, 2)) (hl : ls[i]? = some (.val (va_rf x))) (kk : W p l e R s m args below meth c H locs cells slots Q (F0 m (pc + 2) ls (va_rf x :: rest))) : W p l e R s m args below meth c H locs cells slots Q (F0 m pc ls rest) := by
  cases x with
  | none => exact lv_aloadN hx hb hdg hl kk
  | some a => exact lv_aload hx hb hdg hl kk
theorem zl_astore_n_o (hx : p.tables.exec = Jvm.exec) (hb : c.code = cc) {k : Fin 4} {i nL : Nat} {x : Option Nat} {lv lv' : List (Nat × Value)} (hdg : decode cc pc = .ok (.astore_n k, 1)) (hi : (k : Nat) = i) (h : lv_has ls nL lv) (hn : i < nL) (hl : (i, va_rf x) :: lv.filter (fun q => !(q.1 == i) && !(q.1 + 1 == i && q.2.category == 2)) = lv')
    (kk : ∀ ls' : Array Slot, lv_has ls' nL lv' → W p l e R s m args below meth c H locs cells slots Q (F0 m (pc + 1) ls' rest)) : W p l e R s m args below meth c H locs cells slots Q (F0 m pc ls (va_rf x :: rest)) := by
  cases x with
  | none => exact lv_astore_nN hx hb hdg hi h hn hl kk
  | some a => exact lv_astore_n hx hb hdg hi h hn hl kk
theorem zl_astore_o (hx : p.tables.exec = Jvm.exec) (hb : c.code = cc) {i nL : Nat} {x : Option Nat} {lv lv' : List (Nat × Value)} (hdg : decode cc pc = .ok (.astore i, 2)) (h : lv_has ls nL lv) (hn : i < nL) (hl : (i, va_rf x) :: lv.filter (fun q => !(q.1 == i) && !(q.1 + 1 == i && q.2.category == 2)) = lv')
    (kk : ∀ ls' : Array Slot, lv_has ls' nL lv' → W p l e R s m args below meth c H locs cells slots Q (F0 m (pc + 2) ls' rest)) : W p l e R s m args below meth c H locs cells slots Q (F0 m pc ls (va_rf x :: rest)) := by
  cases x with
  | none => exact lv_astoreN hx hb hdg h hn hl kk
  | some a => exact lv_astore hx hb hdg h hn hl kk
theorem zl_topi {x y : Int} (h : y = x) (k : W p l e R s m args below meth c H locs cells slots Q (F0 m pc ls (.int (zI y) :: rest))) : W p l e R s m args below meth c H locs cells slots Q (F0 m pc ls (.int (zI x) :: rest)) := by subst h; exact k
theorem zl_topo {x y : Option Nat} (h : y = x) (k : W p l e R s m args below meth c H locs cells slots Q (F0 m pc ls (va_rf y :: rest))) : W p l e R s m args below meth c H locs cells slots Q (F0 m pc ls (va_rf x :: rest)) := by subst h; exact k
theorem zl_topn {x y : Nat} (h : y = x) (k : W p l e R s m args below meth c H locs cells slots Q (F0 m pc ls (.ref y :: rest))) : W p l e R s m args below meth c H locs cells slots Q (F0 m pc ls (.ref x :: rest)) := by subst h; exact k
theorem zl_tope {E : PEw} {x y : Int} (h : y = x) (k : W p l e R s m args below meth c H locs cells slots Q (F0 m pc ls (.ref (eK E y) :: rest))) : W p l e R s m args below meth c H locs cells slots Q (F0 m pc ls (.ref (eK E x) :: rest)) := by subst h; exact k
theorem zl_dup_o (hx : p.tables.exec = Jvm.exec) (hb : c.code = cc) {x : Option Nat} (hdg : decode cc pc = .ok (.dup, 1)) (k : W p l e R s m args below meth c H locs cells slots Q (F0 m (pc + 1) ls (va_rf x :: va_rf x :: rest))) : W p l e R s m args below meth c H locs cells slots Q (F0 m pc ls (va_rf x :: rest)) := lv_dup hx hb hdg (zx_cat x) k
theorem zl_pop_o (hx : p.tables.exec = Jvm.exec) (hb : c.code = cc) {x : Option Nat} (hdg : decode cc pc = .ok (.pop, 1)) (k : W p l e R s m args below meth c H locs cells slots Q (F0 m (pc + 1) ls rest)) : W p l e R s m args below meth c H locs cells slots Q (F0 m pc ls (va_rf x :: rest)) := lv_pop hx hb hdg (zx_cat x) k
theorem zl_acmp_eq (hx : p.tables.exec = Jvm.exec) (hb : c.code = cc) {rx ry : Option Nat} {off : Int} {tgt : Nat} (hdg : decode cc pc = .ok (.if_acmp .eq off, 3)) (ht : (pc : Int) + off = (tgt : Int)) (k1 : rx = ry → W p l e R s m args below meth c H locs cells slots Q (F0 m tgt ls rest)) (k2 : ¬ rx = ry → W p l e R s m args below meth c H locs cells slots Q (F0 m (pc + 3) ls rest)) : W p l e R s m args below meth c H locs cells slots Q (F0 m pc ls (va_rf ry :: va_rf rx :: rest)) := lv_acmp_eq hx hb hdg ht k1 k2
theorem zl_acmp_ne (hx : p.tables.exec = Jvm.exec) (hb : c.code = cc) {rx ry : Option Nat} {off : Int} {tgt : Nat} (hdg : decode cc pc = .ok (.if_acmp .ne off, 3)) (ht : (pc : Int) + off = (tgt : Int)) (k1 : rx = ry → W p l e R s m args below meth c H locs cells slots Q (F0 m (pc + 3) ls rest)) (k2 : ¬ rx = ry → W p l e R s m args below meth c H locs cells slots Q (F0 m tgt ls rest)) : W p l e R s m args below meth c H locs cells slots Q (F0 m pc ls (va_rf ry :: va_rf rx :: rest)) := lv_acmp_ne hx hb hdg ht k2 k1
theorem zl_tab (hx : p.tables.exec = Jvm.exec) (hb : c.code = cc) {dflt lo hi : Int} {offs : Array Int} {len : Nat} {x v : Int} {off : Int} {tgt : Nat} (hdg : decode cc pc = .ok (.tableswitch dflt lo hi offs, len)) (hc : zI x = zI v) (hv : -2147483648 ≤ v ∧ v < 2147483648) (h1 : lo ≤ v) (h2 : v ≤ hi) (ho : offs[(v - lo).toNat]? = some off) (ht : (pc : Int) + off = (tgt : Int))
    (k : W p l e R s m args below meth c H locs cells slots Q (F0 m tgt ls rest)) : W p l e R s m args below meth c H locs cells slots Q (F0 m pc ls (.int (zI x) :: rest)) := by
  have e : (zI x).toInt = v := by rw [hc, zI_toInt hv.1 hv.2]
  exact lv_tableIn hx hb hdg (by rw [e]; omega) (by rw [e]; omega) (by rw [e]; exact ho) ht k
theorem zl_tabD (hx : p.tables.exec = Jvm.exec) (hb : c.code = cc) {dflt lo hi : Int} {offs : Array Int} {len : Nat} {x : Int} {vs : List Int} {tgt : Nat} (hdg : decode cc pc = .ok (.tableswitch dflt lo hi offs, len)) (hr : -2147483648 ≤ lo ∧ hi < 2147483648) (hn : ∀ v ∈ vs, ¬ zI x = zI v) (ha : ∀ j : Nat, j < (hi - lo + 1).toNat → (lo + (j : Int)) ∈ vs ∨ offs[j]? = some dflt) (ht : (pc : Int) + dflt = (tgt : Int))
    (k : W p l e R s m args below meth c H locs cells slots Q (F0 m tgt ls rest)) : W p l e R s m args below meth c H locs cells slots Q (F0 m pc ls (.int (zI x) :: rest)) := by
  by_cases h : (zI x).toInt < lo ∨ hi < (zI x).toInt
  · exact lv_tableOut hx hb hdg h ht k
  · have h1 : ¬ (zI x).toInt < lo := fun q => h (Or.inl q)
    have h2 : ¬ hi < (zI x).toInt := fun q => h (Or.inr q)
    rcases ha ((zI x).toInt - lo).toNat (by omega) with q | q
    · have e : lo + ((((zI x).toInt - lo).toNat : Nat) : Int) = (zI x).toInt := by omega
      rw [e] at q
      exact absurd (zI_of (zI x)).symm (hn _ q)
    · exact lv_tableIn hx hb hdg h1 h2 q ht k
end ZL2
abbrev visP (k : Nat) : Prop := (1 ≤ k ∧ k ≤ 7) ∨ (40 ≤ k ∧ k ≤ 46)
abbrev newP (k : Nat) : Prop := visP k ∨ k = 90 ∨ k = 91
abbrev visR (k : Nat) : Prop := k ≠ 0 ∧ k ≠ 59
abbrev newR (k : Nat) : Prop := k ≠ 0 ∧ k ≠ 59
theorem gkp {c k : Nat} (hc : 1 ≤ c ∧ c ≤ 7) (h : k = c) : gk visP c k := by
  subst h
  refine ⟨by unfold kc; rw [if_pos hc.2], Or.inl hc, Or.inl hc⟩
theorem gkl {k : Nat} (h : isLr k) : gk visR 8 k := by
  refine ⟨?_, Or.inr (Or.inl h), ?_⟩
  · unfold kc
    rw [if_neg (by omega), if_pos (by omega)]
  · constructor <;> omega
theorem gks {k : Nat} (h : isSr k) : gk visR 9 k := by
  refine ⟨?_, Or.inr (Or.inr h), ?_⟩
  · unfold kc
    rw [if_neg (by omega), if_neg (by omega)]
  · constructor <;> omega
theorem vP_I {k : Nat} (h : isI k) : visP k := by omega
theorem vP_Y {k : Nat} (h : k = 45) : visP k := by omega
theorem vR_A {k : Nat} (h : isI k ∨ isY k ∨ k = 46 ∨ k = 50) : visR k := by omega
theorem cellOf_obj {E : PEw} {h : HP} {a : Nat} {H : Heap} (ho : isObj (pK h a)) (t : t_OB a ((eD E).1 (kc (pK h a))) (fN (kc (pK h a))) ((eD E).2 (kc (pK h a))) H (fV E h a (kc (pK h a)))) : cellOf E h a H := by
  refine ⟨fun _ => t, fun g => absurd ho (by omega), fun g => absurd ho (by omega), fun g => absurd ho (by omega), fun g => absurd ho (by omega)⟩
theorem cellOf_i {E : PEw} {h : HP} {a : Nat} {H : Heap} (ho : isI (pK h a)) (t : H[a]? = some (arrV (eC E).1 (pN h a) (fun j => .int (zI (pI h a j))))) : cellOf E h a H := by
  refine ⟨fun g => absurd ho (by omega), fun _ => t, fun g => absurd ho (by omega), fun g => absurd ho (by omega), fun g => absurd ho (by omega)⟩
theorem cellOf_y {E : PEw} {h : HP} {a : Nat} {H : Heap} (ho : isY (pK h a)) (t : H[a]? = some (arrV (eC E).2.1 (pN h a) (fun j => .int (zI (pI h a j)))) ∧ ∀ j, zisY (pI h a j)) : cellOf E h a H := by
  refine ⟨fun g => absurd ho (by omega), fun g => absurd ho (by omega), fun _ => t, fun g => absurd ho (by omega), fun g => absurd ho (by omega)⟩
theorem cellOf_q {E : PEw} {h : HP} {a : Nat} {H : Heap} (ho : pK h a = 50) (t : H[a]? = some (arrV (eC E).2.2.1 (pN h a) (fun j => va_rf (pP h a j)))) : cellOf E h a H := by
  refine ⟨fun g => absurd ho (by omega), fun g => absurd ho (by omega), fun g => absurd ho (by omega), fun _ => t, fun g => absurd ho (by omega)⟩
theorem cellOf_t {E : PEw} {h : HP} {a : Nat} {H : Heap} (ho : pK h a = 46) (t : H[a]? = some (arrV (eC E).2.2.2 (pN h a) (fun j => va_rf (pP h a j)))) : cellOf E h a H := by
  refine ⟨fun g => absurd ho (by omega), fun g => absurd ho (by omega), fun g => absurd ho (by omega), fun g => absurd ho (by omega), fun _ => t⟩
section ZGR
variable {p : Program} {l : Launch} {e : Env} {R : Room} {s : State} {m : MethodId} {args : Array Value} {below : List Frame} {meth : Method} {c : Code} {H : Heap} {locs : List Loc} {Q : State → Prop}
variable {cc : ByteArray} {pc : Nat} {ls : Array Slot} {rest : List Value} {E : PEw} {own : String} {nL : Nat} {ret : Option FieldType} {nm : String} {Rp : HP → Heap → Prop} {vis new : Nat → Prop} {h0 h h1 : HP} {cells slots : Nat}
theorem zg_get (G : GoodR Rp E vis new) (C : PC E p s m args meth c own cc nL ret nm) (hz : ZG Rp E s h0 h H locs) (cl k : Nat) {a : Nat} (hg : gk vis cl (pK h a)) (hk : k < fN cl) {index : Nat} {ref : String} (lk : lkF own index ref (cT cl k).2.1 (cT cl k).2.2.1 args s) (sm : ∀ x, s.fieldFound? (cT cl k).1 (cT cl k).2.1 (cT cl k).2.2.1 = some x → s.fieldFound? ref (cT cl k).2.1 (cT cl k).2.2.1 = some x) (hdg : decode cc pc = .ok (.getfield index, 3))
    (kk : W p l e R s m args below meth c H locs cells slots Q (F0 m (pc + 3) ls (fV E h a cl k :: rest))) : W p l e R s m args below meth c H locs cells slots Q (F0 m pc ls (.ref a :: rest)) := by
  obtain ⟨hc, ho, hv⟩ := hg
  have hcell := (G.1 h H a hz.1 hv).1.1 ho
  rw [hc] at hcell
  have h10 : cl < 10 := hc ▸ kc_lt
  obtain ⟨cell, q1, q2, q3, q4⟩ := hcell
  obtain ⟨hS, hfc, kC, hkC, hkind⟩ := C.env.1.1 cl _ (cl_at cl h10)
  obtain ⟨cf, kf, fi, f, hi, hsl⟩ := hS k hk
  have hst := (u_facts hfc hkC (u_lays C.2.2.2.2.2.2.1 (cl_in cl h10) hk) hi).1
  have hs : cell.slots[f.slot]? = some (fV E h a cl k) := by rw [hsl]; exact q4 k hk
  rcases lk with lk | ⟨host, lk⟩
  · exact W.getf C.1 C.2.1 C.ow lk (sm _ hi) hst q1 (by rw [q3]; exact fun q => by cases q) hs rfl rfl hdg kk
  · exact va_Wgetf C.1 C.2.1 C.ow lk (sm _ hi) hst q1 (by rw [q3]; exact fun q => by cases q) hs rfl rfl hdg kk
theorem zg_geti (G : GoodR Rp E vis new) (C : PC E p s m args meth c own cc nL ret nm) (hz : ZG Rp E s h0 h H locs) (cl k : Nat) {a : Nat} (hg : gk vis cl (pK h a)) (hk : k < fN cl) (ht : fR cl k = 0) {index : Nat} {ref : String} (lk : lkF own index ref (cT cl k).2.1 (cT cl k).2.2.1 args s) (sm : ∀ x, s.fieldFound? (cT cl k).1 (cT cl k).2.1 (cT cl k).2.2.1 = some x → s.fieldFound? ref (cT cl k).2.1 (cT cl k).2.2.1 = some x) (hdg : decode cc pc = .ok (.getfield index, 3))
    (kk : W p l e R s m args below meth c H locs cells slots Q (F0 m (pc + 3) ls (.int (zI (pI h a k)) :: rest))) : W p l e R s m args below meth c H locs cells slots Q (F0 m pc ls (.ref a :: rest)) := zg_get G C hz cl k hg hk lk sm hdg (by unfold fV; rw [if_pos ht]; exact kk)
theorem zg_getp (G : GoodR Rp E vis new) (C : PC E p s m args meth c own cc nL ret nm) (hz : ZG Rp E s h0 h H locs) (cl k : Nat) {a : Nat} (hg : gk vis cl (pK h a)) (hk : k < fN cl) (ht : fR cl k = 1) {index : Nat} {ref : String} (lk : lkF own index ref (cT cl k).2.1 (cT cl k).2.2.1 args s) (sm : ∀ x, s.fieldFound? (cT cl k).1 (cT cl k).2.1 (cT cl k).2.2.1 = some x → s.fieldFound? ref (cT cl k).2.1 (cT cl k).2.2.1 = some x) (hdg : decode cc pc = .ok (.getfield index, 3))
    (kk : W p l e R s m args below meth c H locs cells slots Q (F0 m (pc + 3) ls (va_rf (pP h a k) :: rest))) : W p l e R s m args below meth c H locs cells slots Q (F0 m pc ls (.ref a :: rest)) := zg_get G C hz cl k hg hk lk sm hdg (by unfold fV; rw [if_neg (by rw [ht]; decide), if_pos ht]; exact kk)
theorem zg_gete (G : GoodR Rp E vis new) (C : PC E p s m args meth c own cc nL ret nm) (hz : ZG Rp E s h0 h H locs) {a : Nat} (hg : gk vis 1 (pK h a)) (hv : zst (pI h a 8)) {index : Nat} {ref : String} (lk : lkF own index ref (cT 1 8).2.1 (cT 1 8).2.2.1 args s) (hdg : decode cc pc = .ok (.getfield index, 3))
    (kk : W p l e R s m args below meth c H locs cells slots Q (F0 m (pc + 3) ls (.ref (eK E (pI h a 8)) :: rest))) (hr : ref = (cT 1 8).1 := by rfl) : W p l e R s m args below meth c H locs cells slots Q (F0 m pc ls (.ref a :: rest)) := zg_get G C hz 1 8 hg (by decide) lk (by rw [hr]; exact fun _ h => h) hdg (by unfold fV eVal; rw [if_neg (by decide), if_neg (by decide), if_neg (by omega)]; exact kk)
theorem zg_put0 (G : GoodR Rp E vis new) (C : PC E p s m args meth c own cc nL ret nm) (hz : ZG Rp E s h0 h H locs) {a cl : Nat} (hg : gk vis cl (pK h a)) {k : Nat} (hk : k < fN cl) {v : Value} {f : Field} {cell : Cell} (q2 : cell.cls = (eD E).1 cl) (q3 : cell.vm = .none) (q4 : ∀ k, k < fN cl → cell.slots[(eD E).2 cl k]? = some (fV E h a cl k)) (hsl : f.slot = (eD E).2 cl k) (hu : upd1 h h1 a) (hv1 : ∀ j, j < fN cl → fV E h1 a cl j = updV (fV E h a cl) k v j)
    (kk : ∀ (H : Heap) (locs : List Loc), ZG Rp E s h0 h1 H locs → W p l e R s m args below meth c H locs (pX h1 - pX h0) (pS h1 - pS h0) Q (F0 m (pc + 3) ls rest)) :
    ∀ H' : Heap, H'[a]? = some (cell.setSlot f.slot v) → H'.size = H.size → (∀ q : Nat, q ≠ a → H'[q]? = H[q]?) → W p l e R s m args below meth c H' (locs ++ [⟨a, f.slot⟩]) (pX h - pX h0) (pS h - pS h0) Q (F0 m (pc + 3) ls rest) := by
  intro H' e1 e2 e3
  obtain ⟨hc, ho, hv⟩ := hg
  have h10 : cl < 10 := hc ▸ kc_lt
  have hap := va_apart (own := own) C.2.2.2.2.2.2.1 (cl_in cl h10) (cY cl) (cl_ty cl h10) (cl_nm cl h10) C.env.1 (ci := cl) (cl_at cl h10)
  have hX := hu.X
  have ho1 : isObj (pK h1 a) := by rw [hu.1]; exact ho
  have hc1 : kc (pK h1 a) = cl := by rw [hu.1]; exact hc
  have hcell : cellOf E h1 a H' := cellOf_obj ho1 (by
    rw [hc1]
    refine t_OB.to (V := updV (fV E h a cl) k v) ⟨_, e1, q2, q3, by rw [hsl]; exact t_set q4 hap hk v⟩ (fun j hj => (hv1 j hj).symm))
  have hw := kk H' (locs ++ [⟨a, f.slot⟩]) ⟨G.2.1 h h1 H H' a hz.1 hv hu (fun q => by exfalso; omega) hcell e2 e3, hz.2.1.put (G.1 h H a hz.1 hv).2.1 e2 e3, hz.2.2.tr ⟨Nat.le_of_eq hX.1.symm, Nat.le_of_eq hX.2.1.symm, hX.2.2.1⟩⟩
  rw [hX.1, hX.2.1] at hw
  exact hw
theorem zg_put (G : GoodR Rp E vis new) (C : PC E p s m args meth c own cc nL ret nm) (hz : ZG Rp E s h0 h H locs) (cl k : Nat) {a : Nat} (hg : gk vis cl (pK h a)) (hk : k < fN cl) {v : Value} (hn : narrow (cY cl k) v = v) (hf : fits (cY cl k) v = true) (hfin : (cT cl k).2.2.2 = false) {index : Nat} {ref : String} (lk : lkF own index ref (cT cl k).2.1 (cT cl k).2.2.1 args s) (sm : ∀ x, s.fieldFound? (cT cl k).1 (cT cl k).2.1 (cT cl k).2.2.1 = some x → s.fieldFound? ref (cT cl k).2.1 (cT cl k).2.2.1 = some x) (hdg : decode cc pc = .ok (.putfield index, 3)) (hu : upd1 h h1 a) (hv1 : ∀ j, j < fN cl → fV E h1 a cl j = updV (fV E h a cl) k v j)
    (kk : ∀ (H : Heap) (locs : List Loc), ZG Rp E s h0 h1 H locs → W p l e R s m args below meth c H locs (pX h1 - pX h0) (pS h1 - pS h0) Q (F0 m (pc + 3) ls rest)) : W p l e R s m args below meth c H locs (pX h - pX h0) (pS h - pS h0) Q (F0 m pc ls (v :: .ref a :: rest)) := by
  have hcell := (G.1 h H a hz.1 hg.2.2).1.1 hg.2.1
  rw [hg.1] at hcell
  have h10 : cl < 10 := hg.1 ▸ kc_lt
  obtain ⟨cell, q1, q2, q3, q4⟩ := hcell
  obtain ⟨hS, hfc, kC, hkC, hkind⟩ := C.env.1.1 cl _ (cl_at cl h10)
  obtain ⟨cf, kf, fi, f, hi, hsl⟩ := hS k hk
  have hst := (u_facts hfc hkC (u_lays C.2.2.2.2.2.2.1 (cl_in cl h10) hk) hi).1
  have hlay := C.w (cl_in cl h10 _ (u_in_lay hk))
  unfold u_lay at hlay
  rw [if_neg (by rw [hfin]; decide)] at hlay
  have h6 := u_store hfc hkC hkind hlay hi (cl_ty cl h10 k hk) hn hf
  have key := zg_put0 (pc := pc) (ls := ls) (rest := rest) (l := l) (e := e) (R := R) (below := below) (Q := Q) (v := v) (f := f) G C hz hg hk q2 q3 q4 hsl hu hv1 kk
  rcases lk with lk | ⟨host, lk⟩
  · exact W.putK C.1 C.2.1 (f := f) ⟨C.ow, lk, ⟨_, _, _, sm _ hi⟩, hst⟩ (by rw [q2]; exact h6) q1 q3 (by rw [hsl]; exact k2_hasslot (q4 k hk)) rfl rfl hdg key
  · exact va_WputK C.1 C.2.1 (f := f) C.ow lk (sm _ hi) hst (by rw [q2]; exact h6) q1 q3 (by rw [hsl]; exact k2_hasslot (q4 k hk)) rfl rfl hdg key
theorem zg_putFin (G : GoodR Rp E vis new) (C : PC E p s m args meth c own cc nL ret "<init>") (hz : ZG Rp E s h0 h H locs) (cl k : Nat) {a : Nat} (hg : gk vis cl (pK h a)) (hk : k < fN cl) {v : Value} (hn : narrow (cY cl k) v = v) (hf : fits (cY cl k) v = true) (hfin : (cT cl k).2.2.2 = true) {index : Nat} {ref : String} (lk : lkF own index ref (cT cl k).2.1 (cT cl k).2.2.1 args s) (sm : ∀ x, s.fieldFound? (cT cl k).1 (cT cl k).2.1 (cT cl k).2.2.1 = some x → s.fieldFound? ref (cT cl k).2.1 (cT cl k).2.2.1 = some x) (hlf : (Cond.fieldLink own index ref (cT cl k).2.1 (cT cl k).2.2.1).before args s = true) (hdecl : (cT cl k).1 = own) (hdg : decode cc pc = .ok (.putfield index, 3)) (hu : upd1 h h1 a) (hv1 : ∀ j, j < fN cl → fV E h1 a cl j = updV (fV E h a cl) k v j)
    (kk : ∀ (H : Heap) (locs : List Loc), ZG Rp E s h0 h1 H locs → W p l e R s m args below meth c H locs (pX h1 - pX h0) (pS h1 - pS h0) Q (F0 m (pc + 3) ls rest)) : W p l e R s m args below meth c H locs (pX h - pX h0) (pS h - pS h0) Q (F0 m pc ls (v :: .ref a :: rest)) := by
  have hcell := (G.1 h H a hz.1 hg.2.2).1.1 hg.2.1
  rw [hg.1] at hcell
  have h10 : cl < 10 := hg.1 ▸ kc_lt
  obtain ⟨cell, q1, q2, q3, q4⟩ := hcell
  obtain ⟨hS, hfc, kC, hkC, hkind⟩ := C.env.1.1 cl _ (cl_at cl h10)
  obtain ⟨cf, kf, fi, f, hi, hsl⟩ := hS k hk
  have hst := (u_facts hfc hkC (u_lays C.2.2.2.2.2.2.1 (cl_in cl h10) hk) hi).1
  have hlay := C.w (cl_in cl h10 _ (u_in_lay hk))
  unfold u_lay at hlay
  rw [if_pos hfin] at hlay
  have hcf : m.cls = cf := by
    obtain ⟨_, _, c', _, _, _, -, -, hf', -, -, -, hown2, -⟩ := Cond.laysFinal_spec hlay
    have e1 : c' = cf := by have := hi.symm.trans hf'; simp at this; exact this.1.symm
    rw [hdecl] at hown2
    rw [← e1]; exact Option.some.inj (C.ow.symm.trans hown2)
  have h6 := u_fits hfc hkC hkind (Or.inr hlay) hi (cl_ty cl h10 k hk) hn hf
  have key := zg_put0 (pc := pc) (ls := ls) (rest := rest) (l := l) (e := e) (R := R) (below := below) (Q := Q) (v := v) (f := f) G C hz hg hk q2 q3 q4 hsl hu hv1 kk
  exact W.putFinK C.1 C.2.1 C.ow hlf (sm _ hi) hst hcf C.2.2.2.2.2.2.2.2 (by rw [q2]; exact h6) q1 q3 (by rw [hsl]; exact k2_hasslot (q4 k hk)) rfl rfl hdg key
theorem fV_wI {k cl a : Nat} {v : Int} (ht : fR cl k = 0) (j : Nat) : fV E (wI h a k v) a cl j = updV (fV E h a cl) k (.int (zI v)) j := by
  by_cases e : j = k
  · subst e; simp [fV, ht, updV, pI, wI, va_up]
  · simp [fV, updV, e, pI, pP, wI, va_up]
theorem fV_wIe {k cl a : Nat} {v : Int} (ht : fR cl k = 2) (hv : v ≠ -1) (j : Nat) : fV E (wI h a k v) a cl j = updV (fV E h a cl) k (.ref (eK E v)) j := by
  by_cases e : j = k
  · subst e; simp [fV, ht, updV, pI, wI, va_up, eVal, hv]
  · simp [fV, updV, e, pI, pP, wI, va_up]
theorem fV_wP {k cl a : Nat} {v : Option Nat} (ht : fR cl k = 1) (j : Nat) : fV E (wP h a k v) a cl j = updV (fV E h a cl) k (va_rf v) j := by
  by_cases e : j = k
  · subst e; simp [fV, ht, updV, pP, wP, va_up]
  · simp [fV, updV, e, pI, pP, wP, va_up]
def isRefTy (t : FieldType) : Prop := (∃ n, t = .object n) ∨ ∃ u, t = .array u
theorem isRefTy.ok {t : FieldType} (h : isRefTy t) (x : Option Nat) : narrow t (va_rf x) = va_rf x ∧ fits t (va_rf x) = true := by
  rcases h with ⟨n, rfl⟩ | ⟨u, rfl⟩ <;> cases x <;> exact ⟨rfl, rfl⟩
theorem zg_puti (G : GoodR Rp E vis new) (C : PC E p s m args meth c own cc nL ret nm) (hz : ZG Rp E s h0 h H locs) (cl k : Nat) {a : Nat} (hg : gk vis cl (pK h a)) (hk : k < fN cl) (ht : fR cl k = 0) (hty : cY cl k = .int) (hfin : (cT cl k).2.2.2 = false) {v : Int}  {index : Nat} {ref : String} (lk : lkF own index ref (cT cl k).2.1 (cT cl k).2.2.1 args s) (sm : ∀ x, s.fieldFound? (cT cl k).1 (cT cl k).2.1 (cT cl k).2.2.1 = some x → s.fieldFound? ref (cT cl k).2.1 (cT cl k).2.2.1 = some x) (hdg : decode cc pc = .ok (.putfield index, 3)) (eh : h1 = wI h a k v)
    (kk : ∀ (H : Heap) (locs : List Loc), ZG Rp E s h0 h1 H locs → W p l e R s m args below meth c H locs (pX h1 - pX h0) (pS h1 - pS h0) Q (F0 m (pc + 3) ls rest)) : W p l e R s m args below meth c H locs (pX h - pX h0) (pS h - pS h0) Q (F0 m pc ls (.int (zI v) :: .ref a :: rest)) := by
  subst eh
  exact zg_put G C hz cl k hg hk (by rw [hty]; exact rfl) (by rw [hty]; exact rfl) hfin lk sm hdg upd1_wI (fun j _ => fV_wI ht j) kk
theorem zg_putb (G : GoodR Rp E vis new) (C : PC E p s m args meth c own cc nL ret nm) (hz : ZG Rp E s h0 h H locs) (cl k : Nat) {a : Nat} (hg : gk vis cl (pK h a)) (hk : k < fN cl) (ht : fR cl k = 0) (hty : cY cl k = .boolean) (hfin : (cT cl k).2.2.2 = false) {v : Int} (hv : zisB v) {index : Nat} {ref : String} (lk : lkF own index ref (cT cl k).2.1 (cT cl k).2.2.1 args s) (sm : ∀ x, s.fieldFound? (cT cl k).1 (cT cl k).2.1 (cT cl k).2.2.1 = some x → s.fieldFound? ref (cT cl k).2.1 (cT cl k).2.2.1 = some x) (hdg : decode cc pc = .ok (.putfield index, 3)) (eh : h1 = wI h a k v)
    (kk : ∀ (H : Heap) (locs : List Loc), ZG Rp E s h0 h1 H locs → W p l e R s m args below meth c H locs (pX h1 - pX h0) (pS h1 - pS h0) Q (F0 m (pc + 3) ls rest)) : W p l e R s m args below meth c H locs (pX h - pX h0) (pS h - pS h0) Q (F0 m pc ls (.int (zI v) :: .ref a :: rest)) := by
  subst eh
  exact zg_put G C hz cl k hg hk (by rw [hty]; exact zisB_n hv) (by rw [hty]; exact zisB_f hv) hfin lk sm hdg upd1_wI (fun j _ => fV_wI ht j) kk
theorem zg_putc (G : GoodR Rp E vis new) (C : PC E p s m args meth c own cc nL ret nm) (hz : ZG Rp E s h0 h H locs) (cl k : Nat) {a : Nat} (hg : gk vis cl (pK h a)) (hk : k < fN cl) (ht : fR cl k = 0) (hty : cY cl k = .char) (hfin : (cT cl k).2.2.2 = false) {v : Int} (hv : zisC v) {index : Nat} {ref : String} (lk : lkF own index ref (cT cl k).2.1 (cT cl k).2.2.1 args s) (sm : ∀ x, s.fieldFound? (cT cl k).1 (cT cl k).2.1 (cT cl k).2.2.1 = some x → s.fieldFound? ref (cT cl k).2.1 (cT cl k).2.2.1 = some x) (hdg : decode cc pc = .ok (.putfield index, 3)) (eh : h1 = wI h a k v)
    (kk : ∀ (H : Heap) (locs : List Loc), ZG Rp E s h0 h1 H locs → W p l e R s m args below meth c H locs (pX h1 - pX h0) (pS h1 - pS h0) Q (F0 m (pc + 3) ls rest)) : W p l e R s m args below meth c H locs (pX h - pX h0) (pS h - pS h0) Q (F0 m pc ls (.int (zI v) :: .ref a :: rest)) := by
  subst eh
  exact zg_put G C hz cl k hg hk (by rw [hty]; exact (zisC_n hv).1) (by rw [hty]; exact (zisC_n hv).2) hfin lk sm hdg upd1_wI (fun j _ => fV_wI ht j) kk
theorem zg_puty (G : GoodR Rp E vis new) (C : PC E p s m args meth c own cc nL ret nm) (hz : ZG Rp E s h0 h H locs) (cl k : Nat) {a : Nat} (hg : gk vis cl (pK h a)) (hk : k < fN cl) (ht : fR cl k = 0) (hty : cY cl k = .byte) (hfin : (cT cl k).2.2.2 = false) {v : Int} (hv : zisY v) {index : Nat} {ref : String} (lk : lkF own index ref (cT cl k).2.1 (cT cl k).2.2.1 args s) (sm : ∀ x, s.fieldFound? (cT cl k).1 (cT cl k).2.1 (cT cl k).2.2.1 = some x → s.fieldFound? ref (cT cl k).2.1 (cT cl k).2.2.1 = some x) (hdg : decode cc pc = .ok (.putfield index, 3)) (eh : h1 = wI h a k v)
    (kk : ∀ (H : Heap) (locs : List Loc), ZG Rp E s h0 h1 H locs → W p l e R s m args below meth c H locs (pX h1 - pX h0) (pS h1 - pS h0) Q (F0 m (pc + 3) ls rest)) : W p l e R s m args below meth c H locs (pX h - pX h0) (pS h - pS h0) Q (F0 m pc ls (.int (zI v) :: .ref a :: rest)) := by
  subst eh
  exact zg_put G C hz cl k hg hk (by rw [hty]; exact (zisY_n hv).1) (by rw [hty]; exact (zisY_n hv).2) hfin lk sm hdg upd1_wI (fun j _ => fV_wI ht j) kk
theorem zg_putp (G : GoodR Rp E vis new) (C : PC E p s m args meth c own cc nL ret nm) (hz : ZG Rp E s h0 h H locs) (cl k : Nat) {a : Nat} (hg : gk vis cl (pK h a)) (hk : k < fN cl) (ht : fR cl k = 1) (hty : isRefTy (cY cl k)) (hfin : (cT cl k).2.2.2 = false) {v : Option Nat}  {index : Nat} {ref : String} (lk : lkF own index ref (cT cl k).2.1 (cT cl k).2.2.1 args s) (sm : ∀ x, s.fieldFound? (cT cl k).1 (cT cl k).2.1 (cT cl k).2.2.1 = some x → s.fieldFound? ref (cT cl k).2.1 (cT cl k).2.2.1 = some x) (hdg : decode cc pc = .ok (.putfield index, 3)) (eh : h1 = wP h a k v)
    (kk : ∀ (H : Heap) (locs : List Loc), ZG Rp E s h0 h1 H locs → W p l e R s m args below meth c H locs (pX h1 - pX h0) (pS h1 - pS h0) Q (F0 m (pc + 3) ls rest)) : W p l e R s m args below meth c H locs (pX h - pX h0) (pS h - pS h0) Q (F0 m pc ls (va_rf v :: .ref a :: rest)) := by
  subst eh
  exact zg_put G C hz cl k hg hk (isRefTy.ok hty v).1 (isRefTy.ok hty v).2 hfin lk sm hdg upd1_wP (fun j _ => fV_wP ht j) kk
theorem zg_putiF (G : GoodR Rp E vis new) (C : PC E p s m args meth c own cc nL ret "<init>") (hz : ZG Rp E s h0 h H locs) (cl k : Nat) {a : Nat} (hg : gk vis cl (pK h a)) (hk : k < fN cl) (ht : fR cl k = 0) (hty : cY cl k = .int) (hfin : (cT cl k).2.2.2 = true) {v : Int}  {index : Nat} {ref : String} (lk : (Cond.fieldLink own index ref (cT cl k).2.1 (cT cl k).2.2.1).before args s = true) (sm : ∀ x, s.fieldFound? (cT cl k).1 (cT cl k).2.1 (cT cl k).2.2.1 = some x → s.fieldFound? ref (cT cl k).2.1 (cT cl k).2.2.1 = some x) (hdg : decode cc pc = .ok (.putfield index, 3)) (eh : h1 = wI h a k v)
    (kk : ∀ (H : Heap) (locs : List Loc), ZG Rp E s h0 h1 H locs → W p l e R s m args below meth c H locs (pX h1 - pX h0) (pS h1 - pS h0) Q (F0 m (pc + 3) ls rest)) (hdecl : (cT cl k).1 = own := by rfl) : W p l e R s m args below meth c H locs (pX h - pX h0) (pS h - pS h0) Q (F0 m pc ls (.int (zI v) :: .ref a :: rest)) := by
  subst eh
  exact zg_putFin G C hz cl k hg hk (by rw [hty]; exact rfl) (by rw [hty]; exact rfl) hfin (Or.inl lk) sm lk hdecl hdg upd1_wI (fun j _ => fV_wI ht j) kk
theorem zg_putbF (G : GoodR Rp E vis new) (C : PC E p s m args meth c own cc nL ret "<init>") (hz : ZG Rp E s h0 h H locs) (cl k : Nat) {a : Nat} (hg : gk vis cl (pK h a)) (hk : k < fN cl) (ht : fR cl k = 0) (hty : cY cl k = .boolean) (hfin : (cT cl k).2.2.2 = true) {v : Int} (hv : zisB v) {index : Nat} {ref : String} (lk : (Cond.fieldLink own index ref (cT cl k).2.1 (cT cl k).2.2.1).before args s = true) (sm : ∀ x, s.fieldFound? (cT cl k).1 (cT cl k).2.1 (cT cl k).2.2.1 = some x → s.fieldFound? ref (cT cl k).2.1 (cT cl k).2.2.1 = some x) (hdg : decode cc pc = .ok (.putfield index, 3)) (eh : h1 = wI h a k v)
    (kk : ∀ (H : Heap) (locs : List Loc), ZG Rp E s h0 h1 H locs → W p l e R s m args below meth c H locs (pX h1 - pX h0) (pS h1 - pS h0) Q (F0 m (pc + 3) ls rest)) (hdecl : (cT cl k).1 = own := by rfl) : W p l e R s m args below meth c H locs (pX h - pX h0) (pS h - pS h0) Q (F0 m pc ls (.int (zI v) :: .ref a :: rest)) := by
  subst eh
  exact zg_putFin G C hz cl k hg hk (by rw [hty]; exact zisB_n hv) (by rw [hty]; exact zisB_f hv) hfin (Or.inl lk) sm lk hdecl hdg upd1_wI (fun j _ => fV_wI ht j) kk
theorem zg_putcF (G : GoodR Rp E vis new) (C : PC E p s m args meth c own cc nL ret "<init>") (hz : ZG Rp E s h0 h H locs) (cl k : Nat) {a : Nat} (hg : gk vis cl (pK h a)) (hk : k < fN cl) (ht : fR cl k = 0) (hty : cY cl k = .char) (hfin : (cT cl k).2.2.2 = true) {v : Int} (hv : zisC v) {index : Nat} {ref : String} (lk : (Cond.fieldLink own index ref (cT cl k).2.1 (cT cl k).2.2.1).before args s = true) (sm : ∀ x, s.fieldFound? (cT cl k).1 (cT cl k).2.1 (cT cl k).2.2.1 = some x → s.fieldFound? ref (cT cl k).2.1 (cT cl k).2.2.1 = some x) (hdg : decode cc pc = .ok (.putfield index, 3)) (eh : h1 = wI h a k v)
    (kk : ∀ (H : Heap) (locs : List Loc), ZG Rp E s h0 h1 H locs → W p l e R s m args below meth c H locs (pX h1 - pX h0) (pS h1 - pS h0) Q (F0 m (pc + 3) ls rest)) (hdecl : (cT cl k).1 = own := by rfl) : W p l e R s m args below meth c H locs (pX h - pX h0) (pS h - pS h0) Q (F0 m pc ls (.int (zI v) :: .ref a :: rest)) := by
  subst eh
  exact zg_putFin G C hz cl k hg hk (by rw [hty]; exact (zisC_n hv).1) (by rw [hty]; exact (zisC_n hv).2) hfin (Or.inl lk) sm lk hdecl hdg upd1_wI (fun j _ => fV_wI ht j) kk
theorem zg_putyF (G : GoodR Rp E vis new) (C : PC E p s m args meth c own cc nL ret "<init>") (hz : ZG Rp E s h0 h H locs) (cl k : Nat) {a : Nat} (hg : gk vis cl (pK h a)) (hk : k < fN cl) (ht : fR cl k = 0) (hty : cY cl k = .byte) (hfin : (cT cl k).2.2.2 = true) {v : Int} (hv : zisY v) {index : Nat} {ref : String} (lk : (Cond.fieldLink own index ref (cT cl k).2.1 (cT cl k).2.2.1).before args s = true) (sm : ∀ x, s.fieldFound? (cT cl k).1 (cT cl k).2.1 (cT cl k).2.2.1 = some x → s.fieldFound? ref (cT cl k).2.1 (cT cl k).2.2.1 = some x) (hdg : decode cc pc = .ok (.putfield index, 3)) (eh : h1 = wI h a k v)
    (kk : ∀ (H : Heap) (locs : List Loc), ZG Rp E s h0 h1 H locs → W p l e R s m args below meth c H locs (pX h1 - pX h0) (pS h1 - pS h0) Q (F0 m (pc + 3) ls rest)) (hdecl : (cT cl k).1 = own := by rfl) : W p l e R s m args below meth c H locs (pX h - pX h0) (pS h - pS h0) Q (F0 m pc ls (.int (zI v) :: .ref a :: rest)) := by
  subst eh
  exact zg_putFin G C hz cl k hg hk (by rw [hty]; exact (zisY_n hv).1) (by rw [hty]; exact (zisY_n hv).2) hfin (Or.inl lk) sm lk hdecl hdg upd1_wI (fun j _ => fV_wI ht j) kk
theorem zg_putpF (G : GoodR Rp E vis new) (C : PC E p s m args meth c own cc nL ret "<init>") (hz : ZG Rp E s h0 h H locs) (cl k : Nat) {a : Nat} (hg : gk vis cl (pK h a)) (hk : k < fN cl) (ht : fR cl k = 1) (hty : isRefTy (cY cl k)) (hfin : (cT cl k).2.2.2 = true) {v : Option Nat}  {index : Nat} {ref : String} (lk : (Cond.fieldLink own index ref (cT cl k).2.1 (cT cl k).2.2.1).before args s = true) (sm : ∀ x, s.fieldFound? (cT cl k).1 (cT cl k).2.1 (cT cl k).2.2.1 = some x → s.fieldFound? ref (cT cl k).2.1 (cT cl k).2.2.1 = some x) (hdg : decode cc pc = .ok (.putfield index, 3)) (eh : h1 = wP h a k v)
    (kk : ∀ (H : Heap) (locs : List Loc), ZG Rp E s h0 h1 H locs → W p l e R s m args below meth c H locs (pX h1 - pX h0) (pS h1 - pS h0) Q (F0 m (pc + 3) ls rest)) (hdecl : (cT cl k).1 = own := by rfl) : W p l e R s m args below meth c H locs (pX h - pX h0) (pS h - pS h0) Q (F0 m pc ls (va_rf v :: .ref a :: rest)) := by
  subst eh
  exact zg_putFin G C hz cl k hg hk (isRefTy.ok hty v).1 (isRefTy.ok hty v).2 hfin (Or.inl lk) sm lk hdecl hdg upd1_wP (fun j _ => fV_wP ht j) kk
theorem zg_pute (G : GoodR Rp E vis new) (C : PC E p s m args meth c own cc nL ret nm) (hz : ZG Rp E s h0 h H locs) {a : Nat} (hg : gk vis 1 (pK h a)) {v : Int} (hv : zst v) {index : Nat} {ref : String} (lk : lkF own index ref (cT 1 8).2.1 (cT 1 8).2.2.1 args s) (hdg : decode cc pc = .ok (.putfield index, 3)) (eh : h1 = wI h a 8 v) (kk : ∀ (H : Heap) (locs : List Loc), ZG Rp E s h0 h1 H locs → W p l e R s m args below meth c H locs (pX h1 - pX h0) (pS h1 - pS h0) Q (F0 m (pc + 3) ls rest)) (hr : ref = (cT 1 8).1 := by rfl) : W p l e R s m args below meth c H locs (pX h - pX h0) (pS h - pS h0) Q (F0 m pc ls (.ref (eK E v) :: .ref a :: rest)) := by
  subst eh
  exact zg_put G C hz 1 8 hg (by decide) (v := .ref (eK E v)) rfl rfl (by decide) lk (by rw [hr]; exact fun _ h => h) hdg upd1_wI (fun j _ => fV_wIe (by decide) (by omega) j) kk
theorem zg_getp_nd (G : GoodR Rp E visP new) (C : PC E p s m args meth c own cc nL ret nm) (hz : ZG Rp E s h0 h H locs) (cl k : Nat) {a : Nat} (hg : isN (pK h a)) (hk : cl = 2) (ht : k = 0) {index : Nat} (lk : lkF own index (cT 2 0).1 (cT 2 0).2.1 (cT 2 0).2.2.1 args s) (sm : ∀ x, s.fieldFound? (cT 2 0).1 (cT 2 0).2.1 (cT 2 0).2.2.1 = some x → s.fieldFound? (cT 2 0).1 (cT 2 0).2.1 (cT 2 0).2.2.1 = some x) (hdg : decode cc pc = .ok (.getfield index, 3))
    (kk : W p l e R s m args below meth c H locs cells slots Q (F0 m (pc + 3) ls (va_rf (pP h a 0) :: rest))) : W p l e R s m args below meth c H locs cells slots Q (F0 m pc ls (.ref a :: rest)) := by
  rcases hg with hg | hg
  · exact zg_getp G C hz 2 0 (gkp (by decide) hg) (by decide) (by decide) lk sm hdg kk
  · exact zg_getp G C hz 3 0 (gkp (by decide) hg) (by decide) (by decide) lk sm hdg kk
theorem zg_geti_nd (G : GoodR Rp E visP new) (C : PC E p s m args meth c own cc nL ret nm) (hz : ZG Rp E s h0 h H locs) (cl k : Nat) {a : Nat} (hg : isN (pK h a)) (hk : cl = 2) (ht : k = 1) {index : Nat} (lk : lkF own index (cT 2 1).1 (cT 2 1).2.1 (cT 2 1).2.2.1 args s) (sm : ∀ x, s.fieldFound? (cT 2 1).1 (cT 2 1).2.1 (cT 2 1).2.2.1 = some x → s.fieldFound? (cT 2 1).1 (cT 2 1).2.1 (cT 2 1).2.2.1 = some x) (hdg : decode cc pc = .ok (.getfield index, 3))
    (kk : W p l e R s m args below meth c H locs cells slots Q (F0 m (pc + 3) ls (.int (zI (pI h a 1)) :: rest))) : W p l e R s m args below meth c H locs cells slots Q (F0 m pc ls (.ref a :: rest)) := by
  rcases hg with hg | hg
  · exact zg_geti G C hz 2 1 (gkp (by decide) hg) (by decide) (by decide) lk sm hdg kk
  · exact zg_geti G C hz 3 1 (gkp (by decide) hg) (by decide) (by decide) lk sm hdg kk
theorem zg_putp_nd (G : GoodR Rp E visP new) (C : PC E p s m args meth c own cc nL ret nm) (hz : ZG Rp E s h0 h H locs) (cl k : Nat) {a : Nat} (hg : isN (pK h a)) (hk : cl = 2) (ht : k = 0) (hty : isRefTy (cY 2 0)) (hfin : cl = 2) {v : Option Nat} {index : Nat} (lk : lkF own index (cT 2 0).1 (cT 2 0).2.1 (cT 2 0).2.2.1 args s) (sm : ∀ x, s.fieldFound? (cT 2 0).1 (cT 2 0).2.1 (cT 2 0).2.2.1 = some x → s.fieldFound? (cT 2 0).1 (cT 2 0).2.1 (cT 2 0).2.2.1 = some x) (hdg : decode cc pc = .ok (.putfield index, 3)) (eh : h1 = wP h a 0 v)
    (kk : ∀ (H : Heap) (locs : List Loc), ZG Rp E s h0 h1 H locs → W p l e R s m args below meth c H locs (pX h1 - pX h0) (pS h1 - pS h0) Q (F0 m (pc + 3) ls rest)) : W p l e R s m args below meth c H locs (pX h - pX h0) (pS h - pS h0) Q (F0 m pc ls (va_rf v :: .ref a :: rest)) := by
  rcases hg with hg | hg
  · exact zg_putp G C hz 2 0 (gkp (by decide) hg) (by decide) (by decide) hty (by decide) lk sm hdg eh kk
  · exact zg_putp G C hz 3 0 (gkp (by decide) hg) (by decide) (by decide) hty (by decide) lk sm hdg eh kk
theorem zg_puti_nd (G : GoodR Rp E visP new) (C : PC E p s m args meth c own cc nL ret nm) (hz : ZG Rp E s h0 h H locs) (cl k : Nat) {a : Nat} (hg : isN (pK h a)) (hk : cl = 2) (ht : k = 1) (hty : cY 2 1 = .int) (hfin : cl = 2) {v : Int} {index : Nat} (lk : lkF own index (cT 2 1).1 (cT 2 1).2.1 (cT 2 1).2.2.1 args s) (sm : ∀ x, s.fieldFound? (cT 2 1).1 (cT 2 1).2.1 (cT 2 1).2.2.1 = some x → s.fieldFound? (cT 2 1).1 (cT 2 1).2.1 (cT 2 1).2.2.1 = some x) (hdg : decode cc pc = .ok (.putfield index, 3)) (eh : h1 = wI h a 1 v)
    (kk : ∀ (H : Heap) (locs : List Loc), ZG Rp E s h0 h1 H locs → W p l e R s m args below meth c H locs (pX h1 - pX h0) (pS h1 - pS h0) Q (F0 m (pc + 3) ls rest)) : W p l e R s m args below meth c H locs (pX h - pX h0) (pS h - pS h0) Q (F0 m pc ls (.int (zI v) :: .ref a :: rest)) := by
  rcases hg with hg | hg
  · exact zg_puti G C hz 2 1 (gkp (by decide) hg) (by decide) (by decide) hty (by decide) lk sm hdg eh kk
  · exact zg_puti G C hz 3 1 (gkp (by decide) hg) (by decide) (by decide) hty (by decide) lk sm hdg eh kk
theorem zin_lt {i : Int} {n : Nat} (h : zin i n) : vp_in (zI i) n ∧ zix i < n := by
  have h1 := zin_vp.mp h
  exact ⟨h1, Nat.not_le.mp fun q => h1 (Or.inr q)⟩
theorem ZG.upd {a : Nat} {H' : Heap} {x : Nat} (G : GoodR Rp E vis new) (hz : ZG Rp E s h0 h H locs) (hv : vis (pK h a)) (hu : upd1 h h1 a) (hO : pK h a = 50 → ∀ j x, pP h1 a j = some x → isO (pK h x)) (hc : cellOf E h1 a H') (e2 : H'.size = H.size) (e3 : ∀ q : Nat, q ≠ a → H'[q]? = H[q]?) : ZG Rp E s h0 h1 H' (locs ++ [⟨a, x⟩]) :=
  ⟨G.2.1 h h1 H H' a hz.1 hv hu hO hc e2 e3, hz.2.1.put (G.1 h H a hz.1 hv).2.1 e2 e3, hz.2.2.tr ⟨Nat.le_of_eq hu.X.1.symm, Nat.le_of_eq hu.X.2.1.symm, hu.X.2.2.1⟩⟩
theorem zg_iald (G : GoodR Rp E vis new) (C : PC E p s m args meth c own cc nL ret nm) (hz : ZG Rp E s h0 h H locs) {a : Nat} (hg : isI (pK h a)) {i : Int} (hi : zin i (pN h a)) (hdg : decode cc pc = .ok (.iaload, 1)) (kk : W p l e R s m args below meth c H locs cells slots Q (F0 m (pc + 1) ls (.int (zI (pI h a (zix i))) :: rest))) (hv : vis (pK h a) := by first | exact vP_I (by assumption) | exact vR_A (Or.inl (by assumption))) : W p l e R s m args below meth c H locs cells slots Q (F0 m pc ls (.int (zI i) :: .ref a :: rest)) := by
  obtain ⟨h1, h2⟩ := zin_lt hi
  exact W.iald (v := .int (zI (pI h a (zix i)))) C.1 C.2.1 ((G.1 h H a hz.1 hv).1.2.1 hg) ((C.env.1.2 0 _ rfl).1 _ _) (fun q => by cases q) (by rw [arrV_size]; exact h1) (arrV_read _ _ h2) rfl rfl hdg kk
theorem zg_iast (G : GoodR Rp E vis new) (C : PC E p s m args meth c own cc nL ret nm) (hz : ZG Rp E s h0 h H locs) {a : Nat} (hg : isI (pK h a)) {i v : Int} (hi : zin i (pN h a)) (hdg : decode cc pc = .ok (.iastore, 1)) (eh : h1 = wI h a (zix i) v) (kk : ∀ (H : Heap) (locs : List Loc), ZG Rp E s h0 h1 H locs → W p l e R s m args below meth c H locs (pX h1 - pX h0) (pS h1 - pS h0) Q (F0 m (pc + 1) ls rest)) (hv : vis (pK h a) := by first | exact vP_I (by assumption) | exact vR_A (Or.inl (by assumption))) : W p l e R s m args below meth c H locs (pX h - pX h0) (pS h - pS h0) Q (F0 m pc ls (.int (zI v) :: .int (zI i) :: .ref a :: rest)) := by
  subst eh
  obtain ⟨hi1, hi2⟩ := zin_lt hi
  refine W.iast C.1 C.2.1 ((G.1 h H a hz.1 hv).1.2.1 hg) ((C.env.1.2 0 _ rfl).1 _ _) (fun q => by cases q) (by rw [arrV_size]; exact hi1) rfl rfl hdg fun H1 e1 e2 e3 => ?_
  rw [arrV_store] at e1
  refine kk H1 _ (hz.upd G hv upd1_wI (fun q => by exfalso; omega) (cellOf_i hg ?_) e2 e3)
  rw [e1]
  congr 2
  funext j
  by_cases e : j = zix i
  · subst e; simp [updV, pI, wI, va_up, zix]
  · simp [updV, pI, wI, va_up, zix] at e ⊢; simp [e]
theorem zg_bald (G : GoodR Rp E vis new) {kd : Nat} (hkd : (kd = 45 ∨ kd = 51) ∧ vis kd) (C : PC E p s m args meth c own cc nL ret nm) (hz : ZG Rp E s h0 h H locs) {a : Nat} (hg : pK h a = kd) {i : Int} (hi : zin i (pN h a)) (hdg : decode cc pc = .ok (.baload, 1)) (kk : W p l e R s m args below meth c H locs cells slots Q (F0 m (pc + 1) ls (.int (zI (pI h a (zix i))) :: rest))) : W p l e R s m args below meth c H locs cells slots Q (F0 m pc ls (.int (zI i) :: .ref a :: rest)) := by
  obtain ⟨h1, h2⟩ := zin_lt hi
  exact W.bald (v := .int (zI (pI h a (zix i)))) C.1 C.2.1 ((G.1 h H a hz.1 (hg ▸ hkd.2)).1.2.2.1 (hg ▸ hkd.1)).1 ((C.env.1.2 1 _ rfl).1 _ _) (fun q => by cases q) (by rw [arrV_size]; exact h1) (arrV_read _ _ h2) rfl rfl hdg kk
theorem zg_bast (G : GoodR Rp E vis new) {kd : Nat} (hkd : (kd = 45 ∨ kd = 51) ∧ vis kd) (C : PC E p s m args meth c own cc nL ret nm) (hz : ZG Rp E s h0 h H locs) {a : Nat} (hg : pK h a = kd) {i v : Int} (hi : zin i (pN h a)) (hdg : decode cc pc = .ok (.bastore, 1)) (eh : h1 = wI h a (zix i) (zi2b v)) (kk : ∀ (H : Heap) (locs : List Loc), ZG Rp E s h0 h1 H locs → W p l e R s m args below meth c H locs (pX h1 - pX h0) (pS h1 - pS h0) Q (F0 m (pc + 1) ls rest)) : W p l e R s m args below meth c H locs (pX h - pX h0) (pS h - pS h0) Q (F0 m pc ls (.int (zI v) :: .int (zI i) :: .ref a :: rest)) := by
  subst eh
  have hv : vis (pK h a) := hg ▸ hkd.2
  have hy : isY (pK h a) := hg ▸ hkd.1
  obtain ⟨hi1, hi2⟩ := zin_lt hi
  have hc := (G.1 h H a hz.1 hv).1.2.2.1 hy
  refine W.bast C.1 C.2.1 hc.1 ((C.env.1.2 1 _ rfl).1 _ _) (fun q => by cases q) (by rw [arrV_size]; exact hi1) rfl rfl hdg fun H1 e1 e2 e3 => ?_
  rw [zi2b_nw, arrV_store] at e1
  refine kk H1 _ (hz.upd G hv upd1_wI (fun q => by exfalso; omega) (cellOf_y hy ⟨?_, fun j => ?_⟩) e2 e3)
  · rw [e1]
    congr 2
    funext j
    by_cases e : j = zix i
    · subst e; simp [updV, pI, wI, va_up, zix]
    · simp [updV, pI, wI, va_up, zix] at e ⊢; simp [e]
  · by_cases e : j = zix i
    · simp [pI, wI, va_up, e]; exact zi2b_y v
    · simp [pI, wI, va_up, e]; exact hc.2 j
/-- the array class and its kind -/
def qcl (E : PEw) (k : Nat) : ClassId := if k = 46 then (eC E).2.2.2 else (eC E).2.2.1
def qnm (k : Nat) : String := if k = 46 then "PlainPage$Text" else "java/lang/Object"
theorem qcell {kd a : Nat} (hkd : kd = 46 ∨ kd = 50) (hg : pK h a = kd) (hc : cellOf E h a H) : H[a]? = some (arrV (qcl E kd) (pN h a) (fun j => va_rf (pP h a j))) := by
  rcases hkd with e | e
  · subst e; exact hc.2.2.2.2 hg
  · subst e; exact hc.2.2.2.1 hg
theorem qset {kd a : Nat} (hkd : kd = 46 ∨ kd = 50) (hg : pK h a = kd) (t : H[a]? = some (arrV (qcl E kd) (pN h a) (fun j => va_rf (pP h a j)))) : cellOf E h a H := by
  rcases hkd with e | e
  · subst e; exact cellOf_t hg t
  · subst e; exact cellOf_q hg t
theorem qty (C : PC E p s m args meth c own cc nL ret nm) {kd : Nat} (hkd : kd = 46 ∨ kd = 50) : ArrOfT s (qcl E kd) (.object (qnm kd)) ∧ va_RA s (qcl E kd) (.object (qnm kd)) := by
  rcases hkd with e | e
  · subst e; exact C.env.1.2 3 _ rfl
  · subst e; exact C.env.1.2 2 _ rfl
theorem zg_aald (G : GoodR Rp E vis new) {kd : Nat} (hkd : (kd = 46 ∨ kd = 50) ∧ vis kd) (C : PC E p s m args meth c own cc nL ret nm) (hz : ZG Rp E s h0 h H locs) {a : Nat} (hg : pK h a = kd) {i : Int} (hi : zin i (pN h a)) (hdg : decode cc pc = .ok (.aaload, 1)) (kk : W p l e R s m args below meth c H locs cells slots Q (F0 m (pc + 1) ls (va_rf (pP h a (zix i)) :: rest))) : W p l e R s m args below meth c H locs cells slots Q (F0 m pc ls (.int (zI i) :: .ref a :: rest)) := by
  obtain ⟨h1, h2⟩ := zin_lt hi
  exact W.aald (v := va_rf (pP h a (zix i))) C.1 C.2.1 (qcell hkd.1 hg (G.1 h H a hz.1 (hg ▸ hkd.2)).1) ((qty C hkd.1).1 _ _) rfl (fun q => by cases q) (by rw [arrV_size]; exact h1) (arrV_read _ _ h2) rfl rfl hdg kk
/-- what stands at an address that a list may hold -/
theorem zg_any {x : Nat} (G : GoodR Rp E vis new) (C : PC E p s m args meth c own cc nL ret nm) (hr : Rp h H) (hx : pK h x = 2 ∨ pK h x = 3 ∨ pK h x = 7) (hv : vis (pK h x)) : va_Any "java/lang/Object" s H x ∧ ∀ cl, pK h x = cl → ∃ cell : Cell, H[x]? = some cell ∧ cell.vm.isStatics = false ∧ s.vm.findClass (cR cl) = some cell.cls := by
  have key : ∀ cl, 1 ≤ cl ∧ cl ≤ 7 → pK h x = cl → ∃ cell : Cell, H[x]? = some cell ∧ cell.vm.isStatics = false ∧ s.vm.findClass (cR cl) = some cell.cls := by
    intro cl h7 e
    have ho : isObj (pK h x) := Or.inl (by rw [e]; exact h7)
    have hkc : kc (pK h x) = cl := by rw [e]; unfold kc; rw [if_pos h7.2]
    obtain ⟨cell, q1, q2, q3, -⟩ := (G.1 h H x hr hv).1.1 ho
    rw [hkc] at q2
    exact ⟨cell, q1, by rw [q3]; rfl, by rw [q2]; exact (C.env.1.1 cl _ (cl_at cl (by omega))).2.1⟩
  refine ⟨?_, fun cl e => key cl (by omega) e⟩
  have hasg : ∀ (nm' : String), Cond.castable nm' "java/lang/Object" ∈ lw_tbl → ∀ cell : Cell, s.vm.findClass nm' = some cell.cls → H[x]? = some cell → cell.vm.isStatics = false → va_Any "java/lang/Object" s H x := by
    intro nm' hw cell hc h1 h2
    obtain ⟨kC, hkC, -⟩ := Vm.findClass_spec hc
    refine ⟨cell, h1, h2, ⟨kC, hkC⟩, fun comp hcomp => ?_⟩
    obtain ⟨c0, t1, f1, f2, f3⟩ := Cond.castable_spec (va_Nw.use (A := args) rfl (C.nwv hw rfl))
    cases hc.symm.trans f1
    cases hcomp.symm.trans f2
    exact f3
  rcases hx with e | e | e
  · obtain ⟨cell, a1, a2, a3⟩ := key 2 (by decide) e
    exact hasg "PlainPage$Element" q1623 cell a3 a1 a2
  · obtain ⟨cell, a1, a2, a3⟩ := key 3 (by decide) e
    exact hasg "PlainPage$Text" q1618 cell a3 a1 a2
  · obtain ⟨cell, a1, a2, a3⟩ := key 7 (by decide) e
    exact hasg "PlainPage$Rule" q1630 cell a3 a1 a2
theorem zg_aast (G : GoodR Rp E vis new) {kd : Nat} (hkd : (kd = 46 ∨ kd = 50) ∧ vis kd ∧ vis 2 ∧ vis 3 ∧ vis 7) (C : PC E p s m args meth c own cc nL ret nm) (hz : ZG Rp E s h0 h H locs) {a : Nat} (hg : pK h a = kd) {i : Int} {x : Option Nat} (hi : zin i (pN h a)) (hx : okR h a x) (hdg : decode cc pc = .ok (.aastore, 1)) (eh : h1 = wP h a (zix i) x) (kk : ∀ (H : Heap) (locs : List Loc), ZG Rp E s h0 h1 H locs → W p l e R s m args below meth c H locs (pX h1 - pX h0) (pS h1 - pS h0) Q (F0 m (pc + 1) ls rest)) : W p l e R s m args below meth c H locs (pX h - pX h0) (pS h - pS h0) Q (F0 m pc ls (va_rf x :: .int (zI i) :: .ref a :: rest)) := by
  subst eh
  have hv : vis (pK h a) := hg ▸ hkd.2.1
  obtain ⟨hi1, hi2⟩ := zin_lt hi
  have hc := qcell hkd.1 hg (G.1 h H a hz.1 hv).1
  have fin : ∀ H1 : Heap, H1[a]? = some ((arrV (qcl E kd) (pN h a) (fun j => va_rf (pP h a j))).setSlot (zix i) (va_rf x)) → H1.size = H.size → (∀ q : Nat, q ≠ a → H1[q]? = H[q]?) → W p l e R s m args below meth c H1 (locs ++ [⟨a, zix i⟩]) (pX h - pX h0) (pS h - pS h0) Q (F0 m (pc + 1) ls rest) := by
    intro H1 e1 e2 e3
    rw [arrV_store] at e1
    have hO : pK h a = 50 → ∀ j y, pP (wP h a (zix i) x) a j = some y → isO (pK h y) := by
      intro q j y hy
      by_cases e : j = zix i
      · have e' : x = some y := by simpa [pP, wP, va_up, e] using hy
        rcases hx with hx | hx
        · rw [hx] at e'; cases e'
        · rw [e'] at hx; exact hx.1
      · have e' : pP h a j = some y := by simpa [pP, wP, va_up, e] using hy
        exact G.2.2.2.2.2 h H a j y hz.1 q e'
    refine kk H1 _ (hz.upd G hv upd1_wP hO (qset hkd.1 hg ?_) e2 e3)
    rw [e1]
    congr 2
    funext j
    by_cases e : j = zix i
    · subst e; simp [updV, pP, wP, va_up]
    · simp [updV, pP, wP, va_up, e]
  obtain ⟨kA, comp, k1, k2, k3, -⟩ := (qty C hkd.1).2
  cases x with
  | none => exact va_WaastN C.1 C.2.1 hc ((qty C hkd.1).1 _ _) (fun q => by cases q) (by rw [arrV_size]; exact hi1) rfl rfl hdg fin
  | some y =>
    have hy := hx.resolve_left (fun q => by cases q)
    have hvy : vis (pK h y) := by
      rcases hy.1 with q | q | q <;> rw [show pK h y = _ from q]
      · exact hkd.2.2.1
      · exact hkd.2.2.2.1
      · exact hkd.2.2.2.2
    obtain ⟨ha, hb2⟩ := zg_any G C hz.1 hy.1 hvy
    obtain ⟨cellV, g1, g3, ⟨kC, hkC⟩, hasg⟩ := ha
    obtain ⟨kE, hkE, -⟩ := Vm.findClass_spec k3
    refine W.aast C.1 C.2.1 hc (fun q h => by cases h) (fun h => by cases h) k1 k2 rfl hkE ⟨fun q => hi1 (Or.inl q), by rw [arrV_size]; exact hi2⟩ g1 (fun q h => by rw [h] at g3; cases g3) hkC ?_ rfl rfl hdg fin
    rcases hkd.1 with e | e
    · subst e
      obtain ⟨cell2, z1, z2, z3⟩ := hb2 3 (hy.2 hg)
      cases g1.symm.trans z1
      cases (show s.vm.findClass "PlainPage$Text" = some cellV.cls from z3).symm.trans k3
      exact Vm.assignable_self _ _
    · subst e
      exact hasg _ k3
theorem zg_alenP (G : GoodR Rp E visP new) (C : PC E p s m args meth c own cc nL ret nm) (hz : ZG Rp E s h0 h H locs) {a : Nat} (hg : isAp (pK h a)) (hdg : decode cc pc = .ok (.arraylength, 1)) (kk : W p l e R s m args below meth c H locs cells slots Q (F0 m (pc + 1) ls (.int (zI (pN h a : Int)) :: rest))) : W p l e R s m args below meth c H locs cells slots Q (F0 m pc ls (.ref a :: rest)) := by
  rcases hg with hg | hg
  · exact W.alen C.1 C.2.1 ((G.1 h H a hz.1 (vP_I hg)).1.2.1 hg) ((C.env.1.2 0 _ rfl).1 _ _) (by rw [arrV_size]; rfl) rfl rfl hdg kk
  · exact W.alen C.1 C.2.1 ((G.1 h H a hz.1 (vP_Y hg)).1.2.2.1 (Or.inl hg)).1 ((C.env.1.2 1 _ rfl).1 _ _) (by rw [arrV_size]; rfl) rfl rfl hdg kk
theorem zg_alenR (G : GoodR Rp E visR new) (C : PC E p s m args meth c own cc nL ret nm) (hz : ZG Rp E s h0 h H locs) {a : Nat} (hg : isAr (pK h a)) (hdg : decode cc pc = .ok (.arraylength, 1)) (kk : W p l e R s m args below meth c H locs cells slots Q (F0 m (pc + 1) ls (.int (zI (pN h a : Int)) :: rest))) : W p l e R s m args below meth c H locs cells slots Q (F0 m pc ls (.ref a :: rest)) := by
  rcases hg with hg | hg | hg
  · exact W.alen C.1 C.2.1 ((G.1 h H a hz.1 (by rw [hg]; decide)).1.2.2.1 (Or.inr hg)).1 ((C.env.1.2 1 _ rfl).1 _ _) (by rw [arrV_size]; rfl) rfl rfl hdg kk
  · exact W.alen C.1 C.2.1 ((G.1 h H a hz.1 (by rw [hg]; decide)).1.2.2.2.1 hg) ((C.env.1.2 2 _ rfl).1 _ _) (by rw [arrV_size]; rfl) rfl rfl hdg kk
  · obtain ⟨e1, e2⟩ := G.2.2.2.2.1 h H a hz.1 hg
    obtain ⟨cell, t1, t2, t3, t4, t5, -⟩ := (CEV.now C.env hz.2.1).2.1
    rw [← e1] at t1
    rw [e2] at kk
    exact W.alen C.1 C.2.1 t1 t2 t5 rfl rfl hdg kk
theorem RBw.fit {n : Nat} (hb : RBw R h0) (hz : ZG Rp E s h0 h H locs) (hg : rm1 h n) : pX h - pX h0 + 1 ≤ R.cells ∧ pS h - pS h0 + n ≤ R.slots := by
  have h1 := hz.2.2.1
  have h2 := hz.2.2.2.1
  have h3 := hz.2.2.2.2
  have h4 := hb.1
  have h5 := hb.2
  have h6 := hg.1
  have h7 := hg.2
  omega
theorem ZG.born {H' : Heap} {kd n : Nat} (G : GoodR Rp E vis new) (hz : ZG Rp E s h0 h H locs) (hk : new kd) (hg : rm1 h n) (hc : cellOf E (wNew h kd n) (pX h) H') (e2 : H'.size = H.size + 1) (e3 : ∀ q : Nat, q < H.size → H'[q]? = H[q]?) : ZG Rp E s h0 (wNew h kd n) H' locs :=
  ⟨G.2.2.2.1 h H H' kd n hz.1 hk hg hc e2 e3, hz.2.1.new e2 e3, hz.2.2.tr ⟨Nat.le_succ _, Nat.le_add_right _ _, rfl⟩⟩
theorem wNew_at {kd n : Nat} : pK (wNew h kd n) (pX h) = kd ∧ pN (wNew h kd n) (pX h) = n ∧ pI (wNew h kd n) (pX h) = (fun _ => 0) ∧ pP (wNew h kd n) (pX h) = (fun _ => none) := by
  simp [pK, pN, pI, pP, wNew, va_up]
theorem cY_def : ∀ c, c < 10 → c ≠ 0 → ∀ k, k < fN c → (fR c k = 0 → defaultValue (cY c k) = .int 0) ∧ (fR c k = 1 → defaultValue (cY c k) = .null) ∧ (c ≠ 1 → fR c k ≠ 2 ∧ (fR c k = 0 ∨ fR c k = 1 ∨ c = 0)) := by
  apply c10 <;> decide +kernel
theorem zg_new {n index : Nat} {cn : String} {a : Nat} (G : GoodR Rp E vis new) (C : PC E p s m args meth c own cc nL ret nm) (hz : ZG Rp E s h0 h H locs) {F1 F2 : Prop} (hr : F1 ∧ F2 ∧ RBw R h0) (kd : Nat) (hkd : new kd ∧ isObj kd ∧ kd ≠ 1 ∧ fN (kc kd) = n) (hg : rm1 h n) (q1 : Cond.classLink own index cn ∈ lw_all) (q2 : Cond.instantiable cn n ∈ lw_all) (q3 : Cond.initialized cn ∈ lw_all) (hdg : decode cc pc = .ok (.new index, 3)) (ea : a = pX h) (eh : h1 = wNew h kd n)
    (kk : ∀ H : Heap, ZG Rp E s h0 h1 H locs → W p l e R s m args below meth c H locs (pX h1 - pX h0) (pS h1 - pS h0) Q (F0 m (pc + 3) ls (.ref a :: rest))) (hcn : cR (kc kd) = cn := by rfl) : W p l e R s m args below meth c H locs (pX h - pX h0) (pS h - pS h0) Q (F0 m pc ls rest) := by
  subst eh ea
  obtain ⟨hn1, hn2, hn3, hn4⟩ := hkd
  obtain ⟨hcells, hslots⟩ := RBw.fit hr.2.2 hz hg
  have hKn := C.env.1.1 (kc kd) _ (cl_at (kc kd) kc_lt)
  have hX := (G.2.2.1 h H hz.1).1
  have hne1 : kc kd ≠ 1 := by
    intro e
    unfold kc at e
    split at e
    · exact hn3 e
    · split at e <;> omega
  have hne0 : kc kd ≠ 0 := by
    intro e
    unfold kc at e
    split at e
    · omega
    · split at e <;> omega
  refine W.newcK C.1 C.2.1 C.ow (C.w q1) (C.w q2) (C.w q3) rfl hdg hcells hslots (hcn ▸ hKn.2.1) hX.symm fun H1 kC hkC e1 z1 o1 => ?_
  have hcell : cellOf E (wNew h kd n) (pX h) H1 := by
    obtain ⟨w1, w2, w3, w4⟩ := wNew_at (h := h) (kd := kd) (n := n)
    refine cellOf_obj (by rw [w1]; exact hn2) ?_
    rw [w1]
    refine (u_born (cY (kc kd)) C.2.2.2.2.2.2.1 (cl_in _ kc_lt) hKn hkC e1 (cl_ty _ kc_lt)).to (fun j hj => ?_)
    obtain ⟨d1, d2, d3⟩ := cY_def (kc kd) kc_lt hne0 j hj
    obtain ⟨d4, d5⟩ := d3 hne1
    unfold fV
    rw [w3, w4]
    rcases d5 with d5 | d5 | d5
    · rw [if_pos d5, d1 d5]; rfl
    · rw [if_neg (by omega), if_pos d5, d2 d5]; rfl
    · exact absurd d5 hne0
  have hw := kk H1 (hz.born G hn1 hg hcell (by rw [z1, hX]) (fun q hq => o1 q (by rw [hX]; exact hq)))
  have e5 : pX (wNew h kd n) - pX h0 = pX h - pX h0 + 1 := by
    have := hz.2.2.1
    show pX h + 1 - pX h0 = _
    omega
  have e6 : pS (wNew h kd n) - pS h0 = pS h - pS h0 + n := by
    have := hz.2.2.2.1
    show pS h + n - pS h0 = _
    omega
  rw [e5, e6] at hw
  exact hw
theorem zg_newa {n : Int} {a kd : Nat} (G : GoodR Rp E vis new) (C : PC E p s m args meth c own cc nL ret nm) (hz : ZG Rp E s h0 h H locs) (hr : RBw R h0) (hkd : new kd) {at0 : ArrayType} (harr : Cond.arrayClass (newarray.typeOf at0) ∈ lw_all) (hby : componentBytes (newarray.typeOf at0) ≤ 4) (hg : rmA h n) (hdg : decode cc pc = .ok (.newarray at0, 2)) (ea : a = pX h) (eh : h1 = wNew h kd (zix n))
    (hce : ∀ (H' : Heap) (cA : ClassId), s.vm.findClass ("[" ++ (newarray.typeOf at0).toString) = some cA → H'[pX h]? = some (arrV cA (zix n) (fun _ => defaultValue (newarray.typeOf at0))) → cellOf E (wNew h kd (zix n)) (pX h) H')
    (kk : ∀ H : Heap, ZG Rp E s h0 h1 H locs → W p l e R s m args below meth c H locs (pX h1 - pX h0) (pS h1 - pS h0) Q (F0 m (pc + 2) ls (.ref a :: rest))) : W p l e R s m args below meth c H locs (pX h - pX h0) (pS h - pS h0) Q (F0 m pc ls (.int (zI n) :: rest)) := by
  subst eh ea
  obtain ⟨g1, g2, g3⟩ := hg
  obtain ⟨hcells, hslots⟩ := RBw.fit hr hz g3
  have hX := (G.2.2.1 h H hz.1).1
  refine va_newaK C.1 C.2.1 (C.w harr) rfl hdg (n := zI n) (N := zix n) (rest := rest) rfl (fun q => by have := Int32.lt_iff_toInt_lt.mp q; simp at this; omega) rfl (by calc zix n * componentBytes (newarray.typeOf at0) ≤ 100000 * 4 := Nat.mul_le_mul g2 hby
      _ ≤ 536870912 := by decide) hcells hslots hX.symm fun H1 cA e1 z1 o1 _ hfc => ?_
  have hw := kk H1 (hz.born G hkd g3 (hce H1 cA hfc e1) (by rw [z1, hX]) (fun q hq => o1 q (by rw [hX]; exact hq)))
  have e5 : pX (wNew h kd (zix n)) - pX h0 = pX h - pX h0 + 1 := by
    have := hz.2.2.1
    show pX h + 1 - pX h0 = _
    omega
  have e6 : pS (wNew h kd (zix n)) - pS h0 = pS h - pS h0 + zix n := by
    have := hz.2.2.2.1
    show pS h + zix n - pS h0 = _
    omega
  rw [e5, e6] at hw
  exact hw
theorem zg_newa_int {n : Int} {a kd : Nat} (G : GoodR Rp E vis new) (C : PC E p s m args meth c own cc nL ret nm) (hz : ZG Rp E s h0 h H locs) {F1 F2 : Prop} (hr : F1 ∧ F2 ∧ RBw R h0) (hkd : new kd ∧ isI kd) (hg : rmA h n) (hdg : decode cc pc = .ok (.newarray .int, 2)) (ea : a = pX h) (eh : h1 = wNew h kd (zix n))
    (kk : ∀ H : Heap, ZG Rp E s h0 h1 H locs → W p l e R s m args below meth c H locs (pX h1 - pX h0) (pS h1 - pS h0) Q (F0 m (pc + 2) ls (.ref a :: rest))) : W p l e R s m args below meth c H locs (pX h - pX h0) (pS h - pS h0) Q (F0 m pc ls (.int (zI n) :: rest)) := by
  refine zg_newa G C hz hr.2.2 hkd.1 (at0 := .int) q233 (by decide) hg hdg ea eh (fun H' cA hfc e1 => ?_) kk
  have hcA : cA = (eC E).1 := Option.some.inj (hfc.symm.trans (C.env.1.2 0 _ rfl).2)
  obtain ⟨w1, w2, w3, w4⟩ := wNew_at (h := h) (kd := kd) (n := zix n)
  refine cellOf_i (by rw [w1]; exact hkd.2) ?_
  rw [w2, w3, e1, hcA]
  rfl
theorem zg_newa_byte {n : Int} {a kd : Nat} (G : GoodR Rp E vis new) (C : PC E p s m args meth c own cc nL ret nm) (hz : ZG Rp E s h0 h H locs) {F1 F2 : Prop} (hr : F1 ∧ F2 ∧ RBw R h0) (hkd : new kd ∧ isY kd) (hg : rmA h n) (hdg : decode cc pc = .ok (.newarray .byte, 2)) (ea : a = pX h) (eh : h1 = wNew h kd (zix n))
    (kk : ∀ H : Heap, ZG Rp E s h0 h1 H locs → W p l e R s m args below meth c H locs (pX h1 - pX h0) (pS h1 - pS h0) Q (F0 m (pc + 2) ls (.ref a :: rest))) : W p l e R s m args below meth c H locs (pX h - pX h0) (pS h - pS h0) Q (F0 m pc ls (.int (zI n) :: rest)) := by
  refine zg_newa G C hz hr.2.2 hkd.1 (at0 := .byte) q277 (by decide) hg hdg ea eh (fun H' cA hfc e1 => ?_) kk
  have hcA : cA = (eC E).2.1 := Option.some.inj (hfc.symm.trans (C.env.1.2 1 _ rfl).2)
  obtain ⟨w1, w2, w3, w4⟩ := wNew_at (h := h) (kd := kd) (n := zix n)
  refine cellOf_y (by rw [w1]; exact hkd.2) ⟨?_, fun j => ?_⟩
  · rw [w2, w3, e1, hcA]
    rfl
  · rw [w3]; exact zisY_0
theorem zg_newq {n : Int} {a kd index : Nat} (G : GoodR Rp E vis new) (C : PC E p s m args meth c own cc nL ret nm) (hz : ZG Rp E s h0 h H locs) (hr : RBw R h0) (hkd : new kd ∧ (kd = 46 ∨ kd = 50)) (hov : va_AO (qnm kd) s) (hg : rmA h n) (q1 : Cond.classLink own index (qnm kd) ∈ lw_all) (hdg : decode cc pc = .ok (.anewarray index, 3)) (ea : a = pX h) (eh : h1 = wNew h kd (zix n))
    (kk : ∀ H : Heap, ZG Rp E s h0 h1 H locs → W p l e R s m args below meth c H locs (pX h1 - pX h0) (pS h1 - pS h0) Q (F0 m (pc + 3) ls (.ref a :: rest))) : W p l e R s m args below meth c H locs (pX h - pX h0) (pS h - pS h0) Q (F0 m pc ls (.int (zI n) :: rest)) := by
  subst eh ea
  obtain ⟨g1, g2, g3⟩ := hg
  obtain ⟨hcells, hslots⟩ := RBw.fit hr hz g3
  have hX := (G.2.2.1 h H hz.1).1
  refine W.anew C.1 C.2.1 C.ow (C.w q1) (va_AO.use hov) rfl hdg (n := zI n) (rest := rest) rfl (fun q => by have := Int32.lt_iff_toInt_lt.mp q; simp at this; omega) (by show zix n * 4 ≤ _; omega) hcells hslots fun cA kA comp hfc hkA hkk hcomp => ?_
  generalize hH1 : H.push ({ cls := cA, slots := Array.replicate (zI n).toNatClampNeg .null, vm := .none } : Cell) = H1
  have z1 : H1.size = H.size + 1 := by rw [← hH1, Array.size_push]
  have e1 : H1[H.size]? = some (arrV cA (zix n) (fun _ => .null)) := by rw [← hH1, Array.getElem?_push_size, zix, ← arrV_new]
  have o1 : ∀ q : Nat, q < H.size → H1[q]? = H[q]? := fun q hq => by rw [← hH1, Array.getElem?_push, if_neg (Nat.ne_of_lt hq)]
  have hcA : cA = qcl E kd := by
    obtain ⟨_, _, _, _, _, hx⟩ := (qty C hkd.2).2
    exact Option.some.inj (hfc.symm.trans hx)
  have hcell : cellOf E (wNew h kd (zix n)) (pX h) H1 := by
    obtain ⟨w1, w2, w3, w4⟩ := wNew_at (h := h) (kd := kd) (n := zix n)
    refine qset hkd.2 w1 ?_
    rw [w2, w4, hX, e1, hcA]
    rfl
  have hw := kk H1 (hz.born G hkd.1 g3 hcell z1 o1)
  have e5 : pX (wNew h kd (zix n)) - pX h0 = pX h - pX h0 + 1 := by
    have := hz.2.2.1
    show pX h + 1 - pX h0 = _
    omega
  have e6 : pS (wNew h kd (zix n)) - pS h0 = pS h - pS h0 + zix n := by
    have := hz.2.2.2.1
    show pS h + zix n - pS h0 = _
    omega
  rw [e5, e6, hX] at hw
  rw [hX]
  exact hw
theorem zg_newq46 {n : Int} {a index : Nat} (G : GoodR Rp E vis new) (C : PC E p s m args meth c own cc nL ret nm) (hz : ZG Rp E s h0 h H locs) {F1 F2 : Prop} (hr : F1 ∧ F2 ∧ RBw R h0) (hkd : new 46) (hg : rmA h n) (q1 : Cond.classLink own index "PlainPage$Text" ∈ lw_all) (hdg : decode cc pc = .ok (.anewarray index, 3)) (ea : a = pX h) (eh : h1 = wNew h 46 (zix n))
    (kk : ∀ H : Heap, ZG Rp E s h0 h1 H locs → W p l e R s m args below meth c H locs (pX h1 - pX h0) (pS h1 - pS h0) Q (F0 m (pc + 3) ls (.ref a :: rest))) : W p l e R s m args below meth c H locs (pX h - pX h0) (pS h - pS h0) Q (F0 m pc ls (.int (zI n) :: rest)) := zg_newq G C hz hr.2.2 ⟨hkd, Or.inl rfl⟩ C.env.2.1.2.1.2 hg q1 hdg ea eh kk
theorem zg_newq50 {n : Int} {a index : Nat} (G : GoodR Rp E vis new) (C : PC E p s m args meth c own cc nL ret nm) (hz : ZG Rp E s h0 h H locs) {F1 F2 : Prop} (hr : F1 ∧ F2 ∧ RBw R h0) (hkd : new 50) (hg : rmA h n) (q1 : Cond.classLink own index "java/lang/Object" ∈ lw_all) (hdg : decode cc pc = .ok (.anewarray index, 3)) (ea : a = pX h) (eh : h1 = wNew h 50 (zix n))
    (kk : ∀ H : Heap, ZG Rp E s h0 h1 H locs → W p l e R s m args below meth c H locs (pX h1 - pX h0) (pS h1 - pS h0) Q (F0 m (pc + 3) ls (.ref a :: rest))) : W p l e R s m args below meth c H locs (pX h - pX h0) (pS h - pS h0) Q (F0 m pc ls (.int (zI n) :: rest)) := zg_newq G C hz hr.2.2 ⟨hkd, Or.inr rfl⟩ C.env.2.1.2.1.1 hg q1 hdg ea eh kk
/-- the class of a page's object -/
theorem zg_cell (G : GoodR Rp E vis new) (C : PC E p s m args meth c own cc nL ret nm) (hr : Rp h H) {a cl : Nat} (hg : gk vis cl (pK h a)) : ∃ cell : Cell, H[a]? = some cell ∧ cell.vm.isStatics = false ∧ s.vm.findClass (cR cl) = some cell.cls := by
  obtain ⟨hc, ho, hv⟩ := hg
  have hcell := (G.1 h H a hr hv).1.1 ho
  rw [hc] at hcell
  obtain ⟨cell, q1, q2, q3, -⟩ := hcell
  exact ⟨cell, q1, by rw [q3]; rfl, by rw [q2]; exact (C.env.1.1 cl _ (cl_at cl (hc ▸ kc_lt))).2.1⟩
theorem zg_castK (G : GoodR Rp E visP new) (C : PC E p s m args meth c own cc nL ret nm) (hz : ZG Rp E s h0 h H locs) (cl : Nat) (h7 : 1 ≤ cl ∧ cl ≤ 7) {a index : Nat} (hg : pK h a = cl) (q1 : Cond.classLink own index (cR cl) ∈ lw_all) (hdg : decode cc pc = .ok (.checkcast index, 3)) (kk : W p l e R s m args below meth c H locs cells slots Q (F0 m (pc + 3) ls (.ref a :: rest))) : W p l e R s m args below meth c H locs cells slots Q (F0 m pc ls (.ref a :: rest)) :=
  va_castS C.1 C.2.1 C.ow (C.w q1) (C.env.1.1 cl _ (cl_at cl (by omega))).2 (zg_cell G C hz.1 (gkp h7 hg)) hdg kk
theorem zg_cast2 {a index : Nat} (G : GoodR Rp E visP new) (C : PC E p s m args meth c own cc nL ret nm) (hz : ZG Rp E s h0 h H locs) (hg : pK h a = 2) (q1 : Cond.classLink own index "PlainPage$Element" ∈ lw_all) (hdg : decode cc pc = .ok (.checkcast index, 3)) (kk : W p l e R s m args below meth c H locs cells slots Q (F0 m (pc + 3) ls (.ref a :: rest))) : W p l e R s m args below meth c H locs cells slots Q (F0 m pc ls (.ref a :: rest)) := zg_castK G C hz 2 (by decide) hg q1 hdg kk
theorem zg_cast3 {a index : Nat} (G : GoodR Rp E visP new) (C : PC E p s m args meth c own cc nL ret nm) (hz : ZG Rp E s h0 h H locs) (hg : pK h a = 3) (q1 : Cond.classLink own index "PlainPage$Text" ∈ lw_all) (hdg : decode cc pc = .ok (.checkcast index, 3)) (kk : W p l e R s m args below meth c H locs cells slots Q (F0 m (pc + 3) ls (.ref a :: rest))) : W p l e R s m args below meth c H locs cells slots Q (F0 m pc ls (.ref a :: rest)) := zg_castK G C hz 3 (by decide) hg q1 hdg kk
theorem zg_cast7 {a index : Nat} (G : GoodR Rp E visP new) (C : PC E p s m args meth c own cc nL ret nm) (hz : ZG Rp E s h0 h H locs) (hg : pK h a = 7) (q1 : Cond.classLink own index "PlainPage$Rule" ∈ lw_all) (hdg : decode cc pc = .ok (.checkcast index, 3)) (kk : W p l e R s m args below meth c H locs cells slots Q (F0 m (pc + 3) ls (.ref a :: rest))) : W p l e R s m args below meth c H locs cells slots Q (F0 m pc ls (.ref a :: rest)) := zg_castK G C hz 7 (by decide) hg q1 hdg kk
theorem zg_castN {a index : Nat} (G : GoodR Rp E visP new) (C : PC E p s m args meth c own cc nL ret nm) (hz : ZG Rp E s h0 h H locs) (hg : isN (pK h a)) (q1 : Cond.classLink own index "PlainPage$Node" ∈ lw_all) (hdg : decode cc pc = .ok (.checkcast index, 3)) (kk : W p l e R s m args below meth c H locs cells slots Q (F0 m (pc + 3) ls (.ref a :: rest))) : W p l e R s m args below meth c H locs cells slots Q (F0 m pc ls (.ref a :: rest)) := by
  rcases hg with hg | hg
  · exact va_castY C.1 C.2.1 C.ow (C.w q1) (C.nwv q1616 rfl) (zg_cell G C hz.1 (gkp (c := 2) (by decide) hg)) hdg kk
  · exact va_castY C.1 C.2.1 C.ow (C.w q1) (C.nwv q1617 rfl) (zg_cell G C hz.1 (gkp (c := 3) (by decide) hg)) hdg kk
theorem zg_inst2 {a index : Nat} (G : GoodR Rp E visP new) (C : PC E p s m args meth c own cc nL ret nm) (hz : ZG Rp E s h0 h H locs) (hg : isN (pK h a)) (q1 : Cond.classLink own index "PlainPage$Element" ∈ lw_all) (hdg : decode cc pc = .ok (.instanceof index, 3)) (kk : W p l e R s m args below meth c H locs cells slots Q (F0 m (pc + 3) ls (.int (zI (kis h a 2)) :: rest))) : W p l e R s m args below meth c H locs cells slots Q (F0 m pc ls (.ref a :: rest)) := by
  rcases hg with hg | hg
  · rw [show kis h a 2 = 1 from if_pos hg] at kk
    exact va_instS C.1 C.2.1 C.ow (C.w q1) (C.env.1.1 2 _ (cl_at 2 (by decide))).2 (zg_cell G C hz.1 (gkp (c := 2) (by decide) hg)) hdg kk
  · rw [show kis h a 2 = 0 from if_neg (by omega)] at kk
    exact va_instNo C.1 C.2.1 C.ow (C.w q1) C.env.2.2.2.2.2.2.2.2.1.1 (zg_cell G C hz.1 (gkp (c := 3) (by decide) hg)) hdg kk
theorem zg_inst3 {a index : Nat} (G : GoodR Rp E visP new) (C : PC E p s m args meth c own cc nL ret nm) (hz : ZG Rp E s h0 h H locs) (hg : isN (pK h a)) (q1 : Cond.classLink own index "PlainPage$Text" ∈ lw_all) (hdg : decode cc pc = .ok (.instanceof index, 3)) (kk : W p l e R s m args below meth c H locs cells slots Q (F0 m (pc + 3) ls (.int (zI (kis h a 3)) :: rest))) : W p l e R s m args below meth c H locs cells slots Q (F0 m pc ls (.ref a :: rest)) := by
  rcases hg with hg | hg
  · rw [show kis h a 3 = 0 from if_neg (by omega)] at kk
    exact va_instNo C.1 C.2.1 C.ow (C.w q1) C.env.2.2.2.2.2.2.2.2.1.2 (zg_cell G C hz.1 (gkp (c := 2) (by decide) hg)) hdg kk
  · rw [show kis h a 3 = 1 from if_pos hg] at kk
    exact va_instS C.1 C.2.1 C.ow (C.w q1) (C.env.1.1 3 _ (cl_at 3 (by decide))).2 (zg_cell G C hz.1 (gkp (c := 3) (by decide) hg)) hdg kk
theorem zg_cast2_o {x : Option Nat} {index : Nat} (G : GoodR Rp E visP new) (C : PC E p s m args meth c own cc nL ret nm) (hz : ZG Rp E s h0 h H locs) (hg : okC h x 2) (q1 : Cond.classLink own index "PlainPage$Element" ∈ lw_all) (hdg : decode cc pc = .ok (.checkcast index, 3)) (kk : W p l e R s m args below meth c H locs cells slots Q (F0 m (pc + 3) ls (va_rf x :: rest))) : W p l e R s m args below meth c H locs cells slots Q (F0 m pc ls (va_rf x :: rest)) := by
  cases x with
  | none => exact lv_castN C.1 C.2.1 hdg kk
  | some a => exact zg_cast2 G C hz (((hg.resolve_left (fun q => by cases q)).2).resolve_left (by decide)) q1 hdg kk
theorem zg_inst2_o {x : Option Nat} {index : Nat} (G : GoodR Rp E visP new) (C : PC E p s m args meth c own cc nL ret nm) (hz : ZG Rp E s h0 h H locs) (hg : okC h x 0) (q1 : Cond.classLink own index "PlainPage$Element" ∈ lw_all) (hdg : decode cc pc = .ok (.instanceof index, 3)) (kk : W p l e R s m args below meth c H locs cells slots Q (F0 m (pc + 3) ls (.int (zI (kiso h x 2)) :: rest))) : W p l e R s m args below meth c H locs cells slots Q (F0 m pc ls (va_rf x :: rest)) := by
  cases x with
  | none => exact lv_instN C.1 C.2.1 hdg kk
  | some a => exact zg_inst2 G C hz (hg.resolve_left (fun q => by cases q)).1 q1 hdg kk
theorem zg_cast3_o {x : Option Nat} {index : Nat} (G : GoodR Rp E visP new) (C : PC E p s m args meth c own cc nL ret nm) (hz : ZG Rp E s h0 h H locs) (hg : okC h x 3) (q1 : Cond.classLink own index "PlainPage$Text" ∈ lw_all) (hdg : decode cc pc = .ok (.checkcast index, 3)) (kk : W p l e R s m args below meth c H locs cells slots Q (F0 m (pc + 3) ls (va_rf x :: rest))) : W p l e R s m args below meth c H locs cells slots Q (F0 m pc ls (va_rf x :: rest)) := by
  cases x with
  | none => exact lv_castN C.1 C.2.1 hdg kk
  | some a => exact zg_cast3 G C hz (((hg.resolve_left (fun q => by cases q)).2).resolve_left (by decide)) q1 hdg kk
theorem zg_inst3_o {x : Option Nat} {index : Nat} (G : GoodR Rp E visP new) (C : PC E p s m args meth c own cc nL ret nm) (hz : ZG Rp E s h0 h H locs) (hg : okC h x 0) (q1 : Cond.classLink own index "PlainPage$Text" ∈ lw_all) (hdg : decode cc pc = .ok (.instanceof index, 3)) (kk : W p l e R s m args below meth c H locs cells slots Q (F0 m (pc + 3) ls (.int (zI (kiso h x 3)) :: rest))) : W p l e R s m args below meth c H locs cells slots Q (F0 m pc ls (va_rf x :: rest)) := by
  cases x with
  | none => exact lv_instN C.1 C.2.1 hdg kk
  | some a => exact zg_inst3 G C hz (hg.resolve_left (fun q => by cases q)).1 q1 hdg kk
theorem zg_iret (C : PC E p s m args meth c own cc nL (some .int) nm) (hz : ZG Rp E s h0 h H locs) {v : Int} (hQ : KG Rp E below args s Q h0 h (some (.int (zI v)))) (hdg : decode cc pc = .ok (.ireturn, 1)) : W p l e R s m args below meth c H locs (pX h - pX h0) (pS h - pS h0) Q (F0 m pc ls [.int (zI v)]) := by
  unfold KG at hQ
  subst hQ
  exact W.iret C.1 C.2.1 C.2.2.1 (fun t ht _ => ⟨rfl, by rw [ht]; exact hz.1, by rw [ht]; exact hz.2.1.1, by rw [ht]; exact hz.2.1.2.1, hz.2.2⟩) hz.2.1.2.2 hdg C.2.2.2.1
theorem zg_zret (C : PC E p s m args meth c own cc nL (some .boolean) nm) (hz : ZG Rp E s h0 h H locs) {v : Int} (hv : zisB v) (hQ : KG Rp E below args s Q h0 h (some (.int (zI v)))) (hdg : decode cc pc = .ok (.ireturn, 1)) : W p l e R s m args below meth c H locs (pX h - pX h0) (pS h - pS h0) Q (F0 m pc ls [.int (zI v)]) := by
  unfold KG at hQ
  subst hQ
  exact W.zret C.1 C.2.1 C.2.2.1 (zisB_n hv) (fun t ht _ => ⟨rfl, by rw [ht]; exact hz.1, by rw [ht]; exact hz.2.1.1, by rw [ht]; exact hz.2.1.2.1, hz.2.2⟩) hz.2.1.2.2 hdg C.2.2.2.1
theorem zg_cret (C : PC E p s m args meth c own cc nL (some .char) nm) (hz : ZG Rp E s h0 h H locs) {v : Int} (hv : zisC v) (hQ : KG Rp E below args s Q h0 h (some (.int (zI v)))) (hdg : decode cc pc = .ok (.ireturn, 1)) : W p l e R s m args below meth c H locs (pX h - pX h0) (pS h - pS h0) Q (F0 m pc ls [.int (zI v)]) := by
  unfold KG at hQ
  subst hQ
  exact W.zret C.1 C.2.1 C.2.2.1 (zisC_n hv).1 (fun t ht _ => ⟨rfl, by rw [ht]; exact hz.1, by rw [ht]; exact hz.2.1.1, by rw [ht]; exact hz.2.1.2.1, hz.2.2⟩) hz.2.1.2.2 hdg C.2.2.2.1
theorem zg_yret (C : PC E p s m args meth c own cc nL (some .byte) nm) (hz : ZG Rp E s h0 h H locs) {v : Int} (hv : zisY v) (hQ : KG Rp E below args s Q h0 h (some (.int (zI v)))) (hdg : decode cc pc = .ok (.ireturn, 1)) : W p l e R s m args below meth c H locs (pX h - pX h0) (pS h - pS h0) Q (F0 m pc ls [.int (zI v)]) := by
  unfold KG at hQ
  subst hQ
  exact W.zret C.1 C.2.1 C.2.2.1 (zisY_n hv).1 (fun t ht _ => ⟨rfl, by rw [ht]; exact hz.1, by rw [ht]; exact hz.2.1.1, by rw [ht]; exact hz.2.1.2.1, hz.2.2⟩) hz.2.1.2.2 hdg C.2.2.2.1
theorem zg_vret (C : PC E p s m args meth c own cc nL none nm) (hz : ZG Rp E s h0 h H locs) (hQ : KG Rp E below args s Q h0 h none) (hdg : decode cc pc = .ok (.return_, 1)) : W p l e R s m args below meth c H locs (pX h - pX h0) (pS h - pS h0) Q (F0 m pc ls []) := by
  unfold KG at hQ
  subst hQ
  exact W.vret C.1 C.2.1 C.2.2.1 (fun t ht _ => ⟨rfl, by rw [ht]; exact hz.1, by rw [ht]; exact hz.2.1.1, by rw [ht]; exact hz.2.1.2.1, hz.2.2⟩) hz.2.1.2.2 hdg C.2.2.2.1
theorem zg_aretV {rt : FieldType} {v : Value} (C : PC E p s m args meth c own cc nL (some rt) nm) (hz : ZG Rp E s h0 h H locs) (hrt : isRefTy rt) (hv : v = .null ∨ ∃ a, v = .ref a) (hQ : KG Rp E below args s Q h0 h (some v)) (hdg : decode cc pc = .ok (.areturn, 1)) : W p l e R s m args below meth c H locs (pX h - pX h0) (pS h - pS h0) Q (F0 m pc ls [v]) := by
  unfold KG at hQ
  subst hQ
  exact W.aret C.1 C.2.1 C.2.2.1 hrt hv (fun t ht _ => ⟨rfl, by rw [ht]; exact hz.1, by rw [ht]; exact hz.2.1.1, by rw [ht]; exact hz.2.1.2.1, hz.2.2⟩) hz.2.1.2.2 hdg C.2.2.2.1
theorem zg_aret {rt : FieldType} {a : Nat} (C : PC E p s m args meth c own cc nL (some rt) nm) (hz : ZG Rp E s h0 h H locs) (hQ : KG Rp E below args s Q h0 h (some (.ref a))) (hdg : decode cc pc = .ok (.areturn, 1)) (hrt : isRefTy rt := by first | exact Or.inl ⟨_, rfl⟩ | exact Or.inr ⟨_, rfl⟩) : W p l e R s m args below meth c H locs (pX h - pX h0) (pS h - pS h0) Q (F0 m pc ls [.ref a]) := zg_aretV C hz hrt (Or.inr ⟨a, rfl⟩) hQ hdg
theorem zg_aret_o {rt : FieldType} {x : Option Nat} (C : PC E p s m args meth c own cc nL (some rt) nm) (hz : ZG Rp E s h0 h H locs) (hQ : KG Rp E below args s Q h0 h (some (va_rf x))) (hdg : decode cc pc = .ok (.areturn, 1)) (hrt : isRefTy rt := by first | exact Or.inl ⟨_, rfl⟩ | exact Or.inr ⟨_, rfl⟩) : W p l e R s m args below meth c H locs (pX h - pX h0) (pS h - pS h0) Q (F0 m pc ls [va_rf x]) := zg_aretV C hz hrt (zx_or x) hQ hdg
end ZGR
