/-! reads behind writes -/
set_option maxRecDepth 100000
theorem pK_wI (h : HP) (a k : Nat) (v : Int) : pK (wI h a k v) = pK h := rfl
theorem pN_wI (h : HP) (a k : Nat) (v : Int) : pN (wI h a k v) = pN h := rfl
theorem pP_wI (h : HP) (a k : Nat) (v : Int) : pP (wI h a k v) = pP h := rfl
theorem pL_wI (h : HP) (a k : Nat) (v : Int) : pL (wI h a k v) = pL h := rfl
theorem pB_wI (h : HP) (a k : Nat) (v : Int) : pB (wI h a k v) = pB h := rfl
theorem pC_wI (h : HP) (a k : Nat) (v : Int) : pC (wI h a k v) = pC h := rfl
theorem pX_wI (h : HP) (a k : Nat) (v : Int) : pX (wI h a k v) = pX h := rfl
theorem pS_wI (h : HP) (a k : Nat) (v : Int) : pS (wI h a k v) = pS h := rfl
theorem pO_wI (h : HP) (a k : Nat) (v : Int) : pO (wI h a k v) = pO h := rfl
theorem pD_wI (h : HP) (a k : Nat) (v : Int) : pD (wI h a k v) = pD h := rfl
theorem pM_wI (h : HP) (a k : Nat) (v : Int) : pM (wI h a k v) = pM h := rfl
theorem pK_wP (h : HP) (a k : Nat) (v : Option Nat) : pK (wP h a k v) = pK h := rfl
theorem pN_wP (h : HP) (a k : Nat) (v : Option Nat) : pN (wP h a k v) = pN h := rfl
theorem pI_wP (h : HP) (a k : Nat) (v : Option Nat) : pI (wP h a k v) = pI h := rfl
theorem pL_wP (h : HP) (a k : Nat) (v : Option Nat) : pL (wP h a k v) = pL h := rfl
theorem pB_wP (h : HP) (a k : Nat) (v : Option Nat) : pB (wP h a k v) = pB h := rfl
theorem pC_wP (h : HP) (a k : Nat) (v : Option Nat) : pC (wP h a k v) = pC h := rfl
theorem pX_wP (h : HP) (a k : Nat) (v : Option Nat) : pX (wP h a k v) = pX h := rfl
theorem pS_wP (h : HP) (a k : Nat) (v : Option Nat) : pS (wP h a k v) = pS h := rfl
theorem pO_wP (h : HP) (a k : Nat) (v : Option Nat) : pO (wP h a k v) = pO h := rfl
theorem pD_wP (h : HP) (a k : Nat) (v : Option Nat) : pD (wP h a k v) = pD h := rfl
theorem pM_wP (h : HP) (a k : Nat) (v : Option Nat) : pM (wP h a k v) = pM h := rfl
theorem pK_wL (h : HP) (a : Nat) (v : List Nat) : pK (wL h a v) = pK h := rfl
theorem pN_wL (h : HP) (a : Nat) (v : List Nat) : pN (wL h a v) = pN h := rfl
theorem pI_wL (h : HP) (a : Nat) (v : List Nat) : pI (wL h a v) = pI h := rfl
theorem pP_wL (h : HP) (a : Nat) (v : List Nat) : pP (wL h a v) = pP h := rfl
theorem pB_wL (h : HP) (a : Nat) (v : List Nat) : pB (wL h a v) = pB h := rfl
theorem pC_wL (h : HP) (a : Nat) (v : List Nat) : pC (wL h a v) = pC h := rfl
theorem pX_wL (h : HP) (a : Nat) (v : List Nat) : pX (wL h a v) = pX h := rfl
theorem pS_wL (h : HP) (a : Nat) (v : List Nat) : pS (wL h a v) = pS h := rfl
theorem pO_wL (h : HP) (a : Nat) (v : List Nat) : pO (wL h a v) = pO h := rfl
theorem pD_wL (h : HP) (a : Nat) (v : List Nat) : pD (wL h a v) = pD h := rfl
theorem pM_wL (h : HP) (a : Nat) (v : List Nat) : pM (wL h a v) = pM h := rfl
theorem pK_wB (h : HP) (a : Nat) (v : List Int) : pK (wB h a v) = pK h := rfl
theorem pN_wB (h : HP) (a : Nat) (v : List Int) : pN (wB h a v) = pN h := rfl
theorem pI_wB (h : HP) (a : Nat) (v : List Int) : pI (wB h a v) = pI h := rfl
theorem pP_wB (h : HP) (a : Nat) (v : List Int) : pP (wB h a v) = pP h := rfl
theorem pL_wB (h : HP) (a : Nat) (v : List Int) : pL (wB h a v) = pL h := rfl
theorem pC_wB (h : HP) (a : Nat) (v : List Int) : pC (wB h a v) = pC h := rfl
theorem pX_wB (h : HP) (a : Nat) (v : List Int) : pX (wB h a v) = pX h := rfl
theorem pS_wB (h : HP) (a : Nat) (v : List Int) : pS (wB h a v) = pS h := rfl
theorem pO_wB (h : HP) (a : Nat) (v : List Int) : pO (wB h a v) = pO h := rfl
theorem pD_wB (h : HP) (a : Nat) (v : List Int) : pD (wB h a v) = pD h := rfl
theorem pM_wB (h : HP) (a : Nat) (v : List Int) : pM (wB h a v) = pM h := rfl
theorem pN_wK (h : HP) (a k : Nat) : pN (wK h a k) = pN h := rfl
theorem pI_wK (h : HP) (a k : Nat) : pI (wK h a k) = pI h := rfl
theorem pP_wK (h : HP) (a k : Nat) : pP (wK h a k) = pP h := rfl
theorem pL_wK (h : HP) (a k : Nat) : pL (wK h a k) = pL h := rfl
theorem pB_wK (h : HP) (a k : Nat) : pB (wK h a k) = pB h := rfl
theorem pC_wK (h : HP) (a k : Nat) : pC (wK h a k) = pC h := rfl
theorem pX_wK (h : HP) (a k : Nat) : pX (wK h a k) = pX h := rfl
theorem pS_wK (h : HP) (a k : Nat) : pS (wK h a k) = pS h := rfl
theorem pO_wK (h : HP) (a k : Nat) : pO (wK h a k) = pO h := rfl
theorem pD_wK (h : HP) (a k : Nat) : pD (wK h a k) = pD h := rfl
theorem pM_wK (h : HP) (a k : Nat) : pM (wK h a k) = pM h := rfl
theorem pK_wGr (h : HP) (a n : Nat) : pK (wGr h a n) = pK h := rfl
theorem pN_wGr (h : HP) (a n : Nat) : pN (wGr h a n) = pN h := rfl
theorem pI_wGr (h : HP) (a n : Nat) : pI (wGr h a n) = pI h := rfl
theorem pP_wGr (h : HP) (a n : Nat) : pP (wGr h a n) = pP h := rfl
theorem pL_wGr (h : HP) (a n : Nat) : pL (wGr h a n) = pL h := rfl
theorem pB_wGr (h : HP) (a n : Nat) : pB (wGr h a n) = pB h := rfl
theorem pO_wGr (h : HP) (a n : Nat) : pO (wGr h a n) = pO h := rfl
theorem pD_wGr (h : HP) (a n : Nat) : pD (wGr h a n) = pD h := rfl
theorem pM_wGr (h : HP) (a n : Nat) : pM (wGr h a n) = pM h := rfl
theorem pO_wNew (h : HP) (k n : Nat) : pO (wNew h k n) = pO h := rfl
theorem pD_wNew (h : HP) (k n : Nat) : pD (wNew h k n) = pD h := rfl
theorem pM_wNew (h : HP) (k n : Nat) : pM (wNew h k n) = pM h := rfl
theorem pK_wCI (h : HP) (a : Nat) (sp : Int) (b : Nat) (dp n : Int) : pK (wCI h a sp b dp n) = pK h := rfl
theorem pN_wCI (h : HP) (a : Nat) (sp : Int) (b : Nat) (dp n : Int) : pN (wCI h a sp b dp n) = pN h := rfl
theorem pP_wCI (h : HP) (a : Nat) (sp : Int) (b : Nat) (dp n : Int) : pP (wCI h a sp b dp n) = pP h := rfl
theorem pL_wCI (h : HP) (a : Nat) (sp : Int) (b : Nat) (dp n : Int) : pL (wCI h a sp b dp n) = pL h := rfl
theorem pB_wCI (h : HP) (a : Nat) (sp : Int) (b : Nat) (dp n : Int) : pB (wCI h a sp b dp n) = pB h := rfl
theorem pC_wCI (h : HP) (a : Nat) (sp : Int) (b : Nat) (dp n : Int) : pC (wCI h a sp b dp n) = pC h := rfl
theorem pX_wCI (h : HP) (a : Nat) (sp : Int) (b : Nat) (dp n : Int) : pX (wCI h a sp b dp n) = pX h := rfl
theorem pS_wCI (h : HP) (a : Nat) (sp : Int) (b : Nat) (dp n : Int) : pS (wCI h a sp b dp n) = pS h := rfl
theorem pO_wCI (h : HP) (a : Nat) (sp : Int) (b : Nat) (dp n : Int) : pO (wCI h a sp b dp n) = pO h := rfl
theorem pD_wCI (h : HP) (a : Nat) (sp : Int) (b : Nat) (dp n : Int) : pD (wCI h a sp b dp n) = pD h := rfl
theorem pM_wCI (h : HP) (a : Nat) (sp : Int) (b : Nat) (dp n : Int) : pM (wCI h a sp b dp n) = pM h := rfl
theorem pK_wCP (h : HP) (a : Nat) (sp : Int) (b : Nat) (dp n : Int) : pK (wCP h a sp b dp n) = pK h := rfl
theorem pN_wCP (h : HP) (a : Nat) (sp : Int) (b : Nat) (dp n : Int) : pN (wCP h a sp b dp n) = pN h := rfl
theorem pI_wCP (h : HP) (a : Nat) (sp : Int) (b : Nat) (dp n : Int) : pI (wCP h a sp b dp n) = pI h := rfl
theorem pL_wCP (h : HP) (a : Nat) (sp : Int) (b : Nat) (dp n : Int) : pL (wCP h a sp b dp n) = pL h := rfl
theorem pB_wCP (h : HP) (a : Nat) (sp : Int) (b : Nat) (dp n : Int) : pB (wCP h a sp b dp n) = pB h := rfl
theorem pC_wCP (h : HP) (a : Nat) (sp : Int) (b : Nat) (dp n : Int) : pC (wCP h a sp b dp n) = pC h := rfl
theorem pX_wCP (h : HP) (a : Nat) (sp : Int) (b : Nat) (dp n : Int) : pX (wCP h a sp b dp n) = pX h := rfl
theorem pS_wCP (h : HP) (a : Nat) (sp : Int) (b : Nat) (dp n : Int) : pS (wCP h a sp b dp n) = pS h := rfl
theorem pO_wCP (h : HP) (a : Nat) (sp : Int) (b : Nat) (dp n : Int) : pO (wCP h a sp b dp n) = pO h := rfl
theorem pD_wCP (h : HP) (a : Nat) (sp : Int) (b : Nat) (dp n : Int) : pD (wCP h a sp b dp n) = pD h := rfl
theorem pM_wCP (h : HP) (a : Nat) (sp : Int) (b : Nat) (dp n : Int) : pM (wCP h a sp b dp n) = pM h := rfl
theorem pI_wI (h : HP) (a k : Nat) (v : Int) (b j : Nat) : pI (wI h a k v) b j = if b = a ∧ j = k then v else pI h b j := by
  by_cases e : b = a
  · subst e
    by_cases e2 : j = k <;> simp [pI, wI, va_up, e2]
  · simp [pI, wI, va_up, e]
theorem pP_wP (h : HP) (a k : Nat) (v : Option Nat) (b j : Nat) : pP (wP h a k v) b j = if b = a ∧ j = k then v else pP h b j := by
  by_cases e : b = a
  · subst e
    by_cases e2 : j = k <;> simp [pP, wP, va_up, e2]
  · simp [pP, wP, va_up, e]
theorem pL_wL (h : HP) (a : Nat) (v : List Nat) (b : Nat) : pL (wL h a v) b = if b = a then v else pL h b := rfl
theorem pB_wB (h : HP) (a : Nat) (v : List Int) (b : Nat) : pB (wB h a v) b = if b = a then v else pB h b := rfl
theorem pK_wK (h : HP) (a k b : Nat) : pK (wK h a k) b = if b = a then k else pK h b := rfl
theorem pC_wGr (h : HP) (a n b : Nat) : pC (wGr h a n) b = if b = a then n else pC h b := rfl
theorem pX_wGr (h : HP) (a n : Nat) : pX (wGr h a n) = pX h + 1 := rfl
theorem pS_wGr (h : HP) (a n : Nat) : pS (wGr h a n) = pS h + n := rfl
theorem pK_wNew (h : HP) (k n b : Nat) : pK (wNew h k n) b = if b = pX h then k else pK h b := rfl
theorem pN_wNew (h : HP) (k n b : Nat) : pN (wNew h k n) b = if b = pX h then n else pN h b := rfl
theorem pI_wNew (h : HP) (k n b j : Nat) : pI (wNew h k n) b j = if b = pX h then 0 else pI h b j := by
  by_cases e : b = pX h <;> simp [pI, wNew, va_up, e]
theorem pP_wNew (h : HP) (k n b j : Nat) : pP (wNew h k n) b j = if b = pX h then none else pP h b j := by
  by_cases e : b = pX h <;> simp [pP, wNew, va_up, e]
theorem pL_wNew (h : HP) (k n b : Nat) : pL (wNew h k n) b = if b = pX h then [] else pL h b := rfl
theorem pB_wNew (h : HP) (k n b : Nat) : pB (wNew h k n) b = if b = pX h then [] else pB h b := rfl
theorem pC_wNew (h : HP) (k n b : Nat) : pC (wNew h k n) b = if b = pX h then 0 else pC h b := rfl
theorem pX_wNew (h : HP) (k n : Nat) : pX (wNew h k n) = pX h + 1 := rfl
theorem pS_wNew (h : HP) (k n : Nat) : pS (wNew h k n) = pS h + n := rfl
theorem pI_wCI (h : HP) (a : Nat) (sp : Int) (b : Nat) (dp n : Int) (q : Nat) : pI (wCI h a sp b dp n) q = if q = b then va_cpy (pI h a) (pI h b) (zix sp) (zix dp) (zix n) else pI h q := by
  by_cases e : q = b <;> simp [pI, wCI, va_up, e]
theorem pP_wCP (h : HP) (a : Nat) (sp : Int) (b : Nat) (dp n : Int) (q : Nat) : pP (wCP h a sp b dp n) q = if q = b then va_cpy (pP h a) (pP h b) (zix sp) (zix dp) (zix n) else pP h q := by
  by_cases e : q = b <;> simp [pP, wCP, va_up, e]
theorem bnd_eq {α β : Type} (x : α) (k : α → β) : bnd x k = k x := rfl
theorem obind_some {α β : Type} (a : α) (f : α → Option β) : Option.bind (some a) f = f a := rfl
theorem obind_none {α β : Type} (f : α → Option β) : Option.bind none f = none := rfl
theorem mr_some {S R : Type} (r : R) : (mr (some r) : Option (S ⊕ R)) = some (.inr r) := rfl
theorem iter_mr {S R : Type} {f : S → Option (S ⊕ R)} {s : S} {o : Option R} (h : f s = mr o) : iter f s = o := by
  cases o with
  | some r => exact iter_out h
  | none =>
    apply Option.ext
    intro r
    rw [iter_iff]
    constructor
    · intro ⟨n, hn⟩
      cases n with
      | zero => cases hn
      | succ n =>
        have h' : f s = none := h
        simp [itN, h'] at hn
    · intro q; cases q
/-! comparisons of ints, under range -/
theorem zlt {a b : Int} (h1 : -2147483648 ≤ a) (h2 : a < 2147483648) (h3 : -2147483648 ≤ b) (h4 : b < 2147483648) : (zI a < zI b) = (a < b) := propext (zI_lt h1 h2 h3 h4)
theorem zeq {a b : Int} (h1 : -2147483648 ≤ a) (h2 : a < 2147483648) (h3 : -2147483648 ≤ b) (h4 : b < 2147483648) : (zI a = zI b) = (a = b) := propext (zI_eq h1 h2 h3 h4)
theorem zti {a : Int} (h1 : -2147483648 ≤ a) (h2 : a < 2147483648) : (zI a).toInt = a := zI_toInt h1 h2
theorem zix_nat {n : Nat} (h : n < 2147483648) : zix (n : Int) = n := by rw [zix_of (by omega) (by omega)]; omega
theorem zix_toNat {i : Int} (h1 : 0 ≤ i) (h2 : i < 2147483648) : zix i = i.toNat := zix_of h1 h2
theorem zin_iff {i : Int} {n : Nat} (h1 : -2147483648 ≤ i) (h2 : i < 2147483648) : zin i n = (0 ≤ i ∧ i < n) := by
  unfold zin
  rw [zI_toInt h1 h2]
theorem zin_ex {i : Int} {n : Nat} (h : zin i n) (hn : n < 2147483648) : ∃ j : Nat, j < n ∧ zI i = zI (j : Int) ∧ zix i = j := by
  refine ⟨(zI i).toInt.toNat, by have := h.1; have := h.2; omega, ?_, ?_⟩
  · have e : (((zI i).toInt.toNat : Nat) : Int) = (zI i).toInt := by have := h.1; omega
    rw [e, zI_of]
  · rfl
theorem zmax_eq {a b : Int} (h1 : -2147483648 ≤ a) (h2 : a < 2147483648) (h3 : -2147483648 ≤ b) (h4 : b < 2147483648) : zmax a b = if a < b then b else a := by
  unfold zmax
  simp only [zlt h1 h2 h3 h4]
theorem zmin_eq {a b : Int} (h1 : -2147483648 ≤ a) (h2 : a < 2147483648) (h3 : -2147483648 ≤ b) (h4 : b < 2147483648) : zmin a b = if b < a then b else a := by
  unfold zmin
  simp only [zlt h3 h4 h1 h2]
theorem zI_nI (n : Nat) : zI (n : Int) = nI n := rfl
theorem zshr_1 {n : Nat} (h : n < 2147483648) : zshr (n : Int) 1 = ((n / 2 : Nat) : Int) := by
  unfold zshr
  have e : zI (1 : Int) &&& 31 = 1 := by decide
  rw [e, zI_nI, pk_shrN (by omega) 1 1 (by decide), ← zI_nI, zI_toInt (by omega) (by omega)]
theorem zshr_0 {n : Int} (h1 : -2147483648 ≤ n) (h2 : n < 2147483648) : zshr n 0 = n := by
  unfold zshr
  rw [show zI (0 : Int) &&& 31 = (0 : Int32) &&& 31 from rfl, sb_shr0, zI_toInt h1 h2]
theorem zshl_0 {n : Int} (h1 : -2147483648 ≤ n) (h2 : n < 2147483648) : zshl n 0 = n := by
  unfold zshl
  rw [show zI (0 : Int) &&& 31 = (0 : Int32) &&& 31 from rfl, sb_shl0, zI_toInt h1 h2]
theorem zbyte {v : Int} (h1 : 0 ≤ (zI v).toInt) (h2 : (zI v).toInt < 256) : zI (zi2c (zand (zi2b v) 255)) = zI v := by
  have e : zI v = nI (zI v).toInt.toNat := by
    apply Int32.toInt_inj.mp
    rw [nI_toInt (by omega)]
    omega
  have hn : (zI v).toInt.toNat < 256 := by omega
  generalize (zI v).toInt.toNat = n at e hn
  unfold zi2c zand zi2b
  rw [zI_of, zI_of, zI_of, e]
  have e1 : (nI n).toInt8.toInt32 &&& zI 255 = nI n := sc_k8 n hn
  rw [e1]
  exact (sb_byte n hn).2.1
theorem zi2b_2 (v : Int) : zi2b (zi2b v) = zi2b v := by
  unfold zi2b
  rw [zI_of]
  have e : ((zI v).toInt8.toInt32).toInt8 = (zI v).toInt8 := by simp
  rw [e]
