/-! the page's heap as a picture: kinds, lengths, whole numbers, references, lists, texts, capacities, (next address, slots made), (start, the empty Object[], the class object of Object[]) -/
set_option maxRecDepth 100000
abbrev HP : Type := (Nat → Nat) × (Nat → Nat) × (Nat → Nat → Int) × (Nat → Nat → Option Nat) × (Nat → List Nat) × (Nat → List Int) × (Nat → Nat) × (Nat × Nat) × (Nat × Nat × Nat)
def pK (h : HP) : Nat → Nat := h.1
def pN (h : HP) : Nat → Nat := h.2.1
def pI (h : HP) : Nat → Nat → Int := h.2.2.1
def pP (h : HP) : Nat → Nat → Option Nat := h.2.2.2.1
def pL (h : HP) : Nat → List Nat := h.2.2.2.2.1
def pB (h : HP) : Nat → List Int := h.2.2.2.2.2.1
def pC (h : HP) : Nat → Nat := h.2.2.2.2.2.2.1
def pX (h : HP) : Nat := h.2.2.2.2.2.2.2.1.1
def pS (h : HP) : Nat := h.2.2.2.2.2.2.2.1.2
def pO (h : HP) : Nat := h.2.2.2.2.2.2.2.2.1
def pD (h : HP) : Nat := h.2.2.2.2.2.2.2.2.2.1
def pM (h : HP) : Nat := h.2.2.2.2.2.2.2.2.2.2
def wI (h : HP) (a k : Nat) (v : Int) : HP := (h.1, h.2.1, va_up h.2.2.1 a (va_up (h.2.2.1 a) k v), h.2.2.2)
def wP (h : HP) (a k : Nat) (v : Option Nat) : HP := (h.1, h.2.1, h.2.2.1, va_up h.2.2.2.1 a (va_up (h.2.2.2.1 a) k v), h.2.2.2.2)
def wL (h : HP) (a : Nat) (v : List Nat) : HP := (h.1, h.2.1, h.2.2.1, h.2.2.2.1, va_up h.2.2.2.2.1 a v, h.2.2.2.2.2)
def wB (h : HP) (a : Nat) (v : List Int) : HP := (h.1, h.2.1, h.2.2.1, h.2.2.2.1, h.2.2.2.2.1, va_up h.2.2.2.2.2.1 a v, h.2.2.2.2.2.2)
def wK (h : HP) (a k : Nat) : HP := (va_up h.1 a k, h.2)
/-- a backing array of n places is made, and the capacity of a is n -/
def wGr (h : HP) (a n : Nat) : HP := (h.1, h.2.1, h.2.2.1, h.2.2.2.1, h.2.2.2.2.1, h.2.2.2.2.2.1, va_up h.2.2.2.2.2.2.1 a n, (pX h + 1, pS h + n), h.2.2.2.2.2.2.2.2)
/-- a new cell of a kind, n fields or elements, all zero or null, at the next address -/
def wNew (h : HP) (k n : Nat) : HP := (va_up h.1 (pX h) k, va_up h.2.1 (pX h) n, va_up h.2.2.1 (pX h) (fun _ => 0), va_up h.2.2.2.1 (pX h) (fun _ => none), va_up h.2.2.2.2.1 (pX h) [], va_up h.2.2.2.2.2.1 (pX h) [], va_up h.2.2.2.2.2.2.1 (pX h) 0, (pX h + 1, pS h + n), h.2.2.2.2.2.2.2.2)
def wCI (h : HP) (a : Nat) (sp : Int) (b : Nat) (dp n : Int) : HP := (h.1, h.2.1, va_up h.2.2.1 b (va_cpy (h.2.2.1 a) (h.2.2.1 b) (zix sp) (zix dp) (zix n)), h.2.2.2)
def wCP (h : HP) (a : Nat) (sp : Int) (b : Nat) (dp n : Int) : HP := (h.1, h.2.1, h.2.2.1, va_up h.2.2.2.1 b (va_cpy (h.2.2.2.1 a) (h.2.2.2.1 b) (zix sp) (zix dp) (zix n)), h.2.2.2.2)
abbrev isN (k : Nat) : Prop := k = 2 ∨ k = 3
abbrev isL (k : Nat) : Prop := 20 ≤ k ∧ k < 28
abbrev isLr (k : Nat) : Prop := isL k ∨ k = 90
abbrev isS (k : Nat) : Prop := 30 ≤ k ∧ k < 34
abbrev isSr (k : Nat) : Prop := isS k ∨ k = 91
abbrev isI (k : Nat) : Prop := 40 ≤ k ∧ k < 45
abbrev isY (k : Nat) : Prop := k = 45 ∨ k = 51
abbrev isR (k : Nat) : Prop := k = 46 ∨ k = 50 ∨ k = 59
abbrev isRw (k : Nat) : Prop := k = 46 ∨ k = 50
abbrev isRo (k : Nat) : Prop := k = 50 ∨ k = 59
abbrev isAp (k : Nat) : Prop := isI k ∨ k = 45
abbrev isAr (k : Nat) : Prop := k = 51 ∨ k = 50 ∨ k = 59
abbrev isO (k : Nat) : Prop := k = 2 ∨ k = 3 ∨ k = 7
abbrev okR (h : HP) (a : Nat) (x : Option Nat) : Prop := x = none ∨ (isO (pK h (x.getD 0)) ∧ (pK h a = 46 → pK h (x.getD 0) = 3))
abbrev okC (h : HP) (x : Option Nat) (k : Nat) : Prop := x = none ∨ (isN (pK h (x.getD 0)) ∧ (k = 0 ∨ pK h (x.getD 0) = k))
def kis (h : HP) (a k : Nat) : Int := if pK h a = k then 1 else 0
def kiso (h : HP) (x : Option Nat) (k : Nat) : Int := if x = none then 0 else kis h (x.getD 0) k
def nl {β : Type} (x : Option Nat) (A : Option β) (B : Nat → Option β) : Option β := match x with
  | none => A
  | some a => B a
theorem nl_inv {β : Type} {x : Option Nat} {A : Option β} {B : Nat → Option β} {r : β} (h : nl x A B = some r) : (x = none ∧ A = some r) ∨ ∃ a, x = some a ∧ B a = some r := by
  cases x with
  | none => exact Or.inl ⟨rfl, h⟩
  | some a => exact Or.inr ⟨a, rfl, h⟩
theorem nl_none {β : Type} {A : Option β} {B : Nat → Option β} : nl none A B = A := rfl
theorem nl_some {β : Type} {a : Nat} {A : Option β} {B : Nat → Option β} : nl (some a) A B = B a := rfl
abbrev rm1 (h : HP) (n : Nat) : Prop := pX h + 1 ≤ pO h + 600000 ∧ pS h + n ≤ 7302250
abbrev rmA (h : HP) (n : Int) : Prop := 0 ≤ (zI n).toInt ∧ zix n ≤ 100000 ∧ pX h + 1 ≤ pO h + 600000 ∧ pS h + zix n ≤ 7302250
abbrev cpOK (h : HP) (a : Nat) (sp : Int) (b : Nat) (dp n : Int) : Prop := 0 ≤ (zI sp).toInt ∧ 0 ≤ (zI dp).toInt ∧ 0 ≤ (zI n).toInt ∧ (zI sp).toInt + (zI n).toInt ≤ pN h a ∧ (zI dp).toInt + (zI n).toInt ≤ pN h b
abbrev cpOKI (h : HP) (a : Nat) (sp : Int) (b : Nat) (dp n : Int) : Prop := (isI (pK h a) ∧ isI (pK h b)) ∧ cpOK h a sp b dp n
abbrev cpOKY (h : HP) (a : Nat) (sp : Int) (b : Nat) (dp n : Int) : Prop := (pK h a = 51 ∧ pK h b = 51) ∧ cpOK h a sp b dp n
abbrev cpOKP (h : HP) (a : Nat) (sp : Int) (b : Nat) (dp n : Int) : Prop := (pK h a = 50 ∧ pK h b = 50) ∧ cpOK h a sp b dp n
abbrev zst (o : Int) : Prop := 0 ≤ o ∧ o < 8
abbrev zisY (a : Int) : Prop := -128 ≤ (zI a).toInt ∧ (zI a).toInt < 128
theorem zisC_0 : zisC 0 := by decide
theorem zisY_0 : zisY 0 := by decide
def zmax (x y : Int) : Int := if zI x < zI y then y else x
def zmin (x y : Int) : Int := if zI y < zI x then y else x
/-- the constant texts, by number -/
def sT (n : Nat) : List Int := [[], [99], [117, 99], [116], [98, 105, 115], [112, 100, 117, 108, 104, 116, 114, 99], [112, 100, 117, 108, 104, 116], [99, 98, 115, 100, 109, 112, 119], [98, 105, 110], [112, 100, 117, 108, 104, 116], [98, 105, 115]].getD n []
/-! lists and texts as a whole -/
def lcap (c : Nat) : Nat := if c = 0 then 10 else c + c / 2
abbrev lOk (h : HP) (a : Nat) : Prop := (pL h a).length ≤ 1000 ∧ pX h + 1 ≤ pO h + 600000 ∧ pS h + lcap (pC h a) ≤ 7302250
def lGrow (h : HP) (a : Nat) : HP := if (pL h a).length = pC h a then wGr h a (lcap (pC h a)) else h
def lLen (h : HP) (a : Nat) : Option Int := gd (isL (pK h a)) (some ((pL h a).length : Int))
def lGet (h : HP) (a : Nat) (i : Int) : Option Nat := gd (isL (pK h a)) (gd (zin i (pL h a).length) (some ((pL h a).getD (zix i) 0)))
def lAdd (h : HP) (a x : Nat) : Option (HP × Int) := gd (isL (pK h a) ∧ isO (pK h x) ∧ lOk h a) (some (wL (lGrow h a) a (pL h a ++ [x]), 1))
def lIns (h : HP) (a : Nat) (i : Int) (x : Nat) : Option HP := gd (isL (pK h a) ∧ isO (pK h x) ∧ lOk h a ∧ zin i ((pL h a).length + 1)) (some (wL (lGrow h a) a ((pL h a).take (zix i) ++ x :: (pL h a).drop (zix i))))
def lDel (h : HP) (a : Nat) (i : Int) : Option (HP × Nat) := gd (isL (pK h a)) (gd (zin i (pL h a).length) (some (wL h a ((pL h a).take (zix i) ++ (pL h a).drop (zix i + 1)), (pL h a).getD (zix i) 0)))
def lSet (h : HP) (a : Nat) (i : Int) (x : Nat) : Option (HP × Nat) := gd (isL (pK h a) ∧ isO (pK h x)) (gd (zin i (pL h a).length) (some (wL h a ((pL h a).set (zix i) x), (pL h a).getD (zix i) 0)))
def lClr (h : HP) (a : Nat) : Option HP := gd (isL (pK h a)) (some (wL h a []))
def lNew (h : HP) (a r : Nat) : Option HP := gd (pK h a = 90 ∧ isL r) (some (wK h a r))
def sNew (h : HP) (a r : Nat) : Option HP := gd (pK h a = 91 ∧ isS r ∧ rm1 h 16) (some (wGr (wK h a r) a 16))
abbrev sOk (h : HP) (a : Nat) : Prop := (pB h a).length ≤ 1000 ∧ pX h + 1 ≤ pO h + 600000 ∧ pS h + (2 * pC h a + 2) ≤ 7302250 ∧ pC h a ≤ 40000
def sGrow (h : HP) (a : Nat) : HP := if (pB h a).length = pC h a then wGr h a (2 * pC h a + 2) else h
def sLen (h : HP) (a : Nat) : Option Int := gd (isS (pK h a)) (some ((pB h a).length : Int))
def sAt (h : HP) (a : Nat) (i : Int) : Option Int := gd (isS (pK h a)) (gd (zin i (pB h a).length) (some ((pB h a).getD (zix i) 0)))
def sApp (h : HP) (a : Nat) (c : Int) : Option HP := gd (isS (pK h a) ∧ (0 ≤ (zI c).toInt ∧ (zI c).toInt < 256) ∧ sOk h a) (some (wB (sGrow h a) a (pB h a ++ [c])))
def sSet (h : HP) (a : Nat) (n : Int) : Option HP := gd (isS (pK h a) ∧ n = 0) (some (wB h a []))
