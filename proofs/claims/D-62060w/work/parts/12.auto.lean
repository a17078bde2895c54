/-! running the printed functions by rewriting; every premise is a matter for omega -/
set_option maxRecDepth 100000
theorem if_ltp {α : Type} {a b : Int} {i : Decidable (zI a < zI b)} {x y : α} (h : a < b) (h1 : -2147483648 ≤ a) (h4 : b < 2147483648) : (@ite α (zI a < zI b) i x y) = x := if_pos ((zI_lt h1 (by omega) (by omega) h4).mpr h)
theorem if_ltn {α : Type} {a b : Int} {i : Decidable (zI a < zI b)} {x y : α} (h : b ≤ a) (h1 : -2147483648 ≤ b) (h4 : a < 2147483648) : (@ite α (zI a < zI b) i x y) = y := if_neg (fun q => by have := (zI_lt (by omega) h4 h1 (by omega)).mp q; omega)
theorem if_eqp {α : Type} {a b : Int} {i : Decidable (zI a = zI b)} {x y : α} (h : a = b) : (@ite α (zI a = zI b) i x y) = x := if_pos (by rw [h])
theorem if_eqn {α : Type} {a b : Int} {i : Decidable (zI a = zI b)} {x y : α} (h : a ≠ b) (h1 : -2147483648 ≤ a) (h2 : a < 2147483648) (h3 : -2147483648 ≤ b) (h4 : b < 2147483648) : (@ite α (zI a = zI b) i x y) = y := if_neg (fun q => h ((zI_eq h1 h2 h3 h4).mp q))
theorem gd_zin {α : Type} {j : Int} {n : Nat} {i : Decidable (zin j n)} {x : Option α} (h1 : 0 ≤ j) (h2 : j < n) (h3 : n < 2147483648) : (@gd α (zin j n) i x) = x := gd_of (zin_of h1 h2 h3)
theorem gd_isB0 {α : Type} {i : Decidable (zisB 0)} {x : Option α} : (@gd α (zisB 0) i x) = x := gd_of zisB_0
theorem gd_isB1 {α : Type} {i : Decidable (zisB 1)} {x : Option α} : (@gd α (zisB 1) i x) = x := gd_of zisB_1
theorem gd_tr {α : Type} {i : Decidable True} {x : Option α} : (@gd α True i x) = x := gd_of trivial
theorem if_T {α : Type} {i : Decidable True} {x y : α} : (@ite α True i x y) = x := if_pos trivial
theorem if_F {α : Type} {i : Decidable False} {x y : α} : (@ite α False i x y) = y := if_neg id
theorem tn_a1 (k : Nat) : ((k : Int) + 1).toNat = k + 1 := by omega
theorem tn_a (k j : Nat) : ((k : Int) + (j : Int)).toNat = k + j := by omega
theorem tn_s1 (k : Nat) : ((k : Int) - 1).toNat = k - 1 := by omega
theorem tn_s (k j : Nat) : ((k : Int) - (j : Int)).toNat = k - j := by omega
theorem tn_m1 (k : Nat) : ((k : Int) + (-1)).toNat = k - 1 := by omega
theorem tn_l0 : (0 : Int).toNat = 0 := rfl
theorem tn_l1 : (1 : Int).toNat = 1 := rfl
theorem sI_s (M : MS) (k : Nat) (v : Int) : (sI M k v).1 k = v := by simp [sI, va_up]
theorem sI_n (M : MS) (k j : Nat) (v : Int) (h : j ≠ k) : (sI M k v).1 j = M.1 j := by simp [sI, va_up, h]
theorem sI_2 (M : MS) (k : Nat) (v : Int) : (sI M k v).2 = M.2 := rfl
theorem sA_1 (M : MS) (k i : Nat) (v : Int) : (sA M k i v).1 = M.1 := rfl
theorem sA_s (M : MS) (k i : Nat) (v : Int) : (sA M k i v).2 k i = v := by simp [sA, va_up]
theorem sA_i (M : MS) (k i j : Nat) (v : Int) (h : j ≠ i) : (sA M k i v).2 k j = M.2 k j := by simp [sA, va_up, h]
theorem sA_n (M : MS) (k i l j : Nat) (v : Int) (h : l ≠ k) : (sA M k i v).2 l j = M.2 l j := by simp [sA, va_up, h]
theorem sA_f (M : MS) (k i l : Nat) (v : Int) (h : l ≠ k) : (sA M k i v).2 l = M.2 l := by funext j; simp [sA, va_up, h]
theorem iter_to {S R : Type} {f : S → Option (S ⊕ R)} (st : Nat → S) {a b : Nat} (hab : a ≤ b) (h : ∀ k, a ≤ k → k < b → f (st k) = some (.inl (st (k + 1)))) : iter f (st a) = iter f (st b) := by
  induction b with
  | zero => rw [Nat.le_zero.mp hab]
  | succ b ih =>
    by_cases e : a ≤ b
    · rw [ih e (fun k h1 h2 => h k h1 (by omega))]
      exact iter_in (h b e (by omega))
    · rw [show a = b + 1 by omega]
/-- a loop that counts up from a to b -/
theorem loopU {S R : Type} {f : S → Option (S ⊕ R)} {s0 : S} {o : Option R} (st : Nat → S) (a b : Nat) (h0 : s0 = st a) (hab : a ≤ b) (h : ∀ k, a ≤ k → k < b → f (st k) = some (.inl (st (k + 1)))) (he : f (st b) = mr o) : iter f s0 = o := by
  rw [h0, iter_to st hab h]
  exact iter_mr he
theorem loopUs {S R : Type} {f : S → Option (S ⊕ R)} {s0 : S} {r : R} (st : Nat → S) (a b : Nat) (h0 : s0 = st a) (hab : a ≤ b) (h : ∀ k, a ≤ k → k < b → f (st k) = some (.inl (st (k + 1)))) (he : f (st b) = some (.inr r)) : iter f s0 = some r := by
  rw [h0, iter_to st hab h]
  exact iter_out he
/-- a place, -1 for none -/
def zlast (n : Nat) : Int := if n = 0 then -1 else (n : Int)
theorem zlast_0 : zlast 0 = -1 := rfl
theorem zlast_p {n : Nat} (h : n ≠ 0) : zlast n = n := if_neg h
/-! the model's tree -/
def RepM (M : MS) (T : TS) : Prop :=
  M.1 4 = 0 ∧ M.1 5 = ((tO T).length : Int) ∧ M.1 7 = (tN T : Int) ∧ M.1 13 = ((tS T).length : Int) ∧ (∀ k, k < (tO T).length → M.2 6 k = ((tO T).getD k 0 : Nat)) ∧ (∀ i, i < tN T → M.2 8 i = tM T i) ∧ (∀ i, i < tN T → M.2 9 i = tC T i) ∧ (∀ i, i < tN T → M.2 10 i = (tD T i : Nat)) ∧ (∀ k, k < (tS T).length → M.2 12 k = ((tS T).getD k 0 : Nat)) ∧
  (∃ E : List (Nat × Nat), M.1 16 = (E.length : Int) ∧ E.length < tN T ∧ (∀ k, k < E.length → M.2 14 k = ((E.getD k (0, 0)).1 : Nat) ∧ M.2 15 k = ((E.getD k (0, 0)).2 : Nat)) ∧ (∀ e ∈ E, e.1 < tN T ∧ e.2 < tN T) ∧ ∀ o, (E.filter (fun e => decide (e.2 = o))).map Prod.fst = tL T o) ∧
  (∃ C : List (Int × Nat), M.1 17 = (C.length : Int) ∧ C.length = tK T ∧ (∀ k, k < C.length → M.2 18 k = (C.getD k (0, 0)).1 ∧ M.2 19 k = ((C.getD k (0, 0)).2 : Nat)) ∧ (∀ e ∈ C, e.2 < tN T) ∧ ∀ i, (C.filter (fun e => decide (e.2 = i))).map Prod.fst = tX T i)
/-- names are small -/
def nmOK (x : Int) : Prop := 0 ≤ x ∧ x < 128
/-- what the model's walks need of a tree -/
def WFb (T : TS) : Prop := tN T ≤ 24 ∧ (tO T).length = tN T ∧ (∀ i ∈ tO T, i < tN T) ∧ 1 ≤ (tS T).length ∧ (tS T).length ≤ tN T ∧ (∀ i ∈ tS T, i < tN T) ∧ (∀ i, i < tN T → nmOK (tM T i)) ∧ (∀ i, i < tN T → tD T i < tN T) ∧ (tO T).Nodup ∧ (∀ i, i < tN T → i ∈ tO T) ∧ (tS T).Nodup ∧ (tS T).getD 0 0 = 0 ∧ (tO T).getD 0 0 = 0
theorem gD {α : Type} {l : List α} {k : Nat} {d : α} (h : k < l.length) : l.getD k d = l[k] := by simp [List.getD, h]
theorem getD_lt {l : List Nat} {n k : Nat} (h : ∀ i ∈ l, i < n) (hk : k < l.length) : l.getD k 0 < n := by
  rw [gD hk]
  exact h _ (List.getElem_mem hk)
theorem lastB_lt (f : Nat → Bool) : ∀ n, 0 < n → lastB f n < n
  | 0, h => by omega
  | n + 1, _ => by
    unfold lastB
    split
    · omega
    · by_cases e : 0 < n
      · have := lastB_lt f n e; omega
      · rw [show n = 0 by omega]; simp [lastB]
theorem lastB_le (f : Nat → Bool) (n : Nat) : lastB f n ≤ n := by
  by_cases e : 0 < n
  · exact Nat.le_of_lt (lastB_lt f n e)
  · rw [show n = 0 by omega]; simp [lastB]
theorem lastB_s (f : Nat → Bool) (n : Nat) : lastB f (n + 1) = if f n then n else lastB f n := rfl
def sF (M : MS) (k : Nat) (g : Nat → Int) : MS := (M.1, va_up M.2 k g)
theorem va_up_id {α : Type} (f : Nat → α) (k : Nat) : va_up f k (f k) = f := by
  funext j
  by_cases e : j = k <;> simp [va_up, e]
theorem va_up2 {α : Type} (f : Nat → α) (k : Nat) (a b : α) : va_up (va_up f k a) k b = va_up f k b := by
  funext j
  by_cases e : j = k <;> simp [va_up, e]
theorem va_up_s {α : Type} (f : Nat → α) (k : Nat) (a : α) : va_up f k a k = a := by simp [va_up]
theorem va_up_n {α : Type} (f : Nat → α) (k j : Nat) (a : α) (h : j ≠ k) : va_up f k a j = f j := by simp [va_up, h]
theorem sF_id (M : MS) (k : Nat) : sF M k (M.2 k) = M := by unfold sF; rw [va_up_id]
theorem sF_1 (M : MS) (k : Nat) (g : Nat → Int) : (sF M k g).1 = M.1 := rfl
theorem sF_s (M : MS) (k : Nat) (g : Nat → Int) : (sF M k g).2 k = g := by simp [sF, va_up]
theorem sF_n (M : MS) (k j : Nat) (g : Nat → Int) (h : j ≠ k) : (sF M k g).2 j = M.2 j := by simp [sF, va_up, h]
theorem sA_sF (M : MS) (k i : Nat) (g : Nat → Int) (v : Int) : sA (sF M k g) k i v = sF M k (va_up g i v) := by
  simp [sA, sF, va_up2, va_up_s]
theorem sF_sF (M : MS) (k : Nat) (f g : Nat → Int) : sF (sF M k f) k g = sF M k g := by simp [sF, va_up2]
def anyB (p : Nat → Bool) (a : Nat) : Nat → Bool
  | 0 => false
  | k + 1 => anyB p a k || (decide (a ≤ k) && p k)
theorem anyB_s (p : Nat → Bool) (a k : Nat) : anyB p a (k + 1) = (anyB p a k || (decide (a ≤ k) && p k)) := rfl
theorem anyB_lo (p : Nat → Bool) (a k : Nat) (h : k ≤ a) : anyB p a k = false := by
  induction k with
  | zero => rfl
  | succ k ih => rw [anyB_s, ih (by omega)]; simp; omega
theorem reachB_eq (f g : Nat → Bool) (hf : f 0 = false) : ∀ n, reachB f g n = if lastB f n ≠ 0 ∧ anyB g (lastB f n + 1) n = false then lastB f n else 0
  | 0 => rfl
  | n + 1 => by
    rw [reachB, lastB_s]
    by_cases e : f n = true
    · have hn : n ≠ 0 := fun q => by rw [q, hf] at e; cases e
      rw [if_pos e, if_pos e, if_pos ⟨hn, anyB_lo _ _ _ (by omega)⟩]
    · rw [if_neg e, if_neg e, anyB_s, reachB_eq f g hf n]
      by_cases e2 : g n = true
      · rw [if_pos e2]
        by_cases h0 : lastB f n = 0
        · simp [h0]
        · have := lastB_le f n
          have h1 : lastB f n ≠ n := fun q => by
            have := lastB_lt f n (by omega)
            omega
          rw [if_neg]
          simp [e2]
          intro _ _
          omega
      · rw [if_neg e2]
        simp [e2]
theorem lastB_at (f : Nat → Bool) : ∀ n, lastB f n ≠ 0 → f (lastB f n) = true
  | 0, h => absurd rfl h
  | n + 1, h => by
    rw [lastB_s] at h ⊢
    by_cases e : f n = true
    · rw [if_pos e]; exact e
    · rw [if_neg e] at h ⊢
      exact lastB_at f n h
theorem lastB_max (f : Nat → Bool) : ∀ n k, lastB f n < k → k < n → f k = false
  | 0, k, _, h => by omega
  | n + 1, k, h1, h2 => by
    rw [lastB_s] at h1
    by_cases e : f n = true
    · rw [if_pos e] at h1; omega
    · rw [if_neg e] at h1
      by_cases q : k = n
      · rw [q]; simpa using e
      · exact lastB_max f n k h1 (by omega)
theorem idx_iff {l : List Nat} (hn : l.Nodup) {i : Nat} (hi : i ∈ l) {k : Nat} (hk : k < l.length) : l.getD k 0 = i ↔ k = l.idxOf i := by
  have h1 := List.idxOf_lt_length_of_mem hi
  have h2 : l.getD (l.idxOf i) 0 = i := by rw [gD h1]; exact List.getElem_idxOf h1
  constructor
  · intro e
    rw [gD hk] at e
    rw [gD h1] at h2
    exact (List.getElem_inj hn).mp (e.trans h2.symm)
  · intro e; rw [e]; exact h2
theorem tw_lt {α : Type} (f : α → Bool) : ∀ (l : List α) (k : Nat) (d : α), k < (l.takeWhile f).length → f (l.getD k d) = true
  | [], k, d, h => by simp at h
  | x :: l, k, d, h => by
    rw [List.takeWhile_cons] at h
    by_cases e : f x = true
    · rw [if_pos e] at h
      cases k with
      | zero => exact e
      | succ k =>
        have := tw_lt f l k d (by simpa using h)
        simpa using this
    · rw [if_neg e] at h; simp at h
theorem tw_at {α : Type} (f : α → Bool) : ∀ (l : List α) (d : α), (l.takeWhile f).length < l.length → f (l.getD (l.takeWhile f).length d) = false
  | [], d, h => by simp at h
  | x :: l, d, h => by
    rw [List.takeWhile_cons] at h ⊢
    by_cases e : f x = true
    · rw [if_pos e] at h ⊢
      have := tw_at f l d (by simpa using h)
      simpa using this
    · rw [if_neg e]
      simpa using e
theorem tw_le {α : Type} (f : α → Bool) (l : List α) : (l.takeWhile f).length ≤ l.length := by
  have := congrArg List.length (List.takeWhile_append_dropWhile (p := f) (l := l))
  rw [List.length_append] at this
  omega
theorem getD_drop (l : List Nat) (a k : Nat) : (l.drop a).getD k 0 = l.getD (a + k) 0 := by simp [List.getD]
/-- a loop by what holds before each round -/
theorem loopI {S R : Type} {f : S → Option (S ⊕ R)} {P : R → Prop} (I : Nat → S → Prop) {a b : Nat} {s0 : S} (hab : a ≤ b) (h0 : I a s0) (h : ∀ k s, a ≤ k → k < b → I k s → ∃ s', f s = some (.inl s') ∧ I (k + 1) s') (he : ∀ s, I b s → ∃ r, f s = some (.inr r) ∧ P r) : ∃ r, iter f s0 = some r ∧ P r := by
  obtain ⟨n, hn⟩ : ∃ n, b - a = n := ⟨_, rfl⟩
  induction n generalizing a s0 with
  | zero =>
    have : a = b := by omega
    subst this
    obtain ⟨r, r1, r2⟩ := he s0 h0
    exact ⟨r, iter_out r1, r2⟩
  | succ n ih =>
    obtain ⟨s', e1, e2⟩ := h a s0 (Nat.le_refl _) (by omega) h0
    obtain ⟨r, r1, r2⟩ := ih (by omega) e2 (fun k s h1 h2 => h k s (by omega) h2) (by omega)
    exact ⟨r, by rw [iter_in e1]; exact r1, r2⟩
/-- as WFb, but not all nodes need stand in the order -/
def WFw (T : TS) : Prop := tN T ≤ 24 ∧ (tO T).length ≤ tN T ∧ (∀ i ∈ tO T, i < tN T) ∧ 1 ≤ (tS T).length ∧ (tS T).length ≤ tN T ∧ (∀ i ∈ tS T, i < tN T) ∧ (∀ i, i < tN T → nmOK (tM T i)) ∧ (∀ i, i < tN T → tD T i < tN T) ∧ (tO T).Nodup
theorem WFb.w {T : TS} (h : WFb T) : WFw T := ⟨h.1, Nat.le_of_eq h.2.1, h.2.2.1, h.2.2.2.1, h.2.2.2.2.1, h.2.2.2.2.2.1, h.2.2.2.2.2.2.1, h.2.2.2.2.2.2.2.1, h.2.2.2.2.2.2.2.2.1⟩
theorem WFb.mem {T : TS} (h : WFb T) {i : Nat} (hi : i < tN T) : i ∈ tO T := h.2.2.2.2.2.2.2.2.2.1 i hi
