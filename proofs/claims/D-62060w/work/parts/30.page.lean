/-! the page's tree as a picture of the heap -/
set_option maxRecDepth 100000
def kids (T : TS) (i : Nat) : List Nat := (tO T).filter (fun j => decide (j ≠ 0) && decide (tP T j = i))
def elsT (T : TS) : List Nat := (List.range (tN T)).filter (fun i => decide (i ≠ 0) && decide (tM T i ≠ 1))
def txsT (T : TS) : List Nat := (List.range (tN T)).filter (fun i => decide (tM T i = 1))
/-- an element's cell -/
def ELc (h : HP) (e : Nat) : Prop := pK h e = 2 ∧ pP h e 4 = some (e + 1) ∧ pK h (e + 1) = 20 ∧ pP h e 7 = some (e + 2) ∧ pK h (e + 2) = 40 ∧ pN h (e + 2) = 7 ∧ (∀ l, pP h e 5 = some l → pK h l = 21 ∧ l < pX h ∧ pC h l ≤ 60) ∧ e + 3 ≤ pX h ∧ pC h (e + 1) ≤ 60
/-- a text's cell -/
def TXc (h : HP) (t : Nat) : Prop := pK h t = 3 ∧ pP h t 2 = some (t + 1) ∧ pK h (t + 1) = 30 ∧ (∃ p, pP h t 3 = some p ∧ pK h p = 41 ∧ p < pX h ∧ 4 ≤ pN h p ∧ pN h p ≤ 1000 ∧ (pB h (t + 1)).length ≤ pN h p) ∧ t + 2 ≤ pX h ∧ pC h (t + 1) ≤ 400
/-- the page's cells for the tree -/
def SHp (h : HP) (pg : Nat) : Prop :=
  (pK h pg = 1 ∧ pP h pg 0 = some (pg + 1) ∧ pP h pg 1 = some (pg + 4) ∧ pP h pg 2 = some (pg + 5) ∧ pP h pg 5 = some (pg + 6) ∧ pP h pg 6 = some (pg + 7)) ∧
  (pK h (pg + 4) = 22 ∧ pK h (pg + 5) = 23 ∧ pK h (pg + 6) = 24 ∧ pK h (pg + 7) = 25 ∧ pg + 21 ≤ pX h) ∧
  (pC h (pg + 4) ≤ 60 ∧ pC h (pg + 5) ≤ 60 ∧ pC h (pg + 6) ≤ 60 ∧ pC h (pg + 7) ≤ 60) ∧
  (ELc h (pg + 1) ∧ (∀ e ∈ pL h (pg + 5), ELc h e) ∧ (∀ t ∈ pL h (pg + 4), TXc h t) ∧ ((pg + 1) :: pL h (pg + 5)).Nodup ∧ (pL h (pg + 4)).Nodup ∧ (pL h (pg + 5)).length ≤ 23 ∧ (pL h (pg + 4)).length ≤ 23) ∧
  (∀ e ∈ (pg + 1) :: pL h (pg + 5), ∀ e' ∈ (pg + 1) :: pL h (pg + 5), ∀ l, pP h e 5 = some l → pP h e' 5 = some l → e = e') ∧
  (∀ t ∈ pL h (pg + 4), ∀ t' ∈ pL h (pg + 4), ∀ p, pP h t 3 = some p → pP h t' 3 = some p → t = t')
/-- the tree's body: what stands but for the counts of the pools -/
def RepB (h : HP) (pg : Nat) (φ : Nat → Nat) (T : TS) : Prop :=
  SHp h pg ∧ φ 0 = pg + 1 ∧
  ((∀ i, i < tN T → i ≠ 0 → tM T i ≠ 1 → φ i ∈ pL h (pg + 5)) ∧ (∀ i, i < tN T → tM T i = 1 → φ i ∈ pL h (pg + 4)) ∧ ∀ i j, i < tN T → j < tN T → φ i = φ j → i = j) ∧
  (∀ i, i < tN T → tM T i ≠ 1 → pI h (φ i) 2 = tM T i ∧ pI h (φ i) 3 = tC T i ∧ pI h (φ i) 6 = (if i ∈ tS T then 1 else 0) ∧ pL h (φ i + 1) = (kids T i).map φ) ∧
  (∀ i, i < tN T → tM T i = 1 → pB h (φ i + 1) = tX T i) ∧
  (∀ i, i < tN T → pP h (φ i) 0 = if i = 0 then none else some (φ (tP T i))) ∧
  pL h (pg + 6) = (tS T).map φ ∧
  (∀ i ∈ tS T, tM T i = 99 ∨ i = 0 → ∃ l, pP h (φ i) 5 = some l ∧ pL h l = (tL T i).map φ ∧ pC h l ≤ 60) ∧
  pI h pg 7 = 0
def CntP (h : HP) (pg : Nat) (φ : Nat → Nat) (T : TS) : Prop := pI h pg 4 = ((elsT T).length : Int) ∧ (elsT T).length ≤ (pL h (pg + 5)).length ∧ (pL h (pg + 5)).take (elsT T).length = (elsT T).map φ ∧ pI h pg 3 = ((txsT T).length : Int) ∧ (txsT T).length ≤ (pL h (pg + 4)).length ∧ (pL h (pg + 4)).take (txsT T).length = (txsT T).map φ
/-- room that is left: cells, slots -/
def RB (h : HP) (c s : Nat) : Prop := pX h + c ≤ pO h + 600000 ∧ pS h + s ≤ 7302250
section PB
variable {h : HP} {pg : Nat} {φ : Nat → Nat} {T : TS}
theorem SHp.aI (H : SHp h pg) (a k : Nat) (v : Int) : SHp (wI h a k v) pg := H
theorem pL_ne {a b : Nat} (v : List Nat) (hb : b ≠ a) : pL (wL h a v) b = pL h b := by rw [pL_wL, if_neg hb]
theorem SHp.aL (H : SHp h pg) {a : Nat} (h4 : a ≠ pg + 4) (h5 : a ≠ pg + 5) (v : List Nat) : SHp (wL h a v) pg := by
  have e4 : pL (wL h a v) (pg + 4) = pL h (pg + 4) := pL_ne v (Ne.symm h4)
  have e5 : pL (wL h a v) (pg + 5) = pL h (pg + 5) := pL_ne v (Ne.symm h5)
  unfold SHp
  rw [e4, e5]
  exact H
theorem pP_ne {a b k j : Nat} (v : Option Nat) (hb : b ≠ a ∨ j ≠ k) : pP (wP h a k v) b j = pP h b j := by
  rw [pP_wP]
  rcases hb with z | z
  · rw [if_neg (fun q => z q.1)]
  · rw [if_neg (fun q => z q.2)]
theorem SHp.aP (H : SHp h pg) {a k : Nat} (hk : (k = 0 ∧ a ≠ pg) ∨ (k = 12)) (v : Option Nat) : SHp (wP h a k v) pg := by
  have e : ∀ b j, (j = 1 ∨ j = 2 ∨ j = 3 ∨ j = 4 ∨ j = 5 ∨ j = 6 ∨ j = 7) → pP (wP h a k v) b j = pP h b j := fun b j hj => pP_ne v (Or.inr (by omega))
  have e0 : pP (wP h a k v) pg 0 = pP h pg 0 := pP_ne v (by omega)
  obtain ⟨⟨a1, a2, a3, a4, a5, a6⟩, b, c, ⟨d1, d2, d3, d4⟩, f, g⟩ := H
  have hE : ∀ x, ELc h x → ELc (wP h a k v) x := fun x hx => by
    obtain ⟨x1, x2, x3, x4, x5⟩ := hx
    exact ⟨x1, by rw [e _ _ (by omega)]; exact x2, x3, by rw [e _ _ (by omega)]; exact x4, by rw [e _ _ (by omega)]; exact x5⟩
  have hT : ∀ x, TXc h x → TXc (wP h a k v) x := fun x hx => by
    obtain ⟨x1, x2, x3, x4, x5⟩ := hx
    exact ⟨x1, by rw [e _ _ (by omega)]; exact x2, x3, by rw [e _ _ (by omega)]; exact x4, x5⟩
  refine ⟨⟨a1, by rw [e0]; exact a2, by rw [e _ _ (by omega)]; exact a3, by rw [e _ _ (by omega)]; exact a4, by rw [e _ _ (by omega)]; exact a5, by rw [e _ _ (by omega)]; exact a6⟩, b, c, ⟨hE _ d1, fun x hx => hE x (d2 x hx), fun x hx => hT x (d3 x hx), d4⟩, fun x hx y hy l => ?_, fun x hx y hy l => ?_⟩
  · rw [e _ _ (by omega), e _ _ (by omega)]; exact f x hx y hy l
  · rw [e _ _ (by omega), e _ _ (by omega)]; exact g x hx y hy l
theorem SHp.aG (H : SHp h pg) (a n : Nat) (hn : n ≤ 60 ∨ (n ≤ 400 ∧ pK h a = 30)) : SHp (wGr h a n) pg := by
  have e : ∀ b, pK h b ≠ 30 → pC h b ≤ 60 → pC (wGr h a n) b ≤ 60 := fun b hb hc => by
    rw [pC_wGr]
    split
    · next q =>
      rcases hn with z | z
      · exact z
      · rw [q] at hb; exact (hb z.2).elim
    · exact hc
  have e' : ∀ b, pC h b ≤ 400 → pC (wGr h a n) b ≤ 400 := fun b hc => by
    rw [pC_wGr]
    split
    · omega
    · exact hc
  obtain ⟨a0, ⟨b1, b2, b3, b4, b5⟩, ⟨c1, c2, c3, c4⟩, ⟨d1, d2, d3, d4⟩, f⟩ := H
  have hE : ∀ x, ELc h x → ELc (wGr h a n) x := fun x hx => by
    obtain ⟨x1, x2, x3, x4, x5, x6, x7, x8, x9⟩ := hx
    exact ⟨x1, x2, x3, x4, x5, x6, fun l hl => ⟨(x7 l hl).1, Nat.lt_succ_of_lt (x7 l hl).2.1, e _ (by rw [(x7 l hl).1]; decide) (x7 l hl).2.2⟩, Nat.le_succ_of_le x8, e _ (by rw [x3]; decide) x9⟩
  have hT : ∀ x, TXc h x → TXc (wGr h a n) x := fun x hx => by
    obtain ⟨x1, x2, x3, ⟨q, q1, q2, q3, q4⟩, x5, x6⟩ := hx
    exact ⟨x1, x2, x3, ⟨q, q1, q2, Nat.lt_succ_of_lt q3, q4⟩, Nat.le_succ_of_le x5, e' _ x6⟩
  exact ⟨a0, ⟨b1, b2, b3, b4, Nat.le_succ_of_le b5⟩, ⟨e _ (by rw [b1]; decide) c1, e _ (by rw [b2]; decide) c2, e _ (by rw [b3]; decide) c3, e _ (by rw [b4]; decide) c4⟩, ⟨hE _ d1, fun x hx => hE x (d2 x hx), fun x hx => hT x (d3 x hx), d4⟩, f⟩
/-- a new cell changes nothing below it -/
theorem nw {k n b : Nat} (hb : b < pX h) : pK (wNew h k n) b = pK h b ∧ pN (wNew h k n) b = pN h b ∧ (∀ j, pI (wNew h k n) b j = pI h b j) ∧ (∀ j, pP (wNew h k n) b j = pP h b j) ∧ pL (wNew h k n) b = pL h b ∧ pB (wNew h k n) b = pB h b ∧ pC (wNew h k n) b = pC h b := by
  have : b ≠ pX h := by omega
  refine ⟨?_, ?_, fun j => ?_, fun j => ?_, ?_, ?_, ?_⟩
  · rw [pK_wNew, if_neg this]
  · rw [pN_wNew, if_neg this]
  · rw [pI_wNew, if_neg this]
  · rw [pP_wNew, if_neg this]
  · rw [pL_wNew, if_neg this]
  · rw [pB_wNew, if_neg this]
  · rw [pC_wNew, if_neg this]
theorem SHp.aN (H : SHp h pg) (k n : Nat) : SHp (wNew h k n) pg := by
  obtain ⟨⟨a1, a2, a3, a4, a5, a6⟩, ⟨b1, b2, b3, b4, b5⟩, ⟨c1, c2, c3, c4⟩, ⟨d1, d2, d3, d4⟩, f, g⟩ := H
  have hE : ∀ x, ELc h x → ELc (wNew h k n) x := fun x hx => by
    obtain ⟨x1, x2, x3, x4, x5, x6, x7, x8, x9⟩ := hx
    have w0 := nw (h := h) (k := k) (n := n) (b := x) (by omega)
    have w1 := nw (h := h) (k := k) (n := n) (b := x + 1) (by omega)
    have w2 := nw (h := h) (k := k) (n := n) (b := x + 2) (by omega)
    refine ⟨by rw [w0.1]; exact x1, by rw [w0.2.2.2.1]; exact x2, by rw [w1.1]; exact x3, by rw [w0.2.2.2.1]; exact x4, by rw [w2.1]; exact x5, by rw [w2.2.1]; exact x6, fun l hl => ?_, Nat.le_succ_of_le x8, by rw [w1.2.2.2.2.2.2]; exact x9⟩
    rw [w0.2.2.2.1] at hl
    obtain ⟨l1, l2, l3⟩ := x7 l hl
    exact ⟨by rw [(nw l2).1]; exact l1, Nat.lt_succ_of_lt l2, by rw [(nw l2).2.2.2.2.2.2]; exact l3⟩
  have hT : ∀ x, TXc h x → TXc (wNew h k n) x := fun x hx => by
    obtain ⟨x1, x2, x3, ⟨q, q1, q2, q3, q4, q5, q6⟩, x5, x6⟩ := hx
    have w0 := nw (h := h) (k := k) (n := n) (b := x) (by omega)
    have w1 := nw (h := h) (k := k) (n := n) (b := x + 1) (by omega)
    have wq := nw (h := h) (k := k) (n := n) (b := q) q3
    exact ⟨by rw [w0.1]; exact x1, by rw [w0.2.2.2.1]; exact x2, by rw [w1.1]; exact x3, ⟨q, by rw [w0.2.2.2.1]; exact q1, by rw [wq.1]; exact q2, Nat.lt_succ_of_lt q3, by rw [wq.2.1]; exact q4, by rw [wq.2.1]; exact q5, by rw [wq.2.1, w1.2.2.2.2.2.1]; exact q6⟩, Nat.le_succ_of_le x5, by rw [w1.2.2.2.2.2.2]; exact x6⟩
  have v0 := nw (h := h) (k := k) (n := n) (b := pg) (by omega)
  have v4 := nw (h := h) (k := k) (n := n) (b := pg + 4) (by omega)
  have v5 := nw (h := h) (k := k) (n := n) (b := pg + 5) (by omega)
  have v6 := nw (h := h) (k := k) (n := n) (b := pg + 6) (by omega)
  have v7 := nw (h := h) (k := k) (n := n) (b := pg + 7) (by omega)
  have hlt : ∀ x ∈ (pg + 1) :: pL h (pg + 5), x < pX h := fun x hx => by
    rcases List.mem_cons.mp hx with z | z
    · have := d1.2.2.2.2.2.2.2.1; omega
    · have := (d2 x z).2.2.2.2.2.2.2.1; omega
  have hlt2 : ∀ x ∈ pL h (pg + 4), x < pX h := fun x hx => by have := (d3 x hx).2.2.2.2.1; omega
  refine ⟨⟨by rw [v0.1]; exact a1, by rw [v0.2.2.2.1]; exact a2, by rw [v0.2.2.2.1]; exact a3, by rw [v0.2.2.2.1]; exact a4, by rw [v0.2.2.2.1]; exact a5, by rw [v0.2.2.2.1]; exact a6⟩, ⟨by rw [v4.1]; exact b1, by rw [v5.1]; exact b2, by rw [v6.1]; exact b3, by rw [v7.1]; exact b4, Nat.le_succ_of_le b5⟩, ⟨by rw [v4.2.2.2.2.2.2]; exact c1, by rw [v5.2.2.2.2.2.2]; exact c2, by rw [v6.2.2.2.2.2.2]; exact c3, by rw [v7.2.2.2.2.2.2]; exact c4⟩, ?_, ?_, ?_⟩
  · rw [v5.2.2.2.2.1, v4.2.2.2.2.1]
    exact ⟨hE _ d1, fun x hx => hE x (d2 x hx), fun x hx => hT x (d3 x hx), d4⟩
  · rw [v5.2.2.2.2.1]
    intro x hx y hy l
    rw [(nw (hlt x hx)).2.2.2.1, (nw (hlt y hy)).2.2.2.1]
    exact f x hx y hy l
  · rw [v4.2.2.2.2.1]
    intro x hx y hy l
    rw [(nw (hlt2 x hx)).2.2.2.1, (nw (hlt2 y hy)).2.2.2.1]
    exact g x hx y hy l
end PB
