/-! the tree stays when only other things change -/
set_option maxRecDepth 100000
def AgW (pg : Nat) (h h' : HP) : Prop := pX h ≤ pX h' ∧ pO h' = pO h ∧ (∀ b, b < pX h → treeK (pK h b) ∨ pK h b = 40 → pK h' b = pK h b ∧ pN h' b = pN h b ∧ (∀ j, pP h' b j = pP h b j) ∧ pL h' b = pL h b ∧ pB h' b = pB h b ∧ pC h' b = pC h b ∧ (pK h b = 2 → pI h' b 2 = pI h b 2 ∧ pI h' b 3 = pI h b 3 ∧ pI h' b 6 = pI h b 6)) ∧ pI h' pg 3 = pI h pg 3 ∧ pI h' pg 4 = pI h pg 4 ∧ pI h' pg 7 = pI h pg 7
section PB
variable {h h' h1 : HP} {pg u : Nat} {φ : Nat → Nat} {T : TS}
theorem tK1 : treeK 1 := Or.inl rfl
theorem tK2 : treeK 2 := Or.inr (Or.inl rfl)
theorem tK3 : treeK 3 := Or.inr (Or.inr (Or.inl rfl))
theorem tKl {k : Nat} (h1 : 20 ≤ k) (h2 : k < 26) : treeK k := Or.inr (Or.inr (Or.inr (Or.inl ⟨h1, h2⟩)))
theorem tK30 : treeK 30 := by unfold treeK; omega
theorem tK41 : treeK 41 := by unfold treeK; omega
theorem AgW.k (A : AgW pg h h') {b k : Nat} (hb : b < pX h) (hk : pK h b = k) (ht : treeK k ∨ k = 40) : pK h' b = k ∧ pN h' b = pN h b ∧ (∀ j, pP h' b j = pP h b j) ∧ pL h' b = pL h b ∧ pB h' b = pB h b ∧ pC h' b = pC h b := by
  have := A.2.2.1 b hb (by rw [hk]; exact ht)
  exact ⟨by rw [this.1]; exact hk, this.2.1, this.2.2.1, this.2.2.2.1, this.2.2.2.2.1, this.2.2.2.2.2.1⟩
theorem ELc.agw (A : AgW pg h h') {x : Nat} (hx : ELc h x) : ELc h' x := by
  obtain ⟨x1, x2, x3, x4, x5, x6, x7, x8, x9⟩ := hx
  have w0 := A.k (b := x) (by omega) x1 (Or.inl tK2)
  have w1 := A.k (b := x + 1) (by omega) x3 (Or.inl (tKl (by omega) (by omega)))
  have w2 := A.k (b := x + 2) (by omega) x5 (Or.inr rfl)
  refine ⟨w0.1, by rw [w0.2.2.1]; exact x2, w1.1, by rw [w0.2.2.1]; exact x4, w2.1, by rw [w2.2.1]; exact x6, fun l hl => ?_, Nat.le_trans x8 A.1, by rw [w1.2.2.2.2.2]; exact x9⟩
  rw [w0.2.2.1] at hl
  obtain ⟨l1, l2, l3⟩ := x7 l hl
  have wl := A.k l2 l1 (Or.inl (tKl (by omega) (by omega)))
  exact ⟨wl.1, Nat.lt_of_lt_of_le l2 A.1, by rw [wl.2.2.2.2.2]; exact l3⟩
theorem TXc.agw (A : AgW pg h h') {x : Nat} (hx : TXc h x) : TXc h' x := by
  obtain ⟨x1, x2, x3, ⟨q, q1, q2, q3, q4, q5, q6⟩, x5, x6⟩ := hx
  have w0 := A.k (b := x) (by omega) x1 (Or.inl tK3)
  have w1 := A.k (b := x + 1) (by omega) x3 (Or.inl tK30)
  have wq := A.k q3 q2 (Or.inl tK41)
  exact ⟨w0.1, by rw [w0.2.2.1]; exact x2, w1.1, ⟨q, by rw [w0.2.2.1]; exact q1, wq.1, Nat.lt_of_lt_of_le q3 A.1, by rw [wq.2.1]; exact q4, by rw [wq.2.1]; exact q5, by rw [wq.2.1, w1.2.2.2.2.1]; exact q6⟩, Nat.le_trans x5 A.1, by rw [w1.2.2.2.2.2]; exact x6⟩
theorem SHp.agw (H : SHp h pg) (A : AgW pg h h') : SHp h' pg ∧ pL h' (pg + 4) = pL h (pg + 4) ∧ pL h' (pg + 5) = pL h (pg + 5) ∧ pL h' (pg + 6) = pL h (pg + 6) := by
  obtain ⟨⟨a1, a2, a3, a4, a5, a6⟩, ⟨b1, b2, b3, b4, b5⟩, ⟨c1, c2, c3, c4⟩, ⟨d1, d2, d3, d4⟩, f, g⟩ := H
  have v0 := A.k (b := pg) (by omega) a1 (Or.inl tK1)
  have v4 := A.k (b := pg + 4) (by omega) b1 (Or.inl (tKl (by omega) (by omega)))
  have v5 := A.k (b := pg + 5) (by omega) b2 (Or.inl (tKl (by omega) (by omega)))
  have v6 := A.k (b := pg + 6) (by omega) b3 (Or.inl (tKl (by omega) (by omega)))
  have v7 := A.k (b := pg + 7) (by omega) b4 (Or.inl (tKl (by omega) (by omega)))
  have hlt : ∀ x ∈ (pg + 1) :: pL h (pg + 5), ELc h x := fun x hx => by
    rcases List.mem_cons.mp hx with z | z
    · rw [z]; exact d1
    · exact d2 x z
  have hp : ∀ x ∈ (pg + 1) :: pL h (pg + 5), ∀ j, pP h' x j = pP h x j := fun x hx j => (A.k (b := x) (by have := (hlt x hx).2.2.2.2.2.2.2.1; omega) (hlt x hx).1 (Or.inl tK2)).2.2.1 j
  have hp2 : ∀ x ∈ pL h (pg + 4), ∀ j, pP h' x j = pP h x j := fun x hx j => (A.k (b := x) (by have := (d3 x hx).2.2.2.2.1; omega) (d3 x hx).1 (Or.inl tK3)).2.2.1 j
  refine ⟨⟨⟨v0.1, by rw [v0.2.2.1]; exact a2, by rw [v0.2.2.1]; exact a3, by rw [v0.2.2.1]; exact a4, by rw [v0.2.2.1]; exact a5, by rw [v0.2.2.1]; exact a6⟩, ⟨v4.1, v5.1, v6.1, v7.1, Nat.le_trans b5 A.1⟩, ⟨by rw [v4.2.2.2.2.2]; exact c1, by rw [v5.2.2.2.2.2]; exact c2, by rw [v6.2.2.2.2.2]; exact c3, by rw [v7.2.2.2.2.2]; exact c4⟩, ?_, ?_, ?_⟩, v4.2.2.2.1, v5.2.2.2.1, v6.2.2.2.1⟩
  · rw [v5.2.2.2.1, v4.2.2.2.1]
    exact ⟨d1.agw A, fun x hx => (d2 x hx).agw A, fun x hx => (d3 x hx).agw A, d4⟩
  · rw [v5.2.2.2.1]
    intro x hx y hy l
    rw [hp x hx, hp y hy]
    exact f x hx y hy l
  · rw [v4.2.2.2.1]
    intro x hx y hy l
    rw [hp2 x hx, hp2 y hy]
    exact g x hx y hy l
theorem RepB.agw (H : RepB h pg φ T) (hS : ∀ i ∈ tS T, i < tN T ∧ tM T i ≠ 1) (A : AgW pg h h') : RepB h' pg φ T := by
  obtain ⟨s1, s4, s5, s6⟩ := H.1.agw A
  refine ⟨s1, H.2.1, ?_, fun i hi hm => ?_, fun i hi hm => ?_, fun i hi => ?_, ?_, fun i hi hm => ?_, ?_⟩
  · rw [s4, s5]; exact H.2.2.1
  · have hE := H.elc hi hm
    have w0 := A.2.2.1 (φ i) (by have := hE.2.2.2.2.2.2.2.1; omega) (by rw [hE.1]; exact Or.inl tK2)
    have w1 := A.k (b := φ i + 1) (by have := hE.2.2.2.2.2.2.2.1; omega) hE.2.2.1 (Or.inl (tKl (by omega) (by omega)))
    obtain ⟨e1, e2, e3⟩ := w0.2.2.2.2.2.2 hE.1
    rw [e1, e2, e3, w1.2.2.2.1]
    exact H.2.2.2.1 i hi hm
  · have hE := H.txc hi hm
    rw [(A.k (b := φ i + 1) (by have := hE.2.2.2.2.1; omega) hE.2.2.1 (Or.inl tK30)).2.2.2.2.1]
    exact H.2.2.2.2.1 i hi hm
  · have hk := H.c.kd hi
    rw [(A.2.2.1 (φ i) (by omega) (by rcases hk.1 with z | z <;> rw [z]; exact Or.inl tK2; exact Or.inl tK3)).2.2.1]
    exact H.2.2.2.2.2.1 i hi
  · rw [s6]; exact H.2.2.2.2.2.2.1
  · obtain ⟨l, l1, l2, l3⟩ := H.l i hi hm
    have hl := H.c.lls (hS i hi).1 (hS i hi).2 l1
    have wl := A.k hl.2.1 hl.1 (Or.inl (tKl (by omega) (by omega)))
    have hE := H.elc (hS i hi).1 (hS i hi).2
    refine ⟨l, ?_, by rw [wl.2.2.2.1]; exact l2, by rw [wl.2.2.2.2.2]; exact l3⟩
    rw [(A.k (b := φ i) (by have := hE.2.2.2.2.2.2.2.1; omega) hE.1 (Or.inl tK2)).2.2.1]
    exact l1
  · rw [A.2.2.2.2.2]; exact H.2.2.2.2.2.2.2.2
theorem AgW.cnt (A : AgW pg h h') (Hs : SHp h pg) : cntS pg h h' := by
  obtain ⟨s1, s4, s5, s6⟩ := Hs.agw A
  exact ⟨A.2.2.2.1, A.2.2.2.2.1, s4, s5⟩
theorem RP.agw (R : RP h pg T) (hW : WF T) (A : AgW pg h h') : RP h' pg T := by
  obtain ⟨φ, H, C⟩ := R
  exact ⟨φ, H.agw hW.stk A, C.mono (A.cnt H.1) rfl rfl⟩
theorem Brk.agw (R : Brk h pg) (Hs : SHp h pg) (A : AgW pg h h') : Brk h' pg := by
  obtain ⟨r1, ⟨a, r2, ra⟩, r3⟩ := R
  obtain ⟨s1, s4, s5, s6⟩ := Hs.agw A
  refine ⟨by rw [A.2.2.2.2.2]; exact r1, ⟨a, ?_, Nat.lt_of_lt_of_le ra A.1⟩, ?_⟩
  · have hk6 : pK h (pg + 6) = 24 := Hs.2.1.2.2.1
    have hk6' : pK h' (pg + 6) = 24 := s1.2.1.2.2.1
    unfold f_X0_top lLen lGet at r2 ⊢
    rw [gd_c Hs.1.1, gd_c Hs.1.1, Hs.1.2.2.2.2.1, obind_some, gd_c (by rw [hk6]; decide), obind_some, gd_c (by rw [hk6]; decide)] at r2
    rw [gd_c s1.1.1, gd_c s1.1.1, s1.1.2.2.2.2.1, obind_some, gd_c (by rw [hk6']; decide), obind_some, gd_c (by rw [hk6']; decide), s6]
    by_cases hz : zin (((pL h (pg + 6)).length : Int) - 1) (pL h (pg + 6)).length
    · rw [gd_c hz, obind_some] at r2 ⊢
      by_cases hk : pK h ((pL h (pg + 6)).getD (zix (((pL h (pg + 6)).length : Int) - 1)) 0) = 2
      · rw [gd_c hk] at r2
        have e := Option.some.inj r2
        rw [e] at hk ⊢
        rw [gd_c (A.k ra hk (Or.inl tK2)).1]
      · unfold gd at r2
        rw [if_neg hk] at r2; cases r2
    · unfold gd at r2
      rw [if_neg hz] at r2; cases r2
  · have hE := Hs.2.2.2.1.1
    rw [(A.k (b := pg + 1) (by have := Hs.lt; omega) hE.1 (Or.inl tK2)).2.2.1]
    exact r3
end PB
