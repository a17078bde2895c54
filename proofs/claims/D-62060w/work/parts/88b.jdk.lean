/-! the JDK's functions over a picture that stands for the page's -/
set_option maxRecDepth 100000
def wfX (r : HP) : Prop := ∀ a, pK r a ≠ 0 → a < pX r
theorem RR.wf {E : PEw} {r : HP} {H : Heap} (h : RR E r H) : wfX r := fun a ha => by rw [h.2.1.1]; exact h.lt ha
theorem rep.list {r h r' h' : HP} {a : Nat} (hp : rep r h) (ha : isL (pK h a)) (hX : pX r' = pX h' ∧ pS r' = pS h' ∧ pO r' = pO h' ∧ pD r' = pD h' ∧ pM r' = pM h') (eD' : pD h' = pD h) (eK' : pK h' = pK h) (eN' : pN h' = pN h) (eI' : pI h' = pI h) (eP' : pP h' = pP h) (eB' : pB h' = pB h) (eL' : ∀ x, x ≠ a → pL h' x = pL h x) (eC' : ∀ x, x ≠ a → pC h' x = pC h x)
    (hr : ∀ x, x ≠ a → pK r x ≠ 0 → ¬ ownB r h a x → pK r' x = pK r x ∧ pN r' x = pN r x ∧ pI r' x = pI r x ∧ pP r' x = pP r x) (hra : pK r' a = pK r a) (hLR : LR r' h' a) (hown : ∀ b, pC h' a ≠ 0 → pP r' a 1 = some b → ownB r h a b ∨ pK r b = 0) : rep r' h' := by
  obtain ⟨p1, p2, p3, p4, p5, p6, p7, p8, p9, p10⟩ := hp
  have hno : ∀ x, pK h x ≠ 0 → ¬ ownB r h a x := fun x hx q => hx (p7 a x q).1
  have hk : ∀ x, pK h x ≠ 0 → x ≠ a → pK r' x = pK r x ∧ pN r' x = pN r x ∧ pI r' x = pI r x ∧ pP r' x = pP r x := fun x hx e => hr x e (by rw [(p2 x hx).1]; exact hx) (hno x hx)
  have hD : pD h ≠ a ∧ ¬ ownB r h a (pD h) := by
    refine ⟨fun e => ?_, fun q => ?_⟩
    · rw [e] at p9
      have := (p2 a (by omega)).1
      omega
    · rcases q with ⟨q1, q2, q3⟩ | ⟨q1, q2⟩
      · obtain ⟨-, -, -, -, l5⟩ := p5 a q1
        rcases l5 with l5 | ⟨l5, b, l6, l7, -⟩
        · omega
        · rw [q3] at l6
          cases l6
          omega
      · omega
  have ho : ∀ x b, x ≠ a → ownB r' h' x b → ownB r h x b := by
    intro x b e q
    unfold ownB at q ⊢
    rw [eK', eC' x e] at q
    rcases q with ⟨q1, q2, q3⟩ | ⟨q1, q2⟩
    · rw [(hk x (by omega) e).2.2.2] at q3
      exact Or.inl ⟨q1, q2, q3⟩
    · rw [(hk x (by omega) e).2.2.2] at q2
      exact Or.inr ⟨q1, q2⟩
  have hoa : ∀ b, ownB r' h' a b → pK r' b ≠ 0 ∧ (ownB r h a b ∨ pK r b = 0) := by
    intro b q
    unfold ownB at q
    rw [eK'] at q
    rcases q with ⟨q1, q2, q3⟩ | ⟨q1, q2⟩
    · refine ⟨?_, hown b q2 q3⟩
      obtain ⟨-, -, -, -, l5⟩ := hLR
      rcases l5 with l5 | ⟨l5, c, l6, l7, -⟩
      · omega
      · rw [q3] at l6
        cases l6
        omega
    · omega
  have hapart : ∀ x b, x ≠ a → ownB r h x b → ¬ ownB r h a b := fun x b e q q' => e (p8 x a b q q')
  refine ⟨hX, fun x hx => ?_, fun x hx => ?_, fun x hx => ?_, fun x hx => ?_, fun x hx => ?_, fun x b q => ?_, fun x x' b q q' => ?_, ?_⟩
  · rw [eK'] at hx ⊢
    by_cases e : x = a
    · subst e; rw [hra]; exact p2 x hx
    · rw [(hk x hx e).1]; exact p2 x hx
  · rw [eK'] at hx
    have e : x ≠ a := fun e => by subst e; omega
    obtain ⟨k1, k2, k3, k4⟩ := hk x (by omega) e
    rw [k2, k3, k4, eN', eI', eP']
    exact p3 x hx
  · rw [eK'] at hx
    have e : x ≠ a := fun e => by subst e; omega
    obtain ⟨k1, k2, k3, k4⟩ := hk x (by omega) e
    rw [k3, k4, eB', eL' x e, eC' x e]
    exact p4 x hx
  · by_cases e : x = a
    · subst e; exact hLR
    · rw [eK'] at hx
      obtain ⟨k1, k2, k3, k4⟩ := hk x (by omega) e
      refine (p5 x hx).kept (by rw [k3]) (by rw [k4]) (eL' x e) (eC' x e) eD' (fun z _ => by rw [eK']) (fun b hb1 hb2 => ?_)
      have q : ownB r h x b := Or.inl ⟨hx, hb1, hb2⟩
      have e' : b ≠ a := fun e2 => by have := (p7 x b q).1; rw [e2] at this; omega
      obtain ⟨m1, m2, m3, m4⟩ := hr b e' (p7 x b q).2 (hapart x b e q)
      exact ⟨m1, m2, m4⟩
  · rw [eK'] at hx
    have e : x ≠ a := fun e => by subst e; omega
    obtain ⟨k1, k2, k3, k4⟩ := hk x (by omega) e
    refine (p6 x hx).kept k3 (by rw [k4]) (by rw [eB']) (eC' x e) (fun b hb2 => ?_)
    have q : ownB r h x b := Or.inr ⟨hx, hb2⟩
    have e' : b ≠ a := fun e2 => by have := (p7 x b q).1; rw [e2] at this; omega
    obtain ⟨m1, m2, m3, m4⟩ := hr b e' (p7 x b q).2 (hapart x b e q)
    exact ⟨m1, m2, m3⟩
  · rw [eK']
    by_cases e : x = a
    · subst e
      obtain ⟨q1, q2⟩ := hoa b q
      refine ⟨?_, q1⟩
      rcases q2 with q2 | q2
      · exact (p7 x b q2).1
      · by_cases e : pK h b = 0
        · exact e
        · rw [(p2 b e).1] at q2
          exact q2
    · have q0 := ho x b e q
      obtain ⟨q1, q2⟩ := p7 x b q0
      have e' : b ≠ a := fun e2 => by rw [e2] at q1; omega
      exact ⟨q1, by rw [(hr b e' q2 (hapart x b e q0)).1]; exact q2⟩
  · by_cases e : x = a
    · by_cases e' : x' = a
      · rw [e, e']
      · subst e
        have q0 := ho x' b e' q'
        rcases (hoa b q).2 with q2 | q2
        · exact p8 x x' b q2 q0
        · exact absurd q2 (p7 x' b q0).2
    · by_cases e' : x' = a
      · subst e'
        have q0 := ho x b e q
        rcases (hoa b q').2 with q2 | q2
        · exact p8 x x' b q0 q2
        · exact absurd q2 (p7 x b q0).2
      · exact p8 x x' b (ho x b e q) (ho x' b e' q')
  · rw [eD']
    obtain ⟨m1, m2, m3, m4⟩ := hr (pD h) hD.1 (by omega) hD.2
    exact ⟨m1.trans p9, m2.trans p10⟩
theorem rep.kind {r h : HP} (hp : rep r h) {a : Nat} (ha : pK h a ≠ 0) : pK r a = pK h a := (hp.2.1 a ha).1
theorem zin_cmp {i : Int} {n : Nat} (h : zin i n) (hn : n < 2147483648) : ¬ zI i < zI 0 ∧ zI i < zI (n : Int) := by
  refine ⟨fun q => ?_, ?_⟩
  · have := Int32.lt_iff_toInt_lt.mp q
    rw [zI_toInt (z := 0) (by decide) (by decide)] at this
    have := h.1
    omega
  · rw [Int32.lt_iff_toInt_lt, zI_toInt (z := (n : Int)) (by omega) (by omega)]
    exact h.2
theorem jp_chk {i : Int} {n : Nat} (h : zin i n) (hn : n < 2147483648) : f_J11_checkIndex i (n : Int) = some i := by
  obtain ⟨h1, h2⟩ := zin_cmp h hn
  simp only [f_J11_checkIndex, f_J12_checkIndex, h1, h2, if_false, if_true, obind_some]
theorem jp_lLen {r h : HP} (hp : rep r h) {a : Nat} {y : Int} (e : lLen h a = some y) : f_J2_size r a = some y := by
  obtain ⟨hl, e⟩ := gd_inv e
  cases e
  obtain ⟨l1, -⟩ := hp.2.2.2.2.1 a hl
  have hk := hp.kind (a := a) (by omega)
  unfold f_J2_size
  rw [gd_of (by rw [hk]; exact Or.inl hl), l1]
/-- the backing array of a list that holds something -/
theorem LR.back {r h : HP} {a : Nat} (hl : LR r h a) (h0 : 0 < (pL h a).length) : ∃ b, pP r a 1 = some b ∧ pK r b = 50 ∧ pN r b = pC h a ∧ (∀ i, i < (pL h a).length → pP r b i = some ((pL h a).getD i 0)) ∧ 10 ≤ pC h a := by
  obtain ⟨l1, l2, l3, l4, l5⟩ := hl
  rcases l5 with l5 | ⟨l5, b, l6, l7, l8, l9⟩
  · omega
  · exact ⟨b, l6, l7, l8, l9, l5⟩
theorem jp_lGet {r h : HP} (hp : rep r h) {a y : Nat} {i : Int} (e : lGet h a i = some y) : f_J2_get r a i = some (some y) := by
  obtain ⟨hl, e⟩ := gd_inv e
  obtain ⟨hi, e⟩ := gd_inv e
  cases e
  have hLR := hp.2.2.2.2.1 a hl
  have hlen : (pL h a).length < 2147483648 := by have := hLR.2.1; have := hLR.2.2.1; omega
  obtain ⟨j, hj1, hj2, hj3⟩ := zin_ex hi hlen
  obtain ⟨b, b1, b2, b3, b4, b5⟩ := hLR.back (by omega)
  have hk := hp.kind (a := a) (by omega)
  have hz : zin i (pN r b) := ⟨hi.1, by rw [b3]; have := hi.2; have := hLR.2.1; omega⟩
  unfold f_J2_get
  rw [gd_of (by rw [hk]; exact Or.inl hl), hLR.1, jp_chk hi hlen, obind_some, gd_of (by rw [hk]; exact hl)]
  unfold f_J2_elementData
  rw [gd_of (by rw [hk]; exact Or.inl hl), b1, obind_some, gd_of b2, gd_of hz, obind_some, hj3, b4 j hj1]
