/-! the page's level over the JDK's: lists and texts as a whole, their backing arrays hidden -/
set_option maxRecDepth 100000
def ownB (r h : HP) (a b : Nat) : Prop := (isL (pK h a) ∧ pC h a ≠ 0 ∧ pP r a 1 = some b) ∨ (isS (pK h a) ∧ pP r a 0 = some b)
def LR (r h : HP) (a : Nat) : Prop := pI r a 2 = ((pL h a).length : Int) ∧ (pL h a).length ≤ pC h a ∧ pC h a ≤ 7302250 ∧ (∀ x ∈ pL h a, isO (pK h x)) ∧
  ((pC h a = 0 ∧ pP r a 1 = some (pD h)) ∨ (10 ≤ pC h a ∧ ∃ b, pP r a 1 = some b ∧ pK r b = 50 ∧ pN r b = pC h a ∧ ∀ i, i < (pL h a).length → pP r b i = some ((pL h a).getD i 0)))
def SR (r h : HP) (a : Nat) : Prop := ∃ b, pP r a 0 = some b ∧ pK r b = 51 ∧ pN r b = pC h a ∧ pI r a 1 = 0 ∧ pI r a 3 = ((pB h a).length : Int) ∧ (pB h a).length ≤ pC h a ∧ pC h a ≤ 7302250 ∧
  ∀ i, i < (pB h a).length → (0 ≤ (zI ((pB h a).getD i 0)).toInt ∧ (zI ((pB h a).getD i 0)).toInt < 256) ∧ pI r b i = zi2b ((pB h a).getD i 0)
def rep (r h : HP) : Prop :=
  (pX r = pX h ∧ pS r = pS h ∧ pO r = pO h ∧ pD r = pD h ∧ pM r = pM h) ∧
  (∀ a, pK h a ≠ 0 → pK r a = pK h a ∧ (visP (pK h a) ∨ isL (pK h a) ∨ isS (pK h a) ∨ pK h a = 90 ∨ pK h a = 91)) ∧
  (∀ a, visP (pK h a) → pN r a = pN h a ∧ pI r a = pI h a ∧ pP r a = pP h a) ∧
  (∀ a, pK h a = 90 ∨ pK h a = 91 → (∀ k, pI r a k = 0) ∧ (∀ k, pP r a k = none) ∧ pL h a = [] ∧ pB h a = [] ∧ pC h a = 0) ∧
  (∀ a, isL (pK h a) → LR r h a) ∧ (∀ a, isS (pK h a) → SR r h a) ∧
  (∀ a b, ownB r h a b → pK h b = 0 ∧ pK r b ≠ 0) ∧ (∀ a a' b, ownB r h a b → ownB r h a' b → a = a') ∧ pK r (pD h) = 59 ∧ pN r (pD h) = 0
def RPw (E : PEw) (h : HP) (H : Heap) : Prop := ∃ r, rep r h ∧ RR E r H
abbrev ZP (E : PEw) : State → HP → HP → Heap → List Loc → Prop := ZG (RPw E) E
abbrev PP (E : PEw) : HP → List Value → Array Value → State → Prop := PGw (RPw E) E
abbrev QP (E : PEw) : HP → HP → Option Value → Array Value → State → Outcome → State → Prop := QG (RPw E) E
abbrev KP (E : PEw) : List Frame → Array Value → State → (State → Prop) → HP → HP → Option Value → Prop := KG (RPw E) E
/-- what lists and texts say of two pictures that differ elsewhere -/
theorem LR.kept {r r' h h' : HP} {a : Nat} (hl : LR r h a) (e1 : pI r' a 2 = pI r a 2) (e2 : pP r' a 1 = pP r a 1) (e3 : pL h' a = pL h a) (e4 : pC h' a = pC h a) (e5 : pD h' = pD h) (e6 : ∀ x, isO (pK h x) → pK h' x = pK h x) (e7 : ∀ b, pC h a ≠ 0 → pP r a 1 = some b → pK r' b = pK r b ∧ pN r' b = pN r b ∧ pP r' b = pP r b) : LR r' h' a := by
  obtain ⟨l1, l2, l3, l4, l5⟩ := hl
  refine ⟨by rw [e1, e3]; exact l1, by rw [e3, e4]; exact l2, by rw [e4]; exact l3, fun x hx => ?_, ?_⟩
  · rw [e3] at hx
    rw [e6 x (l4 x hx)]
    exact l4 x hx
  · rw [e2, e3, e4, e5]
    rcases l5 with l5 | ⟨l5, b, l6, l7, l8, l9⟩
    · exact Or.inl l5
    · obtain ⟨f1, f2, f3⟩ := e7 b (by omega) l6
      exact Or.inr ⟨l5, b, l6, by rw [f1]; exact l7, by rw [f2]; exact l8, by rw [f3]; exact l9⟩
theorem SR.kept {r r' h h' : HP} {a : Nat} (hl : SR r h a) (e1 : pI r' a = pI r a) (e2 : pP r' a 0 = pP r a 0) (e3 : pB h' a = pB h a) (e4 : pC h' a = pC h a) (e7 : ∀ b, pP r a 0 = some b → pK r' b = pK r b ∧ pN r' b = pN r b ∧ pI r' b = pI r b) : SR r' h' a := by
  obtain ⟨b, l1, l2, l3, l4, l5, l6, l7, l8⟩ := hl
  obtain ⟨f1, f2, f3⟩ := e7 b l1
  exact ⟨b, by rw [e2]; exact l1, by rw [f1]; exact l2, by rw [f2, e4]; exact l3, by rw [e1]; exact l4, by rw [e1, e3]; exact l5, by rw [e3, e4]; exact l6, by rw [e4]; exact l7, by rw [e3, f3]; exact l8⟩
theorem gP {E : PEw} : GoodR (RPw E) E visP newP := by
  refine ⟨fun h H a hr hv => ?_, fun h h' H H' a hr hv hu hO hc e2 e3 => ?_, fun h H hr => ?_, fun h H H' k n hr hk hg hc e2 e3 => ?_, fun h H a hr ha => ?_, fun h H a j x hr ha => ?_⟩
  · obtain ⟨r, hp, hrr⟩ := hr
    have e1 := (hp.2.1 a (by omega)).1
    obtain ⟨f1, f2, f3⟩ := hp.2.2.1 a hv
    obtain ⟨c1, c2, c3⟩ := hrr.1 a (by omega) (by omega)
    exact ⟨c1.kept e1.symm f1.symm f2.symm f3.symm rfl, c2, c3⟩
  · obtain ⟨r, hp, hrr⟩ := hr
    have hX := hu.X
    have hva : pK r a = pK h a := (hp.2.1 a (by omega)).1
    refine ⟨(r.1, r.2.1, va_up r.2.2.1 a (pI h' a), va_up r.2.2.2.1 a (pP h' a), r.2.2.2.2), ?_, ?_⟩
    · generalize hr' : ((r.1, r.2.1, va_up r.2.2.1 a (pI h' a), va_up r.2.2.2.1 a (pP h' a), r.2.2.2.2) : HP) = r'
      have k1 : pK r' = pK r := by rw [← hr']; rfl
      have k2 : pN r' = pN r := by rw [← hr']; rfl
      have k3 : pI r' a = pI h' a := by rw [← hr']; simp [pI, va_up]
      have k4 : pP r' a = pP h' a := by rw [← hr']; simp [pP, va_up]
      have k5 : ∀ b, b ≠ a → pI r' b = pI r b := fun b hb => by rw [← hr']; simp [pI, va_up, hb]
      have k6 : ∀ b, b ≠ a → pP r' b = pP r b := fun b hb => by rw [← hr']; simp [pP, va_up, hb]
      have k7 : pX r' = pX r ∧ pS r' = pS r ∧ pO r' = pO r ∧ pD r' = pD r ∧ pM r' = pM r := by rw [← hr']; exact ⟨rfl, rfl, rfl, rfl, rfl⟩
      obtain ⟨p1, p2, p3, p4, p5, p6, p7, p8, p9⟩ := hp
      have ho : ∀ x b, ownB r' h' x b → ownB r h x b := by
        intro x b q
        unfold ownB at q ⊢
        rw [hu.1, hX.2.2.2.2.2.2.2] at q
        rcases q with q | q
        · rw [k6 x (fun e => by subst e; omega)] at q
          exact Or.inl q
        · rw [k6 x (fun e => by subst e; omega)] at q
          exact Or.inr q
      refine ⟨?_, fun b hb => ?_, fun b hb => ?_, fun b hb => ?_, fun b hb => ?_, fun b hb => ?_, fun x b q => ?_, fun x x' b q q' => ?_, ?_⟩
      · rw [k7.1, k7.2.1, k7.2.2.1, k7.2.2.2.1, k7.2.2.2.2, hX.1, hX.2.1, hX.2.2.1, hX.2.2.2.1, hX.2.2.2.2.1]
        exact p1
      · rw [hu.1] at hb ⊢
        rw [k1]
        exact p2 b hb
      · rw [hu.1] at hb
        rw [k2, hu.2.1]
        obtain ⟨f1, f2, f3⟩ := p3 b hb
        by_cases e : b = a
        · subst e; exact ⟨f1, k3, k4⟩
        · rw [k5 b e, k6 b e, hu.2.2.1 b e, hu.2.2.2.1 b e]
          exact ⟨f1, f2, f3⟩
      · rw [hu.1] at hb
        have e : b ≠ a := fun e => by subst e; omega
        rw [k5 b e, k6 b e, hX.2.2.2.2.2.1, hX.2.2.2.2.2.2.1, hX.2.2.2.2.2.2.2]
        exact p4 b hb
      · rw [hu.1] at hb
        have e : b ≠ a := fun e => by subst e; omega
        refine (p5 b hb).kept (by rw [k5 b e]) (by rw [k6 b e]) (by rw [hX.2.2.2.2.2.1]) (by rw [hX.2.2.2.2.2.2.2]) hX.2.2.2.1 (fun x _ => by rw [hu.1]) (fun q hq hb2 => ?_)
        have h0 := (p7 b q (Or.inl ⟨hb, hq, hb2⟩)).1
        have e' : q ≠ a := fun e => by subst e; omega
        rw [k1, k2, k6 q e']
        exact ⟨rfl, rfl, rfl⟩
      · rw [hu.1] at hb
        have e : b ≠ a := fun e => by subst e; omega
        refine (p6 b hb).kept (k5 b e) (by rw [k6 b e]) (by rw [hX.2.2.2.2.2.2.1]) (by rw [hX.2.2.2.2.2.2.2]) (fun q hb2 => ?_)
        have h0 := (p7 b q (Or.inr ⟨hb, hb2⟩)).1
        have e' : q ≠ a := fun e => by subst e; omega
        rw [k1, k2, k5 q e']
        exact ⟨rfl, rfl, rfl⟩
      · rw [hu.1, k1]
        exact p7 x b (ho x b q)
      · exact p8 x x' b (ho x b q) (ho x' b q')
      · rw [k1, k2, hX.2.2.2.1]
        exact p9
    · refine gR.2.1 r _ H H' a hrr (by rw [hva]; omega) ⟨rfl, rfl, fun b hb => by simp [pI, va_up, hb], fun b hb => by simp [pP, va_up, hb], rfl⟩ (fun q => by exfalso; omega) ?_ e2 e3
      refine hc.kept ?_ ?_ ?_ ?_ rfl
      · rw [hu.1]; exact hva
      · rw [hu.2.1]; exact (hp.2.2.1 a hv).1
      · simp [pI, va_up]
      · simp [pP, va_up]
  · obtain ⟨r, hp, hrr⟩ := hr
    obtain ⟨x1, x2, x3, x4, x5⟩ := hp.1
    rw [← x1, ← x2, ← x3, ← x4, ← x5]
    exact hrr.2.1
  · obtain ⟨r, hp, hrr⟩ := hr
    have hlt : ∀ x, pK r x ≠ 0 → x ≠ pX r := fun x hx e => by
      have h1 := hrr.lt hx
      rw [e, hrr.2.1.1] at h1
      omega
    obtain ⟨p1, p2, p3, p4, p5, p6, p7, p8, p9⟩ := hp
    have hX : pX r = pX h := p1.1
    have hlh : ∀ x, pK h x ≠ 0 → x ≠ pX h := fun x hx => by rw [← hX]; exact hlt x (by rw [(p2 x hx).1]; exact hx)
    obtain ⟨w1, w2, w3, w4⟩ := wNew_at (h := h) (kd := k) (n := n)
    obtain ⟨v1, v2, v3, v4⟩ := wNew_at (h := r) (kd := k) (n := n)
    rw [hX] at v1 v2 v3 v4
    have wl : pL (wNew h k n) (pX h) = [] ∧ pB (wNew h k n) (pX h) = [] ∧ pC (wNew h k n) (pX h) = 0 := by simp [pL, pB, pC, wNew, va_up]
    have wn : ∀ b, b ≠ pX h → pL (wNew h k n) b = pL h b ∧ pB (wNew h k n) b = pB h b ∧ pC (wNew h k n) b = pC h b := fun b hb => by simp [pL, pB, pC, wNew, va_up, hb]
    have vn : ∀ b, b ≠ pX h → pK (wNew r k n) b = pK r b ∧ pN (wNew r k n) b = pN r b ∧ pI (wNew r k n) b = pI r b ∧ pP (wNew r k n) b = pP r b := fun b hb => wNew_ne (by rw [hX]; exact hb)
    have hkn : k ≠ 0 := by rcases hk with q | q | q <;> omega
    have ho : ∀ x b, ownB (wNew r k n) (wNew h k n) x b → x ≠ pX h ∧ ownB r h x b := by
      intro x b q
      by_cases e : x = pX h
      · subst e
        unfold ownB at q
        rw [w1] at q
        exfalso
        rcases hk with z | z | z <;> omega
      · refine ⟨e, ?_⟩
        unfold ownB at q ⊢
        rw [(wNew_ne (h := h) (k := k) (n := n) e).1, (wn x e).2.2, (vn x e).2.2.2] at q
        exact q
    refine ⟨wNew r k n, ⟨?_, fun b hb => ?_, fun b hb => ?_, fun b hb => ?_, fun b hb => ?_, fun b hb => ?_, fun x b q => ?_, fun x x' b q q' => ?_, ?_⟩, ?_⟩
    · show pX r + 1 = pX h + 1 ∧ pS r + n = pS h + n ∧ pO r = pO h ∧ pD r = pD h ∧ pM r = pM h
      rw [p1.1, p1.2.1]
      exact ⟨rfl, rfl, p1.2.2⟩
    · by_cases e : b = pX h
      · subst e
        rw [w1, v1]
        refine ⟨rfl, ?_⟩
        rcases hk with z | z | z
        · exact Or.inl z
        · exact Or.inr (Or.inr (Or.inr (Or.inl z)))
        · exact Or.inr (Or.inr (Or.inr (Or.inr z)))
      · rw [(wNew_ne (h := h) (k := k) (n := n) e).1] at hb ⊢
        rw [(vn b e).1]
        exact p2 b hb
    · by_cases e : b = pX h
      · subst e
        rw [w2, w3, w4, v2, v3, v4]
        exact ⟨rfl, rfl, rfl⟩
      · obtain ⟨n1, n2, n3, n4⟩ := wNew_ne (h := h) (k := k) (n := n) e
        obtain ⟨m1, m2, m3, m4⟩ := vn b e
        rw [n1] at hb
        rw [n2, n3, n4, m2, m3, m4]
        exact p3 b hb
    · by_cases e : b = pX h
      · subst e
        rw [v3, v4]
        exact ⟨fun _ => rfl, fun _ => rfl, wl⟩
      · rw [(wNew_ne (h := h) (k := k) (n := n) e).1] at hb
        rw [(vn b e).2.2.1, (vn b e).2.2.2, (wn b e).1, (wn b e).2.1, (wn b e).2.2]
        exact p4 b hb
    · by_cases e : b = pX h
      · subst e
        rw [w1] at hb
        exfalso
        rcases hk with z | z | z <;> omega
      · rw [(wNew_ne (h := h) (k := k) (n := n) e).1] at hb
        refine (p5 b hb).kept (by rw [(vn b e).2.2.1]) (by rw [(vn b e).2.2.2]) (wn b e).1 (wn b e).2.2 rfl (fun x hx => (wNew_ne (h := h) (k := k) (n := n) (hlh x (by omega))).1) (fun q hq hb2 => ?_)
        have h0 := (p7 b q (Or.inl ⟨hb, hq, hb2⟩)).2
        have e' : q ≠ pX h := by rw [← hX]; exact hlt q h0
        exact ⟨(vn q e').1, (vn q e').2.1, (vn q e').2.2.2⟩
    · by_cases e : b = pX h
      · subst e
        rw [w1] at hb
        exfalso
        rcases hk with z | z | z <;> omega
      · rw [(wNew_ne (h := h) (k := k) (n := n) e).1] at hb
        refine (p6 b hb).kept (vn b e).2.2.1 (by rw [(vn b e).2.2.2]) (wn b e).2.1 (wn b e).2.2 (fun q hb2 => ?_)
        have h0 := (p7 b q (Or.inr ⟨hb, hb2⟩)).2
        have e' : q ≠ pX h := by rw [← hX]; exact hlt q h0
        exact ⟨(vn q e').1, (vn q e').2.1, (vn q e').2.2.1⟩
    · obtain ⟨e, q⟩ := ho x b q
      obtain ⟨q1, q2⟩ := p7 x b q
      have e' : b ≠ pX h := by rw [← hX]; exact hlt b q2
      rw [(wNew_ne (h := h) (k := k) (n := n) e').1, (vn b e').1]
      exact ⟨q1, q2⟩
    · exact p8 x x' b (ho x b q).2 (ho x' b q').2
    · have e' : pD h ≠ pX h := by rw [← hX]; exact hlt _ (by omega)
      exact ⟨(vn _ e').1.trans p9.1, (vn _ e').2.1.trans p9.2⟩
    · refine gR.2.2.2.1 r H H' k n hrr (by rcases hk with z | z | z <;> omega) (by unfold rm1 at hg ⊢; rw [p1.1, p1.2.1, p1.2.2.1]; exact hg) ?_ e2 e3
      rw [hX]
      exact hc.kept (by rw [w1, v1]) (by rw [w2, v2]) (by rw [w3, v3]) (by rw [w4, v4]) rfl
  · obtain ⟨r, hp, hrr⟩ := hr
    rcases (hp.2.1 a (by omega)).2 with q | q | q | q | q <;> omega
  · obtain ⟨r, hp, hrr⟩ := hr
    rcases (hp.2.1 a (by omega)).2 with q | q | q | q | q <;> omega
