/-! the page: what the asking and the laying out may change -/
set_option maxRecDepth 100000
/-- the whole numbers that may change -/
def qP (pg k b j : Nat) : Prop := (k = 2 ∧ (j = 1 ∨ 8 ≤ j)) ∨ (k = 3 ∧ j = 1) ∨ k = 40 ∨ k = 41 ∨ k = 42 ∨ k = 45 ∨ k = 5 ∨ (b = pg ∧ (j = 16 ∨ j = 17))
def AgQ (pg : Nat) (h h' : HP) : Prop := pX h ≤ pX h' ∧ pO h' = pO h ∧ ∀ b, b < pX h → pK h' b = pK h b ∧ pN h' b = pN h b ∧ pB h' b = pB h b ∧ (pK h b ≠ 46 → ∀ j, pP h' b j = pP h b j) ∧ (pK h b ≠ 26 → pL h' b = pL h b ∧ pC h' b = pC h b) ∧ ∀ j, ¬ qP pg (pK h b) b j → pI h' b j = pI h b j
section PQ
variable {h h' h1 : HP} {pg a u : Nat} {φ : Nat → Nat} {T : TS} {rs : List RL}
theorem AgQ.refl (pg : Nat) (h : HP) : AgQ pg h h := ⟨Nat.le_refl _, rfl, fun _ _ => ⟨rfl, rfl, rfl, fun _ _ => rfl, fun _ => ⟨rfl, rfl⟩, fun _ _ => rfl⟩⟩
theorem AgQ.trans (A : AgQ pg h h1) (B : AgQ pg h1 h') : AgQ pg h h' := by
  refine ⟨Nat.le_trans A.1 B.1, B.2.1.trans A.2.1, fun b hb => ?_⟩
  obtain ⟨a1, a2, a3, a4, a5, a6⟩ := A.2.2 b hb
  obtain ⟨b1, b2, b3, b4, b5, b6⟩ := B.2.2 b (Nat.lt_of_lt_of_le hb A.1)
  rw [a1] at b4 b5 b6
  exact ⟨b1.trans a1, b2.trans a2, b3.trans a3, fun hk j => (b4 hk j).trans (a4 hk j), fun hk => ⟨(b5 hk).1.trans (a5 hk).1, (b5 hk).2.trans (a5 hk).2⟩, fun j hj => (b6 j hj).trans (a6 j hj)⟩
theorem AgQ.k (A : AgQ pg h h') {b : Nat} (hb : b < pX h) : pK h' b = pK h b := (A.2.2 b hb).1
theorem AgQ.n (A : AgQ pg h h') {b : Nat} (hb : b < pX h) : pN h' b = pN h b := (A.2.2 b hb).2.1
theorem AgQ.b (A : AgQ pg h h') {b : Nat} (hb : b < pX h) : pB h' b = pB h b := (A.2.2 b hb).2.2.1
theorem AgQ.p (A : AgQ pg h h') {b : Nat} (hb : b < pX h) (hk : pK h b ≠ 46) (j : Nat) : pP h' b j = pP h b j := (A.2.2 b hb).2.2.2.1 hk j
theorem AgQ.l (A : AgQ pg h h') {b : Nat} (hb : b < pX h) (hk : pK h b ≠ 26) : pL h' b = pL h b := ((A.2.2 b hb).2.2.2.2.1 hk).1
theorem AgQ.c (A : AgQ pg h h') {b : Nat} (hb : b < pX h) (hk : pK h b ≠ 26) : pC h' b = pC h b := ((A.2.2 b hb).2.2.2.2.1 hk).2
theorem AgQ.i (A : AgQ pg h h') {b j : Nat} (hb : b < pX h) (hq : ¬ qP pg (pK h b) b j) : pI h' b j = pI h b j := (A.2.2 b hb).2.2.2.2.2 j hq
theorem AgQ.aI (A : AgQ pg h h1) {b j : Nat} (hq : qP pg (pK h b) b j) (v : Int) : AgQ pg h (wI h1 b j v) := by
  refine ⟨A.1, A.2.1, fun c hc => ?_⟩
  obtain ⟨a1, a2, a3, a4, a5, a6⟩ := A.2.2 c hc
  refine ⟨a1, a2, a3, a4, a5, fun k hk => ?_⟩
  rw [pI_wI, if_neg (fun z => hk (by rw [z.1, z.2]; exact hq))]
  exact a6 k hk
theorem AgQ.aP (A : AgQ pg h h1) {b j : Nat} (hq : pK h b = 46) (v : Option Nat) : AgQ pg h (wP h1 b j v) := by
  refine ⟨A.1, A.2.1, fun c hc => ?_⟩
  obtain ⟨a1, a2, a3, a4, a5, a6⟩ := A.2.2 c hc
  refine ⟨a1, a2, a3, fun hk k => ?_, a5, a6⟩
  rw [pP_wP, if_neg (fun z => hk (by rw [z.1]; exact hq))]
  exact a4 hk k
theorem AgQ.aL (A : AgQ pg h h1) {b : Nat} (hq : pK h b = 26) (v : List Nat) : AgQ pg h (wL h1 b v) := by
  refine ⟨A.1, A.2.1, fun c hc => ?_⟩
  obtain ⟨a1, a2, a3, a4, a5, a6⟩ := A.2.2 c hc
  refine ⟨a1, a2, a3, a4, fun hk => ⟨?_, (a5 hk).2⟩, a6⟩
  rw [pL_wL, if_neg (fun z => hk (by rw [z]; exact hq))]
  exact (a5 hk).1
theorem AgQ.aG (A : AgQ pg h h1) {b : Nat} (hq : pK h b = 26) (n : Nat) : AgQ pg h (wGr h1 b n) := by
  refine ⟨Nat.le_succ_of_le A.1, A.2.1, fun c hc => ?_⟩
  obtain ⟨a1, a2, a3, a4, a5, a6⟩ := A.2.2 c hc
  refine ⟨a1, a2, a3, a4, fun hk => ⟨(a5 hk).1, ?_⟩, a6⟩
  rw [pC_wGr, if_neg (fun z => hk (by rw [z]; exact hq))]
  exact (a5 hk).2
theorem AgQ.gr (A : AgQ pg h h1) {b : Nat} (hq : pK h b = 26) (g : Gr h1 b h') : AgQ pg h h' := by
  rcases g with e | ⟨n, _, e⟩ <;> rw [e]
  · exact A
  · exact A.aG hq n
theorem AgI.q {P : Nat → Nat → Prop} (A : AgI h h' P) (hP : ∀ b j, P b j → qP pg (pK h b) b j) : AgQ pg h h' := by
  obtain ⟨a1, a2, a3, a4, a5, a6, a7, a8, a9, a10⟩ := A
  exact ⟨Nat.le_of_eq a7.symm, a9, fun b hb => ⟨by rw [a1], by rw [a2], by rw [a5], fun _ j => by rw [a3], fun _ => ⟨by rw [a4], by rw [a6]⟩, fun j hj => a10 b j (fun z => hj (hP b j z))⟩⟩
theorem AgQ.w (A : AgQ pg h h') (hk : pK h pg = 1) (hp : pg < pX h) : AgW pg h h' := by
  have hpq : ∀ j, j ≠ 16 → j ≠ 17 → ¬ qP pg (pK h pg) pg j := fun j h1 h2 q => by rw [hk] at q; unfold qP at q; omega
  refine ⟨A.1, A.2.1, fun b hb ht => ?_, A.i hp (hpq 3 (by omega) (by omega)), A.i hp (hpq 4 (by omega) (by omega)), A.i hp (hpq 7 (by omega) (by omega))⟩
  have h46 : pK h b ≠ 46 := fun z => by rw [z] at ht; unfold treeK at ht; omega
  have h26 : pK h b ≠ 26 := fun z => by rw [z] at ht; unfold treeK at ht; omega
  have hbp : pK h b = 2 → b ≠ pg := fun z y => by rw [y, hk] at z; omega
  refine ⟨A.k hb, A.n hb, fun j => A.p hb h46 j, A.l hb h26, A.b hb, A.c hb h26, fun h2 => ⟨A.i hb ?_, A.i hb ?_, A.i hb ?_⟩⟩ <;> (have := hbp h2; rw [h2]; unfold qP; omega)
theorem ShC.agq (S : ShC h pg) (A : AgQ pg h h') (hk : pK h pg = 1) : ShC h' pg := by
  obtain ⟨⟨s1, s2, s3, s4, s5, s6⟩, ⟨t1, t2, t3, t4⟩, ⟨u1, u2, u3, u4⟩, v⟩ := S
  refine ⟨⟨?_, ?_, ?_, ?_, ?_, ?_⟩, ⟨?_, ?_, ?_, ?_⟩, ⟨?_, ?_, ?_, ?_⟩, Nat.le_trans v A.1⟩
  · rw [A.p (by omega) (by omega)]; exact s1
  · rw [A.k (by omega)]; exact s2
  · rw [A.p (by omega) (by omega)]; exact s3
  · rw [A.p (by omega) (by omega)]; exact s4
  · rw [A.p (by omega) (by omega)]; exact s5
  · rw [A.p (by omega) (by omega)]; exact s6
  · rw [A.k (by omega)]; exact t1
  · rw [A.k (by omega)]; exact t2
  · rw [A.k (by omega)]; exact t3
  · rw [A.k (by omega)]; exact t4
  · rw [A.c (by omega) (by omega)]; exact u1
  · rw [A.c (by omega) (by omega)]; exact u2
  · rw [A.c (by omega) (by omega)]; exact u3
  · rw [A.c (by omega) (by omega)]; exact u4
theorem PartR.agq (A : AgQ pg h h') (hk : pK h pg = 1) : ∀ (l : List PT) (o : Option Nat), PartR h l o → PartR h' l o
  | [], _, q => q
  | p :: r, o, ⟨a, a1, a2, a3, a4, a5, a6, a7⟩ => by
    have hq : ∀ j, ¬ qP pg (pK h a) a j := fun j q => by
      have : a ≠ pg := fun z => by rw [z, hk] at a2; omega
      rw [a2] at q; unfold qP at q; omega
    refine ⟨a, a1, by rw [A.k a3]; exact a2, Nat.lt_of_lt_of_le a3 A.1, by rw [A.i a3 (hq _)]; exact a4, by rw [A.i a3 (hq _)]; exact a5, by rw [A.i a3 (hq _)]; exact a6, ?_⟩
    rw [A.p a3 (by omega)]
    exact PartR.agq A hk r _ a7
theorem RulesR.agq {L : List Nat} (R : RulesR h rs L) (A : AgQ pg h h') (hk : pK h pg = 1) : RulesR h' rs L := by
  refine ⟨R.1, fun k hkk => ?_⟩
  obtain ⟨r1, r2, r3, r4, r5, r6, r7, r8, r9, r10, l, r11, r12⟩ := R.2 k hkk
  have hq : ∀ b x, pK h b = x → x = 7 ∨ x = 43 ∨ x = 44 → ∀ j, ¬ qP pg (pK h b) b j := fun b x e hx j q => by
    have : b ≠ pg := fun z => by rw [z, hk] at e; omega
    rw [e] at q; unfold qP at q; omega
  refine ⟨by rw [A.k (by omega)]; exact r1, Nat.le_trans r2 A.1, by rw [A.p (by omega) (by omega)]; exact r3, by rw [A.p (by omega) (by omega)]; exact r4, by rw [A.k (by omega)]; exact r5, by rw [A.k (by omega)]; exact r6, by rw [A.n (by omega)]; exact r7, by rw [A.n (by omega)]; exact r8, by rw [A.i (by omega) (hq _ _ r1 (by omega) _)]; exact r9, fun q hq' => ?_, l, by rw [A.p (by omega) (by omega)]; exact r11, PartR.agq A hk _ _ r12⟩
  rw [A.i (by omega) (hq _ _ r5 (by omega) _), A.i (by omega) (hq _ _ r6 (by omega) _)]
  exact r10 q hq'
theorem ShR.agq {s : CX} (S : ShR h pg s) (A : AgQ pg h h') (hk : pK h pg = 1) : ShR h' pg s := by
  obtain ⟨s1, s2, s3, s4, s5, s6⟩ := S
  have hv := s1.2.2.2
  have e9 : pL h' (pg + 9) = pL h (pg + 9) := A.l (by omega) (by rw [s1.2.1.1]; omega)
  refine ⟨s1.agq A hk, by rw [e9]; exact s2.agq A hk, s3, ?_, ?_, ?_⟩
  · rw [A.b (by omega)]; exact s4
  · rw [A.b (by omega)]; exact s5
  · rw [A.i (by omega) (by rw [s1.1.2.1]; unfold qP; omega)]; exact s6
/-- the order's list -/
def OrdC (h : HP) (pg : Nat) : Prop := pP h pg 15 = some (pg + 16) ∧ pK h (pg + 16) = 26 ∧ pC h (pg + 16) ≤ 60 ∧ (pL h (pg + 16)).length ≤ 24
end PQ
