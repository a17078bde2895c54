/-! the page's sheet: rules -/
set_option maxRecDepth 100000
/-- a rule's cells -/
def RuleR (h : HP) (r : RL) (a : Nat) : Prop := pK h a = 7 ∧ a + 3 ≤ pX h ∧ pP h a 2 = some (a + 1) ∧ pP h a 3 = some (a + 2) ∧ pK h (a + 1) = 43 ∧ pK h (a + 2) = 44 ∧ pN h (a + 1) = 7 ∧ pN h (a + 2) = 7 ∧ pI h a 1 = r.2.1 ∧ (∀ k, k < 7 → pI h (a + 1) k = r.2.2.1 k ∧ pI h (a + 2) k = r.2.2.2 k) ∧ ∃ l, pP h a 0 = some l ∧ PartR h r.1.reverse (some l)
/-- the sheet's cells -/
def ShC (h : HP) (pg : Nat) : Prop := (pP h pg 14 = some (pg + 8) ∧ pK h (pg + 8) = 4 ∧ pP h (pg + 8) 0 = some (pg + 9) ∧ pP h (pg + 8) 1 = some (pg + 10) ∧ pP h (pg + 8) 2 = some (pg + 12) ∧ pP h (pg + 8) 3 = some (pg + 14)) ∧ (pK h (pg + 9) = 27 ∧ pK h (pg + 10) = 31 ∧ pK h (pg + 12) = 32 ∧ pK h (pg + 14) = 33) ∧ (pC h (pg + 9) ≤ 60 ∧ pC h (pg + 10) ≤ 400 ∧ pC h (pg + 12) ≤ 400 ∧ pC h (pg + 14) ≤ 400) ∧ pg + 21 ≤ pX h
/-- addresses of rules, one by one -/
def RulesR (h : HP) (rs : List RL) (as : List Nat) : Prop := as.length = rs.length ∧ ∀ k, k < rs.length → RuleR h (rs.getD k ([], 0, vf0)) (as.getD k 0)
/-- the sheet -/
def ShR (h : HP) (pg : Nat) (s : CX) : Prop := ShC h pg ∧ RulesR h s.1 (pL h (pg + 9)) ∧ s.1.length ≤ 12 ∧ pB h (pg + 10) = s.2.1 ∧ pB h (pg + 12) = s.2.2.1 ∧ pI h (pg + 8) 4 = (if s.2.2.2 then 1 else 0)
/-- agreement but for the sheet's own cells -/
def AgS (pg : Nat) (h h' : HP) : Prop := pX h ≤ pX h' ∧ pO h' = pO h ∧ (∀ b, b < pX h → pK h' b = pK h b) ∧ ∀ b, b < pX h → b ≠ pg + 8 → b ≠ pg + 9 → b ≠ pg + 10 → b ≠ pg + 12 → b ≠ pg + 14 → pN h' b = pN h b ∧ (∀ j, pI h' b j = pI h b j) ∧ (∀ j, pP h' b j = pP h b j) ∧ pL h' b = pL h b ∧ pB h' b = pB h b ∧ pC h' b = pC h b
section PS
variable {h h' h1 : HP} {pg x u a : Nat} {t : List Int} {r : RL} {c : Int}
theorem AgS.refl (pg : Nat) (h : HP) : AgS pg h h := ⟨Nat.le_refl _, rfl, fun _ _ => rfl, fun _ _ _ _ _ _ _ => ⟨rfl, fun _ => rfl, fun _ => rfl, rfl, rfl, rfl⟩⟩
theorem AgS.trans (A : AgS pg h h1) (B : AgS pg h1 h') : AgS pg h h' := by
  obtain ⟨a1, a2, a3, a4⟩ := A
  obtain ⟨b1, b2, b3, b4⟩ := B
  refine ⟨Nat.le_trans a1 b1, b2.trans a2, fun b hb => (b3 b (by omega)).trans (a3 b hb), fun b hb n1 n2 n3 n4 n5 => ?_⟩
  obtain ⟨x1, x2, x3, x4, x5, x6⟩ := a4 b hb n1 n2 n3 n4 n5
  obtain ⟨y1, y2, y3, y4, y5, y6⟩ := b4 b (by omega) n1 n2 n3 n4 n5
  exact ⟨y1.trans x1, fun j => (y2 j).trans (x2 j), fun j => (y3 j).trans (x3 j), y4.trans x4, y5.trans x5, y6.trans x6⟩
theorem Agr.ags (A : Agr h h') : AgS pg h h' := ⟨A.1, A.2.1, fun b hb => (A.2.2 b hb).1, fun b hb _ _ _ _ _ => (A.2.2 b hb).2⟩
theorem AgS.aI (A : AgS pg h h1) {b k : Nat} (v : Int) (hb : b = pg + 8 ∨ pX h ≤ b) : AgS pg h (wI h1 b k v) := by
  refine ⟨A.1, A.2.1, A.2.2.1, fun y hy n1 n2 n3 n4 n5 => ?_⟩
  obtain ⟨x1, x2, x3⟩ := A.2.2.2 y hy n1 n2 n3 n4 n5
  exact ⟨x1, fun j => by rw [pI_wI, if_neg (fun z => by omega)]; exact x2 j, x3⟩
theorem AgS.aL (A : AgS pg h h1) (v : List Nat) : AgS pg h (wL h1 (pg + 9) v) := by
  refine ⟨A.1, A.2.1, A.2.2.1, fun y hy n1 n2 n3 n4 n5 => ?_⟩
  obtain ⟨x1, x2, x3, x4, x5⟩ := A.2.2.2 y hy n1 n2 n3 n4 n5
  exact ⟨x1, x2, x3, by rw [pL_ne _ n2]; exact x4, x5⟩
theorem AgS.aB (A : AgS pg h h1) {b : Nat} (hb : b = pg + 10 ∨ b = pg + 12 ∨ b = pg + 14) (v : List Int) : AgS pg h (wB h1 b v) := by
  refine ⟨A.1, A.2.1, A.2.2.1, fun y hy n1 n2 n3 n4 n5 => ?_⟩
  obtain ⟨x1, x2, x3, x4, x5, x6⟩ := A.2.2.2 y hy n1 n2 n3 n4 n5
  exact ⟨x1, x2, x3, x4, by rw [pB_wB, if_neg (by omega)]; exact x5, x6⟩
theorem AgS.aG (A : AgS pg h h1) {b : Nat} (hb : b = pg + 9 ∨ b = pg + 10 ∨ b = pg + 12 ∨ b = pg + 14) (n : Nat) : AgS pg h (wGr h1 b n) := by
  refine ⟨Nat.le_succ_of_le A.1, A.2.1, A.2.2.1, fun y hy n1 n2 n3 n4 n5 => ?_⟩
  obtain ⟨x1, x2, x3, x4, x5, x6⟩ := A.2.2.2 y hy n1 n2 n3 n4 n5
  exact ⟨x1, x2, x3, x4, x5, by rw [pC_wGr, if_neg (by omega)]; exact x6⟩
theorem PartR.ags (A : AgS pg h h') (hS : ShC h pg) : ∀ (l : List PT) (o : Option Nat), PartR h l o → PartR h' l o
  | [], _, q => q
  | p :: r, o, ⟨a, a1, a2, a3, a4, a5, a6, a7⟩ => by
    obtain ⟨s1, s2, s3, s4⟩ := hS
    have w := A.2.2.2 a a3 (kne h (by omega)) (kne h (by omega)) (kne h (by omega)) (kne h (by omega)) (kne h (by omega))
    refine ⟨a, a1, by rw [A.2.2.1 a a3]; exact a2, Nat.lt_of_lt_of_le a3 A.1, by rw [w.2.1]; exact a4, by rw [w.2.1]; exact a5, by rw [w.2.1]; exact a6, ?_⟩
    rw [w.2.2.1]
    exact PartR.ags A ⟨s1, s2, s3, s4⟩ r _ a7
theorem RuleR.ags (A : AgS pg h h') (hS : ShC h pg) (R : RuleR h r a) : RuleR h' r a := by
  obtain ⟨r1, r2, r3, r4, r5, r6, r7, r8, r9, r10, l, r11, r12⟩ := R
  obtain ⟨s1, s2, s3, s4⟩ := hS
  have w0 := A.2.2.2 a (by omega) (kne h (by omega)) (kne h (by omega)) (kne h (by omega)) (kne h (by omega)) (kne h (by omega))
  have w1 := A.2.2.2 (a + 1) (by omega) (kne h (by omega)) (kne h (by omega)) (kne h (by omega)) (kne h (by omega)) (kne h (by omega))
  have w2 := A.2.2.2 (a + 2) (by omega) (kne h (by omega)) (kne h (by omega)) (kne h (by omega)) (kne h (by omega)) (kne h (by omega))
  refine ⟨by rw [A.2.2.1 a (by omega)]; exact r1, Nat.le_trans r2 A.1, by rw [w0.2.2.1]; exact r3, by rw [w0.2.2.1]; exact r4, by rw [A.2.2.1 _ (by omega)]; exact r5, by rw [A.2.2.1 _ (by omega)]; exact r6, by rw [w1.1]; exact r7, by rw [w2.1]; exact r8, by rw [w0.2.1]; exact r9, fun k hk => ?_, l, by rw [w0.2.2.1]; exact r11, PartR.ags A ⟨s1, s2, s3, s4⟩ _ _ r12⟩
  rw [w1.2.1, w2.2.1]
  exact r10 k hk
theorem RulesR.ags {rs : List RL} {as : List Nat} (A : AgS pg h h') (hS : ShC h pg) (R : RulesR h rs as) : RulesR h' rs as := ⟨R.1, fun k hk => (R.2 k hk).ags A hS⟩
end PS
