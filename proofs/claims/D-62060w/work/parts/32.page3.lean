/-! the page's tree: what stays, room, and the writes one by one -/
set_option maxRecDepth 100000
def treeK (k : Nat) : Prop := k = 1 ∨ k = 2 ∨ k = 3 ∨ (20 ≤ k ∧ k < 26) ∨ k = 30 ∨ k = 41
/-- what the tree's doings leave as it is -/
def FP (pg : Nat) (h h' : HP) : Prop :=
  pX h ≤ pX h' ∧ pO h' = pO h ∧ (∀ a, a < pX h → pK h' a = pK h a) ∧
  (∀ a, a < pX h → ¬ treeK (pK h a) → pN h' a = pN h a ∧ (∀ k, pI h' a k = pI h a k) ∧ (∀ k, pP h' a k = pP h a k) ∧ pL h' a = pL h a ∧ pB h' a = pB h a ∧ pC h' a = pC h a) ∧
  (∀ k, k ≠ 3 → k ≠ 4 → k ≠ 7 → k ≠ 13 → pI h' pg k = pI h pg k) ∧ (∀ k, k ≠ 12 → pP h' pg k = pP h pg k) ∧
  (∀ a l, a < pX h → pK h a = 2 → pP h a 5 = some l → pP h' a 5 = some l)
/-- room: units of one cell and 100 slots -/
def RU (h : HP) (u : Nat) : Prop := pX h + u ≤ pO h + 600000 ∧ pS h + 100 * u ≤ 7302250
/-- nothing below the next address has changed -/
def Agr (h h' : HP) : Prop := pX h ≤ pX h' ∧ pO h' = pO h ∧ ∀ b, b < pX h → pK h' b = pK h b ∧ pN h' b = pN h b ∧ (∀ j, pI h' b j = pI h b j) ∧ (∀ j, pP h' b j = pP h b j) ∧ pL h' b = pL h b ∧ pB h' b = pB h b ∧ pC h' b = pC h b
/-- the pools and their counts stay -/
def cntS (pg : Nat) (h h' : HP) : Prop := pI h' pg 3 = pI h pg 3 ∧ pI h' pg 4 = pI h pg 4 ∧ pL h' (pg + 4) = pL h (pg + 4) ∧ pL h' (pg + 5) = pL h (pg + 5)
/-- a backing array may have been made for a list -/
def Gr (h : HP) (a : Nat) (h1 : HP) : Prop := h1 = h ∨ ∃ n, n ≤ 60 ∧ h1 = wGr h a n
/-- the body without the lists -/
def RepC (h : HP) (pg : Nat) (φ : Nat → Nat) (T : TS) : Prop :=
  SHp h pg ∧ φ 0 = pg + 1 ∧
  ((∀ i, i < tN T → i ≠ 0 → tM T i ≠ 1 → φ i ∈ pL h (pg + 5)) ∧ (∀ i, i < tN T → tM T i = 1 → φ i ∈ pL h (pg + 4)) ∧ ∀ i j, i < tN T → j < tN T → φ i = φ j → i = j) ∧
  (∀ i, i < tN T → tM T i ≠ 1 → pI h (φ i) 2 = tM T i ∧ pI h (φ i) 3 = tC T i ∧ pI h (φ i) 6 = (if i ∈ tS T then 1 else 0) ∧ pL h (φ i + 1) = (kids T i).map φ) ∧
  (∀ i, i < tN T → tM T i = 1 → pB h (φ i + 1) = tX T i) ∧
  (∀ i, i < tN T → pP h (φ i) 0 = if i = 0 then none else some (φ (tP T i))) ∧
  pL h (pg + 6) = (tS T).map φ ∧
  pI h pg 7 = 0
def LsC (h : HP) (φ : Nat → Nat) (T : TS) : Prop := ∀ i ∈ tS T, tM T i = 99 ∨ i = 0 → ∃ l, pP h (φ i) 5 = some l ∧ pL h l = (tL T i).map φ ∧ pC h l ≤ 60
theorem kne {a b : Nat} (h : HP) (q : pK h a ≠ pK h b) : a ≠ b := fun e => q (by rw [e])
theorem wK_wNew (h : HP) (k k' n : Nat) : wK (wNew h k n) (pX h) k' = wNew h k' n := by
  unfold wK wNew
  simp only [va_up2]
section PB
variable {h h' h1 : HP} {pg u : Nat} {φ : Nat → Nat} {T : TS}
theorem RepB.c (H : RepB h pg φ T) : RepC h pg φ T := ⟨H.1, H.2.1, H.2.2.1, H.2.2.2.1, H.2.2.2.2.1, H.2.2.2.2.2.1, H.2.2.2.2.2.2.1, H.2.2.2.2.2.2.2.2⟩
theorem RepB.l (H : RepB h pg φ T) : LsC h φ T := H.2.2.2.2.2.2.2.1
theorem RepC.b (H : RepC h pg φ T) (L : LsC h φ T) : RepB h pg φ T := ⟨H.1, H.2.1, H.2.2.1, H.2.2.2.1, H.2.2.2.2.1, H.2.2.2.2.2.1, H.2.2.2.2.2.2.1, L, H.2.2.2.2.2.2.2⟩
theorem RepC.elc (H : RepC h pg φ T) {i : Nat} (hi : i < tN T) (hm : tM T i ≠ 1) : ELc h (φ i) := by
  by_cases e : i = 0
  · rw [e, H.2.1]; exact H.1.2.2.2.1.1
  · exact H.1.2.2.2.1.2.1 _ (H.2.2.1.1 i hi e hm)
theorem RepC.txc (H : RepC h pg φ T) {i : Nat} (hi : i < tN T) (hm : tM T i = 1) : TXc h (φ i) := H.1.2.2.2.1.2.2.1 _ (H.2.2.1.2.1 i hi hm)
theorem RepC.kd (H : RepC h pg φ T) {i : Nat} (hi : i < tN T) : (pK h (φ i) = 2 ∨ pK h (φ i) = 3) ∧ φ i + 2 ≤ pX h := by
  by_cases e : tM T i = 1
  · have := H.txc hi e; exact ⟨Or.inr this.1, this.2.2.2.2.1⟩
  · have := H.elc hi e; exact ⟨Or.inl this.1, by have := this.2.2.2.2.2.2.2.1; omega⟩
theorem SHp.lt (H : SHp h pg) : pg + 21 ≤ pX h := H.2.1.2.2.2.2
theorem RU.mono {v : Nat} (H : RU h u) (q : v ≤ u) : RU h v := ⟨by have := H.1; omega, by have := H.2; omega⟩
/-! frames -/
theorem FP.refl (pg : Nat) (h : HP) : FP pg h h := ⟨Nat.le_refl _, rfl, fun _ _ => rfl, fun _ _ _ => ⟨rfl, fun _ => rfl, fun _ => rfl, rfl, rfl, rfl⟩, fun _ _ _ _ _ => rfl, fun _ _ => rfl, fun _ _ _ _ q => q⟩
theorem FP.trans (A : FP pg h h1) (B : FP pg h1 h') : FP pg h h' := by
  obtain ⟨a1, a2, a3, a4, a5, a6, a7⟩ := A
  obtain ⟨b1, b2, b3, b4, b5, b6, b7⟩ := B
  refine ⟨Nat.le_trans a1 b1, b2.trans a2, fun a ha => (b3 a (by omega)).trans (a3 a ha), fun a ha hk => ?_, fun k k1 k2 k3 k4 => (b5 k k1 k2 k3 k4).trans (a5 k k1 k2 k3 k4), fun k hk => (b6 k hk).trans (a6 k hk), fun a l ha hk q => b7 a l (by omega) (by rw [a3 a ha]; exact hk) (a7 a l ha hk q)⟩
  obtain ⟨x1, x2, x3, x4, x5, x6⟩ := a4 a ha hk
  obtain ⟨y1, y2, y3, y4, y5, y6⟩ := b4 a (by omega) (by rw [a3 a ha]; exact hk)
  exact ⟨y1.trans x1, fun k => (y2 k).trans (x2 k), fun k => (y3 k).trans (x3 k), y4.trans x4, y5.trans x5, y6.trans x6⟩
theorem FP.aI {a k : Nat} (hk : treeK (pK h a)) (hp : a = pg → k = 3 ∨ k = 4 ∨ k = 7 ∨ k = 13) (v : Int) : FP pg h (wI h a k v) := by
  refine ⟨Nat.le_refl _, rfl, fun _ _ => rfl, fun b _ q => ⟨rfl, fun j => ?_, fun _ => rfl, rfl, rfl, rfl⟩, fun j j1 j2 j3 j4 => ?_, fun _ _ => rfl, fun _ _ _ _ q => q⟩
  · rw [pI_wI, if_neg (fun z => q (by rw [z.1]; exact hk))]
  · rw [pI_wI, if_neg (fun z => by have := hp z.1.symm; omega)]
theorem FP.aL {a : Nat} (hk : treeK (pK h a)) (v : List Nat) : FP pg h (wL h a v) := by
  refine ⟨Nat.le_refl _, rfl, fun _ _ => rfl, fun b _ q => ⟨rfl, fun _ => rfl, fun _ => rfl, ?_, rfl, rfl⟩, fun _ _ _ _ _ => rfl, fun _ _ => rfl, fun _ _ _ _ q => q⟩
  rw [pL_wL, if_neg (fun z => q (by rw [z]; exact hk))]
theorem FP.aB {a : Nat} (hk : treeK (pK h a)) (v : List Int) : FP pg h (wB h a v) := by
  refine ⟨Nat.le_refl _, rfl, fun _ _ => rfl, fun b _ q => ⟨rfl, fun _ => rfl, fun _ => rfl, rfl, ?_, rfl⟩, fun _ _ _ _ _ => rfl, fun _ _ => rfl, fun _ _ _ _ q => q⟩
  rw [pB_wB, if_neg (fun z => q (by rw [z]; exact hk))]
theorem FP.aP {a k : Nat} (hk : treeK (pK h a)) (hp : a = pg → k = 12) (h5 : k = 5 → pP h a 5 = none) (v : Option Nat) : FP pg h (wP h a k v) := by
  refine ⟨Nat.le_refl _, rfl, fun _ _ => rfl, fun b _ q => ⟨rfl, fun _ => rfl, fun j => ?_, rfl, rfl, rfl⟩, fun _ _ _ _ _ => rfl, fun j hj => ?_, fun b l _ _ q => ?_⟩
  · rw [pP_wP, if_neg (fun z => q (by rw [z.1]; exact hk))]
  · rw [pP_wP, if_neg (fun z => by have := hp z.1.symm; omega)]
  · rw [pP_wP]
    by_cases e : b = a ∧ 5 = k
    · rw [e.1, h5 e.2.symm] at q; cases q
    · rw [if_neg e]; exact q
theorem FP.aG {a : Nat} (hk : treeK (pK h a)) (n : Nat) : FP pg h (wGr h a n) := by
  refine ⟨Nat.le_succ _, rfl, fun _ _ => rfl, fun b _ q => ⟨rfl, fun _ => rfl, fun _ => rfl, rfl, rfl, ?_⟩, fun _ _ _ _ _ => rfl, fun _ _ => rfl, fun _ _ _ _ q => q⟩
  rw [pC_wGr, if_neg (fun z => q (by rw [z]; exact hk))]
theorem FP.agr (A : Agr h h') (hp : pg < pX h) : FP pg h h' := by
  obtain ⟨a1, a2, a3⟩ := A
  refine ⟨a1, a2, fun a ha => (a3 a ha).1, fun a ha _ => ⟨(a3 a ha).2.1, (a3 a ha).2.2.1, (a3 a ha).2.2.2.1, (a3 a ha).2.2.2.2.1, (a3 a ha).2.2.2.2.2.1, (a3 a ha).2.2.2.2.2.2⟩, fun k _ _ _ _ => (a3 pg hp).2.2.1 k, fun k _ => (a3 pg hp).2.2.2.1 k, fun a l ha _ q => by rw [(a3 a ha).2.2.2.1]; exact q⟩
theorem FP.gr {a : Nat} (g : Gr h a h1) (hk : treeK (pK h a)) : FP pg h h1 := by
  rcases g with e | ⟨n, _, e⟩
  · rw [e]; exact FP.refl _ _
  · rw [e]; exact FP.aG hk n
theorem FP.xI (A : FP pg h h1) {a k : Nat} {v : Int} (hk : treeK (pK h1 a)) (hp : a = pg → k = 3 ∨ k = 4 ∨ k = 7 ∨ k = 13) : FP pg h (wI h1 a k v) := A.trans (FP.aI hk hp v)
theorem FP.xL (A : FP pg h h1) {a : Nat} {v : List Nat} (hk : treeK (pK h1 a)) : FP pg h (wL h1 a v) := A.trans (FP.aL hk v)
theorem FP.xB (A : FP pg h h1) {a : Nat} {v : List Int} (hk : treeK (pK h1 a)) : FP pg h (wB h1 a v) := A.trans (FP.aB hk v)
theorem FP.xP (A : FP pg h h1) {a k : Nat} {v : Option Nat} (hk : treeK (pK h1 a)) (hp : a = pg → k = 12) (h5 : k = 5 → pP h1 a 5 = none) : FP pg h (wP h1 a k v) := A.trans (FP.aP hk hp h5 v)
theorem tk2 {a k : Nat} (q : pK h a = k) (z : treeK k) : treeK (pK h a) := by rw [q]; exact z
/-! nothing below has changed -/
theorem Agr.refl (h : HP) : Agr h h := ⟨Nat.le_refl _, rfl, fun _ _ => ⟨rfl, rfl, fun _ => rfl, fun _ => rfl, rfl, rfl, rfl⟩⟩
theorem Agr.new (A : Agr h h1) (k n : Nat) : Agr h (wNew h1 k n) := by
  obtain ⟨a1, a2, a3⟩ := A
  refine ⟨Nat.le_succ_of_le a1, a2, fun b hb => ?_⟩
  obtain ⟨x1, x2, x3, x4, x5, x6, x7⟩ := a3 b hb
  obtain ⟨y1, y2, y3, y4, y5, y6, y7⟩ := nw (h := h1) (k := k) (n := n) (b := b) (by omega)
  exact ⟨y1.trans x1, y2.trans x2, fun j => (y3 j).trans (x3 j), fun j => (y4 j).trans (x4 j), y5.trans x5, y6.trans x6, y7.trans x7⟩
theorem Agr.wp (A : Agr h h1) {a : Nat} (ha : pX h ≤ a) (k : Nat) (v : Option Nat) : Agr h (wP h1 a k v) := by
  obtain ⟨a1, a2, a3⟩ := A
  refine ⟨a1, a2, fun b hb => ?_⟩
  obtain ⟨x1, x2, x3, x4, x5⟩ := a3 b hb
  exact ⟨x1, x2, x3, fun j => by rw [pP_ne v (Or.inl (by omega))]; exact x4 j, x5⟩
theorem Agr.wi (A : Agr h h1) {a : Nat} (ha : pX h ≤ a) (k : Nat) (v : Int) : Agr h (wI h1 a k v) := by
  obtain ⟨a1, a2, a3⟩ := A
  refine ⟨a1, a2, fun b hb => ?_⟩
  obtain ⟨x1, x2, x3, x4, x5⟩ := a3 b hb
  exact ⟨x1, x2, fun j => by rw [pI_wI, if_neg (fun z => by omega)]; exact x3 j, x4, x5⟩
theorem Agr.wg (A : Agr h h1) {a : Nat} (ha : pX h ≤ a) (n : Nat) : Agr h (wGr h1 a n) := by
  obtain ⟨a1, a2, a3⟩ := A
  refine ⟨Nat.le_succ_of_le a1, a2, fun b hb => ?_⟩
  obtain ⟨x1, x2, x3, x4, x5, x6, x7⟩ := a3 b hb
  exact ⟨x1, x2, x3, x4, x5, x6, by rw [pC_wGr, if_neg (by omega)]; exact x7⟩
theorem ELc.agr (A : Agr h h') {x : Nat} (hx : ELc h x) : ELc h' x := by
  obtain ⟨x1, x2, x3, x4, x5, x6, x7, x8, x9⟩ := hx
  have w0 := A.2.2 x (by omega)
  have w1 := A.2.2 (x + 1) (by omega)
  have w2 := A.2.2 (x + 2) (by omega)
  refine ⟨by rw [w0.1]; exact x1, by rw [w0.2.2.2.1]; exact x2, by rw [w1.1]; exact x3, by rw [w0.2.2.2.1]; exact x4, by rw [w2.1]; exact x5, by rw [w2.2.1]; exact x6, fun l hl => ?_, Nat.le_trans x8 A.1, by rw [w1.2.2.2.2.2.2]; exact x9⟩
  rw [w0.2.2.2.1] at hl
  obtain ⟨l1, l2, l3⟩ := x7 l hl
  exact ⟨by rw [(A.2.2 l l2).1]; exact l1, Nat.lt_of_lt_of_le l2 A.1, by rw [(A.2.2 l l2).2.2.2.2.2.2]; exact l3⟩
theorem TXc.agr (A : Agr h h') {x : Nat} (hx : TXc h x) : TXc h' x := by
  obtain ⟨x1, x2, x3, ⟨q, q1, q2, q3, q4, q5, q6⟩, x5, x6⟩ := hx
  have w0 := A.2.2 x (by omega)
  have w1 := A.2.2 (x + 1) (by omega)
  have wq := A.2.2 q q3
  exact ⟨by rw [w0.1]; exact x1, by rw [w0.2.2.2.1]; exact x2, by rw [w1.1]; exact x3, ⟨q, by rw [w0.2.2.2.1]; exact q1, by rw [wq.1]; exact q2, Nat.lt_of_lt_of_le q3 A.1, by rw [wq.2.1]; exact q4, by rw [wq.2.1]; exact q5, by rw [wq.2.1, w1.2.2.2.2.2.1]; exact q6⟩, Nat.le_trans x5 A.1, by rw [w1.2.2.2.2.2.2]; exact x6⟩
theorem SHp.agr (H : SHp h pg) (A : Agr h h') : SHp h' pg := by
  obtain ⟨⟨a1, a2, a3, a4, a5, a6⟩, ⟨b1, b2, b3, b4, b5⟩, ⟨c1, c2, c3, c4⟩, ⟨d1, d2, d3, d4⟩, f, g⟩ := H
  have v0 := A.2.2 pg (by omega)
  have v4 := A.2.2 (pg + 4) (by omega)
  have v5 := A.2.2 (pg + 5) (by omega)
  have v6 := A.2.2 (pg + 6) (by omega)
  have v7 := A.2.2 (pg + 7) (by omega)
  have hlt : ∀ x ∈ (pg + 1) :: pL h (pg + 5), x < pX h := fun x hx => by
    rcases List.mem_cons.mp hx with z | z
    · have := d1.2.2.2.2.2.2.2.1; omega
    · have := (d2 x z).2.2.2.2.2.2.2.1; omega
  have hlt2 : ∀ x ∈ pL h (pg + 4), x < pX h := fun x hx => by have := (d3 x hx).2.2.2.2.1; omega
  refine ⟨⟨by rw [v0.1]; exact a1, by rw [v0.2.2.2.1]; exact a2, by rw [v0.2.2.2.1]; exact a3, by rw [v0.2.2.2.1]; exact a4, by rw [v0.2.2.2.1]; exact a5, by rw [v0.2.2.2.1]; exact a6⟩, ⟨by rw [v4.1]; exact b1, by rw [v5.1]; exact b2, by rw [v6.1]; exact b3, by rw [v7.1]; exact b4, Nat.le_trans b5 A.1⟩, ⟨by rw [v4.2.2.2.2.2.2]; exact c1, by rw [v5.2.2.2.2.2.2]; exact c2, by rw [v6.2.2.2.2.2.2]; exact c3, by rw [v7.2.2.2.2.2.2]; exact c4⟩, ?_, ?_, ?_⟩
  · rw [v5.2.2.2.2.1, v4.2.2.2.2.1]
    exact ⟨d1.agr A, fun x hx => (d2 x hx).agr A, fun x hx => (d3 x hx).agr A, d4⟩
  · rw [v5.2.2.2.2.1]
    intro x hx y hy l
    rw [(A.2.2 x (hlt x hx)).2.2.2.1, (A.2.2 y (hlt y hy)).2.2.2.1]
    exact f x hx y hy l
  · rw [v4.2.2.2.2.1]
    intro x hx y hy l
    rw [(A.2.2 x (hlt2 x hx)).2.2.2.1, (A.2.2 y (hlt2 y hy)).2.2.2.1]
    exact g x hx y hy l
theorem cntS.refl (pg : Nat) (h : HP) : cntS pg h h := ⟨rfl, rfl, rfl, rfl⟩
theorem cntS.trans (A : cntS pg h h1) (B : cntS pg h1 h') : cntS pg h h' := ⟨B.1.trans A.1, B.2.1.trans A.2.1, B.2.2.1.trans A.2.2.1, B.2.2.2.trans A.2.2.2⟩
theorem cntS.agr (A : Agr h h') (hp : pg + 21 ≤ pX h) : cntS pg h h' := ⟨(A.2.2 pg (by omega)).2.2.1 3, (A.2.2 pg (by omega)).2.2.1 4, (A.2.2 (pg + 4) (by omega)).2.2.2.2.1, (A.2.2 (pg + 5) (by omega)).2.2.2.2.1⟩
theorem cntS.gr {a : Nat} (g : Gr h a h1) : cntS pg h h1 := by
  rcases g with e | ⟨n, _, e⟩ <;> rw [e] <;> exact ⟨rfl, rfl, rfl, rfl⟩
theorem CntP.mono {T' : TS} (C : CntP h pg φ T) (s : cntS pg h h') (hN : tN T' = tN T) (hM : tM T' = tM T) : CntP h' pg φ T' := by
  have e1 : elsT T' = elsT T := by unfold elsT; rw [hN, hM]
  have e2 : txsT T' = txsT T := by unfold txsT; rw [hN, hM]
  unfold CntP
  rw [s.1, s.2.1, s.2.2.1, s.2.2.2, e1, e2]
  exact C
/-! the body under the writes -/
theorem SHp.gr (H : SHp h pg) {a : Nat} (g : Gr h a h1) : SHp h1 pg := by
  rcases g with e | ⟨n, hn, e⟩
  · rw [e]; exact H
  · rw [e]; exact H.aG a n (Or.inl hn)
theorem RepC.gr (H : RepC h pg φ T) {a : Nat} (g : Gr h a h1) : RepC h1 pg φ T := by
  refine ⟨H.1.gr g, ?_⟩
  rcases g with e | ⟨n, hn, e⟩ <;> rw [e] <;> exact H.2
theorem LsC.gr (H : LsC h φ T) {a : Nat} (g : Gr h a h1) : LsC h1 φ T := by
  rcases g with e | ⟨n, hn, e⟩
  · rw [e]; exact H
  · rw [e]
    intro i hi hm
    obtain ⟨l, l1, l2, l3⟩ := H i hi hm
    refine ⟨l, l1, l2, ?_⟩
    rw [pC_wGr]
    split
    · exact hn
    · exact l3
theorem RepB.gr (H : RepB h pg φ T) {a : Nat} (g : Gr h a h1) : RepB h1 pg φ T := (H.c.gr g).b (H.l.gr g)
theorem RepC.agr (H : RepC h pg φ T) (A : Agr h h') : RepC h' pg φ T := by
  have hp := H.1.lt
  have v5 := A.2.2 (pg + 5) (by omega)
  have v4 := A.2.2 (pg + 4) (by omega)
  have v6 := A.2.2 (pg + 6) (by omega)
  refine ⟨H.1.agr A, H.2.1, ?_, fun i hi hm => ?_, fun i hi hm => ?_, fun i hi => ?_, ?_, ?_⟩
  · rw [v5.2.2.2.2.1, v4.2.2.2.2.1]; exact H.2.2.1
  · have he := (H.elc hi hm).2.2.2.2.2.2.2.1
    have w0 := A.2.2 (φ i) (by omega)
    have w1 := A.2.2 (φ i + 1) (by omega)
    rw [w0.2.2.1, w0.2.2.1, w0.2.2.1, w1.2.2.2.2.1]
    exact H.2.2.2.1 i hi hm
  · have he := (H.txc hi hm).2.2.2.2.1
    rw [(A.2.2 (φ i + 1) (by omega)).2.2.2.2.2.1]
    exact H.2.2.2.2.1 i hi hm
  · rw [(A.2.2 (φ i) (by have := (H.kd hi).2; omega)).2.2.2.1]
    exact H.2.2.2.2.2.1 i hi
  · rw [v6.2.2.2.2.1]; exact H.2.2.2.2.2.2.1
  · rw [(A.2.2 pg (by omega)).2.2.1]; exact H.2.2.2.2.2.2.2
theorem RepC.lls (H : RepC h pg φ T) {i l : Nat} (hi : i < tN T) (hm : tM T i ≠ 1) (hl : pP h (φ i) 5 = some l) : pK h l = 21 ∧ l < pX h ∧ pC h l ≤ 60 := (H.elc hi hm).2.2.2.2.2.2.1 l hl
theorem LsC.agr (L : LsC h φ T) (H : RepC h pg φ T) (hS : ∀ i ∈ tS T, i < tN T ∧ tM T i ≠ 1) (A : Agr h h') : LsC h' φ T := by
  intro i hi hm
  obtain ⟨l, l1, l2, l3⟩ := L i hi hm
  have hl := (H.lls (hS i hi).1 (hS i hi).2 l1).2.1
  have w := A.2.2 l hl
  refine ⟨l, ?_, by rw [w.2.2.2.2.1]; exact l2, by rw [w.2.2.2.2.2.2]; exact l3⟩
  rw [(A.2.2 (φ i) (by have := (H.kd (hS i hi).1).2; omega)).2.2.2.1]
  exact l1
theorem RepC.wi (H : RepC h pg φ T) {a k : Nat} (v : Int) (h1 : ∀ i, i < tN T → tM T i ≠ 1 → φ i = a → k ≠ 2 ∧ k ≠ 3 ∧ k ≠ 6) (h2 : a = pg → k ≠ 7) : RepC (wI h a k v) pg φ T := by
  refine ⟨H.1, H.2.1, H.2.2.1, fun i hi hm => ?_, H.2.2.2.2.1, H.2.2.2.2.2.1, H.2.2.2.2.2.2.1, ?_⟩
  · obtain ⟨x1, x2, x3, x4⟩ := H.2.2.2.1 i hi hm
    have q := h1 i hi hm
    refine ⟨?_, ?_, ?_, x4⟩
    · rw [pI_wI, if_neg (fun z => by have := q z.1; omega)]; exact x1
    · rw [pI_wI, if_neg (fun z => by have := q z.1; omega)]; exact x2
    · rw [pI_wI, if_neg (fun z => by have := q z.1; omega)]; exact x3
  · rw [pI_wI, if_neg (fun z => by have := h2 z.1.symm; omega)]; exact H.2.2.2.2.2.2.2
theorem LsC.wi (L : LsC h φ T) (a k : Nat) (v : Int) : LsC (wI h a k v) φ T := L
/-- a write to a list that is no child list, pool or stack -/
theorem RepC.wl (H : RepC h pg φ T) {a : Nat} (v : List Nat) (ha : pK h a = 21 ∨ pK h a = 25) : RepC (wL h a v) pg φ T := by
  have b := H.1.2.1
  have e4 : pg + 4 ≠ a := kne h (by omega)
  have e5 : pg + 5 ≠ a := kne h (by omega)
  have e6 : pg + 6 ≠ a := kne h (by omega)
  refine ⟨H.1.aL (Ne.symm e4) (Ne.symm e5) v, H.2.1, ?_, fun i hi hm => ?_, H.2.2.2.2.1, H.2.2.2.2.2.1, ?_, H.2.2.2.2.2.2.2⟩
  · rw [pL_ne v e4, pL_ne v e5]; exact H.2.2.1
  · have hk := (H.elc hi hm).2.2.1
    rw [pL_ne v (kne h (by omega))]
    exact H.2.2.2.1 i hi hm
  · rw [pL_ne v e6]; exact H.2.2.2.2.2.2.1
theorem RepC.wp12 (H : RepC h pg φ T) (v : Option Nat) : RepC (wP h pg 12 v) pg φ T := by
  refine ⟨H.1.aP (Or.inr rfl) v, H.2.1, H.2.2.1, H.2.2.2.1, H.2.2.2.2.1, fun i hi => ?_, H.2.2.2.2.2.2.1, H.2.2.2.2.2.2.2⟩
  rw [pP_ne v (Or.inr (by omega))]
  exact H.2.2.2.2.2.1 i hi
theorem LsC.wp (L : LsC h φ T) {a k : Nat} (v : Option Nat) (hk : k ≠ 5) : LsC (wP h a k v) φ T := by
  intro i hi hm
  obtain ⟨l, l1, l2⟩ := L i hi hm
  exact ⟨l, by rw [pP_ne v (Or.inr (by omega))]; exact l1, l2⟩
/-- lists grow -/
theorem lgrow_eq {a : Nat} (hl : (pL h a).length ≤ 40) (hc : pC h a ≤ 60) (hR : RU h (u + 1)) : lOk h a ∧ Gr h a (lGrow h a) ∧ RU (lGrow h a) u ∧ pL (lGrow h a) = pL h := by
  obtain ⟨r1, r2⟩ := hR
  have hcap : lcap (pC h a) ≤ 100 := by unfold lcap; split <;> omega
  refine ⟨⟨by omega, by omega, by omega⟩, ?_, ?_, ?_⟩
  · unfold lGrow Gr
    split
    · next q =>
      refine Or.inr ⟨lcap (pC h a), ?_, rfl⟩
      unfold lcap
      split <;> omega
    · exact Or.inl rfl
  · unfold lGrow RU
    split
    · rw [pX_wGr, pS_wGr, pO_wGr]; exact ⟨by omega, by omega⟩
    · exact ⟨by omega, by omega⟩
  · unfold lGrow
    split <;> rfl
theorem Gr.k {a : Nat} (g : Gr h a h1) : pK h1 = pK h ∧ pL h1 = pL h ∧ pI h1 = pI h ∧ pP h1 = pP h ∧ pB h1 = pB h ∧ pN h1 = pN h := by
  rcases g with e | ⟨n, hn, e⟩ <;> rw [e] <;> exact ⟨rfl, rfl, rfl, rfl, rfl, rfl⟩
theorem lAdd_eq {a x : Nat} (hk : isL (pK h a)) (ho : isO (pK h x)) (hl : (pL h a).length ≤ 40) (hc : pC h a ≤ 60) (hR : RU h (u + 1)) : ∃ h1, lAdd h a x = some (wL h1 a (pL h a ++ [x]), 1) ∧ Gr h a h1 ∧ RU h1 u := by
  obtain ⟨g1, g2, g3, g4⟩ := lgrow_eq hl hc hR
  refine ⟨lGrow h a, ?_, g2, g3⟩
  unfold lAdd
  rw [gd_c ⟨hk, ho, g1⟩]
theorem lIns_eq {a x k : Nat} (hk : isL (pK h a)) (ho : isO (pK h x)) (hl : (pL h a).length ≤ 40) (hc : pC h a ≤ 60) (hi : k ≤ (pL h a).length) (hR : RU h (u + 1)) : ∃ h1, lIns h a (k : Int) x = some (wL h1 a ((pL h a).take k ++ x :: (pL h a).drop k)) ∧ Gr h a h1 ∧ RU h1 u := by
  obtain ⟨g1, g2, g3, g4⟩ := lgrow_eq hl hc hR
  refine ⟨lGrow h a, ?_, g2, g3⟩
  unfold lIns
  rw [gd_c ⟨hk, ho, g1, zin_of (by omega) (by omega) (by omega)⟩, zix_nat (by omega)]
end PB
