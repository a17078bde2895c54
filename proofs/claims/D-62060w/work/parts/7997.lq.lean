/-! the layout, plainly: boxes and runs -/
set_option maxRecDepth 100000
abbrev IT : Type := Nat × Option Nat
def txP (T : TS) (p : Nat) : List Int := tX T (ioP T p)
def itQ (T : TS) (p : Nat) : List IT := if nmQ T p = 1 then (List.range (txP T p).length).map (fun k => (p, some k)) else if nmQ T p = 107 then [(p, none)] else []
def rkP (T : TS) (rs : List RL) (x : IT) : RK := match x.2 with
  | none => (0, vlP T rs 2 x.1)
  | some k => (if (txP T x.1).getD k 0 = 32 then 1 else 2, vlP T rs 2 (upP T x.1))
/-- a box while it is filled: end, margin below, highest, run, lines -/
abbrev HS : Type := Int × Int × Int × List IT × Int
def rkL (T : TS) (rs : List RL) (s : HS) : List RK := s.2.2.2.1.map (rkP T rs)
def flP (T : TS) (rs : List RL) (W : Int) (s : HS) : HS := (if hasL (rkL T rs s) then s.1 + s.2.1 + (FL W (rkL T rs s)).1 else s.1, if hasL (rkL T rs s) then 0 else s.2.1, s.2.2.1, [], s.2.2.2.2 + (FL W (rkL T rs s)).2.1)
def tpS (row : Bool) (m : Int) (s : HS) : Int := if row then m else s.1 + max s.2.1 m
def bxS (row : Bool) (m t : Int) (s : HS) : HS := (tpS row m s + t, m, max s.2.2.1 (2 * m + t), [], s.2.2.2.2)
def adS (s : HS) (l : List IT) : HS := (s.1, s.2.1, s.2.2.1, s.2.2.2.1 ++ l, s.2.2.2.2)
def rwP (T : TS) (n : Nat) : Bool := decide (nmQ T n = 114)
def hst (T : TS) (rs : List RL) (Wd tl : Nat → Int) (n : Nat) (s : HS) (q : Nat) : HS :=
  if hoP T rs q = n then (if bxP T rs q then bxS (rwP T n) (vlP T rs 4 q) (tl q) (flP T rs (Wd n) s) else if hdP T rs q then s else adS s (itQ T q)) else s
def hsF (T : TS) (rs : List RL) (Wd tl : Nat → Int) (n : Nat) : Nat → HS
  | 0 => (0, 0, 0, [], 0)
  | k + 1 => hst T rs Wd tl n (hsF T rs Wd tl n k) (n + 1 + k)
def hsP (T : TS) (rs : List RL) (Wd tl : Nat → Int) (n q : Nat) : HS := hsF T rs Wd tl n (q - (n + 1))
def heP (T : TS) (rs : List RL) (Wd tl : Nat → Int) (n : Nat) : HS := flP T rs (Wd n) (hsP T rs Wd tl n (behindA T n))
def tlE (T : TS) (rs : List RL) (n : Nat) (e : HS) : Int := 2 * vlP T rs 5 n + (if nmQ T n = 104 then 1 else if nmQ T n = 114 then e.2.2.1 else e.1 + e.2.1)
/-- how many cells of h stand before b -/
def clP (T : TS) (rs : List RL) (h b : Nat) : Nat := ((List.range b).filter (fun q => decide (h < q) && (decide (upP T q = h) && bxP T rs q))).length
def avE (T : TS) (rs : List RL) (n : Nat) (w : Int) : Int := if rwP T (hoP T rs n) then w / (clP T rs (hoP T rs n) (tN T) : Int) else w
def wdE (T : TS) (rs : List RL) (n : Nat) (w : Int) : Int := if vlP T rs 6 n = -1 then max 0 (avE T rs n w - 2 * vlP T rs 4 n - 2 * vlP T rs 5 n) else vlP T rs 6 n
def lfE (T : TS) (rs : List RL) (n : Nat) (w l : Int) : Int := l + vlP T rs 5 (hoP T rs n) + (if rwP T (hoP T rs n) then (clP T rs (hoP T rs n) n : Int) * (w / (clP T rs (hoP T rs n) (tN T) : Int)) else 0) + vlP T rs 4 n
def rtE (T : TS) (rs : List RL) (Wd tl : Nat → Int) (q : Nat) : Int := tpS (rwP T (hoP T rs q)) (vlP T rs 4 q) (flP T rs (Wd (hoP T rs q)) (hsP T rs Wd tl (hoP T rs q) q))
/-- widths, left edges, heights and tops of the boxes -/
def LQ (T : TS) (rs : List RL) (v : Int) (Wd Lf tl tp : Nat → Int) : Prop :=
  (Wd 0 = v ∧ Lf 0 = 0 ∧ tp 0 = 0) ∧
  (∀ n, n < tN T → 0 < n → Wd n = wdE T rs n (Wd (hoP T rs n)) ∧ Lf n = lfE T rs n (Wd (hoP T rs n)) (Lf (hoP T rs n)) ∧ tp n = tp (hoP T rs n) + vlP T rs 5 (hoP T rs n) + rtE T rs Wd tl n) ∧
  ∀ n, n < tN T → tl n = tlE T rs n (heP T rs Wd tl n)
theorem rec_ex {α : Type} (ho : Nat → Nat) (a : α) (G : Nat → α → α) : ∀ N, (∀ n, n < N → 0 < n → ho n < n) → ∃ F : Nat → α, F 0 = a ∧ ∀ n, n < N → 0 < n → F n = G n (F (ho n)) := by
  intro N
  induction N with
  | zero => intro _; exact ⟨fun _ => a, rfl, fun n h => by omega⟩
  | succ N ih =>
    intro hlt
    obtain ⟨F, f0, f1⟩ := ih (fun n h => hlt n (by omega))
    by_cases h0 : N = 0
    · exact ⟨F, f0, fun n h1 h2 => by omega⟩
    · refine ⟨fun n => if n = N then G N (F (ho N)) else F n, ?_, fun n h1 h2 => ?_⟩
      · show (if 0 = N then _ else _) = _
        rw [if_neg (by omega)]; exact f0
      · have hl := hlt n h1 h2
        show (if n = N then _ else _) = G n (if ho n = N then _ else _)
        rw [if_neg (show ¬ ho n = N by omega)]
        by_cases e : n = N
        · rw [if_pos e, e]
        · rw [if_neg e]; exact f1 n (by omega) h2
theorem rec_dn (G : Nat → (Nat → Int) → Int) (hG : ∀ n f g, (∀ q, n < q → f q = g q) → G n f = G n g) (N : Nat) : ∃ F : Nat → Int, ∀ n, n < N → F n = G n F := by
  have key : ∀ k, k ≤ N → ∃ F : Nat → Int, ∀ n, N - k ≤ n → n < N → F n = G n F := by
    intro k
    induction k with
    | zero => intro _; exact ⟨fun _ => 0, fun n h1 h2 => by omega⟩
    | succ k ih =>
      intro hk
      obtain ⟨F, f⟩ := ih (by omega)
      refine ⟨fun n => if n = N - (k + 1) then G n F else F n, fun n h1 h2 => ?_⟩
      have hc : G n (fun n => if n = N - (k + 1) then G n F else F n) = G n F := hG _ _ _ (fun q hq => if_neg (by omega))
      rw [hc]
      show (if n = N - (k + 1) then _ else _) = _
      by_cases e : n = N - (k + 1)
      · rw [if_pos e]
      · rw [if_neg e]; exact f n (by omega) h2
  obtain ⟨F, f⟩ := key N (Nat.le_refl _)
  exact ⟨F, fun n h => f n (by omega) h⟩
section LQ
variable {T : TS} {rs : List RL} {n q p k j : Nat} {v : Int} {Wd Lf tl tp : Nat → Int}
theorem hsF_congr {f g : Nat → Int} (h : ∀ q, n < q → f q = g q) : ∀ k, hsF T rs Wd f n k = hsF T rs Wd g n k
  | 0 => rfl
  | k + 1 => by
    unfold hsF
    rw [hsF_congr h k]
    unfold hst
    rw [h (n + 1 + k) (by omega)]
theorem lay_ex (hW : WF T) (hok : ∀ r ∈ rs, okR2 r) (v : Int) : ∃ Wd Lf tl tp, LQ T rs v Wd Lf tl tp := by
  have hlt : ∀ n, n < tN T → 0 < n → hoP T rs n < n := fun n h1 h2 => (ho_in hW hok n h1 h2).1
  obtain ⟨Wd, w0, w1⟩ := rec_ex (hoP T rs) v (fun n w => wdE T rs n w) (tN T) hlt
  obtain ⟨Lf, l0, l1⟩ := rec_ex (hoP T rs) 0 (fun n l => lfE T rs n (Wd (hoP T rs n)) l) (tN T) hlt
  obtain ⟨tl, t1⟩ := rec_dn (fun n f => tlE T rs n (heP T rs Wd f n)) (fun n f g h => by
    show tlE T rs n (flP T rs (Wd n) (hsF T rs Wd f n _)) = tlE T rs n (flP T rs (Wd n) (hsF T rs Wd g n _))
    rw [hsF_congr h]) (tN T)
  obtain ⟨tp, a0, a1⟩ := rec_ex (hoP T rs) 0 (fun n a => a + vlP T rs 5 (hoP T rs n) + rtE T rs Wd tl n) (tN T) hlt
  exact ⟨Wd, Lf, tl, tp, ⟨w0, l0, a0⟩, fun n h1 h2 => ⟨w1 n h1 h2, l1 n h1 h2, a1 n h1 h2⟩, t1⟩
theorem hs_0 : hsP T rs Wd tl n (n + 1) = (0, 0, 0, [], 0) := by unfold hsP; rw [Nat.sub_self]; rfl
theorem hs_s (h : n < q) : hsP T rs Wd tl n (q + 1) = hst T rs Wd tl n (hsP T rs Wd tl n q) q := by
  unfold hsP
  rw [show q + 1 - (n + 1) = (q - (n + 1)) + 1 by omega]
  show hst T rs Wd tl n _ (n + 1 + (q - (n + 1))) = _
  rw [show n + 1 + (q - (n + 1)) = q by omega]
theorem hst_no (h : hoP T rs q ≠ n) (s : HS) : hst T rs Wd tl n s q = s := if_neg h
theorem hst_hd (h : hdP T rs q = true) (s : HS) : hst T rs Wd tl n s q = s := by
  have hb : ¬ bxP T rs q = true := fun z => by rw [(bx_d z).2.1] at h; cases h
  unfold hst
  by_cases z : hoP T rs q = n
  · rw [if_pos z, if_neg hb, if_pos h]
  · rw [if_neg z]
theorem hst_bx (h : hoP T rs q = n) (hb : bxP T rs q = true) (s : HS) : hst T rs Wd tl n s q = bxS (rwP T n) (vlP T rs 4 q) (tl q) (flP T rs (Wd n) s) := by
  unfold hst; rw [if_pos h, if_pos hb]
theorem hst_ad (h : hoP T rs q = n) (hb : bxP T rs q = false) (hh : hdP T rs q = false) (s : HS) : hst T rs Wd tl n s q = adS s (itQ T q) := by
  unfold hst; rw [if_pos h, if_neg (by rw [hb]; simp), if_neg (by rw [hh]; simp)]
/-- a stretch of nodes that are not held by n changes nothing -/
theorem hs_skip {a b : Nat} (ha : n < a) (hab : a ≤ b) (h : ∀ q, a ≤ q → q < b → hoP T rs q ≠ n ∨ hdP T rs q = true) : hsP T rs Wd tl n b = hsP T rs Wd tl n a := by
  obtain ⟨d, rfl⟩ : ∃ d, b = a + d := ⟨b - a, by omega⟩
  clear hab
  induction d with
  | zero => rfl
  | succ d ih =>
    rw [show a + (d + 1) = (a + d) + 1 by omega, hs_s (by omega)]
    rcases h (a + d) (by omega) (by omega) with z | z
    · rw [hst_no z]; exact ih (fun q h1 h2 => h q h1 (by omega))
    · rw [hst_hd z]; exact ih (fun q h1 h2 => h q h1 (by omega))
/-- the run's parts -/
def RI (T : TS) (rs : List RL) (Wd tl : Nat → Int) (n r : Nat) (R : List IT) : Prop := ∀ j, j < R.length → n < (R.getD j (0, none)).1 ∧ (R.getD j (0, none)).1 < r ∧ hoP T rs (R.getD j (0, none)).1 = n ∧ hdP T rs (R.getD j (0, none)).1 = false ∧ bxP T rs (R.getD j (0, none)).1 = false ∧ (∀ t, (R.getD j (0, none)).1 < t → t < r → ¬ (hoP T rs t = n ∧ bxP T rs t = true)) ∧ match (R.getD j (0, none)).2 with
  | none => nmQ T (R.getD j (0, none)).1 = 107 ∧ j = (hsP T rs Wd tl n (R.getD j (0, none)).1).2.2.2.1.length
  | some k => nmQ T (R.getD j (0, none)).1 = 1 ∧ k < (txP T (R.getD j (0, none)).1).length ∧ j = (hsP T rs Wd tl n (R.getD j (0, none)).1).2.2.2.1.length + k
theorem it_at (hj : j < (itQ T p).length) : ((itQ T p).getD j (0, none)).1 = p ∧ match ((itQ T p).getD j (0, none)).2 with
  | none => nmQ T p = 107 ∧ j = 0
  | some k => nmQ T p = 1 ∧ k < (txP T p).length ∧ j = k := by
  unfold itQ at hj ⊢
  by_cases h1 : nmQ T p = 1
  · rw [if_pos h1] at hj ⊢
    rw [List.length_map, List.length_range] at hj
    rw [gD (by rw [List.length_map, List.length_range]; exact hj)]
    simp only [List.getElem_map, List.getElem_range]
    exact ⟨trivial, h1, hj, trivial⟩
  · rw [if_neg h1] at hj ⊢
    by_cases h2 : nmQ T p = 107
    · rw [if_pos h2] at hj ⊢
      have : j = 0 := by simp at hj; omega
      subst this
      exact ⟨rfl, h2, rfl⟩
    · rw [if_neg h2] at hj
      simp at hj
theorem getD_app_l {α : Type} {A B : List α} {d : α} (h : j < A.length) : (A ++ B).getD j d = A.getD j d := by
  rw [gD (by simp; omega), gD h, List.getElem_append_left h]
theorem getD_app_r {α : Type} {A B : List α} {d : α} (h1 : A.length ≤ j) (h2 : j < A.length + B.length) : (A ++ B).getD j d = B.getD (j - A.length) d := by
  rw [gD (by simp; omega), gD (by omega), List.getElem_append_right h1]
theorem RI.all : ∀ k, RI T rs Wd tl n (n + 1 + k) (hsP T rs Wd tl n (n + 1 + k)).2.2.2.1 := by
  intro k
  induction k with
  | zero =>
    intro j hj
    rw [show n + 1 + 0 = n + 1 by omega, hs_0] at hj
    exact absurd hj (by simp)
  | succ k ih =>
    have e : n + 1 + (k + 1) = (n + 1 + k) + 1 := by omega
    rw [e, hs_s (by omega)]
    generalize hs : hsP T rs Wd tl n (n + 1 + k) = s at ih ⊢
    have keep : (¬ (hoP T rs (n + 1 + k) = n ∧ bxP T rs (n + 1 + k) = true)) → ∀ R, RI T rs Wd tl n (n + 1 + k) R → RI T rs Wd tl n (n + 1 + k + 1) R := fun hne R hR j hj => by
      obtain ⟨a1, a2, a3, a4, a5, a6, a7⟩ := hR j hj
      refine ⟨a1, by omega, a3, a4, a5, fun t h1 h2 => ?_, a7⟩
      by_cases z : t = n + 1 + k
      · rw [z]; exact hne
      · exact a6 t h1 (by omega)
    by_cases h1 : hoP T rs (n + 1 + k) = n
    · cases hb : bxP T rs (n + 1 + k) with
      | true =>
        rw [hst_bx h1 hb]
        intro j hj
        exact absurd hj (by show ¬ j < ([] : List IT).length; simp)
      | false =>
        cases hh : hdP T rs (n + 1 + k) with
        | true => rw [hst_hd hh]; exact keep (by rw [hb]; simp) _ ih
        | false =>
          rw [hst_ad h1 hb hh]
          show RI T rs Wd tl n (n + 1 + k + 1) (s.2.2.2.1 ++ itQ T (n + 1 + k))
          have ih' := keep (by rw [hb]; simp) _ ih
          intro j hj
          rw [List.length_append] at hj
          by_cases hjl : j < s.2.2.2.1.length
          · rw [getD_app_l hjl]
            exact ih' j hjl
          · rw [getD_app_r (by omega) hj]
            obtain ⟨b1, b2⟩ := it_at (T := T) (p := n + 1 + k) (j := j - s.2.2.2.1.length) (by omega)
            refine ⟨by omega, by omega, by rw [b1]; exact h1, by rw [b1]; exact hh, by rw [b1]; exact hb, fun t g1 g2 => by omega, ?_⟩
            rw [b1, hs]
            cases ho : ((itQ T (n + 1 + k)).getD (j - s.2.2.2.1.length) (0, none)).2 with
            | none =>
              rw [ho] at b2
              exact ⟨b2.1, by omega⟩
            | some k =>
              rw [ho] at b2
              exact ⟨b2.1, b2.2.1, by omega⟩
    · rw [hst_no h1]; exact keep (fun z => h1 z.1) _ ih
theorem RI.at (h : n < q) : RI T rs Wd tl n q (hsP T rs Wd tl n q).2.2.2.1 := by
  have := RI.all (T := T) (rs := rs) (Wd := Wd) (tl := tl) (n := n) (q - (n + 1))
  rw [show n + 1 + (q - (n + 1)) = q by omega] at this
  exact this
/-- where a run of n ends -/
def EvQ (T : TS) (rs : List RL) (n q : Nat) : Prop := q = behindA T n ∨ (n < q ∧ q < behindA T n ∧ hoP T rs q = n ∧ bxP T rs q = true)
/-- a character is part j of the run of n that ends at q -/
def Cov (T : TS) (rs : List RL) (Wd tl : Nat → Int) (n q j p k : Nat) : Prop := n < tN T ∧ bxP T rs n = true ∧ EvQ T rs n q ∧ j < (hsP T rs Wd tl n q).2.2.2.1.length ∧ (hsP T rs Wd tl n q).2.2.2.1.getD j (0, none) = (p, some k)
theorem Cov.d (h : Cov T rs Wd tl n q j p k) : n < p ∧ p < q ∧ hoP T rs p = n ∧ hdP T rs p = false ∧ (∀ t, p < t → t < q → ¬ (hoP T rs t = n ∧ bxP T rs t = true)) ∧ nmQ T p = 1 ∧ k < (txP T p).length ∧ j = (hsP T rs Wd tl n p).2.2.2.1.length + k := by
  obtain ⟨h1, h2, h3, h4, h5⟩ := h
  have hq : n < q := by
    rcases h3 with z | z
    · rw [z]; exact behindA_gt T n
    · exact z.1
  obtain ⟨a1, a2, a3, a4, a5, a6, a7⟩ := RI.at (T := T) (rs := rs) (Wd := Wd) (tl := tl) hq j h4
  rw [h5] at a1 a2 a3 a4 a5 a6 a7
  exact ⟨a1, a2, a3, a4, a6, a7.1, a7.2.1, a7.2.2⟩
theorem Cov.uniq {n' q' j' : Nat} (h : Cov T rs Wd tl n q j p k) (h' : Cov T rs Wd tl n' q' j' p k) : n = n' ∧ q = q' ∧ j = j' := by
  have d := h.d
  have d' := h'.d
  have hn : n = n' := by rw [← d.2.2.1, ← d'.2.2.1]
  subst hn
  refine ⟨rfl, ?_, by omega⟩
  have hq := h.2.2.1
  have hq' := h'.2.2.1
  rcases Nat.lt_trichotomy q q' with z | z | z
  · exfalso
    rcases hq with y | y
    · rcases hq' with x | x <;> omega
    · exact d'.2.2.2.2.1 q d.2.1 z ⟨y.2.2.1, y.2.2.2⟩
  · exact z
  · exfalso
    rcases hq' with y | y
    · rcases hq with x | x <;> omega
    · exact d.2.2.2.2.1 q' d'.2.1 z ⟨y.2.2.1, y.2.2.2⟩
def flE (T : TS) (rs : List RL) (Wd tl : Nat → Int) (n q : Nat) : Int := (hsP T rs Wd tl n q).1 + (hsP T rs Wd tl n q).2.1
def flF (T : TS) (rs : List RL) (Wd tl : Nat → Int) (n q : Nat) : Int × Int × (Nat → Int) × (Nat → Int) := FL (Wd n) (rkL T rs (hsP T rs Wd tl n q))
/-- where a character stands; -1 if nowhere -/
def PlR (T : TS) (rs : List RL) (Wd Lf tl tp : Nat → Int) (p k : Nat) (y : Int) : Prop :=
  (hdP T rs p = true ∨ (txP T p).getD k 0 = 32 → y = -1) ∧ (hdP T rs p = false → (txP T p).getD k 0 ≠ 32 → ∃ n q j, Cov T rs Wd tl n q j p k ∧ y = Lf n + vlP T rs 5 n + (flF T rs Wd tl n q).2.2.1 j + 65536 * (tp n + vlP T rs 5 n + flE T rs Wd tl n q + (flF T rs Wd tl n q).2.2.2 j))
theorem PlR.uniq {y y' : Int} (h : PlR T rs Wd Lf tl tp p k y) (h' : PlR T rs Wd Lf tl tp p k y') : y = y' := by
  by_cases c : hdP T rs p = true ∨ (txP T p).getD k 0 = 32
  · rw [h.1 c, h'.1 c]
  · have c1 : hdP T rs p = false := by
      cases z : hdP T rs p with
      | false => rfl
      | true => exact (c (Or.inl z)).elim
    have c2 : (txP T p).getD k 0 ≠ 32 := fun z => c (Or.inr z)
    obtain ⟨n, q, j, e1, e2⟩ := h.2 c1 c2
    obtain ⟨n', q', j', e1', e2'⟩ := h'.2 c1 c2
    obtain ⟨r1, r2, r3⟩ := e1.uniq e1'
    subst r1 r2 r3
    rw [e2, e2']
end LQ
