/-! values as a plain thing; the cascade -/
set_option maxRecDepth 100000
/-- the ancestors, from the parent on -/
def ancF (p : Nat → Nat) : Nat → Nat → List Nat
  | 0, _ => []
  | n + 1, i => if i = 0 then [] else p i :: ancF p n (p i)
def ancs (T : TS) (i : Nat) : List Nat := ancF (tP T) (tD T i) i
def ptFit (T : TS) (p : PT) (i : Nat) : Bool := decide (tM T i ≠ 0) && ((decide (p.1 = 0) || decide (p.1 = 42)) || decide (p.1 = tM T i)) && decide (zand p.2.1 (zxor (tC T i) (-1)) = 0)
/-- whether a chain of parts, the last one first, fits -/
def fitR (T : TS) : List PT → Nat → Bool
  | [], _ => true
  | [p], i => ptFit T p i
  | p :: q :: r, i => ptFit T p i && (if p.2.2 = 0 then ancs T i else (ancs T i).take 1).any (fitR T (q :: r))
abbrev GS : Type := Int × Int × Int × Int
def gst (fit : RL → Bool) (k : Nat) (s : GS) (r : RL) : GS :=
  if (decide (r.2.2.1 k ≠ -2 ∧ s.2.2.1 ≤ r.2.1) || decide (r.2.2.2 k ≠ -2 ∧ s.2.2.2 ≤ r.2.1)) && fit r then
    (if r.2.2.1 k ≠ -2 ∧ s.2.2.1 ≤ r.2.1 then r.2.2.1 k else s.1, if r.2.2.2 k ≠ -2 ∧ s.2.2.2 ≤ r.2.1 then r.2.2.2 k else s.2.1, if r.2.2.1 k ≠ -2 ∧ s.2.2.1 ≤ r.2.1 then r.2.1 else s.2.2.1, if r.2.2.2 k ≠ -2 ∧ s.2.2.2 ≤ r.2.1 then r.2.1 else s.2.2.2)
  else s
def giv (fit : RL → Bool) (k : Nat) (rs : List RL) : Int :=
  if (rs.foldl (gst fit k) (-2, -2, -1, -1)).2.1 ≠ -2 then (rs.foldl (gst fit k) (-2, -2, -1, -1)).2.1 else (rs.foldl (gst fit k) (-2, -2, -1, -1)).1
/-- declarations of a body, in order -/
def bsD (s : List Int × List (Nat × Int × Bool)) (c : Int) : List Int × List (Nat × Int × Bool) := if c = 59 then ([], s.2 ++ (dec s.1).toList) else if c = 32 then s else (s.1 ++ [c], s.2)
def bodyD (b : List Int) : List (Nat × Int × Bool) := ((b ++ [59]).foldl bsD ([], [])).2
def vfD (D : List (Nat × Int × Bool)) : VF := D.foldl (fun f d => vfS f (some d)) vf0
theorem body_vd (b : List Int) : bodyV b = vfD (bodyD b) := by
  have key : ∀ (l w : List Int) (D : List (Nat × Int × Bool)), l.foldl bst (w, vfD D) = ((l.foldl bsD (w, D)).1, vfD (l.foldl bsD (w, D)).2) := by
    intro l
    induction l with
    | nil => intro w D; rfl
    | cons c l ih =>
      intro w D
      rw [List.foldl_cons, List.foldl_cons]
      have : bst (w, vfD D) c = ((bsD (w, D) c).1, vfD (bsD (w, D) c).2) := by
        unfold bst bsD
        split
        · show ([], vfS (vfD D) (dec w)) = ([], vfD (D ++ (dec w).toList))
          cases dec w with
          | none => simp [vfS]
          | some d => unfold vfD; simp [List.foldl_append]
        · split <;> rfl
      rw [this]
      exact ih _ _
  unfold bodyV bodyD
  have := key (b ++ [59]) [] []
  have h0 : vfD [] = vf0 := rfl
  rw [h0] at this
  rw [this]
/-- values are never below 0 -/
theorem decE_v {e : List Int} {k : Nat} {v : Int} (h : decE e = some (k, v)) : 0 ≤ v ∧ v ≤ 200 := by
  unfold decE at h
  match e, h with
  | [], h => cases h
  | [_], h => cases h
  | p :: q :: vv, h =>
    simp only [] at h
    split at h
    · cases h
    · cases hv : decV (ixT 7 p) vv with
      | none => rw [hv] at h; cases h
      | some y =>
        rw [hv] at h
        cases h
        unfold decV at hv
        split at hv
        · split at hv
          · split at hv
            · cases hv; omega
            · cases hv
          · cases hv
        · split at hv
          · split at hv
            · cases hv; omega
            · cases hv
          · split at hv
            · cases hv; omega
            · cases hv
          · cases hv
theorem dec_v {d : List Int} {k : Nat} {v : Int} {s : Bool} (h : dec d = some (k, v, s)) : 0 ≤ v ∧ v ≤ 200 ∧ k < 7 := by
  refine ⟨?_, ?_, dec_k h⟩ <;>
  · unfold dec at h
    split at h
    · cases hv : decE d.dropLast with
      | none => rw [hv] at h; cases h
      | some y => rw [hv] at h; cases h; have := decE_v hv; omega
    · cases hv : decE d with
      | none => rw [hv] at h; cases h
      | some y => rw [hv] at h; cases h; have := decE_v hv; omega
theorem bodyD_v (b : List Int) : ∀ d ∈ bodyD b, 0 ≤ d.2.1 ∧ d.2.1 ≤ 200 ∧ d.1 < 7 := by
  have key : ∀ (l w : List Int) (D : List (Nat × Int × Bool)), (∀ d ∈ D, 0 ≤ d.2.1 ∧ d.2.1 ≤ 200 ∧ d.1 < 7) → ∀ d ∈ (l.foldl bsD (w, D)).2, 0 ≤ d.2.1 ∧ d.2.1 ≤ 200 ∧ d.1 < 7 := by
    intro l
    induction l with
    | nil => intro w D h; exact h
    | cons c l ih =>
      intro w D h
      rw [List.foldl_cons]
      refine ih (bsD (w, D) c).1 (bsD (w, D) c).2 ?_
      unfold bsD
      split
      · intro d hd
        rcases List.mem_append.mp hd with z | z
        · exact h d z
        · cases hw : dec w with
          | none => rw [hw] at z; cases z
          | some q =>
            rw [hw] at z
            rw [List.mem_singleton.mp z]
            obtain ⟨k, v, s⟩ := q
            exact dec_v hw
      · split <;> exact h
  exact key _ _ _ (by simp)
/-! the reference's way: keys -/
abbrev KV : Type := Int × Int
def kst (k : Nat) (R : Int) (s : KV) (d : Nat × Int × Bool) : KV := if d.1 = k ∧ s.1 ≤ (if d.2.2 then 100000 else 0) + R then ((if d.2.2 then 100000 else 0) + R, d.2.1) else s
/-- the key and the value that go with a state of the page's way -/
def kvG (s : GS) : KV := if 0 ≤ s.2.2.2 then (100000 + s.2.2.2, s.2.1) else (s.2.2.1, s.1)
def okG (s : GS) : Prop := (s.2.2.1 = -1 ∧ s.1 = -2 ∨ 0 ≤ s.2.2.1 ∧ s.2.2.1 < 100000 ∧ 0 ≤ s.1) ∧ (s.2.2.2 = -1 ∧ s.2.1 = -2 ∨ 0 ≤ s.2.2.2 ∧ s.2.2.2 < 100000 ∧ 0 ≤ s.2.1)
def upG (s : GS) (R p m : Int) : GS := (if p ≠ -2 ∧ s.2.2.1 ≤ R then p else s.1, if m ≠ -2 ∧ s.2.2.2 ≤ R then m else s.2.1, if p ≠ -2 ∧ s.2.2.1 ≤ R then R else s.2.2.1, if m ≠ -2 ∧ s.2.2.2 ≤ R then R else s.2.2.2)
theorem kvG_up (s : GS) {R : Int} (hR : 0 ≤ R) (p m : Int) : kvG (upG s R p m) = if m ≠ -2 ∧ s.2.2.2 ≤ R then (100000 + R, m) else if 0 ≤ s.2.2.2 then (100000 + s.2.2.2, s.2.1) else if p ≠ -2 ∧ s.2.2.1 ≤ R then (R, p) else (s.2.2.1, s.1) := by
  unfold kvG upG
  simp only []
  by_cases hB : m ≠ -2 ∧ s.2.2.2 ≤ R
  · rw [if_pos hB, if_pos hB, if_pos hB, if_pos hR]
  · rw [if_neg hB, if_neg hB, if_neg hB]
    by_cases he : 0 ≤ s.2.2.2
    · rw [if_pos he, if_pos he]
    · rw [if_neg he, if_neg he]
      by_cases hA : p ≠ -2 ∧ s.2.2.1 ≤ R
      · rw [if_pos hA, if_pos hA, if_pos hA]
      · rw [if_neg hA, if_neg hA, if_neg hA]
theorem kst_up {s : GS} (hs : okG s) {R : Int} (hR : 0 ≤ R ∧ R < 100000) {p m : Int} (hp : p = -2 ∨ 0 ≤ p) (hm : m = -2 ∨ 0 ≤ m) {k : Nat} (d : Nat × Int × Bool) (hd : 0 ≤ d.2.1) : kst k R (kvG (upG s R p m)) d = kvG (upG s R (if d.1 = k ∧ d.2.2 = false then d.2.1 else p) (if d.1 = k ∧ d.2.2 = true then d.2.1 else m)) := by
  obtain ⟨d1, d2, d3⟩ := d
  obtain ⟨a, b, c, e⟩ := s
  unfold okG at hs
  simp only [] at hs hd
  rw [kvG_up _ hR.1, kvG_up _ hR.1]
  unfold kst
  simp only []
  by_cases hk : d1 = k
  · cases d3 with
    | false =>
      rw [if_pos (show d1 = k ∧ false = false from ⟨hk, rfl⟩), if_neg (show ¬ (d1 = k ∧ false = true) from fun z => by cases z.2)]
      by_cases hB : m ≠ -2 ∧ e ≤ R
      · rw [if_pos hB, if_pos hB, if_neg (fun z => by have := z.2; simp at this; omega)]
      · rw [if_neg hB, if_neg hB]
        by_cases he : 0 ≤ e
        · rw [if_pos he, if_pos he, if_neg (fun z => by have := z.2; simp at this; omega)]
        · rw [if_neg he, if_neg he]
          by_cases hc : c ≤ R
          · rw [if_pos (show d2 ≠ -2 ∧ c ≤ R from ⟨by omega, hc⟩)]
            by_cases hA : p ≠ -2 ∧ c ≤ R
            · rw [if_pos hA, if_pos ⟨hk, by simp⟩]; simp
            · rw [if_neg hA, if_pos ⟨hk, by simp; omega⟩]; simp
          · rw [if_neg (show ¬ (p ≠ -2 ∧ c ≤ R) from fun z => hc z.2), if_neg (show ¬ (d2 ≠ -2 ∧ c ≤ R) from fun z => hc z.2), if_neg (fun z => hc (by have := z.2; simp at this; omega))]
    | true =>
      rw [if_neg (show ¬ (d1 = k ∧ true = false) from fun z => by cases z.2), if_pos (show d1 = k ∧ true = true from ⟨hk, rfl⟩)]
      by_cases hc : e ≤ R
      · rw [if_pos (show d2 ≠ -2 ∧ e ≤ R from ⟨by omega, hc⟩)]
        by_cases hB : m ≠ -2 ∧ e ≤ R
        · rw [if_pos hB, if_pos ⟨hk, by simp⟩]; simp
        · rw [if_neg hB]
          by_cases he : 0 ≤ e
          · rw [if_pos he, if_pos ⟨hk, by simp; omega⟩]; simp
          · rw [if_neg he]
            by_cases hA : p ≠ -2 ∧ c ≤ R
            · rw [if_pos hA, if_pos ⟨hk, by simp; omega⟩]; simp
            · rw [if_neg hA, if_pos ⟨hk, by simp; omega⟩]; simp
      · have he : 0 ≤ e := by omega
        rw [if_neg (show ¬ (m ≠ -2 ∧ e ≤ R) from fun z => hc z.2), if_neg (show ¬ (d2 ≠ -2 ∧ e ≤ R) from fun z => hc z.2), if_pos he, if_neg (fun z => hc (by have := z.2; simp at this; omega))]
  · rw [if_neg (show ¬ (d1 = k ∧ d3 = false) from fun z => hk z.1), if_neg (show ¬ (d1 = k ∧ d3 = true) from fun z => hk z.1)]
    exact if_neg (fun z => hk z.1)
/-- a rule's declarations, one by one -/
theorem kst_D {s : GS} (hs : okG s) {R : Int} (hR : 0 ≤ R ∧ R < 100000) (k : Nat) : ∀ D : List (Nat × Int × Bool), (∀ d ∈ D, 0 ≤ d.2.1) → ∀ f : VF, (f.1 k = -2 ∨ 0 ≤ f.1 k) → (f.2 k = -2 ∨ 0 ≤ f.2 k) → D.foldl (kst k R) (kvG (upG s R (f.1 k) (f.2 k))) = kvG (upG s R ((D.foldl (fun f d => vfS f (some d)) f).1 k) ((D.foldl (fun f d => vfS f (some d)) f).2 k)) ∧ ((D.foldl (fun f d => vfS f (some d)) f).1 k = -2 ∨ 0 ≤ (D.foldl (fun f d => vfS f (some d)) f).1 k) ∧ ((D.foldl (fun f d => vfS f (some d)) f).2 k = -2 ∨ 0 ≤ (D.foldl (fun f d => vfS f (some d)) f).2 k)
  | [], _, f, h1, h2 => ⟨rfl, h1, h2⟩
  | d :: D, hD, f, h1, h2 => by
    have hd := hD d (by simp)
    rw [List.foldl_cons, List.foldl_cons, kst_up hs hR h1 h2 d hd]
    have e1 : (if d.1 = k ∧ d.2.2 = false then d.2.1 else f.1 k) = (vfS f (some d)).1 k := by
      obtain ⟨d1, d2, d3⟩ := d
      unfold vfS
      cases d3 with
      | false =>
        show _ = va_up f.1 d1 d2 k
        by_cases z : d1 = k
        · rw [if_pos ⟨z, rfl⟩, z, va_up_s]
        · rw [if_neg (fun y => z y.1), va_up_n _ _ _ _ (fun y => z y.symm)]
      | true => rw [if_neg (fun y => by cases y.2)]; rfl
    have e2 : (if d.1 = k ∧ d.2.2 = true then d.2.1 else f.2 k) = (vfS f (some d)).2 k := by
      obtain ⟨d1, d2, d3⟩ := d
      unfold vfS
      cases d3 with
      | true =>
        show _ = va_up f.2 d1 d2 k
        by_cases z : d1 = k
        · rw [if_pos ⟨z, rfl⟩, z, va_up_s]
        · rw [if_neg (fun y => z y.1), va_up_n _ _ _ _ (fun y => z y.symm)]
      | false => rw [if_neg (fun y => by cases y.2)]; rfl
    rw [e1, e2]
    refine kst_D hs hR k D (fun y hy => hD y (by simp [hy])) (vfS f (some d)) ?_ ?_
    · rw [← e1]; split
      · exact Or.inr hd
      · exact h1
    · rw [← e2]; split
      · exact Or.inr hd
      · exact h2
