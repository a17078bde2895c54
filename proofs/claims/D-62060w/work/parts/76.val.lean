/-! values, plainly; the reference works them out -/
set_option maxRecDepth 100000
def isTC (x : Int) : Bool := [116, 114, 99].contains x
def isBl (x : Int) : Bool := [112, 100, 117, 108, 104, 116, 114, 99].contains x
def gvm (T : TS) (rs : List RL) (k i : Nat) : Int := if tM T i = 1 then -2 else giv (fun r => fitR T r.1.reverse i) k rs
def iniV (T : TS) (k i : Nat) (pv : Int) : Int := if k = 0 ∨ k = 2 then (if i = 0 then 1 else pv) else if k = 3 then (if i = 0 ∨ isBl (tM T i) = true then 98 else 105) else if k = 6 then -1 else 0
def rawV (T : TS) (rs : List RL) (k i : Nat) (pv : Int) : Int := if gvm T rs k i = -2 then iniV T k i pv else gvm T rs k i
def valR (T : TS) (rs : List RL) (k i : Nat) (pv : Int) : Int := if k = 3 ∧ isTC (tM T i) = true ∧ rawV T rs k i pv = 105 then 98 else rawV T rs k i pv
def valF (T : TS) (rs : List RL) (k : Nat) : Nat → Nat → Int
  | 0, i => valR T rs k i 0
  | n + 1, i => valR T rs k i (valF T rs k n (tP T i))
def val (T : TS) (rs : List RL) (k i : Nat) : Int := valF T rs k (tD T i) i
theorem mk_tc : MK 655364 [116, 114, 99] := by unfold MK; decide +kernel
section MY
variable {M M' M'' : MS} {T : TS} {w e : List Int} {st : Nat → Nat → KV} {rs : List RL}
theorem val_s (hW : WF T) (k : Nat) {i : Nat} (hi : i < tN T) (h0 : i ≠ 0) : val T rs k i = valR T rs k i (val T rs k (tP T i)) := by
  have hd := (hW.1.2.2.2.2.1.dpos (hW.full hi) h0).2.2
  unfold val
  rw [← hd, valF]
theorem val_0 (hW : WF T) (k : Nat) : val T rs k 0 = valR T rs k 0 0 := by
  unfold val
  rw [hW.1.2.2.2.2.1.2.2.1, valF]
theorem val_e (hW : WF T) (k : Nat) {i : Nat} (hi : i < tN T) : ∃ pv, val T rs k i = valR T rs k i pv ∧ (i ≠ 0 → pv = val T rs k (tP T i)) := by
  by_cases e : i = 0
  · exact ⟨0, by rw [e]; exact val_0 hW k, fun z => (z e).elim⟩
  · exact ⟨_, val_s hW k hi e, fun _ => rfl⟩
def okRL (r : RL) : Prop := 0 ≤ r.2.1 ∧ ∀ k, (r.2.2.1 k = -2 ∨ 0 ≤ r.2.2.1 k ∧ r.2.2.1 k ≤ 200) ∧ (r.2.2.2 k = -2 ∨ 0 ≤ r.2.2.2 k ∧ r.2.2.2 k ≤ 200)
theorem vfS_ok {f : VF} {d : Nat × Int × Bool} (hf : ∀ k, (f.1 k = -2 ∨ 0 ≤ f.1 k ∧ f.1 k ≤ 200) ∧ (f.2 k = -2 ∨ 0 ≤ f.2 k ∧ f.2 k ≤ 200)) (hd : 0 ≤ d.2.1 ∧ d.2.1 ≤ 200) : ∀ k, ((vfS f (some d)).1 k = -2 ∨ 0 ≤ (vfS f (some d)).1 k ∧ (vfS f (some d)).1 k ≤ 200) ∧ ((vfS f (some d)).2 k = -2 ∨ 0 ≤ (vfS f (some d)).2 k ∧ (vfS f (some d)).2 k ≤ 200) := by
  obtain ⟨d1, d2, d3⟩ := d
  intro k
  cases d3 with
  | false =>
    have e1 : (vfS f (some (d1, d2, false))).1 = va_up f.1 d1 d2 := rfl
    have e2 : (vfS f (some (d1, d2, false))).2 = f.2 := rfl
    rw [e1, e2]
    refine ⟨?_, (hf k).2⟩
    by_cases z : k = d1
    · rw [z, va_up_s]; exact Or.inr hd
    · rw [va_up_n _ _ _ _ z]; exact (hf k).1
  | true =>
    have e1 : (vfS f (some (d1, d2, true))).2 = va_up f.2 d1 d2 := rfl
    have e2 : (vfS f (some (d1, d2, true))).1 = f.1 := rfl
    rw [e1, e2]
    refine ⟨(hf k).1, ?_⟩
    by_cases z : k = d1
    · rw [z, va_up_s]; exact Or.inr hd
    · rw [va_up_n _ _ _ _ z]; exact (hf k).2
theorem vfD_ok (D : List (Nat × Int × Bool)) (hD : ∀ d ∈ D, 0 ≤ d.2.1 ∧ d.2.1 ≤ 200) : ∀ f : VF, (∀ k, (f.1 k = -2 ∨ 0 ≤ f.1 k ∧ f.1 k ≤ 200) ∧ (f.2 k = -2 ∨ 0 ≤ f.2 k ∧ f.2 k ≤ 200)) → ∀ k, ((D.foldl (fun f d => vfS f (some d)) f).1 k = -2 ∨ 0 ≤ (D.foldl (fun f d => vfS f (some d)) f).1 k ∧ (D.foldl (fun f d => vfS f (some d)) f).1 k ≤ 200) ∧ ((D.foldl (fun f d => vfS f (some d)) f).2 k = -2 ∨ 0 ≤ (D.foldl (fun f d => vfS f (some d)) f).2 k ∧ (D.foldl (fun f d => vfS f (some d)) f).2 k ≤ 200) := by
  induction D with
  | nil => intro f hf; exact hf
  | cons d D ih =>
    intro f hf
    rw [List.foldl_cons]
    exact ih (fun y hy => hD y (by simp [hy])) _ (vfS_ok hf (hD d (by simp)))
theorem rlE_ok (w : List Int) (e : RE) : okRL (rlE w e) := by
  refine ⟨by show 0 ≤ wt e.2.1; rw [wt_c]; omega, ?_⟩
  have hb : (rlE w e).2.2 = vfD (bodyD (slc w e.2.2.1 e.2.2.2)) := body_vd _
  rw [hb]
  have hD := bodyD_v (slc w e.2.2.1 e.2.2.2)
  exact vfD_ok _ (fun d hd => ⟨(hD d hd).1, (hD d hd).2.1⟩) vf0 (fun k => ⟨Or.inl rfl, Or.inl rfl⟩)
theorem giv_rng {fit : RL → Bool} {k : Nat} (hrs : ∀ r ∈ rs, okRL r) : giv fit k rs = -2 ∨ 0 ≤ giv fit k rs ∧ giv fit k rs ≤ 200 := by
  have key : ∀ (rs : List RL) (s : GS), (∀ r ∈ rs, okRL r) → (s.1 = -2 ∨ 0 ≤ s.1 ∧ s.1 ≤ 200) → (s.2.1 = -2 ∨ 0 ≤ s.2.1 ∧ s.2.1 ≤ 200) → ((rs.foldl (gst fit k) s).1 = -2 ∨ 0 ≤ (rs.foldl (gst fit k) s).1 ∧ (rs.foldl (gst fit k) s).1 ≤ 200) ∧ ((rs.foldl (gst fit k) s).2.1 = -2 ∨ 0 ≤ (rs.foldl (gst fit k) s).2.1 ∧ (rs.foldl (gst fit k) s).2.1 ≤ 200) := by
    intro rs
    induction rs with
    | nil => intro s _ h1 h2; exact ⟨h1, h2⟩
    | cons r rs ih =>
      intro s h h1 h2
      rw [List.foldl_cons]
      have hr := (h r (by simp)).2 k
      have hg : ((gst fit k s r).1 = -2 ∨ 0 ≤ (gst fit k s r).1 ∧ (gst fit k s r).1 ≤ 200) ∧ ((gst fit k s r).2.1 = -2 ∨ 0 ≤ (gst fit k s r).2.1 ∧ (gst fit k s r).2.1 ≤ 200) := by
        cases hf : fit r with
        | true =>
          rw [gst_up hf]
          unfold upG
          constructor
          · show (if r.2.2.1 k ≠ -2 ∧ s.2.2.1 ≤ r.2.1 then r.2.2.1 k else s.1) = -2 ∨ _
            by_cases z : r.2.2.1 k ≠ -2 ∧ s.2.2.1 ≤ r.2.1
            · rw [if_pos z]; exact hr.1
            · rw [if_neg z]; exact h1
          · show (if r.2.2.2 k ≠ -2 ∧ s.2.2.2 ≤ r.2.1 then r.2.2.2 k else s.2.1) = -2 ∨ _
            by_cases z : r.2.2.2 k ≠ -2 ∧ s.2.2.2 ≤ r.2.1
            · rw [if_pos z]; exact hr.2
            · rw [if_neg z]; exact h2
        | false =>
          have : gst fit k s r = s := by unfold gst; rw [hf, Bool.and_false, if_neg (by simp)]
          rw [this]; exact ⟨h1, h2⟩
      exact ih _ (fun y hy => h y (by simp [hy])) hg.1 hg.2
  obtain ⟨k1, k2⟩ := key rs (-2, -2, -1, -1) hrs (Or.inl rfl) (Or.inl rfl)
  unfold giv
  split
  · exact k2
  · exact k1
theorem valR_rng (hrs : ∀ r ∈ rs, okRL r) (k i : Nat) {pv : Int} (hp : -1 ≤ pv ∧ pv ≤ 200) : -1 ≤ valR T rs k i pv ∧ valR T rs k i pv ≤ 200 := by
  have hg : gvm T rs k i = -2 ∨ 0 ≤ gvm T rs k i ∧ gvm T rs k i ≤ 200 := by
    unfold gvm
    split
    · exact Or.inl rfl
    · exact giv_rng hrs
  have hi : -1 ≤ iniV T k i pv ∧ iniV T k i pv ≤ 200 := by
    unfold iniV
    split
    · split <;> omega
    · split
      · split <;> omega
      · split <;> omega
  have hr : -1 ≤ rawV T rs k i pv ∧ rawV T rs k i pv ≤ 200 := by
    unfold rawV
    split <;> omega
  unfold valR
  split
  · omega
  · exact hr
theorem val_rng (hW : WF T) (hrs : ∀ r ∈ rs, okRL r) (k : Nat) : ∀ (n i : Nat), -1 ≤ valF T rs k n i ∧ valF T rs k n i ≤ 200 := by
  intro n
  induction n with
  | zero => intro i; exact valR_rng hrs k i (by omega)
  | succ n ih => intro i; exact valR_rng hrs k i (ih _)
end MY
