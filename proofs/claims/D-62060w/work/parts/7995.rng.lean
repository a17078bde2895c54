/-! the values' ranges -/
set_option maxRecDepth 100000
def okV (k : Nat) (v : Int) : Prop := 0 ≤ v ∧ (k = 3 → v = 98 ∨ v = 105 ∨ v = 110) ∧ (k = 2 → 1 ≤ v ∧ v ≤ 9) ∧ (k ≤ 1 → v ≤ 9) ∧ (k ≠ 3 → v ≤ 99)
theorem decV_ok {k : Int} {v : List Int} {y : Int} (hk : 0 ≤ k) (h : decV k v = some y) : okV k.toNat y := by
  unfold decV at h
  unfold okV
  split at h
  · split at h
    · split at h
      · cases h; omega
      · cases h
    · cases h
  · split at h
    · split at h
      · cases h; omega
      · cases h
    · split at h
      · cases h; omega
      · cases h
    · cases h
theorem decE_ok {e : List Int} {k : Nat} {v : Int} (h : decE e = some (k, v)) : okV k v := by
  unfold decE at h
  match e, h with
  | [], h => cases h
  | [_], h => cases h
  | p :: q :: vv, h =>
    simp only [] at h
    split at h
    · cases h
    · rename_i hn
      cases hv : decV (ixT 7 p) vv with
      | none => rw [hv] at h; cases h
      | some y =>
        rw [hv] at h
        cases h
        exact decV_ok (by omega) hv
theorem dec_ok {d : List Int} {k : Nat} {v : Int} {s : Bool} (h : dec d = some (k, v, s)) : okV k v := by
  unfold dec at h
  split at h
  · cases hv : decE d.dropLast with
    | none => rw [hv] at h; cases h
    | some y => rw [hv] at h; cases h; exact decE_ok hv
  · cases hv : decE d with
    | none => rw [hv] at h; cases h
    | some y => rw [hv] at h; cases h; exact decE_ok hv
theorem bodyD_ok (b : List Int) : ∀ d ∈ bodyD b, okV d.1 d.2.1 := by
  have key : ∀ (l w : List Int) (D : List (Nat × Int × Bool)), (∀ d ∈ D, okV d.1 d.2.1) → ∀ d ∈ (l.foldl bsD (w, D)).2, okV d.1 d.2.1 := by
    intro l
    induction l with
    | nil => intro w D h; exact h
    | cons c l ih =>
      intro w D h
      rw [List.foldl_cons]
      refine ih (bsD (w, D) c).1 (bsD (w, D) c).2 ?_
      unfold bsD
      split
      · intro d hd
        rcases List.mem_append.mp hd with z | z
        · exact h d z
        · cases hw : dec w with
          | none => rw [hw] at z; cases z
          | some q =>
            rw [hw] at z
            rw [List.mem_singleton.mp z]
            obtain ⟨k, v, s⟩ := q
            exact dec_ok hw
      · split <;> exact h
  exact key _ _ _ (by simp)
def okW (k : Nat) (v : Int) : Prop := v = -2 ∨ okV k v
def okRV (r : RL) : Prop := ∀ k, okW k (r.2.2.1 k) ∧ okW k (r.2.2.2 k)
theorem vfD_okV (D : List (Nat × Int × Bool)) (hD : ∀ d ∈ D, okV d.1 d.2.1) : ∀ f : VF, (∀ k, okW k (f.1 k) ∧ okW k (f.2 k)) → ∀ k, okW k ((D.foldl (fun f d => vfS f (some d)) f).1 k) ∧ okW k ((D.foldl (fun f d => vfS f (some d)) f).2 k) := by
  induction D with
  | nil => intro f hf; exact hf
  | cons d D ih =>
    intro f hf
    rw [List.foldl_cons]
    refine ih (fun y hy => hD y (by simp [hy])) _ ?_
    have hd := hD d (by simp)
    obtain ⟨d1, d2, d3⟩ := d
    intro k
    cases d3 with
    | false =>
      have e1 : (vfS f (some (d1, d2, false))).1 = va_up f.1 d1 d2 := rfl
      have e2 : (vfS f (some (d1, d2, false))).2 = f.2 := rfl
      rw [e1, e2]
      refine ⟨?_, (hf k).2⟩
      by_cases z : k = d1
      · rw [z, va_up_s]; exact Or.inr hd
      · rw [va_up_n _ _ _ _ z]; exact (hf k).1
    | true =>
      have e1 : (vfS f (some (d1, d2, true))).2 = va_up f.2 d1 d2 := rfl
      have e2 : (vfS f (some (d1, d2, true))).1 = f.1 := rfl
      rw [e1, e2]
      refine ⟨(hf k).1, ?_⟩
      by_cases z : k = d1
      · rw [z, va_up_s]; exact Or.inr hd
      · rw [va_up_n _ _ _ _ z]; exact (hf k).2
theorem rlE_okV (w : List Int) (e : RE) : okRV (rlE w e) := by
  have hb : (rlE w e).2.2 = vfD (bodyD (slc w e.2.2.1 e.2.2.2)) := body_vd _
  unfold okRV
  rw [hb]
  exact vfD_okV _ (bodyD_ok _) vf0 (fun k => ⟨Or.inl rfl, Or.inl rfl⟩)
section MY
variable {T : TS} {rs : List RL}
theorem giv_okW {fit : RL → Bool} {k : Nat} (hrs : ∀ r ∈ rs, okRV r) : okW k (giv fit k rs) := by
  have key : ∀ (rs : List RL) (s : GS), (∀ r ∈ rs, okRV r) → okW k s.1 → okW k s.2.1 → okW k (rs.foldl (gst fit k) s).1 ∧ okW k (rs.foldl (gst fit k) s).2.1 := by
    intro rs
    induction rs with
    | nil => intro s _ h1 h2; exact ⟨h1, h2⟩
    | cons r rs ih =>
      intro s h h1 h2
      rw [List.foldl_cons]
      have hr := h r (by simp) k
      have hg : okW k (gst fit k s r).1 ∧ okW k (gst fit k s r).2.1 := by
        cases hf : fit r with
        | true =>
          rw [gst_up hf]
          unfold upG
          constructor
          · show okW k (if r.2.2.1 k ≠ -2 ∧ s.2.2.1 ≤ r.2.1 then r.2.2.1 k else s.1)
            by_cases z : r.2.2.1 k ≠ -2 ∧ s.2.2.1 ≤ r.2.1
            · rw [if_pos z]; exact hr.1
            · rw [if_neg z]; exact h1
          · show okW k (if r.2.2.2 k ≠ -2 ∧ s.2.2.2 ≤ r.2.1 then r.2.2.2 k else s.2.1)
            by_cases z : r.2.2.2 k ≠ -2 ∧ s.2.2.2 ≤ r.2.1
            · rw [if_pos z]; exact hr.2
            · rw [if_neg z]; exact h2
        | false =>
          have : gst fit k s r = s := by unfold gst; rw [hf, Bool.and_false, if_neg (by simp)]
          rw [this]; exact ⟨h1, h2⟩
      exact ih _ (fun y hy => h y (by simp [hy])) hg.1 hg.2
  obtain ⟨k1, k2⟩ := key rs (-2, -2, -1, -1) hrs (Or.inl rfl) (Or.inl rfl)
  unfold giv
  split
  · exact k2
  · exact k1
theorem giv_no {fit : RL → Bool} {k : Nat} (hrs : ∀ r ∈ rs, fit r = false) : giv fit k rs = -2 := by
  have key : ∀ (rs : List RL) (s : GS), (∀ r ∈ rs, fit r = false) → rs.foldl (gst fit k) s = s := by
    intro rs
    induction rs with
    | nil => intro s _; rfl
    | cons r rs ih =>
      intro s h
      rw [List.foldl_cons]
      have : gst fit k s r = s := by unfold gst; rw [h r (by simp), Bool.and_false, if_neg (by simp)]
      rw [this]
      exact ih s (fun y hy => h y (by simp [hy]))
  unfold giv
  rw [key rs _ hrs, if_neg (by simp)]
theorem gvm_root (h0 : tM T 0 = 0) (k : Nat) (hok : ∀ r ∈ rs, okR2 r) : gvm T rs k 0 = -2 := by
  unfold gvm
  rw [if_neg (by omega)]
  refine giv_no (fun r hr => ?_)
  have hne := (hok r hr).2.2.1
  have hp : ∀ p : PT, ptFit T p 0 = false := fun p => by unfold ptFit; simp [h0]
  cases hl : r.1.reverse with
  | nil => exact (hne (by simpa using hl)).elim
  | cons p q =>
    cases q with
    | nil => unfold fitR; exact hp p
    | cons q l => unfold fitR; rw [hp p]; rfl
/-- the values' ranges -/
def okX (T : TS) (k i : Nat) (v : Int) : Prop := ((k = 6 ∧ v = -1) ∨ okV k v) ∧ (k = 3 → isTC (tM T i) = true → v ≠ 105)
theorem valR_ok (hrs : ∀ r ∈ rs, okRV r) {k i : Nat} {pv : Int} (hp : i ≠ 0 → k = 0 ∨ k = 2 → okV k pv) : okX T k i (valR T rs k i pv) := by
  have hg : okW k (gvm T rs k i) := by
    unfold gvm
    split
    · exact Or.inl rfl
    · exact giv_okW hrs
  have hi : (k = 6 ∧ iniV T k i pv = -1) ∨ okV k (iniV T k i pv) := by
    unfold iniV
    by_cases h1 : k = 0 ∨ k = 2
    · rw [if_pos h1]
      by_cases h2 : i = 0
      · rw [if_pos h2]; right; unfold okV; omega
      · rw [if_neg h2]; exact Or.inr (hp h2 h1)
    · rw [if_neg h1]
      by_cases h3 : k = 3
      · rw [if_pos h3]; right; unfold okV; split <;> omega
      · rw [if_neg h3]
        by_cases h6 : k = 6
        · rw [if_pos h6]; exact Or.inl ⟨h6, rfl⟩
        · rw [if_neg h6]; right; unfold okV; omega
  have hr : (k = 6 ∧ rawV T rs k i pv = -1) ∨ okV k (rawV T rs k i pv) := by
    unfold rawV
    split
    · exact hi
    · rename_i hn
      rcases hg with z | z
      · exact (hn z).elim
      · exact Or.inr z
  unfold valR
  by_cases hc : k = 3 ∧ isTC (tM T i) = true ∧ rawV T rs k i pv = 105
  · rw [if_pos hc]
    refine ⟨Or.inr ?_, fun _ _ => by omega⟩
    unfold okV; omega
  · rw [if_neg hc]
    exact ⟨hr, fun h1 h2 h3 => hc ⟨h1, h2, h3⟩⟩
theorem val_ok (hW : WF T) (hrs : ∀ r ∈ rs, okRV r) (k : Nat) : ∀ (d i : Nat), i < tN T → tD T i = d → okX T k i (val T rs k i) := by
  intro d
  induction d with
  | zero =>
    intro i hi hd
    obtain ⟨pv, e1, e2⟩ := val_e (rs := rs) hW k hi
    rw [e1]
    refine valR_ok hrs (fun h0 _ => ?_)
    have := (hW.1.2.2.2.2.1.dpos (hW.full hi) h0).1
    omega
  | succ d ih =>
    intro i hi hd
    obtain ⟨pv, e1, e2⟩ := val_e (rs := rs) hW k hi
    rw [e1]
    refine valR_ok hrs (fun h0 hk => ?_)
    have := (hW.1.2.2.2.2.1.dpos (hW.full hi) h0).2.2
    rw [e2 h0]
    rcases (ih (tP T i) (hW.par hi) (by omega)).1 with z | z
    · omega
    · exact z
theorem val_root (hW : WF T) (hok : ∀ r ∈ rs, okR2 r) (k : Nat) : val T rs k 0 = if k = 0 ∨ k = 2 then 1 else if k = 3 then 98 else if k = 6 then -1 else 0 := by
  have h0 := hW.2.1.1
  rw [val_0 hW]
  have hr : rawV T rs k 0 0 = if k = 0 ∨ k = 2 then 1 else if k = 3 then 98 else if k = 6 then -1 else 0 := by
    unfold rawV
    rw [if_pos (gvm_root h0 k hok)]
    unfold iniV
    rw [if_pos rfl, if_pos (Or.inl rfl)]
  unfold valR
  rw [if_neg, hr]
  intro z
  rw [h0] at z
  have := z.2.1
  revert this
  decide
end MY
