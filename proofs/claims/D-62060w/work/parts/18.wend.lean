/-! end tags keep it -/
set_option maxRecDepth 100000
section WE
variable {T : TS}
theorem WF.wdrop (h : WF T) (o k : Nat) : WF (setL T (va_up (tL T) o ((tL T o).take k ++ (tL T o).drop (k + 1)))) := by
  have hs : ∀ j, j ∈ (tL T o).take k ++ (tL T o).drop (k + 1) → j ∈ tL T o := fun j hj => by
    rcases List.mem_append.mp hj with z | z
    · exact List.mem_of_mem_take z
    · exact List.mem_of_mem_drop z
  refine h.wsetL (fun o' j hj => ?_) (fun o' => ?_) (fun j hj => ?_)
  · by_cases e : o' = o
    · rw [e, va_up_s] at hj
      exact h.2.2.2.1 o j (hs j hj)
    · rw [va_up_n _ _ _ _ e] at hj
      exact h.2.2.2.1 o' j hj
  · by_cases e : o' = o
    · rw [e, va_up_s]
      have := h.2.2.2.2.1 o
      simp
      omega
    · rw [va_up_n _ _ _ _ e]; exact h.2.2.2.2.1 o'
  · by_cases e : j = o
    · rw [e, va_up_s]
      have := (h.2.2.2.2.2 o (by omega)).1
      rw [this]; simp
    · rw [va_up_n _ _ _ _ e]
      exact (h.2.2.2.2.2 j hj).1
/-- the first of the stack's places with f, above e -/
theorem filt_head {n : Nat} {f : Nat → Bool} (h : (List.range n).filter f ≠ []) : ((List.range n).filter f).headD 0 < n ∧ f (((List.range n).filter f).headD 0) = true ∧ ∀ j, j < ((List.range n).filter f).headD 0 → f j = false := by
  obtain ⟨b, r, e⟩ : ∃ b r, (List.range n).filter f = b :: r := by
    cases hb : (List.range n).filter f with
    | nil => exact (h hb).elim
    | cons b r => exact ⟨b, r, rfl⟩
  rw [e]
  show b < n ∧ f b = true ∧ ∀ j, j < b → f j = false
  have hm : b ∈ (List.range n).filter f := by rw [e]; simp
  have hm' := List.mem_filter.mp hm
  have hbn : b < n := List.mem_range.mp hm'.1
  refine ⟨hbn, hm'.2, fun j hj => ?_⟩
  cases hf : f j with
  | false => rfl
  | true =>
    have hj2 : j ∈ (List.range n).filter f := List.mem_filter.mpr ⟨List.mem_range.mpr (by omega), hf⟩
    have hp : List.Pairwise (· < ·) ((List.range n).filter f) := List.Pairwise.filter _ List.pairwise_lt_range
    rw [e] at hj2 hp
    rcases List.mem_cons.mp hj2 with z | z
    · omega
    · have := (List.pairwise_cons.mp hp).1 j z
      omega
/-- what stands before an adoption -/
theorem fmt_ad (h : WF T) {k : Nat} (hk : k < (tL T (ownr T)).length) (hm : (tL T (ownr T)).getD k 0 ∈ tS T) (ht : lastB (fun j => decide ((tS T).idxOf ((tL T (ownr T)).getD k 0) < j) && decide (sNm T j = 116)) (tS T).length = 0) (hb : (List.range (tS T).length).filter (fun j => decide ((tS T).idxOf ((tL T (ownr T)).getD k 0) < j) && isBlk (sNm T j)) ≠ []) :
    AdOK T ((tS T).idxOf ((tL T (ownr T)).getD k 0)) (((List.range (tS T).length).filter (fun j => decide ((tS T).idxOf ((tL T (ownr T)).getD k 0) < j) && isBlk (sNm T j))).headD 0) ((tL T (ownr T)).getD k 0) := by
  have hl : (tL T (ownr T)).getD k 0 ∈ tL T (ownr T) := by rw [gD hk]; exact List.getElem_mem _
  have hf := (h.2.2.2.1 _ _ hl).2
  generalize hid : (tL T (ownr T)).getD k 0 = id at *
  have hidx := List.idxOf_lt_length_of_mem hm
  have hat : (tS T).getD ((tS T).idxOf id) 0 = id := (idx_iff h.2.2.1.2.1 hm hidx).mpr rfl
  obtain ⟨b1, b2, b3⟩ := filt_head hb
  simp only [Bool.and_eq_true, decide_eq_true_eq] at b2
  refine ⟨?_, b2.1, b1, hat, hf, fun j j1 j2 => ?_, b2.2⟩
  · by_cases z : (tS T).idxOf id = 0
    · rw [z] at hat
      obtain ⟨r, hr⟩ := h.2.2.1.1
      rw [hr] at hat
      have : id = 0 := hat.symm
      rw [this, h.2.1.1] at hf
      exact absurd hf (by decide)
    · omega
  · intro q
    have := lastB_max _ _ j (by rw [ht]; omega) j2
    simp [j1, q] at this
theorem AdOK_setL {l : Nat → List Nat} {e b id : Nat} (h : AdOK T e b id) : AdOK (setL T l) e b id := h
theorem WF.wfmt (h : WF T) {k : Nat} (hk : k < (tL T (ownr T)).length) {T' : TS} (e : tFmt T k = some T') : WF T' := by
  unfold tFmt at e
  simp only [] at e
  have h1 := h.wdrop (ownr T) k
  split at e
  · next hm =>
    split at e
    · cases e; exact h
    · next ht =>
      split at e
      · cases e; exact h1.wcls _
      · next hb =>
        exact h1.adopt (AdOK_setL (fmt_ad h hk hm (by simpa using ht) hb)) e
  · cases e; exact h1
theorem WF.wend (h : WF T) {x : Int} {T' : TS} (e : tEnd x T = some T') : WF T' := by
  unfold tEnd at e
  split at e
  · split at e
    · by_cases hn : tN T = 24
      · rw [mkN_none hn] at e; cases e
      · rw [mkN_some hn] at e
        cases e
        exact h.mk hn (h.place h.len (Nat.le_refl _)).1 (Or.inr (by omega)) (h.kid h.len (Nat.le_refl _) 112)
    · cases e; exact h.wcls _
  · split at e
    · cases e; exact h.wcls _
    · split at e
      · cases e; exact h.wcls _
      · split at e
        · cases e; exact h.wcls _
        · split at e
          · cases e; exact h.wcls _
          · split at e
            · cases e; exact h.wcls _
            · split at e
              · cases e; exact h
              · simp only [] at e
                split at e
                · next hc =>
                  simp only [Bool.and_eq_true, decide_eq_true_eq] at hc
                  refine h.wfmt ?_ e
                  have := lastB_lt (fun k => decide (1 ≤ k) && decide (tM T ((tL T (ownr T)).getD (k - 1) 0) = x)) ((tL T (ownr T)).length + 1) (by omega)
                  omega
                · cases e; exact h.wcls _
end WE
