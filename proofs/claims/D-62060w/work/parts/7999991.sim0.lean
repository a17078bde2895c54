/-! what the parts of a run of calls stand on -/
set_option maxRecDepth 100000
theorem selR_ok : ∀ (n : Nat) (d : Int) (l : List Int) (ps : List PT), d = 0 ∨ d = 1 → selR n d l = some ps → ps ≠ [] ∧ ps.length ≤ n ∧ ∀ p ∈ ps, p.2.2 = 0 ∨ p.2.2 = 1
  | 0, d, l, ps, hd, h => by cases h
  | n + 1, d, l, ps, hd, h => by
    have one : ∀ p ∈ [(ptL l, ptC l, d)], p.2.2 = 0 ∨ p.2.2 = 1 := fun p hp => by
      rw [List.mem_singleton.mp hp]; exact hd
    have more : ∀ (d' : Int) (l' : List Int), d' = 0 ∨ d' = 1 → (selR n d' l').map (fun r => (ptL l, ptC l, d) :: r) = some ps → ps ≠ [] ∧ ps.length ≤ n + 1 ∧ ∀ p ∈ ps, p.2.2 = 0 ∨ p.2.2 = 1 := fun d' l' hd' e => by
      cases hs : selR n d' l' with
      | none => rw [hs] at e; cases e
      | some r =>
        rw [hs] at e
        cases e
        obtain ⟨i1, i2, i3⟩ := selR_ok n d' l' r hd' hs
        refine ⟨by simp, by simp; exact i2, fun p hp => ?_⟩
        rcases List.mem_cons.mp hp with z | z
        · rw [z]; exact hd
        · exact i3 p z
    unfold selR at h
    split at h
    · cases h
    · split at h
      · cases h
        exact ⟨by simp, by simp, one⟩
      · split at h
        · exact more 1 _ (Or.inr rfl) h
        · split at h
          · cases h
          · exact more 0 _ (Or.inl rfl) h
section S0
variable {M : MS} {T : TS} {w : List Int} {C : List (Int × Nat)} {rs : List RL}
theorem rules_ok (hY : StyM M w) : (∀ r ∈ (rulE w).map (rlE w), okR2 r) ∧ (∀ r ∈ (rulE w).map (rlE w), okRV r) ∧ ((rulE w).map (rlE w)).length ≤ 12 ∧ (w.foldl cx cx0).1 = (rulE w).map (rlE w) := by
  obtain ⟨k1, k2, k3⟩ := rulE_ok hY
  refine ⟨fun r hr => ?_, fun r hr => ?_, by rw [List.length_map]; exact (rul_cx w).2, (rul_cx w).1⟩
  · obtain ⟨e, he, rfl⟩ := List.mem_map.mp hr
    have hs := selR_ok 4 0 (bl e.2.1) e.1 (Or.inl rfl) (k3 e he)
    have hE := k2 e he
    refine ⟨rlE_ok w e, ?_, hs.1, hs.2.1, fun p hp => ⟨(k1 e he p hp).1, hs.2.2 p hp⟩⟩
    show wt e.2.1 ≤ 10000
    rw [wt_c]
    unfold okE at hE
    omega
  · obtain ⟨e, he, rfl⟩ := List.mem_map.mp hr
    exact rlE_okV w e
theorem tx_ok (hT : TC T) : txOK T := fun p k hp hk => by
  have := hT.2 (ioP T p) ((txP T p).getD k 0) (by rw [gD hk]; exact List.getElem_mem _)
  exact this
theorem filt_or {α : Type} (P Q : α → Bool) (hd : ∀ x, ¬ (P x = true ∧ Q x = true)) : ∀ l : List α, (l.filter (fun x => P x || Q x)).length = (l.filter P).length + (l.filter Q).length
  | [] => rfl
  | x :: l => by
    have ih := filt_or P Q hd l
    cases hp : P x with
    | true =>
      have hq : Q x = false := by
        cases z : Q x with
        | false => rfl
        | true => exact (hd x ⟨hp, z⟩).elim
      rw [List.filter_cons_of_pos (by simp [hp]), List.filter_cons_of_pos hp, List.filter_cons_of_neg (by simp [hq]), List.length_cons, List.length_cons, ih]
      omega
    | false =>
      cases hq : Q x with
      | true =>
        rw [List.filter_cons_of_pos (by simp [hq]), List.filter_cons_of_neg (by simp [hp]), List.filter_cons_of_pos hq, List.length_cons, List.length_cons, ih]
        omega
      | false =>
        rw [List.filter_cons_of_neg (by simp [hp, hq]), List.filter_cons_of_neg (by simp [hp]), List.filter_cons_of_neg (by simp [hq]), ih]
theorem isP_b (hC : ChM M T C) (hW : WF T) : isP T (tN T) ≤ 183 := by
  have h24 := hW.1.2.1
  have h160 := hC.2.1
  have key : ∀ s, s ≤ tN T → isP T s ≤ ((List.range C.length).filter (fun c => decide (seat T (C.getD c (0, 0)).2 < s))).length + (s - 1) := by
    intro s
    induction s with
    | zero => intro _; exact Nat.zero_le _
    | succ s ih =>
      intro hs
      have i1 := ih (by omega)
      have e1 : isP T (s + 1) = isP T s + (itQ T s).length := rfl
      have hlt : ∀ c ∈ List.range C.length, (C.getD c (0, 0)).2 < tN T := fun c hc => by
        have := List.mem_range.mp hc
        rw [gD this]; exact hC.2.2.2.1 _ (List.getElem_mem _)
      have e2 : (List.range C.length).filter (fun c => decide (seat T (C.getD c (0, 0)).2 < s + 1)) = (List.range C.length).filter (fun c => decide (seat T (C.getD c (0, 0)).2 < s) || decide ((C.getD c (0, 0)).2 = ioP T s)) := by
        refine List.filter_congr (fun c hc => ?_)
        have hl := hlt c hc
        have h3 := io_seat hW hl
        by_cases z : (C.getD c (0, 0)).2 = ioP T s
        · have : seat T (C.getD c (0, 0)).2 = s := by rw [z]; exact seat_io hW (by omega)
          rw [decide_eq_true z, Bool.or_true, decide_eq_true (by omega)]
        · have hne : seat T (C.getD c (0, 0)).2 ≠ s := fun q => z (by rw [← q]; exact h3.1.symm)
          rw [decide_eq_false z, Bool.or_false]
          by_cases q : seat T (C.getD c (0, 0)).2 < s
          · rw [decide_eq_true q, decide_eq_true (by omega)]
          · rw [decide_eq_false q, decide_eq_false (by omega)]
      have e3 := filt_or (fun c => decide (seat T (C.getD c (0, 0)).2 < s)) (fun c => decide ((C.getD c (0, 0)).2 = ioP T s)) (fun c z => by
        have z1 : seat T (C.getD c (0, 0)).2 < s := by simpa using z.1
        have z2 : (C.getD c (0, 0)).2 = ioP T s := by simpa using z.2
        rw [z2, seat_io hW (by omega)] at z1
        omega) (List.range C.length)
      have e4 : ((List.range C.length).filter (fun c => decide ((C.getD c (0, 0)).2 = ioP T s))).length = (txP T s).length := cIx_len hC s
      rw [e2, e3, e4, e1]
      have hit : (itQ T s).length ≤ (txP T s).length + (if s = 0 then 0 else 1) := by
        unfold itQ
        by_cases h1 : nmQ T s = 1
        · rw [if_pos h1]; simp
        · rw [if_neg h1]
          by_cases h2 : nmQ T s = 107
          · rw [if_pos h2]
            have : s ≠ 0 := fun z => by rw [z, nm_0 hW] at h2; omega
            rw [if_neg this]; simp
          · rw [if_neg h2]; simp
      by_cases h0 : s = 0
      · rw [if_pos h0] at hit
        omega
      · rw [if_neg h0] at hit
        omega
  have h1 := key (tN T) (Nat.le_refl _)
  have h2 : ((List.range C.length).filter (fun c => decide (seat T (C.getD c (0, 0)).2 < tN T))).length ≤ C.length := Nat.le_trans (List.length_filter_le _ _) (by simp)
  omega
end S0
