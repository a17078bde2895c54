/-! the reference: a run -/
set_option maxRecDepth 100000
def riM (T : TS) (C : List (Int × Nat)) (x : IT) : Int := match x.2 with
  | none => -1 - (x.1 : Int)
  | some k => ((cIx T C x.1 k : Nat) : Int)
def RunM (M : MS) (T : TS) (C : List (Int × Nat)) (R : List IT) : Prop := M.1 52 = (R.length : Int) ∧ ∀ j, j < R.length → M.2 51 j = riM T C (R.getD j (0, none))
/-- only the run changes -/
def FRn (M M' : MS) : Prop := (∀ k, k ≠ 52 → M'.1 k = M.1 k) ∧ ∀ k, k ≠ 51 → M'.2 k = M.2 k
section MR
variable {M M' M1 : MS} {T : TS} {rs : List RL} {C : List (Int × Nat)} {n p k q r j : Nat} {R : List IT} {Wd tl : Nat → Int}
theorem FRn.refl (M : MS) : FRn M M := ⟨fun _ _ => rfl, fun _ _ => rfl⟩
theorem FRn.m (A : FRn M M') : FLm M M' := ⟨fun k hk => A.1 k (fun z => hk (by rw [z]; simp)), fun k hk => A.2 k (by omega)⟩
theorem RunM.add (h : RunM M T C R) (A : FRn M1 M) {x : IT} {v : Int} (hv : v = riM T C x) : RunM (sI (sA M 51 R.length v) 52 ((R.length : Int) + 1)) T C (R ++ [x]) ∧ FRn M1 (sI (sA M 51 R.length v) 52 ((R.length : Int) + 1)) := by
  refine ⟨⟨by rw [sI_s, List.length_append]; simp, fun j hj => ?_⟩, ⟨fun k hk => by rw [sI_n _ _ _ _ hk]; exact A.1 k hk, fun k hk => by rw [sI_2, sA_f _ _ _ _ _ hk]; exact A.2 k hk⟩⟩
  rw [List.length_append] at hj
  rw [sI_2]
  by_cases z : j = R.length
  · rw [z, sA_s, getD_app_r (Nat.le_refl _) (by simp), Nat.sub_self, hv]; rfl
  · have hj' : j < R.length := by simp at hj; omega
    rw [sA_i _ _ _ _ _ z, getD_app_l hj']
    exact h.2 j hj'
theorem cIx_cn (hC : ChM M T C) {c : Nat} (hc : c < C.length) (hi : (C.getD c (0, 0)).2 = ioP T q) : cIx T C q (cnC C (ioP T q) c) = c ∧ cnC C (ioP T q) c < (txP T q).length := by
  have hm : c ∈ csC C (ioP T q) := by
    unfold csC
    rw [List.mem_filter, List.mem_range]
    exact ⟨hc, by simpa using hi⟩
  obtain ⟨k, hk, e⟩ := List.getElem_of_mem hm
  have hk' : k < (txP T q).length := by rw [← cIx_len hC]; exact hk
  have e2 : cIx T C q k = c := by unfold cIx; rw [gD hk, e]
  have := cnC_at hC hk'
  rw [e2] at this
  rw [this]
  exact ⟨e2, hk'⟩
theorem gather_no (hL : LM M T rs C) (hW : WF T) (hq : q < tN T) (hm : nmQ T q ≠ 1) : m_gather_40 M ((ioP T q : Nat) : Int) = some M := by
  have h24 := hW.1.2.1
  have hin := io_lt hW hq
  have hr := nm_rng hW hq
  have h160 := hL.2.2.2.2.1
  unfold m_gather_40 m_gather_42
  refine iter_out ?_
  show m_gather_42s M _ 0 = _
  unfold m_gather_42s
  rw [hL.2.2.2.1]
  by_cases z : C.length = 0
  · rw [if_ltn (by omega) (by omega) (by omega)]
  · rw [if_ltp (by omega) (by omega) (by omega), gd_zin (by omega) (by omega) (by omega), zix_nat (by omega), hL.nm hW hq, if_eqn hm (by omega) (by omega) (by omega) (by omega)]
theorem map_r1 {α : Type} (f : Nat → α) (k : Nat) : (List.range (k + 1)).map f = (List.range k).map f ++ [f k] := by rw [List.range_succ, List.map_append]; rfl
theorem gather_tx (hL : LM M T rs C) (hW : WF T) (hq : q < tN T) (hm : nmQ T q = 1) (hR : RunM M T C R) (hlen : R.length + (itQ T q).length ≤ 200) : ∃ M', m_gather_40 M ((ioP T q : Nat) : Int) = some M' ∧ RunM M' T C (R ++ itQ T q) ∧ FRn M M' := by
  have h24 := hW.1.2.1
  have hin := io_lt hW hq
  have h160 := hL.2.2.2.2.1
  have hit : itQ T q = (List.range (txP T q).length).map (fun k => (q, some k)) := by unfold itQ; rw [if_pos hm]
  have hitl : (itQ T q).length = (txP T q).length := by rw [hit]; simp
  unfold m_gather_40 m_gather_42
  refine loopI (P := fun M' => RunM M' T C (R ++ itQ T q) ∧ FRn M M') (fun c z => z.2 = (c : Int) ∧ RunM z.1 T C (R ++ (List.range (cnC C (ioP T q) c)).map (fun k => (q, some k))) ∧ FRn M z.1) (a := 0) (b := C.length) (by omega) ⟨rfl, ?_, FRn.refl M⟩ (fun c z _ h2 hI => ?_) (fun z hI => ?_)
  · show RunM M T C (R ++ [])
    rw [List.append_nil]; exact hR
  · obtain ⟨M1, y⟩ := z
    obtain ⟨i1, i2, i3⟩ := hI
    have i1 : y = (c : Int) := i1
    subst i1
    have L1 := hL.fl i3.m
    have hcm := L1.2.2.2.2.2.1 c h2
    have hlt : (C.getD c (0, 0)).2 < tN T := by rw [gD h2]; exact hL.2.2.2.2.2.2.1 _ (List.getElem_mem _)
    show ∃ s', m_gather_42s M1 _ (c : Int) = some (.inl s') ∧ _
    unfold m_gather_42s
    rw [L1.2.2.2.1, if_ltp (by omega) (by omega) (by omega), gd_zin (by omega) (by omega) (by omega), zix_nat (by omega), L1.nm hW hq, if_eqp hm, gd_zin (by omega) (by omega) (by omega), zix_nat (by omega), hcm.2]
    by_cases z : (C.getD c (0, 0)).2 = ioP T q
    · obtain ⟨c1, c2⟩ := cIx_cn hL.2.2.2 h2 z
      have hl2 : (R ++ (List.range (cnC C (ioP T q) c)).map (fun k => ((q, some k) : IT))).length = R.length + cnC C (ioP T q) c := by simp
      have h52 := i2.1
      rw [hl2] at h52
      have h52 : M1.1 52 = ((R.length + cnC C (ioP T q) c : Nat) : Int) := h52
      obtain ⟨a1, a2⟩ := i2.add i3 (x := (q, some (cnC C (ioP T q) c))) (v := (c : Int)) (by show _ = ((cIx T C q (cnC C (ioP T q) c) : Nat) : Int); rw [c1])
      rw [hl2] at a1 a2
      rw [z, if_eqp rfl, h52, gd_zin (by omega) (by omega) (by omega), zix_nat (by omega), bnd_eq, bnd_eq]
      refine ⟨_, rfl, by show (c : Int) + 1 = _; omega, ?_, ?_⟩
      · rw [sA_1, h52, cnC_s, if_pos z, map_r1, ← List.append_assoc]
        exact a1
      · rw [sA_1, h52]; exact a2
    · rw [if_eqn (by omega) (by omega) (by omega) (by omega) (by omega)]
      refine ⟨_, rfl, by show (c : Int) + 1 = _; omega, ?_, i3⟩
      rw [cnC_s, if_neg z]
      exact i2
  · obtain ⟨M1, y⟩ := z
    obtain ⟨i1, i2, i3⟩ := hI
    have i1 : y = (C.length : Int) := i1
    subst i1
    have L1 := hL.fl i3.m
    show ∃ r, m_gather_42s M1 _ (C.length : Int) = some (.inr r) ∧ _
    unfold m_gather_42s
    rw [L1.2.2.2.1, if_ltn (by omega) (by omega) (by omega)]
    refine ⟨_, rfl, ?_, i3⟩
    rw [cnC_all hL.2.2.2, ← hit] at i2
    exact i2
theorem m_gather_eq (hL : LM M T rs C) (hW : WF T) (hq : q < tN T) (hR : RunM M T C R) (hlen : R.length + (itQ T q).length ≤ 199) : ∃ M', m_gather M (q : Int) = some M' ∧ RunM M' T C (R ++ itQ T q) ∧ FRn M M' := by
  have h24 := hW.1.2.1
  have hin := io_lt hW hq
  have hr := nm_rng hW hq
  have h52 := hR.1
  unfold m_gather
  rw [gd_zin (by omega) (by omega) (by omega), zix_nat (by omega), hL.o hW hq, bnd_eq, gd_zin (by omega) (by omega) (by omega), zix_nat (by omega), hL.nm hW hq]
  by_cases h1 : nmQ T q = 1
  · rw [if_eqn (by omega) (by omega) (by omega) (by omega) (by omega)]
    exact gather_tx hL hW hq h1 hR (by omega)
  · by_cases h2 : nmQ T q = 107
    · have hit : itQ T q = [(q, none)] := by unfold itQ; rw [if_neg h1, if_pos h2]
      obtain ⟨a1, a2⟩ := hR.add (FRn.refl M) (x := (q, none)) (v := -1 - (q : Int)) rfl
      rw [if_eqp h2, h52, gd_zin (by omega) (by omega) (by omega), zix_nat (by omega), bnd_eq, bnd_eq, sA_1, h52, gather_no (hL.fl a2.m) hW hq h1, hit]
      exact ⟨_, rfl, a1, a2⟩
    · have hit : itQ T q = [] := by unfold itQ; rw [if_neg h1, if_neg h2]
      rw [if_eqn h2 (by omega) (by omega) (by omega) (by omega), gather_no hL hW hq h1, hit, List.append_nil]
      exact ⟨_, rfl, hR, FRn.refl M⟩
/-- the run's parts are parts -/
def okI (T : TS) (R : List IT) : Prop := ∀ j, j < R.length → 0 < (R.getD j (0, none)).1 ∧ (R.getD j (0, none)).1 < tN T ∧ match (R.getD j (0, none)).2 with
  | none => True
  | some k => k < (txP T (R.getD j (0, none)).1).length
theorem RI.ok (h : RI T rs Wd tl n r R) (hr : r ≤ tN T) : okI T R := fun j hj => by
  obtain ⟨a1, a2, a3, a4, a5, a6, a7⟩ := h j hj
  refine ⟨by omega, by omega, ?_⟩
  cases e : (R.getD j (0, none)).2 with
  | none => trivial
  | some k => rw [e] at a7; exact a7.2.1
def txOK (T : TS) : Prop := ∀ p k, p < tN T → k < (txP T p).length → 32 ≤ (txP T p).getD k 0 ∧ (txP T p).getD k 0 ≤ 126
theorem m_runs_eq (hL : LM M T rs C) (hW : WF T) (hX : txOK T) (hR : RunM M T C R) (hI : okI T R) (hlen : R.length ≤ 199) : m_runs M = some (if hasL (R.map (rkP T rs)) then 1 else 0) := by
  have h24 := hW.1.2.1
  have h160 := hL.2.2.2.2.1
  unfold m_runs m_runs_4
  have h52 := hR.1
  have key : ∀ c, hasL ((R.take c).map (rkP T rs)) = true ∨ hasL ((R.take c).map (rkP T rs)) = false := fun c => by cases hasL ((R.take c).map (rkP T rs)) <;> simp
  refine loopUs (fun c => ((if hasL ((R.take c).map (rkP T rs)) then (1 : Int) else 0), ((c : Nat) : Int))) 0 R.length rfl (by omega) (fun c _ h2 => ?_) ?_
  · have hI2 := hI c h2
    have h51 := hR.2 c h2
    have hta : R.take (c + 1) = R.take c ++ [R.getD c (0, none)] := by rw [List.take_add_one, gD h2, List.getElem?_eq_getElem h2]; rfl
    have hnx : hasL ((R.take (c + 1)).map (rkP T rs)) = (hasL ((R.take c).map (rkP T rs)) || decide ((rkP T rs (R.getD c (0, none))).1 ≠ 1)) := by
      rw [hta]
      unfold hasL
      simp
    show m_runs_4s M _ (c : Int) = _
    unfold m_runs_4s
    rw [h52, if_ltp (by omega) (by omega) (by omega), hnx]
    generalize hasL ((R.take c).map (rkP T rs)) = b
    cases b with
    | true =>
      rw [if_pos (show true = true from rfl), if_eqn (by omega) (by omega) (by omega) (by omega) (by omega)]
      rfl
    | false =>
      rw [if_neg (show ¬ (false = true) by simp), if_eqp rfl, gd_zin (by omega) (by omega) (by omega), zix_nat (by omega), h51]
      generalize R.getD c (0, none) = x at hI2 h51 ⊢
      obtain ⟨p, o⟩ := x
      cases o with
      | none =>
        have hi : 0 < p ∧ p < tN T := ⟨hI2.1, hI2.2.1⟩
        have e1 : riM T C (p, none) = -1 - (p : Int) := rfl
        rw [e1, if_ltp (by omega) (by omega) (by omega)]
        rfl
      | some k =>
        have hi : 0 < p ∧ p < tN T ∧ k < (txP T p).length := hI2
        obtain ⟨d1, d2, d3⟩ := cIx_d hL.2.2.2 hi.2.2
        have hx := hX p k hi.2.1 hi.2.2
        have e1 : riM T C (p, some k) = ((cIx T C p k : Nat) : Int) := rfl
        rw [e1, if_ltn (by omega) (by omega) (by omega), gd_zin (by omega) (by omega) (by omega), gd_zin (by omega) (by omega) (by omega), zix_nat (by omega), (hL.2.2.2.2.2.1 _ d1).1, d3]
        by_cases z : (txP T p).getD k 0 = 32
        · rw [if_eqp z]
          have : (rkP T rs (p, some k)).1 = 1 := if_pos z
          rw [this]; rfl
        · rw [if_eqn z (by omega) (by omega) (by omega) (by omega)]
          have : (rkP T rs (p, some k)).1 = 2 := if_neg z
          rw [this]; rfl
  · show m_runs_4s M (if hasL ((R.take R.length).map (rkP T rs)) then (1 : Int) else 0) (R.length : Int) = _
    unfold m_runs_4s
    rw [h52, if_ltn (by omega) (by omega) (by omega), List.take_length]
    cases hasL (R.map (rkP T rs)) with
    | true => rw [if_pos rfl, gd_isB1]
    | false => rw [if_neg (by simp), gd_isB0]
theorem m_size_eq (hL : LM M T rs C) (hW : WF T) (hR : RunM M T C R) (hI : okI T R) (hlen : R.length ≤ 199) (hj : j < R.length) : m_size M (j : Int) = some (rkP T rs (R.getD j (0, none))).2 := by
  have h24 := hW.1.2.1
  have h160 := hL.2.2.2.2.1
  have hI2 := hI j hj
  have h51 := hR.2 j hj
  unfold m_size
  rw [gd_zin (by omega) (by omega) (by omega), zix_nat (by omega), h51]
  generalize R.getD j (0, none) = x at hI2 h51 ⊢
  obtain ⟨p, o⟩ := x
  cases o with
  | none =>
    have hi : 0 < p ∧ p < tN T := ⟨hI2.1, hI2.2.1⟩
    have e1 : riM T C (p, none) = -1 - (p : Int) := rfl
    have e2 : (79 : Int) - (-1 - (p : Int)) = ((40 * 2 + p : Nat) : Int) := by omega
    rw [e1, if_ltp (by omega) (by omega) (by omega), gd_zin (by omega) (by omega) (by omega), e2, gd_zin (by omega) (by omega) (by omega), zix_nat (by omega), hL.v hW hi.2 (by omega)]
    rfl
  | some k =>
    have hi : 0 < p ∧ p < tN T ∧ k < (txP T p).length := hI2
    obtain ⟨d1, d2, d3⟩ := cIx_d hL.2.2.2 hi.2.2
    have hu := (up_d hW hi.2.1 hi.1).1
    have e1 : riM T C (p, some k) = ((cIx T C p k : Nat) : Int) := rfl
    have e2 : (80 : Int) + ((upP T p : Nat) : Int) = ((40 * 2 + upP T p : Nat) : Int) := by omega
    rw [e1, if_ltn (by omega) (by omega) (by omega), gd_zin (by omega) (by omega) (by omega), gd_zin (by omega) (by omega) (by omega), zix_nat (by omega), (hL.2.2.2.2.2.1 _ d1).2, d2, m_seat_eq hL.1 hW.b (io_lt hW hi.2.1), obind_some, seat_io hW hi.2.1, gd_zin (by omega) (by omega) (by omega), zix_nat (by omega), hL.up hW hi.2.1 hi.1, e2, gd_zin (by omega) (by omega) (by omega), zix_nat (by omega), hL.v hW (by omega) (by omega)]
    rfl
/-- which character part j is -/
def qC (T : TS) (C : List (Int × Nat)) (R : List IT) (j : Nat) : Nat := match (R.getD j (0, none)).2 with
  | none => 0
  | some k => cIx T C (R.getD j (0, none)).1 k
theorem rk_at (hj : j < R.length) : rkk (R.map (rkP T rs)) j = (rkP T rs (R.getD j (0, none))).1 ∧ rsz (R.map (rkP T rs)) j = (rkP T rs (R.getD j (0, none))).2 := by
  unfold rkk rsz
  rw [gD (by rw [List.length_map]; exact hj), List.getElem_map, gD hj]
  exact ⟨rfl, rfl⟩
theorem RunM.rn (hL : LM M T rs C) (hW : WF T) (hX : txOK T) (hR : RunM M T C R) (hI : RI T rs Wd tl n r R) (hr : r ≤ tN T) : RnM M (R.map (rkP T rs)) (qC T C R) := by
  have h24 := hW.1.2.1
  have h160 := hL.2.2.2.2.1
  have hok := hI.ok hr
  refine ⟨by rw [List.length_map]; exact hR.1, fun j hj => ?_, fun j j' hj hj' h2 h2' e => ?_⟩
  · rw [List.length_map] at hj
    rw [(rk_at hj).1]
    have hI2 := hok j hj
    have h51 := hR.2 j hj
    unfold qC
    generalize R.getD j (0, none) = x at hI2 h51 ⊢
    obtain ⟨p, o⟩ := x
    cases o with
    | none =>
      have hi : 0 < p ∧ p < tN T := ⟨hI2.1, hI2.2.1⟩
      have e1 : riM T C (p, none) = -1 - (p : Int) := rfl
      rw [h51, e1]
      exact ⟨fun _ => by omega, fun z => (z rfl).elim⟩
    | some k =>
      have hi : 0 < p ∧ p < tN T ∧ k < (txP T p).length := hI2
      obtain ⟨d1, d2, d3⟩ := cIx_d hL.2.2.2 hi.2.2
      have hx := hX p k hi.2.1 hi.2.2
      have e3 : (rkP T rs (p, some k)).1 = if (txP T p).getD k 0 = 32 then 1 else 2 := rfl
      rw [e3, h51]
      refine ⟨fun z => by split at z <;> omega, fun _ => ?_⟩
      show ((cIx T C p k : Nat) : Int) = _ ∧ cIx T C p k < 160 ∧ (0 ≤ M.2 18 (cIx T C p k) ∧ M.2 18 (cIx T C p k) < 128) ∧ (M.2 18 (cIx T C p k) = 32 ↔ _)
      rw [(hL.2.2.2.2.2.1 _ d1).1, d3]
      refine ⟨rfl, by omega, by omega, ?_⟩
      by_cases z : (txP T p).getD k 0 = 32
      · rw [if_pos z]; exact ⟨fun _ => rfl, fun _ => z⟩
      · rw [if_neg z]; exact ⟨fun y => (z y).elim, fun y => by omega⟩
  · rw [List.length_map] at hj hj'
    rw [(rk_at hj).1] at h2
    rw [(rk_at hj').1] at h2'
    obtain ⟨a1, a2, a3, a4, a5, a6, a7⟩ := hI j hj
    obtain ⟨b1, b2, b3, b4, b5, b6, b7⟩ := hI j' hj'
    unfold qC at e
    generalize R.getD j (0, none) = x at *
    generalize R.getD j' (0, none) = x' at *
    obtain ⟨p, o⟩ := x
    obtain ⟨p', o'⟩ := x'
    cases o with
    | none => exact absurd h2 (by show ¬ 0 = 2; omega)
    | some k =>
      cases o' with
      | none => exact absurd h2' (by show ¬ 0 = 2; omega)
      | some k' =>
        have g1 : p < r := a2
        have g2 : p' < r := b2
        obtain ⟨i1, i2⟩ := cIx_inj hL.2.2.2 hW (p := p) (p' := p') (by omega) (by omega) a7.2.1 b7.2.1 e
        subst i1 i2
        have c1 : j = _ := a7.2.2
        have c2 : j' = _ := b7.2.2
        rw [c1, c2]
end MR
