/-! the page: an element's values -/
set_option maxRecDepth 100000
def shwF (T : TS) (rs : List RL) : Nat → Nat → Bool
  | 0, i => decide (val T rs 3 i ≠ 110)
  | n + 1, i => shwF T rs n (tP T i) && decide (val T rs 3 i ≠ 110)
/-- whether an element is shown -/
def shw (T : TS) (rs : List RL) (i : Nat) : Bool := shwF T rs (tD T i) i
/-- an element's values stand in its cells -/
def EvR (h : HP) (φ : Nat → Nat) (T : TS) (rs : List RL) (i : Nat) : Prop := (∀ k, k < 7 → pI h (φ i + 2) k = val T rs k i) ∧ pI h (φ i) 8 = (if shw T rs i then 1 else 0)
/-- only whole numbers of some cells have changed -/
def AgI (h h' : HP) (P : Nat → Nat → Prop) : Prop := pK h' = pK h ∧ pN h' = pN h ∧ pP h' = pP h ∧ pL h' = pL h ∧ pB h' = pB h ∧ pC h' = pC h ∧ pX h' = pX h ∧ pS h' = pS h ∧ pO h' = pO h ∧ ∀ b j, ¬ P b j → pI h' b j = pI h b j
section PV
variable {h h' h1 : HP} {pg a : Nat} {φ : Nat → Nat} {T : TS} {rs : List RL} {P : Nat → Nat → Prop}
theorem shw_s (hW : WF T) {i : Nat} (hi : i < tN T) (h0 : i ≠ 0) : shw T rs i = (shw T rs (tP T i) && decide (val T rs 3 i ≠ 110)) := by
  have hd := (hW.1.2.2.2.2.1.dpos (hW.full hi) h0).2.2
  unfold shw
  rw [← hd, shwF]
theorem shw_0 (hW : WF T) : shw T rs 0 = decide (val T rs 3 0 ≠ 110) := by
  unfold shw
  rw [hW.1.2.2.2.2.1.2.2.1, shwF]
theorem AgI.refl (h : HP) (P : Nat → Nat → Prop) : AgI h h P := ⟨rfl, rfl, rfl, rfl, rfl, rfl, rfl, rfl, rfl, fun _ _ _ => rfl⟩
theorem AgI.wi (A : AgI h h1 P) {b j : Nat} (hb : P b j) (v : Int) : AgI h (wI h1 b j v) P := by
  obtain ⟨a1, a2, a3, a4, a5, a6, a7, a8, a9, a10⟩ := A
  refine ⟨a1, a2, a3, a4, a5, a6, a7, a8, a9, fun c k hc => ?_⟩
  rw [pI_wI, if_neg (fun z => hc (by rw [z.1, z.2]; exact hb))]
  exact a10 c k hc
theorem AgI.trans (A : AgI h h1 P) (B : AgI h1 h' P) : AgI h h' P := by
  obtain ⟨a1, a2, a3, a4, a5, a6, a7, a8, a9, a10⟩ := A
  obtain ⟨b1, b2, b3, b4, b5, b6, b7, b8, b9, b10⟩ := B
  exact ⟨b1.trans a1, b2.trans a2, b3.trans a3, b4.trans a4, b5.trans a5, b6.trans a6, b7.trans a7, b8.trans a8, b9.trans a9, fun b j hb => (b10 b j hb).trans (a10 b j hb)⟩
theorem AgI.mono {Q : Nat → Nat → Prop} (A : AgI h h' P) (hQ : ∀ b j, P b j → Q b j) : AgI h h' Q := by
  obtain ⟨a1, a2, a3, a4, a5, a6, a7, a8, a9, a10⟩ := A
  exact ⟨a1, a2, a3, a4, a5, a6, a7, a8, a9, fun b j hb => a10 b j (fun z => hb (hQ b j z))⟩
/-- such a change leaves the tree -/
theorem AgI.w (A : AgI h h' P) (hP : ∀ b j, P b j → ¬ (pK h b = 2 ∧ (j = 2 ∨ j = 3 ∨ j = 6)) ∧ ¬ (b = pg ∧ (j = 3 ∨ j = 4 ∨ j = 7))) : AgW pg h h' := by
  obtain ⟨a1, a2, a3, a4, a5, a6, a7, a8, a9, a10⟩ := A
  refine ⟨Nat.le_of_eq a7.symm, a9, fun b hb _ => ⟨by rw [a1], by rw [a2], fun j => by rw [a3], by rw [a4], by rw [a5], by rw [a6], fun hk => ⟨?_, ?_, ?_⟩⟩, ?_, ?_, ?_⟩
  · exact a10 b 2 (fun z => (hP b 2 z).1 ⟨hk, by omega⟩)
  · exact a10 b 3 (fun z => (hP b 3 z).1 ⟨hk, by omega⟩)
  · exact a10 b 6 (fun z => (hP b 6 z).1 ⟨hk, by omega⟩)
  · exact a10 pg 3 (fun z => (hP pg 3 z).2 ⟨rfl, by omega⟩)
  · exact a10 pg 4 (fun z => (hP pg 4 z).2 ⟨rfl, by omega⟩)
  · exact a10 pg 7 (fun z => (hP pg 7 z).2 ⟨rfl, by omega⟩)
theorem PartR.agi (A : AgI h h' P) (hP : ∀ b j, P b j → pK h b ≠ 6) : ∀ (l : List PT) (o : Option Nat), PartR h l o → PartR h' l o
  | [], _, q => q
  | p :: r, o, ⟨a, x1, x2, x3, x4, x5, x6, x7⟩ => by
    obtain ⟨a1, a2, a3, a4, a5, a6, a7, a8, a9, a10⟩ := A
    refine ⟨a, x1, by rw [a1]; exact x2, by rw [a7]; exact x3, by rw [a10 a 0 (fun z => hP a 0 z x2)]; exact x4, by rw [a10 a 1 (fun z => hP a 1 z x2)]; exact x5, by rw [a10 a 2 (fun z => hP a 2 z x2)]; exact x6, ?_⟩
    rw [a3]
    exact PartR.agi ⟨a1, a2, a3, a4, a5, a6, a7, a8, a9, a10⟩ hP r _ x7
theorem RulesR.agi {L : List Nat} (A : AgI h h' P) (hP : ∀ b j, P b j → pK h b ≠ 6 ∧ pK h b ≠ 7 ∧ pK h b ≠ 43 ∧ pK h b ≠ 44) (R : RulesR h rs L) : RulesR h' rs L := by
  have hA := A
  obtain ⟨a1, a2, a3, a4, a5, a6, a7, a8, a9, a10⟩ := A
  refine ⟨R.1, fun k hk => ?_⟩
  obtain ⟨r1, r2, r3, r4, r5, r6, r7, r8, r9, r10, l, r11, r12⟩ := R.2 k hk
  refine ⟨by rw [a1]; exact r1, by rw [a7]; exact r2, by rw [a3]; exact r3, by rw [a3]; exact r4, by rw [a1]; exact r5, by rw [a1]; exact r6, by rw [a2]; exact r7, by rw [a2]; exact r8, by rw [a10 _ 1 (fun z => (hP _ 1 z).2.1 r1)]; exact r9, fun q hq => ?_, l, by rw [a3]; exact r11, PartR.agi hA (fun b j hb => (hP b j hb).1) _ _ r12⟩
  rw [a10 _ q (fun z => (hP _ q z).2.2.1 r5), a10 _ q (fun z => (hP _ q z).2.2.2 r6)]
  exact r10 q hq
theorem ShC.agi (A : AgI h h' P) (S : ShC h pg) : ShC h' pg := by
  obtain ⟨a1, a2, a3, a4, a5, a6, a7, a8, a9, a10⟩ := A
  unfold ShC at S ⊢
  rw [a1, a3, a6, a7]
  exact S
/-- the start's value -/
theorem initial_p (H : RepB h pg φ T) (hW : WF T) {i : Nat} (hi : i < tN T) (hm : tM T i ≠ 1) {k : Nat} (hk : k < 7) {pv : Int} (hpv : i ≠ 0 → pI h (φ (tP T i) + 2) k = pv) : f_X0_initial h (φ i) (k : Int) = some (iniV T k i pv) := by
  have hE := H.elc hi hm
  have hn := hW.nm hi
  unfold nmOK at hn
  have hpar := H.2.2.2.2.2.1 i hi
  have h116 := H.is hW hi hm (x := 116) (by unfold nmOK; omega)
  have h114 := H.is hW hi hm (x := 114) (by unfold nmOK; omega)
  have h99 := H.is hW hi hm (x := 99) (by unfold nmOK; omega)
  have hbk := H.blk hW hi hm
  have hbl : isBl (tM T i) = (isTC (tM T i) || isBlk (tM T i)) := by
    unfold isBl isTC isBlk
    simp only [List.contains_cons, List.contains_nil, Bool.or_false]
    cases (tM T i == 112) <;> cases (tM T i == 100) <;> cases (tM T i == 117) <;> cases (tM T i == 108) <;> cases (tM T i == 104) <;> cases (tM T i == 116) <;> cases (tM T i == 114) <;> cases (tM T i == 99) <;> rfl
  -- with the table's answer
  have e32 : ∀ t : Bool, t = isTC (tM T i) → f_X0_initial_32 h (φ i) (k : Int) (zb t) = some (iniV T k i pv) := fun t ht => by
    have par : (k = 0 ∨ k = 2) → (gd (pK h (φ i) = 2) (nl (pP h (φ i) 0) (some 1) (fun a1 => gd (pK h (φ i) = 2) (Option.bind (pP h (φ i) 0) (fun a2 => gd (pK h a2 = 2) (Option.bind (pP h a2 7) (fun a3 => gd (isI (pK h a3)) (gd (zin (k : Int) (pN h a3)) (some (pI h a3 (zix (k : Int)))))))))))) = some (if i = 0 then 1 else pv) := fun _ => by
      rw [gd_c hE.1, hpar]
      by_cases z : i = 0
      · rw [if_pos z, if_pos z]; rfl
      · have hpm := nk1 (hW.2.1.2 i hi z).2.1
        have hEp := H.elc (hW.par hi) hpm
        rw [if_neg z, if_neg z, nl_some, gd_c hE.1, obind_some, gd_c hEp.1, hEp.2.2.2.1, obind_some, gd_c (by rw [hEp.2.2.2.2.1]; decide), gd_zin (by omega) (by rw [hEp.2.2.2.2.2.1]; omega) (by rw [hEp.2.2.2.2.2.1]; omega), zix_nat (by omega), hpv z]
    unfold f_X0_initial_32 iniV
    by_cases c0 : k = 0
    · rw [if_eqp (by omega), if_pos (Or.inl c0)]; exact par (Or.inl c0)
    · rw [if_eqn (by omega) (by omega) (by omega) (by omega) (by omega)]
      by_cases c2 : k = 2
      · rw [if_eqp (by omega), if_pos (Or.inr c2)]; exact par (Or.inr c2)
      · rw [if_eqn (by omega) (by omega) (by omega) (by omega) (by omega), if_neg (show ¬ (k = 0 ∨ k = 2) by omega)]
        by_cases c3 : k = 3
        · rw [if_eqp (by omega), if_pos c3, gd_c hE.1, hpar]
          unfold f_X0_initial_115
          by_cases z : i = 0
          · rw [if_pos z, if_pos (Or.inl z)]; rfl
          · rw [if_neg z, nl_some, hbl, ← ht]
            cases t with
            | true => rw [zb_t, if_eqn (by omega) (by omega) (by omega) (by omega) (by omega), if_pos (Or.inr (by simp))]
            | false =>
              rw [zb_f, if_eqp rfl, gd_c hE.1, hbk, obind_some, Bool.false_or]
              cases hb : isBlk (tM T i) with
              | true => rw [zb_t, if_eqn (by omega) (by omega) (by omega) (by omega) (by omega), if_pos (Or.inr rfl)]
              | false => rw [zb_f, if_eqp rfl, if_neg (fun q => by rcases q with q | q; exact z q; cases q)]
        · rw [if_eqn (by omega) (by omega) (by omega) (by omega) (by omega), if_neg c3]
          by_cases c6 : k = 6
          · rw [if_eqp (by omega), if_pos c6]
          · rw [if_eqn (by omega) (by omega) (by omega) (by omega) (by omega), if_neg c6]
  have htc : isTC (tM T i) = (decide (tM T i = 116) || (decide (tM T i = 114) || decide (tM T i = 99))) := by
    unfold isTC
    simp [List.contains_cons]
  unfold f_X0_initial f_X0_initial_27
  rw [gd_c hE.1, h116, obind_some]
  by_cases e1 : tM T i = 116
  · rw [decide_eq_true e1, zb_t, if_eqn (by omega) (by omega) (by omega) (by omega) (by omega)]
    exact e32 true (by rw [htc, decide_eq_true e1]; rfl)
  · rw [decide_eq_false e1, zb_f, if_eqp rfl, gd_c hE.1, h114, obind_some]
    by_cases e2 : tM T i = 114
    · rw [decide_eq_true e2, zb_t, if_eqn (by omega) (by omega) (by omega) (by omega) (by omega)]
      exact e32 true (by rw [htc, decide_eq_true e2]; simp)
    · rw [decide_eq_false e2, zb_f, if_eqp rfl, gd_c hE.1, h99, obind_some]
      by_cases e3 : tM T i = 99
      · rw [decide_eq_true e3, zb_t, if_eqn (by omega) (by omega) (by omega) (by omega) (by omega)]
        exact e32 true (by rw [htc, decide_eq_true e3]; simp)
      · rw [decide_eq_false e3, zb_f, if_eqp rfl]
        exact e32 false (by rw [htc, decide_eq_false e1, decide_eq_false e2, decide_eq_false e3]; rfl)
end PV
