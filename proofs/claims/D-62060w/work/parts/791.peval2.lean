/-! the page: an element's values, as a whole -/
set_option maxRecDepth 100000
/-- the cells that the values of a node use -/
def evP (φ : Nat → Nat) (i : Nat) (b j : Nat) : Prop := b = φ i + 2 ∨ (b = φ i ∧ j = 8)
section PV
variable {h h' h1 : HP} {pg a : Nat} {φ : Nat → Nat} {T : TS} {rs : List RL}
theorem evP_w (H : RepB h pg φ T) {i : Nat} (hi : i < tN T) (hm : tM T i ≠ 1) : ∀ b j, evP φ i b j → ¬ (pK h b = 2 ∧ (j = 2 ∨ j = 3 ∨ j = 6)) ∧ ¬ (b = pg ∧ (j = 3 ∨ j = 4 ∨ j = 7)) := by
  intro b j hb
  have hE := H.elc hi hm
  have hp := H.1.1.1
  rcases hb with z | z
  · rw [z]
    refine ⟨fun q => by rw [hE.2.2.2.2.1] at q; omega, fun q => ?_⟩
    have := hE.2.2.2.2.1
    rw [q.1, hp] at this; omega
  · exact ⟨fun q => by omega, fun q => by omega⟩
theorem evP_r (H : RepB h pg φ T) {i : Nat} (hi : i < tN T) (hm : tM T i ≠ 1) : ∀ b j, evP φ i b j → pK h b ≠ 6 ∧ pK h b ≠ 7 ∧ pK h b ≠ 43 ∧ pK h b ≠ 44 := by
  intro b j hb
  have hE := H.elc hi hm
  rcases hb with z | z
  · rw [z, hE.2.2.2.2.1]; omega
  · rw [z.1, hE.1]; omega
theorem evaluate_p (H : RepB h pg φ T) (hW : WF T) {i : Nat} (hi : i < tN T) (hm : tM T i ≠ 1) (hC : ShC h pg) (hRs : RulesR h rs (pL h (pg + 9))) (h12 : rs.length ≤ 12) (hok : ∀ r ∈ rs, okR2 r) (hpar : i ≠ 0 → EvR h φ T rs (tP T i)) : ∃ h', f_X0_evaluate h (φ i) (pg + 9) = some h' ∧ AgI h h' (evP φ i) ∧ EvR h' φ T rs i := by
  have hE := H.elc hi hm
  have hokL : ∀ r ∈ rs, okRL r := fun r hr => (hok r hr).1
  have hpv : ∀ k, ∃ pv, val T rs k i = valR T rs k i pv ∧ (i ≠ 0 → pv = val T rs k (tP T i)) := fun k => val_e hW k hi
  have hgi : ∀ k, gvm T rs k i = giv (fun r => fitR T r.1.reverse i) k rs := fun k => by unfold gvm; rw [if_neg hm]
  have hfar : i ≠ 0 → φ (tP T i) + 2 ≠ φ i + 2 ∧ φ (tP T i) ≠ φ i ∧ φ (tP T i) ≠ φ i + 2 := fun h0 => by
    have hpn := hW.par hi
    have hpm := nk1 (hW.2.1.2 i hi h0).2.1
    have hd := (hW.1.2.2.2.2.1.dpos (hW.full hi) h0).2.2
    have hne : φ (tP T i) ≠ φ i := fun z => by
      have := H.2.2.1.2.2 _ _ hpn hi z
      rw [this] at hd; omega
    refine ⟨by omega, hne, kne h ?_⟩
    rw [(H.elc hpn hpm).1, hE.2.2.2.2.1]; omega
  -- the properties
  have loop : ∃ g, f_X0_evaluate_2 h (φ i) (pg + 9) 0 = f_X0_evaluate_42 g (φ i) ∧ AgI h g (evP φ i) ∧ ∀ k, k < 7 → ∃ pv, val T rs k i = valR T rs k i pv ∧ pI g (φ i + 2) k = rawV T rs k i pv := by
    have key : ∀ (m k : Nat) (g : HP), k + m = 7 → AgI h g (evP φ i) → (∀ q, q < k → ∃ pv, val T rs q i = valR T rs q i pv ∧ pI g (φ i + 2) q = rawV T rs q i pv) → ∃ g', f_X0_evaluate_2 g (φ i) (pg + 9) (k : Int) = f_X0_evaluate_42 g' (φ i) ∧ AgI h g' (evP φ i) ∧ ∀ k, k < 7 → ∃ pv, val T rs k i = valR T rs k i pv ∧ pI g' (φ i + 2) k = rawV T rs k i pv := by
      intro m
      induction m with
      | zero =>
        intro k g hk A hq
        refine ⟨g, ?_, A, fun q hq7 => hq q (by omega)⟩
        refine iter_mr ?_
        simp only [f_X0_evaluate_2s]
        rw [if_ltn (by omega) (by omega) (by omega)]
      | succ m ih =>
        intro k g hk A hq
        have Hg : RepB g pg φ T := H.agw hW.stk (A.w (evP_w H hi hm))
        have hL9 : pL g (pg + 9) = pL h (pg + 9) := by rw [A.2.2.2.1]
        have hRg : RulesR g rs (pL g (pg + 9)) := by rw [hL9]; exact RulesR.agi A (evP_r H hi hm) hRs
        have hgv := given_p Hg hW hi hm (hC.agi A) hRg h12 hok (k := k) (by omega)
        have hgr := giv_rng (fit := fun r => fitR T r.1.reverse i) (k := k) hokL
        obtain ⟨pv, p1, p2⟩ := hpv k
        have hEg := Hg.elc hi hm
        have hin := initial_p Hg hW hi hm (k := k) (by omega) (pv := pv) (fun h0 => by
          have hf := hfar h0
          rw [A.2.2.2.2.2.2.2.2.2 _ _ (fun z => by rcases z with z | z; exact hf.1 z; omega), (hpar h0).1 k (by omega), p2 h0])
        have hst : f_X0_evaluate_2s g (φ i) (pg + 9) (k : Int) = some (.inl (wI g (φ i + 2) k (rawV T rs k i pv), ((k + 1 : Nat) : Int))) := by
          have e35 : ∀ v : Int, f_X0_evaluate_35 g (φ i) (pg + 9) (k : Int) v (k : Int) (some (φ i + 2)) = some (.inl (wI g (φ i + 2) k v, ((k + 1 : Nat) : Int))) := fun v => by
            unfold f_X0_evaluate_35
            rw [obind_some, gd_c (by rw [hEg.2.2.2.2.1]; decide), gd_zin (by omega) (by rw [hEg.2.2.2.2.2.1]; omega) (by rw [hEg.2.2.2.2.2.1]; omega), bnd_eq, zix_nat (by omega)]
            rfl
          unfold f_X0_evaluate_2s
          rw [if_ltp (by omega) (by omega) (by omega), hgv, obind_some, gd_c hEg.1, hEg.2.2.2.1]
          unfold rawV
          rw [hgi k]
          by_cases z : giv (fun r => fitR T r.1.reverse i) k rs = -2
          · rw [if_eqp z, hin, obind_some, if_pos z]; exact e35 _
          · rw [if_eqn z (by omega) (by omega) (by omega) (by omega), if_neg z]; exact e35 _
        obtain ⟨g', t⟩ := ih (k + 1) (wI g (φ i + 2) k (rawV T rs k i pv)) (by omega) (A.wi (Or.inl rfl) _) (fun q hq' => by
          by_cases z : q = k
          · rw [z, pI_wI, if_pos ⟨rfl, rfl⟩]; exact ⟨pv, p1, rfl⟩
          · rw [pI_wI, if_neg (fun y => z y.2)]; exact hq q (by omega))
        refine ⟨g', ?_, t.2⟩
        unfold f_X0_evaluate_2
        rw [iter_in hst]
        exact t.1
    exact key 7 0 h rfl (AgI.refl _ _) (fun q hq => by omega)
  obtain ⟨g, l1, l2, l3⟩ := loop
  have Hg : RepB g pg φ T := H.agw hW.stk (l2.w (evP_w H hi hm))
  have hEg := Hg.elc hi hm
  obtain ⟨pv3, v1, v2⟩ := l3 3 (by omega)
  have hvr := val_rng hW hokL 3 (tD T i) i
  have hrr : -1 ≤ rawV T rs 3 i pv3 ∧ rawV T rs 3 i pv3 ≤ 200 := by
    have hv : valR T rs 3 i pv3 = valF T rs 3 (tD T i) i := v1.symm
    unfold valR at hv
    split at hv <;> omega
  have z3 : zix 3 = 3 := by decide
  have hvo : ∀ k, k < 7 → k ≠ 3 → pI g (φ i + 2) k = val T rs k i := fun k hk h3 => by
    obtain ⟨pv, a1, a2⟩ := l3 k hk
    rw [a2, a1]
    unfold valR
    rw [if_neg (fun z => h3 z.1)]
  -- the end, once the third value is right
  have e88 : ∀ (q : HP), AgI h q (evP φ i) → (∀ k, k < 7 → pI q (φ i + 2) k = val T rs k i) → ∃ h', f_X0_evaluate_88 q (φ i) = some h' ∧ AgI h h' (evP φ i) ∧ EvR h' φ T rs i := fun q A hq => by
    have Hq : RepB q pg φ T := H.agw hW.stk (A.w (evP_w H hi hm))
    have hEq := Hq.elc hi hm
    have fin : ∀ v : Bool, v = shw T rs i → ∃ h', f_X0_evaluate_122 q (zb v) (φ i) = some h' ∧ AgI h h' (evP φ i) ∧ EvR h' φ T rs i := fun v hv => by
      refine ⟨wI q (φ i) 8 (zb v), ?_, A.wi (Or.inr ⟨rfl, rfl⟩) _, fun k hk => ?_, ?_⟩
      · unfold f_X0_evaluate_122
        rw [gd_c hEq.1, gd_c (by cases v <;> decide), bnd_eq]
      · rw [pI_wI, if_neg (fun z => by omega)]; exact hq k hk
      · rw [pI_wI, if_pos ⟨rfl, rfl⟩, hv]; unfold zb; rfl
    have e106 : (i = 0 ∨ shw T rs (tP T i) = true) → ∃ h', f_X0_evaluate_106 q (φ i) (φ i) = some h' ∧ AgI h h' (evP φ i) ∧ EvR h' φ T rs i := fun hsp => by
      have hs : shw T rs i = decide (val T rs 3 i ≠ 110) := by
        by_cases z : i = 0
        · rw [z]; exact shw_0 hW
        · rcases hsp with y | y
          · exact (z y).elim
          · rw [shw_s hW hi z, y, Bool.true_and]
      unfold f_X0_evaluate_106 f_X0_evaluate_121
      rw [gd_c hEq.1, hEq.2.2.2.1, obind_some, gd_c (by rw [hEq.2.2.2.2.1]; decide), gd_zin (by omega) (by rw [hEq.2.2.2.2.2.1]; omega) (by rw [hEq.2.2.2.2.2.1]; omega), z3, hq 3 (by omega)]
      have hv3 : val T rs 3 i = valF T rs 3 (tD T i) i := rfl
      by_cases z : val T rs 3 i = 110
      · rw [if_eqp z]; exact fin false (by rw [hs, decide_eq_false (fun q => q z)])
      · rw [if_eqn z (by omega) (by omega) (by omega) (by omega)]; exact fin true (by rw [hs, decide_eq_true z])
    unfold f_X0_evaluate_88 f_X0_evaluate_121
    rw [gd_c hEq.1, Hq.2.2.2.2.2.1 i hi]
    by_cases z : i = 0
    · rw [if_pos z, nl_none]; exact e106 (Or.inl z)
    · have hpn := hW.par hi
      have hpm := nk1 (hW.2.1.2 i hi z).2.1
      have hf := hfar z
      rw [if_neg z, nl_some, gd_c hEq.1, obind_some, gd_c (Hq.elc hpn hpm).1, A.2.2.2.2.2.2.2.2.2 _ _ (fun y => by rcases y with y | y; exact hf.2.2 y; exact hf.2.1 y.1), (hpar z).2]
      by_cases y : shw T rs (tP T i) = true
      · rw [if_pos y, if_eqn (by omega) (by omega) (by omega) (by omega) (by omega)]; exact e106 (Or.inr y)
      · rw [if_neg y, if_eqp rfl]
        refine fin false ?_
        rw [shw_s hW hi z]
        cases hh : shw T rs (tP T i) with
        | true => exact (y hh).elim
        | false => rfl
  -- the table's sign
  have e69 : isTC (tM T i) = true → ∃ h', f_X0_evaluate_69 g (φ i) = some h' ∧ AgI h h' (evP φ i) ∧ EvR h' φ T rs i := fun ht => by
    unfold f_X0_evaluate_69
    rw [gd_c hEg.1, hEg.2.2.2.1, obind_some, gd_c (by rw [hEg.2.2.2.2.1]; decide), gd_zin (by omega) (by rw [hEg.2.2.2.2.2.1]; omega) (by rw [hEg.2.2.2.2.2.1]; omega), z3, v2]
    by_cases y : rawV T rs 3 i pv3 = 105
    · rw [if_eqp y, gd_c hEg.1, obind_some, gd_c (by rw [hEg.2.2.2.2.1]; decide), gd_zin (by omega) (by rw [hEg.2.2.2.2.2.1]; omega) (by rw [hEg.2.2.2.2.2.1]; omega), bnd_eq]
      refine e88 _ (l2.wi (Or.inl rfl) _) (fun k hk => ?_)
      by_cases z : k = 3
      · rw [z, pI_wI, if_pos ⟨rfl, rfl⟩, v1]
        unfold valR
        rw [if_pos ⟨rfl, ht, y⟩]
      · rw [pI_wI, if_neg (fun q => z q.2)]; exact hvo k hk z
    · rw [if_eqn y (by omega) (by omega) (by omega) (by omega)]
      refine e88 _ l2 (fun k hk => ?_)
      by_cases z : k = 3
      · rw [z, v2, v1]
        unfold valR
        rw [if_neg (fun q => y q.2.2)]
      · exact hvo k hk z
  have hn := hW.nm hi
  unfold nmOK at hn
  have h116 := Hg.is hW hi hm (x := 116) (by unfold nmOK; omega)
  have h114 := Hg.is hW hi hm (x := 114) (by unfold nmOK; omega)
  have h99 := Hg.is hW hi hm (x := 99) (by unfold nmOK; omega)
  have htc : isTC (tM T i) = (decide (tM T i = 116) || (decide (tM T i = 114) || decide (tM T i = 99))) := by
    unfold isTC
    simp [List.contains_cons]
  unfold f_X0_evaluate
  rw [l1]
  unfold f_X0_evaluate_42
  rw [gd_c hEg.1, h116, obind_some]
  by_cases e1 : tM T i = 116
  · rw [decide_eq_true e1, zb_t, if_eqn (by omega) (by omega) (by omega) (by omega) (by omega)]
    exact e69 (by rw [htc, decide_eq_true e1]; rfl)
  · rw [decide_eq_false e1, zb_f, if_eqp rfl, gd_c hEg.1, h114, obind_some]
    by_cases e2 : tM T i = 114
    · rw [decide_eq_true e2, zb_t, if_eqn (by omega) (by omega) (by omega) (by omega) (by omega)]
      exact e69 (by rw [htc, decide_eq_true e2]; simp)
    · rw [decide_eq_false e2, zb_f, if_eqp rfl, gd_c hEg.1, h99, obind_some]
      by_cases e3 : tM T i = 99
      · rw [decide_eq_true e3, zb_t, if_eqn (by omega) (by omega) (by omega) (by omega) (by omega)]
        exact e69 (by rw [htc, decide_eq_true e3]; simp)
      · rw [decide_eq_false e3, zb_f, if_eqp rfl]
        have hno : isTC (tM T i) = false := by rw [htc, decide_eq_false e1, decide_eq_false e2, decide_eq_false e3]; rfl
        refine e88 g l2 (fun k hk => ?_)
        by_cases z : k = 3
        · rw [z, v2, v1]
          unfold valR
          rw [hno, if_neg (fun q => by cases q.2.1)]
        · exact hvo k hk z
end PV
