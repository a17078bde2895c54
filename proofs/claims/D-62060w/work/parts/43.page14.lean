/-! the page's tree: start tags, as a whole -/
set_option maxRecDepth 100000
section PB
variable {h h' h1 : HP} {pg u a t : Nat} {φ : Nat → Nat} {T : TS} {x c : Int} {X : List Int} {q : Nat × Nat × Nat}
theorem cls_N (T : TS) (i : Nat) : tN (cls T i) = tN T ∧ tM (cls T i) = tM T := by unfold cls; split <;> exact ⟨rfl, rfl⟩
/-- close to where a name is reached -/
theorem RepB.shut (H : RepB h pg φ T) (C : CntP h pg φ T) (hW : WF T) (hx : nmOK x) {n : Nat} (hn : n < 11) (hR : RU h u) : ∃ h', f_X0_reach h pg x n = some ((rch T x (sT n) : Nat) : Int) ∧ f_X0_closeTo h pg ((rch T x (sT n) : Nat) : Int) = some h' ∧ RepB h' pg φ (cls T (rch T x (sT n))) ∧ CntP h' pg φ (cls T (rch T x (sT n))) ∧ FP pg h h' ∧ RU h' u := by
  have hle : rch T x (sT n) ≤ (tS T).length := by
    rw [rch_eq]
    have := topm_lt hW.b x
    split <;> omega
  obtain ⟨h', r1, r2, r3, r4, r5⟩ := H.closeTo hW hle
  exact ⟨h', H.reach hW hx hn, r1, r2, C.mono r4 (cls_N _ _).1 (cls_N _ _).2, r3, r5 u hR⟩
theorem RepB.shutAt (H : RepB h pg φ T) (C : CntP h pg φ T) (hW : WF T) {i : Nat} (hi : i ≤ (tS T).length) (hR : RU h u) : ∃ h', f_X0_closeTo h pg (i : Int) = some h' ∧ RepB h' pg φ (cls T i) ∧ CntP h' pg φ (cls T i) ∧ FP pg h h' ∧ RU h' u := by
  obtain ⟨h', r1, r2, r3, r4, r5⟩ := H.closeTo hW hi
  exact ⟨h', r1, r2, C.mono r4 (cls_N _ _).1 (cls_N _ _).2, r3, r5 u hR⟩
theorem FP.i11 (F : FP pg h h') : pI h' pg 11 = pI h pg 11 := F.2.2.2.2.1 11 (by omega) (by omega) (by omega) (by omega)
/-- an r or a c put in the top -/
theorem RepB.st83 (H : RepB h pg φ T) (C : CntP h pg φ T) (hW : WF T) (hx : 97 ≤ x ∧ x ≤ 122) (hk : kidOK (tM T ((tS T).getD ((tS T).length - 1) 0)) x) (hr : x = 114 → tM T ((tS T).getD ((tS T).length - 1) 0) = 116) (hc : pI h pg 11 = c) (hR : RU h (u + 8)) : ∃ h', f_X0_start_83 h pg x 0 1 = some h' ∧ OutP pg h u (tPut T x c (plcIn T ((tS T).getD ((tS T).length - 1) 0))) h' := by
  unfold f_X0_start_83
  rw [if_eqp rfl, if_eqn (by omega) (by omega) (by omega) (by omega) (by omega)]
  exact H.st95 C hW hx true hW.inTop hk hr hc hR
theorem RepB.stRC (H : RepB h pg φ T) (C : CntP h pg φ T) (hW : WF T) (hx : x = 114 ∨ x = 99) (hc : pI h pg 11 = c) (hR : RU h (u + 15)) : ∃ h', f_X0_start_70 h pg x 0 1 = some h' ∧ OutP pg h u (tStart x c T) h' := by
  have hb := H.1
  have h24 := hW.b.2.2.2.2.1
  have hw1 := hW.1.2.1
  have hreach := H.reach hW (x := 116) (by unfold nmOK; omega) (n := 0) (by omega)
  rw [show sT 0 = [] from rfl, rch_nil] at hreach
  have hr2 := H.reach hW (x := 114) (by unfold nmOK; omega) (n := 3) (by omega)
  rw [show sT 3 = [116] from rfl, rch_r hW] at hr2
  have hlt116 := topm_lt hW.b 116
  have hlt114 := topm_lt hW.b 114
  unfold f_X0_start_70 f_X0_ready tStart
  rw [if_eqn (by omega) (by omega) (by omega) (by omega) (by omega), gd_c hb.1.1, gd_c hb.1.1, hreach, obind_some, if_pos hx]
  by_cases h0 : topm T 116 = 0
  · rw [if_pos h0, if_eqp (by omega), obind_some, if_eqp rfl]
    exact ⟨h, rfl, OutP.of H C (FP.refl _ _) (hR.mono (by omega))⟩
  · rw [if_neg h0, if_eqn (by omega) (by omega) (by omega) (by omega) (by omega), gd_c hb.1.1, hr2, obind_some]
    obtain ⟨ct1, ct2⟩ := cls_top hW h0
    have hW1 := hW.wcls (topm T 116 + 1)
    obtain ⟨h1, r1, r2, r3, r4, r5⟩ := H.shutAt (i := topm T 116 + 1) C hW (by omega) hR
    have hc1 : pI h1 pg 11 = c := by rw [r4.i11]; exact hc
    have e1 : ((topm T 116 : Nat) : Int) + 1 = ((topm T 116 + 1 : Nat) : Int) := by omega
    unfold f_X0_ready_35
    by_cases e114 : x = 114
    · rw [if_eqp e114, gd_c hb.1.1, e1, r1, obind_some]
      unfold f_X0_ready_52
      rw [if_eqp e114, obind_some, if_eqn (by omega) (by omega) (by omega) (by omega) (by omega), if_pos e114]
      obtain ⟨h2, s1, s2⟩ := r2.st83 (x := x) (u := u) r3 hW1 (by omega) (by rw [ct1, e114]; exact kid_t) (fun _ => ct1) hc1 (r5.mono (by omega))
      exact ⟨h2, s1, OutP.pre r4 s2⟩
    · have e99 : x = 99 := by omega
      rw [if_eqn e114 (by omega) (by omega) (by omega) (by omega), if_neg e114]
      by_cases hlt : topm T 116 < topm T 114
      · rw [if_pos hlt, if_pos hlt, if_eqn (by omega) (by omega) (by omega) (by omega) (by omega), gd_c hb.1.1, show ((topm T 114 : Nat) : Int) + 1 = ((topm T 114 + 1 : Nat) : Int) by omega]
        obtain ⟨dt1, dt2⟩ := cls_top hW (x := 114) (by omega)
        obtain ⟨h1, r1, r2, r3, r4, r5⟩ := H.shutAt (i := topm T 114 + 1) C hW (by omega) hR
        have hc1 : pI h1 pg 11 = c := by rw [r4.i11]; exact hc
        rw [r1, obind_some]
        unfold f_X0_ready_52
        rw [if_eqn e114 (by omega) (by omega) (by omega) (by omega), if_ltp (by omega) (by omega) (by omega), obind_some, if_eqn (by omega) (by omega) (by omega) (by omega) (by omega)]
        obtain ⟨h2, s1, s2⟩ := r2.st83 (x := x) (u := u) r3 (hW.wcls (topm T 114 + 1)) (by omega) (by rw [dt1, e99]; exact kid_r) (fun z => (e114 z).elim) hc1 (r5.mono (by omega))
        exact ⟨h2, s1, OutP.pre r4 s2⟩
      · rw [if_neg hlt, if_neg hlt, if_eqp (by omega), gd_c hb.1.1, e1, r1, obind_some]
        unfold f_X0_ready_52
        rw [if_eqn e114 (by omega) (by omega) (by omega) (by omega), if_ltn (by omega) (by omega) (by omega), gd_c r2.1.1.1]
        obtain ⟨p1, p2⟩ := r2.element (x := 114) (c := 0) (u := u + 11) r3 hW1 (by unfold nmOK; omega) (by omega) r5
        by_cases e : tN (cls T (topm T 116 + 1)) = 24
        · obtain ⟨h2, s1, s2, s3, s4, s5⟩ := p1 e
          rw [s1, obind_some]
          simp only []
          rw [mkN_none e]
          refine ⟨h2, ?_, s3, r4.trans s4, s5.mono (by omega), s2⟩
          rw [nl_none, obind_some, if_eqp rfl]
        · obtain ⟨h2, a, s1, s2, s3, s4, s5⟩ := p2 e
          rw [s1, obind_some]
          simp only []
          rw [mkN_some e]
          obtain ⟨h3, w1, w2, w3, w4, w5⟩ := s2.putTop (u := u + 10) hW1 (by omega) s3 s5
          have hkt : kidOK (tM (cls T (topm T 116 + 1)) (plcIn (cls T (topm T 116 + 1)) ((tS (cls T (topm T 116 + 1))).getD ((tS (cls T (topm T 116 + 1))).length - 1) 0)).2.2) 114 := by
            have z := kid_t
            rw [← ct1] at z
            exact z
          have hW3 := hW1.mk (c := 0) e hW1.inTop (Or.inr (by omega : (97 : Int) ≤ 114 ∧ (114 : Int) ≤ 122)) hkt
          have hW4 := hW1.mkpsh (c := 0) e hW1.inTop (Or.inr (by omega : (97 : Int) ≤ 114 ∧ (114 : Int) ≤ 122)) hkt (by unfold noKid; omega) (fun _ => ct1)
          have hN := hW1.1.1
          have hl1 := hW1.b.2.2.2.2.1
          have hl2 := hW1.1.2.1
          have hnS : tN (cls T (topm T 116 + 1)) ∉ tS (cls T (topm T 116 + 1)) := fun y => by have := (hW1.stk _ y).1; omega
          obtain ⟨h4, v1, v2, v3, v4, v5⟩ := w2.enter (u := u + 8) hW3.stk (by rw [tS_mkT]; omega) (i := tN (cls T (topm T 116 + 1))) (by rw [tN_mkT]; omega) (by rw [tM_mkT, va_up_s]; omega) hnS (by rw [tL_mkT, va_up_s]) (by rw [tM_mkT, va_up_s]; unfold nmOK; omega) (fun z => by omega) w5
          rw [va_up_s] at v1
          have FF := ((r4.trans s4).trans w4).trans v3
          obtain ⟨h5, y1, y2⟩ := v2.st83 (x := x) (c := c) (u := u) (w3.mono v4 rfl rfl) hW4 (by omega) (by rw [tM_psh, tM_mkT, tS_psh, tS_mkT, List.length_append, List.length_singleton, Nat.add_sub_cancel, getD_snoc', va_up_s, e99]; exact kid_r) (fun z => (e114 z).elim) (by rw [FF.i11]; exact hc) v5
          refine ⟨h5, ?_, OutP.pre FF y2⟩
          rw [nl_some, gd_c (by exact s2.1.1.1), w1 _ (fun y7 => gd (pK y7 pg = 1) (Option.bind (f_X0_enter y7 pg a) (fun y8 => some (y8, 1)))), gd_c (by exact w2.1.1.1), v1, obind_some, obind_some, if_eqn (by omega) (by omega) (by omega) (by omega) (by omega)]
          exact y1
theorem idx_blk (hx : nmOK x) : f_J6_indexOf h 6 x = some (ixT 6 x) ∧ (ixT 6 x < 0 ↔ isBlk x = false) ∧ -1 ≤ ixT 6 x ∧ ixT 6 x < 8 := by
  unfold nmOK at hx
  exact ⟨idxOf_eq (by omega) (by omega) (by omega), ixT_neg 6 x, ixT_rng 6 (by omega) x⟩
theorem RepB.start (H : RepB h pg φ T) (C : CntP h pg φ T) (hW : WF T) (hx : 97 ≤ x ∧ x ≤ 122) (hc : pI h pg 11 = c) (hR : RU h (u + 36)) : ∃ h', f_X0_start h pg x = some h' ∧ OutP pg h u (tStart x c T) h' := by
  have hb := H.1
  obtain ⟨i1, i2, i3, i4⟩ := idx_blk (h := h) (x := x) (by unfold nmOK; omega)
  unfold f_X0_start
  rw [gd_c (by omega), i1, obind_some]
  by_cases hrc : x = 114 ∨ x = 99
  · have hnb : isBlk x = false := by rcases hrc with z | z <;> rw [z] <;> rfl
    rw [if_ltp (i2.mpr hnb) (by omega) (by omega)]
    obtain ⟨h', r1, r2⟩ := H.stRC (c := c) (u := u) C hW hrc hc (hR.mono (by omega))
    refine ⟨h', ?_, r2⟩
    unfold f_X0_start_15 f_X0_start_28 f_X0_start_33 f_X0_start_51
    rcases hrc with z | z
    · rw [if_eqp z, if_eqp rfl, if_eqn (by omega) (by omega) (by omega) (by omega) (by omega)]
      exact r1
    · rw [if_eqn (by omega) (by omega) (by omega) (by omega) (by omega), if_eqp z, if_eqp rfl, if_eqn (by omega) (by omega) (by omega) (by omega) (by omega)]
      exact r1
  · have t15 : ∀ v, f_X0_start_15 h pg x v = f_X0_start_33 h pg x v 0 := fun v => by
      unfold f_X0_start_15
      rw [if_eqn (by omega) (by omega) (by omega) (by omega) (by omega), if_eqn (by omega) (by omega) (by omega) (by omega) (by omega)]
    rw [t15, t15]
    unfold tStart
    rw [if_neg hrc]
    cases hbk : isBlk x with
    | false =>
      have hne : x ≠ 108 := fun z => by rw [z] at hbk; cases hbk
      rw [if_ltp (i2.mpr hbk) (by omega) (by omega)]
      unfold f_X0_start_33 f_X0_start_51 f_X0_start_70 f_X0_start_83
      rw [if_eqp rfl, if_eqn hne (by omega) (by omega) (by omega) (by omega), if_eqp rfl, if_eqp rfl, if_eqp rfl, gd_c hb.1.1]
      simp only [Bool.false_eq_true, if_false]
      obtain ⟨h1, r1, r2⟩ := H.renew (u := u + 8) C hW hR
      rw [r1, obind_some]
      cases hr : tRenew T with
      | none =>
        rw [hr] at r2
        have b7 : pI h1 pg 7 = 1 := r2.2.2.2.1
        refine ⟨h1, ?_, r2.1, r2.2.1, r2.2.2.1.mono (by omega), r2.2.2.2⟩
        unfold f_X0_start_95 f_X0_start_115
        rw [gd_c r2.1.1.1, b7, if_eqn (by omega) (by omega) (by omega) (by omega) (by omega), nl_none]
      | some T1 =>
        rw [hr] at r2
        obtain ⟨φ1, H1, C1⟩ := r2.2.2.2
        have hW1 := hW.renew hr
        obtain ⟨h2, s1, s2⟩ := H1.st95 (x := x) (c := c) (u := u) C1 hW1 hx false (hW1.place hW1.len (Nat.le_refl _)).1 (hW1.kid hW1.len (Nat.le_refl _) x) (fun z => (hrc (Or.inl z)).elim) (by rw [r2.2.1.i11]; exact hc) r2.2.2.1
        exact ⟨h2, s1, OutP.pre r2.2.1 s2⟩
    | true =>
      have : ¬ ixT 6 x < 0 := fun z => by rw [i2, hbk] at z; cases z
      rw [if_ltn (by omega) (by omega) (by omega)]
      simp only [if_true]
      obtain ⟨h1, r1, r2, r3, r4, r5, r6⟩ := H.shut (x := 112) (n := 1) C hW (by unfold nmOK; omega) (by omega) hR
      have hW1 := hW.wcls (rch T 112 (sT 1))
      unfold f_X0_start_33
      rw [if_eqn (by omega) (by omega) (by omega) (by omega) (by omega), gd_c hb.1.1, r1, obind_some, gd_c hb.1.1, r2, obind_some]
      have fin : ∀ (g : HP) (T2 : TS), RepB g pg φ T2 → CntP g pg φ T2 → WF T2 → FP pg h g → RU g (u + 36) → ∃ h', f_X0_start_70 g pg x 1 0 = some h' ∧ OutP pg h u (tPut T2 x c (plc T2 (tS T2).length)) h' := fun g T2 G1 G2 G3 G4 G5 => by
        unfold f_X0_start_70 f_X0_start_83
        rw [if_eqp rfl, if_eqn (by omega) (by omega) (by omega) (by omega) (by omega)]
        obtain ⟨h2, s1, s2⟩ := G1.st95 (x := x) (c := c) (u := u) G2 G3 hx false (G3.place G3.len (Nat.le_refl _)).1 (G3.kid G3.len (Nat.le_refl _) x) (fun z => (hrc (Or.inl z)).elim) (by rw [G4.i11]; exact hc) (G5.mono (by omega))
        exact ⟨h2, s1, OutP.pre G4 s2⟩
      unfold f_X0_start_51
      by_cases e : x = 108
      · rw [if_eqp e, if_pos e]
        obtain ⟨h2, s1, s2, s3, s4, s5, s6⟩ := r3.shut (x := 108) (n := 2) r4 hW1 (by unfold nmOK; omega) (by omega) r6
        rw [gd_c r3.1.1.1, s1, obind_some, gd_c r3.1.1.1, s2, obind_some]
        exact fin _ _ s3 s4 (hW1.wcls _) (r5.trans s5) s6
      · rw [if_eqn e (by omega) (by omega) (by omega) (by omega), if_neg e]
        exact fin _ _ r3 r4 hW1 r5 r6
end PB
