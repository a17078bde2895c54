/-! the reference: start tags -/
set_option maxRecDepth 100000
section MT
variable {M : MS} {T : TS} {E : List (Nat × Nat)}
theorem EntA.of {M' : MS} (h : M'.1 16 = M.1 16 ∧ M'.2 14 = M.2 14 ∧ M'.2 15 = M.2 15) (hE : EntA M E) : EntA M' E := by
  obtain ⟨a, b, c⟩ := h
  refine ⟨by rw [a]; exact hE.1, fun k hk => ?_⟩
  rw [b, c]
  exact hE.2 k hk
theorem isFmt_mk (x : Int) : [98, 105, 115].contains x = isFmt x := rfl
theorem m_put_eq (hR : RepM M T) (hW : WF T) {x c : Int} {q : Nat × Nat × Nat} (hq : Place T q) (hx : 97 ≤ x ∧ x ≤ 122) (hk : kidOK (tM T q.2.2) x) (hr : x = 114 → tM T ((tS T).getD ((tS T).length - 1) 0) = 116) (h20 : M.1 20 = (q.1 : Int)) (h21 : M.1 21 = (q.2.1 : Int)) : ∃ M', m_start_47 M x c = some M' ∧ OutM M (tPut T x c q) M' := by
  have hx' : nmOK x := by unfold nmOK; omega
  have hq1 : q.1 ≤ tN T := by
    obtain ⟨A, C, e, ha, -⟩ := hq
    rw [← ha, ← hW.1.2.2.1, e]; simp
  have hbit := m_bit_eq x (by omega) (by omega)
  unfold m_start_47 tPut
  rw [m_listOwner_eq hR hW.b, obind_some]
  by_cases hn : tN T = 24
  · rw [mkN_none hn, m_create_none hR _ _ hn]
    refine ⟨sI M 4 1, ?_, (FM.refl M).sI (by simp) _, sI_s _ _ _⟩
    simp (disch := omega) only [if_ltp, if_ltn, if_eqp, if_eqn, if_T, if_F, gd_zin, gd_isB0, gd_isB1, zix_toNat, Int.toNat_natCast, tn_a1, tn_a, tn_s1, tn_s, tn_m1, tn_l0, tn_l1, bnd_eq, obind_some, mr_some, sI_s, sI_n, sI_2, sA_1, sA_s, sA_i, sA_n]
  · obtain ⟨M1, a1, a2, a3, a4⟩ := m_create_some hR ⟨hW.1.2.1, hW.1.2.2.1⟩ x c q hn hq1 h20 h21 (hW.2.2.2.2.2 _ (Nat.le_refl _)).1 (hW.2.2.2.2.2 _ (Nat.le_refl _)).2
    have h4 : M1.1 4 = 0 := a4.1
    rw [mkN_some hn, a1]
    simp only []
    by_cases hc : x = 104 ∨ x = 107
    · rw [if_pos hc]
      refine ⟨M1, ?_, a2, a4⟩
      have hf : isFmt x = false := by rcases hc with z | z <;> rw [z] <;> rfl
      have h86 : m_start_86 M1 x ((ownr T : Nat) : Int) (tN T : Int) = some M1 := by
        unfold m_start_86
        rw [hbit, obind_some, mk_f.at hx', isFmt_mk, hf]
        rfl
      rcases hc with z | z
      · subst z
        simp (disch := omega) only [if_ltp, if_ltn, if_eqp, if_eqn, if_T, if_F, gd_zin, gd_isB0, gd_isB1, zix_toNat, Int.toNat_natCast, tn_a1, tn_a, tn_s1, tn_s, tn_m1, tn_l0, tn_l1, bnd_eq, obind_some, mr_some, sI_s, sI_n, sI_2, sA_1, sA_s, sA_i, sA_n, h4]
        exact h86
      · subst z
        simp (disch := omega) only [if_ltp, if_ltn, if_eqp, if_eqn, if_T, if_F, gd_zin, gd_isB0, gd_isB1, zix_toNat, Int.toNat_natCast, tn_a1, tn_a, tn_s1, tn_s, tn_m1, tn_l0, tn_l1, bnd_eq, obind_some, mr_some, sI_s, sI_n, sI_2, sA_1, sA_s, sA_i, sA_n, h4]
        exact h86
    · rw [if_neg hc]
      have hp := hW.mkpsh hn hq (Or.inr hx) (c := c) hk (by unfold noKid; omega) hr
      have hwm := hW.mk hn hq (Or.inr hx) (c := c) hk
      obtain ⟨M2, b1, b2, b3, b4⟩ := m_push_eq a4 hwm.b (tN T)
      have hgo : (if zI (M1.1 4) = zI 0 then if zI x = zI 104 then m_start_86 M1 x ((ownr T : Nat) : Int) (tN T : Int) else if zI x = zI 107 then m_start_86 M1 x ((ownr T : Nat) : Int) (tN T : Int) else Option.bind (m_push M1 (tN T : Int)) (fun y5 => m_start_86 y5 x ((ownr T : Nat) : Int) (tN T : Int)) else some M1) = m_start_86 M2 x ((ownr T : Nat) : Int) (tN T : Int) := by
        have z1 : x ≠ 104 := fun z => hc (Or.inl z)
        have z2 : x ≠ 107 := fun z => hc (Or.inr z)
        simp (disch := omega) only [if_ltp, if_ltn, if_eqp, if_eqn, if_T, if_F, gd_zin, gd_isB0, gd_isB1, zix_toNat, Int.toNat_natCast, tn_a1, tn_a, tn_s1, tn_s, tn_m1, tn_l0, tn_l1, bnd_eq, obind_some, mr_some, sI_s, sI_n, sI_2, sA_1, sA_s, sA_i, sA_n, h4, b1]
      rw [obind_some]
      simp only []
      rw [hgo]
      unfold m_start_86
      rw [hbit, obind_some, mk_f.at hx', isFmt_mk]
      cases hf : isFmt x with
      | false => exact ⟨M2, rfl, a2.trans b2, b4⟩
      | true =>
        obtain ⟨M3, c1, c2, c3⟩ := m_list_eq b4 hp (i := tN T) (o := ownr T) (by rw [tN_psh, tN_mkT]; omega) (by rw [tN_psh, tN_mkT]; have := hW.ownr_lt; omega) (fun E hE => by
          obtain ⟨E0, hE0⟩ := hR.ent
          have h1 := (hR.ent' hE0).1
          have h2 := (hE0.of a3).of b3
          rw [hE.uniq h2, tN_psh, tN_mkT]
          omega)
        refine ⟨M3, ?_, (a2.trans b2).trans c2, c3⟩
        simp only [if_true]
        rw [c1]
        rfl
theorem rch_nil (T : TS) (x : Int) : rch T x [] = topm T x := by
  rw [rch_eq]
  have : anyB (fun k => decide (1 ≤ k) && ([] : List Int).contains (sNm T k)) (topm T x + 1) (tS T).length = false := by
    have : ∀ n, anyB (fun k => decide (1 ≤ k) && ([] : List Int).contains (sNm T k)) (topm T x + 1) n = false := by
      intro n
      induction n with
      | zero => rfl
      | succ n ih => rw [anyB_s, ih]; simp
    exact this _
  rw [this]
  by_cases h : topm T x = 0 <;> simp [h]
theorem anyB_false {p : Nat → Bool} {a : Nat} : ∀ n, anyB p a n = false ↔ ∀ k, a ≤ k → k < n → p k = false
  | 0 => by simp [anyB]
  | n + 1 => by
    rw [anyB_s, Bool.or_eq_false_iff, anyB_false n]
    constructor
    · intro ⟨h1, h2⟩ k k1 k2
      by_cases e : k = n
      · rw [e] at k1 ⊢
        simpa [k1] using h2
      · exact h1 k k1 (by omega)
    · intro h
      refine ⟨fun k k1 k2 => h k k1 (by omega), ?_⟩
      by_cases e : a ≤ n
      · simp [h n e (by omega)]
      · simp [e]
theorem topm_max (T : TS) (x : Int) {k : Nat} (h1 : topm T x < k) (h2 : k < (tS T).length) : sNm T k ≠ x := by
  have := lastB_max _ _ k h1 h2
  simp at this
  exact this (by omega)
/-- an r is reached if no t stands above it -/
theorem rch_r (hW : WF T) : rch T 114 [116] = if topm T 116 < topm T 114 then topm T 114 else 0 := by
  rw [rch_eq]
  by_cases h : topm T 116 < topm T 114
  · rw [if_pos h, if_pos]
    refine ⟨by omega, (anyB_false _).mpr fun k k1 k2 => ?_⟩
    have := topm_max T 116 (k := k) (by omega) k2
    rw [c1_ne this]
    simp
  · rw [if_neg h, if_neg]
    rintro ⟨h1, h2⟩
    have h3 := (anyB_false _).mp h2
    have h4 : topm T 116 ≠ topm T 114 := fun q => by
      have a := topm_at (T := T) (x := 114) h1
      have b := topm_at (T := T) (x := 116) (by omega)
      rw [q, a] at b
      omega
    have h5 := h3 (topm T 116) (by omega) (topm_lt hW.b 116)
    rw [topm_at (by omega)] at h5
    simp at h5
    omega
theorem topm_r (hW : WF T) (h : topm T 114 ≠ 0) : topm T 116 ≠ 0 := by
  have hlt := topm_lt hW.b 114
  have h1 := hW.tbl (n := topm T 114 + 1) (by omega) (by omega) (by
    show isTR (sNm T (topm T 114)) = true
    rw [topm_at h]; rfl)
  intro h0
  have hlt2 := lastB_lt (fun k => decide (1 ≤ k) && decide (sNm T k = 116)) (topm T 114 + 1) (by omega)
  have h2 := lastB_at _ _ h1
  simp only [Bool.and_eq_true, decide_eq_true_eq] at h2
  exact topm_max T 116 (k := lastB (fun k => decide (1 ≤ k) && decide (sNm T k = 116)) (topm T 114 + 1)) (by omega) (by omega) h2.2
theorem m_findPlace_st (hR : RepM M T) (hW : WF T) : m_findPlace M (M.1 13) = some (sI (sI M 20 ((plc T (tS T).length).1 : Nat)) 21 ((plc T (tS T).length).2.1 : Nat)) := by
  rw [hR.2.2.2.1]
  exact m_findPlace_eq hR hW.b hW.len (Nat.le_refl _)
/-- an element put where THE PLACE is -/
theorem m_put_plc (hR : RepM M T) (hW : WF T) {x c : Int} (hx : 97 ≤ x ∧ x ≤ 122) (hr : x ≠ 114) : ∃ M', Option.bind (m_findPlace M (M.1 13)) (fun y2 => m_start_47 y2 x c) = some M' ∧ OutM M (tPut T x c (plc T (tS T).length)) M' := by
  rw [m_findPlace_st hR hW, obind_some]
  obtain ⟨M', a1, a2, a3⟩ := m_put_eq (hR.place _ _) hW (q := plc T (tS T).length) (x := x) (c := c) (hW.place hW.len (Nat.le_refl _)).1 hx (hW.kid hW.len (Nat.le_refl _) x) (fun q => absurd q hr) (M := sI (sI M 20 ((plc T (tS T).length).1 : Nat)) 21 ((plc T (tS T).length).2.1 : Nat)) (by simp (disch := omega) only [if_ltp, if_ltn, if_eqp, if_eqn, if_T, if_F, gd_zin, gd_isB0, gd_isB1, zix_toNat, Int.toNat_natCast, tn_a1, tn_a, tn_s1, tn_s, tn_m1, tn_l0, tn_l1, bnd_eq, obind_some, mr_some, sI_s, sI_n, sI_2, sA_1, sA_s, sA_i, sA_n]) (by simp (disch := omega) only [if_ltp, if_ltn, if_eqp, if_eqn, if_T, if_F, gd_zin, gd_isB0, gd_isB1, zix_toNat, Int.toNat_natCast, tn_a1, tn_a, tn_s1, tn_s, tn_m1, tn_l0, tn_l1, bnd_eq, obind_some, mr_some, sI_s, sI_n, sI_2, sA_1, sA_s, sA_i, sA_n])
  exact ⟨M', a1, (((FM.refl M).sI (by simp) _).sI (by simp) _).trans a2, a3⟩
/-- an element put in the top -/
theorem m_put_top (hR : RepM M T) (hW : WF T) {x c : Int} (hx : 97 ≤ x ∧ x ≤ 122) (hk : kidOK (tM T ((tS T).getD ((tS T).length - 1) 0)) x) (hr : x = 114 → tM T ((tS T).getD ((tS T).length - 1) 0) = 116) : ∃ M', m_start_21 M x c = some M' ∧ OutM M (tPut T x c (plcIn T ((tS T).getD ((tS T).length - 1) 0))) M' := by
  have hlen := hW.len
  have ht := (hW.top hlen (Nat.le_refl _)).2.1
  have h24 := hW.b.2.2.2.2.1
  have h1 := hW.1.2.1
  have h12 := hR.2.2.2.2.2.2.2.2.1 ((tS T).length - 1) (by omega)
  obtain ⟨M', a1, a2, a3⟩ := m_put_eq (hR.place _ _) hW (q := plcIn T ((tS T).getD ((tS T).length - 1) 0)) (x := x) (c := c) hW.inTop hx hk hr (M := sI (sI M 20 ((plcIn T ((tS T).getD ((tS T).length - 1) 0)).1 : Nat)) 21 ((plcIn T ((tS T).getD ((tS T).length - 1) 0)).2.1 : Nat)) (by simp (disch := omega) only [if_ltp, if_ltn, if_eqp, if_eqn, if_T, if_F, gd_zin, gd_isB0, gd_isB1, zix_toNat, Int.toNat_natCast, tn_a1, tn_a, tn_s1, tn_s, tn_m1, tn_l0, tn_l1, bnd_eq, obind_some, mr_some, sI_s, sI_n, sI_2, sA_1, sA_s, sA_i, sA_n]) (by simp (disch := omega) only [if_ltp, if_ltn, if_eqp, if_eqn, if_T, if_F, gd_zin, gd_isB0, gd_isB1, zix_toNat, Int.toNat_natCast, tn_a1, tn_a, tn_s1, tn_s, tn_m1, tn_l0, tn_l1, bnd_eq, obind_some, mr_some, sI_s, sI_n, sI_2, sA_1, sA_s, sA_i, sA_n])
  refine ⟨M', ?_, (((FM.refl M).sI (by simp) _).sI (by simp) _).trans a2, a3⟩
  unfold m_start_21
  simp (disch := omega) only [if_ltp, if_ltn, if_eqp, if_eqn, if_T, if_F, gd_zin, gd_isB0, gd_isB1, zix_toNat, Int.toNat_natCast, tn_a1, tn_a, tn_s1, tn_s, tn_m1, tn_l0, tn_l1, bnd_eq, obind_some, mr_some, sI_s, sI_n, sI_2, sA_1, sA_s, sA_i, sA_n, hR.2.2.2.1, h12, m_insideTop_eq hR hW.b ht]
  exact a1
theorem m_start_eq (hR : RepM M T) (hW : WF T) {x c : Int} (hx : 97 ≤ x ∧ x ≤ 122) : ∃ M', m_start M x c = some M' ∧ OutM M (tStart x c T) M' := by
  have hx' : nmOK x := by unfold nmOK; omega
  have h4 : M.1 4 = 0 := hR.1
  have hbit := m_bit_eq x (by omega) (by omega)
  have h24 := hW.b.2.2.2.2.1
  have hw1 := hW.1.2.1
  have ht116 := m_topmost_eq hR hW.b 116 (by unfold nmOK; omega)
  have hlt116 := topm_lt hW.b 116
  have hblk : ∀ (a b : Option (MS × Int)), (if zI (zand (bitv x) 1607816) = zI 0 then a else b) = if isBlk x then b else a := fun a b => mk_b.at hx' a b
  unfold m_start m_clearWay tStart
  rw [hbit, obind_some, hblk]
  by_cases hrc : x = 114 ∨ x = 99
  · rw [if_pos hrc]
    have hnb : isBlk x = false := by rcases hrc with z | z <;> rw [z] <;> rfl
    rw [hnb]
    simp only [Bool.false_eq_true, if_false]
    unfold m_clearWay_15
    rw [ht116, obind_some]
    by_cases h0 : topm T 116 = 0
    · rw [if_pos h0, h0, zlast_0]
      refine ⟨M, ?_, FM.refl M, hR⟩
      unfold m_clearWay_47
      rcases hrc with z | z
      · subst z; simp (disch := omega) only [if_ltp, if_ltn, if_eqp, if_eqn, if_T, if_F, gd_zin, gd_isB0, gd_isB1, zix_toNat, Int.toNat_natCast, tn_a1, tn_a, tn_s1, tn_s, tn_m1, tn_l0, tn_l1, bnd_eq, obind_some, mr_some, sI_s, sI_n, sI_2, sA_1, sA_s, sA_i, sA_n]
      · subst z; simp (disch := omega) only [if_ltp, if_ltn, if_eqp, if_eqn, if_T, if_F, gd_zin, gd_isB0, gd_isB1, zix_toNat, Int.toNat_natCast, tn_a1, tn_a, tn_s1, tn_s, tn_m1, tn_l0, tn_l1, bnd_eq, obind_some, mr_some, sI_s, sI_n, sI_2, sA_1, sA_s, sA_i, sA_n]
    · rw [if_neg h0, zlast_p h0]
      have hR1 : RepM (sI M 13 ((topm T 116 + 1 : Nat) : Int)) (cls T (topm T 116 + 1)) := by
        have := hR.close (n := topm T 116 + 1) (by omega)
        unfold cls
        rw [if_neg (by omega)]
        exact this
      have hW1 := hW.wcls (topm T 116 + 1)
      obtain ⟨ct1, ct2⟩ := cls_top hW h0
      have hfm1 : FM M (sI M 13 ((topm T 116 + 1 : Nat) : Int)) := (FM.refl M).sI (by simp) _
      rcases hrc with z | z
      · subst z
        simp only [if_true]
        obtain ⟨M', a1, a2, a3⟩ := m_put_top hR1 hW1 (x := 114) (c := c) (by omega) (by rw [ct1]; exact kid_t) (fun _ => ct1)
        refine ⟨M', ?_, hfm1.trans a2, a3⟩
        unfold m_clearWay_47 m_clearWay_181
        simp (disch := omega) only [if_ltp, if_ltn, if_eqp, if_eqn, if_T, if_F, gd_zin, gd_isB0, gd_isB1, zix_toNat, Int.toNat_natCast, tn_a1, tn_a, tn_s1, tn_s, tn_m1, tn_l0, tn_l1, bnd_eq, obind_some, mr_some, sI_s, sI_n, sI_2, sA_1, sA_s, sA_i, sA_n, h4]
        exact a1
      · subst z
        rw [if_neg (show ¬ (99 : Int) = 114 by decide)]
        have ht114 := m_topmost_eq hR hW.b 114 (by unfold nmOK; omega)
        have hlt114 := topm_lt hW.b 114
        by_cases hlt : topm T 116 < topm T 114
        · rw [if_pos hlt]
          have hR2 : RepM (sI M 13 ((topm T 114 + 1 : Nat) : Int)) (cls T (topm T 114 + 1)) := by
            have := hR.close (n := topm T 114 + 1) (by omega)
            unfold cls
            rw [if_neg (by omega)]
            exact this
          obtain ⟨dt1, dt2⟩ := cls_top hW (x := 114) (by omega)
          obtain ⟨M', a1, a2, a3⟩ := m_put_top hR2 (hW.wcls (topm T 114 + 1)) (x := 99) (c := c) (by omega) (by rw [dt1]; exact kid_r) (fun q => by omega)
          refine ⟨M', ?_, ((FM.refl M).sI (by simp) _).trans a2, a3⟩
          rw [zlast_p (by omega)] at ht114
          unfold m_clearWay_47 m_clearWay_136 m_clearWay_181
          simp (disch := omega) only [if_ltp, if_ltn, if_eqp, if_eqn, if_T, if_F, gd_zin, gd_isB0, gd_isB1, zix_toNat, Int.toNat_natCast, tn_a1, tn_a, tn_s1, tn_s, tn_m1, tn_l0, tn_l1, bnd_eq, obind_some, mr_some, sI_s, sI_n, sI_2, sA_1, sA_s, sA_i, sA_n, h4, ht114]
          exact a1
        · rw [if_neg hlt]
          have hzl : zlast (topm T 114) ≤ (topm T 116 : Int) := by unfold zlast; split <;> omega
          have hzl0 : -1 ≤ zlast (topm T 114) := by unfold zlast; split <;> omega
          have htop : (tS (cls T (topm T 116 + 1))).getD ((tS (cls T (topm T 116 + 1))).length - 1) 0 = (tS T).getD (topm T 116) 0 := by
            rw [ct2]
            have e : cls T (topm T 116 + 1) = setS T ((tS T).take (topm T 116 + 1)) := if_neg (by omega)
            rw [e, tS_setS]
            simp only [Nat.add_sub_cancel]
            rw [getD_take' (by omega)]
          have h12 := hR.2.2.2.2.2.2.2.2.1 (topm T 116) (by omega)
          have hin := m_insideTop_eq hR1 hW1.b (i := (tS T).getD (topm T 116) 0) (by
            rw [← htop]
            exact (hW1.top hW1.len (Nat.le_refl _)).2.1)
          have hRp := hR1.place ((plcIn (cls T (topm T 116 + 1)) ((tS T).getD (topm T 116) 0)).1 : Nat) ((plcIn (cls T (topm T 116 + 1)) ((tS T).getD (topm T 116) 0)).2.1 : Nat)
          have hnN : tN (cls T (topm T 116 + 1)) = tN T := by
            unfold cls
            rw [if_neg (by omega)]; rfl
          rw [htop]
          have hpi := hW1.inTop
          rw [htop] at hpi ct1
          have hfmp : FM M (sI (sI (sI M 13 ((topm T 116 + 1 : Nat) : Int)) 20 ((plcIn (cls T (topm T 116 + 1)) ((tS T).getD (topm T 116) 0)).1 : Nat)) 21 ((plcIn (cls T (topm T 116 + 1)) ((tS T).getD (topm T 116) 0)).2.1 : Nat)) := (hfm1.sI (by simp) _).sI (by simp) _
          by_cases hn : tN (cls T (topm T 116 + 1)) = 24
          · rw [mkN_none hn]
            refine ⟨sI (sI (sI (sI M 13 ((topm T 116 + 1 : Nat) : Int)) 20 ((plcIn (cls T (topm T 116 + 1)) ((tS T).getD (topm T 116) 0)).1 : Nat)) 21 ((plcIn (cls T (topm T 116 + 1)) ((tS T).getD (topm T 116) 0)).2.1 : Nat)) 4 1, ?_, hfmp.sI (by simp) _, sI_s _ _ _⟩
            unfold m_clearWay_47 m_clearWay_136 m_clearWay_181
            simp (disch := omega) only [if_ltp, if_ltn, if_eqp, if_eqn, if_T, if_F, gd_zin, gd_isB0, gd_isB1, zix_toNat, Int.toNat_natCast, tn_a1, tn_a, tn_s1, tn_s, tn_m1, tn_l0, tn_l1, bnd_eq, obind_some, mr_some, sI_s, sI_n, sI_2, sA_1, sA_s, sA_i, sA_n, h4, ht114, h12, show ((topm T 116 : Nat) : Int) + 1 = ((topm T 116 + 1 : Nat) : Int) from rfl, hin, m_create_none hRp _ _ hn]
            rw [m_push_no (sI_s _ _ _)]
            simp (disch := omega) only [if_ltp, if_ltn, if_eqp, if_eqn, if_T, if_F, gd_zin, gd_isB0, gd_isB1, zix_toNat, Int.toNat_natCast, tn_a1, tn_a, tn_s1, tn_s, tn_m1, tn_l0, tn_l1, bnd_eq, obind_some, mr_some, sI_s, sI_n, sI_2, sA_1, sA_s, sA_i, sA_n]
          · rw [mkN_some hn]
            simp only []
            obtain ⟨M1, a1, a2, a3, a4⟩ := m_create_some hRp ⟨hW1.1.2.1, hW1.1.2.2.1⟩ 114 0 (plcIn (cls T (topm T 116 + 1)) ((tS T).getD (topm T 116) 0)) hn (plcIn_le hW1.b (by rw [← htop]; exact (hW1.top hW1.len (Nat.le_refl _)).2.1)).2.1 (by simp (disch := omega) only [if_ltp, if_ltn, if_eqp, if_eqn, if_T, if_F, gd_zin, gd_isB0, gd_isB1, zix_toNat, Int.toNat_natCast, tn_a1, tn_a, tn_s1, tn_s, tn_m1, tn_l0, tn_l1, bnd_eq, obind_some, mr_some, sI_s, sI_n, sI_2, sA_1, sA_s, sA_i, sA_n]) (by simp (disch := omega) only [if_ltp, if_ltn, if_eqp, if_eqn, if_T, if_F, gd_zin, gd_isB0, gd_isB1, zix_toNat, Int.toNat_natCast, tn_a1, tn_a, tn_s1, tn_s, tn_m1, tn_l0, tn_l1, bnd_eq, obind_some, mr_some, sI_s, sI_n, sI_2, sA_1, sA_s, sA_i, sA_n]) (hW1.2.2.2.2.2 _ (Nat.le_refl _)).1 (hW1.2.2.2.2.2 _ (Nat.le_refl _)).2
            have hw2 := hW1.mk hn hpi (x := 114) (c := 0) (Or.inr (by omega)) (by show kidOK (tM _ ((tS T).getD (topm T 116) 0)) 114; rw [ct1]; exact kid_t)
            obtain ⟨M2, b1, b2, b3, b4⟩ := m_push_eq a4 hw2.b (tN (cls T (topm T 116 + 1)))
            have hw3 := hW1.mkpsh hn (x := 114) (c := 0) hpi (Or.inr (by omega)) (by show kidOK (tM _ ((tS T).getD (topm T 116) 0)) 114; rw [ct1]; exact kid_t) (by unfold noKid; omega) (fun _ => by rw [htop]; exact ct1)
            have h4' : M2.1 4 = 0 := b4.1
            have hkd : tM (psh (mkT (cls T (topm T 116 + 1)) 114 0 (plcIn (cls T (topm T 116 + 1)) ((tS T).getD (topm T 116) 0))) (tN (cls T (topm T 116 + 1)))) ((tS (psh (mkT (cls T (topm T 116 + 1)) 114 0 (plcIn (cls T (topm T 116 + 1)) ((tS T).getD (topm T 116) 0))) (tN (cls T (topm T 116 + 1))))).getD ((tS (psh (mkT (cls T (topm T 116 + 1)) 114 0 (plcIn (cls T (topm T 116 + 1)) ((tS T).getD (topm T 116) 0))) (tN (cls T (topm T 116 + 1))))).length - 1) 0) = 114 := by
              rw [tM_psh, tM_mkT, tS_psh, tS_mkT, List.length_append]
              simp [va_up_s]
            obtain ⟨M', c1, c2, c3⟩ := m_put_top b4 hw3 (x := 99) (c := c) (by omega) (by rw [hkd]; exact kid_r) (fun q => by omega)
            refine ⟨M', ?_, (hfmp.trans (a2.trans b2)).trans c2, c3⟩
            unfold m_clearWay_47 m_clearWay_136 m_clearWay_181
            simp (disch := omega) only [if_ltp, if_ltn, if_eqp, if_eqn, if_T, if_F, gd_zin, gd_isB0, gd_isB1, zix_toNat, Int.toNat_natCast, tn_a1, tn_a, tn_s1, tn_s, tn_m1, tn_l0, tn_l1, bnd_eq, obind_some, mr_some, sI_s, sI_n, sI_2, sA_1, sA_s, sA_i, sA_n, h4, ht114, h12, show ((topm T 116 : Nat) : Int) + 1 = ((topm T 116 + 1 : Nat) : Int) from rfl, hin, a1, b1, h4']
            exact c1
  · rw [if_neg hrc]
    have hx1 : x ≠ 114 := fun q => hrc (Or.inl q)
    have hx2 : x ≠ 99 := fun q => hrc (Or.inr q)
    have hz1 : -1 ≤ zlast (topm T 116) ∧ zlast (topm T 116) < 100 := by unfold zlast; split <;> omega
    cases hb : isBlk x with
    | true =>
      simp only [if_true]
      unfold m_clearWay_15
      rw [ht116, obind_some]
      -- first a p, then an l
      obtain ⟨M1, p1, p2, p3⟩ := m_close_eq (β := MS × Int) hR hW 112 (by unfold nmOK; omega) mk_c (fun M5 => m_clearWay_47 M5 x 1 (zlast (topm T 116)))
      have hW1 := hW.wcls (rch T 112 [99])
      have hstep : (if zI (1 : Int) = zI 0 then m_clearWay_47 M x 1 (zlast (topm T 116)) else Option.bind (m_reach M 112 4) (fun y3 => if zI y3 = zI 0 then m_clearWay_47 M x 1 (zlast (topm T 116)) else Option.bind (m_topmost M 112) (fun y4 => bnd (sI M 13 y4) (fun M5 => m_clearWay_47 M5 x 1 (zlast (topm T 116)))))) = m_clearWay_47 M1 x 1 (zlast (topm T 116)) := by
        rw [if_eqn (by omega) (by omega) (by omega) (by omega) (by omega), p3]
      rw [hstep]
      by_cases hl : x = 108
      · subst hl
        simp only [if_true]
        obtain ⟨M2, q1, q2, q3⟩ := m_close_eq (β := MS × Int) p2 hW1 108 (by unfold nmOK; omega) mk_uc (fun M5 => m_clearWay_181 M5)
        have hW2 := hW1.wcls (rch (cls T (rch T 112 [99])) 108 [117, 99])
        have h4' : M2.1 4 = 0 := q2.1
        have hs2 : m_clearWay_47 M1 108 1 (zlast (topm T 116)) = some (M2, 1) := by
          unfold m_clearWay_47
          rw [if_eqp rfl, q3]
          unfold m_clearWay_181
          simp (disch := omega) only [if_ltp, if_ltn, if_eqp, if_eqn, if_T, if_F, gd_zin, gd_isB0, gd_isB1, zix_toNat, Int.toNat_natCast, tn_a1, tn_a, tn_s1, tn_s, tn_m1, tn_l0, tn_l1, bnd_eq, obind_some, mr_some, sI_s, sI_n, sI_2, sA_1, sA_s, sA_i, sA_n, h4']
        rw [hs2]
        obtain ⟨M', a1, a2, a3⟩ := m_put_plc q2 hW2 (x := 108) (c := c) (by omega) (by omega)
        refine ⟨M', ?_, (p1.trans q1).trans a2, a3⟩
        simp (disch := omega) only [if_ltp, if_ltn, if_eqp, if_eqn, if_T, if_F, gd_zin, gd_isB0, gd_isB1, zix_toNat, Int.toNat_natCast, tn_a1, tn_a, tn_s1, tn_s, tn_m1, tn_l0, tn_l1, bnd_eq, obind_some, mr_some, sI_s, sI_n, sI_2, sA_1, sA_s, sA_i, sA_n]
        exact a1
      · rw [if_neg hl]
        have h4' : M1.1 4 = 0 := p2.1
        have hs2 : m_clearWay_47 M1 x 1 (zlast (topm T 116)) = some (M1, 1) := by
          unfold m_clearWay_47 m_clearWay_181
          simp (disch := omega) only [if_ltp, if_ltn, if_eqp, if_eqn, if_T, if_F, gd_zin, gd_isB0, gd_isB1, zix_toNat, Int.toNat_natCast, tn_a1, tn_a, tn_s1, tn_s, tn_m1, tn_l0, tn_l1, bnd_eq, obind_some, mr_some, sI_s, sI_n, sI_2, sA_1, sA_s, sA_i, sA_n, h4']
        rw [hs2]
        obtain ⟨M', a1, a2, a3⟩ := m_put_plc p2 hW1 (x := x) (c := c) hx hx1
        refine ⟨M', ?_, p1.trans a2, a3⟩
        simp (disch := omega) only [if_ltp, if_ltn, if_eqp, if_eqn, if_T, if_F, gd_zin, gd_isB0, gd_isB1, zix_toNat, Int.toNat_natCast, tn_a1, tn_a, tn_s1, tn_s, tn_m1, tn_l0, tn_l1, bnd_eq, obind_some, mr_some, sI_s, sI_n, sI_2, sA_1, sA_s, sA_i, sA_n]
        exact a1
    | false =>
      simp only [Bool.false_eq_true, if_false]
      have hl : x ≠ 108 := fun q => by rw [q] at hb; exact absurd hb (by decide)
      unfold m_clearWay_15
      rw [ht116, obind_some]
      obtain ⟨M1, a1, a2, a3⟩ := m_renew_eq hR hW
      have hs2 : m_clearWay_47 M x 0 (zlast (topm T 116)) = m_clearWay_181 M1 := by
        unfold m_clearWay_47
        simp (disch := omega) only [if_ltp, if_ltn, if_eqp, if_eqn, if_T, if_F, gd_zin, gd_isB0, gd_isB1, zix_toNat, Int.toNat_natCast, tn_a1, tn_a, tn_s1, tn_s, tn_m1, tn_l0, tn_l1, bnd_eq, obind_some, mr_some, sI_s, sI_n, sI_2, sA_1, sA_s, sA_i, sA_n, a1]
      cases hr : tRenew T with
      | none =>
        rw [hr] at a3
        have h4' : M1.1 4 = 1 := a3
        refine ⟨M1, ?_, a2, h4'⟩
        simp (disch := omega) only [if_ltp, if_ltn, if_eqp, if_eqn, if_T, if_F, gd_zin, gd_isB0, gd_isB1, zix_toNat, Int.toNat_natCast, tn_a1, tn_a, tn_s1, tn_s, tn_m1, tn_l0, tn_l1, bnd_eq, obind_some, mr_some, sI_s, sI_n, sI_2, sA_1, sA_s, sA_i, sA_n, hs2]
        unfold m_clearWay_181
        simp (disch := omega) only [if_ltp, if_ltn, if_eqp, if_eqn, if_T, if_F, gd_zin, gd_isB0, gd_isB1, zix_toNat, Int.toNat_natCast, tn_a1, tn_a, tn_s1, tn_s, tn_m1, tn_l0, tn_l1, bnd_eq, obind_some, mr_some, sI_s, sI_n, sI_2, sA_1, sA_s, sA_i, sA_n, h4']
      | some T1 =>
        rw [hr] at a3
        have hR1 : RepM M1 T1 := a3
        have hW1 := hW.renew hr
        have h4' : M1.1 4 = 0 := hR1.1
        obtain ⟨M', b1, b2, b3⟩ := m_put_plc hR1 hW1 (x := x) (c := c) hx hx1
        refine ⟨M', ?_, a2.trans b2, b3⟩
        simp (disch := omega) only [if_ltp, if_ltn, if_eqp, if_eqn, if_T, if_F, gd_zin, gd_isB0, gd_isB1, zix_toNat, Int.toNat_natCast, tn_a1, tn_a, tn_s1, tn_s, tn_m1, tn_l0, tn_l1, bnd_eq, obind_some, mr_some, sI_s, sI_n, sI_2, sA_1, sA_s, sA_i, sA_n, hs2]
        unfold m_clearWay_181
        simp (disch := omega) only [if_ltp, if_ltn, if_eqp, if_eqn, if_T, if_F, gd_zin, gd_isB0, gd_isB1, zix_toNat, Int.toNat_natCast, tn_a1, tn_a, tn_s1, tn_s, tn_m1, tn_l0, tn_l1, bnd_eq, obind_some, mr_some, sI_s, sI_n, sI_2, sA_1, sA_s, sA_i, sA_n, h4']
        exact b1
end MT
