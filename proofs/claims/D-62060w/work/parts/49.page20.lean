/-! the page's tree: end tags, as a whole -/
set_option maxRecDepth 100000
section PB
variable {h h' h1 : HP} {pg u a e b id : Nat} {φ : Nat → Nat} {T : TS} {x c : Int}
theorem RepB.adopt (H : RepB h pg φ T) (C : CntP h pg φ T) (hW : WF T) (hx : nmOK x) (hR : RU h (u + 80)) :
    (lastB (fun k => decide (1 ≤ k) && decide (tM T ((tL T (ownr T)).getD (k - 1) 0) = x)) ((tL T (ownr T)).length + 1) = 0 → f_X0_adopt h pg x = some (h, 0)) ∧
    (lastB (fun k => decide (1 ≤ k) && decide (tM T ((tL T (ownr T)).getD (k - 1) 0) = x)) ((tL T (ownr T)).length + 1) ≠ 0 → ∃ h', f_X0_adopt h pg x = some (h', 1) ∧ OutP pg h u (tFmt T (lastB (fun k => decide (1 ≤ k) && decide (tM T ((tL T (ownr T)).getD (k - 1) 0) = x)) ((tL T (ownr T)).length + 1) - 1)) h') := by
  have hb := H.1
  obtain ⟨l, l1, l2, l3, l4, l5⟩ := H.list hW
  obtain ⟨o1, o2⟩ := hW.own
  have h4 := hW.2.2.2.2.1 (ownr T)
  have hmm : ∀ k, k < (tL T (ownr T)).length → (tL T (ownr T)).getD k 0 < tN T ∧ isFmt (tM T ((tL T (ownr T)).getD k 0)) = true := fun k hk => hW.2.2.2.1 _ _ (by rw [gD hk]; exact List.getElem_mem _)
  have hloop : ∀ k, k ≤ (tL T (ownr T)).length → f_X0_adopt_12 h pg x l ((k : Int) - 1) = f_X0_adopt_37 h pg l (((lastB (fun k => decide (1 ≤ k) && decide (tM T ((tL T (ownr T)).getD (k - 1) 0) = x)) (k + 1) : Nat) : Int) - 1) := by
    intro k
    induction k with
    | zero =>
      intro _
      refine iter_mr ?_
      simp only [f_X0_adopt_12s]
      rw [if_ltp (by omega) (by omega) (by omega)]
      rfl
    | succ k ih =>
      intro hk
      obtain ⟨i1, i2⟩ := hmm k (by omega)
      have hfn := fmt_nm i2
      have hE := H.elc i1 (by omega)
      have hstep : f_X0_adopt_12s h pg x l (((k + 1 : Nat) : Int) - 1) = if tM T ((tL T (ownr T)).getD k 0) = x then mr (f_X0_adopt_37 h pg l (((k + 1 : Nat) : Int) - 1)) else some (.inl ((k : Int) - 1)) := by
        unfold f_X0_adopt_12s lGet
        rw [if_ltn (by omega) (by omega) (by omega), gd_c (by rw [l5]; decide), l3, gd_zin (by omega) (by rw [List.length_map]; omega) (by rw [List.length_map]; omega), zix_toNat (by omega) (by omega), show (((k + 1 : Nat) : Int) - 1).toNat = k by omega, getD_map (by omega), obind_some, gd_c hE.1, gd_c hE.1, H.is hW i1 (by omega) hx, obind_some]
        by_cases z : tM T ((tL T (ownr T)).getD k 0) = x
        · rw [if_pos z, decide_eq_true z, zb_t, if_eqn (by omega) (by omega) (by omega) (by omega) (by omega)]
        · rw [if_neg z, decide_eq_false z, zb_f, if_eqp rfl]
          congr 2
          omega
      rw [lastB_s]
      simp only [show decide (1 ≤ k + 1) = true from decide_eq_true (by omega), Bool.true_and, Nat.add_sub_cancel, decide_eq_true_eq]
      by_cases z : tM T ((tL T (ownr T)).getD k 0) = x
      · rw [if_pos z] at hstep ⊢
        exact iter_mr hstep
      · rw [if_neg z] at hstep ⊢
        show iter _ _ = _
        rw [iter_in hstep]
        exact ih (by omega)
  have hpre : f_X0_adopt h pg x = f_X0_adopt_37 h pg l (((lastB (fun k => decide (1 ≤ k) && decide (tM T ((tL T (ownr T)).getD (k - 1) 0) = x)) ((tL T (ownr T)).length + 1) : Nat) : Int) - 1) := by
    unfold f_X0_adopt lLen
    rw [gd_c hb.1.1, l1, obind_some, obind_some, gd_c (by rw [l5]; decide), obind_some, bnd_eq, l3, List.length_map, hloop _ (Nat.le_refl _)]
  rw [hpre]
  have hlt := lastB_lt (fun k => decide (1 ≤ k) && decide (tM T ((tL T (ownr T)).getD (k - 1) 0) = x)) ((tL T (ownr T)).length + 1) (by omega)
  generalize lastB (fun k => decide (1 ≤ k) && decide (tM T ((tL T (ownr T)).getD (k - 1) 0) = x)) ((tL T (ownr T)).length + 1) = k1 at *
  constructor
  · intro z
    unfold f_X0_adopt_37
    rw [z, if_ltp (by omega) (by omega) (by omega)]
  · intro z
    obtain ⟨k, rfl⟩ : ∃ k, k1 = k + 1 := ⟨k1 - 1, by omega⟩
    rw [show ((k + 1 : Nat) : Int) - 1 = (k : Int) by omega, Nat.add_sub_cancel]
    obtain ⟨i1, i2⟩ := hmm k (by omega)
    have hfn := fmt_nm i2
    have hE := H.elc i1 (by omega)
    have R := H.lset hW.stk o1 l2 l4 ((tL T (ownr T)).take k ++ (tL T (ownr T)).drop (k + 1))
    have hW1 := hW.wdrop (ownr T) k
    have e21 : pg + 4 ≠ l := kne h (by have := hb.2.1; omega)
    have e22 : pg + 5 ≠ l := kne h (by have := hb.2.1; omega)
    have C1 : CntP (wL h l (((tL T (ownr T)).take k ++ (tL T (ownr T)).drop (k + 1)).map φ)) pg φ (setL T (va_up (tL T) (ownr T) ((tL T (ownr T)).take k ++ (tL T (ownr T)).drop (k + 1)))) := C.mono ⟨rfl, rfl, pL_ne _ e21, pL_ne _ e22⟩ rfl rfl
    have F1 : FP pg h (wL h l (((tL T (ownr T)).take k ++ (tL T (ownr T)).drop (k + 1)).map φ)) := FP.aL (tk2 l5 (by unfold treeK; omega)) _
    have hd : ∀ (β : Type) (f : HP × Nat → Option β), (Option.bind (lDel h l (k : Int)) f) = f (wL h l (((tL T (ownr T)).take k ++ (tL T (ownr T)).drop (k + 1)).map φ), φ ((tL T (ownr T)).getD k 0)) := fun β f => by
      unfold lDel
      rw [gd_c (by rw [l5]; decide), l3, gd_zin (by omega) (by rw [List.length_map]; omega) (by rw [List.length_map]; omega), zix_nat (by omega), obind_some, getD_map (by omega), List.map_append, List.map_take, List.map_drop]
    unfold f_X0_adopt_37 lGet
    rw [if_ltn (by omega) (by omega) (by omega), gd_c (by rw [l5]; decide), l3, gd_zin (by omega) (by rw [List.length_map]; omega) (by rw [List.length_map]; omega), zix_nat (by omega), getD_map (by omega), obind_some, gd_c hE.1]
    unfold tFmt
    simp only []
    by_cases hin : (tL T (ownr T)).getD k 0 ∈ tS T
    · rw [if_pos hin, H.ad65 hW hin i2]
      unfold f_X0_adopt_168
      by_cases ht : lastB (fun j => decide ((tS T).idxOf ((tL T (ownr T)).getD k 0) < j) && decide (sNm T j = 116)) (tS T).length = 0
      · rw [if_neg (show ¬ (_ ≠ 0) from fun y => y ht), if_eqp rfl, hd, if_neg (show ¬ (_ ≠ 0) from fun y => y ht)]
        have hbl := hdF_lt (fun j => decide ((tS T).idxOf ((tL T (ownr T)).getD k 0) < j) && isBlk (sNm T j)) (j := (tS T).length) hW.len
        have h24 := hW.b.2.2.2.2.1
        have hn := hW.1.2.1
        by_cases hbs : (List.range (tS T).length).filter (fun j => decide ((tS T).idxOf ((tL T (ownr T)).getD k 0) < j) && isBlk (sNm T j)) = []
        · have hz : hdF (fun j => decide ((tS T).idxOf ((tL T (ownr T)).getD k 0) < j) && isBlk (sNm T j)) (tS T).length = 0 := by unfold hdF; rw [hbs]; rfl
          rw [hz, if_eqp (show ((0 : Nat) : Int) = 0 from rfl), if_pos hbs]
          have hil := List.idxOf_lt_length_of_mem hin
          obtain ⟨h2, s1, s2, s3, s4, s5⟩ := R.shutAt (i := (tS T).idxOf ((tL T (ownr T)).getD k 0)) (u := u) C1 hW1 (by show _ ≤ (tS T).length; omega) (hR.mono (by omega))
          refine ⟨h2, ?_, OutP.of s2 s3 (F1.trans s4) s5⟩
          rw [gd_c R.1.1.1]
          simp only []
          rw [s1, obind_some]
        · have had := fmt_ad hW (by omega) hin ht hbs
          rw [if_neg hbs]
          have hz : hdF (fun j => decide ((tS T).idxOf ((tL T (ownr T)).getD k 0) < j) && isBlk (sNm T j)) (tS T).length = ((List.range (tS T).length).filter (fun j => decide ((tS T).idxOf ((tL T (ownr T)).getD k 0) < j) && isBlk (sNm T j))).headD 0 := rfl
          have hpos := had.2.1
          obtain ⟨h2, s1, s2⟩ := R.move (u := u) C1 hW1 (AdOK_setL had) hR
          refine ⟨h2, ?_, OutP.pre F1 s2⟩
          rw [hz] at hbl ⊢
          rw [if_eqn (by omega) (by omega) (by omega) (by omega) (by omega), gd_c R.1.1.1]
          simp only []
          rw [s1, obind_some]
      · rw [if_pos ht, if_eqn (by omega) (by omega) (by omega) (by omega) (by omega), if_pos ht]
        exact ⟨h, rfl, OutP.of H C (FP.refl _ _) (hR.mono (by omega))⟩
    · rw [if_neg hin]
      have hflag : pI h (φ ((tL T (ownr T)).getD k 0)) 6 = 0 := by rw [(H.2.2.2.1 _ i1 (by omega)).2.2.1, if_neg hin]
      have h24 := hW.b.2.2.2.2.1
      have hn := hW.1.2.1
      have hex : f_X0_adopt_65 h pg l (k : Int) (φ ((tL T (ownr T)).getD k 0)) 0 0 0 1 = f_X0_adopt_168 h pg l (k : Int) (φ ((tL T (ownr T)).getD k 0)) 0 0 0 := by
        refine iter_mr ?_
        simp only [f_X0_adopt_65s]
        unfold lLen
        rw [gd_c hb.1.1, hb.1.2.2.2.2.1, obind_some, gd_c (by rw [hb.2.1.2.2.1]; decide), obind_some, H.2.2.2.2.2.2.1, List.length_map]
        split
        · rw [gd_c hE.1, hflag, if_eqp rfl]
        · rfl
      rw [hex]
      unfold f_X0_adopt_168
      obtain ⟨h2, s1, s2, s3, s4, s5⟩ := R.shutAt (i := 0) (u := u) C1 hW1 (Nat.zero_le _) (hR.mono (by omega))
      refine ⟨h2, ?_, OutP.of s2 s3 (F1.trans s4) s5⟩
      rw [if_eqp rfl, hd, if_eqp rfl, gd_c R.1.1.1]
      simp only []
      have s1' : f_X0_closeTo (wL h l (((tL T (ownr T)).take k ++ (tL T (ownr T)).drop (k + 1)).map φ)) pg 0 = some h2 := s1
      rw [s1', obind_some]
theorem RepB.endT (H : RepB h pg φ T) (C : CntP h pg φ T) (hW : WF T) (hx : 97 ≤ x ∧ x ≤ 122) (hR : RU h (u + 80)) : ∃ h', f_X0_end h pg x = some h' ∧ OutP pg h u (tEnd x T) h' := by
  have hb := H.1
  have shut : ∀ (y : Int) (n : Nat), nmOK y → n < 11 → ∃ h', (gd (pK h pg = 1) (Option.bind (f_X0_reach h pg y n) (fun y1 => gd (pK h pg = 1) (Option.bind (f_X0_closeTo h pg y1) (fun y2 => some y2))))) = some h' ∧ OutP pg h u (some (cls T (rch T y (sT n)))) h' := fun y n hy hn => by
    obtain ⟨h1, r1, r2, r3, r4, r5, r6⟩ := H.shut C hW hy hn hR
    refine ⟨h1, ?_, OutP.of r3 r4 r5 (r6.mono (by omega))⟩
    rw [gd_c hb.1.1, r1, obind_some, gd_c hb.1.1, r2, obind_some]
  have keep : OutP pg h u (some T) h := OutP.of H C (FP.refl _ _) (hR.mono (by omega))
  unfold f_X0_end tEnd
  by_cases c99 : x = 99
  · rw [if_eqp c99, if_neg (show ¬ x = 112 by omega), if_neg (show ¬ (x = 100 ∨ x = 117) by omega), if_neg (show ¬ x = 108 by omega), if_neg (show ¬ x = 116 by omega), if_neg (show ¬ x = 114 by omega), if_pos c99]
    exact shut 99 3 (by unfold nmOK; omega) (by omega)
  rw [if_eqn c99 (by omega) (by omega) (by omega) (by omega)]
  by_cases c100 : x = 100
  · rw [if_eqp c100, if_neg (show ¬ x = 112 by omega), if_pos (show x = 100 ∨ x = 117 by omega)]
    exact shut x 1 (by unfold nmOK; omega) (by omega)
  rw [if_eqn c100 (by omega) (by omega) (by omega) (by omega)]
  by_cases c104 : x = 104
  · rw [if_eqp c104, if_neg (show ¬ x = 112 by omega), if_neg (show ¬ (x = 100 ∨ x = 117) by omega), if_neg (show ¬ x = 108 by omega), if_neg (show ¬ x = 116 by omega), if_neg (show ¬ x = 114 by omega), if_neg c99, if_pos (show x = 104 ∨ x = 107 by omega)]
    exact ⟨h, rfl, keep⟩
  rw [if_eqn c104 (by omega) (by omega) (by omega) (by omega)]
  by_cases c107 : x = 107
  · rw [if_eqp c107, if_neg (show ¬ x = 112 by omega), if_neg (show ¬ (x = 100 ∨ x = 117) by omega), if_neg (show ¬ x = 108 by omega), if_neg (show ¬ x = 116 by omega), if_neg (show ¬ x = 114 by omega), if_neg c99, if_pos (show x = 104 ∨ x = 107 by omega)]
    exact ⟨h, rfl, keep⟩
  rw [if_eqn c107 (by omega) (by omega) (by omega) (by omega)]
  by_cases c108 : x = 108
  · rw [if_eqp c108, if_neg (show ¬ x = 112 by omega), if_neg (show ¬ (x = 100 ∨ x = 117) by omega), if_pos c108]
    exact shut 108 2 (by unfold nmOK; omega) (by omega)
  rw [if_eqn c108 (by omega) (by omega) (by omega) (by omega)]
  by_cases c112 : x = 112
  · rw [if_eqp c112, if_pos c112]
    obtain ⟨h1, r1, r2, r3, r4, r5, r6⟩ := H.shut (x := 112) (n := 1) C hW (by unfold nmOK; omega) (by omega) hR
    rw [gd_c hb.1.1, r1, obind_some, gd_c hb.1.1, r2, obind_some]
    have hs1 : sT 1 = [99] := rfl
    rw [hs1] at r3 r4 ⊢
    by_cases z : rch T 112 [99] = 0
    · rw [if_pos z, if_ltn (by omega) (by omega) (by omega), gd_c r3.1.1.1]
      have hc0 : cls T (rch T 112 [99]) = T := by unfold cls; rw [if_pos z]
      rw [hc0] at r3 r4
      obtain ⟨p1, p2⟩ := r3.element (x := 112) (c := 0) (u := u + 76) r4 hW (by unfold nmOK; omega) (by omega) r6
      by_cases en : tN T = 24
      · obtain ⟨h2, s1, s2, s3, s4, s5⟩ := p1 en
        rw [mkN_none en]
        refine ⟨h2, ?_, s3, r5.trans s4, s5.mono (by omega), s2⟩
        rw [s1, obind_some]
        rfl
      · obtain ⟨h2, a, s1, s2, s3, s4, s5⟩ := p2 en
        rw [mkN_some en]
        obtain ⟨h3, t1, t2, t3, t4, t5⟩ := s2.insert (u := u + 75) hW (s3.n (by omega)) (tK T) s5
        refine ⟨h3, ?_, OutP.of t2 t3 ((r5.trans s4).trans t4) (t5.mono (by omega))⟩
        rw [s1, obind_some]
        unfold f_X0_end_122
        rw [nl_some, gd_c (by exact s2.1.1.1), t1, obind_some]
    · rw [if_neg z]
      have hle : rch T 112 [99] < 100 := by
        rw [rch_eq]
        have := topm_lt hW.b 112
        have h24 := hW.b.2.2.2.2.1
        have hn := hW.1.2.1
        split <;> omega
      rw [if_ltp (by omega) (by omega) (by omega)]
      exact ⟨h1, rfl, OutP.of r3 r4 r5 (r6.mono (by omega))⟩
  rw [if_eqn c112 (by omega) (by omega) (by omega) (by omega), if_neg c112]
  by_cases c114 : x = 114
  · rw [if_eqp c114, if_neg (show ¬ (x = 100 ∨ x = 117) by omega), if_neg c108, if_neg (show ¬ x = 116 by omega), if_pos c114]
    exact shut 114 3 (by unfold nmOK; omega) (by omega)
  rw [if_eqn c114 (by omega) (by omega) (by omega) (by omega)]
  by_cases c116 : x = 116
  · rw [if_eqp c116, if_neg (show ¬ (x = 100 ∨ x = 117) by omega), if_neg c108, if_pos c116]
    exact shut 116 0 (by unfold nmOK; omega) (by omega)
  rw [if_eqn c116 (by omega) (by omega) (by omega) (by omega)]
  by_cases c117 : x = 117
  · rw [if_eqp c117, if_pos (show x = 100 ∨ x = 117 by omega)]
    exact shut x 1 (by unfold nmOK; omega) (by omega)
  rw [if_eqn c117 (by omega) (by omega) (by omega) (by omega), if_neg (show ¬ (x = 100 ∨ x = 117) by omega), if_neg c108, if_neg c116, if_neg c114, if_neg c99, if_neg (show ¬ (x = 104 ∨ x = 107) by omega)]
  simp only []
  have hix := idxOf_eq (h := h) (n := 4) (by omega) (c := x) (by omega) (by omega)
  have hrg := ixT_rng 4 (by omega) x
  have hng := ixT_neg 4 x
  rw [show (sT 4).contains x = isFmt x from rfl] at hng
  rw [gd_c (by omega), hix, obind_some]
  have s234 : ∃ h', f_X0_end_234 h pg x = some h' ∧ OutP pg h u (some (cls T (rch T x [112, 100, 117, 108, 104, 116, 114, 99]))) h' := shut x 5 (by unfold nmOK; omega) (by omega)
  obtain ⟨d1, d2⟩ := H.adopt (x := x) (u := u) C hW (by unfold nmOK; omega) hR
  cases hf : isFmt x with
  | false =>
    rw [if_ltp (hng.mpr hf) (by omega) (by omega)]
    simp only [Bool.false_and, Bool.false_eq_true, if_false]
    exact s234
  | true =>
    have : ¬ ixT 4 x < 0 := fun z => by rw [hng, hf] at z; cases z
    rw [if_ltn (by omega) (by omega) (by omega), gd_c hb.1.1]
    by_cases z : lastB (fun k => decide (1 ≤ k) && decide (tM T ((tL T (ownr T)).getD (k - 1) 0) = x)) ((tL T (ownr T)).length + 1) = 0
    · rw [d1 z, obind_some, if_eqp rfl, decide_eq_false (show ¬ (_ ≠ 0) from fun y => y z), Bool.and_false]
      simp only [Bool.false_eq_true, if_false]
      exact s234
    · obtain ⟨h2, s1, s2⟩ := d2 z
      rw [s1, obind_some, if_eqn (by omega) (by omega) (by omega) (by omega) (by omega), decide_eq_true (show _ ≠ 0 from z), Bool.and_true]
      simp only [if_true]
      exact ⟨h2, rfl, s2⟩
end PB
