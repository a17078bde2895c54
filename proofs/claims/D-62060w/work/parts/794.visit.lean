/-! the page: the order is made, with the values -/
set_option maxRecDepth 100000
/-- the first n nodes have been gone through -/
def VS (h : HP) (pg : Nat) (φ : Nat → Nat) (T : TS) (rs : List RL) (n : Nat) : Prop := pL h (pg + 16) = ((tO T).take n).map φ ∧ ∀ k, k < n → pI h (φ ((tO T).getD k 0)) 1 = (k : Int) ∧ (tM T ((tO T).getD k 0) ≠ 1 → EvR h φ T rs ((tO T).getD k 0))
section PV
variable {h h' h1 : HP} {pg a u : Nat} {φ : Nat → Nat} {T : TS} {rs : List RL}
theorem kids_no (hW : WF T) {i : Nat} (hn : noKid (tM T i)) : kids T i = [] := by
  unfold kids
  rw [List.filter_eq_nil_iff]
  intro j hj z
  simp at z
  have hjn := hW.1.2.2.2.1 j hj
  have := (hW.2.1.2 j hjn z.1).2.1
  rw [z.2] at this
  exact this hn
theorem behind_no (hW : WF T) {i : Nat} (hi : i < tN T) (hn : noKid (tM T i)) : behindA T (seat T i) = seat T i + 1 := by
  have := kw_all hW hi
  rw [kids_no hW hn] at this
  exact this.symm
theorem RepB.lt (H : RepB h pg φ T) {i : Nat} (hi : i < tN T) : φ i < pX h := by have := (H.c.kd hi).2; omega
/-- one more value changes no other -/
theorem EvR.agi (E : EvR h φ T rs a) {i : Nat} (H : RepB h pg φ T) (ha : a < tN T) (hma : tM T a ≠ 1) (hi : i < tN T) (hm : tM T i ≠ 1) (hne : a ≠ i) (A : AgI h h' (evP φ i)) : EvR h' φ T rs a := by
  have hEa := H.elc ha hma
  have hEi := H.elc hi hm
  have hφ : φ a ≠ φ i := fun z => hne (H.2.2.1.2.2 _ _ ha hi z)
  have h2 : φ a ≠ φ i + 2 := kne h (by rw [hEa.1, hEi.2.2.2.2.1]; omega)
  have h3 : φ a + 2 ≠ φ i := kne h (by rw [hEi.1, hEa.2.2.2.2.1]; omega)
  refine ⟨fun k hk => ?_, ?_⟩
  · rw [A.2.2.2.2.2.2.2.2.2 _ _ (fun z => by rcases z with z | z <;> omega)]; exact E.1 k hk
  · rw [A.2.2.2.2.2.2.2.2.2 _ _ (fun z => by rcases z with z | z <;> omega)]; exact E.2
theorem evP_q (H : RepB h pg φ T) {i : Nat} (hi : i < tN T) (hm : tM T i ≠ 1) : ∀ b j, evP φ i b j → qP pg (pK h b) b j := by
  intro b j hb
  have hE := H.elc hi hm
  rcases hb with z | z
  · rw [z, hE.2.2.2.2.1]; unfold qP; omega
  · rw [z.1, hE.1]; unfold qP; omega
theorem num1_q (H : RepB h pg φ T) {i : Nat} (hi : i < tN T) : qP pg (pK h (φ i)) (φ i) 1 := by
  rcases (H.c.kd hi).1 with z | z <;> rw [z] <;> unfold qP <;> omega
theorem take_s {l : List Nat} {n : Nat} (hn : n < l.length) : l.take (n + 1) = l.take n ++ [l.getD n 0] := by
  rw [List.take_add_one, gD hn, List.getElem?_eq_getElem hn]; rfl
/-- a node is put behind the others -/
theorem visit_1 (H : RepB h pg φ T) (hW : WF T) {i : Nat} (hi : i < tN T) (hO : OrdC h pg) (hV : VS h pg φ T rs (seat T i)) (hR : RU h (u + 1)) : ∃ g, lAdd (wI h (φ i) 1 ((seat T i : Nat) : Int)) (pg + 16) (φ i) = some (g, 1) ∧ AgQ pg h g ∧ RU g u ∧ OrdC g pg ∧ pL g (pg + 16) = ((tO T).take (seat T i + 1)).map φ ∧ pI g (φ i) 1 = ((seat T i : Nat) : Int) ∧ (∀ k, k < seat T i → pI g (φ ((tO T).getD k 0)) 1 = (k : Int) ∧ (tM T ((tO T).getD k 0) ≠ 1 → EvR g φ T rs ((tO T).getD k 0))) ∧ ∀ b, pK h b = 1 ∨ pK h b = 5 → ∀ j, pI g b j = pI h b j := by
  have hs := hW.seat_lt hi
  have h24 := hW.1.2.1
  have hl := hW.1.2.2.1
  have hp := H.1.lt
  have hlen : (pL h (pg + 16)).length = seat T i := by rw [hV.1, List.length_map, List.length_take]; omega
  obtain ⟨g, g1, g2, g3⟩ := lAdd_eq (h := wI h (φ i) 1 ((seat T i : Nat) : Int)) (u := u) (a := pg + 16) (x := φ i) (by show isL (pK h (pg + 16)); rw [hO.2.1]; decide) (by show isO (pK h (φ i)); rcases (H.c.kd hi).1 with z | z <;> rw [z] <;> decide) (by show (pL h (pg + 16)).length ≤ 40; omega) hO.2.2.1 hR
  have hA0 : AgQ pg h (wI h (φ i) 1 ((seat T i : Nat) : Int)) := (AgQ.refl pg h).aI (num1_q H hi) _
  have hA : AgQ pg h (wL g (pg + 16) (pL h (pg + 16) ++ [φ i])) := (hA0.gr hO.2.1 g2).aL hO.2.1 _
  have hI : ∀ b j, pI (wL g (pg + 16) (pL h (pg + 16) ++ [φ i])) b j = pI (wI h (φ i) 1 ((seat T i : Nat) : Int)) b j := fun b j => by
    show pI g b j = _
    rcases g2 with e | ⟨n, _, e⟩ <;> rw [e] <;> rfl
  have hC : pC g (pg + 16) ≤ 60 := by
    rcases g2 with e | ⟨n, hn, e⟩ <;> rw [e]
    · exact hO.2.2.1
    · rw [pC_wGr, if_pos rfl]; exact hn
  have hL : pL (wL g (pg + 16) (pL h (pg + 16) ++ [φ i])) (pg + 16) = ((tO T).take (seat T i + 1)).map φ := by
    rw [pL_wL, if_pos rfl, hV.1, take_s hs.1, List.map_append, hs.2]; rfl
  refine ⟨wL g (pg + 16) (pL h (pg + 16) ++ [φ i]), g1, hA, g3, ⟨?_, ?_, hC, ?_⟩, hL, ?_, fun k hk => ?_, fun b hbk j => ?_⟩
  · rw [hA.p (by omega) (by rw [H.1.1.1]; omega)]; exact hO.1
  · rw [hA.k (by omega)]; exact hO.2.1
  · rw [hL, List.length_map, List.length_take]; omega
  · rw [hI, pI_wI, if_pos ⟨rfl, rfl⟩]
  · have hkn : (tO T).getD k 0 < tN T := getD_lt hW.1.2.2.2.1 (by omega)
    have hne : (tO T).getD k 0 ≠ i := fun z => by
      have := hW.seatD (n := k) (by omega)
      rw [z] at this; omega
    have hφ : φ ((tO T).getD k 0) ≠ φ i := fun z => hne (H.2.2.1.2.2 _ _ hkn hi z)
    refine ⟨?_, fun hm => ⟨fun q hq => ?_, ?_⟩⟩
    · rw [hI, pI_wI, if_neg (fun z => hφ z.1)]; exact (hV.2 k hk).1
    · have h3 : φ ((tO T).getD k 0) + 2 ≠ φ i := kne h (by rw [(H.elc hkn hm).2.2.2.2.1]; rcases (H.c.kd hi).1 with z | z <;> rw [z] <;> omega)
      rw [hI, pI_wI, if_neg (fun z => h3 z.1)]; exact ((hV.2 k hk).2 hm).1 q hq
    · rw [hI, pI_wI, if_neg (fun z => hφ z.1)]; exact ((hV.2 k hk).2 hm).2
  · rw [hI, pI_wI, if_neg (fun z => by
      have hkd := (H.c.kd hi).1
      rw [← z.1] at hkd
      omega)]
theorem visit_p (hW : WF T) (h12 : rs.length ≤ 12) (hok : ∀ r ∈ rs, okR2 r) : ∀ (N : Nat) (h : HP) (u i : Nat), i < tN T → behindA T (seat T i) - seat T i ≤ N → RepB h pg φ T → OrdC h pg → ShC h pg → RulesR h rs (pL h (pg + 9)) → VS h pg φ T rs (seat T i) → RU h (u + (behindA T (seat T i) - seat T i)) → ∃ h', F_visit N h (φ i) (pg + 16) (pg + 9) = some h' ∧ AgQ pg h h' ∧ OrdC h' pg ∧ VS h' pg φ T rs (behindA T (seat T i)) ∧ RU h' u ∧ ∀ b, b < pX h → pK h b = 1 ∨ pK h b = 5 → ∀ j, pI h' b j = pI h b j := by
  intro N
  induction N with
  | zero =>
    intro h u i hi hb
    have := behindA_gt T (seat T i)
    omega
  | succ N ih =>
    intro h u i hi hb H hO hC hRs hV hR
    have hs := hW.seat_lt hi
    have h24 := hW.1.2.1
    have hl := hW.1.2.2.1
    have hp := H.1.lt
    have hk1 := H.1.1.1
    have hbg := behindA_gt T (seat T i)
    have hble := behindA_le (T := T) hs.1
    have hlen : (pL h (pg + 16)).length = seat T i := by rw [hV.1, List.length_map, List.length_take]; omega
    have hnk : isN (pK h (φ i)) := (H.c.kd hi).1
    obtain ⟨g, g1, g2, g3, g4, g5, g6, g7, g8⟩ := visit_1 (u := u + (behindA T (seat T i) - seat T i - 1)) H hW hi hO hV (by have := hR; unfold RU at this ⊢; omega)
    have Hg : RepB g pg φ T := H.agw hW.stk (g2.w hk1 (by omega))
    have e1 : F_visit (N + 1) h (φ i) (pg + 16) (pg + 9) = f_X0_visit_b (F_visit N) h (φ i) (pg + 16) (pg + 9) := rfl
    rw [e1]
    unfold f_X0_visit_b
    rw [show lLen h (pg + 16) = some ((seat T i : Nat) : Int) by unfold lLen; rw [gd_c (by rw [hO.2.1]; decide), hlen], obind_some, gd_c hnk, bnd_eq, g1, obind_some, gd_c (by exact (Hg.c.kd hi).1)]
    simp only []
    by_cases hm : tM T i = 1
    · have hkk : kis g (φ i) 2 = 0 := by unfold kis; rw [(Hg.txc hi hm).1, if_neg (by omega)]
      rw [hkk, if_eqp rfl]
      have hbe := behind_no hW hi (Or.inl hm)
      refine ⟨g, rfl, g2, g4, ⟨by rw [hbe]; exact g5, fun k hk => ?_⟩, by rw [hbe] at g3; unfold RU at g3 ⊢; omega, fun b _ hbk => g8 b hbk⟩
      rw [hbe] at hk
      by_cases z : k = seat T i
      · rw [z, hs.2]; exact ⟨g6, fun q => (q hm).elim⟩
      · exact g7 k (by omega)
    · have hkk : kis g (φ i) 2 = 1 := by unfold kis; rw [(Hg.elc hi hm).1, if_pos rfl]
      have hlg : lLen g (pg + 16) = some ((seat T i + 1 : Nat) : Int) := by
        unfold lLen
        rw [gd_c (by rw [g4.2.1]; decide), g5, List.length_map, List.length_take, Nat.min_eq_left (by omega)]
      rw [hkk, if_eqn (by omega) (by omega) (by omega) (by omega) (by omega), hlg, obind_some, if_ltn (by omega) (by omega) (by omega), gd_c (Hg.elc hi hm).1]
      have hL9 : pL g (pg + 9) = pL h (pg + 9) := g2.l (by omega) (by rw [hC.2.1.1]; omega)
      obtain ⟨e, e2, e3, e4⟩ := evaluate_p (rs := rs) Hg hW hi hm (hC.agq g2 hk1) (by rw [hL9]; exact hRs.agq g2 hk1) h12 hok (fun h0 => by
        have hpl := hW.par_lt hi h0
        have hpn := hW.par hi
        have hps := hW.seat_lt hpn
        have := (g7 (seat T (tP T i)) hpl).2
        rw [hps.2] at this
        exact this (nk1 (hW.2.1.2 i hi h0).2.1))
      rw [e2, obind_some]
      have hk1g : pK g pg = 1 := Hg.1.1.1
      have hAe : AgQ pg h e := g2.trans (AgI.q e3 (evP_q Hg hi hm))
      have He : RepB e pg φ T := H.agw hW.stk (hAe.w hk1 (by omega))
      have hEe := He.elc hi hm
      have hOe : OrdC e pg := by
        obtain ⟨o1, o2, o3, o4⟩ := g4
        unfold OrdC
        rw [e3.1, e3.2.2.1, e3.2.2.2.1, e3.2.2.2.2.2.1]
        exact ⟨o1, o2, o3, o4⟩
      have hVe : VS e pg φ T rs (seat T i + 1) := by
        refine ⟨by rw [e3.2.2.2.1]; exact g5, fun k hk => ?_⟩
        have hnum : ∀ j, j < tN T → pI e (φ j) 1 = pI g (φ j) 1 := fun j hj => e3.2.2.2.2.2.2.2.2.2 _ _ (fun z => by
          rcases z with z | z
          · have h3 : φ j ≠ φ i + 2 := kne g (by rw [(Hg.elc hi hm).2.2.2.2.1]; rcases (Hg.c.kd hj).1 with y | y <;> rw [y] <;> omega)
            exact h3 z
          · omega)
        have hkn : (tO T).getD k 0 < tN T := getD_lt hW.1.2.2.2.1 (by omega)
        rw [hnum _ hkn]
        by_cases z : k = seat T i
        · rw [z, hs.2]; exact ⟨g6, fun _ => e4⟩
        · refine ⟨(g7 k (by omega)).1, fun hmk => EvR.agi ((g7 k (by omega)).2 hmk) Hg hkn hmk hi hm (fun y => ?_) e3⟩
          have := hW.seatD (n := k) (by omega)
          rw [y] at this; omega
      have hRe : RU e (u + (behindA T (seat T i) - seat T i - 1)) := by
        have := g3
        unfold RU at this ⊢
        rw [e3.2.2.2.2.2.2.1, e3.2.2.2.2.2.2.2.1, e3.2.2.2.2.2.2.2.2.1]
        exact this
      have hpe : ∀ b, b < pX h → pK h b = 1 ∨ pK h b = 5 → ∀ j, pI e b j = pI h b j := fun b hb hbk j => by
        rw [← g8 b hbk j]
        have hkb := g2.k hb
        have q1 : b ≠ φ i + 2 := kne g (by rw [(Hg.elc hi hm).2.2.2.2.1]; omega)
        have q2 : b ≠ φ i := kne g (by rw [(Hg.elc hi hm).1]; omega)
        exact e3.2.2.2.2.2.2.2.2.2 _ _ (fun z => by rcases z with z | z; exact q1 z; exact q2 z.1)
      -- the children
      have loop : ∀ (L : List Nat) (k q : Nat) (e : HP), (kids T i).drop k = L → k + L.length = (kids T i).length → KW T L q (behindA T (seat T i)) → AgQ pg h e → OrdC e pg → VS e pg φ T rs q → RU e (u + (behindA T (seat T i) - q)) → seat T i < q → (∀ b, b < pX h → pK h b = 1 ∨ pK h b = 5 → ∀ j, pI e b j = pI h b j) → ∃ h', f_X0_visit_44 (F_visit N) e (pg + 16) (pg + 9) (φ i) (k : Int) = some h' ∧ AgQ pg h h' ∧ OrdC h' pg ∧ VS h' pg φ T rs (behindA T (seat T i)) ∧ RU h' u ∧ ∀ b, b < pX h → pK h b = 1 ∨ pK h b = 5 → ∀ j, pI h' b j = pI h b j := by
        intro L
        induction L with
        | nil =>
          intro k q e hd hkl hKW A hOe hVe hRe hq hpi
          have hqe : q = behindA T (seat T i) := hKW
          have He : RepB e pg φ T := H.agw hW.stk (A.w hk1 (by omega))
          have hEe := He.elc hi hm
          refine ⟨e, ?_, A, hOe, by rw [← hqe]; exact hVe, by rw [hqe, Nat.sub_self] at hRe; exact hRe, hpi⟩
          unfold f_X0_visit_44
          refine iter_out ?_
          simp only [f_X0_visit_44s]
          rw [gd_c hEe.1, hEe.2.1, obind_some]
          have : lLen e (φ i + 1) = some (((kids T i).length : Nat) : Int) := by
            unfold lLen
            rw [gd_c (by rw [hEe.2.2.1]; decide), (He.2.2.2.1 i hi hm).2.2.2, List.length_map]
          rw [this, obind_some]
          simp only [List.length_nil] at hkl
          have hkn : (kids T i).length ≤ 24 := by
            have : (kids T i).length ≤ (tO T).length := List.length_filter_le _ _
            omega
          rw [if_ltn (by omega) (by omega) (by omega)]
        | cons x L ihL =>
          intro k q e hd hkl hKW A hOe hVe hRe hq hpi
          obtain ⟨w1, w2, w3, w4, w5⟩ := hKW
          have He : RepB e pg φ T := H.agw hW.stk (A.w hk1 (by omega))
          have hEe := He.elc hi hm
          have hkn : (kids T i).length ≤ 24 := by
            have : (kids T i).length ≤ (tO T).length := List.length_filter_le _ _
            omega
          simp only [List.length_cons] at hkl
          have hkx : (kids T i).getD k 0 = x := by
            have : (kids T i).drop k = (kids T i).getD k 0 :: (kids T i).drop (k + 1) := by rw [List.drop_eq_getElem_cons (by omega), gD (by omega)]
            rw [this] at hd
            cases hd; rfl
          have hkd : (kids T i).drop (k + 1) = L := by
            have : (kids T i).drop k = (kids T i).getD k 0 :: (kids T i).drop (k + 1) := by rw [List.drop_eq_getElem_cons (by omega), gD (by omega)]
            rw [this] at hd
            cases hd; rfl
          obtain ⟨h', i1, i2, i3, i4, i5, i6⟩ := ih e (u + (behindA T (seat T i) - behindA T q)) x w1 (by rw [w2]; omega) He hOe (hC.agq A hk1) (by rw [A.l (by omega) (by rw [hC.2.1.1]; omega)]; exact hRs.agq A hk1) (by rw [w2]; exact hVe) (by rw [w2]; have := hRe; unfold RU at this ⊢; omega)
          rw [w2] at i4
          have hst : f_X0_visit_44s (F_visit N) e (pg + 16) (pg + 9) (φ i) (k : Int) = some (.inl (h', ((k + 1 : Nat) : Int))) := by
            unfold f_X0_visit_44s
            rw [gd_c hEe.1, hEe.2.1, obind_some]
            have e1 : lLen e (φ i + 1) = some (((kids T i).length : Nat) : Int) := by
              unfold lLen
              rw [gd_c (by rw [hEe.2.2.1]; decide), (He.2.2.2.1 i hi hm).2.2.2, List.length_map]
            have e2 : lGet e (φ i + 1) (k : Int) = some (φ x) := by
              unfold lGet
              rw [gd_c (by rw [hEe.2.2.1]; decide), (He.2.2.2.1 i hi hm).2.2.2, List.length_map, gd_zin (by omega) (by omega) (by omega), zix_nat (by omega), getD_map (by omega), hkx]
            rw [e1, obind_some, if_ltp (by omega) (by omega) (by omega), gd_c hEe.1, obind_some, e2, obind_some, gd_c (by exact (He.c.kd w1).1), i1, obind_some]
            rfl
          obtain ⟨h'', j1, j2⟩ := ihL (k + 1) (behindA T q) h' hkd (by omega) w5 (A.trans i2) i3 i4 i5 (by omega) (fun b hb hbk j => (i6 b (Nat.lt_of_lt_of_le hb A.1) (by rw [A.k hb]; exact hbk) j).trans (hpi b hb hbk j))
          refine ⟨h'', ?_, j2⟩
          unfold f_X0_visit_44
          rw [iter_in hst]
          exact j1
      exact loop (kids T i) 0 (seat T i + 1) e (by simp) (by simp) (kw_all hW hi) hAe hOe hVe (by have := hRe; unfold RU at this ⊢; omega) (by omega) hpe
/-- the order is made anew, if it must -/
theorem refresh_p (H : RepB h pg φ T) (hW : WF T) (h12 : rs.length ≤ 12) (hok : ∀ r ∈ rs, okR2 r) (hO : OrdC h pg) (hC : ShC h pg) (hRs : RulesR h rs (pL h (pg + 9))) (hF : pI h pg 16 = 0 ∨ (pI h pg 16 = 1 ∧ VS h pg φ T rs (tN T))) (hR : RU h (u + 24)) : ∃ h', f_X0_refresh h pg = some h' ∧ AgQ pg h h' ∧ OrdC h' pg ∧ VS h' pg φ T rs (tN T) ∧ RU h' u ∧ pI h' pg 16 = 1 ∧ (∀ j, j ≠ 16 → pI h' pg j = pI h pg j) ∧ (pI h pg 16 = 1 → h' = h) ∧ ∀ b, b < pX h → pK h b = 5 → ∀ j, pI h' b j = pI h b j := by
  have hk1 := H.1.1.1
  have hp := H.1.lt
  have h24 := hW.1.2.1
  have hl := hW.1.2.2.1
  unfold f_X0_refresh
  rw [gd_c hk1]
  rcases hF with hF | ⟨hF, hV⟩
  · rw [hF, if_eqp rfl, gd_c hk1, hO.1, obind_some]
    have e1 : lClr h (pg + 16) = some (wL h (pg + 16) []) := by unfold lClr; rw [gd_c (by rw [hO.2.1]; decide)]
    rw [e1, obind_some]
    have hA : AgQ pg h (wL h (pg + 16) []) := (AgQ.refl pg h).aL hO.2.1 _
    have Hg : RepB (wL h (pg + 16) []) pg φ T := H.agw hW.stk (hA.w hk1 (by omega))
    have hs0 : seat T 0 = 0 := by
      have := hW.seatD (n := 0) (by have := hW.1.1; omega)
      rw [hW.seat0] at this; exact this
    have hb0 : behindA T 0 = tN T := by
      obtain ⟨r, hr⟩ := hW.1.2.2.2.2.1.2.1
      have hd : ∀ y ∈ r, tD T 0 < tD T y := fun y hy => by
        have hne : y ≠ 0 := fun z => by
          have hnd := hW.1.2.2.2.2.1.1
          rw [hr, List.nodup_cons] at hnd
          rw [z] at hy; exact hnd.1 hy
        have := (hW.1.2.2.2.2.1.dpos (i := y) (by rw [hr]; simp [hy]) hne).1
        rw [hW.1.2.2.2.2.1.2.2.1]; omega
      have := (behind_cut hW (A := []) (X := r) (R := []) (x := 0) (by rw [hr]; simp) hd (fun c R' e => by cases e)).2
      rw [List.length_nil] at this
      rw [this, ← hl, hr, List.length_cons]; omega
    obtain ⟨h', v1, v2, v3, v4, v5, v6⟩ := visit_p (pg := pg) (φ := φ) (rs := rs) hW h12 hok 30 (wL h (pg + 16) []) u 0 (by have := hW.1.1; omega) (by rw [hs0, hb0]; omega) Hg ⟨hO.1, hO.2.1, hO.2.2.1, by rw [pL_wL, if_pos rfl]; simp⟩ (hC.agq hA hk1) (by rw [hA.l (by omega) (by rw [hC.2.1.1]; omega)]; exact hRs.agq hA hk1) ⟨by rw [pL_wL, if_pos rfl, hs0]; rfl, fun k hk => by rw [hs0] at hk; omega⟩ (by rw [hs0, hb0]; have := hR; unfold RU at this ⊢; show pX h + _ ≤ pO h + _ ∧ pS h + _ ≤ _; omega)
    rw [hs0, hb0] at v4
    rw [Hg.2.1] at v1
    have h7 : pI (wL h (pg + 16) []) pg 7 = 0 := H.2.2.2.2.2.2.2.2
    rw [gd_c (by exact hk1), h7, if_eqp rfl, gd_c (by exact hk1), gd_c (by exact hk1), gd_c (by exact hk1)]
    have p14 : pP (wL h (pg + 16) []) pg 14 = some (pg + 8) := hC.1.1
    have p0 : pP (wL h (pg + 16) []) pg 0 = some (pg + 1) := H.1.1.2.1
    have p15 : pP (wL h (pg + 16) []) pg 15 = some (pg + 16) := hO.1
    have p80 : pP (wL h (pg + 16) []) (pg + 8) 0 = some (pg + 9) := hC.1.2.2.1
    have k8 : pK (wL h (pg + 16) []) (pg + 8) = 4 := hC.1.2.1
    rw [p14, obind_some, gd_c k8, p0, obind_some, p15, obind_some, p80, obind_some, f_X0_visit, v1, obind_some]
    have hA' : AgQ pg h h' := hA.trans v2
    unfold f_X0_refresh_40
    rw [gd_c (by rw [hA'.k (by omega)]; exact hk1), bnd_eq]
    have hA2 : AgQ pg h (wI h' pg 16 1) := hA'.aI (by unfold qP; omega) 1
    refine ⟨wI h' pg 16 1, rfl, hA2, v3, ?_, v5, by rw [pI_wI, if_pos ⟨rfl, rfl⟩], fun j hj => ?_, fun z => by omega, fun b hb hbk j => ?_⟩
    · refine ⟨v4.1, fun k hk => ?_⟩
      have hkn : (tO T).getD k 0 < tN T := getD_lt hW.1.2.2.2.1 (by omega)
      have H' : RepB h' pg φ T := H.agw hW.stk (hA'.w hk1 (by omega))
      have q1 : φ ((tO T).getD k 0) ≠ pg := kne h' (by rw [H'.1.1.1]; rcases (H'.c.kd hkn).1 with y | y <;> rw [y] <;> omega)
      refine ⟨by rw [pI_wI, if_neg (fun z => q1 z.1)]; exact (v4.2 k hk).1, fun hm => ⟨fun q hq => ?_, ?_⟩⟩
      · have q2 : φ ((tO T).getD k 0) + 2 ≠ pg := kne h' (by rw [H'.1.1.1, (H'.elc hkn hm).2.2.2.2.1]; omega)
        rw [pI_wI, if_neg (fun z => q2 z.1)]; exact ((v4.2 k hk).2 hm).1 q hq
      · rw [pI_wI, if_neg (fun z => q1 z.1)]; exact ((v4.2 k hk).2 hm).2
    · rw [pI_wI, if_neg (fun z => hj z.2), v6 pg (by show pg < pX h; omega) (Or.inl hk1) j]; rfl
    · rw [pI_wI, if_neg (fun z => by rw [z.1, hk1] at hbk; omega), v6 b hb (Or.inr hbk) j]; rfl
  · rw [hF, if_eqn (by omega) (by omega) (by omega) (by omega) (by omega)]
    exact ⟨h, rfl, AgQ.refl _ _, hO, hV, hR.mono (by omega), hF, fun _ _ => rfl, fun _ => rfl, fun _ _ _ _ => rfl⟩
/-- in a broken page the order is empty -/
theorem refresh_b (Hs : SHp h pg) (h7 : pI h pg 7 = 1) (hO : OrdC h pg) (hF : pI h pg 16 = 0 ∨ (pI h pg 16 = 1 ∧ pL h (pg + 16) = [])) : ∃ h', f_X0_refresh h pg = some h' ∧ AgQ pg h h' ∧ OrdC h' pg ∧ pL h' (pg + 16) = [] ∧ pX h' = pX h ∧ pS h' = pS h ∧ pI h' pg 16 = 1 ∧ (∀ j, j ≠ 16 → pI h' pg j = pI h pg j) ∧ ∀ b, b ≠ pg → ∀ j, pI h' b j = pI h b j := by
  have hk1 := Hs.1.1
  have hp := Hs.lt
  unfold f_X0_refresh
  rw [gd_c hk1]
  rcases hF with hF | ⟨hF, hV⟩
  · rw [hF, if_eqp rfl, gd_c hk1, hO.1, obind_some]
    have e1 : lClr h (pg + 16) = some (wL h (pg + 16) []) := by unfold lClr; rw [gd_c (by rw [hO.2.1]; decide)]
    have h7' : pI (wL h (pg + 16) []) pg 7 = 1 := h7
    rw [e1, obind_some, gd_c (by exact hk1), h7', if_eqn (by omega) (by omega) (by omega) (by omega) (by omega)]
    unfold f_X0_refresh_40
    rw [gd_c (by exact hk1), bnd_eq]
    have hA : AgQ pg h (wI (wL h (pg + 16) []) pg 16 1) := ((AgQ.refl pg h).aL hO.2.1 _).aI (by unfold qP; omega) 1
    refine ⟨_, rfl, hA, ⟨hO.1, hO.2.1, hO.2.2.1, ?_⟩, ?_, rfl, rfl, by rw [pI_wI, if_pos ⟨rfl, rfl⟩], fun j hj => by rw [pI_wI, if_neg (fun z => hj z.2)]; rfl, fun b hb j => by rw [pI_wI, if_neg (fun z => hb z.1)]; rfl⟩
    · show (pL (wL h (pg + 16) []) (pg + 16)).length ≤ 24
      rw [pL_wL, if_pos rfl]; simp
    · show pL (wL h (pg + 16) []) (pg + 16) = []
      rw [pL_wL, if_pos rfl]
  · rw [hF, if_eqn (by omega) (by omega) (by omega) (by omega) (by omega)]
    exact ⟨h, rfl, AgQ.refl _ _, hO, hV, rfl, rfl, hF, fun _ _ => rfl, fun _ _ _ => rfl⟩
end PV
