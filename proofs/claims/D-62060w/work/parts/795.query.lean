/-! what can be asked of the tree: the page and the reference -/
set_option maxRecDepth 100000
section PQ
variable {h h' h1 : HP} {pg a u n : Nat} {φ : Nat → Nat} {T : TS} {rs : List RL} {x y : Int} {M M' : MS}
theorem m_prop_eq2 (c : Int) (h1 : 0 ≤ c) (h2 : c < 65536) : m_propertyIndex c = some (ixT 7 c) := by
  have hs : sT 7 = [99, 98, 115, 100, 109, 112, 119] := rfl
  unfold m_propertyIndex
  by_cases c1 : c = 99
  · rw [if_eqp c1, c1]; rfl
  rw [if_eqn c1 (by omega) (by omega) (by omega) (by omega)]
  by_cases c2 : c = 98
  · rw [if_eqp c2, c2]; rfl
  rw [if_eqn c2 (by omega) (by omega) (by omega) (by omega)]
  by_cases c3 : c = 115
  · rw [if_eqp c3, c3]; rfl
  rw [if_eqn c3 (by omega) (by omega) (by omega) (by omega)]
  by_cases c4 : c = 100
  · rw [if_eqp c4, c4]; rfl
  rw [if_eqn c4 (by omega) (by omega) (by omega) (by omega)]
  by_cases c5 : c = 109
  · rw [if_eqp c5, c5]; rfl
  rw [if_eqn c5 (by omega) (by omega) (by omega) (by omega)]
  by_cases c6 : c = 112
  · rw [if_eqp c6, c6]; rfl
  rw [if_eqn c6 (by omega) (by omega) (by omega) (by omega)]
  by_cases c7 : c = 119
  · rw [if_eqp c7, c7]; rfl
  rw [if_eqn c7 (by omega) (by omega) (by omega) (by omega)]
  have hneg : ixT 7 c < 0 := by
    rw [ixT_neg, hs]
    simp [c1, c2, c3, c4, c5, c6, c7]
  have := ix7_rng c
  congr 1
  omega
/-! the page -/
theorem node_in (hk : pK h pg = 1) (hr : f_X0_refresh h pg = some h') (H : RepB h' pg φ T) (hW : WF T) (hO : OrdC h' pg) (hV : VS h' pg φ T rs (tN T)) (hn : n < tN T) : f_X0_node h pg (n : Int) = some (h', some (φ ((tO T).getD n 0))) := by
  have h24 := hW.1.2.1
  have hl := hW.1.2.2.1
  have hin : (tO T).getD n 0 < tN T := getD_lt hW.1.2.2.2.1 (by omega)
  have hL : pL h' (pg + 16) = (tO T).map φ := by rw [hV.1, List.take_of_length_le (by omega)]
  have e1 : lLen h' (pg + 16) = some ((tN T : Nat) : Int) := by
    unfold lLen
    rw [gd_c (by rw [hO.2.1]; decide), hL, List.length_map, hl]
  have e2 : lGet h' (pg + 16) (n : Int) = some (φ ((tO T).getD n 0)) := by
    unfold lGet
    rw [gd_c (by rw [hO.2.1]; decide), hL, List.length_map, gd_zin (by omega) (by omega) (by omega), zix_nat (by omega), getD_map (by omega)]
  unfold f_X0_node
  rw [gd_c hk, hr, obind_some, if_ltn (by omega) (by omega) (by omega), gd_c H.1.1.1, hO.1, obind_some, e1, obind_some, if_ltp (by omega) (by omega) (by omega), gd_c H.1.1.1, obind_some, e2, obind_some, gd_c (by exact (H.c.kd hin).1)]
theorem node_out (hk : pK h pg = 1) (hr : f_X0_refresh h pg = some h') (hk' : pK h' pg = 1) (hO : OrdC h' pg) (hx : x < 0 ∨ ((pL h' (pg + 16)).length : Int) ≤ x) (h1 : -2147483648 ≤ x) (h2 : x < 2147483648) : f_X0_node h pg x = some (h', none) := by
  have e1 : lLen h' (pg + 16) = some (((pL h' (pg + 16)).length : Nat) : Int) := by
    unfold lLen
    rw [gd_c (by rw [hO.2.1]; decide)]
  unfold f_X0_node
  rw [gd_c hk, hr, obind_some]
  by_cases z : x < 0
  · rw [if_ltp z (by omega) (by omega)]; rfl
  · rw [if_ltn (by omega) (by omega) (by omega), gd_c hk', hO.1, obind_some, e1, obind_some, if_ltn (by omega) (by omega) (by omega)]; rfl
theorem name_none (hk : pK h pg = 1) (hn : f_X0_node h pg x = some (h', none)) : f_X0_name h pg x = some (h', -1) := by
  unfold f_X0_name; rw [gd_c hk, hn, obind_some]; rfl
theorem classes_none (hk : pK h pg = 1) (hn : f_X0_node h pg x = some (h', none)) : f_X0_classes h pg x = some (h', -1) := by
  unfold f_X0_classes; rw [gd_c hk, hn, obind_some]; rfl
theorem parent_none (hk : pK h pg = 1) (hn : f_X0_node h pg x = some (h', none)) : f_X0_parent h pg x = some (h', -1) := by
  unfold f_X0_parent; rw [gd_c hk, hn, obind_some]; rfl
theorem text_none (hk : pK h pg = 1) (hn : f_X0_node h pg x = some (h', none)) : f_X0_text h pg x = some (h', none) := by
  unfold f_X0_text
  rw [gd_c hk, hn, obind_some, gd_c (by exact Or.inl rfl)]
  have : kiso h' none 3 = 0 := rfl
  simp only []
  rw [this, if_eqp rfl]
theorem inner_none (hk : pK h pg = 1) (hn : f_X0_node h pg x = some (h', none)) : f_X0_inner h pg x = some (h', none) := by
  unfold f_X0_inner
  rw [gd_c hk, hn, obind_some, gd_c (by exact Or.inl rfl)]
  have : kiso h' none 2 = 0 := rfl
  simp only []
  rw [this, if_eqp rfl]
theorem text_some (hk : pK h pg = 1) (hn : f_X0_node h pg x = some (h', some a)) (h3 : pK h' a = 3) : f_X0_text h pg x = some (h', some a) := by
  unfold f_X0_text
  rw [gd_c hk, hn, obind_some, gd_c (by exact Or.inr ⟨by show isN (pK h' a); rw [h3]; decide, Or.inl rfl⟩)]
  have : kiso h' (some a) 3 = 1 := by
    unfold kiso kis
    rw [if_neg (by simp), Option.getD_some, if_pos h3]
  simp only []
  rw [this, if_eqn (by omega) (by omega) (by omega) (by omega) (by omega), gd_c (by exact Or.inr ⟨by show isN (pK h' a); rw [h3]; decide, Or.inr h3⟩)]
theorem text_not (hk : pK h pg = 1) (hn : f_X0_node h pg x = some (h', some a)) (h3 : pK h' a = 2) : f_X0_text h pg x = some (h', none) := by
  unfold f_X0_text
  rw [gd_c hk, hn, obind_some, gd_c (by exact Or.inr ⟨by show isN (pK h' a); rw [h3]; decide, Or.inl rfl⟩)]
  have : kiso h' (some a) 3 = 0 := by
    unfold kiso kis
    rw [if_neg (by simp), Option.getD_some, h3, if_neg (by omega)]
  simp only []
  rw [this, if_eqp rfl]
theorem inner_some (hk : pK h pg = 1) (hn : f_X0_node h pg x = some (h', some a)) (h3 : pK h' a = 2) : f_X0_inner h pg x = some (h', some a) := by
  unfold f_X0_inner
  rw [gd_c hk, hn, obind_some, gd_c (by exact Or.inr ⟨by show isN (pK h' a); rw [h3]; decide, Or.inl rfl⟩)]
  have : kiso h' (some a) 2 = 1 := by
    unfold kiso kis
    rw [if_neg (by simp), Option.getD_some, if_pos h3]
  simp only []
  rw [this, if_eqn (by omega) (by omega) (by omega) (by omega) (by omega), gd_c (by exact Or.inr ⟨by show isN (pK h' a); rw [h3]; decide, Or.inr h3⟩)]
theorem inner_not (hk : pK h pg = 1) (hn : f_X0_node h pg x = some (h', some a)) (h3 : pK h' a = 3) : f_X0_inner h pg x = some (h', none) := by
  unfold f_X0_inner
  rw [gd_c hk, hn, obind_some, gd_c (by exact Or.inr ⟨by show isN (pK h' a); rw [h3]; decide, Or.inl rfl⟩)]
  have : kiso h' (some a) 2 = 0 := by
    unfold kiso kis
    rw [if_neg (by simp), Option.getD_some, h3, if_neg (by omega)]
  simp only []
  rw [this, if_eqp rfl]
theorem name_in (hk : pK h pg = 1) {i : Nat} (hn : f_X0_node h pg x = some (h', some (φ i))) (H : RepB h' pg φ T) (hi : i < tN T) : f_X0_name h pg x = some (h', tM T i) := by
  unfold f_X0_name
  rw [gd_c hk, hn, obind_some]
  simp only [nl_some]
  rw [gd_c (by exact (H.c.kd hi).1)]
  unfold v_name
  by_cases hm : tM T i = 1
  · rw [if_pos (H.txc hi hm).1, hm]; rfl
  · have hE := (H.elc hi hm).1
    rw [if_neg (by rw [hE]; omega)]
    unfold f_X2_name
    rw [gd_c hE, obind_some, (H.2.2.2.1 i hi hm).1]
theorem classes_in (hk : pK h pg = 1) {i : Nat} (hn : f_X0_node h pg x = some (h', some (φ i))) (H : RepB h' pg φ T) (hi : i < tN T) : f_X0_classes h pg x = some (h', if tM T i = 1 then 0 else tC T i) := by
  unfold f_X0_classes
  rw [gd_c hk, hn, obind_some]
  simp only [nl_some]
  rw [gd_c (by exact (H.c.kd hi).1)]
  unfold v_classes
  by_cases hm : tM T i = 1
  · rw [if_pos (H.txc hi hm).1, if_pos hm]; rfl
  · have hE := (H.elc hi hm).1
    rw [if_neg (show ¬ pK h' (φ i) = 3 by rw [hE]; omega), if_neg hm]
    unfold f_X2_classes
    rw [gd_c hE, obind_some, (H.2.2.2.1 i hi hm).2.1]
theorem parent_in (hk : pK h pg = 1) (hn : f_X0_node h pg x = some (h', some (φ ((tO T).getD n 0)))) (H : RepB h' pg φ T) (hW : WF T) (hV : VS h' pg φ T rs (tN T)) (hN : n < tN T) : f_X0_parent h pg x = some (h', if n = 0 then -1 else ((seat T (tP T ((tO T).getD n 0)) : Nat) : Int)) := by
  have hl := hW.1.2.2.1
  have hin : (tO T).getD n 0 < tN T := getD_lt hW.1.2.2.2.1 (by omega)
  have hkd : isN (pK h' (φ ((tO T).getD n 0))) := (H.c.kd hin).1
  unfold f_X0_parent
  rw [gd_c hk, hn, obind_some]
  simp only [nl_some]
  rw [gd_c hkd, H.2.2.2.2.2.1 _ hin]
  have h0 : ((tO T).getD n 0 = 0) ↔ n = 0 := by
    refine ⟨fun z => ?_, fun z => by rw [z]; exact hW.seat0⟩
    have e := hW.seatD (n := n) (by omega)
    have e0 := hW.seatD (n := 0) (by omega)
    rw [hW.seat0] at e0
    rw [z, e0] at e; exact e.symm
  by_cases z : n = 0
  · rw [if_pos (h0.mpr z), if_pos z]; rfl
  · have hne : (tO T).getD n 0 ≠ 0 := fun q => z (h0.mp q)
    have hpn := hW.par hin
    have hpm := nk1 (hW.2.1.2 _ hin hne).2.1
    have hps := hW.seat_lt hpn
    rw [if_neg hne, if_neg z, nl_some, gd_c hkd, obind_some, gd_c (H.elc hpn hpm).1]
    have := (hV.2 (seat T (tP T ((tO T).getD n 0))) (by omega)).1
    rw [hps.2] at this
    rw [this]
theorem letter_none (hk : pK h pg = 1) (hn : f_X0_text h pg x = some (h', none)) : f_X0_letter h pg x y = some (h', -1) := by
  unfold f_X0_letter; rw [gd_c hk, hn, obind_some]; rfl
theorem letter_in (hk : pK h pg = 1) {i : Nat} (hn : f_X0_text h pg x = some (h', some (φ i))) (H : RepB h' pg φ T) (hi : i < tN T) (hm : tM T i = 1) (hX : (tX T i).length ≤ 160) (h1 : -2147483648 ≤ y) (h2 : y < 2147483648) : f_X0_letter h pg x y = some (h', if 0 ≤ y ∧ y < (tX T i).length then (tX T i).getD y.toNat 0 else -1) := by
  have hE := H.txc hi hm
  unfold f_X0_letter
  rw [gd_c hk, hn, obind_some]
  simp only [nl_some]
  by_cases z : y < 0
  · rw [if_ltp z (by omega) (by omega), if_neg (by omega)]; rfl
  · have e1 : sLen h' (φ i + 1) = some (((tX T i).length : Nat) : Int) := by
      unfold sLen
      rw [gd_c (by rw [hE.2.2.1]; decide), H.2.2.2.2.1 i hi hm]
    rw [if_ltn (by omega) (by omega) (by omega), gd_c hE.1, hE.2.1, obind_some, e1, obind_some]
    by_cases z2 : y < (tX T i).length
    · rw [if_ltp z2 (by omega) (by omega), gd_c hE.1, obind_some, if_pos ⟨by omega, z2⟩]
      unfold sAt
      rw [gd_c (by rw [hE.2.2.1]; decide), H.2.2.2.2.1 i hi hm, gd_zin (by omega) (by omega) (by omega), obind_some, zix_toNat (by omega) (by omega)]
    · rw [if_ltn (by omega) (by omega) (by omega), if_neg (by omega)]; rfl
theorem value_none (hk : pK h pg = 1) (hn : f_X0_inner h pg x = some (h', none)) (h1 : 0 ≤ y) (h2 : y < 65536) : f_X0_value h pg x y = some (h', -1) := by
  unfold f_X0_value; rw [gd_c hk, hn, obind_some, gd_c (by omega), idxOf_eq (by omega) h1 h2, obind_some]; rfl
theorem value_in (hk : pK h pg = 1) {i : Nat} (hn : f_X0_inner h pg x = some (h', some (φ i))) (H : RepB h' pg φ T) (hi : i < tN T) (hm : tM T i ≠ 1) (hE : EvR h' φ T rs i) (h1 : 0 ≤ y) (h2 : y < 65536) : f_X0_value h pg x y = some (h', if i = 0 ∨ ixT 7 y < 0 then -1 else val T rs (ixT 7 y).toNat i) := by
  have hEl := H.elc hi hm
  have hrg := ix7_rng y
  unfold f_X0_value
  rw [gd_c hk, hn, obind_some, gd_c (by omega), idxOf_eq (by omega) h1 h2, obind_some]
  simp only [nl_some]
  rw [gd_c H.1.1.1, H.1.1.2.1]
  have h0 : (some (φ i) = some (pg + 1)) ↔ i = 0 := by
    rw [← H.2.1]
    refine ⟨fun z => H.2.2.1.2.2 _ _ hi (by omega) (Option.some.inj z), fun z => by rw [z]⟩
  by_cases z : i = 0
  · rw [if_pos (h0.mpr z), if_pos (Or.inl z)]; rfl
  · rw [if_neg (fun q => z (h0.mp q))]
    by_cases z2 : ixT 7 y < 0
    · rw [if_ltp z2 (by omega) (by omega), if_pos (Or.inr z2)]; rfl
    · rw [if_ltn (by omega) (by omega) (by omega), if_neg (show ¬ (i = 0 ∨ ixT 7 y < 0) from fun q => by rcases q with q | q; exact z q; exact z2 q), gd_c hEl.1, hEl.2.2.2.1, obind_some, gd_c (by rw [hEl.2.2.2.2.1]; decide), gd_zin (by omega) (by rw [hEl.2.2.2.2.2.1]; omega) (by rw [hEl.2.2.2.2.2.1]; omega), zix_toNat (by omega) (by omega), hE.1 _ (by omega)]
theorem nodes_in (H : RepB h pg φ T) (C : CntP h pg φ T) (hW : WF T) : f_X0_nodes h pg = some ((tN T : Nat) : Int) := by
  have h24 := hW.1.2.1
  unfold f_X0_nodes
  rw [gd_c H.1.1.1, H.2.2.2.2.2.2.2.2, if_eqp rfl, gd_c H.1.1.1, gd_c H.1.1.1, C.1, C.2.2.2.1]
  have key : 1 + (txsT T).length + (elsT T).length = tN T := by
    unfold txsT elsT
    have h0 := hW.2.1.1
    have h1 := hW.1.1
    have gen : ∀ m, 1 ≤ m → 1 + ((List.range m).filter (fun i => decide (tM T i = 1))).length + ((List.range m).filter (fun i => decide (i ≠ 0) && decide (tM T i ≠ 1))).length = m := by
      intro m hm
      induction m with
      | zero => omega
      | succ m ih =>
        rw [List.range_succ, List.filter_append, List.filter_append, List.length_append, List.length_append]
        by_cases z : m = 0
        · subst z
          simp [h0]
        · have := ih (by omega)
          by_cases q : tM T m = 1
          · have a1 : [m].filter (fun i => decide (tM T i = 1)) = [m] := by simp [q]
            have a2 : [m].filter (fun i => decide (i ≠ 0) && decide (tM T i ≠ 1)) = [] := by simp [q]
            rw [a1, a2]; simp only [List.length_cons, List.length_nil]; omega
          · have a1 : [m].filter (fun i => decide (tM T i = 1)) = [] := by simp [q]
            have a2 : [m].filter (fun i => decide (i ≠ 0) && decide (tM T i ≠ 1)) = [m] := by simp [q, z]
            rw [a1, a2]; simp only [List.length_cons, List.length_nil]; omega
    exact gen _ h1
  congr 1
  omega
theorem nodes_b (hk : pK h pg = 1) (h7 : pI h pg 7 = 1) : f_X0_nodes h pg = some (-1) := by
  unfold f_X0_nodes
  rw [gd_c hk, h7, if_eqn (by omega) (by omega) (by omega) (by omega) (by omega)]
theorem open_in (H : RepB h pg φ T) : f_X0_open h pg = some (((tS T).length : Nat) : Int) := by
  unfold f_X0_open lLen
  rw [gd_c H.1.1.1, H.2.2.2.2.2.2.2.2, if_eqp rfl, gd_c H.1.1.1, H.1.1.2.2.2.2.1, obind_some, gd_c (by rw [H.1.2.1.2.2.1]; decide), obind_some, H.2.2.2.2.2.2.1, List.length_map]
theorem open_b (hk : pK h pg = 1) (h7 : pI h pg 7 = 1) : f_X0_open h pg = some (-1) := by
  unfold f_X0_open
  rw [gd_c hk, h7, if_eqn (by omega) (by omega) (by omega) (by omega) (by omega)]
theorem rules_p (hk : pK h pg = 1) (hC : ShC h pg) (hR : RulesR h rs (pL h (pg + 9))) : f_X0_rules h pg = some ((rs.length : Nat) : Int) := by
  unfold f_X0_rules lLen
  rw [gd_c hk, hC.1.1, obind_some, gd_c hC.1.2.1, hC.1.2.2.1, obind_some, gd_c (by rw [hC.2.1.1]; decide), obind_some, hR.1]
/-! the reference -/
theorem mnone_in (hR : RepM M T) (hW : WF T) (hn : n < tN T) : m_none M (n : Int) = some 0 := by
  have h24 := hW.1.2.1
  have hl := hW.1.2.2.1
  unfold m_none
  rw [hR.1, if_eqp rfl, if_ltn (by omega) (by omega) (by omega), hR.2.1, if_ltp (by omega) (by omega) (by omega)]
theorem mnone_out (hR : RepM M T) (hW : WF T) (hx : x < 0 ∨ (tN T : Int) ≤ x) (h1 : -2147483648 ≤ x) (h2 : x < 2147483648) : m_none M x = some 1 := by
  have h24 := hW.1.2.1
  have hl := hW.1.2.2.1
  unfold m_none
  rw [hR.1, if_eqp rfl]
  by_cases z : x < 0
  · rw [if_ltp z (by omega) (by omega)]; rfl
  · rw [if_ltn (by omega) (by omega) (by omega), hR.2.1, if_ltn (by omega) (by omega) (by omega)]; rfl
theorem mnone_b (hb : M.1 4 = 1) : m_none M x = some 1 := by
  unfold m_none
  rw [hb, if_eqn (by omega) (by omega) (by omega) (by omega) (by omega)]; rfl
theorem mname_1 (hm : m_none M x = some 1) : m_name M x = some (-1) := by
  unfold m_name; rw [hm, obind_some, if_eqn (by omega) (by omega) (by omega) (by omega) (by omega)]
theorem mclasses_1 (hm : m_none M x = some 1) : m_classes M x = some (-1) := by
  unfold m_classes; rw [hm, obind_some, if_eqn (by omega) (by omega) (by omega) (by omega) (by omega)]
theorem mparent_1 (hm : m_none M x = some 1) : m_parent M x = some (-1) := by
  unfold m_parent; rw [hm, obind_some, if_eqn (by omega) (by omega) (by omega) (by omega) (by omega)]
theorem mfind_1 (hm : m_none M x = some 1) : m_find M x y = some (-1) := by
  unfold m_find; rw [hm, obind_some, if_eqn (by omega) (by omega) (by omega) (by omega) (by omega)]
theorem mvalue_1 (hm : m_none M x = some 1) (h1 : 0 ≤ y) (h2 : y < 65536) : m_value M x y = some (M, -1) := by
  unfold m_value; rw [m_prop_eq2 y h1 h2, obind_some, hm, obind_some, if_eqn (by omega) (by omega) (by omega) (by omega) (by omega)]
/-- a place in the order -/
theorem m6 {α : Type} {k : Option α} (hR : RepM M T) (hW : WF T) (hn : n < tN T) : gd (zin (n : Int) 40) (gd (zin (M.2 6 (zix (n : Int))) 40) k) = k ∧ zix (M.2 6 (zix (n : Int))) = (tO T).getD n 0 := by
  have h24 := hW.1.2.1
  have hl := hW.1.2.2.1
  have hin : (tO T).getD n 0 < tN T := getD_lt hW.1.2.2.2.1 (by omega)
  rw [gd_zin (by omega) (by omega) (by omega), zix_nat (by omega), hR.2.2.2.2.1 n (by omega), gd_zin (by omega) (by omega) (by omega), zix_nat (by omega)]
  exact ⟨rfl, rfl⟩
theorem mname_in (hR : RepM M T) (hW : WF T) (hn : n < tN T) : m_name M (n : Int) = some (tM T ((tO T).getD n 0)) := by
  have hl := hW.1.2.2.1
  have hin : (tO T).getD n 0 < tN T := getD_lt hW.1.2.2.2.1 (by omega)
  unfold m_name
  rw [mnone_in hR hW hn, obind_some, if_eqp rfl, (m6 hR hW hn).1, (m6 (α := Int) (k := none) hR hW hn).2, hR.2.2.2.2.2.1 _ hin]
theorem mclasses_in (hR : RepM M T) (hW : WF T) (hn : n < tN T) : m_classes M (n : Int) = some (tC T ((tO T).getD n 0)) := by
  have hl := hW.1.2.2.1
  have hin : (tO T).getD n 0 < tN T := getD_lt hW.1.2.2.2.1 (by omega)
  unfold m_classes
  rw [mnone_in hR hW hn, obind_some, if_eqp rfl, (m6 hR hW hn).1, (m6 (α := Int) (k := none) hR hW hn).2, hR.2.2.2.2.2.2.1 _ hin]
theorem mparent_in (hR : RepM M T) (hW : WF T) (hn : n < tN T) : m_parent M (n : Int) = some (if n = 0 then -1 else ((seat T (tP T ((tO T).getD n 0)) : Nat) : Int)) := by
  have hl := hW.1.2.2.1
  unfold m_parent
  rw [mnone_in hR hW hn, obind_some, if_eqp rfl, m_parentOf_eq hR hW (by omega), obind_some]
theorem mvalue_in {w : List Int} (hY : StyM M w) (hR : RepM M T) (hW : WF T) (hn : n < tN T) (h1 : 0 ≤ y) (h2 : y < 65536) : ∃ M', m_value M (n : Int) y = some (M', if (tO T).getD n 0 = 0 ∨ tM T ((tO T).getD n 0) = 1 ∨ ixT 7 y < 0 then -1 else val T ((rulE w).map (rlE w)) (ixT 7 y).toNat ((tO T).getD n 0)) ∧ FY M M' ∧ (M' = M ∨ (UpM M' T ∧ VM M' T ((rulE w).map (rlE w)))) := by
  have h24 := hW.1.2.1
  have hl := hW.1.2.2.1
  have hin : (tO T).getD n 0 < tN T := getD_lt hW.1.2.2.2.1 (by omega)
  have hrg := ix7_rng y
  have hnm := hW.nm hin
  unfold nmOK at hnm
  unfold m_value
  rw [m_prop_eq2 y h1 h2, obind_some, mnone_in hR hW hn, obind_some, if_eqp rfl]
  by_cases z : ixT 7 y < 0
  · rw [if_ltp z (by omega) (by omega), if_pos (Or.inr (Or.inr z))]
    exact ⟨M, rfl, ⟨fun _ _ _ => rfl, fun _ _ => rfl⟩, Or.inl rfl⟩
  · rw [if_ltn (by omega) (by omega) (by omega), (m6 hR hW hn).1, (m6 (α := Int) (k := none) hR hW hn).2, hR.2.2.2.2.2.1 _ hin]
    by_cases z2 : tM T ((tO T).getD n 0) < 2
    · have : (tO T).getD n 0 = 0 ∨ tM T ((tO T).getD n 0) = 1 ∨ ixT 7 y < 0 := by
        by_cases q : (tO T).getD n 0 = 0
        · exact Or.inl q
        · have := (hW.2.1.2 _ hin q).1
          unfold nmI at this
          exact Or.inr (Or.inl (by omega))
      rw [if_ltp z2 (by omega) (by omega), if_pos this]
      exact ⟨M, rfl, ⟨fun _ _ _ => rfl, fun _ _ => rfl⟩, Or.inl rfl⟩
    · have : ¬ ((tO T).getD n 0 = 0 ∨ tM T ((tO T).getD n 0) = 1 ∨ ixT 7 y < 0) := fun q => by
        rcases q with q | q | q
        · rw [q, hW.2.1.1] at z2; omega
        · omega
        · exact z q
      obtain ⟨M', s1, s2, s3, s4⟩ := m_style_eq hY hR hW (rulE_ok hY).1 (rulE_ok hY).2.1
      rw [if_ltn (by omega) (by omega) (by omega), if_neg this, s1, obind_some, gd_zin (by omega) (by omega) (by omega), zix_toNat (by omega) (by omega)]
      have e : ((40 * ixT 7 y) + (n : Int)).toNat = 40 * (ixT 7 y).toNat + n := by omega
      rw [e, s4 _ (by omega) n (by omega)]
      exact ⟨M', rfl, s2, Or.inr ⟨s3, s4⟩⟩
end PQ
