/-! the page's tree: a new element, THE PLACE -/
set_option maxRecDepth 100000
/-- a broken page -/
def Brk (h : HP) (pg : Nat) : Prop := pI h pg 7 = 1 ∧ (∃ a, f_X0_top h pg = some a ∧ a < pX h) ∧ pP h (pg + 1) 0 = none
/-- how many of the place's siblings stand before it -/
def kx (T : TS) (q : Nat × Nat × Nat) : Nat := (((tO T).take q.1).filter (fun j => decide (j ≠ 0) && decide (tP T j = q.2.2))).length
section PB
variable {h h' h1 : HP} {pg u : Nat} {φ : Nat → Nat} {T : TS}
theorem nodup_take {l : List Nat} (hn : l.Nodup) {k : Nat} (hk : k < l.length) : l.getD k 0 ∉ l.take k := by
  rw [getD_split hk] at hn
  exact (nodup_mid hn).1
theorem mem_els {i : Nat} (h1 : i < tN T) (h2 : i ≠ 0) (h3 : tM T i ≠ 1) : i ∈ elsT T := by
  unfold elsT
  simp only [List.mem_filter, List.mem_range, Bool.and_eq_true, decide_eq_true_eq]
  exact ⟨h1, h2, h3⟩
theorem mem_txs {i : Nat} (h1 : i < tN T) (h3 : tM T i = 1) : i ∈ txsT T := by
  unfold txsT
  simp only [List.mem_filter, List.mem_range, decide_eq_true_eq]
  exact ⟨h1, h3⟩
theorem RepB.root (H : RepB h pg φ T) (hN : 1 ≤ tN T) : pP h (pg + 1) 0 = none := by
  have q := H.2.2.2.2.2.1 0 hN
  rw [if_pos rfl, H.2.1] at q
  exact q
theorem RepB.topE (H : RepB h pg φ T) (hW : WF T) : ∃ a, f_X0_top h pg = some a ∧ a < pX h := by
  obtain ⟨t1, t2, t3⟩ := hW.top hW.len (Nat.le_refl _)
  exact ⟨_, H.top hW, by have := (H.elc t2 (nk1 t3)).2.2.2.2.2.2.2.1; omega⟩
theorem RepB.element (H : RepB h pg φ T) (C : CntP h pg φ T) (hW : WF T) {x c : Int} (hx : nmOK x) (hx1 : x ≠ 1) (hR : RU h (u + 4)) :
    (tN T = 24 → ∃ h', f_X0_element h pg x c = some (h', none) ∧ Brk h' pg ∧ SHp h' pg ∧ FP pg h h' ∧ RU h' u) ∧
    (tN T ≠ 24 → ∃ h' a, f_X0_element h pg x c = some (h', some a) ∧ RepB h' pg φ T ∧ Det h' pg φ T a x c ∧ FP pg h h' ∧ RU h' u) := by
  have hb := H.1
  have hfull := C.full hb.1.1 hW
  have hk5 : pK h (pg + 5) = 23 := hb.2.1.2.1
  have hcnt := hW.cnt
  have h24 := hW.1.2.1
  have h23 := hb.2.2.2.1.2.2.2.2.2.1
  constructor
  · intro e
    refine ⟨wI h pg 7 1, ?_, ⟨by rw [pI_wI, if_pos ⟨rfl, rfl⟩], H.topE hW, H.root hW.1.1⟩, hb.aI _ _ _, FP.aI (tk2 hb.1.1 (by unfold treeK; omega)) (fun _ => by omega) _, hR.mono (by omega)⟩
    have q7 : pI (wI h pg 7 1) pg 7 = 1 := by rw [pI_wI, if_pos ⟨rfl, rfl⟩]
    unfold f_X0_element
    rw [gd_c hb.1.1, hfull, if_pos e, obind_some, gd_c hb.1.1, gd_isB1, bnd_eq, gd_c (by exact hb.1.1), q7, if_eqn (by omega) (by omega) (by omega) (by omega) (by omega)]
  · intro e
    have h7 : wI h pg 7 0 = h := wI_id H.2.2.2.2.2.2.2.2
    have h70 : pI h pg 7 = 0 := H.2.2.2.2.2.2.2.2
    by_cases hnew : (elsT T).length = (pL h (pg + 5)).length
    · have hlt := hb.lt
      obtain ⟨n1, n2⟩ := nE_eq (h := h) (hR.mono (by omega))
      have A := nE_ag h
      obtain ⟨X1, X2, X3⟩ := nE_X h
      obtain ⟨E1, E2⟩ := nE_cell h
      have a5 := A.2.2 (pg + 5) (by omega)
      have hL5 : pL (nE h) (pg + 5) = pL h (pg + 5) := a5.2.2.2.2.1
      obtain ⟨h1, g1, g2, g3⟩ := lAdd_eq (h := nE h) (u := u) (a := pg + 5) (x := pX h) (by rw [a5.1, hk5]; decide) (by rw [E1.1]; decide) (by rw [hL5]; omega) (by rw [a5.2.2.2.2.2.2]; exact hb.2.2.1.2.1) (by have q := hR; unfold RU at q ⊢; omega)
      obtain ⟨k1, k2, k3, k4, k5, k6⟩ := g2.k
      have hEl : ∀ x, ELc (nE h) x → pP (nE h) x 5 = none → ELc h1 x := fun x hx hx5 => by
        obtain ⟨x1, x2, x3, x4, x5, x6, x7, x8, x9⟩ := hx
        rcases g2 with e | ⟨n, hn, e⟩
        · rw [e]; exact ⟨x1, x2, x3, x4, x5, x6, x7, x8, x9⟩
        · rw [e]
          refine ⟨x1, x2, x3, x4, x5, x6, fun l hl => ?_, Nat.le_succ_of_le x8, ?_⟩
          · rw [pP_wGr, hx5] at hl; cases hl
          · rw [pC_wGr]; split
            · exact hn
            · exact x9
      have hfr : ∀ x ∈ (pg + 1) :: pL h (pg + 5), x < pX h := fun x hx => by have := (hb.mem_lt hx).2.2.2.2.2.2.2.1; omega
      have HA := (H.c.agr A).gr g2
      have HB := HA.addE (hEl _ E1 E2) (by rw [k4]; exact E2) (by rw [k2, hL5]; exact fun q => by have := hfr _ q; omega) (by rw [k2, hL5]; omega)
      rw [k2, hL5] at HB
      rw [hL5] at g1
      have HL : LsC (wL h1 (pg + 5) (pL h (pg + 5) ++ [pX h])) φ T := ((H.l.agr H.c hW.stk A).gr g2).wl HA hW.stk (a := pg + 5) _ (by rw [k1, a5.1, hk5]; omega)
      have hP5 : pL (wL h1 (pg + 5) (pL h (pg + 5) ++ [pX h])) (pg + 5) = pL h (pg + 5) ++ [pX h] := by rw [pL_wL, if_pos rfl]
      have hP4 : pL (wL h1 (pg + 5) (pL h (pg + 5) ++ [pX h])) (pg + 4) = pL h (pg + 4) := by rw [pL_ne _ (by omega), k2]; exact (A.2.2 (pg + 4) (by omega)).2.2.2.2.1
      have hIp : ∀ k, pI (wL h1 (pg + 5) (pL h (pg + 5) ++ [pX h])) pg k = pI h pg k := fun k => by rw [pI_wL, k3]; exact (A.2.2 pg (by omega)).2.2.1 k
      have C' : CntP (wL h1 (pg + 5) (pL h (pg + 5) ++ [pX h])) pg φ T := by
        obtain ⟨c1, c2, c3, c4, c5, c6⟩ := C
        unfold CntP
        rw [hP5, hP4, hIp, hIp]
        exact ⟨c1, by rw [List.length_append]; omega, by rw [List.take_append_of_le_length c2]; exact c3, c4, c5, c6⟩
      obtain ⟨h', r1, r2, r3, r4, r5⟩ := (HB.b HL).el46 hW hW.stk (a := pX h) (c := c) hx hx1 (by rw [hP5, List.length_append]; simp; omega) (by rw [hP5, hnew]; simp [List.getD]) (fun i hi q => by have := (H.c.kd hi).2; omega) C'
      refine ⟨h', pX h, ?_, r2, r3, ?_, r5 u g3⟩
      · unfold f_X0_element lLen
        rw [gd_c hb.1.1, hfull, if_neg e, obind_some, gd_c hb.1.1, gd_isB0, h7, bnd_eq, gd_c hb.1.1, h70, if_eqp rfl, gd_c hb.1.1, gd_c hb.1.1, hb.1.2.2.2.1, obind_some, gd_c (by rw [hk5]; decide), obind_some, C.1, if_eqp (by omega), gd_c hb.1.1, bnd_eq, gd_c n2, bnd_eq, n1, obind_some, obind_some, g1, obind_some]
        exact r1
      · exact (((FP.agr A (by omega)).trans (FP.gr g2 (tk2 (k := 23) (by rw [a5.1]; exact hk5) (by unfold treeK; omega)))).trans (FP.aL (tk2 (k := 23) (by rw [k1, a5.1]; exact hk5) (by unfold treeK; omega)) _)).trans r4
    · have hlt : (elsT T).length < (pL h (pg + 5)).length := by have := C.2.1; omega
      have hmem : (pL h (pg + 5)).getD (elsT T).length 0 ∈ pL h (pg + 5) := by rw [gD hlt]; exact List.getElem_mem _
      have hE := hb.2.2.2.1.2.1 _ hmem
      have hnd := hb.2.2.2.1.2.2.2.1
      obtain ⟨h', r1, r2, r3, r4, r5⟩ := H.el46 hW hW.stk (a := (pL h (pg + 5)).getD (elsT T).length 0) (c := c) hx hx1 hlt rfl (fun i hi q => by
        by_cases m1 : tM T i = 1
        · have := (H.txc hi m1).1
          rw [q, hE.1] at this; omega
        · by_cases m0 : i = 0
          · rw [m0, H.2.1] at q
            rw [← q] at hmem
            exact (List.nodup_cons.mp hnd).1 hmem
          · have : φ i ∈ (elsT T).map φ := List.mem_map_of_mem (mem_els hi m0 m1)
            rw [← C.2.2.1, q] at this
            exact nodup_take (List.nodup_cons.mp hnd).2 hlt this) C
      refine ⟨h', (pL h (pg + 5)).getD (elsT T).length 0, ?_, r2, r3, r4, (r5 _ hR).mono (by omega)⟩
      unfold f_X0_element lLen
      rw [gd_c hb.1.1, hfull, if_neg e, obind_some, gd_c hb.1.1, gd_isB0, h7, bnd_eq, gd_c hb.1.1, h70, if_eqp rfl, gd_c hb.1.1, gd_c hb.1.1, hb.1.2.2.2.1, obind_some, gd_c (by rw [hk5]; decide), obind_some, C.1, if_eqn (by omega) (by omega) (by omega) (by omega) (by omega)]
      exact r1
/-! children -/
theorem mem_kids {i j : Nat} : j ∈ kids T i ↔ j ∈ tO T ∧ j ≠ 0 ∧ tP T j = i := by
  unfold kids
  simp only [List.mem_filter, Bool.and_eq_true, decide_eq_true_eq]
theorem kids_len (hW : WF T) (i : Nat) : (kids T i).length ≤ tN T := by
  unfold kids
  have := List.length_filter_le (fun j => decide (j ≠ 0) && decide (tP T j = i)) (tO T)
  rw [hW.1.2.2.1] at this
  exact this
theorem kids_in (hW : WF T) {w : Nat} (hw : w < tN T) : kx T (plcIn T w) = (kids T w).length := by
  have hwf := hW.1.2.2.2.2.1
  obtain ⟨A, S, C, e, ha, hb, hS, hC⟩ := cutT hwf.1 (hW.full hw)
  have hnd := hwf.1
  unfold kx kids
  show (((tO T).take (behindA T (seat T w))).filter (fun j => decide (j ≠ 0) && decide (tP T j = w))).length = _
  have hwf' := hwf
  rw [hb]
  rw [e] at hwf' ⊢
  have e1 : A ++ w :: (S ++ C) = (A ++ w :: S) ++ C := by simp
  have hl : A.length + 1 + S.length = (A ++ w :: S).length := by simp; omega
  rw [e1, hl, List.take_left' rfl]
  have hnil : C.filter (fun j => decide (j ≠ 0) && decide (tP T j = w)) = [] := by
    rw [List.filter_eq_nil_iff]
    intro j hj
    simp only [Bool.and_eq_true, decide_eq_true_eq, not_and]
    intro j0 jw
    exact hwf'.out_mem hS hC (Or.inr hj) j0 (by rw [jw]; simp)
  conv => rhs; rw [List.filter_append, hnil, List.append_nil]
theorem kids_bf (hW : WF T) {t : Nat} (ht : t < tN T) (h0 : t ≠ 0) : ∃ K1 K2, kids T (tP T t) = K1 ++ t :: K2 ∧ K1.length = kx T (seat T t, tD T t, tP T t) ∧ t ∉ K1 := by
  have hwf := hW.1.2.2.2.2.1
  obtain ⟨A, S, C, e, ha, hb, hS, hC⟩ := cutT hwf.1 (hW.full ht)
  have hnd := hwf.1
  refine ⟨A.filter (fun j => decide (j ≠ 0) && decide (tP T j = tP T t)), (S ++ C).filter (fun j => decide (j ≠ 0) && decide (tP T j = tP T t)), ?_, ?_, ?_⟩
  · unfold kids
    rw [e, List.filter_append, List.filter_cons, if_pos (by simp [h0])]
  · unfold kx
    show _ = (((tO T).take (seat T t)).filter (fun j => decide (j ≠ 0) && decide (tP T j = tP T t))).length
    rw [← ha, e, List.take_left' rfl]
  · intro z
    rw [e] at hnd
    exact (nodup_mid hnd).1 (List.mem_filter.mp z).1
theorem RepB.index (H : RepB h pg φ T) (hW : WF T) {t : Nat} (ht : t < tN T) (h0 : t ≠ 0) (hm : tM T (tP T t) ≠ 1) : f_X2_index h (φ (tP T t)) (φ t) = some ((kx T (seat T t, tD T t, tP T t) : Nat) : Int) := by
  obtain ⟨K1, K2, e1, e2, e3⟩ := kids_bf hW ht h0
  have hw := hW.par ht
  have hE := H.elc hw hm
  have hlen := kids_len hW (tP T t)
  have h24 := hW.1.2.1
  have hl : pL h (φ (tP T t) + 1) = (kids T (tP T t)).map φ := (H.2.2.2.1 _ hw hm).2.2.2
  have hkl : (kids T (tP T t)).length = K1.length + 1 + K2.length := by rw [e1]; simp; omega
  rw [← e2]
  unfold f_X2_index f_X2_index_2
  refine loopUs (fun k => (k : Int)) 0 K1.length rfl (Nat.zero_le _) (fun k k1 k2 => ?_) ?_
  · have hne : ¬ (some (φ ((kids T (tP T t)).getD k 0)) = some (φ t)) := fun q => by
      have hk : (kids T (tP T t)).getD k 0 = K1.getD k 0 := by rw [e1, gD (by simp; omega), List.getElem_append_left k2, gD k2]
      have hin : K1.getD k 0 ∈ K1 := by rw [gD k2]; exact List.getElem_mem _
      have hin2 : K1.getD k 0 ∈ kids T (tP T t) := by rw [e1]; exact List.mem_append_left _ hin
      have hlt := hW.1.2.2.2.1 _ (mem_kids.mp hin2).1
      rw [hk] at q
      have := H.2.2.1.2.2 _ _ hlt ht (Option.some.inj q)
      rw [this] at hin
      exact e3 hin
    simp only [f_X2_index_2s]
    unfold lLen lGet
    rw [gd_c hE.1, hE.2.1, obind_some, gd_c (by rw [hE.2.2.1]; decide), obind_some, hl, List.length_map, if_ltp (by omega) (by omega) (by omega), gd_c hE.1, obind_some, gd_c (by rw [hE.2.2.1]; decide), hl, gd_zin (by omega) (by rw [List.length_map]; omega) (by rw [List.length_map]; omega), obind_some, zix_nat (by omega), getD_map (by omega), if_neg hne]
    rfl
  · have hat : (kids T (tP T t)).getD K1.length 0 = t := by rw [e1]; simp [List.getD]
    simp only [f_X2_index_2s]
    unfold lLen lGet
    rw [gd_c hE.1, hE.2.1, obind_some, gd_c (by rw [hE.2.2.1]; decide), obind_some, hl, List.length_map, if_ltp (by omega) (by omega) (by omega), gd_c hE.1, obind_some, gd_c (by rw [hE.2.2.1]; decide), hl, gd_zin (by omega) (by rw [List.length_map]; omega) (by rw [List.length_map]; omega), obind_some, zix_nat (by omega), getD_map (by omega), hat, if_pos rfl]
theorem RepB.locate (H : RepB h pg φ T) (hW : WF T) : f_X0_locate h pg = some (wI (wP h pg 12 (some (φ (plc T (tS T).length).2.2))) pg 13 ((kx T (plc T (tS T).length) : Nat) : Int)) := by
  have hb := H.1
  have hl := hW.len
  have h24 := hW.b.2.2.2.2.1
  have hn := hW.1.2.1
  obtain ⟨t1, t2, t3⟩ := hW.top hl (Nat.le_refl _)
  have hE := H.elc t2 (nk1 t3)
  have h116 := H.is hW t2 (nk1 t3) (x := 116) (by unfold nmOK; omega)
  have h114 := H.is hW t2 (nk1 t3) (x := 114) (by unfold nmOK; omega)
  have hst := H.2.2.2.2.2.2.1
  have k23 : isTR (tM T ((tS T).getD ((tS T).length - 1) 0)) = true → f_X0_locate_23 h pg = some (wI (wP h pg 12 (some (φ (plc T (tS T).length).2.2))) pg 13 ((kx T (plc T (tS T).length) : Nat) : Int)) := fun htr => by
    have htb := hW.tbl hl (Nat.le_refl _) htr
    obtain ⟨m1, m2, m3⟩ := hW.mem_t hl (Nat.le_refl _) htb
    have hreach := H.reach hW (x := 116) (by unfold nmOK; omega) (n := 0) (by omega)
    rw [show sT 0 = [] from rfl, rch_nil] at hreach
    have hlt := lastB_lt (fun k => decide (1 ≤ k) && decide (sNm T k = 116)) (tS T).length (by omega)
    have htop : topm T 116 = lastB (fun k => decide (1 ≤ k) && decide (sNm T k = 116)) (tS T).length := rfl
    rw [← htop] at hlt m1 m2 m3
    have hEt := H.elc m1 (by rw [m2]; omega)
    have hpl : plc T (tS T).length = (seat T ((tS T).getD (topm T 116) 0), tD T ((tS T).getD (topm T 116) 0), tP T ((tS T).getD (topm T 116) 0)) := by
      unfold plc
      simp only []
      rw [htr, if_pos (by simpa using htb)]
      rfl
    rw [hpl]
    have hp0 : pP h (φ ((tS T).getD (topm T 116) 0)) 0 = some (φ (tP T ((tS T).getD (topm T 116) 0))) := by rw [H.2.2.2.2.2.1 _ m1, if_neg m3]
    have hpm : tM T (tP T ((tS T).getD (topm T 116) 0)) ≠ 1 := nk1 (hW.2.1.2 _ m1 m3).2.1
    have hEp := H.elc (hW.par m1) hpm
    have H12 : RepB (wP h pg 12 (some (φ (tP T ((tS T).getD (topm T 116) 0))))) pg φ T := (H.c.wp12 _).b (H.l.wp _ (by omega))
    have hix := H12.index hW m1 m3 hpm
    have hself : pP (wP h pg 12 (some (φ (tP T ((tS T).getD (topm T 116) 0))))) pg 12 = some (φ (tP T ((tS T).getD (topm T 116) 0))) := by rw [pP_wP, if_pos ⟨rfl, rfl⟩]
    unfold f_X0_locate_23 lGet
    rw [gd_c hb.1.1, gd_c hb.1.1, hreach, obind_some, hb.1.2.2.2.2.1, obind_some, gd_c (by rw [hb.2.1.2.2.1]; decide), hst, gd_zin (by omega) (by rw [List.length_map]; omega) (by rw [List.length_map]; omega), zix_nat (by omega), getD_map hlt, obind_some, gd_c hEt.1, gd_c hEt.1, gd_c hb.1.1, hp0, bnd_eq, gd_c (by exact hb.1.1), hself, obind_some, gd_c (by exact hEp.1), hix, obind_some, gd_c (by exact hb.1.1), bnd_eq]
  have hnm := hW.nm t2
  unfold nmOK at hnm
  unfold f_X0_locate
  rw [gd_c hb.1.1, H.top hW, obind_some, gd_c hE.1, h116, obind_some]
  by_cases e1 : tM T ((tS T).getD ((tS T).length - 1) 0) = 116
  · rw [decide_eq_true e1, zb_t, if_eqn (by omega) (by omega) (by omega) (by omega) (by omega)]
    exact k23 (by unfold isTR; rw [decide_eq_true e1]; rfl)
  · rw [decide_eq_false e1, zb_f, if_eqp rfl, gd_c hE.1, h114, obind_some]
    by_cases e2 : tM T ((tS T).getD ((tS T).length - 1) 0) = 114
    · rw [decide_eq_true e2, zb_t, if_eqn (by omega) (by omega) (by omega) (by omega) (by omega)]
      exact k23 (by unfold isTR; rw [decide_eq_true e2]; simp)
    · have hpl : plc T (tS T).length = plcIn T ((tS T).getD ((tS T).length - 1) 0) := by
        unfold plc plcIn
        simp only []
        rw [show isTR (tM T ((tS T).getD ((tS T).length - 1) 0)) = false by unfold isTR; rw [decide_eq_false e1, decide_eq_false e2]; rfl]
        simp
      have hk := kids_len hW ((tS T).getD ((tS T).length - 1) 0)
      rw [hpl, kids_in hW t2]
      unfold lLen
      rw [decide_eq_false e2, zb_f, if_eqp rfl, gd_c hb.1.1, bnd_eq, gd_c (by exact hE.1), pP_ne _ (Or.inr (by omega)), hE.2.1, obind_some, gd_c (by show isL (pK h _); rw [hE.2.2.1]; decide), obind_some, pL_wP, (H.2.2.2.1 _ t2 (nk1 t3)).2.2.2, List.length_map, gd_c (by exact hb.1.1), bnd_eq]
      rfl
end PB
