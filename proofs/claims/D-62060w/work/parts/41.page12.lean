/-! the page's tree: characters -/
set_option maxRecDepth 100000
/-- a character at a place -/
def tTx (c : Int) (T : TS) (q : Nat × Nat × Nat) : Option TS := match prevSib T q with
  | some i => if tM T i = 1 then some (addC T i c) else (match mkN T 1 0 q with
      | none => none
      | some T2 => some (addC T2 (tN T) c))
  | none => (match mkN T 1 0 q with
      | none => none
      | some T2 => some (addC T2 (tN T) c))
/-- no text is longer than all characters -/
def XK (T : TS) : Prop := ∀ i, (tX T i).length ≤ tK T
section PB
variable {h h' h1 : HP} {pg u a t : Nat} {φ : Nat → Nat} {T : TS} {x c : Int} {X : List Int} {q : Nat × Nat × Nat}
theorem prev_kx (T : TS) (q : Nat × Nat × Nat) : prevSib T q = if kx T q = 0 then none else some ((kids T q.2.2).getD (kx T q - 1) 0) := by
  have hk : kids T q.2.2 = ((tO T).take q.1).filter (fun i => decide (i ≠ 0) && decide (tP T i = q.2.2)) ++ ((tO T).drop q.1).filter (fun i => decide (i ≠ 0) && decide (tP T i = q.2.2)) := by
    unfold kids
    rw [← List.filter_append, List.take_append_drop]
  unfold prevSib
  rw [hk]
  unfold kx
  generalize ((tO T).take q.1).filter (fun i => decide (i ≠ 0) && decide (tP T i = q.2.2)) = F
  generalize ((tO T).drop q.1).filter (fun i => decide (i ≠ 0) && decide (tP T i = q.2.2)) = G
  rw [List.getLast?_eq_getElem?]
  by_cases e : F.length = 0
  · rw [if_pos e]
    have : F = [] := List.eq_nil_of_length_eq_zero e
    rw [this]; rfl
  · rw [if_neg e, List.getElem?_eq_getElem (by omega), gD (by rw [List.length_append]; omega), List.getElem_append_left (by omega)]
theorem RepB.chN (H : RepB h pg φ T) (C : CntP h pg φ T) (hW : WF T) (hw : q.2.2 < tN T) (hwm : tM T q.2.2 ≠ 1) (h12 : pP h pg 12 = some (φ q.2.2)) (h13 : pI h pg 13 = ((kx T q : Nat) : Int)) (hc : 0 ≤ c ∧ c < 256) (hR : RU h (u + 21)) {t0 : Option Nat} (ho : okC h t0 0) (hk : kiso h t0 3 = 0) : ∃ h', f_X0_character_83 h pg c t0 = some h' ∧ OutP pg h u (match mkN T 1 0 q with
      | none => none
      | some T2 => some (addC T2 (tN T) c)) h' := by
  have hb := H.1
  have hfull := C.full hb.1.1 hW
  have hk4 : pK h (pg + 4) = 22 := hb.2.1.1
  have hcnt := hW.cnt
  have h24 := hW.1.2.1
  have h23 := hb.2.2.2.1.2.2.2.2.2.2
  by_cases e : tN T = 24
  · rw [mkN_none e]
    refine ⟨wI h pg 7 1, ?_, hb.aI _ _ _, FP.aI (tk2 hb.1.1 (by unfold treeK; omega)) (fun _ => by omega) _, hR.mono (by omega), by rw [pI_wI, if_pos ⟨rfl, rfl⟩], H.topE hW, H.root hW.1.1⟩
    unfold f_X0_character_83
    rw [gd_c ho, hk, if_eqp rfl, gd_c hb.1.1, hfull, if_pos e, obind_some, if_eqn (by omega) (by omega) (by omega) (by omega) (by omega), gd_c hb.1.1, bnd_eq]
  · rw [mkN_some e]
    by_cases hnew : (txsT T).length = (pL h (pg + 4)).length
    · have hlt := hb.lt
      obtain ⟨n1, n2⟩ := nT_eq (h := h) (hR.mono (by omega))
      have A := nT_ag h
      obtain ⟨X1, X2, X3⟩ := nT_X h
      obtain ⟨E1, E2⟩ := nT_cell h
      have a4 := A.2.2 (pg + 4) (by omega)
      have hL4 : pL (nT h) (pg + 4) = pL h (pg + 4) := a4.2.2.2.2.1
      obtain ⟨h1, g1, g2, g3⟩ := lAdd_eq (h := nT h) (u := u + 16) (a := pg + 4) (x := pX h) (by rw [a4.1, hk4]; decide) (by rw [E1.1]; decide) (by rw [hL4]; omega) (by rw [a4.2.2.2.2.2.2]; exact hb.2.2.1.1) (by have q := hR; unfold RU at q ⊢; omega)
      obtain ⟨k1, k2, k3, k4, k5, k6⟩ := g2.k
      have hEl : ∀ x, pK (nT h) (x + 1) = 30 → TXc (nT h) x → TXc h1 x := fun x hk30 hx => by
        obtain ⟨x1, x2, x3, ⟨p, p1, p2, p3, p4⟩, x5, x6⟩ := hx
        rcases g2 with e | ⟨n, hn, e⟩
        · rw [e]; exact ⟨x1, x2, x3, ⟨p, p1, p2, p3, p4⟩, x5, x6⟩
        · rw [e]
          refine ⟨x1, x2, x3, ⟨p, p1, p2, Nat.lt_succ_of_lt p3, p4⟩, Nat.le_succ_of_le x5, ?_⟩
          rw [pC_wGr]; split
          · omega
          · exact x6
      have hfr : ∀ x ∈ pL h (pg + 4), TXc h x := hb.2.2.2.1.2.2.1
      have HA := (H.c.agr A).gr g2
      have HB := HA.addT (hEl _ E1.2.2.1 E1) (p := pX h + 3) (by rw [k4]; exact E2) (fun x hx z => by
        rw [k2, hL4] at hx
        obtain ⟨x1, x2, x3, ⟨p, p1, p2, p3, p4⟩, x5, x6⟩ := hfr x hx
        rw [k4, (A.2.2 x (by omega)).2.2.2.1, p1] at z
        cases z
        omega) (by rw [k2, hL4]; exact fun q => by have := (hfr _ q).2.2.2.2.1; omega) (by rw [k2, hL4]; omega)
      rw [k2, hL4] at HB
      rw [hL4] at g1
      have HL : LsC (wL h1 (pg + 4) (pL h (pg + 4) ++ [pX h])) φ T := ((H.l.agr H.c hW.stk A).gr g2).wl HA hW.stk (a := pg + 4) _ (by rw [k1, a4.1, hk4]; omega)
      have hP4 : pL (wL h1 (pg + 4) (pL h (pg + 4) ++ [pX h])) (pg + 4) = pL h (pg + 4) ++ [pX h] := by rw [pL_wL, if_pos rfl]
      have hP5 : pL (wL h1 (pg + 4) (pL h (pg + 4) ++ [pX h])) (pg + 5) = pL h (pg + 5) := by rw [pL_ne _ (by omega), k2]; exact (A.2.2 (pg + 5) (by omega)).2.2.2.2.1
      have hIp : ∀ k, pI (wL h1 (pg + 4) (pL h (pg + 4) ++ [pX h])) pg k = pI h pg k := fun k => by rw [pI_wL, k3]; exact (A.2.2 pg (by omega)).2.2.1 k
      have C' : CntP (wL h1 (pg + 4) (pL h (pg + 4) ++ [pX h])) pg φ T := by
        obtain ⟨c1, c2, c3, c4, c5, c6⟩ := C
        unfold CntP
        rw [hP5, hP4, hIp, hIp]
        exact ⟨c1, c2, c3, c4, by rw [List.length_append]; omega, by rw [List.take_append_of_le_length c5]; exact c6⟩
      obtain ⟨h', r1, r2⟩ := (HB.b HL).ch146 (t := pX h) (q := q) (u := u) C' hW hw hwm (by rw [pP_wL, k4, (A.2.2 pg (by omega)).2.2.2.1]; exact h12) (by rw [hIp]; exact h13) (by rw [hP4, List.length_append]; simp; omega) (by rw [hP4, hnew]; simp [List.getD]) (fun i hi q => by have := (H.c.kd hi).2; omega) hc g3
      refine ⟨h', ?_, OutP.pre (((FP.agr A (by omega)).trans (FP.gr g2 (tk2 (k := 22) (by rw [a4.1]; exact hk4) (by unfold treeK; omega)))).trans (FP.aL (tk2 (k := 22) (by rw [k1, a4.1]; exact hk4) (by unfold treeK; omega)) _)) r2⟩
      unfold f_X0_character_83 lLen
      rw [gd_c ho, hk, if_eqp rfl, gd_c hb.1.1, hfull, if_neg e, obind_some, if_eqp rfl, gd_c hb.1.1, gd_c hb.1.1, hb.1.2.2.1, obind_some, gd_c (by rw [hk4]; decide), obind_some, C.2.2.2.1, if_eqp (by omega), gd_c hb.1.1, bnd_eq, gd_c n2, bnd_eq, n1, obind_some, obind_some, g1, obind_some]
      exact r1
    · have hlt : (txsT T).length < (pL h (pg + 4)).length := by have := C.2.2.2.2.1; omega
      have hmem : (pL h (pg + 4)).getD (txsT T).length 0 ∈ pL h (pg + 4) := by rw [gD hlt]; exact List.getElem_mem _
      have hE := hb.2.2.2.1.2.2.1 _ hmem
      have hnd := hb.2.2.2.1.2.2.2.2.1
      obtain ⟨h', r1, r2⟩ := H.ch146 (t := (pL h (pg + 4)).getD (txsT T).length 0) (q := q) (u := u) C hW hw hwm h12 h13 hlt rfl (fun i hi q => by
        by_cases m1 : tM T i = 1
        · have : φ i ∈ (txsT T).map φ := List.mem_map_of_mem (mem_txs hi m1)
          rw [← C.2.2.2.2.2, q] at this
          exact nodup_take hnd hlt this
        · have := (H.elc hi m1).1
          rw [q, hE.1] at this; omega) hc (hR.mono (by omega))
      refine ⟨h', ?_, r2⟩
      unfold f_X0_character_83 lLen
      rw [gd_c ho, hk, if_eqp rfl, gd_c hb.1.1, hfull, if_neg e, obind_some, if_eqp rfl, gd_c hb.1.1, gd_c hb.1.1, hb.1.2.2.1, obind_some, gd_c (by rw [hk4]; decide), obind_some, C.2.2.2.1, if_eqn (by omega) (by omega) (by omega) (by omega) (by omega)]
      exact r1
theorem RepB.ch37 (H : RepB h pg φ T) (C : CntP h pg φ T) (hW : WF T) (hX : ∀ i, (tX T i).length ≤ 159) (hc : 0 ≤ c ∧ c < 256) (hR : RU h (u + 21)) : ∃ h', (Option.bind (f_X0_locate h pg) (fun y2 => gd (pK y2 pg = 1) (if zI 0 < zI (pI y2 pg 13) then gd (pK y2 pg = 1) (Option.bind (pP y2 pg 12) (fun a3 => gd (pK y2 a3 = 2) (gd (pK y2 pg = 1) (Option.bind (pP y2 a3 4) (fun a4 => Option.bind (lGet y2 a4 ((pI y2 pg 13) - 1)) (fun y5 => gd (isN (pK y2 y5)) (f_X0_character_83 y2 pg c (some y5)))))))) else f_X0_character_83 y2 pg c none))) = some h' ∧ OutP pg h u (tTx c T (plc T (tS T).length)) h' := by
  have hb := H.1
  obtain ⟨p1, p2, -⟩ := hW.place hW.len (Nat.le_refl _)
  have hw : (plc T (tS T).length).2.2 < tN T := by
    obtain ⟨-, -, -, -, -, z, -⟩ := p1
    exact hW.1.2.2.2.1 _ z
  have hwm := nk1 p2
  have hL := H.locate hW
  generalize plc T (tS T).length = q at *
  have s12 : pP (wI (wP h pg 12 (some (φ q.2.2))) pg 13 ((kx T q : Nat) : Int)) pg 12 = some (φ q.2.2) := by rw [pP_wI, pP_wP, if_pos ⟨rfl, rfl⟩]
  have s13 : pI (wI (wP h pg 12 (some (φ q.2.2))) pg 13 ((kx T q : Nat) : Int)) pg 13 = ((kx T q : Nat) : Int) := by rw [pI_wI, if_pos ⟨rfl, rfl⟩]
  have Hl := H.loc (some (φ q.2.2)) ((kx T q : Nat) : Int)
  have Cl : CntP (wI (wP h pg 12 (some (φ q.2.2))) pg 13 ((kx T q : Nat) : Int)) pg φ T := C.mono ⟨by rw [pI_wI, if_neg (fun z => by omega)]; rfl, by rw [pI_wI, if_neg (fun z => by omega)]; rfl, rfl, rfl⟩ rfl rfl
  have Fl := FP.loc hb.1.1 (some (φ q.2.2)) ((kx T q : Nat) : Int)
  have hRl : RU (wI (wP h pg 12 (some (φ q.2.2))) pg 13 ((kx T q : Nat) : Int)) (u + 21) := hR
  have hKl : pK (wI (wP h pg 12 (some (φ q.2.2))) pg 13 ((kx T q : Nat) : Int)) = pK h := rfl
  rw [hL, obind_some]
  generalize wI (wP h pg 12 (some (φ q.2.2))) pg 13 ((kx T q : Nat) : Int) = g at *
  have hkl := kids_len hW q.2.2
  have h24 := hW.1.2.1
  have hkx := kx_le (T := T) q
  unfold tTx
  rw [prev_kx]
  by_cases e : kx T q = 0
  · obtain ⟨h', r1, r2⟩ := Hl.chN (q := q) (u := u) Cl hW hw hwm s12 s13 hc hRl (t0 := none) (Or.inl rfl) (by unfold kiso; rw [if_pos rfl])
    refine ⟨h', ?_, OutP.pre Fl ?_⟩
    · rw [gd_c (by exact Hl.1.1.1), s13, if_ltn (by omega) (by omega) (by omega)]
      exact r1
    · rw [if_pos e]; exact r2
  · have hE := Hl.elc hw hwm
    have hin : (kids T q.2.2).getD (kx T q - 1) 0 ∈ kids T q.2.2 := by rw [gD (by omega)]; exact List.getElem_mem _
    have hlt := hW.1.2.2.2.1 _ (mem_kids.mp hin).1
    have hkd := Hl.c.kd hlt
    have hget : (pL g (φ q.2.2 + 1)).getD (kx T q - 1) 0 = φ ((kids T q.2.2).getD (kx T q - 1) 0) := by rw [(Hl.2.2.2.1 _ hw hwm).2.2.2, getD_map (by omega)]
    have hlen : (pL g (φ q.2.2 + 1)).length = (kids T q.2.2).length := by rw [(Hl.2.2.2.1 _ hw hwm).2.2.2, List.length_map]
    rw [gd_c (by exact Hl.1.1.1), s13, if_ltp (by omega) (by omega) (by omega), gd_c (by exact Hl.1.1.1), s12, obind_some, gd_c (by exact hE.1), gd_c (by exact Hl.1.1.1), hE.2.1, obind_some]
    unfold lGet
    rw [gd_c (by rw [hE.2.2.1]; decide), gd_zin (by omega) (by rw [hlen]; omega) (by rw [hlen]; omega), zix_toNat (by omega) (by omega), show (((kx T q : Nat) : Int) - 1).toNat = kx T q - 1 by omega, hget, obind_some, gd_c hkd.1, if_neg e]
    generalize (kids T q.2.2).getD (kx T q - 1) 0 = i at *
    by_cases em : tM T i = 1
    · obtain ⟨h', r1, r2, r3, r4, r5⟩ := Hl.addC1 (u := u) hW.stk hlt em (by have := hX i; omega) hc (hRl.mono (by omega))
      refine ⟨h', ?_, OutP.pre Fl ?_⟩
      · unfold f_X0_character_83
        have k3 := (Hl.txc hlt em).1
        rw [gd_c (show okC g (some (φ i)) 0 from Or.inr ⟨by show pK g (φ i) = 2 ∨ pK g (φ i) = 3; omega, Or.inl rfl⟩), show kiso g (some (φ i)) 3 = 1 by unfold kiso kis; rw [if_neg (by simp)]; exact if_pos k3, if_eqn (by omega) (by omega) (by omega) (by omega) (by omega), gd_c (show okC g (some (φ i)) 3 from Or.inr ⟨by show pK g (φ i) = 2 ∨ pK g (φ i) = 3; omega, Or.inr k3⟩), obind_some, gd_c k3, r1]
        rfl
      · show OutP pg g u (if tM T i = 1 then some (addC T i c) else _) h'
        rw [if_pos em]
        exact OutP.of r2 (Cl.mono r3 rfl rfl) r4 r5
    · have k2 := (Hl.elc hlt em).1
      obtain ⟨h', r1, r2⟩ := Hl.chN (q := q) (u := u) Cl hW hw hwm s12 s13 hc hRl (t0 := some (φ i)) (Or.inr ⟨by show pK g (φ i) = 2 ∨ pK g (φ i) = 3; omega, Or.inl rfl⟩) (by unfold kiso kis; rw [if_neg (by simp)]; exact if_neg (by show pK g (φ i) ≠ 3; omega))
      refine ⟨h', r1, OutP.pre Fl ?_⟩
      show OutP pg g u (if tM T i = 1 then some (addC T i c) else _) h'
      rw [if_neg em]
      exact r2
theorem tChar_eq (c : Int) (T : TS) : tChar c T = if c = 32 ∧ isTR (tM T ((tS T).getD ((tS T).length - 1) 0)) = true then some T else match tRenew T with
    | none => none
    | some T1 => tTx c T1 (plc T1 (tS T1).length) := rfl
theorem tX_renewF : ∀ (d o k : Nat) (T T' : TS), XK T → renewF o d k T = some T' → XK T' := by
  intro d
  induction d with
  | zero => intro o k T T' hx h; rw [renewF] at h; cases h; exact hx
  | succ d ih =>
    intro o k T T' hx h
    rw [renewF] at h
    by_cases e : k < (tL T o).length
    · rw [if_pos e] at h
      by_cases e2 : tN T = 24
      · rw [mkN_none e2] at h; cases h
      · rw [mkN_some e2] at h
        refine ih _ _ _ _ (fun i => ?_) h
        show (va_up (tX T) (tN T) [] i).length ≤ tK T
        by_cases z : i = tN T
        · rw [z, va_up_s]; simp
        · rw [va_up_n _ _ _ _ z]; exact hx i
    · rw [if_neg e] at h; cases h; exact hx
theorem RepB.character (H : RepB h pg φ T) (C : CntP h pg φ T) (hW : WF T) (hX : XK T) (hK : tK T ≤ 159) (hc : 0 ≤ c ∧ c < 128) (hR : RU h (u + 49)) : ∃ h', f_X0_character h pg c = some h' ∧ OutP pg h u (tChar c T) h' := by
  have hb := H.1
  obtain ⟨t1, t2, t3⟩ := hW.top hW.len (Nat.le_refl _)
  have hE := H.elc t2 (nk1 t3)
  have h116 := H.is hW t2 (nk1 t3) (x := 116) (by unfold nmOK; omega)
  have h114 := H.is hW t2 (nk1 t3) (x := 114) (by unfold nmOK; omega)
  rw [tChar_eq]
  have main : ∃ h', f_X0_character_37 h pg c = some h' ∧ OutP pg h u (match tRenew T with
    | none => none
    | some T1 => tTx c T1 (plc T1 (tS T1).length)) h' := by
    obtain ⟨h1, r1, r2⟩ := H.renew (u := u + 21) C hW hR
    unfold f_X0_character_37
    rw [gd_c hb.1.1, r1, obind_some]
    cases hr : tRenew T with
    | none =>
      rw [hr] at r2
      have b7 : pI h1 pg 7 = 1 := r2.2.2.2.1
      refine ⟨h1, ?_, r2.1, r2.2.1, r2.2.2.1.mono (by omega), r2.2.2.2⟩
      rw [gd_c (by exact r2.1.1.1), b7, if_eqn (by omega) (by omega) (by omega) (by omega) (by omega)]
    | some T1 =>
      rw [hr] at r2
      obtain ⟨φ1, H1, C1⟩ := r2.2.2.2
      have hW1 := hW.renew hr
      have hX1 := tX_renewF _ _ _ _ _ hX hr
      have hK1 := tK_renew hr
      obtain ⟨h', s1, s2⟩ := H1.ch37 (u := u) C1 hW1 (fun i => by have := hX1 i; omega) ⟨hc.1, by omega⟩ r2.2.2.1
      refine ⟨h', ?_, OutP.pre r2.2.1 s2⟩
      rw [gd_c (by exact H1.1.1.1), H1.2.2.2.2.2.2.2.2, if_eqp rfl, gd_c (by exact H1.1.1.1)]
      exact s1
  have keep : c = 32 → isTR (tM T ((tS T).getD ((tS T).length - 1) 0)) = true → OutP pg h u (if c = 32 ∧ isTR (tM T ((tS T).getD ((tS T).length - 1) 0)) = true then some T else match tRenew T with
    | none => none
    | some T1 => tTx c T1 (plc T1 (tS T1).length)) h := fun a b => by
    rw [if_pos ⟨a, b⟩]
    exact OutP.of H C (FP.refl _ _) (hR.mono (by omega))
  unfold f_X0_character
  rw [gd_c hb.1.1, H.top hW, obind_some, gd_c hb.1.1, H.2.2.2.2.2.2.2.2, if_eqp rfl]
  by_cases e : c = 32
  · rw [if_eqp e, gd_c hE.1, h116, obind_some]
    by_cases e1 : tM T ((tS T).getD ((tS T).length - 1) 0) = 116
    · rw [decide_eq_true e1, zb_t, if_eqn (by omega) (by omega) (by omega) (by omega) (by omega)]
      exact ⟨h, rfl, keep e (by unfold isTR; rw [decide_eq_true e1]; rfl)⟩
    · rw [decide_eq_false e1, zb_f, if_eqp rfl, gd_c hE.1, h114, obind_some]
      by_cases e2 : tM T ((tS T).getD ((tS T).length - 1) 0) = 114
      · rw [decide_eq_true e2, zb_t, if_eqn (by omega) (by omega) (by omega) (by omega) (by omega)]
        exact ⟨h, rfl, keep e (by unfold isTR; rw [decide_eq_true e2]; simp)⟩
      · rw [decide_eq_false e2, zb_f, if_eqp rfl, if_neg (fun z => by have := z.2; unfold isTR at this; rw [decide_eq_false e1, decide_eq_false e2] at this; cases this)]
        exact main
  · rw [if_eqn e (by omega) (by omega) (by omega) (by omega), if_neg (fun z => e z.1)]
    exact main
end PB
