/-! the page: what its layout may change; a run is gathered -/
set_option maxRecDepth 100000
def lP (h : HP) (b j : Nat) : Prop := (pK h b = 2 ∧ 9 ≤ j) ∨ pK h b = 41 ∨ pK h b = 42 ∨ (pK h b = 5 ∧ (j = 2 ∨ j = 3))
def AgL (h h' : HP) : Prop := (pK h' = pK h ∧ pN h' = pN h ∧ pL h' = pL h ∧ pB h' = pB h ∧ pC h' = pC h ∧ pX h' = pX h ∧ pS h' = pS h ∧ pO h' = pO h) ∧ (∀ b j, pK h b ≠ 46 → pP h' b j = pP h b j) ∧ ∀ b j, ¬ lP h b j → pI h' b j = pI h b j
/-- what the layout of the page stands on -/
def PE (h : HP) (pg : Nat) (φ : Nat → Nat) (T : TS) (rs : List RL) : Prop := RepB h pg φ T ∧ (∀ n, n < tN T → nmQ T n ≠ 1 → EvR h φ T rs (ioP T n)) ∧ (pK h (pg + 17) = 5 ∧ pP h (pg + 17) 0 = some (pg + 18) ∧ pK h (pg + 18) = 46 ∧ pN h (pg + 18) = 184 ∧ pP h (pg + 17) 1 = some (pg + 19) ∧ pK h (pg + 19) = 42 ∧ pN h (pg + 19) = 184)
/-- the run in the page's cells -/
def RunP (h : HP) (r : Nat) (φ : Nat → Nat) (T : TS) (rs : List RL) (R : List IT) : Prop := pI h r 2 = (R.length : Int) ∧ ∀ j, j < R.length → match (R.getD j (0, none)).2 with
  | none => pP h (r + 1) j = none ∧ pI h (r + 2) j = vlP T rs 2 (R.getD j (0, none)).1
  | some k => pP h (r + 1) j = some (φ (ioP T (R.getD j (0, none)).1)) ∧ pI h (r + 2) j = (k : Int)
/-- only the run changes -/
def AgN (h h' : HP) (r : Nat) : Prop := AgL h h' ∧ ∀ b j, b ≠ r + 2 → ¬ (b = r ∧ j = 2) → pI h' b j = pI h b j
section PL
variable {h h' h1 : HP} {pg r : Nat} {φ : Nat → Nat} {T : TS} {rs : List RL} {R : List IT} {n p k q j : Nat}
theorem AgL.refl (h : HP) : AgL h h := ⟨⟨rfl, rfl, rfl, rfl, rfl, rfl, rfl, rfl⟩, fun _ _ _ => rfl, fun _ _ _ => rfl⟩
theorem AgL.trans (A : AgL h h1) (B : AgL h1 h') : AgL h h' := by
  obtain ⟨⟨a1, a2, a3, a4, a5, a6, a7, a8⟩, a9, a10⟩ := A
  obtain ⟨⟨b1, b2, b3, b4, b5, b6, b7, b8⟩, b9, b10⟩ := B
  unfold lP at *
  rw [a1] at b9 b10
  exact ⟨⟨b1.trans a1, b2.trans a2, b3.trans a3, b4.trans a4, b5.trans a5, b6.trans a6, b7.trans a7, b8.trans a8⟩, fun b j hb => (b9 b j hb).trans (a9 b j hb), fun b j hb => (b10 b j hb).trans (a10 b j hb)⟩
theorem AgL.aI (A : AgL h h1) {b j : Nat} (hb : lP h b j) (v : Int) : AgL h (wI h1 b j v) := by
  obtain ⟨a1, a9, a10⟩ := A
  refine ⟨a1, a9, fun c k hc => ?_⟩
  rw [pI_wI, if_neg (fun z => hc (by rw [z.1, z.2]; exact hb))]
  exact a10 c k hc
theorem AgL.aP (A : AgL h h1) {b j : Nat} (hb : pK h b = 46) (v : Option Nat) : AgL h (wP h1 b j v) := by
  obtain ⟨a1, a9, a10⟩ := A
  refine ⟨a1, fun c k hc => ?_, a10⟩
  rw [pP_wP, if_neg (fun z => hc (by rw [z.1]; exact hb))]
  exact a9 c k hc
theorem AgI.l {P : Nat → Nat → Prop} (A : AgI h h' P) (hP : ∀ b j, P b j → lP h b j) : AgL h h' := by
  obtain ⟨a1, a2, a3, a4, a5, a6, a7, a8, a9, a10⟩ := A
  exact ⟨⟨a1, a2, a4, a5, a6, a7, a8, a9⟩, fun b j _ => by rw [a3], fun b j hb => a10 b j (fun z => hb (hP b j z))⟩
theorem AgL.agq (A : AgL h h') (pg : Nat) : AgQ pg h h' := by
  obtain ⟨⟨a1, a2, a3, a4, a5, a6, a7, a8⟩, a9, a10⟩ := A
  refine ⟨by rw [a6]; exact Nat.le_refl _, a8, fun b _ => ⟨by rw [a1], by rw [a2], by rw [a4], fun hk j => a9 b j hk, fun _ => ⟨by rw [a3], by rw [a5]⟩, fun j hj => a10 b j (fun z => hj ?_)⟩⟩
  unfold lP at z
  unfold qP
  omega
theorem PE.agl (H : PE h pg φ T rs) (hW : WF T) (A : AgL h h') : PE h' pg φ T rs := by
  obtain ⟨p1, p2, p3⟩ := H
  have hlt := p1.1.lt
  obtain ⟨⟨a1, a2, a3, a4, a5, a6, a7, a8⟩, a9, a10⟩ := A
  have A : AgL h h' := ⟨⟨a1, a2, a3, a4, a5, a6, a7, a8⟩, a9, a10⟩
  refine ⟨p1.agw hW.stk ((AgL.agq A pg).w p1.1.1.1 (by omega)), fun n hn hm => ?_, ?_⟩
  · obtain ⟨e1, e2⟩ := p2 n hn hm
    have hE := p1.elc (io_lt hW hn) hm
    refine ⟨fun k hk => ?_, ?_⟩
    · rw [a10 _ _ (fun z => by unfold lP at z; rw [hE.2.2.2.2.1] at z; omega)]; exact e1 k hk
    · rw [a10 _ _ (fun z => by unfold lP at z; rw [hE.1] at z; omega)]; exact e2
  · obtain ⟨q1, q2, q3, q4, q5, q6, q7⟩ := p3
    rw [a1, a2, a9 _ _ (by omega), a9 _ _ (by omega)]
    exact ⟨q1, q2, q3, q4, q5, q6, q7⟩
theorem PE.el (H : PE h pg φ T rs) (hW : WF T) (hn : n < tN T) (hm : nmQ T n ≠ 1) : ELc h (φ (ioP T n)) ∧ (∀ k, k < 7 → pI h (φ (ioP T n) + 2) k = vlP T rs k n) ∧ pI h (φ (ioP T n)) 8 = (if hdP T rs n then 0 else 1) ∧ pI h (φ (ioP T n)) 2 = nmQ T n := by
  obtain ⟨p1, p2, p3⟩ := H
  refine ⟨p1.elc (io_lt hW hn) hm, (p2 n hn hm).1, ?_, (p1.2.2.2.1 _ (io_lt hW hn) hm).1⟩
  rw [(p2 n hn hm).2, hd_el hm]
  cases shw T rs (ioP T n) <;> rfl
theorem PE.ne (H : PE h pg φ T rs) (hW : WF T) (hn : n < tN T) (hq : q < tN T) (hne : n ≠ q) : φ (ioP T n) ≠ φ (ioP T q) := fun z => by
  have := H.1.2.2.1.2.2 _ _ (io_lt hW hn) (io_lt hW hq) z
  have h2 : seat T (ioP T n) = seat T (ioP T q) := by rw [this]
  rw [seat_io hW hn, seat_io hW hq] at h2
  exact hne h2
/-- a box or not -/
theorem box_p (H : PE h pg φ T rs) (hW : WF T) (hrs : ∀ r ∈ rs, okRV r) (hn : n < tN T) (hm : nmQ T n ≠ 1) : f_X2_box h (φ (ioP T n)) = some (if bxP T rs n then 1 else 0) := by
  obtain ⟨e1, e2, e3, e4⟩ := H.el hW hn hm
  have hv := (vl_rng hW hrs hn).2.2.2.2.2.2
  have z3 : zix 3 = 3 := by decide
  unfold f_X2_box
  rw [gd_c e1.1, e3]
  cases hd : hdP T rs n with
  | true =>
    rw [if_pos rfl, if_eqp rfl]
    unfold bxP
    rw [hd]
    simp
  | false =>
    rw [if_neg (show ¬ (false = true) by simp), if_eqn (by omega) (by omega) (by omega) (by omega) (by omega), gd_c e1.1, e1.2.2.2.1, obind_some, gd_c (by rw [e1.2.2.2.2.1]; decide), gd_zin (by omega) (by rw [e1.2.2.2.2.2.1]; omega) (by rw [e1.2.2.2.2.2.1]; omega), z3, e2 3 (by omega)]
    by_cases z : vlP T rs 3 n = 98
    · rw [if_eqp z, bx_i hm hd z, if_pos rfl]
    · rw [if_eqn z (by omega) (by omega) (by omega) (by omega), if_neg (fun y => z (bx_d y).2.2)]
theorem RunP.agn (hR : RunP h r φ T rs R) (A : AgL h h') (h2 : pI h' r 2 = pI h r 2) (h3 : ∀ j, pI h' (r + 2) j = pI h (r + 2) j) (h4 : ∀ j, pP h' (r + 1) j = pP h (r + 1) j) : RunP h' r φ T rs R := by
  refine ⟨by rw [h2]; exact hR.1, fun j hj => ?_⟩
  have := hR.2 j hj
  rw [h3, h4]
  exact this
/-- one more part -/
theorem add_p (H : PE h pg φ T rs) (hR : RunP h (pg + 17) φ T rs R) (hl : R.length < 184) (x : IT) {o : Option Nat} {v : Int} (hx : (match x.2 with
  | none => o = none ∧ v = vlP T rs 2 x.1
  | some k => o = some (φ (ioP T x.1)) ∧ v = (k : Int))) (ho : o = none ∨ pK h (o.getD 0) = 3) : ∃ h', f_X4_add h (pg + 17) o v = some h' ∧ RunP h' (pg + 17) φ T rs (R ++ [x]) ∧ AgN h h' (pg + 17) := by
  obtain ⟨q1, q2, q3, q4, q5, q6, q7⟩ := H.2.2
  have h2 := hR.1
  have hgo : f_X4_add h (pg + 17) o v = some (wI (wI (wP h (pg + 18) R.length o) (pg + 19) R.length v) (pg + 17) 2 ((R.length : Int) + 1)) := by
    unfold f_X4_add
    rw [gd_c q1, h2, if_eqn (by omega) (by omega) (by omega) (by omega) (by omega), gd_c q1, gd_c q1, q2, obind_some, gd_c q3, gd_zin (by omega) (by rw [q4]; omega) (by rw [q4]; omega), zix_nat (by omega), gd_c (by
      rcases ho with z | z
      · exact Or.inl z
      · exact Or.inr ⟨by rw [z]; decide, fun _ => z⟩), bnd_eq]
    have e1 : pP (wP h (pg + 18) R.length o) (pg + 17) 1 = some (pg + 19) := by rw [pP_ne _ (Or.inl (by omega))]; exact q5
    have e2 : pI (wP h (pg + 18) R.length o) (pg + 17) 2 = (R.length : Int) := h2
    rw [gd_c (by exact q1), gd_c (by exact q1), e1, obind_some, gd_c (by show isI (pK h (pg + 19)); rw [q6]; decide), e2, gd_zin (by omega) (by show _ < ((pN h (pg + 19) : Nat) : Int); rw [q7]; omega) (by show pN h (pg + 19) < _; rw [q7]; omega), zix_nat (by omega), bnd_eq, gd_c (by exact q1), gd_c (by exact q1), bnd_eq]
    have e3 : pI (wI (wP h (pg + 18) R.length o) (pg + 19) R.length v) (pg + 17) 2 = (R.length : Int) := by rw [pI_wI, if_neg (fun z => by omega)]; exact h2
    rw [e3]
  refine ⟨_, hgo, ⟨?_, fun j hj => ?_⟩, ?_, fun b j h1 h3 => ?_⟩
  · rw [pI_wI, if_pos ⟨rfl, rfl⟩, List.length_append]; simp
  · have eP : ∀ j, pP (wI (wI (wP h (pg + 18) R.length o) (pg + 19) R.length v) (pg + 17) 2 ((R.length : Int) + 1)) (pg + 18) j = if j = R.length then o else pP h (pg + 18) j := fun j => by
      show pP (wP h (pg + 18) R.length o) (pg + 18) j = _
      rw [pP_wP]
      by_cases z : j = R.length
      · rw [if_pos ⟨rfl, z⟩, if_pos z]
      · rw [if_neg (fun y => z y.2), if_neg z]
    have eI : ∀ j, pI (wI (wI (wP h (pg + 18) R.length o) (pg + 19) R.length v) (pg + 17) 2 ((R.length : Int) + 1)) (pg + 19) j = if j = R.length then v else pI h (pg + 19) j := fun j => by
      rw [pI_wI, if_neg (fun z => by omega), pI_wI]
      by_cases z : j = R.length
      · rw [if_pos ⟨rfl, z⟩, if_pos z]
      · rw [if_neg (fun y => z y.2), if_neg z]; rfl
    rw [show pg + 17 + 1 = pg + 18 by omega, show pg + 17 + 2 = pg + 19 by omega, eP, eI]
    rw [List.length_append] at hj
    by_cases z : j = R.length
    · rw [z, if_pos rfl, if_pos rfl, getD_app_r (Nat.le_refl _) (by simp), Nat.sub_self]
      exact hx
    · have hj' : j < R.length := by simp at hj; omega
      rw [if_neg z, if_neg z, getD_app_l hj']
      exact hR.2 j hj'
  · refine (((AgL.refl h).aP q3 o).aI ?_ v).aI ?_ _
    · unfold lP; rw [q6]; omega
    · unfold lP; rw [q1]; omega
  · rw [pI_wI, if_neg (fun z => h3 z), pI_wI, if_neg (fun z => h1 (by omega))]; rfl
theorem AgN.refl (h : HP) (r : Nat) : AgN h h r := ⟨AgL.refl h, fun _ _ _ _ => rfl⟩
theorem AgN.trans (A : AgN h h1 r) (B : AgN h1 h' r) : AgN h h' r := ⟨A.1.trans B.1, fun b j x y => (B.2 b j x y).trans (A.2 b j x y)⟩
/-- a text is added -/
theorem inside_tx (H : PE h pg φ T rs) (hW : WF T) (hR : RunP h (pg + 17) φ T rs R) (hp : p < tN T) (hm : nmQ T p = 1) (hl : R.length + (itQ T p).length ≤ 184) : ∃ h', f_X0_inside h (φ (ioP T p)) (pg + 17) = some (h', none) ∧ RunP h' (pg + 17) φ T rs (R ++ itQ T p) ∧ AgN h h' (pg + 17) := by
  have hX := H.1.txc (io_lt hW hp) hm
  have hlen : (pB h (φ (ioP T p) + 1)).length = (txP T p).length := by rw [H.1.2.2.2.2.1 _ (io_lt hW hp) hm]; rfl
  have hit : itQ T p = (List.range (txP T p).length).map (fun k => (p, some k)) := by unfold itQ; rw [if_pos hm]
  have hitl : (itQ T p).length = (txP T p).length := by rw [hit]; simp
  have hk3 : kis h (φ (ioP T p)) 3 = 1 := by unfold kis; rw [if_pos hX.1]
  unfold f_X0_inside
  rw [gd_c (by rw [hX.1]; decide), hk3, if_eqn (by omega) (by omega) (by omega) (by omega) (by omega), gd_c hX.1]
  unfold f_X0_inside_14
  obtain ⟨z, z1, z2⟩ := loopI (f := fun (z : HP × Int) => f_X0_inside_14s z.1 (pg + 17) (φ (ioP T p)) z.2) (P := fun z => z.2 = none ∧ RunP z.1 (pg + 17) φ T rs (R ++ itQ T p) ∧ AgN h z.1 (pg + 17)) (fun k z => z.2 = (k : Int) ∧ RunP z.1 (pg + 17) φ T rs (R ++ (List.range k).map (fun k => (p, some k))) ∧ AgN h z.1 (pg + 17)) (a := 0) (b := (txP T p).length) (s0 := (h, 0)) (by omega) ⟨rfl, by show RunP h (pg + 17) φ T rs (R ++ []); rw [List.append_nil]; exact hR, AgN.refl h _⟩ (fun k z _ k2 hz => by
    obtain ⟨g, y⟩ := z
    obtain ⟨i1, i2, i3⟩ := hz
    have i1 : y = (k : Int) := i1
    subst i1
    have Hg := H.agl hW i3.1
    have hXg := Hg.1.txc (io_lt hW hp) hm
    have hlg : (pB g (φ (ioP T p) + 1)).length = (txP T p).length := by rw [Hg.1.2.2.2.2.1 _ (io_lt hW hp) hm]; rfl
    obtain ⟨g', g1, g2, g3⟩ := add_p (o := some (φ (ioP T p))) (v := (k : Int)) Hg i2 (by simp; omega) (p, some k) ⟨rfl, rfl⟩ (Or.inr hXg.1)
    show ∃ s', f_X0_inside_14s g (pg + 17) (φ (ioP T p)) (k : Int) = some (.inl s') ∧ _
    unfold f_X0_inside_14s sLen
    rw [gd_c hXg.1, hXg.2.1, obind_some, gd_c (by rw [hXg.2.2.1]; decide), obind_some, hlg, if_ltp (by omega) (by omega) (by omega), gd_c Hg.2.2.1, g1, obind_some]
    refine ⟨_, rfl, by show (k : Int) + 1 = _; omega, ?_, i3.trans g3⟩
    rw [map_r1, ← List.append_assoc]
    exact g2) (fun z hz => by
    obtain ⟨g, y⟩ := z
    obtain ⟨i1, i2, i3⟩ := hz
    have i1 : y = ((txP T p).length : Int) := i1
    subst i1
    have Hg := H.agl hW i3.1
    have hXg := Hg.1.txc (io_lt hW hp) hm
    have hlg : (pB g (φ (ioP T p) + 1)).length = (txP T p).length := by rw [Hg.1.2.2.2.2.1 _ (io_lt hW hp) hm]; rfl
    show ∃ r, f_X0_inside_14s g (pg + 17) (φ (ioP T p)) (((txP T p).length : Nat) : Int) = some (.inr r) ∧ _
    unfold f_X0_inside_14s sLen
    rw [gd_c hXg.1, hXg.2.1, obind_some, gd_c (by rw [hXg.2.2.1]; decide), obind_some, hlg, if_ltn (by omega) (by omega) (by omega)]
    exact ⟨_, rfl, rfl, by rw [hit]; exact i2, i3⟩)
  obtain ⟨g, y⟩ := z
  have e : y = none := z2.1
  subst e
  exact ⟨g, z1, z2.2⟩
theorem inside_el (H : PE h pg φ T rs) (hW : WF T) (hrs : ∀ r ∈ rs, okRV r) (hp : p < tN T) (hm : nmQ T p ≠ 1) : (hdP T rs p = true → f_X0_inside h (φ (ioP T p)) (pg + 17) = some (h, none)) ∧ (hdP T rs p = false → bxP T rs p = true ∨ nmQ T p ≠ 107 → f_X0_inside h (φ (ioP T p)) (pg + 17) = some (h, some (φ (ioP T p)))) ∧ (RunP h (pg + 17) φ T rs R → R.length < 184 → hdP T rs p = false → bxP T rs p = false → nmQ T p = 107 → ∃ h', f_X0_inside h (φ (ioP T p)) (pg + 17) = some (h', none) ∧ RunP h' (pg + 17) φ T rs (R ++ itQ T p) ∧ AgN h h' (pg + 17)) := by
  obtain ⟨e1, e2, e3, e4⟩ := H.el hW hp hm
  have hk3 : kis h (φ (ioP T p)) 3 = 0 := by unfold kis; rw [if_neg (by rw [e1.1]; omega)]
  have his := H.1.is hW (io_lt hW hp) hm (x := 107) (by unfold nmOK; omega)
  have z2 : zix 2 = 2 := by decide
  refine ⟨fun hd => ?_, fun hd hb => ?_, fun hR hl hd hb h107 => ?_⟩
  · unfold f_X0_inside
    rw [gd_c (by rw [e1.1]; decide), hk3, if_eqp rfl, gd_c e1.1, gd_c e1.1, e3, hd, if_pos rfl, if_eqp rfl]
  · unfold f_X0_inside
    rw [gd_c (by rw [e1.1]; decide), hk3, if_eqp rfl, gd_c e1.1, gd_c e1.1, e3, hd, if_neg (show ¬ (false = true) by simp), if_eqn (by omega) (by omega) (by omega) (by omega) (by omega), gd_c e1.1, box_p H hW hrs hp hm, obind_some]
    cases hx : bxP T rs p with
    | true => rw [if_pos rfl, if_eqn (by omega) (by omega) (by omega) (by omega) (by omega)]
    | false =>
      rw [if_neg (show ¬ (false = true) by simp), if_eqp rfl, gd_c e1.1, his, obind_some]
      have h107 : nmQ T p ≠ 107 := by
        rcases hb with z | z
        · rw [hx] at z; cases z
        · exact z
      rw [decide_eq_false (by exact h107)]
      show (if zI 0 = zI 0 then _ else _) = _
      rw [if_eqp rfl]
  · obtain ⟨g, g1, g2, g3⟩ := add_p (o := none) (v := vlP T rs 2 p) H hR hl (p, none) ⟨rfl, rfl⟩ (Or.inl rfl)
    have hit : itQ T p = [(p, none)] := by unfold itQ; rw [if_neg hm, if_pos h107]
    refine ⟨g, ?_, by rw [hit]; exact g2, g3⟩
    unfold f_X0_inside
    rw [gd_c (by rw [e1.1]; decide), hk3, if_eqp rfl, gd_c e1.1, gd_c e1.1, e3, hd, if_neg (show ¬ (false = true) by simp), if_eqn (by omega) (by omega) (by omega) (by omega) (by omega), gd_c e1.1, box_p H hW hrs hp hm, obind_some, hb, if_neg (show ¬ (false = true) by simp), if_eqp rfl, gd_c e1.1, his, obind_some, decide_eq_true (by exact h107)]
    show (if zI 1 = zI 0 then _ else _) = _
    rw [if_eqn (by omega) (by omega) (by omega) (by omega) (by omega), gd_c e1.1, e1.2.2.2.1, obind_some, gd_c (by rw [e1.2.2.2.2.1]; decide), gd_zin (by omega) (by rw [e1.2.2.2.2.2.1]; omega) (by rw [e1.2.2.2.2.2.1]; omega), gd_c H.2.2.1, z2, e2 2 (by omega), g1, obind_some]
end PL
