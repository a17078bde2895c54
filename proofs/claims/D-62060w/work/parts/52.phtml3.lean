/-! the page reads a character: html -/
set_option maxRecDepth 100000
section PH
variable {h h0 h1 h' : HP} {pg u n : Nat} {T : TS} {o : Option TS} {c tag cl : Int} {s : LX}
def FT (pg : Nat) (h h' : HP) : Prop :=
  pX h ≤ pX h' ∧ pO h' = pO h ∧ (∀ a, a < pX h → pK h' a = pK h a) ∧
  (∀ a, a < pX h → ¬ treeK (pK h a) → pN h' a = pN h a ∧ (∀ k, pI h' a k = pI h a k) ∧ (∀ k, pP h' a k = pP h a k) ∧ pL h' a = pL h a ∧ pB h' a = pB h a ∧ pC h' a = pC h a) ∧
  (∀ k, k ≠ 12 → pP h' pg k = pP h pg k)
theorem FH.refl (pg : Nat) (h : HP) : FH pg h h := (FP.refl pg h).fh
theorem html_body (S : CS pg h0 (u + 147) (some T) tag cl h) {st : Nat} (hL : LI (st, tag, cl, some T) n) (h8 : pI h pg 8 = (st : Int)) (hX : XK T) (hn : n ≤ 159) (hc : 32 ≤ c ∧ c ≤ 126) : ∃ h', (gd (pK h pg = 1) (gd (zst (pI h pg 8)) (gd (zst (pI h pg 8)) (if zI (pI h pg 8) = zI 0 then
  gd (pK h pg = 1) (Option.bind (f_X0_plain h pg c) (fun y3 =>
  f_X0_html_265 y3 pg))
  else
  if zI (pI h pg 8) = zI 1 then
  gd (pK h pg = 1) (Option.bind (f_X0_less h pg c) (fun y4 =>
  f_X0_html_265 y4 pg))
  else
  if zI (pI h pg 8) = zI 2 then
  gd (pK h pg = 1) (gd (zisC c) (bnd (wI h pg 10 c) (fun h5 =>
  gd (pK h5 pg = 1) (bnd (wI h5 pg 11 0) (fun h6 =>
  Option.bind (f_X0_small h6 c) (fun y7 =>
  if zI y7 = zI 0 then
  if zI c = zI 62 then
  f_X0_html_151 h6 pg 0 pg
  else
  f_X0_html_151 h6 pg 5 pg
  else
  f_X0_html_151 h6 pg 4 pg))))))
  else
  if zI (pI h pg 8) = zI 3 then
  gd (pK h pg = 1) (Option.bind (f_X0_inTag h pg c) (fun y8 =>
  f_X0_html_265 y8 pg))
  else
  if zI (pI h pg 8) = zI 4 then
  gd (pK h pg = 1) (Option.bind (f_X0_inTag h pg c) (fun y9 =>
  f_X0_html_265 y9 pg))
  else
  if zI (pI h pg 8) = zI 5 then
  if zI c = zI 62 then
  f_X0_html_182 h pg 0 pg
  else
  gd (pK h pg = 1) (gd (zst (pI h pg 8)) (f_X0_html_182 h pg (pI h pg 8) pg))
  else
  if zI (pI h pg 8) = zI 6 then
  gd (pK h pg = 1) (Option.bind (f_X0_and h pg c) (fun y10 =>
  f_X0_html_265 y10 pg))
  else
  gd (pK h pg = 1) (bnd (wI h pg 8 0) (fun h11 =>
  if zI c = zI 59 then
  gd (pK h11 pg = 1) (if zI (pI h11 pg 10) = zI 108 then
  f_X0_html_240 h11 pg 60 pg
  else
  gd (pK h11 pg = 1) (if zI (pI h11 pg 10) = zI 103 then
  f_X0_html_240 h11 pg 62 pg
  else
  f_X0_html_240 h11 pg 38 pg))
  else
  gd (pK h11 pg = 1) (Option.bind (f_X0_character h11 pg 38) (fun y12 =>
  gd (pK y12 pg = 1) (gd (pK y12 pg = 1) (Option.bind (f_X0_character y12 pg (pI y12 pg 10)) (fun y13 =>
  gd (pK y13 pg = 1) (Option.bind (f_X0_plain y13 pg c) (fun y14 =>
  f_X0_html_265 y14 pg))))))))))))) = some (h', if (lx (st, tag, cl, some T) c).2.2.2 = none then 0 else 1) ∧ LOut pg h0 u (lx (st, tag, cl, some T) c) h' := by
  have hk := S.1.1.1
  obtain ⟨l1, l2, l3, l4⟩ := hL
  obtain ⟨w1, w2⟩ := l4 T rfl
  change st ≤ 7 at l1
  change (st = 3 ∨ st = 4 → 97 ≤ tag ∧ tag ≤ 122) at l2
  change (st = 7 → isLga tag = true) at l3
  change tK T + pend st ≤ n at w2
  have hTT : ∀ m, tK T ≤ m → ∀ T', some T = some T' → WF T' ∧ XK T' ∧ tK T' ≤ m := fun m hm T' e => by cases e; exact ⟨w1, hX, hm⟩
  have zs : ∀ v : Nat, v ≤ 7 → zst ((v : Nat) : Int) := fun v hv => by show 0 ≤ (v : Int) ∧ (v : Int) < 8; omega
  rw [gd_c hk, h8, gd_c (zs st l1), gd_c (zs st l1)]
  have S0 : CS pg h0 (u + 49) (some T) tag cl h := ⟨S.1, S.2.1, S.2.2.1.mono (by omega), S.2.2.2⟩
  by_cases e0 : st = 0
  · rw [if_eqp (by omega), gd_c hk]
    obtain ⟨h', r1, r2⟩ := S0.pln (hTT 159 (by omega)) (c := c) (by omega)
    have hlx : lx (st, tag, cl, some T) c = lxP c tag cl (some T) := by unfold lx; simp only []; rw [if_pos e0]
    rw [hlx]
    exact ⟨h', by rw [r1, obind_some]; exact r2.fin, r2⟩
  rw [if_eqn (by omega) (by omega) (by omega) (by omega) (by omega)]
  by_cases e1 : st = 1
  · have p1 : pend st = 1 := by rw [e1]; rfl
    have hlx : lx (st, tag, cl, some T) c = if isSm c then (3, c, 0, some T) else if c = 33 then (5, c, 0, some T) else if c = 47 then (2, c, 0, some T) else lxP c c 0 ((some T).bind (tChar 60)) := by unfold lx; simp only []; rw [if_neg e0, if_pos e1]
    rw [if_eqp (by omega), gd_c hk, hlx]
    have q1 := S.set (k := 10) (by omega) c
    have q2 := q1.set (k := 11) (by omega) 0
    simp only [show ¬ (10 = 11) by omega, show ¬ (11 = 10) by omega, if_false, if_true] at q2
    have set8 : ∀ v : Nat, LOut pg h0 u (v, c, 0, some T) (wI (wI (wI h pg 10 c) pg 11 0) pg 8 ((v : Nat) : Int)) := fun v => by
      have q3 := q2.set (k := 8) (by omega) ((v : Nat) : Int)
      simp only [show ¬ (8 = 11) by omega, show ¬ (8 = 10) by omega, if_false] at q3
      exact CS.lo ⟨q3.1, q3.2.1, q3.2.2.1.mono (by omega), q3.2.2.2⟩ v (fun _ _ => pI_self _ _)
    unfold f_X0_less
    rw [gd_c hk, gd_c (zisC_r (by omega) (by omega)), bnd_eq, gd_c (by exact hk), bnd_eq, small_eq c (by omega) (by omega), obind_some]
    cases hs : isSm c with
    | true =>
      rw [zb_t, if_eqn (by omega) (by omega) (by omega) (by omega) (by omega), gd_c (by exact hk), bnd_eq, obind_some]
      simp only [if_true]
      exact ⟨_, (set8 3).fin, set8 3⟩
    | false =>
      rw [zb_f, if_eqp rfl]
      simp only [Bool.false_eq_true, if_false]
      unfold f_X0_less_39 f_X0_less_55
      by_cases c33 : c = 33
      · rw [if_eqp c33, if_eqp c33, if_pos c33, gd_c (by exact hk), gd_c (by decide), bnd_eq, obind_some]
        exact ⟨_, (set8 5).fin, set8 5⟩
      · rw [if_eqn c33 (by omega) (by omega) (by omega) (by omega), if_neg c33]
        by_cases c47 : c = 47
        · rw [if_eqp c47, if_eqn c33 (by omega) (by omega) (by omega) (by omega), if_pos c47, gd_c (by exact hk), gd_c (by decide), bnd_eq, obind_some]
          exact ⟨_, (set8 2).fin, set8 2⟩
        · rw [if_eqn c47 (by omega) (by omega) (by omega) (by omega), if_neg c47, gd_c (by exact hk)]
          obtain ⟨h2, r1, r2, r3, r4⟩ := CS.chr2 (u := u + 49) (n := n) (c := 60) ⟨q2.1, q2.2.1, q2.2.2.1.mono (by omega), q2.2.2.2⟩ (hTT n (by omega)) hn (by omega)
          obtain ⟨h3, t1, t2⟩ := r2.pln (c := c) (fun T' e => ⟨(r3 T' e).1, (r3 T' e).2.1, by
            have e' : tChar 60 T = some T' := e
            have := tK_char e'
            omega⟩) (by omega)
          refine ⟨h3, ?_, t2⟩
          rw [r1, obind_some, gd_c (by exact r2.1.1.1), t1, obind_some, obind_some]
          exact t2.fin
  rw [if_eqn (by omega) (by omega) (by omega) (by omega) (by omega)]
  by_cases e2 : st = 2
  · have hlx : lx (st, tag, cl, some T) c = if isSm c then (4, c, 0, some T) else if c = 62 then (0, c, 0, some T) else (5, c, 0, some T) := by unfold lx; simp only []; rw [if_neg e0, if_neg e1, if_pos e2]
    rw [if_eqp (by omega), gd_c hk, hlx]
    have q1 := S.set (k := 10) (by omega) c
    have q2 := q1.set (k := 11) (by omega) 0
    simp only [show ¬ (10 = 11) by omega, show ¬ (11 = 10) by omega, if_false, if_true] at q2
    have set8 : ∀ v : Nat, LOut pg h0 u (v, c, 0, some T) (wI (wI (wI h pg 10 c) pg 11 0) pg 8 ((v : Nat) : Int)) := fun v => by
      have q3 := q2.set (k := 8) (by omega) ((v : Nat) : Int)
      simp only [show ¬ (8 = 11) by omega, show ¬ (8 = 10) by omega, if_false] at q3
      exact CS.lo ⟨q3.1, q3.2.1, q3.2.2.1.mono (by omega), q3.2.2.2⟩ v (fun _ _ => pI_self _ _)
    unfold f_X0_html_151
    rw [gd_c (zisC_r (by omega) (by omega)), bnd_eq, gd_c (by exact hk), bnd_eq, small_eq c (by omega) (by omega), obind_some]
    cases hs : isSm c with
    | true =>
      rw [zb_t, if_eqn (by omega) (by omega) (by omega) (by omega) (by omega), gd_c (by exact hk), gd_c (by decide), bnd_eq]
      simp only [if_true]
      exact ⟨_, (set8 4).fin, set8 4⟩
    | false =>
      rw [zb_f, if_eqp rfl]
      simp only [Bool.false_eq_true, if_false]
      by_cases c62 : c = 62
      · rw [if_eqp c62, if_pos c62, gd_c (by exact hk), gd_c (by decide), bnd_eq]
        exact ⟨_, (set8 0).fin, set8 0⟩
      · rw [if_eqn c62 (by omega) (by omega) (by omega) (by omega), if_neg c62, gd_c (by exact hk), gd_c (by decide), bnd_eq]
        exact ⟨_, (set8 5).fin, set8 5⟩
  rw [if_eqn (by omega) (by omega) (by omega) (by omega) (by omega)]
  have inT : st = 3 ∨ st = 4 → ∃ h', (Option.bind (f_X0_inTag h pg c) (fun y8 => f_X0_html_265 y8 pg)) = some (h', if (lx (st, tag, cl, some T) c).2.2.2 = none then 0 else 1) ∧ LOut pg h0 u (lx (st, tag, cl, some T) c) h' := fun hst => by
    obtain ⟨h', r1, r2⟩ := CS.inTag (u := u) (c := c) ⟨S.1, S.2.1, S.2.2.1.mono (by omega), S.2.2.2⟩ hst h8 w1 (l2 hst) hc
    exact ⟨h', by rw [r1, obind_some]; exact r2.fin, r2⟩
  by_cases e3 : st = 3
  · rw [if_eqp (by omega), gd_c hk]
    exact inT (Or.inl e3)
  rw [if_eqn (by omega) (by omega) (by omega) (by omega) (by omega)]
  by_cases e4 : st = 4
  · rw [if_eqp (by omega), gd_c hk]
    exact inT (Or.inr e4)
  rw [if_eqn (by omega) (by omega) (by omega) (by omega) (by omega)]
  by_cases e5 : st = 5
  · have hlx : lx (st, tag, cl, some T) c = if c = 62 then (0, tag, cl, some T) else (st, tag, cl, some T) := by unfold lx; simp only []; rw [if_neg e0, if_neg e1, if_neg e2, if_neg (by omega), if_pos e5]
    rw [if_eqp (by omega), hlx]
    have set8 : ∀ v : Nat, LOut pg h0 u (v, tag, cl, some T) (wI h pg 8 ((v : Nat) : Int)) := fun v => by
      have q3 := S.set (k := 8) (by omega) ((v : Nat) : Int)
      simp only [show ¬ (8 = 11) by omega, show ¬ (8 = 10) by omega, if_false] at q3
      exact CS.lo ⟨q3.1, q3.2.1, q3.2.2.1.mono (by omega), q3.2.2.2⟩ v (fun _ _ => pI_self _ _)
    unfold f_X0_html_182
    by_cases c62 : c = 62
    · rw [if_eqp c62, if_pos c62, gd_c (by exact hk), gd_c (by decide), bnd_eq]
      exact ⟨_, (set8 0).fin, set8 0⟩
    · rw [if_eqn c62 (by omega) (by omega) (by omega) (by omega), if_neg c62, gd_c (by exact hk), gd_c (zs st l1), gd_c hk, gd_c (zs st l1), bnd_eq]
      exact ⟨_, (set8 st).fin, set8 st⟩
  rw [if_eqn (by omega) (by omega) (by omega) (by omega) (by omega)]
  by_cases e6 : st = 6
  · have p1 : pend st = 1 := by rw [e6]; rfl
    have hlx : lx (st, tag, cl, some T) c = if isLga c then (7, c, cl, some T) else lxP c tag cl ((some T).bind (tChar 38)) := by unfold lx; simp only []; rw [if_neg e0, if_neg e1, if_neg e2, if_neg (by omega), if_neg e5, if_pos e6]
    rw [if_eqp (by omega), gd_c hk, hlx]
    have a18 : ∃ h', (Option.bind (f_X0_and_18 h pg c) (fun y10 => f_X0_html_265 y10 pg)) = some (h', if (7, c, cl, some T).2.2.2 = none then 0 else 1) ∧ LOut pg h0 u (7, c, cl, some T) h' := by
      have q1 := S.set (k := 10) (by omega) c
      have q2 := q1.set (k := 8) (by omega) 7
      simp only [show ¬ (10 = 11) by omega, show ¬ (8 = 10) by omega, show ¬ (8 = 11) by omega, if_false, if_true] at q2
      have q3 : LOut pg h0 u (7, c, cl, some T) (wI (wI h pg 10 c) pg 8 7) := CS.lo ⟨q2.1, q2.2.1, q2.2.2.1.mono (by omega), q2.2.2.2⟩ 7 (fun _ _ => pI_self _ _)
      unfold f_X0_and_18
      rw [gd_c hk, gd_c (zisC_r (by omega) (by omega)), bnd_eq, gd_c (by exact hk), bnd_eq, obind_some]
      exact ⟨_, q3.fin, q3⟩
    unfold f_X0_and
    by_cases c1 : c = 108
    · rw [if_eqp c1, if_pos (show isLga c = true by unfold isLga; simp [c1])]; exact a18
    · rw [if_eqn c1 (by omega) (by omega) (by omega) (by omega)]
      by_cases c2 : c = 103
      · rw [if_eqp c2, if_pos (show isLga c = true by unfold isLga; simp [c2])]; exact a18
      · rw [if_eqn c2 (by omega) (by omega) (by omega) (by omega)]
        by_cases c3 : c = 97
        · rw [if_eqp c3, if_pos (show isLga c = true by unfold isLga; simp [c3])]; exact a18
        · rw [if_eqn c3 (by omega) (by omega) (by omega) (by omega), if_neg (show ¬ isLga c = true by unfold isLga; simp [c1, c2, c3]), gd_c hk]
          obtain ⟨h2, r1, r2, r3, r4⟩ := CS.chr2 (u := u + 49) (n := n) (c := 38) ⟨S.1, S.2.1, S.2.2.1.mono (by omega), S.2.2.2⟩ (hTT n (by omega)) hn (by omega)
          obtain ⟨h3, t1, t2⟩ := r2.pln (c := c) (fun T' e => ⟨(r3 T' e).1, (r3 T' e).2.1, by
            have e' : tChar 38 T = some T' := e
            have := tK_char e'
            omega⟩) (by omega)
          refine ⟨h3, ?_, t2⟩
          rw [r1, obind_some, gd_c (by exact r2.1.1.1), t1, obind_some, obind_some]
          exact t2.fin
  rw [if_eqn (by omega) (by omega) (by omega) (by omega) (by omega)]
  have e7 : st = 7 := by omega
  have p1 : pend st = 2 := by rw [e7]; rfl
  have htag := l3 e7
  have htg : tag = 108 ∨ tag = 103 ∨ tag = 97 := by
    unfold isLga at htag
    simpa using htag
  have hlx : lx (st, tag, cl, some T) c = if c = 59 then (0, tag, cl, (some T).bind (tChar (entC tag))) else lxP c tag cl (((some T).bind (tChar 38)).bind (tChar tag)) := by unfold lx; simp only []; rw [if_neg e0, if_neg e1, if_neg e2, if_neg (by omega), if_neg e5, if_neg e6]
  rw [gd_c hk, bnd_eq, hlx]
  have q := S.set (k := 8) (by omega) 0
  simp only [show ¬ (8 = 11) by omega, show ¬ (8 = 10) by omega, if_false] at q
  by_cases c59 : c = 59
  · rw [if_eqp c59, if_pos c59, gd_c (by exact hk), q.2.2.2.2.1]
    have ent : ∀ v : Int, 0 ≤ v ∧ v < 128 → ∃ h', f_X0_html_240 (wI h pg 8 0) pg v pg = some (h', if (0, tag, cl, (some T).bind (tChar v)).2.2.2 = none then 0 else 1) ∧ LOut pg h0 u (0, tag, cl, (some T).bind (tChar v)) h' := fun v hv => by
      obtain ⟨h2, r1, r2, r3, r4⟩ := CS.chr2 (u := u + 49) (n := n) (c := v) ⟨q.1, q.2.1, q.2.2.1.mono (by omega), q.2.2.2⟩ (hTT n (by omega)) hn hv
      have lo : LOut pg h0 u (0, tag, cl, (some T).bind (tChar v)) h2 := CS.lo ⟨r2.1, r2.2.1, r2.2.2.1.mono (by omega), r2.2.2.2⟩ 0 (fun _ _ => by rw [r4]; exact pI_self _ _)
      unfold f_X0_html_240
      rw [gd_c (by exact hk), r1, obind_some]
      exact ⟨h2, lo.fin, lo⟩
    unfold entC
    by_cases t1 : tag = 108
    · rw [if_eqp t1, if_pos t1]; exact ent 60 (by omega)
    · rw [if_eqn t1 (by omega) (by omega) (by omega) (by omega), if_neg t1, gd_c (by exact hk)]
      by_cases t2 : tag = 103
      · rw [if_eqp t2, if_pos t2]; exact ent 62 (by omega)
      · rw [if_eqn t2 (by omega) (by omega) (by omega) (by omega), if_neg t2]; exact ent 38 (by omega)
  · rw [if_eqn c59 (by omega) (by omega) (by omega) (by omega), if_neg c59, gd_c (by exact hk)]
    obtain ⟨h2, r1, r2, r3, r4⟩ := CS.chr2 (u := u + 98) (n := n - 2) (c := 38) ⟨q.1, q.2.1, q.2.2.1.mono (by omega), q.2.2.2⟩ (hTT (n - 2) (by omega)) (by omega) (by omega)
    have key : ∃ h3, f_X0_character h2 pg (pI h2 pg 10) = some h3 ∧ CS pg h0 (u + 49) (((some T).bind (tChar 38)).bind (tChar tag)) tag cl h3 ∧ ∀ T', ((some T).bind (tChar 38)).bind (tChar tag) = some T' → WF T' ∧ XK T' ∧ tK T' ≤ n - 2 + 1 + 1 := by
      cases ho : (some T).bind (tChar 38) with
      | none =>
        rw [ho] at r2
        exact ⟨h2, ch_brk r2.2.2.2 r2.1.1.1 _, ⟨r2.1, r2.2.1, r2.2.2.1.mono (by omega), r2.2.2.2⟩, fun T' e => by cases e⟩
      | some T1 =>
        rw [ho] at r2 r3
        rw [r2.2.2.2.2.1]
        obtain ⟨h3, t1, t2, t3, -⟩ := r2.chr2 (u := u + 49) (n := n - 2 + 1) (c := tag) r3 (by omega) (by omega)
        exact ⟨h3, t1, t2, t3⟩
    obtain ⟨h3, t1, t2, t3⟩ := key
    obtain ⟨h4, v1, v2⟩ := t2.pln (c := c) (fun T' e => ⟨(t3 T' e).1, (t3 T' e).2.1, by have := (t3 T' e).2.2; omega⟩) (by omega)
    refine ⟨h4, ?_, v2⟩
    rw [r1, obind_some, gd_c (by exact r2.1.1.1), gd_c (by exact r2.1.1.1), t1, obind_some, gd_c (by exact t2.1.1.1), v1, obind_some]
    exact v2.fin
end PH
