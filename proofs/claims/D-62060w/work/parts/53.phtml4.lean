/-! the page reads a character; a page begins anew -/
set_option maxRecDepth 100000
section PH
variable {h h0 h1 h' : HP} {pg u n : Nat} {T : TS} {o : Option TS} {c tag cl : Int} {s : LX}
theorem html_no (hk : pK h pg = 1) (h7 : pI h pg 7 = 0 ∨ pI h pg 7 = 1) (h9 : pI h pg 9 = ((n : Nat) : Int)) (hn : n ≤ 160) (hc : 0 ≤ c ∧ c < 65536) (hh : c < 32 ∨ 126 < c ∨ n = 160 ∨ pI h pg 7 = 1) : f_X0_html h pg c = some (h, 0) := by
  unfold f_X0_html
  by_cases e1 : c < 32
  · rw [if_ltp e1 (by omega) (by omega)]
  · rw [if_ltn (by omega) (by omega) (by omega)]
    by_cases e2 : 126 < c
    · rw [if_ltp e2 (by omega) (by omega)]
    · rw [if_ltn (by omega) (by omega) (by omega), gd_c hk, h9]
      by_cases e3 : n = 160
      · rw [if_eqp (by omega)]
      · have : pI h pg 7 = 1 := by omega
        rw [if_eqn (by omega) (by omega) (by omega) (by omega) (by omega), gd_c hk, this, if_eqn (by omega) (by omega) (by omega) (by omega) (by omega)]
theorem html_ok (Hs : SHp h pg) (R : RP h pg T) {st : Nat} (hL : LI (st, tag, cl, some T) n) (h8 : pI h pg 8 = (st : Int)) (h10 : pI h pg 10 = tag) (h11 : pI h pg 11 = cl) (h9 : pI h pg 9 = ((n : Nat) : Int)) (hX : XK T) (hn : n ≤ 159) (hc : 32 ≤ c ∧ c ≤ 126) (hR : RU h (u + 147)) : ∃ h', f_X0_html h pg c = some (h', if (lx (st, tag, cl, some T) c).2.2.2 = none then 0 else 1) ∧ LOut pg (wI (wI (wI h pg 9 (((n : Nat) : Int) + 1)) pg 16 0) pg 17 0) u (lx (st, tag, cl, some T) c) h' := by
  have hk := Hs.1.1
  have S : CS pg (wI (wI (wI h pg 9 (((n : Nat) : Int) + 1)) pg 16 0) pg 17 0) (u + 147) (some T) tag cl (wI (wI (wI h pg 9 (((n : Nat) : Int) + 1)) pg 16 0) pg 17 0) := by
    refine ⟨((Hs.aI _ _ _).aI _ _ _).aI _ _ _, FH.refl _ _, hR, ((R.wi _ (by omega) (by omega) (by omega)).wi _ (by omega) (by omega) (by omega)).wi _ (by omega) (by omega) (by omega), ?_, ?_⟩
    · rw [pI_pg _ (by omega), pI_pg _ (by omega), pI_pg _ (by omega)]; exact h10
    · rw [pI_pg _ (by omega), pI_pg _ (by omega), pI_pg _ (by omega)]; exact h11
  obtain ⟨h', r1, r2⟩ := html_body (u := u) S hL (by rw [pI_pg _ (by omega), pI_pg _ (by omega), pI_pg _ (by omega)]; exact h8) hX hn hc
  refine ⟨h', ?_, r2⟩
  unfold f_X0_html f_X0_changed
  rw [if_ltn (by omega) (by omega) (by omega), if_ltn (by omega) (by omega) (by omega), gd_c hk, h9, if_eqn (by omega) (by omega) (by omega) (by omega) (by omega), gd_c hk, R.h7, if_eqp rfl, gd_c hk, gd_c hk, bnd_eq, gd_c (by exact hk), gd_c (by exact hk), bnd_eq, gd_c (by exact hk), bnd_eq, obind_some]
  exact r1
theorem LI.step (H : LI s n) (hc : 32 ≤ c ∧ c ≤ 126) : LI (lx s c) (n + 1) := by
  obtain ⟨st, tag, cl, o⟩ := s
  obtain ⟨l1, l2, l3, l4⟩ := H
  change st ≤ 7 at l1
  change (st = 3 ∨ st = 4 → 97 ≤ tag ∧ tag ≤ 122) at l2
  change (st = 7 → isLga tag = true) at l3
  change (∀ T, o = some T → WF T ∧ tK T + pend st ≤ n) at l4
  have chr : ∀ (o : Option TS) (m : Nat) (d : Int), (∀ T, o = some T → WF T ∧ tK T ≤ m) → ∀ T, o.bind (tChar d) = some T → WF T ∧ tK T ≤ m + 1 := fun o m d ho T e => by
    cases o with
    | none => cases e
    | some T0 =>
      have e' : tChar d T0 = some T := e
      have := tK_char e'
      exact ⟨(ho T0 rfl).1.text e', by have := (ho T0 rfl).2; omega⟩
  have plain : ∀ (o : Option TS) (tag cl : Int), (∀ T, o = some T → WF T ∧ tK T ≤ n) → LI (lxP c tag cl o) (n + 1) := fun o tag cl ho => by
    unfold lxP
    split
    · exact ⟨by show 1 ≤ 7; omega, fun z => by change 1 = 3 ∨ 1 = 4 at z; omega, fun z => by change 1 = 7 at z; omega, fun T e => ⟨(ho T e).1, by have := (ho T e).2; show tK T + 1 ≤ n + 1; omega⟩⟩
    · split
      · exact ⟨by show 6 ≤ 7; omega, fun z => by change 6 = 3 ∨ 6 = 4 at z; omega, fun z => by change 6 = 7 at z; omega, fun T e => ⟨(ho T e).1, by have := (ho T e).2; show tK T + 1 ≤ n + 1; omega⟩⟩
      · exact ⟨by show 0 ≤ 7; omega, fun z => by change 0 = 3 ∨ 0 = 4 at z; omega, fun z => by change 0 = 7 at z; omega, fun T e => by have q := chr o n c ho T e; exact ⟨q.1, by show tK T + 0 ≤ n + 1; omega⟩⟩
  have o0 : ∀ T, o = some T → WF T ∧ tK T ≤ n := fun T e => ⟨(l4 T e).1, by have := (l4 T e).2; omega⟩
  have stay : ∀ (v : Nat) (tg cl' : Int), v ≤ 6 → v ≠ 1 → v ≠ 6 → (v = 3 ∨ v = 4 → 97 ≤ tg ∧ tg ≤ 122) → LI (v, tg, cl', o) (n + 1) := fun v tg cl' v1 v2 v3 v4 => ⟨by show v ≤ 7; omega, v4, fun z => by change v = 7 at z; omega, fun T e => ⟨(o0 T e).1, by
    have : pend v = 0 := by unfold pend; rw [if_neg (by omega), if_neg (by omega)]
    show tK T + pend v ≤ n + 1
    have := (o0 T e).2; omega⟩⟩
  unfold lx
  simp only []
  by_cases e0 : st = 0
  · rw [if_pos e0]; exact plain o tag cl o0
  rw [if_neg e0]
  by_cases e1 : st = 1
  · have p1 : pend st = 1 := by rw [e1]; rfl
    rw [if_pos e1]
    split
    · next hs => exact stay 3 c 0 (by omega) (by omega) (by omega) (fun _ => by unfold isSm at hs; simpa using hs)
    · split
      · exact stay 5 c 0 (by omega) (by omega) (by omega) (fun z => by omega)
      · split
        · exact stay 2 c 0 (by omega) (by omega) (by omega) (fun z => by omega)
        · refine plain _ c 0 (fun T e => ?_)
          have q := chr o (n - 1) 60 (fun T e => ⟨(l4 T e).1, by have := (l4 T e).2; omega⟩) T e
          refine ⟨q.1, ?_⟩
          cases o with
          | none => cases e
          | some T0 => have := (l4 T0 rfl).2; have := q.2; omega
  rw [if_neg e1]
  by_cases e2 : st = 2
  · rw [if_pos e2]
    split
    · next hs => exact stay 4 c 0 (by omega) (by omega) (by omega) (fun _ => by unfold isSm at hs; simpa using hs)
    · split
      · exact stay 0 c 0 (by omega) (by omega) (by omega) (fun z => by omega)
      · exact stay 5 c 0 (by omega) (by omega) (by omega) (fun z => by omega)
  rw [if_neg e2]
  by_cases e3 : st = 3 ∨ st = 4
  · rw [if_pos e3]
    split
    · refine ⟨by show 0 ≤ 7; omega, fun z => by change 0 = 3 ∨ 0 = 4 at z; omega, fun z => by change 0 = 7 at z; omega, fun T e => ?_⟩
      change (if st = 4 then o.bind (tEnd tag) else o.bind (tStart tag (capB cl c))) = some T at e
      show WF T ∧ tK T + 0 ≤ n + 1
      cases o with
      | none => split at e <;> cases e
      | some T0 =>
        have w := o0 T0 rfl
        split at e
        · have e' : tEnd tag T0 = some T := e
          exact ⟨w.1.wend e', by rw [tK_end e']; omega⟩
        · have e' : tStart tag (capB cl c) T0 = some T := e
          exact ⟨w.1.start (l2 e3) e', by rw [tK_start e']; omega⟩
    · exact stay st tag _ (by omega) (by omega) (by omega) l2
  rw [if_neg e3]
  by_cases e5 : st = 5
  · rw [if_pos e5]
    split
    · exact stay 0 tag cl (by omega) (by omega) (by omega) (fun z => by omega)
    · exact stay st tag cl (by omega) (by omega) (by omega) l2
  rw [if_neg e5]
  by_cases e6 : st = 6
  · have p1 : pend st = 1 := by rw [e6]; rfl
    rw [if_pos e6]
    split
    · next hs => exact ⟨by show 7 ≤ 7; omega, fun z => by change 7 = 3 ∨ 7 = 4 at z; omega, fun _ => hs, fun T e => ⟨(l4 T e).1, by have := (l4 T e).2; show tK T + 2 ≤ n + 1; omega⟩⟩
    · refine plain _ tag cl (fun T e => ?_)
      have q := chr o (n - 1) 38 (fun T e => ⟨(l4 T e).1, by have := (l4 T e).2; omega⟩) T e
      refine ⟨q.1, ?_⟩
      cases o with
      | none => cases e
      | some T0 => have := (l4 T0 rfl).2; have := q.2; omega
  rw [if_neg e6]
  have p1 : pend st = 2 := by rw [show st = 7 by omega]; rfl
  split
  · refine ⟨by show 0 ≤ 7; omega, fun z => by change 0 = 3 ∨ 0 = 4 at z; omega, fun z => by change 0 = 7 at z; omega, fun T e => ?_⟩
    have q := chr o n (entC tag) o0 T e
    exact ⟨q.1, by show tK T + 0 ≤ n + 1; omega⟩
  · refine plain _ tag cl (fun T e => ?_)
    have q1 := chr o (n - 2) 38 (fun T e => ⟨(l4 T e).1, by have := (l4 T e).2; omega⟩)
    have q := chr _ _ tag q1 T e
    refine ⟨q.1, ?_⟩
    cases o with
    | none => cases e
    | some T0 => have := (l4 T0 rfl).2; have := q.2; omega
theorem LI_0 : LI lx0 0 := ⟨by show 0 ≤ 7; omega, fun z => by change 0 = 3 ∨ 0 = 4 at z; omega, fun z => by change 0 = 7 at z; omega, fun T e => by
  have e' : some t0 = some T := e
  cases e'
  exact ⟨WF_t0, by show 0 + 0 ≤ 0; omega⟩⟩
theorem XK_rep {M : MS} (hR : RepM M T) : XK T := by
  obtain ⟨-, -, -, -, -, -, -, -, -, -, C, c1, c2, c3, c4, c5⟩ := hR
  intro i
  rw [← c5 i, List.length_map, ← c2]
  exact List.length_filter_le _ _
end PH
