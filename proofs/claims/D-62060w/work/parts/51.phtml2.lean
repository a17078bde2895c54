/-! the page reads a character, as a whole -/
set_option maxRecDepth 100000
section PH
variable {h h0 h1 h' : HP} {pg u n : Nat} {T : TS} {o : Option TS} {c tag cl : Int} {s : LX}
theorem RP.h7 (R : RP h pg T) : pI h pg 7 = 0 := by obtain ⟨φ, H, C⟩ := R; exact H.2.2.2.2.2.2.2.2
theorem LOut.fin (L : LOut pg h0 u s h) : f_X0_html_265 h pg = some (h, if s.2.2.2 = none then 0 else 1) := by
  obtain ⟨l1, l2, l3, l4⟩ := L
  unfold f_X0_html_265
  rw [gd_c l1.1.1]
  cases ho : s.2.2.2 with
  | none =>
    rw [ho] at l4
    rw [l4.1, if_eqn (by omega) (by omega) (by omega) (by omega) (by omega), if_pos rfl]
  | some T =>
    rw [ho] at l4
    rw [l4.1.h7, if_eqp rfl, if_neg (by simp)]
theorem CS.lo (S : CS pg h0 u o tag cl h) (t : Nat) (h8 : ∀ T, o = some T → pI h pg 8 = ((t : Nat) : Int)) : LOut pg h0 u (t, tag, cl, o) h := by
  refine ⟨S.1, S.2.1, S.2.2.1, ?_⟩
  have q4 := S.2.2.2
  cases o with
  | none => exact q4
  | some T => exact ⟨q4.1, h8 T rfl, q4.2⟩
theorem cap_eq (c : Int) (h1 : 0 ≤ c) (h2 : c < 128) : f_X0_capital h c = some (zb (isCap c)) := by
  unfold f_X0_capital isCap
  by_cases e1 : c < 65
  · rw [if_ltp e1 (by omega) (by omega), decide_eq_false (by omega)]; rfl
  · rw [if_ltn (by omega) (by omega) (by omega), decide_eq_true (by omega), Bool.true_and]
    by_cases e2 : 90 < c
    · rw [if_ltp e2 (by omega) (by omega), decide_eq_false (by omega)]; rfl
    · rw [if_ltn (by omega) (by omega) (by omega), decide_eq_true (by omega)]; rfl
theorem small_eq (c : Int) (h1 : 0 ≤ c) (h2 : c < 128) : f_X0_small h c = some (zb (isSm c)) := by
  unfold f_X0_small isSm
  by_cases e1 : c < 97
  · rw [if_ltp e1 (by omega) (by omega), decide_eq_false (by omega)]; rfl
  · rw [if_ltn (by omega) (by omega) (by omega), decide_eq_true (by omega), Bool.true_and]
    by_cases e2 : 122 < c
    · rw [if_ltp e2 (by omega) (by omega), decide_eq_false (by omega)]; rfl
    · rw [if_ltn (by omega) (by omega) (by omega), decide_eq_true (by omega)]; rfl
theorem zisC_r (h1 : 0 ≤ c) (h2 : c < 128) : zisC c := ⟨by rw [zti (by omega) (by omega)]; omega, by rw [zti (by omega) (by omega)]; omega⟩
/-- page ints set while the tree stands -/
theorem CS.set (S : CS pg h0 u (some T) tag cl h) {k : Nat} (hm : k = 8 ∨ k = 10 ∨ k = 11) (v : Int) : CS pg h0 u (some T) (if k = 10 then v else tag) (if k = 11 then v else cl) (wI h pg k v) := by
  obtain ⟨s1, s2, s3, s4, s5, s6⟩ := S
  refine ⟨s1.aI _ _ _, s2.wi s1.1.1 (by rcases hm with z | z | z <;> simp [z]) v, s3, s4.wi v (by omega) (by omega) (by omega), ?_, ?_⟩
  · rw [pI_wI]
    by_cases z : k = 10
    · rw [if_pos ⟨rfl, z.symm⟩, if_pos z]
    · rw [if_neg (fun q => z q.2.symm), if_neg z]; exact s5
  · rw [pI_wI]
    by_cases z : k = 11
    · rw [if_pos ⟨rfl, z.symm⟩, if_pos z]
    · rw [if_neg (fun q => z q.2.symm), if_neg z]; exact s6
theorem CS.inTag (S : CS pg h0 (u + 80) (some T) tag cl h) {st : Nat} (hst : st = 3 ∨ st = 4) (h8 : pI h pg 8 = (st : Int)) (hW : WF T) (htag : 97 ≤ tag ∧ tag ≤ 122) (hc : 32 ≤ c ∧ c ≤ 126) : ∃ h', f_X0_inTag h pg c = some h' ∧ LOut pg h0 u (lx (st, tag, cl, some T) c) h' := by
  have hk := S.1.1.1
  have hlx : lx (st, tag, cl, some T) c = if c = 62 then (0, tag, capB cl c, if st = 4 then (some T).bind (tEnd tag) else (some T).bind (tStart tag (capB cl c))) else (st, tag, capB cl c, some T) := by
    unfold lx
    simp only []
    rw [if_neg (show ¬ st = 0 by omega), if_neg (show ¬ st = 1 by omega), if_neg (show ¬ st = 2 by omega), if_pos hst]
  rw [hlx]
  have S1 : ∃ g, (∀ k, f_X0_inTag h pg c = k → f_X0_inTag_22 g pg c = k) ∧ CS pg h0 (u + 80) (some T) tag (capB cl c) g ∧ pI g pg 8 = (st : Int) := by
    unfold f_X0_inTag capB
    rw [cap_eq c (by omega) (by omega), obind_some]
    cases hcap : isCap c with
    | false =>
      rw [zb_f, if_eqp rfl]
      exact ⟨h, fun k q => q, by simpa using S, h8⟩
    | true =>
      rw [zb_t, if_eqn (by omega) (by omega) (by omega) (by omega) (by omega), gd_c hk, gd_c hk, bnd_eq]
      have q := S.set (k := 11) (by omega) (zor (pI h pg 11) (zshl 1 (c - 65)))
      refine ⟨wI h pg 11 (zor (pI h pg 11) (zshl 1 (c - 65))), fun k q => q, ?_, by rw [pI_pg _ (by omega)]; exact h8⟩
      rw [S.2.2.2.2.2] at q ⊢
      simpa using q
  obtain ⟨g, g1, g2, g3⟩ := S1
  have hkg := g2.1.1.1
  suffices hh : ∃ h', f_X0_inTag_22 g pg c = some h' ∧ LOut pg h0 u (if c = 62 then (0, tag, capB cl c, if st = 4 then (some T).bind (tEnd tag) else (some T).bind (tStart tag (capB cl c))) else (st, tag, capB cl c, some T)) h' by
    obtain ⟨h', a1, a2⟩ := hh
    exact ⟨h', by rw [← g1 _ rfl]; exact a1, a2⟩
  unfold f_X0_inTag_22
  by_cases e : c = 62
  · rw [if_eqp e, if_pos e, gd_c hkg, g3, gd_c (by show 0 ≤ (st : Int) ∧ (st : Int) < 8; omega), gd_c (by show 0 ≤ (st : Int) ∧ (st : Int) < 8; omega)]
    have q := g2.set (k := 8) (by omega) 0
    simp only [show ¬ (8 = 10) by omega, show ¬ (8 = 11) by omega, if_false] at q
    obtain ⟨q1, q2, q3, ⟨φ, H, C⟩, q10, q11⟩ := q
    have lo : ∀ (o : Option TS) (h' : HP), OutP pg (wI g pg 8 0) u o h' → LOut pg h0 u (0, tag, capB cl c, o) h' := fun o h' O => by
      have K := OutP.cs (φ := φ) O q2 q10 q11
      refine K.lo 0 (fun T' hT' => ?_)
      rw [O.2.1.i10.2.2.1]
      exact pI_self _ _
    unfold f_X0_inTag_44
    by_cases e4 : st = 4
    · rw [if_pos (by omega), if_pos e4, gd_c hkg, bnd_eq, if_eqn (by omega) (by omega) (by omega) (by omega) (by omega), gd_c (by exact hkg), gd_c (by exact hkg), q10]
      obtain ⟨h', r1, r2⟩ := H.endT (x := tag) (u := u) C hW htag q3
      refine ⟨h', by rw [r1, obind_some], lo _ _ r2⟩
    · rw [if_neg (by omega), if_neg e4, gd_c hkg, bnd_eq, if_eqp rfl, gd_c (by exact hkg), gd_c (by exact hkg), q10]
      obtain ⟨h', r1, r2⟩ := H.start (x := tag) (u := u) C hW htag q11 (q3.mono (by omega))
      refine ⟨h', by rw [r1, obind_some], lo _ _ r2⟩
  · rw [if_eqn e (by omega) (by omega) (by omega) (by omega), if_neg e]
    refine ⟨g, rfl, ?_⟩
    exact CS.lo ⟨g2.1, g2.2.1, g2.2.2.1.mono (by omega), g2.2.2.2⟩ st (fun _ _ => g3)
theorem CS.chr2 (S : CS pg h0 (u + 49) o tag cl h) (hT : ∀ T, o = some T → WF T ∧ XK T ∧ tK T ≤ n) (hn : n ≤ 159) (hc : 0 ≤ c ∧ c < 128) : ∃ h', f_X0_character h pg c = some h' ∧ CS pg h0 u (o.bind (tChar c)) tag cl h' ∧ (∀ T, o.bind (tChar c) = some T → WF T ∧ XK T ∧ tK T ≤ n + 1) ∧ pI h' pg 8 = pI h pg 8 := by
  obtain ⟨h', r1, r2⟩ := S.chr (fun T e => ⟨(hT T e).1, (hT T e).2.1, by have := (hT T e).2.2; omega⟩) hc
  refine ⟨h', r1, r2, fun T' e => ?_, ?_⟩
  · cases o with
    | none => cases e
    | some T =>
      obtain ⟨w1, w2, w3⟩ := hT T rfl
      have e' : tChar c T = some T' := e
      have := tK_char e'
      exact ⟨w1.text e', w2.char e', by omega⟩
  · obtain ⟨s1, s2, s3, s4⟩ := S
    cases o with
    | none => rw [ch_brk s4 s1.1.1 c] at r1; cases r1; rfl
    | some T =>
      obtain ⟨⟨φ, H, C⟩, t10, t11⟩ := s4
      obtain ⟨w1, w2, w3⟩ := hT T rfl
      obtain ⟨h'', q1, q2⟩ := H.character (u := u) C w1 w2 (by omega) hc s3
      rw [r1] at q1
      cases q1
      exact q2.2.1.i10.2.2.1
end PH
