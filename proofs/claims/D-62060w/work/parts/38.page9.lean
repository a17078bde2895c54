/-! the page's tree: renew, letters -/
set_option maxRecDepth 100000
/-- nothing has changed but a text's letters and places -/
def AgT (h : HP) (t : Nat) (h' : HP) : Prop := pX h ≤ pX h' ∧ pO h' = pO h ∧ ∀ b, b < pX h → pK h' b = pK h b ∧ pN h' b = pN h b ∧ (∀ j, pI h' b j = pI h b j) ∧ (∀ j, ¬ (b = t ∧ j = 3) → pP h' b j = pP h b j) ∧ pL h' b = pL h b ∧ (b ≠ t + 1 → pB h' b = pB h b ∧ pC h' b = pC h b)
section PB
variable {h h' h1 : HP} {pg u a t : Nat} {φ : Nat → Nat} {T : TS} {x c : Int} {X : List Int} {q : Nat × Nat × Nat}
theorem rn_end {l k : Nat} (hk : pK h l = 21) (hp : pK h pg = 1) (h7 : pI h pg 7 = 1) : f_X0_renew_38 h pg l (k : Int) = some h := by
  refine iter_out ?_
  simp only [f_X0_renew_38s]
  unfold lLen
  rw [gd_c (by rw [hk]; decide), obind_some]
  split
  · rw [gd_c hp, h7, if_eqn (by omega) (by omega) (by omega) (by omega) (by omega)]
  · rfl
theorem RepB.rnL {o l : Nat} : ∀ (d k : Nat) (T : TS) (φ : Nat → Nat) (h : HP), RepB h pg φ T → CntP h pg φ T → WF T → o ∈ tS T → (tM T o = 99 ∨ o = 0) → pP h (φ o) 5 = some l → (tL T o).length ≤ k + d → k ≤ 4 → RU h (u + 7 * d) → ∃ h', f_X0_renew_38 h pg l (k : Int) = some h' ∧ OutP pg h u (renewF o d k T) h' := by
  intro d
  induction d with
  | zero =>
    intro k T φ h H C hW ho hom hl hlen hk4 hR
    obtain ⟨l', l1, l2, l3⟩ := H.l _ ho hom
    rw [hl] at l1
    cases l1
    have hlk := H.c.lls (hW.stk _ ho).1 (hW.stk _ ho).2 hl
    refine ⟨h, iter_out ?_, OutP.of H C (FP.refl _ _) hR⟩
    simp only [f_X0_renew_38s]
    unfold lLen
    rw [gd_c (by rw [hlk.1]; decide), obind_some, l2, List.length_map, if_ltn (by omega) (by omega) (by omega)]
  | succ d ih =>
    intro k T φ h H C hW ho hom hl hlen hk4 hR
    have h4 := hW.2.2.2.2.1 o
    have hs := hW.stk _ ho
    by_cases hk : k < (tL T o).length
    · obtain ⟨r1, r2⟩ := H.rn1 (u := u + 7 * d) C hW ho hom hl hk hR
      rw [renewF, if_pos hk]
      by_cases e : tN T = 24
      · obtain ⟨h1, s1, s2, s3, s4, s5⟩ := r1 e
        have hlk := H.c.lls hs.1 hs.2 hl
        rw [mkN_none e]
        refine ⟨h1, ?_, s3, s4, s5.mono (by omega), s2⟩
        show iter _ _ = _
        rw [iter_in s1]
        exact rn_end (k := k + 1) (by rw [s4.2.2.1 l hlk.2.1]; exact hlk.1) s3.1.1 s2.1
      · obtain ⟨h1, s1, φ', s2, s3, s4, s5, s6⟩ := r2 e
        rw [mkN_some e]
        have hW' := hW.again e hs.1 hk
        have hN := hW.1.1
        obtain ⟨h2, t1, t2⟩ := ih (k + 1) _ φ' h1 s3 s4 hW' (by show o ∈ tS T ++ [tN T]; exact List.mem_append_left _ ho) (by show va_up (tM T) (tN T) _ o = 99 ∨ o = 0; rw [va_up_n _ _ _ _ (by omega)]; exact hom) (by rw [s2]; exact s5.2.2.2.2.2.2 _ _ (by have := (H.c.kd hs.1).2; omega) (H.elc hs.1 hs.2).1 hl) (by rw [tL_setL, va_up_s, List.length_set, va_up_n _ _ _ _ (by omega)]; omega) (by omega) s6
        refine ⟨h2, ?_, OutP.pre s5 t2⟩
        show iter _ _ = _
        rw [iter_in s1]
        exact t1
    · obtain ⟨l', l1, l2, l3⟩ := H.l _ ho hom
      rw [hl] at l1
      cases l1
      have hlk := H.c.lls (hW.stk _ ho).1 (hW.stk _ ho).2 hl
      rw [renewF, if_neg hk]
      refine ⟨h, iter_out ?_, OutP.of H C (FP.refl _ _) (hR.mono (by omega))⟩
      simp only [f_X0_renew_38s]
      unfold lLen
      rw [gd_c (by rw [hlk.1]; decide), obind_some, l2, List.length_map, if_ltn (by omega) (by omega) (by omega)]
theorem RepB.renew (H : RepB h pg φ T) (C : CntP h pg φ T) (hW : WF T) (hR : RU h (u + 28)) : ∃ h', f_X0_renew h pg = some h' ∧ OutP pg h u (tRenew T) h' := by
  obtain ⟨l, l1, l2, l3, l4, l5⟩ := H.list hW
  obtain ⟨o1, o2⟩ := hW.own
  have h4 := hW.2.2.2.2.1 (ownr T)
  have hfr : frm T (tL T (ownr T)) ≤ (tL T (ownr T)).length := by
    have := lastB_lt (fun k => decide (1 ≤ k) && decide ((tL T (ownr T)).getD (k - 1) 0 ∈ tS T)) ((tL T (ownr T)).length + 1) (by omega)
    unfold frm; omega
  obtain ⟨h', r1, r2⟩ := RepB.rnL (u := u) (pg := pg) (o := ownr T) (l := l) (tL T (ownr T)).length (frm T (tL T (ownr T))) T φ h H C hW o1 o2 l2 (by omega) (by omega) (hR.mono (by omega))
  refine ⟨h', ?_, r2⟩
  have hloop : ∀ k, k ≤ (tL T (ownr T)).length → f_X0_renew_10 h pg l (k : Int) = f_X0_renew_36 h pg l ((lastB (fun k => decide (1 ≤ k) && decide ((tL T (ownr T)).getD (k - 1) 0 ∈ tS T)) (k + 1) : Nat) : Int) := by
    intro k
    induction k with
    | zero =>
      intro _
      refine iter_mr ?_
      simp only [f_X0_renew_10s]
      rw [if_ltn (by omega) (by omega) (by omega)]
      rfl
    | succ k ih =>
      intro hk
      have hmem : (tL T (ownr T)).getD k 0 ∈ tL T (ownr T) := by rw [gD (by omega)]; exact List.getElem_mem _
      obtain ⟨i1, i2⟩ := hW.2.2.2.1 _ _ hmem
      have hnm := fmt_nm i2
      have hE := H.elc i1 (by omega)
      have hfl := (H.2.2.2.1 _ i1 (by omega)).2.2.1
      have hstep : f_X0_renew_10s h pg l ((k + 1 : Nat) : Int) = if (tL T (ownr T)).getD k 0 ∈ tS T then mr (f_X0_renew_36 h pg l ((k + 1 : Nat) : Int)) else some (.inl ((k : Nat) : Int)) := by
        unfold f_X0_renew_10s lGet
        rw [if_ltp (by omega) (by omega) (by omega), gd_c (by rw [l5]; decide), l3, gd_zin (by omega) (by rw [List.length_map]; omega) (by rw [List.length_map]; omega), zix_toNat (by omega) (by omega), show (((k + 1 : Nat) : Int) - 1).toNat = k by omega, getD_map (by omega), obind_some, gd_c hE.1, gd_c hE.1, hfl]
        by_cases e : (tL T (ownr T)).getD k 0 ∈ tS T
        · rw [if_pos e, if_pos e, if_eqn (by omega) (by omega) (by omega) (by omega) (by omega)]
        · rw [if_neg e, if_neg e, if_eqp rfl, show ((k + 1 : Nat) : Int) + (-1) = ((k : Nat) : Int) by omega]
      rw [lastB_s]
      simp only [show decide (1 ≤ k + 1) = true from decide_eq_true (by omega), Bool.true_and, Nat.add_sub_cancel, decide_eq_true_eq]
      by_cases e : (tL T (ownr T)).getD k 0 ∈ tS T
      · rw [if_pos e] at hstep ⊢
        exact iter_mr hstep
      · rw [if_neg e] at hstep ⊢
        show iter _ _ = _
        rw [iter_in hstep]
        exact ih (by omega)
  unfold f_X0_renew lLen
  rw [gd_c H.1.1.1, l1, obind_some, obind_some, gd_c (by rw [l5]; decide), obind_some, l3, List.length_map, hloop _ (Nat.le_refl _)]
  exact r1
/-! letters -/
theorem TXc.agt (A : AgT h t h') {y : Nat} (hy : TXc h y) (hn : y ≠ t) : TXc h' y := by
  obtain ⟨x1, x2, x3, ⟨q, q1, q2, q3, q4, q5, q6⟩, x5, x6⟩ := hy
  have w0 := A.2.2 y (by omega)
  have w1 := A.2.2 (y + 1) (by omega)
  have wq := A.2.2 q q3
  have wB := w1.2.2.2.2.2 (by omega)
  exact ⟨by rw [w0.1]; exact x1, by rw [w0.2.2.2.1 2 (by omega)]; exact x2, by rw [w1.1]; exact x3, ⟨q, by rw [w0.2.2.2.1 3 (by omega)]; exact q1, by rw [wq.1]; exact q2, Nat.lt_of_lt_of_le q3 A.1, by rw [wq.2.1]; exact q4, by rw [wq.2.1]; exact q5, by rw [wq.2.1, wB.1]; exact q6⟩, Nat.le_trans x5 A.1, by rw [wB.2]; exact x6⟩
theorem ELc.agt (A : AgT h t h') (ht : pK h (t + 1) = 30) {y : Nat} (hy : ELc h y) : ELc h' y := by
  obtain ⟨x1, x2, x3, x4, x5, x6, x7, x8, x9⟩ := hy
  have w0 := A.2.2 y (by omega)
  have w1 := A.2.2 (y + 1) (by omega)
  have w2 := A.2.2 (y + 2) (by omega)
  refine ⟨by rw [w0.1]; exact x1, by rw [w0.2.2.2.1 4 (by omega)]; exact x2, by rw [w1.1]; exact x3, by rw [w0.2.2.2.1 7 (by omega)]; exact x4, by rw [w2.1]; exact x5, by rw [w2.2.1]; exact x6, fun l hl => ?_, Nat.le_trans x8 A.1, by rw [(w1.2.2.2.2.2 (kne h (by omega))).2]; exact x9⟩
  rw [w0.2.2.2.1 5 (by omega)] at hl
  obtain ⟨l1, l2, l3⟩ := x7 l hl
  exact ⟨by rw [(A.2.2 l l2).1]; exact l1, Nat.lt_of_lt_of_le l2 A.1, by rw [((A.2.2 l l2).2.2.2.2.2 (kne h (by omega))).2]; exact l3⟩
theorem SHp.agt (H : SHp h pg) (A : AgT h t h') (ht : t ∈ pL h (pg + 4)) (ht' : TXc h' t) (hp : ∀ p, pP h' t 3 = some p → pP h t 3 = some p ∨ pX h ≤ p) : SHp h' pg := by
  obtain ⟨⟨a1, a2, a3, a4, a5, a6⟩, ⟨b1, b2, b3, b4, b5⟩, ⟨c1, c2, c3, c4⟩, ⟨d1, d2, d3, d4⟩, f, g⟩ := H
  have htx := d3 t ht
  have v0 := A.2.2 pg (by omega)
  have v4 := A.2.2 (pg + 4) (by omega)
  have v5 := A.2.2 (pg + 5) (by omega)
  have v6 := A.2.2 (pg + 6) (by omega)
  have v7 := A.2.2 (pg + 7) (by omega)
  have hpt : pg ≠ t := kne h (by rw [a1, htx.1]; omega)
  have e0 : ∀ j, pP h' pg j = pP h pg j := fun j => v0.2.2.2.1 j (fun z => hpt z.1)
  have k30 := htx.2.2.1
  have eC : ∀ b, b < pX h → pK h b ≠ 30 → pC h' b = pC h b := fun b hb hk => ((A.2.2 b hb).2.2.2.2.2 (kne h (by omega))).2
  have hlt : ∀ x ∈ (pg + 1) :: pL h (pg + 5), ELc h x := fun x hx => by
    rcases List.mem_cons.mp hx with z | z
    · rw [z]; exact d1
    · exact d2 x z
  have hT : ∀ y ∈ pL h (pg + 4), TXc h' y := fun y hy => by
    by_cases e : y = t
    · rw [e]; exact ht'
    · exact (d3 y hy).agt A e
  refine ⟨⟨by rw [v0.1]; exact a1, by rw [e0]; exact a2, by rw [e0]; exact a3, by rw [e0]; exact a4, by rw [e0]; exact a5, by rw [e0]; exact a6⟩, ⟨by rw [v4.1]; exact b1, by rw [v5.1]; exact b2, by rw [v6.1]; exact b3, by rw [v7.1]; exact b4, Nat.le_trans b5 A.1⟩, ⟨by rw [eC _ (by omega) (by omega)]; exact c1, by rw [eC _ (by omega) (by omega)]; exact c2, by rw [eC _ (by omega) (by omega)]; exact c3, by rw [eC _ (by omega) (by omega)]; exact c4⟩, ?_, ?_, ?_⟩
  · rw [v5.2.2.2.2.1, v4.2.2.2.2.1]
    exact ⟨d1.agt A k30, fun x hx => (d2 x hx).agt A k30, hT, d4⟩
  · rw [v5.2.2.2.2.1]
    intro x hx y hy l
    have ex := hlt x hx
    have ey := hlt y hy
    rw [(A.2.2 x (by have := ex.2.2.2.2.2.2.2.1; omega)).2.2.2.1 5 (by omega), (A.2.2 y (by have := ey.2.2.2.2.2.2.2.1; omega)).2.2.2.1 5 (by omega)]
    exact f x hx y hy l
  · rw [v4.2.2.2.2.1]
    have old : ∀ x ∈ pL h (pg + 4), x ≠ t → pP h' x 3 = pP h x 3 ∧ ∀ l, pP h x 3 = some l → l < pX h := fun x hx hn => by
      obtain ⟨x1, x2, x3, ⟨q, q1, q2, q3, q4⟩, x5, x6⟩ := d3 x hx
      exact ⟨(A.2.2 x (by omega)).2.2.2.1 3 (fun z => hn z.1), fun l hl => by rw [q1] at hl; cases hl; exact q3⟩
    intro x hx y hy l hl1 hl2
    by_cases ex : x = t
    · by_cases ey : y = t
      · rw [ex, ey]
      · obtain ⟨o1, o2⟩ := old y hy ey
        rw [o1] at hl2
        rw [ex] at hl1 ⊢
        rcases hp l hl1 with z | z
        · exact g t ht y hy l z hl2
        · have := o2 l hl2; omega
    · obtain ⟨o1, o2⟩ := old x hx ex
      rw [o1] at hl1
      by_cases ey : y = t
      · rw [ey] at hl2 ⊢
        rcases hp l hl2 with z | z
        · exact g x hx t ht l hl1 z
        · have := o2 l hl1; omega
      · obtain ⟨p1, p2⟩ := old y hy ey
        rw [p1] at hl2
        exact g x hx y hy l hl1 hl2
end PB
