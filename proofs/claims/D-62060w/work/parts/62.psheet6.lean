/-! the page's sheet: bodies; the sheet is typed -/
set_option maxRecDepth 100000
section PS
variable {h h0 h' h1 g : HP} {pg x u a : Nat} {t e b : List Int} {r : RL} {c i4 i5 w : Int} {L : List Nat} {ps : List PT}
theorem PartR.wi {y k : Nat} (v : Int) (hy : pK h y ≠ 6) : ∀ (l : List PT) (o : Option Nat), PartR h l o → PartR (wI h y k v) l o
  | [], _, q => q
  | p :: r, o, ⟨a, a1, a2, a3, a4, a5, a6, a7⟩ => by
    have hn : a ≠ y := kne h (by omega)
    refine ⟨a, a1, a2, a3, by rw [pI_wI, if_neg (fun z => hn z.1)]; exact a4, by rw [pI_wI, if_neg (fun z => hn z.1)]; exact a5, by rw [pI_wI, if_neg (fun z => hn z.1)]; exact a6, PartR.wi v hy r _ a7⟩
theorem dec_k {d : List Int} {k : Nat} {v : Int} {s : Bool} (hd : dec d = some (k, v, s)) : k < 7 := by
  have hE : ∀ (e : List Int) (k : Nat) (v : Int), decE e = some (k, v) → k < 7 := fun e k v hh => by
    unfold decE at hh
    match e, hh with
    | [], hh => cases hh
    | [_], hh => cases hh
    | p :: q :: vv, hh =>
      simp only [] at hh
      split at hh
      · cases hh
      · cases hv : decV (ixT 7 p) vv with
        | none => rw [hv] at hh; cases hh
        | some y =>
          rw [hv] at hh
          have := Option.some.inj hh
          have h1 := congrArg Prod.fst this
          simp only [] at h1
          have := ix7_rng p
          omega
  unfold dec at hd
  split at hd
  · cases hv : decE d.dropLast with
    | none => rw [hv] at hd; cases hd
    | some y => rw [hv] at hd; cases hd; exact hE _ _ _ hv
  · cases hv : decE d with
    | none => rw [hv] at hd; cases hd
    | some y => rw [hv] at hd; cases hd; exact hE _ _ _ hv
theorem RuleR.rlk (R : RuleR h r a) : RlK h a := ⟨R.1, R.2.2.1, R.2.2.2.1, R.2.2.2.2.1, R.2.2.2.2.2.1, R.2.2.2.2.2.2.1, R.2.2.2.2.2.2.2.1⟩
theorem RuleR.dc {vf : VF} (R : RuleR h (ps, w, vf) a) {d : List Int} : RuleR (dcW h a (dec d)) (ps, w, vfS vf (dec d)) a := by
  cases hd : dec d with
  | none => exact R
  | some q =>
    obtain ⟨k, v, s⟩ := q
    have hk := dec_k hd
    obtain ⟨r1, r2, r3, r4, r5, r6, r7, r8, r9, r10, l, r11, r12⟩ := R
    cases s with
    | false =>
      refine ⟨r1, r2, r3, r4, r5, r6, r7, r8, ?_, fun j hj => ⟨?_, ?_⟩, l, r11, PartR.wi v (by show pK h (a + 1) ≠ 6; omega) _ _ r12⟩
      · show pI (wI h (a + 1) k v) a 1 = w
        rw [pI_wI, if_neg (fun z => by omega)]; exact r9
      · show pI (wI h (a + 1) k v) (a + 1) j = va_up vf.1 k v j
        rw [pI_wI]
        by_cases z : j = k
        · rw [if_pos ⟨rfl, z⟩, z, va_up_s]
        · rw [if_neg (fun y => z y.2), va_up_n _ _ _ _ z]; exact (r10 j hj).1
      · show pI (wI h (a + 1) k v) (a + 2) j = vf.2 j
        rw [pI_wI, if_neg (fun z => by omega)]; exact (r10 j hj).2
    | true =>
      refine ⟨r1, r2, r3, r4, r5, r6, r7, r8, ?_, fun j hj => ⟨?_, ?_⟩, l, r11, PartR.wi v (by show pK h (a + 2) ≠ 6; omega) _ _ r12⟩
      · show pI (wI h (a + 2) k v) a 1 = w
        rw [pI_wI, if_neg (fun z => by omega)]; exact r9
      · show pI (wI h (a + 2) k v) (a + 1) j = vf.1 j
        rw [pI_wI, if_neg (fun z => by omega)]; exact (r10 j hj).1
      · show pI (wI h (a + 2) k v) (a + 2) j = va_up vf.2 k v j
        rw [pI_wI]
        by_cases z : j = k
        · rw [if_pos ⟨rfl, z⟩, z, va_up_s]
        · rw [if_neg (fun y => z y.2), va_up_n _ _ _ _ z]; exact (r10 j hj).2
theorem SX.dc (S : SX h pg L t b i4 i5) (ha : pg + 21 ≤ a) (o : Option (Nat × Int × Bool)) : SX (dcW h a o) pg L t b i4 i5 := by
  cases o with
  | none => exact S
  | some q =>
    obtain ⟨k, v, s⟩ := q
    refine ⟨S.1, S.2.1, S.2.2.1, S.2.2.2.1, ?_, ?_⟩
    · show pI (wI h (if s then a + 2 else a + 1) k v) (pg + 8) 4 = i4
      rw [pI_wI, if_neg (fun z => by have := z.1; split at this <;> omega)]; exact S.2.2.2.2.1
    · show pI (wI h (if s then a + 2 else a + 1) k v) (pg + 8) 5 = i5
      rw [pI_wI, if_neg (fun z => by have := z.1; split at this <;> omega)]; exact S.2.2.2.2.2
theorem AgS.dc (A : AgS pg h0 h) (ha : pX h0 ≤ a) (o : Option (Nat × Int × Bool)) : AgS pg h0 (dcW h a o) := by
  cases o with
  | none => exact A
  | some q =>
    obtain ⟨k, v, s⟩ := q
    exact A.aI v (Or.inr (by split <;> omega))
theorem dcW_k (o : Option (Nat × Int × Bool)) : pK (dcW h a o) = pK h ∧ pP (dcW h a o) = pP h ∧ pB (dcW h a o) = pB h ∧ pX (dcW h a o) = pX h ∧ pS (dcW h a o) = pS h ∧ pO (dcW h a o) = pO h ∧ pC (dcW h a o) = pC h := by
  cases o with
  | none => exact ⟨rfl, rfl, rfl, rfl, rfl, rfl, rfl⟩
  | some q => obtain ⟨k, v, s⟩ := q; exact ⟨rfl, rfl, rfl, rfl, rfl, rfl, rfl⟩
theorem RuleR.cell (R : RuleR h r a) {h2 : HP} (h1 : pK h2 = pK h ∧ pP h2 = pP h ∧ pI h2 = pI h ∧ pN h2 = pN h) (hX : pX h ≤ pX h2) : RuleR h2 r a := by
  obtain ⟨k1, k2, k3, k4⟩ := h1
  have hP : ∀ (l : List PT) (o : Option Nat), PartR h l o → PartR h2 l o := fun l => by
    induction l with
    | nil => exact fun _ q => q
    | cons p l ih =>
      intro o ⟨a, a1, a2, a3, a4, a5, a6, a7⟩
      exact ⟨a, a1, by rw [k1]; exact a2, Nat.lt_of_lt_of_le a3 hX, by rw [k3]; exact a4, by rw [k3]; exact a5, by rw [k3]; exact a6, by rw [k2]; exact ih _ a7⟩
  obtain ⟨r1, r2, r3, r4, r5, r6, r7, r8, r9, r10, l, r11, r12⟩ := R
  exact ⟨by rw [k1]; exact r1, Nat.le_trans r2 hX, by rw [k2]; exact r3, by rw [k2]; exact r4, by rw [k1]; exact r5, by rw [k1]; exact r6, by rw [k4]; exact r7, by rw [k4]; exact r8, by rw [k3]; exact r9, by rw [k3]; exact r10, l, by rw [k2]; exact r11, hP _ _ r12⟩
theorem bst_ok (hT : okT b) : ∀ k, k ≤ b.length + 1 → (((b ++ [59]).take k).foldl bst ([], vf0)).1.length ≤ k ∧ ∀ c ∈ (((b ++ [59]).take k).foldl bst ([], vf0)).1, 32 ≤ c ∧ c ≤ 126 := by
  intro k
  induction k with
  | zero => intro _; exact ⟨by simp, by simp⟩
  | succ k ih =>
    intro hk
    obtain ⟨i1, i2⟩ := ih (by omega)
    rw [List.take_succ, List.getElem?_eq_getElem (by simp; omega)]
    simp only [Option.toList_some, List.foldl_append, List.foldl_cons, List.foldl_nil]
    have hc : 32 ≤ (b ++ [59])[k]'(by simp; omega) ∧ (b ++ [59])[k]'(by simp; omega) ≤ 126 := by
      have hm : (b ++ [59])[k]'(by simp; omega) ∈ b ++ [59] := List.getElem_mem _
      rcases List.mem_append.mp hm with z | z
      · exact hT.2 _ z
      · simp at z; rw [z]; omega
    generalize (b ++ [59])[k]'(by simp; omega) = c at hc
    generalize ((b ++ [59]).take k).foldl bst ([], vf0) = st at *
    unfold bst
    split
    · exact ⟨by simp, by simp⟩
    · split
      · exact ⟨by omega, i2⟩
      · refine ⟨by simp; omega, fun y hy => ?_⟩
        rcases List.mem_append.mp hy with z | z
        · exact i2 y z
        · simp at z; rw [z]; exact hc
theorem body115 (A : AgS pg h0 h) (S : SX h pg L t b i4 i5) (h14 : pB h (pg + 14) = []) (R : RuleR h (ps, w, vf0) a) (hT : okT b) (hb : b.length ≤ 120) (ha : pX h0 ≤ a) (hpa : pg + 21 ≤ a) (hR : RU h (u + 6 + 3 * (b.length + 1))) : ∃ g, f_X3_rule_115 h (pg + 8) a 0 = some g ∧ AgS pg h0 g ∧ SX g pg L t b i4 i5 ∧ RuleR g (ps, w, bodyV b) a ∧ RU g u := by
  have key : ∃ g, f_X3_rule_115 h (pg + 8) a 0 = some g ∧ (AgS pg h0 g ∧ SX g pg L t b i4 i5 ∧ RuleR g (ps, w, bodyV b) a ∧ RU g u) := by
    refine loopI (fun k (s : HP × Int) => s.2 = (k : Int) ∧ AgS pg h0 s.1 ∧ SX s.1 pg L t b i4 i5 ∧ pB s.1 (pg + 14) = (((b ++ [59]).take k).foldl bst ([], vf0)).1 ∧ RuleR s.1 (ps, w, (((b ++ [59]).take k).foldl bst ([], vf0)).2) a ∧ RU s.1 (u + 6 + 3 * (b.length + 1 - k))) (a := 0) (b := b.length + 1) (by omega) ⟨rfl, A, S, h14, R, hR⟩ (fun k s k1 k2 hI => ?_) (fun s hI => ?_)
    · obtain ⟨s1, s2, s3, s4, s5, s6⟩ := hI
      obtain ⟨w1, w2⟩ := bst_ok hT k (by omega)
      obtain ⟨⟨⟨c1, c2, c3, c4, c5, c6⟩, ⟨d1, d2, d3, d4⟩, ⟨e1, e2, e3, e4⟩, e5⟩, x2, x3, x4, x5, x6⟩ := s3
      have hpre : f_X3_rule_115s s.1 (pg + 8) a s.2 = f_X3_rule_153 s.1 (pg + 8) a (k : Int) ((b ++ [59]).getD k 0) := by
        unfold f_X3_rule_115s sLen sAt
        rw [s1, gd_c c2, c5, obind_some, gd_c (by rw [d3]; decide), obind_some, x4, if_ltn (by omega) (by omega) (by omega), gd_c c2, obind_some, gd_c (by rw [d3]; decide), obind_some, x4]
        by_cases z : k < b.length
        · rw [if_ltp (by omega) (by omega) (by omega), gd_c c2, obind_some, gd_c (by rw [d3]; decide), x4, gd_zin (by omega) (by omega) (by omega), zix_nat (by omega), obind_some, gD z, gD (by simp; omega), List.getElem_append_left z]
        · rw [if_ltn (by omega) (by omega) (by omega), show k = b.length by omega]
          simp [List.getD]
      have hfold : ((b ++ [59]).take (k + 1)).foldl bst ([], vf0) = bst (((b ++ [59]).take k).foldl bst ([], vf0)) ((b ++ [59]).getD k 0) := by
        rw [List.take_succ, List.getElem?_eq_getElem (by simp; omega), gD (by simp; omega)]
        simp only [Option.toList_some, List.foldl_append, List.foldl_cons, List.foldl_nil]
      have hc : 32 ≤ (b ++ [59]).getD k 0 ∧ (b ++ [59]).getD k 0 ≤ 126 := by
        have hm : (b ++ [59]).getD k 0 ∈ b ++ [59] := by rw [gD (by simp; omega)]; exact List.getElem_mem _
        rcases List.mem_append.mp hm with z | z
        · exact hT.2 _ z
        · rw [List.mem_singleton.mp z]; omega
      rw [hpre, hfold]
      generalize (b ++ [59]).getD k 0 = c at hc
      generalize ((b ++ [59]).take k).foldl bst ([], vf0) = st at *
      obtain ⟨wd, vf⟩ := st
      simp only [] at s4 s5 w1 w2
      unfold f_X3_rule_153 f_X3_rule_198 bst
      have hfin : ∀ g : HP, (AgS pg h0 g ∧ SX g pg L t b i4 i5 ∧ RU g (u + 6 + 3 * (b.length + 1 - (k + 1)))) → True := fun _ _ => trivial
      by_cases c59 : c = 59
      · have hkS : isS (pK s.1 (pg + 14)) := by rw [d4]; decide
        have hdecl := declare_p (h := s.1) (x := pg + 14) (a := a) hkS s4 ⟨by omega, w2⟩ s5.rlk
        obtain ⟨q1, q2, q3, q4, q5, q6, q7⟩ := dcW_k (h := s.1) (a := a) (dec wd)
        have R2 : RuleR (wB (dcW s.1 a (dec wd)) (pg + 14) []) (ps, w, vfS vf (dec wd)) a := (s5.dc (d := wd)).cell ⟨rfl, rfl, rfl, rfl⟩ (Nat.le_refl _)
        have S2 : SX (wB (dcW s.1 a (dec wd)) (pg + 14) []) pg L t b i4 i5 := by
          have q := SX.dc (h := s.1) (a := a) (⟨⟨⟨c1, c2, c3, c4, c5, c6⟩, ⟨d1, d2, d3, d4⟩, ⟨e1, e2, e3, e4⟩, e5⟩, x2, x3, x4, x5, x6⟩ : SX s.1 pg L t b i4 i5) hpa (dec wd)
          exact ⟨q.1, q.2.1, by rw [pB_wB, if_neg (by omega)]; exact q.2.2.1, by rw [pB_wB, if_neg (by omega)]; exact q.2.2.2.1, q.2.2.2.2⟩
        refine ⟨(wB (dcW s.1 a (dec wd)) (pg + 14) [], ((k + 1 : Nat) : Int)), ?_, rfl, (s2.dc ha _).aB (by omega) _, S2, ?_, ?_, ?_⟩
        · rw [if_eqp c59, gd_c c2, c6, obind_some, hdecl, obind_some, q1, gd_c c2, q2, c6, obind_some]
          unfold sSet
          rw [gd_c ⟨by rw [q1]; exact hkS, rfl⟩, obind_some]
          rfl
        · rw [if_pos c59, pB_wB, if_pos rfl]
        · rw [if_pos c59]; exact R2
        · unfold RU at s6 ⊢
          show pX (dcW s.1 a (dec wd)) + _ ≤ pO (dcW s.1 a (dec wd)) + 600000 ∧ pS (dcW s.1 a (dec wd)) + _ ≤ _
          rw [q4, q5, q6]; omega
      · rw [if_eqn c59 (by omega) (by omega) (by omega) (by omega), if_neg c59]
        by_cases c32 : c = 32
        · rw [if_eqp c32, if_pos c32]
          exact ⟨(s.1, ((k + 1 : Nat) : Int)), rfl, rfl, s2, ⟨⟨⟨c1, c2, c3, c4, c5, c6⟩, ⟨d1, d2, d3, d4⟩, ⟨e1, e2, e3, e4⟩, e5⟩, x2, x3, x4, x5, x6⟩, s4, s5, s6.mono (by omega)⟩
        · rw [if_eqn c32 (by omega) (by omega) (by omega) (by omega), if_neg c32, gd_c c2, c6, obind_some]
          have hkS : isS (pK s.1 (pg + 14)) := by rw [d4]; decide
          obtain ⟨g1, a1, a2, a3⟩ := sApp_eq (h := s.1) (b := pg + 14) (c := c) (u := u + 3 * (b.length + 1 - (k + 1))) hkS (by rw [s4]; omega) e4 (by omega) (s6.mono (by omega))
          obtain ⟨k1', k2', k3', k4', k5', k6', k7', k8'⟩ := a2.k
          have SC : ShC (wB g1 (pg + 14) (pB s.1 (pg + 14) ++ [c])) pg := ShC.app ⟨⟨c1, c2, c3, c4, c5, c6⟩, ⟨d1, d2, d3, d4⟩, ⟨e1, e2, e3, e4⟩, e5⟩ (by omega) a2 _
          refine ⟨(wB g1 (pg + 14) (pB s.1 (pg + 14) ++ [c]), ((k + 1 : Nat) : Int)), ?_, rfl, (s2.gr (by omega) a2).aB (by omega) _, ⟨SC, ?_, ?_, ?_, ?_, ?_⟩, ?_, ?_, a3.mono (by omega)⟩
          · rw [a1, obind_some]; rfl
          · rw [pL_wB, k2']; exact x2
          · rw [pB_wB, if_neg (by omega), k5']; exact x3
          · rw [pB_wB, if_neg (by omega), k5']; exact x4
          · rw [pI_wB, k3']; exact x5
          · rw [pI_wB, k3']; exact x6
          · rw [pB_wB, if_pos rfl, s4]
          · exact s5.cell ⟨k1', k4', k3', k6'⟩ k7'
    · obtain ⟨s1, s2, s3, s4, s5, s6⟩ := hI
      have hS := s3
      obtain ⟨⟨⟨c1, c2, c3, c4, c5, c6⟩, ⟨d1, d2, d3, d4⟩, ⟨e1, e2, e3, e4⟩, e5⟩, x2, x3, x4, x5, x6⟩ := s3
      refine ⟨s.1, ?_, s2, hS, ?_, s6.mono (by omega)⟩
      · simp only [f_X3_rule_115s]
        unfold sLen
        rw [s1, gd_c c2, c5, obind_some, gd_c (by rw [d3]; decide), obind_some, x4, if_ltp (by omega) (by omega) (by omega)]
      · unfold bodyV
        rw [List.take_of_length_le (by simp)] at s5
        exact s5
  exact key
end PS
