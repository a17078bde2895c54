/-! the page's sheet: a rule is made, as a whole -/
set_option maxRecDepth 100000
/-- what stands in the sheet's own cells -/
def SX (h : HP) (pg : Nat) (L : List Nat) (t b : List Int) (i4 i5 : Int) : Prop := ShC h pg ∧ pL h (pg + 9) = L ∧ pB h (pg + 10) = t ∧ pB h (pg + 12) = b ∧ pI h (pg + 8) 4 = i4 ∧ pI h (pg + 8) 5 = i5
section PS
variable {h h' h1 g : HP} {pg x u a : Nat} {t e b : List Int} {r : RL} {c i4 i5 : Int} {L : List Nat}
theorem ShC.agr (S : ShC h pg) (A : Agr h h') : ShC h' pg := by
  obtain ⟨⟨a1, a2, a3, a4, a5, a6⟩, ⟨b1, b2, b3, b4⟩, ⟨c1, c2, c3, c4⟩, d⟩ := S
  have w0 := A.2.2 pg (by omega)
  have w8 := A.2.2 (pg + 8) (by omega)
  have w9 := A.2.2 (pg + 9) (by omega)
  have w10 := A.2.2 (pg + 10) (by omega)
  have w12 := A.2.2 (pg + 12) (by omega)
  have w14 := A.2.2 (pg + 14) (by omega)
  exact ⟨⟨by rw [w0.2.2.2.1]; exact a1, by rw [w8.1]; exact a2, by rw [w8.2.2.2.1]; exact a3, by rw [w8.2.2.2.1]; exact a4, by rw [w8.2.2.2.1]; exact a5, by rw [w8.2.2.2.1]; exact a6⟩, ⟨by rw [w9.1]; exact b1, by rw [w10.1]; exact b2, by rw [w12.1]; exact b3, by rw [w14.1]; exact b4⟩, ⟨by rw [w9.2.2.2.2.2.2]; exact c1, by rw [w10.2.2.2.2.2.2]; exact c2, by rw [w12.2.2.2.2.2.2]; exact c3, by rw [w14.2.2.2.2.2.2]; exact c4⟩, Nat.le_trans d A.1⟩
theorem SX.agr (S : SX h pg L t b i4 i5) (A : Agr h h') : SX h' pg L t b i4 i5 := by
  have d := S.1.2.2.2
  exact ⟨S.1.agr A, by rw [(A.2.2 (pg + 9) (by omega)).2.2.2.2.1]; exact S.2.1, by rw [(A.2.2 (pg + 10) (by omega)).2.2.2.2.2.1]; exact S.2.2.1, by rw [(A.2.2 (pg + 12) (by omega)).2.2.2.2.2.1]; exact S.2.2.2.1, by rw [(A.2.2 (pg + 8) (by omega)).2.2.1]; exact S.2.2.2.2.1, by rw [(A.2.2 (pg + 8) (by omega)).2.2.1]; exact S.2.2.2.2.2⟩
/-- a text's backing array may have been made -/
def GrS (h : HP) (b : Nat) (g : HP) : Prop := g = h ∨ ∃ n, n ≤ 400 ∧ g = wGr h b n
theorem sApp_eq {b : Nat} (hk : isS (pK h b)) (hl : (pB h b).length ≤ 125) (hC : pC h b ≤ 400) (hc : 0 ≤ c ∧ c < 128) (hR : RU h (u + 9)) : ∃ g, sApp h b c = some (wB g b (pB h b ++ [c])) ∧ GrS h b g ∧ RU g (u + 6) := by
  obtain ⟨r1, r2⟩ := hR
  refine ⟨sGrow h b, ?_, ?_, ?_⟩
  · unfold sApp
    rw [gd_c ⟨hk, by rw [zti (by omega) (by omega)]; omega, by omega, by omega, by omega, by omega⟩]
  · unfold sGrow GrS
    split
    · exact Or.inr ⟨_, by omega, rfl⟩
    · exact Or.inl rfl
  · unfold sGrow RU
    split
    · rw [pX_wGr, pS_wGr, pO_wGr]; exact ⟨by omega, by omega⟩
    · exact ⟨by omega, by omega⟩
theorem GrS.k {b : Nat} (G : GrS h b g) : pK g = pK h ∧ pL g = pL h ∧ pI g = pI h ∧ pP g = pP h ∧ pB g = pB h ∧ pN g = pN h ∧ pX h ≤ pX g ∧ (∀ y, pC g y ≤ pC h y ∨ (y = b ∧ pC g y ≤ 400)) := by
  rcases G with e | ⟨n, hn, e⟩
  · rw [e]; exact ⟨rfl, rfl, rfl, rfl, rfl, rfl, Nat.le_refl _, fun y => Or.inl (Nat.le_refl _)⟩
  · rw [e]
    refine ⟨rfl, rfl, rfl, rfl, rfl, rfl, Nat.le_succ _, fun y => ?_⟩
    rw [pC_wGr]
    split
    · next z => exact Or.inr ⟨z, hn⟩
    · exact Or.inl (Nat.le_refl _)
theorem AgS.gr (A : AgS pg h h1) {b : Nat} (hb : b = pg + 10 ∨ b = pg + 12 ∨ b = pg + 14) (G : GrS h1 b g) : AgS pg h g := by
  rcases G with e | ⟨n, hn, e⟩
  · rw [e]; exact A
  · rw [e]; exact A.aG (by omega) n
/-- a letter more in one of the sheet's texts -/
theorem ShC.app (S : ShC h pg) {b : Nat} (hb : b = pg + 10 ∨ b = pg + 12 ∨ b = pg + 14) (G : GrS h b g) (v : List Int) : ShC (wB g b v) pg := by
  obtain ⟨a1, a2, ⟨c1, c2, c3, c4⟩, d⟩ := S
  obtain ⟨k1, k2, k3, k4, k5, k6, k7, k8⟩ := G.k
  refine ⟨?_, ?_, ⟨?_, ?_, ?_, ?_⟩, Nat.le_trans d k7⟩
  · rw [pP_wB, pK_wB, k1, k4]; exact a1
  · rw [pK_wB, k1]; exact a2
  · rw [pC_wB]; rcases k8 (pg + 9) with z | z
    · omega
    · omega
  · rw [pC_wB]; rcases k8 (pg + 10) with z | z <;> omega
  · rw [pC_wB]; rcases k8 (pg + 12) with z | z <;> omega
  · rw [pC_wB]; rcases k8 (pg + 14) with z | z <;> omega
theorem ShC.set0 (S : ShC h pg) (b : Nat) (v : List Int) : ShC (wB h b v) pg := S
theorem ShC.wi (S : ShC h pg) (a k : Nat) (v : Int) : ShC (wI h a k v) pg := S
/-- the weight of a selector -/
theorem rule29 (S : SX h pg L t b i4 i5) (hT : okT t) (last : Nat) : f_X3_rule_29 h (pg + 8) last 0 0 = f_X3_rule_85 h (pg + 8) last (wt t) := by
  obtain ⟨⟨⟨a1, a2, a3, a4, a5, a6⟩, ⟨b1, b2, b3, b4⟩, -, -⟩, s2, s3, s4, s5, s6⟩ := S
  have hl := hT.1
  refine loopU (fun k => ((t.take k).foldl (fun w c => w + wtc c) 0, (k : Int))) 0 t.length rfl (Nat.zero_le _) (fun k _ k2 => ?_) ?_
  · have hr := hT.at k2
    simp only [f_X3_rule_29s]
    unfold sLen sAt f_X3_rule_77
    have hstep : t.take (k + 1) = t.take k ++ [t.getD k 0] := by rw [List.take_succ, List.getElem?_eq_getElem k2, gD k2]; rfl
    rw [gd_c a2, a4, obind_some, gd_c (by rw [b2]; decide), obind_some, s3, if_ltp (by omega) (by omega) (by omega), gd_c a2, obind_some, gd_c (by rw [b2]; decide), s3, gd_zin (by omega) (by omega) (by omega), zix_nat (by omega), obind_some, cap_eq _ (by omega) (by omega), obind_some, hstep, List.foldl_append]
    simp only [List.foldl_cons, List.foldl_nil]
    unfold wtc
    cases hcap : isCap (t.getD k 0) with
    | true => rw [zb_t, if_eqn (by omega) (by omega) (by omega) (by omega) (by omega), bnd_eq]; rfl
    | false =>
      rw [zb_f, if_eqp rfl, small_eq _ (by omega) (by omega), obind_some]
      cases hsm : isSm (t.getD k 0) with
      | true => rw [zb_t, if_eqn (by omega) (by omega) (by omega) (by omega) (by omega), bnd_eq]; rfl
      | false => rw [zb_f, if_eqp rfl, bnd_eq]; rfl
  · simp only [f_X3_rule_29s]
    unfold sLen
    rw [gd_c a2, a4, obind_some, gd_c (by rw [b2]; decide), obind_some, s3, if_ltn (by omega) (by omega) (by omega), List.take_of_length_le (Nat.le_refl _)]
    rfl
/-- a new rule's cells -/
theorem nR_eq {last : Nat} {w : Int} {ps : List PT} (hP : PartR h ps.reverse (some last)) (hR : RU h (u + 3)) : ∃ g, f_X8_init (wNew h 7 4) (pX h) last w = some g ∧ Agr h g ∧ RU g u ∧ RuleR g (ps, w, vf0) (pX h) := by
  obtain ⟨r1, r2⟩ := hR
  have z7 : zix 7 = 7 := by decide
  have x1 : pX (wNew h 7 4) = pX h + 1 := rfl
  -- the cells before the loop
  have A0 : Agr h (wI (wP (wP (wNew (wP (wNew (wNew h 7 4) 43 7) (pX h) 2 (some (pX h + 1))) 44 7) (pX h) 3 (some (pX h + 2))) (pX h) 0 (some last)) (pX h) 1 w) := (((((((Agr.refl h).new 7 4).new 43 7).wp (Nat.le_refl _) 2 _).new 44 7).wp (Nat.le_refl _) 3 _).wp (Nat.le_refl _) 0 _).wi (Nat.le_refl _) 1 _
  have kA : pK (wI (wP (wP (wNew (wP (wNew (wNew h 7 4) 43 7) (pX h) 2 (some (pX h + 1))) 44 7) (pX h) 3 (some (pX h + 2))) (pX h) 0 (some last)) (pX h) 1 w) (pX h) = 7 := by
    show pK (wNew (wP (wNew (wNew h 7 4) 43 7) (pX h) 2 (some (pX h + 1))) 44 7) (pX h) = 7
    rw [pK_wNew, if_neg (by show pX h ≠ pX h + 1 + 1; omega), pK_wP, pK_wNew, if_neg (by rw [x1]; omega), pK_wNew, if_pos rfl]
  have kB : pK (wI (wP (wP (wNew (wP (wNew (wNew h 7 4) 43 7) (pX h) 2 (some (pX h + 1))) 44 7) (pX h) 3 (some (pX h + 2))) (pX h) 0 (some last)) (pX h) 1 w) (pX h + 1) = 43 := by
    show pK (wNew (wP (wNew (wNew h 7 4) 43 7) (pX h) 2 (some (pX h + 1))) 44 7) (pX h + 1) = 43
    rw [pK_wNew, if_neg (by show pX h + 1 ≠ pX h + 1 + 1; omega), pK_wP, pK_wNew, if_pos (by rw [x1])]
  have kC : pK (wI (wP (wP (wNew (wP (wNew (wNew h 7 4) 43 7) (pX h) 2 (some (pX h + 1))) 44 7) (pX h) 3 (some (pX h + 2))) (pX h) 0 (some last)) (pX h) 1 w) (pX h + 2) = 44 := by
    show pK (wNew (wP (wNew (wNew h 7 4) 43 7) (pX h) 2 (some (pX h + 1))) 44 7) (pX h + 2) = 44
    rw [pK_wNew]; exact if_pos rfl
  have nB : pN (wI (wP (wP (wNew (wP (wNew (wNew h 7 4) 43 7) (pX h) 2 (some (pX h + 1))) 44 7) (pX h) 3 (some (pX h + 2))) (pX h) 0 (some last)) (pX h) 1 w) (pX h + 1) = 7 := by
    show pN (wNew (wP (wNew (wNew h 7 4) 43 7) (pX h) 2 (some (pX h + 1))) 44 7) (pX h + 1) = 7
    rw [pN_wNew, if_neg (by show pX h + 1 ≠ pX h + 1 + 1; omega), pN_wP, pN_wNew, if_pos (by rw [x1])]
  have nC : pN (wI (wP (wP (wNew (wP (wNew (wNew h 7 4) 43 7) (pX h) 2 (some (pX h + 1))) 44 7) (pX h) 3 (some (pX h + 2))) (pX h) 0 (some last)) (pX h) 1 w) (pX h + 2) = 7 := by
    show pN (wNew (wP (wNew (wNew h 7 4) 43 7) (pX h) 2 (some (pX h + 1))) 44 7) (pX h + 2) = 7
    rw [pN_wNew]; exact if_pos rfl
  have p2 : pP (wI (wP (wP (wNew (wP (wNew (wNew h 7 4) 43 7) (pX h) 2 (some (pX h + 1))) 44 7) (pX h) 3 (some (pX h + 2))) (pX h) 0 (some last)) (pX h) 1 w) (pX h) 2 = some (pX h + 1) := by
    rw [pP_wI, pP_ne _ (Or.inr (by omega)), pP_ne _ (Or.inr (by omega)), pP_wNew, if_neg (by show pX h ≠ pX h + 1 + 1; omega), pP_wP, if_pos ⟨rfl, rfl⟩]
  have p3 : pP (wI (wP (wP (wNew (wP (wNew (wNew h 7 4) 43 7) (pX h) 2 (some (pX h + 1))) 44 7) (pX h) 3 (some (pX h + 2))) (pX h) 0 (some last)) (pX h) 1 w) (pX h) 3 = some (pX h + 2) := by
    rw [pP_wI, pP_ne _ (Or.inr (by omega)), pP_wP, if_pos ⟨rfl, rfl⟩]
  have p0 : pP (wI (wP (wP (wNew (wP (wNew (wNew h 7 4) 43 7) (pX h) 2 (some (pX h + 1))) 44 7) (pX h) 3 (some (pX h + 2))) (pX h) 0 (some last)) (pX h) 1 w) (pX h) 0 = some last := by
    rw [pP_wI, pP_wP, if_pos ⟨rfl, rfl⟩]
  have i1 : pI (wI (wP (wP (wNew (wP (wNew (wNew h 7 4) 43 7) (pX h) 2 (some (pX h + 1))) 44 7) (pX h) 3 (some (pX h + 2))) (pX h) 0 (some last)) (pX h) 1 w) (pX h) 1 = w := by rw [pI_wI, if_pos ⟨rfl, rfl⟩]
  have hX0 : pX (wI (wP (wP (wNew (wP (wNew (wNew h 7 4) 43 7) (pX h) 2 (some (pX h + 1))) 44 7) (pX h) 3 (some (pX h + 2))) (pX h) 0 (some last)) (pX h) 1 w) = pX h + 3 := rfl
  have hR0 : RU (wI (wP (wP (wNew (wP (wNew (wNew h 7 4) 43 7) (pX h) 2 (some (pX h + 1))) 44 7) (pX h) 3 (some (pX h + 2))) (pX h) 0 (some last)) (pX h) 1 w) u := ⟨by show pX h + 3 + u ≤ pO h + 600000; omega, by show pS h + 4 + 7 + 7 + 100 * u ≤ 7302250; omega⟩
  have pre : f_X8_init (wNew h 7 4) (pX h) last w = f_X8_init_32 (wI (wP (wP (wNew (wP (wNew (wNew h 7 4) 43 7) (pX h) 2 (some (pX h + 1))) 44 7) (pX h) 3 (some (pX h + 2))) (pX h) 0 (some last)) (pX h) 1 w) (pX h) 0 := by
    unfold f_X8_init
    simp only [z7]
    rw [bnd_eq, gd_c (show rmA _ 7 from ⟨by decide, by rw [z7]; omega, by rw [x1]; show pX h + 1 + 1 ≤ pO h + 600000; omega, by rw [z7]; show pS h + 4 + 7 ≤ 7302250; omega⟩), bnd_eq, gd_c (by rw [pK_wNew, if_neg (by rw [x1]; omega), pK_wNew, if_pos rfl]), bnd_eq, bnd_eq, gd_c (show rmA _ 7 from ⟨by decide, by rw [z7]; omega, by show pX h + 1 + 1 + 1 ≤ pO h + 600000; omega, by rw [z7]; show pS h + 4 + 7 + 7 ≤ 7302250; omega⟩), bnd_eq, gd_c (by exact kA), bnd_eq, gd_c (by exact kA), bnd_eq, gd_c (by exact kA), bnd_eq]
    rfl
  rw [pre]
  generalize wI (wP (wP (wNew (wP (wNew (wNew h 7 4) 43 7) (pX h) 2 (some (pX h + 1))) 44 7) (pX h) 3 (some (pX h + 2))) (pX h) 0 (some last)) (pX h) 1 w = g0 at *
  have key : ∃ g, f_X8_init_32 g0 (pX h) 0 = some g ∧ (Agr h g ∧ (pK g = pK g0 ∧ pN g = pN g0 ∧ pP g = pP g0 ∧ pX g = pX g0 ∧ pS g = pS g0 ∧ pO g = pO g0) ∧ pI g (pX h) 1 = w ∧ ∀ j, j < 7 → pI g (pX h + 1) j = -2 ∧ pI g (pX h + 2) j = -2) := by
    refine loopI (fun k (s : HP × Int) => s.2 = (k : Int) ∧ Agr h s.1 ∧ (pK s.1 = pK g0 ∧ pN s.1 = pN g0 ∧ pP s.1 = pP g0 ∧ pX s.1 = pX g0 ∧ pS s.1 = pS g0 ∧ pO s.1 = pO g0) ∧ pI s.1 (pX h) 1 = w ∧ ∀ j, j < k → pI s.1 (pX h + 1) j = -2 ∧ pI s.1 (pX h + 2) j = -2) (a := 0) (b := 7) (by omega) ⟨rfl, A0, ⟨rfl, rfl, rfl, rfl, rfl, rfl⟩, i1, fun j hj => by omega⟩ (fun k s k1 k2 hI => ?_) (fun s hI => ?_)
    · obtain ⟨s1, s2, ⟨q1, q2, q3, q4, q5, q6⟩, s4, s5⟩ := hI
      refine ⟨(wI (wI s.1 (pX h + 1) k (-2)) (pX h + 2) k (-2), ((k + 1 : Nat) : Int)), ?_, rfl, (s2.wi (by omega) _ _).wi (by omega) _ _, ⟨q1, q2, q3, q4, q5, q6⟩, ?_, fun j hj => ⟨?_, ?_⟩⟩
      · simp only [f_X8_init_32s]
        rw [s1, if_ltp (by omega) (by omega) (by omega), q1, q3, gd_c kA, p2, obind_some, gd_c (by rw [kB]; decide), q2, gd_zin (by omega) (by rw [nB]; omega) (by rw [nB]; omega), bnd_eq, zix_nat (by omega), gd_c (by show pK s.1 (pX h) = 7; rw [q1]; exact kA), show pP (wI s.1 (pX h + 1) k (-2)) = pP g0 from q3, p3, obind_some, gd_c (by show isI (pK s.1 (pX h + 2)); rw [q1, kC]; decide), show pN (wI s.1 (pX h + 1) k (-2)) = pN g0 from q2, gd_zin (by omega) (by rw [nC]; omega) (by rw [nC]; omega), bnd_eq]
        rfl
      · rw [pI_wI, if_neg (fun z => by omega), pI_wI, if_neg (fun z => by omega)]; exact s4
      · rw [pI_wI, if_neg (fun z => by omega), pI_wI]
        by_cases z : j = k
        · rw [if_pos ⟨rfl, z⟩]
        · rw [if_neg (fun y => z y.2)]; exact (s5 j (by omega)).1
      · rw [pI_wI]
        by_cases z : j = k
        · rw [if_pos ⟨rfl, z⟩]
        · rw [if_neg (fun y => z y.2), pI_wI, if_neg (fun y => z y.2)]; exact (s5 j (by omega)).2
    · obtain ⟨s1, s2, s3, s4, s5⟩ := hI
      refine ⟨s.1, ?_, s2, s3, s4, s5⟩
      simp only [f_X8_init_32s]
      rw [s1, if_ltn (by omega) (by omega) (by omega)]
  obtain ⟨g, g1, g2, ⟨q1, q2, q3, q4, q5, q6⟩, g4, g5⟩ := key
  refine ⟨g, g1, g2, ?_, by rw [q1]; exact kA, by rw [q4, hX0]; omega, by rw [q3]; exact p2, by rw [q3]; exact p3, by rw [q1]; exact kB, by rw [q1]; exact kC, by rw [q2]; exact nB, by rw [q2]; exact nC, g4, g5, last, by rw [q3]; exact p0, PartR.agr g2 _ _ hP⟩
  unfold RU at hR0 ⊢
  rw [q4, q5, q6]
  exact hR0
end PS
