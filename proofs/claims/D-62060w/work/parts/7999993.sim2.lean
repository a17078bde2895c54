/-! page and reference side by side: the sheet is typed; all is cleared -/
set_option maxRecDepth 100000
section SM
variable {M M' : MS} {h h' h1 : HP} {pg u n : Nat} {φ : Nat → Nat} {T : TS} {rs : List RL} {w v : List Int} {c : Int} {s : LX}
theorem AgS.agw (A : AgS pg h h') (hC : ShC h pg) (hk : pK h pg = 1) (hp : pg < pX h) : AgW pg h h' := by
  obtain ⟨a1, a2, a3, a4⟩ := A
  obtain ⟨⟨s1, s2, s3, s4, s5, s6⟩, ⟨t1, t2, t3, t4⟩, -, -⟩ := hC
  have key : ∀ b, b < pX h → treeK (pK h b) ∨ pK h b = 40 → b ≠ pg + 8 ∧ b ≠ pg + 9 ∧ b ≠ pg + 10 ∧ b ≠ pg + 12 ∧ b ≠ pg + 14 := fun b _ ht => by
    unfold treeK at ht
    refine ⟨?_, ?_, ?_, ?_, ?_⟩ <;> (intro z; rw [z] at ht; omega)
  have hpg := a4 pg hp (by omega) (by omega) (by omega) (by omega) (by omega)
  refine ⟨a1, a2, fun b hb ht => ?_, hpg.2.1 3, hpg.2.1 4, hpg.2.1 7⟩
  obtain ⟨n8, n9, n10, n12, n14⟩ := key b hb ht
  obtain ⟨x1, x2, x3, x4, x5, x6⟩ := a4 b hb n8 n9 n10 n12 n14
  exact ⟨a3 b hb, x1, x3, x4, x5, x6, fun _ => ⟨x2 2, x2 3, x2 6⟩⟩
theorem OrdC.ags (O : OrdC h pg) (A : AgS pg h h') (hp : pg + 21 ≤ pX h) : OrdC h' pg := by
  obtain ⟨o1, o2, o3, o4⟩ := O
  obtain ⟨a1, a2, a3, a4⟩ := A
  have x := a4 (pg + 16) (by omega) (by omega) (by omega) (by omega) (by omega) (by omega)
  have y := a4 pg (by omega) (by omega) (by omega) (by omega) (by omega) (by omega)
  exact ⟨by rw [y.2.2.1]; exact o1, by rw [a3 _ (by omega)]; exact o2, by rw [x.2.2.2.2.2]; exact o3, by rw [x.2.2.2.1]; exact o4⟩
theorem RcP.ags (R : RcP h pg) (A : AgS pg h h') (hp : pg + 21 ≤ pX h) : RcP h' pg := by
  obtain ⟨⟨r1, r2, r3, r4⟩, ⟨b1, b2, b3, b4, b5, b6, b7⟩, c⟩ := R
  obtain ⟨a1, a2, a3, a4⟩ := A
  have y := a4 pg (by omega) (by omega) (by omega) (by omega) (by omega) (by omega)
  have x17 := a4 (pg + 17) (by omega) (by omega) (by omega) (by omega) (by omega) (by omega)
  have x18 := a4 (pg + 18) (by omega) (by omega) (by omega) (by omega) (by omega) (by omega)
  have x19 := a4 (pg + 19) (by omega) (by omega) (by omega) (by omega) (by omega) (by omega)
  have x20 := a4 (pg + 20) (by omega) (by omega) (by omega) (by omega) (by omega) (by omega)
  refine ⟨⟨by rw [y.2.2.1]; exact r1, by rw [y.2.2.1]; exact r2, by rw [a3 _ (by omega)]; exact r3, by rw [x20.1]; exact r4⟩, ⟨by rw [a3 _ (by omega)]; exact b1, by rw [x17.2.2.1]; exact b2, by rw [a3 _ (by omega)]; exact b3, by rw [x18.1]; exact b4, by rw [x17.2.2.1]; exact b5, by rw [a3 _ (by omega)]; exact b6, by rw [x19.1]; exact b7⟩, by rw [x17.2.1]; exact c⟩
theorem w1617 (hk : pK h pg = 1) : f_X0_changed h pg = some (wI (wI h pg 16 0) pg 17 0) := by
  unfold f_X0_changed
  rw [gd_c hk, bnd_eq, gd_c (by exact hk), bnd_eq]
theorem AgQ.ch (pg : Nat) (h : HP) : AgQ pg h (wI (wI h pg 16 0) pg 17 0) := ((AgQ.refl pg h).aI (by unfold qP; omega) 0).aI (by unfold qP; omega) 0
theorem op_css (S : SIM M h pg w v) (hc : 0 ≤ c ∧ c < 65536) (hR : RU h (u + 380)) : ∃ M' h' v' r, m_css M c = some (M', r) ∧ f_X0_css h pg c = some (h', r) ∧ SIM M' h' pg w v' ∧ RU h' u := by
  have S0 := S
  obtain ⟨⟨hT, hY⟩, ⟨p1, p2, p3, p4, p5, p6, p7⟩, hs⟩ := S
  have hk1 := p1.1.1
  have hlt := p1.lt
  have h21 := p1.2.1.2.2.2.2
  have hv := hY.2.2.1
  have hk8 := p4.1.1.2.1
  by_cases hno : c < 32 ∨ 126 < c ∨ v.length = 120
  · refine ⟨M, h, v, 0, ?_, ?_, S0, hR.mono (by omega)⟩
    · unfold m_css
      by_cases z1 : c < 32
      · rw [if_ltp z1 (by omega) (by omega)]
      · rw [if_ltn (by omega) (by omega) (by omega)]
        by_cases z2 : 126 < c
        · rw [if_ltp z2 (by omega) (by omega)]
        · rw [if_ltn (by omega) (by omega) (by omega), hY.1, if_eqp (by omega)]
    · unfold f_X0_css
      rw [gd_c hk1, p4.1.1.1, obind_some, gd_c hk8, type_no hk8 p6 hv hc hno, obind_some, if_eqp rfl]
      exact gd_isB0
  · have c1 : 32 ≤ c ∧ c ≤ 126 := by omega
    have c2 : v.length ≤ 119 := by omega
    obtain ⟨h1, t1, t2, t3, t4, t5⟩ := type_ok p4 p5 p6 c2 c1 hR
    have hfold := fold_snoc cx cx0 v c
    have hX := t2.1
    have kc : pK h1 pg = 1 := by rw [t2.2.2.1 pg (by omega)]; exact hk1
    have AW : AgW pg h h1 := AgS.agw t2 p4.1 hk1 (by omega)
    have AQ := AgQ.ch pg h1
    have AW2 : AgW pg h1 (wI (wI h1 pg 16 0) pg 17 0) := AQ.w kc (by omega)
    have hpg : ∀ j, pI h1 pg j = pI h pg j := (t2.2.2.2 pg (by omega) (by omega) (by omega) (by omega) (by omega) (by omega)).2.1
    have hpg3 : ∀ j, j ≠ 16 → j ≠ 17 → pI (wI (wI h1 pg 16 0) pg 17 0) pg j = pI h pg j := fun j j1 j2 => by
      rw [pI_wI, if_neg (fun z => j2 z.2), pI_wI, if_neg (fun z => j1 z.2), hpg]
    have g16 : pI (wI (wI h1 pg 16 0) pg 17 0) pg 16 = 0 := by rw [pI_wI, if_neg (fun z => by omega), pI_wI, if_pos ⟨rfl, rfl⟩]
    have g17 : pI (wI (wI h1 pg 16 0) pg 17 0) pg 17 = 0 := by rw [pI_wI, if_pos ⟨rfl, rfl⟩]
    have gne : ∀ b j, b ≠ pg → pI (wI (wI h1 pg 16 0) pg 17 0) b j = pI h1 b j := fun b j hb => by rw [pI_wI, if_neg (fun z => hb z.1), pI_wI, if_neg (fun z => hb z.1)]
    have hcss : f_X0_css h pg c = some (wI (wI h1 pg 16 0) pg 17 0, 1) := by
      unfold f_X0_css
      rw [gd_c hk1, p4.1.1.1, obind_some, gd_c hk8, t1, obind_some, if_eqn (by omega) (by omega) (by omega) (by omega) (by omega), gd_c kc, w1617 kc, obind_some]
      exact gd_isB1
    have hRU : RU (wI (wI h1 pg 16 0) pg 17 0) u := t5
    have hSP : SPg (wI (wI h1 pg 16 0) pg 17 0) pg w (v ++ [c]) := by
      have O1 : OrdC h1 pg := p2.ags t2 h21
      refine ⟨(SHp.agw ((p1.agw AW).1) AW2).1, O1, ?_, ?_, ?_, ?_, ?_⟩
      · exact (p3.ags t2 h21).agq AQ (by omega) kc (gne _ _ (by omega))
      · rw [hfold]; exact t3.agq AQ kc
      · rw [hfold, List.length_append]; exact p5.step c1
      · rw [gne _ _ (by omega), t4]; simp
      · rw [hpg3 9 (by omega) (by omega)]; exact p7
    have hf : ∀ k, k ≠ 2 → k ≠ 37 → (sI (sI (sA M 3 v.length c) 2 ((v.length : Int) + 1)) 37 0).1 k = M.1 k := fun k k1 k2 => by rw [sI_n _ _ _ _ k2, sI_n _ _ _ _ k1]; rfl
    have ha : ∀ k, k ≠ 3 → (sI (sI (sA M 3 v.length c) 2 ((v.length : Int) + 1)) 37 0).2 k = M.2 k := fun k k1 => by rw [sI_2, sI_2, sA_f _ _ _ _ _ k1]
    have h37 : (sI (sI (sA M 3 v.length c) 2 ((v.length : Int) + 1)) 37 0).1 37 = 0 := sI_s _ _ _
    have hTx : TxtM (sI (sI (sA M 3 v.length c) 2 ((v.length : Int) + 1)) 37 0) w := by
      unfold TxtM at hT ⊢
      rw [hf 0 (by omega) (by omega), ha 1 (by omega)]; exact hT
    have hSt : StyM (sI (sI (sA M 3 v.length c) 2 ((v.length : Int) + 1)) 37 0) (v ++ [c]) := by
      refine ⟨?_, fun k hk => ?_, by simp; omega, fun d hd => ?_⟩
      · rw [sI_n _ _ _ _ (by omega), sI_s]; simp
      · rw [List.length_append] at hk
        rw [sI_2, sI_2, gD_app (by simpa using hk)]
        by_cases z : k = v.length
        · rw [if_pos z, z, sA_s]
        · rw [if_neg z, sA_i _ _ _ _ _ z]; exact hY.2.1 k (by simp at hk; omega)
      · rcases List.mem_append.mp hd with z | z
        · exact hY.2.2.2 d z
        · rw [List.mem_singleton.mp z]; exact c1
    have hgo : m_css M c = some (sI (sI (sA M 3 v.length c) 2 ((v.length : Int) + 1)) 37 0, 1) := by
      unfold m_css
      rw [if_ltn (by omega) (by omega) (by omega), if_ltn (by omega) (by omega) (by omega), hY.1, if_eqn (by omega) (by omega) (by omega) (by omega) (by omega), gd_zin (by omega) (by omega) (by omega), zix_nat (by omega), bnd_eq, bnd_eq, sA_1, hY.1, bnd_eq]
    refine ⟨_, _, v ++ [c], 1, hgo, hcss, ⟨⟨hTx, hSt⟩, hSP, ?_⟩, hRU⟩
    generalize sI (sI (sA M 3 v.length c) 2 ((v.length : Int) + 1)) 37 0 = M' at hf ha h37
    cases ho : (w.foldl lx lx0).2.2.2 with
    | none =>
      rw [ho] at hs
      obtain ⟨b1, b2, b3, b4, b5⟩ := hs
      exact ⟨by rw [hf 4 (by omega) (by omega)]; exact b1, (b2.agw p1 AW).agw (p1.agw AW).1 AW2, h37, g17, Or.inl g16⟩
    | some T =>
      rw [ho] at hs
      obtain ⟨⟨e8, eS⟩, hRep, φ, HB, HC, HL⟩ := hs
      obtain ⟨LI1, TC1⟩ := TC.all w hT.2.2.2
      have hW := (LI1.2.2.2 T ho).1
      obtain ⟨n3, n4, n5, n6⟩ := (AW.cnt p1)
      obtain ⟨q3, q4, q5, q6⟩ := AW2.cnt (p1.agw AW).1
      refine ⟨⟨?_, ?_⟩, ?_, φ, (HB.agw hW.stk AW).agw hW.stk AW2, ?_, Or.inl ⟨g16, h37, g17⟩⟩
      · rw [hpg3 8 (by omega) (by omega)]; exact e8
      · rw [hpg3 10 (by omega) (by omega), hpg3 11 (by omega) (by omega)]; exact eS
      · unfold RepM at hRep ⊢
        rw [hf 4 (by omega) (by omega), hf 5 (by omega) (by omega), hf 7 (by omega) (by omega), hf 13 (by omega) (by omega), hf 16 (by omega) (by omega), hf 17 (by omega) (by omega), ha 6 (by omega), ha 8 (by omega), ha 9 (by omega), ha 10 (by omega), ha 12 (by omega), ha 14 (by omega), ha 15 (by omega), ha 18 (by omega), ha 19 (by omega)]
        exact hRep
      · unfold CntP at HC ⊢
        rw [q3, q4, q5, q6, n3, n4, n5, n6]
        exact HC
theorem op_clear (S : SIM M h pg w v) (hR : RU h (u + 2)) : ∃ M' h', m_clear M = some M' ∧ f_X0_clear h pg = some h' ∧ SIM M' h' pg [] [] ∧ RU h' u := by
  obtain ⟨⟨hT, hY⟩, ⟨p1, p2, p3, p4, p5, p6, p7⟩, hs⟩ := S
  have hk1 := p1.1.1
  have hlt := p1.lt
  have h21 := p1.2.1.2.2.2.2
  have hroot : pP h (pg + 1) 0 = none := by
    cases ho : (w.foldl lx lx0).2.2.2 with
    | none => rw [ho] at hs; exact hs.2.1.2.2
    | some T =>
      rw [ho] at hs
      obtain ⟨-, -, φ, H, -, -⟩ := hs
      obtain ⟨LI1, TC1⟩ := TC.all w hT.2.2.2
      have hW := (LI1.2.2.2 T ho).1
      have := H.2.2.2.2.2.1 0 (by have := hW.1.1; omega)
      rw [if_pos rfl, H.2.1] at this
      exact this
  -- the reference
  obtain ⟨M', m1, m2, m3⟩ := m_reset_eq (sI (sI (sI M 0 0) 2 0) 37 0)
  have hgo : m_clear M = some M' := by
    unfold m_clear
    rw [bnd_eq, bnd_eq, bnd_eq, m1, obind_some]
  have hTx : TxtM M' [] := ⟨by rw [m2.1 0 (by simp), sI_n _ _ _ _ (by omega), sI_n _ _ _ _ (by omega), sI_s]; rfl, fun k hk => absurd hk (by simp), by simp, fun d hd => absurd hd (by simp)⟩
  have hSt : StyM M' [] := ⟨by rw [m2.1 2 (by simp), sI_n _ _ _ _ (by omega), sI_s]; rfl, fun k hk => absurd hk (by simp), by simp, fun d hd => absurd hd (by simp)⟩
  have h37 : M'.1 37 = 0 := by rw [m2.1 37 (by simp), sI_s]
  -- the page
  obtain ⟨y1, b1, b2, b3, b4, b5⟩ := begin_eq p1 hroot hR
  have FT1 := b3.fh.ft
  have ky : pK y1 pg = 1 := b2.1.1
  have hX1 := b3.1
  have hC1 := (p4.ft FT1).1
  generalize hh6 : wI (wI (wI (wI (wI y1 pg 3 0) pg 4 0) pg 7 0) pg 8 0) pg 9 0 = h6
  have F6 : FTy pg y1 h6 := by rw [← hh6]; exact (((((FTy.refl pg y1).wpg ky _ _).wpg ky _ _).wpg ky _ _).wpg ky _ _).wpg ky _ _
  have S6 : SHp h6 pg := by rw [← hh6]; exact b2
  have R6 : RU h6 u := by rw [← hh6]; exact b4
  have i6 : ∀ b j, b ≠ pg → pI h6 b j = pI y1 b j := fun b j hb => by
    rw [← hh6, pI_wI, if_neg (fun z => hb z.1), pI_wI, if_neg (fun z => hb z.1), pI_wI, if_neg (fun z => hb z.1), pI_wI, if_neg (fun z => hb z.1), pI_wI, if_neg (fun z => hb z.1)]
  have g3 : pI h6 pg 3 = 0 := by rw [← hh6]; simp [pI_wI]
  have g4 : pI h6 pg 4 = 0 := by rw [← hh6]; simp [pI_wI]
  have g7 : pI h6 pg 7 = 0 := by rw [← hh6]; simp [pI_wI]
  have g8 : pI h6 pg 8 = 0 := by rw [← hh6]; simp [pI_wI]
  have g9 : pI h6 pg 9 = 0 := by rw [← hh6]; simp [pI_wI]
  have B6 : B0 h6 pg := by
    obtain ⟨⟨x1, x2, x3, x4⟩, x5, x6, l, x7, x8, x9⟩ := b5
    refine ⟨⟨by rw [i6 _ _ (by omega)]; exact x1, by rw [i6 _ _ (by omega)]; exact x2, by rw [i6 _ _ (by omega)]; exact x3, by rw [← hh6]; exact x4⟩, by rw [← hh6]; exact x5, by rw [← hh6]; exact x6, l, by rw [← hh6]; exact x7, by rw [← hh6]; exact x8, by rw [← hh6]; exact x9⟩
  have RP6 := B0.rep S6 B6 g7 g3 g4
  have FT6 := FT1.trans F6
  have O6 := p2.ft FT6 h21
  have Rc6 := p3.ft FT6 h21
  have Sh6 := p4.ft FT6
  have hX6 := FT6.1
  obtain ⟨⟨⟨s1, s2, s3, s4, s5, s6⟩, ⟨t1, t2, t3, t4⟩, su, vv⟩, sR, sl, sb, sb2, si⟩ := Sh6
  have hC6 : ShC h6 pg := ⟨⟨s1, s2, s3, s4, s5, s6⟩, ⟨t1, t2, t3, t4⟩, su, vv⟩
  have k6 : pK h6 pg = 1 := S6.1.1
  generalize hh8 : wI (wI (wB (wB (wL h6 (pg + 9) []) (pg + 10) []) (pg + 12) []) (pg + 8) 4 0) (pg + 8) 5 0 = h8
  have A8 : AgS pg h6 h8 := by
    rw [← hh8]
    exact (((((AgS.refl pg h6).aL []).aB (by omega) []).aB (by omega) []).aI 0 (by omega)).aI 0 (by omega)
  have hclr : f_X3_clear h6 (pg + 8) = some h8 := by
    unfold f_X3_clear lClr f_X3_next sSet
    rw [gd_c s2, s3, obind_some, gd_c (by rw [t1]; decide), obind_some, gd_c (by exact s2), gd_c (by exact s2), show pP (wL h6 (pg + 9) []) (pg + 8) 1 = some (pg + 10) from s4, obind_some, gd_c (by exact ⟨by show isS (pK h6 (pg + 10)); rw [t2]; decide, rfl⟩), obind_some, gd_c (by exact s2), show pP (wB (wL h6 (pg + 9) []) (pg + 10) []) (pg + 8) 2 = some (pg + 12) from s5, obind_some, gd_c (by exact ⟨by show isS (pK h6 (pg + 12)); rw [t3]; decide, rfl⟩), obind_some, gd_c (by exact s2), bnd_eq, obind_some, gd_c (by exact s2), bnd_eq, hh8]
  have k8 : pK h8 pg = 1 := by rw [A8.2.2.1 pg (by omega)]; exact k6
  have AW8 := AgS.agw A8 hC6 k6 (by omega)
  have S8 := (S6.agw AW8).1
  have AQ := AgQ.ch pg h8
  have hX8 := A8.1
  have AW9 : AgW pg h8 (wI (wI h8 pg 16 0) pg 17 0) := AQ.w k8 (by omega)
  have hW0 : WF t0 := (LI_0.2.2.2 t0 rfl).1
  have RP9 : RP (wI (wI h8 pg 16 0) pg 17 0) pg t0 := (RP6.agw hW0 AW8).agw hW0 AW9
  have gne : ∀ b j, b ≠ pg → pI (wI (wI h8 pg 16 0) pg 17 0) b j = pI h8 b j := fun b j hb => by rw [pI_wI, if_neg (fun z => hb z.1), pI_wI, if_neg (fun z => hb z.1)]
  have hpg8 : ∀ j, pI h8 pg j = pI h6 pg j := (A8.2.2.2 pg (by omega) (by omega) (by omega) (by omega) (by omega) (by omega)).2.1
  have hpg9 : ∀ j, j ≠ 16 → j ≠ 17 → pI (wI (wI h8 pg 16 0) pg 17 0) pg j = pI h6 pg j := fun j j1 j2 => by
    rw [pI_wI, if_neg (fun z => j2 z.2), pI_wI, if_neg (fun z => j1 z.2), hpg8]
  have g16 : pI (wI (wI h8 pg 16 0) pg 17 0) pg 16 = 0 := by rw [pI_wI, if_neg (fun z => by omega), pI_wI, if_pos ⟨rfl, rfl⟩]
  have g17 : pI (wI (wI h8 pg 16 0) pg 17 0) pg 17 = 0 := by rw [pI_wI, if_pos ⟨rfl, rfl⟩]
  have Sh8 : ShR h8 pg cx0 := by
    have hL9 : pL h8 (pg + 9) = [] := by
      rw [← hh8]
      show pL (wL h6 (pg + 9) []) (pg + 9) = []
      rw [pL_wL, if_pos rfl]
    refine ⟨?_, ?_, by simp [cx0], ?_, ?_, ?_⟩
    · rw [← hh8]; exact hC6
    · rw [hL9]
      exact ⟨rfl, fun k hk => absurd hk (by simp [cx0])⟩
    · rw [← hh8]
      show pB (wB (wB (wL h6 (pg + 9) []) (pg + 10) []) (pg + 12) []) (pg + 10) = []
      rw [pB_wB, if_neg (by omega), pB_wB, if_pos rfl]
    · rw [← hh8]
      show pB (wB (wB (wL h6 (pg + 9) []) (pg + 10) []) (pg + 12) []) (pg + 12) = []
      rw [pB_wB, if_pos rfl]
    · rw [← hh8, pI_wI, if_neg (fun z => by omega), pI_wI, if_pos ⟨rfl, rfl⟩]
      rfl
  have O8 : OrdC h8 pg := O6.ags A8 (by omega)
  have g5 : pI h8 (pg + 8) 5 = 0 := by rw [← hh8, pI_wI, if_pos ⟨rfl, rfl⟩]
  refine ⟨M', wI (wI h8 pg 16 0) pg 17 0, hgo, ?_, ⟨⟨hTx, hSt⟩, ⟨(S8.agw AW9).1, O8, (Rc6.ags A8 (by omega)).agq AQ (by omega) k8 (gne _ _ (by omega)), Sh8.agq AQ k8, CK_0, by rw [gne _ _ (by omega), g5]; rfl, by rw [hpg9 9 (by omega) (by omega), g9]; rfl⟩, ?_⟩, ?_⟩
  · unfold f_X0_clear
    have p14 : pP h6 pg 14 = some (pg + 8) := s1
    rw [gd_c hk1, b1, obind_some, gd_c ky, bnd_eq, gd_c (by exact ky), bnd_eq, gd_c (by exact ky), bnd_eq, gd_c (by exact ky), bnd_eq, gd_c (by exact ky), bnd_eq, hh6, gd_c k6, p14, obind_some, gd_c s2, hclr, obind_some, gd_c k8, w1617 k8, obind_some]
  · obtain ⟨φ, H, C⟩ := RP9
    refine ⟨⟨?_, ?_⟩, m3, φ, H, C, Or.inl ⟨g16, h37, g17⟩⟩
    · rw [hpg9 8 (by omega) (by omega), g8]; rfl
    · exact SE_of (by show 0 ≠ 3 ∧ 0 ≠ 4 ∧ 0 < 7; omega) _ _ _ _ _
  · have : RU h8 u := by rw [← hh8]; exact R6
    exact this
end SM
