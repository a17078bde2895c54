/-! page and reference side by side: what is asked of the tree -/
set_option maxRecDepth 100000
/-- the layout, if the order is fresh -/
def LdT (M : MS) (h : HP) (pg : Nat) (φ : Nat → Nat) (T : TS) (rs : List RL) : Prop := (M.1 37 = 0 ∧ pI h pg 17 = 0) ∨ ∃ C Wd Lf tl tp vw, (1 ≤ vw ∧ vw ≤ 64) ∧ LQ T rs vw Wd Lf tl tp ∧ LaidM M T rs C Wd Lf tl tp vw ∧ LaidP h pg φ T rs Wd Lf tl tp (mPX M T C) (mPY M T C) vw
section SM
variable {M M' : MS} {h h' h1 : HP} {pg u n : Nat} {φ : Nat → Nat} {T : TS} {rs : List RL} {w v : List Int} {x y : Int}
theorem sim_rf (S : SIM M h pg w v) (hR : RU h (u + 24)) : ∃ h', f_X0_refresh h pg = some h' ∧ SIM M h' pg w v ∧ RU h' u ∧ match (w.foldl lx lx0).2.2.2 with
  | none => pL h' (pg + 16) = []
  | some T => (WF T ∧ TC T ∧ tK T ≤ 160 ∧ RepM M T) ∧ (pI h pg 16 = 1 → h' = h) ∧ ∃ φ, RepB h' pg φ T ∧ CntP h' pg φ T ∧ VS h' pg φ T ((rulE v).map (rlE v)) (tN T) ∧ LdT M h' pg φ T ((rulE v).map (rlE v)) := by
  obtain ⟨⟨hT, hY⟩, ⟨p1, p2, p3, p4, p5, p6, p7⟩, hs⟩ := S
  have hk1 := p1.1.1
  have hlt := p1.lt
  have h21 := p1.2.1.2.2.2.2
  obtain ⟨ok1, ok2, ok3, ok4⟩ := rules_ok hY
  unfold SIM
  cases ho : (w.foldl lx lx0).2.2.2 with
  | none =>
    rw [ho] at hs
    obtain ⟨b1, b2, b3, b4, b5⟩ := hs
    obtain ⟨h', r1, r2, r3, r4, r5, r6, r7, r8, r9⟩ := refresh_b p1 b2.1 p2 b5
    have AW := r2.w hk1 (by omega)
    refine ⟨h', r1, ⟨⟨hT, hY⟩, ⟨(p1.agw AW).1, r3, p3.agq r2 (by omega) hk1 (r9 _ (by omega) _), p4.agq r2 hk1, p5, by rw [r9 _ (by omega)]; exact p6, by rw [r8 9 (by omega)]; exact p7⟩, b1, b2.agw p1 AW, b3, by rw [r8 17 (by omega)]; exact b4, Or.inr ⟨r7, r4⟩⟩, ?_, r4⟩
    have := hR
    unfold RU at this ⊢
    rw [r5, r6, r2.2.1]
    omega
  | some T =>
    rw [ho] at hs
    obtain ⟨⟨e8, eS⟩, hRep, φ, HB, HC, HL⟩ := hs
    obtain ⟨LI1, TC1⟩ := TC.all w hT.2.2.2
    have hW := (LI1.2.2.2 T ho).1
    have hK : tK T ≤ 160 := by have := (LI1.2.2.2 T ho).2; have := hT.2.2.1; omega
    have hF : pI h pg 16 = 0 ∨ (pI h pg 16 = 1 ∧ VS h pg φ T ((rulE v).map (rlE v)) (tN T)) := by
      rcases HL with z | z
      · exact Or.inl z.1
      · exact Or.inr ⟨z.1, z.2.1⟩
    obtain ⟨h', r1, r2, r3, r4, r5, r6, r7, r8, r9⟩ := refresh_p HB hW ok3 ok1 p2 p4.1 (by rw [← ok4]; exact p4.2.1) hF hR
    have AW := r2.w hk1 (by omega)
    have HB' := HB.agw hW.stk AW
    have HC' : CntP h' pg φ T := by
      obtain ⟨n3, n4, n5, n6⟩ := AW.cnt p1
      unfold CntP at HC ⊢
      rw [n3, n4, n5, n6]; exact HC
    have HL' : LdT M h' pg φ T ((rulE v).map (rlE v)) := by
      rcases HL with z | z
      · exact Or.inl ⟨z.2.1, by rw [r7 17 (by omega)]; exact z.2.2⟩
      · rw [r8 z.1]; exact z.2.2
    refine ⟨h', r1, ⟨⟨hT, hY⟩, ⟨(p1.agw AW).1, r3, p3.agq r2 (by omega) hk1 (r9 _ (by omega) p3.2.1.1 _), p4.agq r2 hk1, p5, ?_, by rw [r7 9 (by omega)]; exact p7⟩, ⟨⟨by rw [r7 8 (by omega)]; exact e8, by rw [r7 10 (by omega), r7 11 (by omega)]; exact eS⟩, hRep, φ, HB', HC', Or.inr ⟨r6, r4, HL'⟩⟩⟩, r5, ⟨hW, TC1 T ho, hK, hRep⟩, r8, φ, HB', HC', r4, HL'⟩
    rw [r2.i (by omega) (by rw [p4.1.1.2.1]; unfold qP; omega)]; exact p6
/-- a node is asked for -/
theorem sim_nd (S : SIM M h pg w v) (x1 : -2147483648 ≤ x) (x2 : x < 2147483648) (hR : RU h (u + 24)) : ∃ h', SIM M h' pg w v ∧ RU h' u ∧ pK h pg = 1 ∧ ((f_X0_node h pg x = some (h', none) ∧ m_none M x = some 1) ∨ ∃ T φ n, x = ((n : Nat) : Int) ∧ n < tN T ∧ (WF T ∧ TC T ∧ tK T ≤ 160 ∧ RepM M T) ∧ (w.foldl lx lx0).2.2.2 = some T ∧ (pI h pg 16 = 1 → h' = h) ∧ RepB h' pg φ T ∧ VS h' pg φ T ((rulE v).map (rlE v)) (tN T) ∧ f_X0_node h pg x = some (h', some (φ (ioP T n)))) := by
  obtain ⟨h', r1, r2, r3, r4⟩ := sim_rf S hR
  have hk1 := S.2.1.1.1.1
  have hk1' := r2.2.1.1.1.1
  have hO := r2.2.1.2.1
  refine ⟨h', r2, r3, hk1, ?_⟩
  cases ho : (w.foldl lx lx0).2.2.2 with
  | none =>
    rw [ho] at r4
    have hs := S.2.2
    rw [ho] at hs
    exact Or.inl ⟨node_out hk1 r1 hk1' hO (by rw [r4]; simp; omega) x1 x2, mnone_b hs.1⟩
  | some T =>
    rw [ho] at r4
    obtain ⟨⟨hW, hTC, hK, hRep⟩, hfr, φ, HB, HC, hV, hL⟩ := r4
    by_cases hx : x < 0 ∨ (tN T : Int) ≤ x
    · have hlen : (pL h' (pg + 16)).length = tN T := by rw [hV.1, List.length_map, List.take_of_length_le (by rw [hW.1.2.2.1]; exact Nat.le_refl _), hW.1.2.2.1]
      exact Or.inl ⟨node_out hk1 r1 hk1' hO (by rw [hlen]; exact hx) x1 x2, mnone_out hRep hW hx x1 x2⟩
    · obtain ⟨n, hn⟩ : ∃ n : Nat, x = (n : Int) := ⟨x.toNat, by omega⟩
      subst hn
      exact Or.inr ⟨T, φ, n, rfl, by omega, ⟨hW, hTC, hK, hRep⟩, rfl, hfr, HB, hV, node_in hk1 r1 HB hW hO hV (by omega)⟩
theorem op_name (S : SIM M h pg w v) (x1 : -2147483648 ≤ x) (x2 : x < 2147483648) (hR : RU h (u + 24)) : ∃ h' r, m_name M x = some r ∧ f_X0_name h pg x = some (h', r) ∧ SIM M h' pg w v ∧ RU h' u := by
  obtain ⟨h', s1, s2, s3, s4 | ⟨T, φ, n, rfl, hn, ⟨hW, hTC, hK, hRep⟩, ho, hfr, HB, hV, hnd⟩⟩ := sim_nd S x1 x2 hR
  · exact ⟨h', -1, mname_1 s4.2, name_none s3 s4.1, s1, s2⟩
  · exact ⟨h', _, mname_in hRep hW hn, name_in s3 hnd HB (io_lt hW hn), s1, s2⟩
theorem op_classes (S : SIM M h pg w v) (x1 : -2147483648 ≤ x) (x2 : x < 2147483648) (hR : RU h (u + 24)) : ∃ h' r, m_classes M x = some r ∧ f_X0_classes h pg x = some (h', r) ∧ SIM M h' pg w v ∧ RU h' u := by
  obtain ⟨h', s1, s2, s3, s4 | ⟨T, φ, n, rfl, hn, ⟨hW, hTC, hK, hRep⟩, ho, hfr, HB, hV, hnd⟩⟩ := sim_nd S x1 x2 hR
  · exact ⟨h', -1, mclasses_1 s4.2, classes_none s3 s4.1, s1, s2⟩
  · refine ⟨h', _, mclasses_in hRep hW hn, ?_, s1, s2⟩
    rw [classes_in s3 hnd HB (io_lt hW hn)]
    congr 2
    by_cases hm : tM T (ioP T n) = 1
    · rw [if_pos hm]; exact (hTC.1 _ hm).symm
    · rw [if_neg hm]; rfl
theorem op_parent (S : SIM M h pg w v) (x1 : -2147483648 ≤ x) (x2 : x < 2147483648) (hR : RU h (u + 24)) : ∃ h' r, m_parent M x = some r ∧ f_X0_parent h pg x = some (h', r) ∧ SIM M h' pg w v ∧ RU h' u := by
  obtain ⟨h', s1, s2, s3, s4 | ⟨T, φ, n, rfl, hn, ⟨hW, hTC, hK, hRep⟩, ho, hfr, HB, hV, hnd⟩⟩ := sim_nd S x1 x2 hR
  · exact ⟨h', -1, mparent_1 s4.2, parent_none s3 s4.1, s1, s2⟩
  · exact ⟨h', _, mparent_in hRep hW hn, parent_in s3 hnd HB hW hV hn, s1, s2⟩
theorem tx_160 (hRep : RepM M T) (hK : tK T ≤ 160) (i : Nat) : (tX T i).length ≤ 160 := by
  obtain ⟨C, c1, c2, c3, c4, c5⟩ := hRep.2.2.2.2.2.2.2.2.2.2
  rw [← c5 i, List.length_map]
  have := List.length_filter_le (fun e : Int × Nat => decide (e.2 = i)) C
  omega
theorem op_letter (S : SIM M h pg w v) (x1 : -2147483648 ≤ x) (x2 : x < 2147483648) (y1 : -2147483648 ≤ y) (y2 : y < 2147483648) (hR : RU h (u + 24)) : ∃ h' r, m_letter M x y = some r ∧ f_X0_letter h pg x y = some (h', r) ∧ SIM M h' pg w v ∧ RU h' u := by
  obtain ⟨h', s1, s2, s3, s4 | ⟨T, φ, n, rfl, hn, ⟨hW, hTC, hK, hRep⟩, ho, hfr, HB, hV, hnd⟩⟩ := sim_nd S x1 x2 hR
  · exact ⟨h', -1, mletter_neg (mfind_1 s4.2), letter_none s3 (text_none s3 s4.1), s1, s2⟩
  · obtain ⟨C, hC⟩ := ch_ex hRep hK
    by_cases hm : nmQ T n = 1
    · have hE := HB.txc (io_lt hW hn) hm
      have ht := text_some s3 hnd hE.1
      refine ⟨h', _, ?_, letter_in s3 ht HB (io_lt hW hn) hm (tx_160 hRep hK _) y1 y2, s1, s2⟩
      by_cases z : y < 0
      · rw [if_neg (by omega)]
        exact mletter_neg (mfind_neg hRep hW hn (Or.inr z) y1 y2)
      · rw [mletter_in hRep hC hW hn hm (by omega) y2]
        congr 1
        by_cases q : y.toNat < (txP T n).length
        · rw [if_pos q, if_pos ⟨by omega, by have q : y.toNat < (tX T (ioP T n)).length := q; omega⟩]; rfl
        · rw [if_neg q, if_neg (fun z => q (by have := z.2; show y.toNat < (tX T (ioP T n)).length; omega))]
    · have hE := HB.elc (io_lt hW hn) hm
      have ht : f_X0_text h pg (n : Int) = some (h', none) := by
        unfold f_X0_text
        rw [gd_c s3, hnd, obind_some, gd_c (by exact Or.inr ⟨by show isN (pK h' (φ (ioP T n))); rw [hE.1]; decide, Or.inl rfl⟩)]
        have : kiso h' (some (φ (ioP T n))) 3 = 0 := by
          unfold kiso kis
          rw [if_neg (by simp), Option.getD_some, hE.1, if_neg (by omega)]
        simp only []
        rw [this, if_eqp rfl]
      exact ⟨h', -1, mletter_neg (mfind_neg hRep hW hn (Or.inl hm) y1 y2), letter_none s3 ht, s1, s2⟩
theorem op_nodes (S : SIM M h pg w v) : ∃ r, m_nodes M = some r ∧ f_X0_nodes h pg = some r := by
  obtain ⟨⟨hT, hY⟩, ⟨p1, p2, p3, p4, p5, p6, p7⟩, hs⟩ := S
  cases ho : (w.foldl lx lx0).2.2.2 with
  | none =>
    rw [ho] at hs
    refine ⟨-1, ?_, nodes_b p1.1.1 hs.2.1.1⟩
    unfold m_nodes
    rw [hs.1, if_eqn (by omega) (by omega) (by omega) (by omega) (by omega)]
  | some T =>
    rw [ho] at hs
    obtain ⟨⟨e8, eS⟩, hRep, φ, HB, HC, HL⟩ := hs
    obtain ⟨LI1, TC1⟩ := TC.all w hT.2.2.2
    have hW := (LI1.2.2.2 T ho).1
    refine ⟨_, ?_, nodes_in HB HC hW⟩
    unfold m_nodes
    rw [hRep.1, if_eqp rfl, hRep.2.1, hW.1.2.2.1]
theorem op_open (S : SIM M h pg w v) : ∃ r, m_open M = some r ∧ f_X0_open h pg = some r := by
  obtain ⟨⟨hT, hY⟩, ⟨p1, p2, p3, p4, p5, p6, p7⟩, hs⟩ := S
  cases ho : (w.foldl lx lx0).2.2.2 with
  | none =>
    rw [ho] at hs
    refine ⟨-1, ?_, open_b p1.1.1 hs.2.1.1⟩
    unfold m_open
    rw [hs.1, if_eqn (by omega) (by omega) (by omega) (by omega) (by omega)]
  | some T =>
    rw [ho] at hs
    obtain ⟨⟨e8, eS⟩, hRep, φ, HB, HC, HL⟩ := hs
    refine ⟨_, ?_, open_in HB⟩
    unfold m_open
    rw [hRep.1, if_eqp rfl, hRep.2.2.2.1]
/-- what working out the values leaves of a layout -/
theorem LaidM.fy {C : List (Int × Nat)} {Wd Lf tl tp : Nat → Int} {vw : Int} (L : LaidM M T rs C Wd Lf tl tp vw) (hf : ∀ k, k ≠ 22 → k ≠ 32 → M'.1 k = M.1 k) (ha : ∀ k, k < 23 ∨ 36 < k → M'.2 k = M.2 k) (hU : UpM M' T) (hV : VM M' T rs) : LaidM M' T rs C Wd Lf tl tp vw := by
  obtain ⟨⟨L1, L2, L3, L4⟩, H, B, F, K⟩ := L
  have A : FZ M M' := ⟨fun k hk => hf k (fun z => hk (by rw [z]; simp)) (fun z => hk (by rw [z]; simp)), fun k hk => ha k (by omega)⟩
  refine ⟨⟨A.rep L1, hU, hV, A.ch L4⟩, ?_, ?_, ?_, ?_⟩
  · unfold HM at H ⊢
    rw [ha 40 (by omega), ha 41 (by omega), ha 42 (by omega), ha 43 (by omega), ha 44 (by omega)]; exact H
  · rw [ha 45 (by omega), ha 46 (by omega)]; exact B
  · rw [hf 37 (by omega) (by omega), hf 38 (by omega) (by omega), hf 39 (by omega) (by omega)]; exact F
  · rw [ha 47 (by omega), ha 48 (by omega), ha 49 (by omega)]; exact K
/-- a change of the reference that leaves what stands -/
theorem SIM.ref (S : SIM M h pg w v) (hf : ∀ k, k ≠ 22 → k ≠ 32 → M'.1 k = M.1 k) (ha : ∀ k, k < 23 ∨ 36 < k → M'.2 k = M.2 k) (hUV : ∀ T, (w.foldl lx lx0).2.2.2 = some T → M.1 37 = 1 → UpM M T → VM M T ((rulE v).map (rlE v)) → UpM M' T ∧ VM M' T ((rulE v).map (rlE v))) : SIM M' h pg w v := by
  have A : FZ M M' := ⟨fun k hk => hf k (fun z => hk (by rw [z]; simp)) (fun z => hk (by rw [z]; simp)), fun k hk => ha k (by omega)⟩
  obtain ⟨⟨hT, hY⟩, P, hs⟩ := S
  refine ⟨⟨hT.fz A, hY.fz A⟩, P, ?_⟩
  cases ho : (w.foldl lx lx0).2.2.2 with
  | none =>
    rw [ho] at hs
    obtain ⟨b1, b2, b3, b4, b5⟩ := hs
    exact ⟨by rw [hf 4 (by omega) (by omega)]; exact b1, b2, by rw [hf 37 (by omega) (by omega)]; exact b3, b4, b5⟩
  | some T =>
    rw [ho] at hs
    obtain ⟨e, hRep, φ, HB, HC, HL⟩ := hs
    refine ⟨e, A.rep hRep, φ, HB, HC, ?_⟩
    rcases HL with z | ⟨z1, z2, z3⟩
    · exact Or.inl ⟨z.1, by rw [hf 37 (by omega) (by omega)]; exact z.2.1, z.2.2⟩
    · refine Or.inr ⟨z1, z2, ?_⟩
      rcases z3 with q | ⟨C, Wd, Lf, tl, tp, vw, q1, q2, q3, q4⟩
      · exact Or.inl ⟨by rw [hf 37 (by omega) (by omega)]; exact q.1, q.2⟩
      · obtain ⟨U, V⟩ := hUV T ho q3.2.2.2.1.1 q3.1.2.1 q3.1.2.2.1
        have e1 : mPX M' T C = mPX M T C := by unfold mPX; rw [ha 48 (by omega)]
        have e2 : mPY M' T C = mPY M T C := by unfold mPY; rw [ha 49 (by omega)]
        exact Or.inr ⟨C, Wd, Lf, tl, tp, vw, q1, q2, q3.fy hf ha U V, by rw [e1, e2]; exact q4⟩
theorem op_rules (S : SIM M h pg w v) : ∃ M' r, m_rules M = some (M', r) ∧ f_X0_rules h pg = some r ∧ SIM M' h pg w v := by
  have S0 := S
  obtain ⟨⟨hT, hY⟩, ⟨p1, p2, p3, p4, p5, p6, p7⟩, hs⟩ := S
  obtain ⟨M', a1, a2, a3⟩ := m_readSheet_eq hY
  obtain ⟨ok1, ok2, ok3, ok4⟩ := rules_ok hY
  refine ⟨M', (((rulE v).map (rlE v)).length : Int), ?_, ?_, ?_⟩
  · unfold m_rules
    rw [a1, obind_some, a3.1, List.length_map]
  · rw [rules_p p1.1.1 p4.1 p4.2.1, ok4]
  · refine S0.ref (fun k k1 k2 => a2.1 k k1) (fun k hk => a2.2 k (by omega)) (fun T _ _ U V => ⟨?_, ?_⟩)
    · unfold UpM at U ⊢
      rw [a2.2 33 (by omega)]; exact U
    · unfold VM at V ⊢
      rw [a2.2 36 (by omega)]; exact V
theorem op_value (S : SIM M h pg w v) (x1 : -2147483648 ≤ x) (x2 : x < 2147483648) (y1 : 0 ≤ y) (y2 : y < 65536) (hR : RU h (u + 24)) : ∃ M' h' r, m_value M x y = some (M', r) ∧ f_X0_value h pg x y = some (h', r) ∧ SIM M' h' pg w v ∧ RU h' u := by
  obtain ⟨h', s1, s2, s3, s4 | ⟨T, φ, n, rfl, hn, ⟨hW, hTC, hK, hRep⟩, ho, hfr, HB, hV, hnd⟩⟩ := sim_nd S x1 x2 hR
  · exact ⟨M, h', -1, mvalue_1 s4.2 y1 y2, value_none s3 (inner_none s3 s4.1) y1 y2, s1, s2⟩
  · have hY := S.1.2
    obtain ⟨M', m1, m2, m3⟩ := mvalue_in hY hRep hW hn y1 y2
    have S' : SIM M' h' pg w v := by
      refine s1.ref m2.1 m2.2 (fun T' ho' _ U V => ?_)
      rw [ho] at ho'
      cases ho'
      rcases m3 with z | z
      · rw [z]; exact ⟨U, V⟩
      · exact z
    refine ⟨M', h', _, m1, ?_, S', s2⟩
    by_cases hm : nmQ T n = 1
    · have hE := HB.txc (io_lt hW hn) hm
      rw [value_none s3 (inner_not s3 hnd hE.1) y1 y2, if_pos (show (tO T).getD n 0 = 0 ∨ tM T ((tO T).getD n 0) = 1 ∨ ixT 7 y < 0 from Or.inr (Or.inl hm))]
    · have hE := HB.elc (io_lt hW hn) hm
      rw [value_in s3 (inner_some s3 hnd hE.1) HB (io_lt hW hn) hm ((hV.2 n hn).2 hm) y1 y2]
      congr 2
      by_cases q : ioP T n = 0 ∨ ixT 7 y < 0
      · rw [if_pos q, if_pos (by rcases q with q | q; exact Or.inl q; exact Or.inr (Or.inr q))]
      · rw [if_neg q, if_neg (fun z => by
          rcases z with z | z | z
          · exact q (Or.inl z)
          · exact hm z
          · exact q (Or.inr z))]
        rfl
end SM
