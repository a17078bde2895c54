/-! page and reference side by side: layouts -/
set_option maxRecDepth 100000
section SM
variable {M M' : MS} {h h' h1 : HP} {pg u n : Nat} {φ : Nat → Nat} {T : TS} {rs : List RL} {w v : List Int} {x y : Int}
theorem op_layout (S : SIM M h pg w v) (x1 : -2147483648 ≤ x) (x2 : x < 2147483648) (hR : RU h (u + 24)) : ∃ M' h' r, m_layout M x = some (M', r) ∧ f_X0_layout h pg x = some (h', r) ∧ SIM M' h' pg w v ∧ RU h' u := by
  have S0 := S
  obtain ⟨⟨hT, hY⟩, ⟨p1, p2, p3, p4, p5, p6, p7⟩, hs⟩ := S
  have hk1 := p1.1.1
  have hlt := p1.lt
  have h21 := p1.2.1.2.2.2.2
  by_cases hx : 1 ≤ x ∧ x ≤ 64
  · cases ho : (w.foldl lx lx0).2.2.2 with
    | none =>
      rw [ho] at hs
      obtain ⟨b1, b2, b3, b4, b5⟩ := hs
      exact ⟨M, h, -1, m_layout_no (Or.inr (Or.inr b1)) x1 x2, layout_no (Or.inr (Or.inr ⟨hk1, b2.1⟩)) x1 x2, S0, hR.mono (by omega)⟩
    | some T =>
      rw [ho] at hs
      obtain ⟨⟨e8, eS⟩, hRep, φ, HB, HC, HL⟩ := hs
      obtain ⟨LI1, TC1⟩ := TC.all w hT.2.2.2
      have hW := (LI1.2.2.2 T ho).1
      have hK : tK T ≤ 160 := by have := (LI1.2.2.2 T ho).2; have := hT.2.2.1; omega
      obtain ⟨ok1, ok2, ok3, ok4⟩ := rules_ok hY
      obtain ⟨C, hC⟩ := ch_ex hRep hK
      have hX := tx_ok (TC1 T ho)
      have hIS := isP_b hC hW
      obtain ⟨Wd, Lf, tl, tp, Q⟩ := lay_ex hW ok1 x
      obtain ⟨M', m1, m2, m3⟩ := m_layout_eq hY hRep hC hW ok1 ok2 hX hIS Q hx
      have hF : pI h pg 16 = 0 ∨ (pI h pg 16 = 1 ∧ VS h pg φ T ((rulE v).map (rlE v)) (tN T)) := by
        rcases HL with z | z
        · exact Or.inl z.1
        · exact Or.inr ⟨z.1, z.2.1⟩
      obtain ⟨h', l1, l2, l3, l4, l5, l6, l7, l8, l9⟩ := layout_p (PX := mPX M' T C) (PY := mPY M' T C) HB hW ok3 ok1 ok2 hX hIS Q hx p2 p4.1 (by rw [← ok4]; exact p4.2.1) hF hR p3 m3.xy
      have AW := l2.w hk1 (by omega)
      have HC' : CntP h' pg φ T := by
        obtain ⟨n3, n4, n5, n6⟩ := AW.cnt p1
        unfold CntP at HC ⊢
        rw [n3, n4, n5, n6]; exact HC
      refine ⟨M', h', tl 0, m1, l1, ⟨⟨hT.fz m2, hY.fz m2⟩, ⟨(p1.agw AW).1, l3, l8, p4.agq l2 hk1, p5, ?_, by rw [l7 9 (by omega) (by omega)]; exact p7⟩, ?_⟩, l5⟩
      · rw [l2.i (by omega) (by rw [p4.1.1.2.1]; unfold qP; omega)]; exact p6
      · rw [ho]
        exact ⟨⟨by rw [l7 8 (by omega) (by omega)]; exact e8, by rw [l7 10 (by omega) (by omega), l7 11 (by omega) (by omega)]; exact eS⟩, m2.rep hRep, φ, HB.agw hW.stk AW, HC', Or.inr ⟨l6, l4, Or.inr ⟨C, Wd, Lf, tl, tp, x, hx, Q, m3, l9⟩⟩⟩
  · refine ⟨M, h, -1, m_layout_no (by omega) x1 x2, layout_no ?_ x1 x2, S0, hR.mono (by omega)⟩
    by_cases z : x < 1
    · exact Or.inl z
    · exact Or.inr (Or.inl (by omega))
/-- whether a layout stands -/
theorem sim_ld (S : SIM M h pg w v) : (M.1 37 = 0 ∧ pI h pg 17 = 0) ∨ ∃ T φ C Wd Lf tl tp vw, (w.foldl lx lx0).2.2.2 = some T ∧ (WF T ∧ TC T ∧ tK T ≤ 160) ∧ RepB h pg φ T ∧ pI h pg 16 = 1 ∧ VS h pg φ T ((rulE v).map (rlE v)) (tN T) ∧ (1 ≤ vw ∧ vw ≤ 64) ∧ LQ T ((rulE v).map (rlE v)) vw Wd Lf tl tp ∧ LaidM M T ((rulE v).map (rlE v)) C Wd Lf tl tp vw ∧ LaidP h pg φ T ((rulE v).map (rlE v)) Wd Lf tl tp (mPX M T C) (mPY M T C) vw := by
  obtain ⟨⟨hT, hY⟩, P, hs⟩ := S
  cases ho : (w.foldl lx lx0).2.2.2 with
  | none =>
    rw [ho] at hs
    exact Or.inl ⟨hs.2.2.1, hs.2.2.2.1⟩
  | some T =>
    rw [ho] at hs
    obtain ⟨⟨e8, eS⟩, hRep, φ, HB, HC, HL⟩ := hs
    obtain ⟨LI1, TC1⟩ := TC.all w hT.2.2.2
    have hW := (LI1.2.2.2 T ho).1
    have hK : tK T ≤ 160 := by have := (LI1.2.2.2 T ho).2; have := hT.2.2.1; omega
    rcases HL with z | ⟨z1, z2, z | ⟨C, Wd, Lf, tl, tp, vw, q1, q2, q3, q4⟩⟩
    · exact Or.inl ⟨z.2.1, z.2.2⟩
    · exact Or.inl z
    · exact Or.inr ⟨T, φ, C, Wd, Lf, tl, tp, vw, rfl, ⟨hW, TC1 T ho, hK⟩, HB, z1, z2, q1, q2, q3, q4⟩
/-- a page that has been laid out is as its painting left it -/
theorem sim_pe (S : SIM M h pg w v) (hW : WF T) (HB : RepB h pg φ T) (hV : VS h pg φ T ((rulE v).map (rlE v)) (tN T)) : PE h pg φ T ((rulE v).map (rlE v)) := ⟨HB, fun n hn hm => (hV.2 n hn).2 hm, S.2.1.2.2.1.2.1⟩
theorem refresh_1 (hk : pK h pg = 1) (h16 : pI h pg 16 = 1) : f_X0_refresh h pg = some h := by
  unfold f_X0_refresh
  rw [gd_c hk, h16, if_eqn (by omega) (by omega) (by omega) (by omega) (by omega)]
/-- a node of a page that has been laid out -/
theorem ld_nd (S : SIM M h pg w v) (hW : WF T) (HB : RepB h pg φ T) (h16 : pI h pg 16 = 1) (hV : VS h pg φ T ((rulE v).map (rlE v)) (tN T)) (hRep : RepM M T) (x1 : -2147483648 ≤ x) (x2 : x < 2147483648) : (f_X0_node h pg x = some (h, none) ∧ m_none M x = some 1) ∨ ∃ n : Nat, x = (n : Int) ∧ n < tN T ∧ f_X0_node h pg x = some (h, some (φ (ioP T n))) := by
  have hk1 := S.2.1.1.1.1
  have hO := S.2.1.2.1
  have r1 := refresh_1 hk1 h16
  by_cases hx : x < 0 ∨ (tN T : Int) ≤ x
  · have hlen : (pL h (pg + 16)).length = tN T := by rw [hV.1, List.length_map, List.take_of_length_le (by rw [hW.1.2.2.1]; exact Nat.le_refl _), hW.1.2.2.1]
    exact Or.inl ⟨node_out hk1 r1 hk1 hO (by rw [hlen]; exact hx) x1 x2, mnone_out hRep hW hx x1 x2⟩
  · obtain ⟨n, hn⟩ : ∃ n : Nat, x = (n : Int) := ⟨x.toNat, by omega⟩
    subst hn
    exact Or.inr ⟨n, rfl, by omega, node_in hk1 r1 HB hW hO hV (by omega)⟩
theorem op_box (S : SIM M h pg w v) (x1 : -2147483648 ≤ x) (x2 : x < 2147483648) (y1 : -2147483648 ≤ y) (y2 : y < 2147483648) : ∃ r, m_box M x y = some r ∧ f_X0_box h pg x y = some (h, r) := by
  have hk1 := S.2.1.1.1.1
  rcases sim_ld S with z | ⟨T, φ, C, Wd, Lf, tl, tp, vw, ho, ⟨hW, hTC, hK⟩, HB, h16, hV, hvw, Q, LM1, LP1⟩
  · exact ⟨-1, m_box_no (Or.inl z.1) (Or.inl z.1), box_0 hk1 z.2⟩
  · have h37 := LM1.2.2.2.1.1
    have h17 := LP1.2.2.2.1
    obtain ⟨ok1, ok2, ok3, ok4⟩ := rules_ok S.1.2
    rcases ld_nd S hW HB h16 hV LM1.1.1 x1 x2 with s4 | ⟨n, rfl, hn, hnd⟩
    · exact ⟨-1, m_box_no (Or.inr s4.2) (Or.inr h37), box_none hk1 (by omega) (inner_none hk1 s4.1)⟩
    · refine ⟨_, m_box_in LM1 hW ok1 hn y1 y2, ?_⟩
      by_cases hm : nmQ T n = 1
      · have hE := HB.txc (io_lt hW hn) hm
        have hbf : ¬ bxP T ((rulE v).map (rlE v)) n = true := fun z => (bx_d z).1 hm
        rw [if_neg hbf]
        exact box_none hk1 (by omega) (inner_not hk1 hnd hE.1)
      · have hE := HB.elc (io_lt hW hn) hm
        exact box_in hk1 (by omega) (inner_some hk1 hnd hE.1) (sim_pe S hW HB hV) hW ok2 hn hm (fun hb => LP1.1 n hn hb) y1 y2
theorem op_place (S : SIM M h pg w v) (x1 : -2147483648 ≤ x) (x2 : x < 2147483648) (y1 : -2147483648 ≤ y) (y2 : y < 2147483648) : ∃ r, m_place M x y = some r ∧ f_X0_place h pg x y = some (h, r) := by
  have hk1 := S.2.1.1.1.1
  rcases sim_ld S with z | ⟨T, φ, C, Wd, Lf, tl, tp, vw, ho, ⟨hW, hTC, hK⟩, HB, h16, hV, hvw, Q, LM1, LP1⟩
  · have hf : ∃ r, m_find M x y = some r := by
      have hs := S.2.2
      cases ho : (w.foldl lx lx0).2.2.2 with
      | none =>
        rw [ho] at hs
        exact ⟨_, mfind_1 (mnone_b hs.1)⟩
      | some T =>
        rw [ho] at hs
        obtain ⟨-, hRep, -⟩ := hs
        obtain ⟨LI1, TC1⟩ := TC.all w S.1.1.2.2.2
        have hW := (LI1.2.2.2 T ho).1
        have hK : tK T ≤ 160 := by have := (LI1.2.2.2 T ho).2; have := S.1.1.2.2.1; omega
        obtain ⟨C, hC⟩ := ch_ex hRep hK
        by_cases hx : x < 0 ∨ (tN T : Int) ≤ x
        · exact ⟨_, mfind_1 (mnone_out hRep hW hx x1 x2)⟩
        · obtain ⟨n, hn⟩ : ∃ n : Nat, x = (n : Int) := ⟨x.toNat, by omega⟩
          subst hn
          by_cases hm : nmQ T n ≠ 1 ∨ y < 0
          · exact ⟨_, mfind_neg hRep hW (by omega) hm y1 y2⟩
          · exact ⟨_, mfind_in hRep hC hW (by omega) (by
              by_cases q : nmQ T n = 1
              · exact q
              · exact (hm (Or.inl q)).elim) (by
              by_cases q : y < 0
              · exact (hm (Or.inr q)).elim
              · omega) y2⟩
    obtain ⟨r, hr⟩ := hf
    exact ⟨-1, m_place_0 z.1 hr, place_0 hk1 z.2⟩
  · have h37 := LM1.2.2.2.1.1
    have h17 := LP1.2.2.2.1
    rcases ld_nd S hW HB h16 hV LM1.1.1 x1 x2 with s4 | ⟨n, rfl, hn, hnd⟩
    · exact ⟨-1, m_place_no (mfind_1 s4.2) (Or.inr h37), place_none hk1 (by omega) (text_none hk1 s4.1)⟩
    · by_cases hm : nmQ T n = 1
      · have hE := HB.txc (io_lt hW hn) hm
        refine ⟨_, ?_, placeQ_in hk1 (by omega) (text_some hk1 hnd hE.1) (sim_pe S hW HB hV) hW hn hm (fun k hk => LP1.2.1 n k hn hm hk) y1 y2⟩
        by_cases z : y < 0
        · rw [if_neg (by omega)]
          exact m_place_no (mfind_neg LM1.1.1 hW hn (Or.inr z) y1 y2) (Or.inr h37)
        · rw [m_place_in LM1 hW hn hm (by omega) y2]
          congr 1
          by_cases q : y.toNat < (txP T n).length
          · rw [if_pos q, if_pos ⟨by omega, q⟩]
          · rw [if_neg q, if_neg (fun z => q z.2)]
      · have hE := HB.elc (io_lt hW hn) hm
        have ht : f_X0_text h pg (n : Int) = some (h, none) := by
          unfold f_X0_text
          rw [gd_c hk1, hnd, obind_some, gd_c (by exact Or.inr ⟨by show isN (pK h (φ (ioP T n))); rw [hE.1]; decide, Or.inl rfl⟩)]
          have : kiso h (some (φ (ioP T n))) 3 = 0 := by
            unfold kiso kis
            rw [if_neg (by simp), Option.getD_some, hE.1, if_neg (by omega)]
          simp only []
          rw [this, if_eqp rfl]
        exact ⟨-1, m_place_no (mfind_neg LM1.1.1 hW hn (Or.inl hm) y1 y2) (Or.inr h37), place_none hk1 (by omega) ht⟩
theorem op_lines (S : SIM M h pg w v) : ∃ r, m_lines M = some r ∧ f_X0_lines h pg = some r := by
  have hk1 := S.2.1.1.1.1
  have hRc := S.2.1.2.2.1
  rcases sim_ld S with z | ⟨T, φ, C, Wd, Lf, tl, tp, vw, ho, ⟨hW, hTC, hK⟩, HB, h16, hV, hvw, Q, LM1, LP1⟩
  · refine ⟨-1, ?_, ?_⟩
    · rw [m_lines_eq (Or.inl z.1), if_pos z.1]
    · rw [lines_p hk1 (by omega) hRc, if_pos z.2]
  · have h37 := LM1.2.2.2.1.1
    have h17 := LP1.2.2.2.1
    refine ⟨_, m_lines_eq (Or.inr h37), ?_⟩
    rw [lines_p hk1 (by omega) hRc, if_neg (by omega), if_neg (by omega), LM1.2.2.2.1.2.2, LP1.2.2.1]
theorem op_pixel (S : SIM M h pg w v) (x1 : -2147483648 ≤ x) (x2 : x < 2147483648) (y1 : -2147483648 ≤ y) (y2 : y < 2147483648) : ∃ r, m_pixel M x y = some r ∧ f_X0_pixel h pg x y = some r := by
  have hk1 := S.2.1.1.1.1
  have hRc := S.2.1.2.2.1
  rcases sim_ld S with z | ⟨T, φ, C, Wd, Lf, tl, tp, vw, ho, ⟨hW, hTC, hK⟩, HB, h16, hV, hvw, Q, LM1, LP1⟩
  · refine ⟨-1, m_pixel_no (v := 1) (Or.inl z.1) (fun q => by omega) (Or.inl z.1) x1 x2 y1 y2, pixel_no hk1 (by omega) ?_ x1 x2 y1 y2⟩
    rw [z.2]; omega
  · have h37 := LM1.2.2.2.1.1
    have h38 := LM1.2.2.2.1.2.1
    have h17 := LP1.2.2.2.1
    obtain ⟨ok1, ok2, ok3, ok4⟩ := rules_ok S.1.2
    have hIS := isP_b LM1.1.2.2.2 hW
    by_cases hin : 0 ≤ x ∧ x < vw ∧ 0 ≤ y ∧ y ≤ 63
    · obtain ⟨a, ha⟩ : ∃ a : Nat, x = (a : Int) := ⟨x.toNat, by omega⟩
      obtain ⟨b, hb⟩ : ∃ b : Nat, y = (b : Int) := ⟨y.toNat, by omega⟩
      subst ha hb
      refine ⟨_, m_pixel_in LM1 hW ok1 ok2 (LM1.sm hW ok1 ok2 hIS Q hvw) hvw (by omega) (by omega), ?_⟩
      rw [pixel_in hk1 hvw h17 hRc (by omega) (by omega), LP1.2.2.2.2 a b (by omega) (by omega)]
    · refine ⟨-1, m_pixel_no (v := vw) (Or.inr h37) (fun _ => ⟨h38, hvw⟩) (by omega) x1 x2 y1 y2, pixel_no hk1 (by omega) ?_ x1 x2 y1 y2⟩
      rw [h17]; omega
end SM
