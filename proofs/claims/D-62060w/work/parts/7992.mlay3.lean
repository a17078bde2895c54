/-! the reference: a word, and the whole run -/
set_option maxRecDepth 100000
section ML
variable {M M' M0 M1 : MS} {L : List RK} {q : Nat → Nat} {i j n f : Nat} {bd g gm u t l W frm X : Int} {cx cy : Nat → Int}
theorem MR.wrd (hO : OKL L) (R0 : RnM M0 L q) (Z0 : SzM M0 L) (B0 : BdM M0 n bd) (hn : n < 40) (hW : M0.2 44 n = W) (hW1 : -1 ≤ W ∧ W ≤ 1000) (hX : X = M0.2 43 n + bd) (hB : LB L (i, f, u, g, t, l, cx, cy)) (H : MR M0 n L q X frm (i, f, u, g, t, l, cx, cy) M) (hi : i < L.length) (k2 : rkk L i = 2) (hG : GR u g gm) : ∃ M', iter (fun (z : MS × Int × Int × Int) => m_lay_18s z.1 (n : Int) z.2.1 z.2.2.1 z.2.2.2) (M, (i : Int), gm, (i : Int)) = iter (fun (z : MS × Int × Int × Int) => m_lay_18s z.1 (n : Int) z.2.1 z.2.2.1 z.2.2.2) (M', ((wEnd L i : Nat) : Int), 0, ((wEnd L i : Nat) : Int)) ∧ MR M0 n L q X frm (lstep W L (i, f, u, g, t, l, cx, cy)) M' := by
  have h183 := hO.1
  obtain ⟨b1, b2, b3, b4, b5, b6, b7, b8, b9, b10, b11, b12, b13, b14, b15, b16⟩ := hB
  obtain ⟨A, ⟨m53, m55, m56, m57, m39⟩, ⟨lf, l1, l2, l3⟩, m4, m5, m6, m7⟩ := H
  obtain ⟨g1, g2, g3⟩ := hG
  have R := R0.fl A
  have Z := Z0.fl A
  have B := B0.fl A
  have hw1 := wEnd_gt hi k2
  have hw2 := wEnd_le (L := L) (i := i) (by omega)
  have hs := sumS_b (i := i) hO (wEnd L i - i) (by omega)
  have hin : ∀ k, i ≤ k → k < wEnd L i → rkk L k = 2 := fun k k1 k3 => (wEnd_in k1 k3).2
  have hhj := hgh_b (f := i) (m := 0) hO (by omega) (wEnd L i - i) (by omega)
  have hhf := hgh_b (f := f) (m := 0) hO (by omega) (i - f) (by omega)
  have hat2 : wEnd L i = L.length ∨ rkk L (wEnd L i) ≠ 2 := by
    by_cases z : wEnd L i < L.length
    · exact Or.inr (wEnd_at (by omega) z)
    · exact Or.inl (by omega)
  have hg : ¬ u < 0 → gm = g := fun z => by
    have h1 := g3 z
    have : ¬ g < 0 := fun y => by rcases b13 z y with w | w; omega; exact w k2
    rw [if_neg this] at h1; exact h1
  -- the word is put
  have put : ∃ M', m_putWord M (n : Int) (i : Int) ((wEnd L i : Nat) : Int) gm = some M' ∧ MR M0 n L q X frm (lstep W L (i, f, u, g, t, l, cx, cy)) M' := by
    rw [putWord9 hO Z hw2 (by omega) hin]
    unfold m_putWord_52
    rw [m57]
    by_cases hc : ¬ u < 0 ∧ W < u + g + sumS L i (wEnd L i - i)
    · -- a new line
      rw [if_neg hc.1, if_eqn (by omega) (by omega) (by omega) (by omega) (by omega), gd_zin (by omega) (by omega) (by omega), zix_nat (by omega), A.2 44 (by simp), hW, m55, if_neg hc.1, hg hc.1]
      have hgg := hg hc.1
      rw [if_ltp hc.2 (by omega) (by omega)]
      obtain ⟨M1, e1, e2, ⟨e3, e4, e5, e6, e7, e8⟩, ⟨e9, e10, e11⟩, e12, e13⟩ := m_endLine_eq (a := i) (lf := lf) hO R Z (by omega) (by omega) l1
      rw [e1, obind_some]
      obtain ⟨M', p1, p2, ⟨p3, p4, p5, p6, p7, p8⟩, p9, p10, p11⟩ := putWord83 (M := M1) (i := i) (j := wEnd L i) (g := g) (x6 := hgh L i 0 (wEnd L i - i)) (x0 := 0) hO (R.fl e2) (Z.fl e2) (B.fl e2) hn hw2 (by omega) hin (Or.inl e8) (by rw [if_pos e8]) (by omega) (by omega)
      refine ⟨M', p1, ?_⟩
      unfold lstep
      simp only []
      rw [if_neg (by omega), if_neg (by omega), if_pos hc]
      refine ⟨(A.trans e2).trans p2, ⟨by rw [p3, e3]; omega, by rw [p6, if_neg (by omega)]; omega, by rw [p7, e7]; omega, by rw [p8, if_neg (by omega)], by rw [p4, e4]; omega⟩, ⟨i, by rw [p5]; exact e5, Nat.le_refl _, fun k y1 y2 => by omega⟩, fun z => by omega, fun j' j1 j2 => ?_, fun j' j1 j2 => ?_, fun x hx => ?_⟩
      · by_cases y : i ≤ j'
        · obtain ⟨p12, p13, p14⟩ := p10 j' y j1
          have h43 : M1.2 43 n = M0.2 43 n := by rw [e2.2 43 (by simp), A.2 43 (by simp)]
          refine ⟨p12, ?_, p14⟩
          rw [p13, h43, hX]
          unfold wdX
          rw [if_pos ⟨y, j1⟩]
        · obtain ⟨p12, p13, p14⟩ := p11 (q j') (fun k' y1 y2 y3 => by have := R.2.2 k' j' (by omega) (by omega) (hin k' y1 y2) j2 y3; omega)
          have e : wdX L i (wEnd L i) 0 cx j' = cx j' := by unfold wdX; rw [if_neg (by omega)]
          rw [p12, p13, p14, e9, e10, e11, e]
          exact m5 j' (by omega) j2
      · rw [p9]
        unfold lnY
        by_cases z : f ≤ j' ∧ j' < i
        · rw [if_pos z, e12 j' (by omega) z.2 j2, m53, m56]; omega
        · rw [if_neg z, e13 (q j') (fun k y1 y2 y3 y4 => by
            have := R.2.2 k j' (by omega) (by omega) y3 j2 y4
            by_cases y : k < f
            · have := l3 k y1 y; omega
            · omega)]
          exact m6 j' (by omega) j2
      · obtain ⟨p12, p13, p14⟩ := p11 x (fun k' y1 y2 => hx k' y2 (hin k' y1 y2))
        rw [p12, p13, p14, p9, e9, e10, e11, e13 x (fun k y1 y2 y3 => hx k (by omega) y3)]
        exact m7 x (fun j' j1 j2 => hx j' (by omega) j2)
    · -- the same line
      have e83 : (if zI (if u < 0 then 0 else 1) = zI 0 then m_putWord_83 M (n : Int) (i : Int) ((wEnd L i : Nat) : Int) gm (hgh L i 0 (wEnd L i - i)) else gd (zin (n : Int) 40) (if zI (M.2 44 (zix (n : Int))) < zI (((M.1 55) + gm) + sumS L i (wEnd L i - i)) then Option.bind (m_endLine M (i : Int)) (fun y3 => m_putWord_83 y3 (n : Int) (i : Int) ((wEnd L i : Nat) : Int) gm (hgh L i 0 (wEnd L i - i))) else m_putWord_83 M (n : Int) (i : Int) ((wEnd L i : Nat) : Int) gm (hgh L i 0 (wEnd L i - i)))) = m_putWord_83 M (n : Int) (i : Int) ((wEnd L i : Nat) : Int) gm (hgh L i 0 (wEnd L i - i)) := by
        by_cases z : u < 0
        · rw [if_pos z, if_eqp rfl]
        · have hgg := hg z
          have hnc : ¬ W < u + g + sumS L i (wEnd L i - i) := fun y => hc ⟨z, y⟩
          rw [if_neg z, if_eqn (by omega) (by omega) (by omega) (by omega) (by omega), gd_zin (by omega) (by omega) (by omega), zix_nat (by omega), A.2 44 (by simp), hW, m55, if_neg z, hgg, if_ltn (by omega) (by omega) (by omega)]
      rw [e83]
      obtain ⟨u0, hu⟩ : ∃ u0 : Int, u0 = if u < 0 then 0 else u + g := ⟨_, rfl⟩
      have h57 : M.1 57 = 0 ∨ M.1 57 = 1 := by rw [m57]; split <;> simp
      obtain ⟨M', p1, p2, ⟨p3, p4, p5, p6, p7, p8⟩, p9, p10, p11⟩ := putWord83 (M := M) (i := i) (j := wEnd L i) (g := gm) (x6 := hgh L i 0 (wEnd L i - i)) (x0 := u0) hO R Z B hn hw2 (by omega) hin h57 (by
        rw [m57, m55, hu]
        by_cases z : u < 0
        · rw [if_pos z, if_pos z, if_pos rfl]
        · rw [if_neg z, if_neg z, if_neg z, if_neg (by omega), hg z]) (by omega) (by omega)
      have hu0 : 0 ≤ u0 := by
        rw [hu]
        split
        · omega
        · next z => have := hg z; omega
      refine ⟨M', p1, ?_⟩
      unfold lstep
      simp only []
      rw [if_neg (by omega), if_neg (by omega), if_neg hc, ← hu]
      refine ⟨A.trans p2, ⟨by rw [p3]; exact m53, by rw [p6, if_neg (by omega)], ?_, by rw [p8, if_neg (by omega)], by rw [p4]; exact m39⟩, ⟨lf, by rw [p5]; exact l1, l2, l3⟩, fun z => by omega, fun j' j1 j2 => ?_, fun j' j1 j2 => ?_, fun x hx => ?_⟩
      · have e1 : wEnd L i - f = (i - f) + (wEnd L i - i) := by omega
        rw [p7, m56, e1, hgh_app, show f + (i - f) = i by omega, hgh_max (wEnd L i - i) hhf.1]
      · by_cases y : i ≤ j'
        · obtain ⟨p12, p13, p14⟩ := p10 j' y j1
          refine ⟨p12, ?_, p14⟩
          rw [p13, A.2 43 (by simp), hX]
          unfold wdX
          rw [if_pos ⟨y, j1⟩]
        · obtain ⟨p12, p13, p14⟩ := p11 (q j') (fun k' y1 y2 y3 => by have := R.2.2 k' j' (by omega) (by omega) (hin k' y1 y2) j2 y3; omega)
          have e : wdX L i (wEnd L i) u0 cx j' = cx j' := by unfold wdX; rw [if_neg (by omega)]
          rw [p12, p13, p14, e]
          exact m5 j' (by omega) j2
      · rw [p9]; exact m6 j' j1 j2
      · obtain ⟨p12, p13, p14⟩ := p11 x (fun k' y1 y2 => hx k' y2 (hin k' y1 y2))
        rw [p12, p13, p14, p9]
        exact m7 x (fun j' j1 j2 => hx j' (by omega) j2)
  obtain ⟨M', p1, p2⟩ := put
  refine ⟨M', ?_, p2⟩
  have hF : FLn M0 M' := by
    have := p2
    generalize lstep W L (i, f, u, g, t, l, cx, cy) = S at this
    obtain ⟨s1, s2, s3, s4, s5, s6, s7, s8⟩ := S
    exact this.1
  have e1 := iter_to (f := fun (z : MS × Int × Int × Int) => m_lay_18s z.1 (n : Int) z.2.1 z.2.2.1 z.2.2.2) (fun k => (M, (i : Int), gm, ((k : Nat) : Int))) (a := i) (b := wEnd L i) (by omega) (fun k y1 y2 => lay_ink hO R (wEnd_in y1 y2).1 (hin k y1 y2))
  rw [e1]
  exact iter_cg (lay_word hO R hw1 hw2 hat2 p1 (R0.fl hF))
/-- all steps -/
theorem mlay_loop (hO : OKL L) (R0 : RnM M0 L q) (Z0 : SzM M0 L) (B0 : BdM M0 n bd) (hn : n < 40) (hW : M0.2 44 n = W) (hW1 : -1 ≤ W ∧ W ≤ 1000) (hX : X = M0.2 43 n + bd) : ∀ (d : Nat) (S : LST) (M : MS) (gm : Int), L.length ≤ S.1 + d → LB L S → MR M0 n L q X frm S M → GR S.2.2.1 S.2.2.2.1 gm → ∃ M' gm', iter (fun (z : MS × Int × Int × Int) => m_lay_18s z.1 (n : Int) z.2.1 z.2.2.1 z.2.2.2) (M, (S.1 : Int), gm, (S.1 : Int)) = iter (fun (z : MS × Int × Int × Int) => m_lay_18s z.1 (n : Int) z.2.1 z.2.2.1 z.2.2.2) (M', (L.length : Int), gm', (L.length : Int)) ∧ MR M0 n L q X frm (lrun W L d S) M' ∧ 0 ≤ gm' ∧ gm' ≤ 9 := by
  intro d
  induction d with
  | zero =>
    intro S M gm hd hB H hG
    obtain ⟨i, f, u, g, t, l, cx, cy⟩ := S
    have hi : i = L.length := by have := hB.1; simp only [] at hd; omega
    exact ⟨M, gm, by simp only [hi], H, hG.1, hG.2.1⟩
  | succ d ih =>
    intro S M gm hd hB H hG
    unfold lrun
    by_cases hi : S.1 < L.length
    · rw [if_pos hi]
      have hst := hB.step (W := W) hO hi
      obtain ⟨i, f, u, g, t, l, cx, cy⟩ := S
      simp only [] at hi hd hG hst
      have hat := hO.at hi
      by_cases k0 : rkk L i = 0
      · obtain ⟨M1, a1, a2, a3⟩ := MR.brk (W := W) hO R0 Z0 hB H hi k0 hG
        have e : (lstep W L (i, f, u, g, t, l, cx, cy)).1 = i + 1 ∧ (lstep W L (i, f, u, g, t, l, cx, cy)).2.2.1 = -1 ∧ (lstep W L (i, f, u, g, t, l, cx, cy)).2.2.2.1 = -1 := by
          unfold lstep
          simp only []
          rw [if_pos k0]
          exact ⟨rfl, rfl, rfl⟩
        obtain ⟨M', gm', c1, c2⟩ := ih (lstep W L (i, f, u, g, t, l, cx, cy)) M1 gm (by rw [e.1]; omega) hst.1 a2 (by rw [e.2.1, e.2.2]; exact a3)
        rw [e.1] at c1
        exact ⟨M', gm', by rw [iter_in a1]; exact c1, c2⟩
      · by_cases k1 : rkk L i = 1
        · obtain ⟨gm1, a1, a2, a3⟩ := MR.bln (W := W) hO R0 Z0 hB H hi k1 hG
          have e : (lstep W L (i, f, u, g, t, l, cx, cy)).1 = i + 1 ∧ (lstep W L (i, f, u, g, t, l, cx, cy)).2.2.1 = u ∧ (lstep W L (i, f, u, g, t, l, cx, cy)).2.2.2.1 = (if g < 0 then rsz L i else g) := by
            unfold lstep
            simp only []
            rw [if_neg k0, if_pos k1]
            exact ⟨rfl, rfl, rfl⟩
          obtain ⟨M', gm', c1, c2⟩ := ih (lstep W L (i, f, u, g, t, l, cx, cy)) M gm1 (by rw [e.1]; omega) hst.1 a2 (by rw [e.2.1, e.2.2]; exact a3)
          rw [e.1] at c1
          exact ⟨M', gm', by rw [iter_in a1]; exact c1, c2⟩
        · have k2 : rkk L i = 2 := by omega
          obtain ⟨M1, a1, a2⟩ := MR.wrd (W := W) hO R0 Z0 B0 hn hW hW1 hX hB H hi k2 hG
          have hw1 := wEnd_gt hi k2
          have e : (lstep W L (i, f, u, g, t, l, cx, cy)).1 = wEnd L i ∧ (lstep W L (i, f, u, g, t, l, cx, cy)).2.2.2.1 = -1 := by
            unfold lstep
            simp only []
            rw [if_neg k0, if_neg k1]
            split <;> exact ⟨rfl, rfl⟩
          obtain ⟨M', gm', c1, c2⟩ := ih (lstep W L (i, f, u, g, t, l, cx, cy)) M1 0 (by rw [e.1]; omega) hst.1 a2 ⟨by omega, by omega, fun z => by rw [e.2, if_pos (by omega)]⟩
          rw [e.1] at c1
          exact ⟨M', gm', by simp only []; rw [a1]; exact c1, c2⟩
    · rw [if_neg hi]
      obtain ⟨i, f, u, g, t, l, cx, cy⟩ := S
      have hi' : i = L.length := by have := hB.1; simp only [] at hi; omega
      exact ⟨M, gm, by simp only [hi'], H, hG.1, hG.2.1⟩
/-- a run, laid out -/
theorem m_lay_eq (hO : OKL L) (R0 : RnM M0 L q) (Z0 : SzM M0 L) (B0 : BdM M0 n bd) (hn : n < 40) (hW : M0.2 44 n = W) (hW1 : -1 ≤ W ∧ W ≤ 1000) : ∃ M', m_lay M0 (n : Int) frm = some (M', frm + (FL W L).1) ∧ FLn M0 M' ∧ M'.1 39 = M0.1 39 + (FL W L).2.1 ∧ (∀ j, j < L.length → rkk L j = 2 → M'.2 47 (q j) = 1 ∧ M'.2 48 (q j) = M0.2 43 n + bd + (FL W L).2.2.1 j ∧ M'.2 50 (q j) = (n : Int) ∧ M'.2 49 (q j) = frm + (FL W L).2.2.2 j) ∧ ∀ x, (∀ j, j < L.length → rkk L j = 2 → q j ≠ x) → M'.2 47 x = M0.2 47 x ∧ M'.2 48 x = M0.2 48 x ∧ M'.2 49 x = M0.2 49 x ∧ M'.2 50 x = M0.2 50 x := by
  have h183 := hO.1
  unfold m_lay m_newLine
  simp only [bnd_eq, obind_some]
  have A1 : FLn M0 (sI (sI (sI (sI (sI M0 53 frm) 54 0) 55 0) 56 0) 57 0) := (((((FLn.refl M0).wsI (k := 53) (by simp) _).wsI (k := 54) (by simp) _).wsI (k := 55) (by simp) _).wsI (k := 56) (by simp) _).wsI (k := 57) (by simp) _
  have H0 : MR M0 n L q (M0.2 43 n + bd) frm LST0 (sI (sI (sI (sI (sI M0 53 frm) 54 0) 55 0) 56 0) 57 0) := by
    unfold LST0
    refine ⟨A1, ⟨by simp (disch := omega) only [if_ltp, if_ltn, if_eqp, if_eqn, if_T, if_F, gd_zin, gd_isB0, gd_isB1, zix_toNat, Int.toNat_natCast, tn_a1, tn_a, tn_s1, tn_s, tn_m1, tn_l0, tn_l1, bnd_eq, obind_some, mr_some, sI_s, sI_n, sI_2, sA_1, sA_s, sA_i, sA_n]; omega, by simp (disch := omega) only [if_ltp, if_ltn, if_eqp, if_eqn, if_T, if_F, gd_zin, gd_isB0, gd_isB1, zix_toNat, Int.toNat_natCast, tn_a1, tn_a, tn_s1, tn_s, tn_m1, tn_l0, tn_l1, bnd_eq, obind_some, mr_some, sI_s, sI_n, sI_2, sA_1, sA_s, sA_i, sA_n]; rfl, by simp (disch := omega) only [if_ltp, if_ltn, if_eqp, if_eqn, if_T, if_F, gd_zin, gd_isB0, gd_isB1, zix_toNat, Int.toNat_natCast, tn_a1, tn_a, tn_s1, tn_s, tn_m1, tn_l0, tn_l1, bnd_eq, obind_some, mr_some, sI_s, sI_n, sI_2, sA_1, sA_s, sA_i, sA_n]; rfl, by simp (disch := omega) only [if_ltp, if_ltn, if_eqp, if_eqn, if_T, if_F, gd_zin, gd_isB0, gd_isB1, zix_toNat, Int.toNat_natCast, tn_a1, tn_a, tn_s1, tn_s, tn_m1, tn_l0, tn_l1, bnd_eq, obind_some, mr_some, sI_s, sI_n, sI_2, sA_1, sA_s, sA_i, sA_n]; rfl, by simp (disch := omega) only [if_ltp, if_ltn, if_eqp, if_eqn, if_T, if_F, gd_zin, gd_isB0, gd_isB1, zix_toNat, Int.toNat_natCast, tn_a1, tn_a, tn_s1, tn_s, tn_m1, tn_l0, tn_l1, bnd_eq, obind_some, mr_some, sI_s, sI_n, sI_2, sA_1, sA_s, sA_i, sA_n]; omega⟩, ⟨0, by simp (disch := omega) only [if_ltp, if_ltn, if_eqp, if_eqn, if_T, if_F, gd_zin, gd_isB0, gd_isB1, zix_toNat, Int.toNat_natCast, tn_a1, tn_a, tn_s1, tn_s, tn_m1, tn_l0, tn_l1, bnd_eq, obind_some, mr_some, sI_s, sI_n, sI_2, sA_1, sA_s, sA_i, sA_n]; rfl, by omega, fun k y1 y2 => by omega⟩, fun _ k y1 y2 => by omega, fun j j1 => by omega, fun j j1 => by omega, fun x _ => ⟨rfl, rfl, rfl, rfl⟩⟩
  obtain ⟨M1, gm1, c1, c2, c3, c4⟩ := mlay_loop (W := W) (bd := bd) (frm := frm) hO R0 Z0 B0 hn hW hW1 rfl L.length LST0 _ 0 (by omega) (LB0 L) H0 ⟨by omega, by omega, fun z => by unfold LST0 at z; simp at z⟩
  obtain ⟨hB, hi⟩ := LB.run (W := W) hO L.length LST0 (LB0 L) (by omega)
  have c1' : m_lay_18 (sI (sI (sI (sI (sI M0 53 frm) 54 0) 55 0) 56 0) 57 0) (n : Int) 0 0 0 = iter (fun (z : MS × Int × Int × Int) => m_lay_18s z.1 (n : Int) z.2.1 z.2.2.1 z.2.2.2) (M1, (L.length : Int), gm1, (L.length : Int)) := c1
  rw [c1']
  have hFL : FL W L = lfin L (lrun W L L.length LST0) := rfl
  rw [hFL]
  generalize lrun W L L.length LST0 = S at *
  obtain ⟨i, f, u, g, t, l, cx, cy⟩ := S
  obtain ⟨b1, b2, b3, b4, b5, b6, b7, b8, b9, b10, b11, b12, b13, b14, b15, b16⟩ := hB
  simp only [] at hi
  rw [hi] at c2 b2 b12
  obtain ⟨A, ⟨m53, m55, m56, m57, m39⟩, ⟨lf, l1, l2, l3⟩, m4, m5, m6, m7⟩ := c2
  have R := R0.fl A
  have Z := Z0.fl A
  have e1 : m_lay_18s M1 (n : Int) (L.length : Int) gm1 (L.length : Int) = some (.inl (M1, ((L.length + 1 : Nat) : Int), gm1, ((L.length + 1 : Nat) : Int))) := by
    rw [lay_end hO R rfl (by omega) (by omega), lay110_n (by omega) (by omega)]
    unfold m_lay_129 m_lay_134 m_lay_152 m_lay_185
    rw [bnd_eq, if_eqp rfl, if_eqp rfl]
    rfl
  rw [iter_in e1]
  have e2 : iter (fun (z : MS × Int × Int × Int) => m_lay_18s z.1 (n : Int) z.2.1 z.2.2.1 z.2.2.2) (M1, ((L.length + 1 : Nat) : Int), gm1, ((L.length + 1 : Nat) : Int)) = m_lay_191 M1 := by
    refine iter_mr ?_
    simp only [m_lay_18s]
    rw [R.1, if_ltp (by omega) (by omega) (by omega)]
  rw [e2]
  unfold m_lay_191 m_lay_206 lfin
  simp only []
  rw [m57]
  by_cases z : u < 0
  · rw [if_pos z, if_eqp rfl, if_pos z]
    refine ⟨M1, by rw [m53], A, m39, fun j j1 j2 => ?_, m7⟩
    obtain ⟨p1, p2, p3⟩ := m5 j j1 j2
    exact ⟨p1, p2, p3, m6 j (by
      by_cases y : j < f
      · exact y
      · exact (m4 z j (by omega) j1 j2).elim) j2⟩
  · rw [if_neg z, if_eqn (by omega) (by omega) (by omega) (by omega) (by omega), if_neg z, R.1]
    obtain ⟨M', e1, e2, ⟨e3, e4, e5, e6, e7, e8⟩, ⟨e9, e10, e11⟩, e12, e13⟩ := m_endLine_eq (a := L.length) (lf := lf) hO R Z (Nat.le_refl _) (by omega) l1
    rw [e1, obind_some]
    refine ⟨M', ?_, A.trans e2, by rw [e4, m39]; simp only []; omega, fun j j1 j2 => ?_, fun x hx => ?_⟩
    · have : M'.1 53 = frm + (t + hgh L f 0 (L.length - f)) := by rw [e3, m53, m56]; omega
      rw [this]
    · obtain ⟨p1, p2, p3⟩ := m5 j j1 j2
      rw [e9, e10, e11]
      refine ⟨p1, p2, p3, ?_⟩
      simp only [lnY]
      by_cases y : f ≤ j ∧ j < L.length
      · rw [if_pos y, e12 j (by omega) y.2 j2, m53, m56]; omega
      · rw [if_neg y, e13 (q j) (fun k y1 y2 y3 y4 => by
          have := R.2.2 k j (by omega) (by omega) y3 j2 y4
          by_cases w : k < f
          · have := l3 k y1 w; omega
          · omega)]
        exact m6 j (by omega) j2
    · rw [e9, e10, e11, e13 x (fun k y1 y2 y3 => hx k (by omega) y3)]
      exact m7 x hx
end ML
