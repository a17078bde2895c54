/-! the reference: a run is laid out, as a whole -/
set_option maxRecDepth 100000
section ML
variable {M M' M0 M1 : MS} {L : List RK} {q : Nat → Nat} {i j n f : Nat} {bd g gm u t l W frm X : Int} {cx cy : Nat → Int}
theorem MR.brk (hO : OKL L) (R0 : RnM M0 L q) (Z0 : SzM M0 L) (hB : LB L (i, f, u, g, t, l, cx, cy)) (H : MR M0 n L q X frm (i, f, u, g, t, l, cx, cy) M) (hi : i < L.length) (k0 : rkk L i = 0) (hG : GR u g gm) : ∃ M', m_lay_18s M (n : Int) (i : Int) gm (i : Int) = some (.inl (M', ((i + 1 : Nat) : Int), gm, ((i + 1 : Nat) : Int))) ∧ MR M0 n L q X frm (lstep W L (i, f, u, g, t, l, cx, cy)) M' ∧ GR (-1) (-1) gm := by
  have h183 := hO.1
  obtain ⟨b1, b2, b3, b4, b5, b6, b7, b8, b9, b10, b11, b12, b13, b14, b15, b16⟩ := hB
  obtain ⟨A, ⟨m53, m55, m56, m57, m39⟩, ⟨lf, l1, l2, l3⟩, m4, m5, m6, m7⟩ := H
  have R := R0.fl A
  have Z := Z0.fl A
  have hs := Z M (FLn.refl M) i hi
  have hat := hO.at hi
  -- the height of the line
  have hm : 0 ≤ (if u < 0 then rsz L i else 0) ∧ (if u < 0 then rsz L i else 0) ≤ 9 := by split <;> omega
  have hhe : (if u < 0 then rsz L i else M.1 56) = hgh L f (if u < 0 then rsz L i else 0) (i - f) := by
    split
    · next z => rw [hgh_no (i - f) (fun k k1 k2 => m4 z k k1 (by omega))]
    · exact m56
  have main : ∀ N : MS, FLn M N → (∀ k, k ≠ 56 → N.1 k = M.1 k) → N.2 = M.2 → N.1 56 = hgh L f (if u < 0 then rsz L i else 0) (i - f) → ∃ M', m_lay_174 N (n : Int) ((i : Int) + 1) gm (i : Int) = some (.inl (M', ((i + 1 : Nat) : Int), gm, ((i + 1 : Nat) : Int))) ∧ MR M0 n L q X frm (lstep W L (i, f, u, g, t, l, cx, cy)) M' := fun N B n1 n2 n3 => by
    have B1 : FLn M (sI N 57 1) := B.wsI (by simp) _
    have h54 : (sI N 57 1).1 54 = (lf : Int) := by rw [sI_n _ _ _ _ (by omega), n1 54 (by omega)]; exact l1
    obtain ⟨M', e1, e2, ⟨e3, e4, e5, e6, e7, e8⟩, ⟨e9, e10, e11⟩, e12, e13⟩ := m_endLine_eq (a := i) (lf := lf) hO (R.fl B1) (Z.fl B1) (by omega) (by omega) h54
    have h53 : (sI N 57 1).1 53 = frm + t := by rw [sI_n _ _ _ _ (by omega), n1 53 (by omega)]; exact m53
    have h56 : (sI N 57 1).1 56 = hgh L f (if u < 0 then rsz L i else 0) (i - f) := by rw [sI_n _ _ _ _ (by omega)]; exact n3
    have h39 : (sI N 57 1).1 39 = M0.1 39 + l := by rw [sI_n _ _ _ _ (by omega), n1 39 (by omega)]; exact m39
    have hN2 : (sI N 57 1).2 = M.2 := n2
    rw [hN2] at e9 e10 e11 e13
    rw [h53, h56] at e3 e12
    rw [h39] at e4
    refine ⟨M', ?_, ?_⟩
    · unfold m_lay_174 m_lay_185
      rw [bnd_eq, e1, obind_some]
      rfl
    · unfold lstep
      simp only []
      rw [if_pos k0]
      refine ⟨(A.trans B1).trans e2, ⟨by rw [e3]; omega, by rw [e6]; rfl, ?_, by rw [e8]; rfl, by rw [e4]; omega⟩, ⟨i, e5, by omega, fun k k1 k2 => (show k = i by omega) ▸ k0⟩, fun _ k k1 k2 => by omega, fun j' j1 j2 => ?_, fun j' j1 j2 => ?_, fun x hx => ?_⟩
      · rw [e7, Nat.sub_self]; rfl
      · have : j' ≠ i := fun z => by rw [z] at j2; omega
        rw [e9, e10, e11]; exact m5 j' (by omega) j2
      · have hji : j' ≠ i := fun z => by rw [z] at j2; omega
        unfold lnY
        by_cases z : f ≤ j' ∧ j' < i
        · rw [if_pos z, e12 j' (by omega) z.2 j2]; omega
        · rw [if_neg z, e13 (q j') (fun k k1 k2 k3 k4 => by
            have := R.2.2 k j' (by omega) (by omega) k3 j2 k4
            by_cases y : k < f
            · have := l3 k k1 y; omega
            · omega)]
          exact m6 j' (by omega) j2
      · rw [e9, e10, e11, e13 x (fun k k1 k2 k3 => hx k (by omega) k3)]
        exact m7 x (fun j' j1 j2 => hx j' (by omega) j2)
  have hst : ∃ M', m_lay_18s M (n : Int) (i : Int) gm (i : Int) = some (.inl (M', ((i + 1 : Nat) : Int), gm, ((i + 1 : Nat) : Int))) ∧ MR M0 n L q X frm (lstep W L (i, f, u, g, t, l, cx, cy)) M' := by
    rw [lay_brk hO R hi k0 (by omega) (by omega), lay110_n (by omega) (by omega)]
    unfold m_lay_129 m_lay_134 m_lay_152
    rw [bnd_eq, if_eqp rfl, if_eqn (by omega) (by omega) (by omega) (by omega) (by omega), m57]
    by_cases z : u < 0
    · rw [if_pos z] at hhe ⊢
      rw [if_eqp rfl, hs, obind_some, bnd_eq]
      rw [if_pos z] at hhe
      exact main (sI M 56 (rsz L i)) ((FLn.refl M).wsI (by simp) _) (fun k hk => by rw [sI_n _ _ _ _ hk]) rfl (by rw [sI_s, if_pos z]; exact hhe)
    · rw [if_neg z] at hhe ⊢
      rw [if_eqn (by omega) (by omega) (by omega) (by omega) (by omega)]
      rw [if_neg z] at hhe
      exact main M (FLn.refl M) (fun k hk => rfl) rfl (by rw [if_neg z]; exact hhe)
  obtain ⟨M', h1, h2⟩ := hst
  exact ⟨M', h1, h2, hG.1, hG.2.1, fun z => by omega⟩
theorem MR.bln (hO : OKL L) (R0 : RnM M0 L q) (Z0 : SzM M0 L) (hB : LB L (i, f, u, g, t, l, cx, cy)) (H : MR M0 n L q X frm (i, f, u, g, t, l, cx, cy) M) (hi : i < L.length) (k1 : rkk L i = 1) (hG : GR u g gm) : ∃ gm', m_lay_18s M (n : Int) (i : Int) gm (i : Int) = some (.inl (M, ((i + 1 : Nat) : Int), gm', ((i + 1 : Nat) : Int))) ∧ MR M0 n L q X frm (lstep W L (i, f, u, g, t, l, cx, cy)) M ∧ GR u (if g < 0 then rsz L i else g) gm' := by
  have h183 := hO.1
  obtain ⟨b1, b2, b3, b4, b5, b6, b7, b8, b9, b10, b11, b12, b13, b14, b15, b16⟩ := hB
  obtain ⟨A, ⟨m53, m55, m56, m57, m39⟩, m3, m4, m5, m6, m7⟩ := H
  have R := R0.fl A
  have Z := Z0.fl A
  have hs := Z M (FLn.refl M) i hi
  have hat := hO.at hi
  have hH : MR M0 n L q X frm (lstep W L (i, f, u, g, t, l, cx, cy)) M := by
    unfold lstep
    simp only []
    rw [if_neg (by omega), if_pos k1]
    refine ⟨A, ⟨m53, m55, ?_, m57, m39⟩, m3, fun z k k2 k3 => ?_, fun j' j1 j2 => m5 j' (Nat.lt_of_le_of_ne (by omega) (fun z => by rw [z] at j2; omega)) j2, m6, fun x hx => m7 x (fun j' j1 j2 => hx j' (by omega) j2)⟩
    · rw [hgh_step L b2, if_neg (by omega)]; exact m56
    · by_cases y : k = i
      · rw [y]; omega
      · exact m4 z k k2 (by omega)
  obtain ⟨g1, g2, g3⟩ := hG
  rw [lay_bln hO R hi k1 (by omega) (by omega), lay110_n (by omega) (by omega)]
  unfold m_lay_129 m_lay_134 m_lay_152 m_lay_185
  rw [bnd_eq, if_eqn (by omega) (by omega) (by omega) (by omega) (by omega)]
  by_cases z : gm = 0
  · rw [if_eqp z, hs, obind_some, if_eqp rfl]
    refine ⟨rsz L i, rfl, hH, by omega, by omega, fun y => ?_⟩
    have := g3 y
    by_cases w : g < 0
    · rw [if_pos w, if_neg (by omega)]
    · rw [if_neg w] at this; omega
  · rw [if_eqn z (by omega) (by omega) (by omega) (by omega), if_eqp rfl]
    refine ⟨gm, rfl, hH, g1, g2, fun y => ?_⟩
    have := g3 y
    by_cases w : g < 0
    · rw [if_pos w] at this; omega
    · rw [if_neg w] at this
      rw [if_neg w, if_neg w]; exact this
end ML
