/-! the reference: the layout, whole -/
set_option maxRecDepth 100000
section ML
variable {M M' M0 M1 : MS} {T : TS} {rs : List RL} {C : List (Int × Nat)} {n p k q r j m : Nat} {Wd Lf tl tp : Nat → Int} {v : Int} {R : List IT} {w : List Int}
/-- all but what layouts and values change -/
def FZ (M M' : MS) : Prop := (∀ k, k ∉ [22, 32, 37, 38, 39, 52, 53, 54, 55, 56, 57] → M'.1 k = M.1 k) ∧ ∀ k, k < 23 ∨ 51 < k → M'.2 k = M.2 k
theorem FLm.z (A : FLm M M') : FZ M M' := ⟨fun k hk => A.1 k (fun z => hk (by simp at z ⊢; omega)), fun k hk => A.2 k (by omega)⟩
theorem FY.z (A : FY M M') : FZ M M' := ⟨fun k hk => A.1 k (fun z => hk (by rw [z]; simp)) (fun z => hk (by rw [z]; simp)), fun k hk => A.2 k (by omega)⟩
theorem FZ.refl (M : MS) : FZ M M := ⟨fun _ _ => rfl, fun _ _ => rfl⟩
theorem FZ.trans (A : FZ M M1) (B : FZ M1 M') : FZ M M' := ⟨fun k hk => (B.1 k hk).trans (A.1 k hk), fun k hk => (B.2 k hk).trans (A.2 k hk)⟩
theorem FZ.rep (A : FZ M M') (h : RepM M T) : RepM M' T := by
  unfold RepM at h ⊢
  rw [A.1 4 (by simp), A.1 5 (by simp), A.1 7 (by simp), A.1 13 (by simp), A.1 16 (by simp), A.1 17 (by simp), A.2 6 (by omega), A.2 8 (by omega), A.2 9 (by omega), A.2 10 (by omega), A.2 12 (by omega), A.2 14 (by omega), A.2 15 (by omega), A.2 18 (by omega), A.2 19 (by omega)]
  exact h
theorem FZ.ch (A : FZ M M') (h : ChM M T C) : ChM M' T C := by
  unfold ChM at h ⊢
  rw [A.1 17 (by simp), A.2 18 (by omega), A.2 19 (by omega)]
  exact h
/-- heights, from behind -/
theorem layout_91 (hL : LM M1 T rs C) (hW : WF T) (hok : ∀ r ∈ rs, okR2 r) (hrs : ∀ r ∈ rs, okRV r) (hX : txOK T) (hIS : isP T (tN T) ≤ 183) (Q : LQ T rs v Wd Lf tl tp) (hv : 1 ≤ v ∧ v ≤ 64) (H : HM M1 T rs Wd Lf (tN T)) : ∀ (m : Nat) (M : MS), m ≤ tN T → LJ M1 M T rs C Wd Lf tl m → ∃ M', m_layout_91 M ((m : Int) - 1) = m_layout_115 M' ∧ LJ M1 M' T rs C Wd Lf tl 0 := by
  have h24 := hW.1.2.1
  intro m
  induction m with
  | zero =>
    intro M _ hJ
    refine ⟨M, ?_, hJ⟩
    unfold m_layout_91
    refine iter_mr ?_
    simp only []
    unfold m_layout_91s
    rw [if_ltp (by omega) (by omega) (by omega)]
  | succ m ih =>
    intro M hm hJ
    have e0 : (((m + 1 : Nat) : Int) - 1) = (m : Int) := by omega
    have em : (m : Int) + (-1) = (m : Int) - 1 := by omega
    obtain ⟨g1, g2, g3, g4⟩ := hJ.hm H m (by omega)
    have hst : ∃ M2, m_layout_91s M (m : Int) = some (.inl (M2, (m : Int) - 1)) ∧ LJ M1 M2 T rs C Wd Lf tl m := by
      unfold m_layout_91s m_layout_109
      rw [if_ltn (by omega) (by omega) (by omega), gd_zin (by omega) (by omega) (by omega), zix_nat (by omega), g2, em]
      cases hb : bxP T rs m with
      | false =>
        rw [if_neg (show ¬ (false = true) by simp), if_eqp rfl]
        exact ⟨M, rfl, hJ.skip hW hok (by omega) hb⟩
      | true =>
        rw [if_pos rfl, if_eqn (by omega) (by omega) (by omega) (by omega) (by omega)]
        obtain ⟨M2, m1, m2⟩ := m_heights_eq (hL.fl hJ.fm) hW hok hrs hX hIS Q hv (n := m) (by omega) hb (hJ.hm H) (fun q q1 q2 q3 => hJ.2.1 q (by omega) q2 q3)
        rw [m1, obind_some]
        exact ⟨M2, rfl, hJ.step hW hok (by omega) hb m2⟩
    obtain ⟨M2, s1, s2⟩ := hst
    obtain ⟨M', e1, e2⟩ := ih M2 (by omega) s2
    refine ⟨M', ?_, e2⟩
    rw [e0, ← e1]
    unfold m_layout_91
    exact iter_in s1
/-- the layout -/
theorem m_layout_eq (hY : StyM M w) (hR : RepM M T) (hC : ChM M T C) (hW : WF T) (hok : ∀ r ∈ (rulE w).map (rlE w), okR2 r) (hrs : ∀ r ∈ (rulE w).map (rlE w), okRV r) (hX : txOK T) (hIS : isP T (tN T) ≤ 183) (Q : LQ T ((rulE w).map (rlE w)) v Wd Lf tl tp) (hv : 1 ≤ v ∧ v ≤ 64) : ∃ M', m_layout M v = some (M', tl 0) ∧ FZ M M' ∧ LaidM M' T ((rulE w).map (rlE w)) C Wd Lf tl tp v := by
  have h24 := hW.1.2.1
  have hl := hW.1.2.2.1
  have h1N := hW.1.1
  have h160 := hC.2.1
  obtain ⟨Ms, s1, s2, s3, s4⟩ := m_style_eq hY hR hW (rulE_ok hY).1 (rulE_ok hY).2.1
  generalize (rulE w).map (rlE w) = rs at *
  have Ls : LM Ms T rs C := ⟨s2.z.rep hR, s3, s4, s2.z.ch hC⟩
  unfold m_layout
  rw [if_ltn (by omega) (by omega) (by omega), if_ltn (by omega) (by omega) (by omega), hR.1, if_eqp rfl, s1, obind_some, bnd_eq, bnd_eq, bnd_eq]
  have A4 : FLm Ms (sI (sI (sI Ms 37 1) 38 v) 39 0) := (((FLm.refl Ms).wsI (by simp) _).wsI (by simp) _).wsI (by simp) _
  -- nothing is put
  unfold m_layout_41
  obtain ⟨z, hI, hz⟩ := loopX (f := fun (z : MS × Int) => m_layout_41s z.1 v z.2) (fun c z => z.2 = (c : Int) ∧ z.1.1 = (sI (sI (sI Ms 37 1) 38 v) 39 0).1 ∧ (∀ k, k ≠ 47 → z.1.2 k = Ms.2 k) ∧ ∀ x, x < c → z.1.2 47 x = 0) (a := 0) (b := C.length) (s0 := (sI (sI (sI Ms 37 1) 38 v) 39 0, 0)) (by omega) ⟨rfl, rfl, fun _ _ => rfl, fun x hx => by omega⟩ (fun c z _ c2 hz => by
    obtain ⟨M2, y⟩ := z
    obtain ⟨k1, k2, k3, k4⟩ := hz
    have k1 : y = (c : Int) := k1
    subst k1
    have k2 : M2.1 = (sI (sI (sI Ms 37 1) 38 v) 39 0).1 := k2
    have h17 : M2.1 17 = (C.length : Int) := by
      rw [k2, sI_n _ _ _ _ (by omega), sI_n _ _ _ _ (by omega), sI_n _ _ _ _ (by omega)]
      exact Ls.2.2.2.1
    show ∃ s', m_layout_41s M2 v (c : Int) = some (.inl s') ∧ _
    unfold m_layout_41s
    rw [h17, if_ltp (by omega) (by omega) (by omega), gd_zin (by omega) (by omega) (by omega), bnd_eq, zix_nat (by omega)]
    refine ⟨_, rfl, by show (c : Int) + 1 = _; omega, k2, fun k hk => by rw [sA_f _ _ _ _ _ hk]; exact k3 k hk, fun x hx => ?_⟩
    by_cases z : x = c
    · rw [z, sA_s]
    · rw [sA_i _ _ _ _ _ z]; exact k4 x (by omega))
  obtain ⟨M2, y⟩ := z
  obtain ⟨k1, k2, k3, k4⟩ := hI
  have k1 : y = (C.length : Int) := k1
  subst k1
  have k2 : M2.1 = (sI (sI (sI Ms 37 1) 38 v) 39 0).1 := k2
  have A5 : FLm Ms M2 := ⟨fun k hk => by rw [k2]; exact A4.1 k hk, fun k hk => k3 k (by omega)⟩
  have L2 := Ls.fl A5
  rw [hz, iter_mr (o := m_layout_62 M2 v) (by
    simp only []
    unfold m_layout_41s
    rw [L2.2.2.2.1, if_ltn (by omega) (by omega) (by omega)])]
  -- widths
  unfold m_layout_62 m_layout_64
  obtain ⟨z, hI, hz⟩ := loopX (f := fun (z : MS × Int) => m_layout_64s z.1 v z.2) (fun n z => z.2 = (n : Int) ∧ z.1.1 = M2.1 ∧ (∀ k, k < 40 ∨ 44 < k → z.1.2 k = M2.2 k) ∧ HM z.1 T rs Wd Lf n) (a := 0) (b := tN T) (s0 := (M2, 0)) (by omega) ⟨rfl, rfl, fun _ _ => rfl, fun m hm => by omega⟩ (fun n z _ n2 hz => by
    obtain ⟨M3, y⟩ := z
    obtain ⟨j1, j2, j3, j4⟩ := hz
    have j1 : y = (n : Int) := j1
    subst j1
    have j2 : M3.1 = M2.1 := j2
    have A : FLm M2 M3 := ⟨fun k _ => by rw [j2], fun k hk => j3 k (by omega)⟩
    have L3 := L2.fl A
    obtain ⟨M4, m1, m2, m3⟩ := m_widths_eq L3 hW hok hrs Q hv n2 j4
    show ∃ s', m_layout_64s M3 v (n : Int) = some (.inl s') ∧ _
    unfold m_layout_64s
    rw [L3.1.2.1, hl, if_ltp (by omega) (by omega) (by omega), m1, obind_some]
    exact ⟨_, rfl, by show (n : Int) + 1 = _; omega, m2.1.trans j2, fun k hk => (m2.2.1 k hk).trans (j3 k hk), m3⟩)
  obtain ⟨M3, y⟩ := z
  obtain ⟨j1, j2, j3, j4⟩ := hI
  have j1 : y = (tN T : Int) := j1
  subst j1
  have j2 : M3.1 = M2.1 := j2
  have A6 : FLm M2 M3 := ⟨fun k _ => by rw [j2], fun k hk => j3 k (by omega)⟩
  have L3 := L2.fl A6
  rw [hz, iter_mr (o := m_layout_84 M3) (by
    simp only []
    unfold m_layout_64s
    rw [L3.1.2.1, hl, if_ltn (by omega) (by omega) (by omega)])]
  -- heights
  have h47 : ∀ x, x < C.length → M3.2 47 x = 0 := fun x hx => by rw [j3 47 (by omega)]; exact k4 x hx
  have J0 : LJ M3 M3 T rs C Wd Lf tl (tN T) := by
    refine ⟨⟨fun _ _ => rfl, fun _ _ => rfl⟩, fun q h1 h2 => by omega, ?_, fun q h1 h2 h3 h4 => ?_, fun p k h1 h2 => ⟨fun h3 h4 => ?_, fun _ => h47 _ (cIx_d hC h2).1⟩⟩
    · rw [j2, k2, sI_s]; omega
    · have := (ho_in hW hok q h1 h2).1; omega
    · exfalso
      have hp0 : 0 < p := by
        rcases Nat.eq_zero_or_pos p with z | z
        · exfalso
          have := h3.2.1
          rw [z, nm_0 hW] at this
          omega
        · exact z
      have := (ho_in hW hok p h1 hp0).1; omega
  obtain ⟨M4, e1, J⟩ := layout_91 L3 hW hok hrs hX hIS Q hv j4 (tN T) M3 (Nat.le_refl _) J0
  unfold m_layout_84
  rw [bnd_eq, L3.1.2.1, hl, e1]
  -- places
  have L4 := L3.fl J.fm
  have H4 := J.hm j4
  obtain ⟨M5, p1, p2, p3, p4, p5⟩ := m_places_eq L4 hW hok Q H4 (fun q h1 h2 h3 => J.2.2.2.1 q h1 h2 h3 (by omega)) (fun p k h1 h2 => ⟨fun h3 => (J.2.2.2.2 p k h1 h2).1 h3 (by omega), (J.2.2.2.2 p k h1 h2).2⟩)
  have A7 : FLm M4 M5 := ⟨fun k _ => by rw [p2], fun k hk => p3 k (by omega) (by omega)⟩
  have L5 := L4.fl A7
  have hb0 := bx_0 hW hok
  unfold m_layout_115
  have z0 : zix 0 = 0 := rfl
  have h45 : M5.2 45 0 = tl 0 := by rw [p3 45 (by omega) (by omega)]; exact J.2.1 0 (by omega) h1N hb0
  rw [p1, obind_some, gd_zin (by omega) (by omega) (by omega), z0, h45]
  have AZ : FLm Ms M5 := ((A5.trans A6).trans J.fm).trans A7
  have hsc : ∀ k, k ∉ [39, 52, 53, 54, 55, 56, 57] → M5.1 k = (sI (sI (sI Ms 37 1) 38 v) 39 0).1 k := fun k hk => by rw [p2, J.1.1 k hk, j2, k2]
  refine ⟨M5, rfl, s2.z.trans AZ.z, L5, fun m hm => ?_, fun n h1 h2 => ⟨?_, p4 n h1 h2⟩, ⟨?_, ?_, ?_⟩, fun p k h1 h2 => ⟨p5 p k h1 h2, fun h3 => ?_⟩⟩
  · have := H4 m hm
    rw [p3 40 (by omega) (by omega), p3 41 (by omega) (by omega), p3 42 (by omega) (by omega), p3 43 (by omega) (by omega), p3 44 (by omega) (by omega)]
    exact this
  · rw [p3 45 (by omega) (by omega)]; exact J.2.1 n (by omega) h1 h2
  · rw [hsc 37 (by simp), sI_n _ _ _ _ (by omega), sI_n _ _ _ _ (by omega), sI_s]
  · rw [hsc 38 (by simp), sI_n _ _ _ _ (by omega), sI_s]
  · rw [p2, J.2.2.1]
    show _ - 0 = _
    omega
  · rw [p3 47 (by omega) (by omega)]; exact (J.2.2.2.2 p k h1 h2).2 h3
theorem m_layout_no (hv : v < 1 ∨ 64 < v ∨ M.1 4 = 1) (h1 : -2147483648 ≤ v) (h2 : v < 2147483648) : m_layout M v = some (M, -1) := by
  unfold m_layout
  by_cases z1 : v < 1
  · rw [if_ltp z1 (by omega) (by omega)]
  · rw [if_ltn (by omega) (by omega) (by omega)]
    by_cases z2 : 64 < v
    · rw [if_ltp z2 (by omega) (by omega)]
    · rw [if_ltn (by omega) (by omega) (by omega)]
      have hb : M.1 4 = 1 := by omega
      rw [hb, if_eqn (by omega) (by omega) (by omega) (by omega) (by omega)]
end ML
