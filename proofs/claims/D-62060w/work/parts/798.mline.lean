/-! the reference: a line ends -/
set_option maxRecDepth 100000
/-- all but what a run's lines change -/
def FLn (M M' : MS) : Prop := (∀ k, k ∉ [39, 53, 54, 55, 56, 57] → M'.1 k = M.1 k) ∧ ∀ k, k ∉ [47, 48, 49, 50] → M'.2 k = M.2 k
/-- the run in the reference's cells; q: which character -/
def RnM (M : MS) (L : List RK) (q : Nat → Nat) : Prop := M.1 52 = (L.length : Int) ∧ (∀ j, j < L.length → (rkk L j = 0 → -100 ≤ M.2 51 j ∧ M.2 51 j < 0) ∧ (rkk L j ≠ 0 → M.2 51 j = (q j : Nat) ∧ q j < 160 ∧ (0 ≤ M.2 18 (q j) ∧ M.2 18 (q j) < 128) ∧ (M.2 18 (q j) = 32 ↔ rkk L j = 1))) ∧ ∀ j j', j < L.length → j' < L.length → rkk L j = 2 → rkk L j' = 2 → q j = q j' → j = j'
/-- its sizes -/
def SzM (M : MS) (L : List RK) : Prop := ∀ M', FLn M M' → ∀ j, j < L.length → m_size M' (j : Int) = some (rsz L j)
section ML
variable {M M' M0 M1 : MS} {L : List RK} {q : Nat → Nat} {lf a n : Nat}
theorem FLn.refl (M : MS) : FLn M M := ⟨fun _ _ => rfl, fun _ _ => rfl⟩
theorem FLn.trans (A : FLn M M1) (B : FLn M1 M') : FLn M M' := ⟨fun k hk => (B.1 k hk).trans (A.1 k hk), fun k hk => (B.2 k hk).trans (A.2 k hk)⟩
theorem FLn.wsI (A : FLn M M1) {k : Nat} (hk : k ∈ [39, 53, 54, 55, 56, 57]) (v : Int) : FLn M (sI M1 k v) := ⟨fun j hj => by rw [sI_n _ _ _ _ (fun e => hj (by rw [e]; exact hk))]; exact A.1 j hj, A.2⟩
theorem FLn.wsA (A : FLn M M1) {k : Nat} (hk : k ∈ [47, 48, 49, 50]) (i : Nat) (v : Int) : FLn M (sA M1 k i v) := ⟨A.1, fun j hj => by rw [sA_f _ _ _ _ _ (fun e => hj (by rw [e]; exact hk))]; exact A.2 j hj⟩
theorem RnM.fl (R : RnM M L q) (A : FLn M M') : RnM M' L q := by
  obtain ⟨r1, r2, r3⟩ := R
  refine ⟨by rw [A.1 52 (by simp)]; exact r1, ?_, r3⟩
  rw [A.2 51 (by simp), A.2 18 (by simp)]
  exact r2
theorem SzM.fl (R : SzM M L) (A : FLn M M') : SzM M' L := fun M'' B => R M'' (A.trans B)
/-- the letters' heights -/
theorem endLine5 (hO : OKL L) (R : RnM M L q) (Z : SzM M L) (ha : a ≤ L.length) : ∀ (d lf : Nat) (M1 : MS), lf + d = a → FLn M M1 → M1.1 = M.1 → ∃ M', m_endLine_5 M1 (a : Int) (lf : Int) = m_endLine_67 M' (a : Int) ∧ FLn M M' ∧ M'.1 = M.1 ∧ M'.2 47 = M1.2 47 ∧ M'.2 48 = M1.2 48 ∧ M'.2 50 = M1.2 50 ∧ (∀ k, lf ≤ k → k < a → rkk L k = 2 → M'.2 49 (q k) = M.1 53 + M.1 56 - rsz L k) ∧ ∀ x, (∀ k, lf ≤ k → k < a → rkk L k = 2 → q k ≠ x) → M'.2 49 x = M1.2 49 x := by
  have h183 := hO.1
  intro d
  induction d with
  | zero =>
    intro lf M1 hd A h1
    refine ⟨M1, ?_, A, h1, rfl, rfl, rfl, fun k k1 k2 => by omega, fun x _ => rfl⟩
    unfold m_endLine_5
    refine iter_mr ?_
    simp only [m_endLine_5s]
    rw [if_ltn (by omega) (by omega) (by omega)]
  | succ d ih =>
    intro lf M1 hd A h1
    have R1 := R.fl A
    obtain ⟨r1, r2, r3⟩ := R1
    have hj := r2 lf (by omega)
    have hat := hO.at (i := lf) (by omega)
    have zl : zix (lf : Int) = lf := zix_nat (by omega)
    by_cases k2 : rkk L lf = 2
    · obtain ⟨j1, j2, j3, j4⟩ := hj.2 (by omega)
      have hs := Z M1 A lf (by omega)
      have hst : m_endLine_5s M1 (a : Int) (lf : Int) = some (.inl (sA M1 49 (q lf) (M.1 53 + M.1 56 - rsz L lf), ((lf + 1 : Nat) : Int))) := by
        unfold m_endLine_5s
        rw [if_ltp (by omega) (by omega) (by omega), gd_zin (by omega) (by omega) (by omega), zl, j1, if_ltn (by omega) (by omega) (by omega), gd_zin (by omega) (by omega) (by omega), gd_zin (by omega) (by omega) (by omega), zix_nat (by omega), if_eqn (fun z => by have := j4.mp z; omega) (by omega) (by omega) (by omega) (by omega), gd_zin (by omega) (by omega) (by omega), hs, obind_some, gd_zin (by omega) (by omega) (by omega), bnd_eq, h1]
        rfl
      obtain ⟨M', e1, e2, e3, e4, e5, e6, e7, e8⟩ := ih (lf + 1) (sA M1 49 (q lf) (M.1 53 + M.1 56 - rsz L lf)) (by omega) (A.wsA (by simp) _ _) h1
      rw [sA_f _ _ _ _ _ (by omega)] at e4
      rw [sA_f _ _ _ _ _ (by omega)] at e5
      rw [sA_f _ _ _ _ _ (by omega)] at e6
      refine ⟨M', by unfold m_endLine_5; rw [iter_in hst]; exact e1, e2, e3, e4, e5, e6, fun k l1 l2 l3 => ?_, fun x hx => ?_⟩
      · by_cases z : k = lf
        · rw [z, e8 (q lf) (fun k' m1 m2 m3 m4 => by have := r3 k' lf (by omega) (by omega) m3 k2 m4; omega), sA_s]
        · exact e7 k (by omega) l2 l3
      · rw [e8 x (fun k' m1 m2 m3 => hx k' (by omega) m2 m3), sA_i _ _ _ _ _ (fun z => hx lf (by omega) (by omega) k2 z.symm)]
    · have hst : m_endLine_5s M1 (a : Int) (lf : Int) = some (.inl (M1, ((lf + 1 : Nat) : Int))) := by
        unfold m_endLine_5s
        rw [if_ltp (by omega) (by omega) (by omega), gd_zin (by omega) (by omega) (by omega), zl]
        by_cases k0 : rkk L lf = 0
        · have := hj.1 k0
          rw [if_ltp (by omega) (by omega) (by omega)]; rfl
        · obtain ⟨j1, j2, j3, j4⟩ := hj.2 k0
          rw [j1, if_ltn (by omega) (by omega) (by omega), gd_zin (by omega) (by omega) (by omega), gd_zin (by omega) (by omega) (by omega), zix_nat (by omega), if_eqp (j4.mpr (by omega))]; rfl
      obtain ⟨M', e1, e2, e3, e4, e5, e6, e7, e8⟩ := ih (lf + 1) M1 (by omega) A h1
      refine ⟨M', by unfold m_endLine_5; rw [iter_in hst]; exact e1, e2, e3, e4, e5, e6, fun k l1 l2 l3 => ?_, fun x hx => e8 x (fun k' m1 m2 m3 => hx k' (by omega) m2 m3)⟩
      exact e7 k (by have : k ≠ lf := fun z => k2 (by rw [← z]; exact l3); omega) l2 l3
theorem m_endLine_eq (hO : OKL L) (R : RnM M L q) (Z : SzM M L) (ha : a ≤ L.length) (hl : lf ≤ a) (h54 : M.1 54 = (lf : Int)) : ∃ M', m_endLine M (a : Int) = some M' ∧ FLn M M' ∧ (M'.1 53 = M.1 53 + M.1 56 ∧ M'.1 39 = M.1 39 + 1 ∧ M'.1 54 = (a : Int) ∧ M'.1 55 = 0 ∧ M'.1 56 = 0 ∧ M'.1 57 = 0) ∧ (M'.2 47 = M.2 47 ∧ M'.2 48 = M.2 48 ∧ M'.2 50 = M.2 50) ∧ (∀ k, lf ≤ k → k < a → rkk L k = 2 → M'.2 49 (q k) = M.1 53 + M.1 56 - rsz L k) ∧ ∀ x, (∀ k, lf ≤ k → k < a → rkk L k = 2 → q k ≠ x) → M'.2 49 x = M.2 49 x := by
  obtain ⟨M', e1, e2, e3, e4, e5, e6, e7, e8⟩ := endLine5 hO R Z ha (a - lf) lf M (by omega) (FLn.refl M) rfl
  unfold m_endLine
  rw [bnd_eq, h54, e1]
  unfold m_endLine_67 m_newLine
  simp only [bnd_eq, obind_some]
  refine ⟨_, rfl, (((((e2.wsI (k := 53) (by simp) _).wsI (k := 39) (by simp) _).wsI (k := 54) (by simp) _).wsI (k := 55) (by simp) _).wsI (k := 56) (by simp) _).wsI (k := 57) (by simp) _, ⟨?_, ?_, ?_, ?_, ?_, ?_⟩, ⟨e4, e5, e6⟩, e7, e8⟩
  · simp (disch := omega) only [if_ltp, if_ltn, if_eqp, if_eqn, if_T, if_F, gd_zin, gd_isB0, gd_isB1, zix_toNat, Int.toNat_natCast, tn_a1, tn_a, tn_s1, tn_s, tn_m1, tn_l0, tn_l1, bnd_eq, obind_some, mr_some, sI_s, sI_n, sI_2, sA_1, sA_s, sA_i, sA_n]; rw [e3]
  · simp (disch := omega) only [if_ltp, if_ltn, if_eqp, if_eqn, if_T, if_F, gd_zin, gd_isB0, gd_isB1, zix_toNat, Int.toNat_natCast, tn_a1, tn_a, tn_s1, tn_s, tn_m1, tn_l0, tn_l1, bnd_eq, obind_some, mr_some, sI_s, sI_n, sI_2, sA_1, sA_s, sA_i, sA_n]; rw [e3]
  · simp (disch := omega) only [if_ltp, if_ltn, if_eqp, if_eqn, if_T, if_F, gd_zin, gd_isB0, gd_isB1, zix_toNat, Int.toNat_natCast, tn_a1, tn_a, tn_s1, tn_s, tn_m1, tn_l0, tn_l1, bnd_eq, obind_some, mr_some, sI_s, sI_n, sI_2, sA_1, sA_s, sA_i, sA_n]
  · simp (disch := omega) only [if_ltp, if_ltn, if_eqp, if_eqn, if_T, if_F, gd_zin, gd_isB0, gd_isB1, zix_toNat, Int.toNat_natCast, tn_a1, tn_a, tn_s1, tn_s, tn_m1, tn_l0, tn_l1, bnd_eq, obind_some, mr_some, sI_s, sI_n, sI_2, sA_1, sA_s, sA_i, sA_n]
  · simp (disch := omega) only [if_ltp, if_ltn, if_eqp, if_eqn, if_T, if_F, gd_zin, gd_isB0, gd_isB1, zix_toNat, Int.toNat_natCast, tn_a1, tn_a, tn_s1, tn_s, tn_m1, tn_l0, tn_l1, bnd_eq, obind_some, mr_some, sI_s, sI_n, sI_2, sA_1, sA_s, sA_i, sA_n]
  · simp (disch := omega) only [if_ltp, if_ltn, if_eqp, if_eqn, if_T, if_F, gd_zin, gd_isB0, gd_isB1, zix_toNat, Int.toNat_natCast, tn_a1, tn_a, tn_s1, tn_s, tn_m1, tn_l0, tn_l1, bnd_eq, obind_some, mr_some, sI_s, sI_n, sI_2, sA_1, sA_s, sA_i, sA_n]
end ML
