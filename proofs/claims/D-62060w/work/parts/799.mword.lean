/-! the reference: a word is put -/
set_option maxRecDepth 100000
section ML
variable {M M' M0 M1 : MS} {L : List RK} {q : Nat → Nat} {lf i j n : Nat} {bd g : Int}
/-- the padding of a box, whatever its lines do -/
def BdM (M : MS) (n : Nat) (bd : Int) : Prop := ∀ M', FLn M M' → m_border M' (n : Int) 5 = some bd
theorem BdM.fl (R : BdM M n bd) (A : FLn M M') : BdM M' n bd := fun M'' B => R M'' (A.trans B)
theorem hgh_step (L : List RK) {k : Nat} (hk : i ≤ k) (m : Int) : hgh L i m (k + 1 - i) = if rkk L k = 2 then max (hgh L i m (k - i)) (rsz L k) else hgh L i m (k - i) := by
  have e : k + 1 - i = (k - i) + 1 := by omega
  rw [e, hgh_e, show i + (k - i) = k by omega]
theorem sumS_step (L : List RK) {k : Nat} (hk : i ≤ k) : sumS L i (k + 1 - i) = sumS L i (k - i) + rsz L k := by
  have e : k + 1 - i = (k - i) + 1 := by omega
  rw [e]
  show sumS L i (k - i) + rsz L (i + (k - i)) = _
  rw [show i + (k - i) = k by omega]
/-- how wide and how high a word is -/
theorem putWord9 (hO : OKL L) (Z : SzM M L) (hj : j ≤ L.length) (hij : i ≤ j) (hk : ∀ k, i ≤ k → k < j → rkk L k = 2) (x1 : Int) : m_putWord M x1 (i : Int) (j : Int) g = m_putWord_52 M x1 (i : Int) (j : Int) g (sumS L i (j - i)) (hgh L i 0 (j - i)) := by
  have h183 := hO.1
  unfold m_putWord m_putWord_9
  refine loopU (fun k => (sumS L i (k - i), hgh L i 0 (k - i), ((k : Nat) : Int))) i j (by simp [sumS, hgh]) hij (fun k k1 k2 => ?_) ?_
  · have hs := Z M (FLn.refl M) k (by omega)
    have hat := hO.at (i := k) (by omega)
    have hh := hgh_b (f := i) (m := 0) hO (by omega) (k - i) (by omega)
    simp only [m_putWord_9s]
    rw [if_ltp (by omega) (by omega) (by omega), hs, obind_some, bnd_eq, sumS_step L k1, hgh_step L k1, if_pos (hk k k1 k2)]
    unfold m_putWord_44
    by_cases z : hgh L i 0 (k - i) < rsz L k
    · rw [if_ltp z (by omega) (by omega), Int.max_eq_right (by omega)]; rfl
    · rw [if_ltn (by omega) (by omega) (by omega), Int.max_eq_left (by omega)]; rfl
  · simp only [m_putWord_9s]
    rw [if_ltn (by omega) (by omega) (by omega)]
/-- the letters of a word -/
theorem putWord106 (hO : OKL L) (R : RnM M L q) (Z : SzM M L) (B : BdM M n bd) (hn : n < 40) (hj : j ≤ L.length) (hk : ∀ k, i ≤ k → k < j → rkk L k = 2) (x6 x0 : Int) : ∀ (d k : Nat) (M1 : MS), k + d = j → i ≤ k → FLn M M1 → M1.1 = M.1 → ∃ M', m_putWord_106 M1 (n : Int) (j : Int) x6 (x0 + sumS L i (k - i)) (k : Int) = m_putWord_183 M' x6 (x0 + sumS L i (j - i)) ∧ FLn M M' ∧ M'.1 = M.1 ∧ M'.2 49 = M1.2 49 ∧ (∀ k', k ≤ k' → k' < j → M'.2 47 (q k') = 1 ∧ M'.2 48 (q k') = M.2 43 n + bd + (x0 + sumS L i (k' - i)) ∧ M'.2 50 (q k') = (n : Int)) ∧ ∀ x, (∀ k', k ≤ k' → k' < j → q k' ≠ x) → M'.2 47 x = M1.2 47 x ∧ M'.2 48 x = M1.2 48 x ∧ M'.2 50 x = M1.2 50 x := by
  have h183 := hO.1
  intro d
  induction d with
  | zero =>
    intro k M1 hd hik A h1
    have e : k = j := by omega
    refine ⟨M1, ?_, A, h1, rfl, fun k' k1 k2 => by omega, fun x _ => ⟨rfl, rfl, rfl⟩⟩
    unfold m_putWord_106
    refine iter_mr ?_
    simp only [m_putWord_106s]
    rw [if_ltn (by omega) (by omega) (by omega), e]
  | succ d ih =>
    intro k M1 hd hik A h1
    have R1 := R.fl A
    obtain ⟨r1, r2, r3⟩ := R1
    have k2 := hk k hik (by omega)
    obtain ⟨j1, j2, j3, j4⟩ := (r2 k (by omega)).2 (by omega)
    have zl : zix (k : Int) = k := zix_nat (by omega)
    have zn : zix (n : Int) = n := zix_nat (by omega)
    have A1 : FLn M (sA (sA M1 47 (q k) 1) 50 (q k) (n : Int)) := (A.wsA (by simp) _ _).wsA (by simp) _ _
    have A2 : FLn M (sA (sA (sA M1 47 (q k) 1) 50 (q k) (n : Int)) 48 (q k) (M.2 43 n + bd + (x0 + sumS L i (k - i)))) := A1.wsA (by simp) _ _
    have hs := Z _ A2 k (by omega)
    have hb := B _ A1
    have h43 : (sA (sA M1 47 (q k) 1) 50 (q k) (n : Int)).2 43 n = M.2 43 n := by rw [A1.2 43 (by simp)]
    have h51a : (sA M1 47 (q k) 1).2 51 k = (q k : Int) := by rw [sA_n _ _ _ _ _ _ (by omega)]; exact j1
    have h51b : (sA (sA M1 47 (q k) 1) 50 (q k) (n : Int)).2 51 k = (q k : Int) := by rw [sA_n _ _ _ _ _ _ (by omega)]; exact h51a
    have hst : m_putWord_106s M1 (n : Int) (j : Int) x6 (x0 + sumS L i (k - i)) (k : Int) = some (.inl (sA (sA (sA M1 47 (q k) 1) 50 (q k) (n : Int)) 48 (q k) (M.2 43 n + bd + (x0 + sumS L i (k - i))), x0 + sumS L i (k + 1 - i), ((k + 1 : Nat) : Int))) := by
      unfold m_putWord_106s
      rw [if_ltp (by omega) (by omega) (by omega), gd_zin (by omega) (by omega) (by omega), zl, zn, j1, gd_zin (by omega) (by omega) (by omega), zix_nat (by omega), bnd_eq, gd_zin (by omega) (by omega) (by omega), h51a, gd_zin (by omega) (by omega) (by omega), zix_nat (by omega), bnd_eq, gd_zin (by omega) (by omega) (by omega), gd_zin (by omega) (by omega) (by omega), hb, obind_some, h51b, gd_zin (by omega) (by omega) (by omega), zix_nat (by omega), bnd_eq, h43, hs, obind_some, bnd_eq, sumS_step L hik, Int.add_assoc x0]
      rfl
    obtain ⟨M', e1, e2, e3, e4, e5, e6⟩ := ih (k + 1) _ (by omega) (by omega) A2 h1
    refine ⟨M', by unfold m_putWord_106; rw [iter_in hst]; exact e1, e2, e3, ?_, fun k' l1 l2 => ?_, fun x hx => ?_⟩
    · rw [e4, sA_f _ _ _ _ _ (by omega), sA_f _ _ _ _ _ (by omega), sA_f _ _ _ _ _ (by omega)]
    · by_cases z : k' = k
      · obtain ⟨f1, f2, f3⟩ := e6 (q k) (fun k'' m1 m2 m3 => by have := r3 k'' k (by omega) (by omega) (hk k'' (by omega) m2) k2 m3; omega)
        rw [z, f1, f2, f3]
        refine ⟨?_, ?_, ?_⟩
        · rw [sA_n _ _ _ _ _ _ (by omega), sA_n _ _ _ _ _ _ (by omega), sA_s]
        · rw [sA_s]
        · rw [sA_n _ _ _ _ _ _ (by omega), sA_s]
      · exact e5 k' (by omega) l2
    · obtain ⟨f1, f2, f3⟩ := e6 x (fun k' m1 m2 => hx k' (by omega) m2)
      have hq : x ≠ q k := fun z => hx k (by omega) (by omega) z.symm
      rw [f1, f2, f3]
      refine ⟨?_, ?_, ?_⟩
      · rw [sA_n _ _ _ _ _ _ (by omega), sA_n _ _ _ _ _ _ (by omega), sA_i _ _ _ _ _ hq]
      · rw [sA_i _ _ _ _ _ hq, sA_n _ _ _ _ _ _ (by omega), sA_n _ _ _ _ _ _ (by omega)]
      · rw [sA_n _ _ _ _ _ _ (by omega), sA_i _ _ _ _ _ hq, sA_n _ _ _ _ _ _ (by omega)]
/-- a word on the line that is -/
theorem putWord83 (hO : OKL L) (R : RnM M L q) (Z : SzM M L) (B : BdM M n bd) (hn : n < 40) (hj : j ≤ L.length) (hij : i ≤ j) (hk : ∀ k, i ≤ k → k < j → rkk L k = 2) {x6 x0 : Int} (h57 : M.1 57 = 0 ∨ M.1 57 = 1) (hx0 : x0 = if M.1 57 = 0 then 0 else M.1 55 + g) (h56 : 0 ≤ M.1 56 ∧ M.1 56 ≤ 9) (h6 : 0 ≤ x6 ∧ x6 ≤ 9) : ∃ M', m_putWord_83 M (n : Int) (i : Int) (j : Int) g x6 = some M' ∧ FLn M M' ∧ (M'.1 53 = M.1 53 ∧ M'.1 39 = M.1 39 ∧ M'.1 54 = M.1 54 ∧ M'.1 55 = x0 + sumS L i (j - i) ∧ M'.1 56 = max (M.1 56) x6 ∧ M'.1 57 = 1) ∧ M'.2 49 = M.2 49 ∧ (∀ k', i ≤ k' → k' < j → M'.2 47 (q k') = 1 ∧ M'.2 48 (q k') = M.2 43 n + bd + (x0 + sumS L i (k' - i)) ∧ M'.2 50 (q k') = (n : Int)) ∧ ∀ x, (∀ k', i ≤ k' → k' < j → q k' ≠ x) → M'.2 47 x = M.2 47 x ∧ M'.2 48 x = M.2 48 x ∧ M'.2 50 x = M.2 50 x := by
  obtain ⟨M1, e1, e2, e3, e4, e5, e6⟩ := putWord106 hO R Z B hn hj hk x6 x0 (j - i) i M (by omega) (by omega) (FLn.refl M) rfl
  have e0 : m_putWord_83 M (n : Int) (i : Int) (j : Int) g x6 = m_putWord_183 M1 x6 (x0 + sumS L i (j - i)) := by
    rw [Nat.sub_self] at e1
    have hz : x0 + sumS L i 0 = x0 := by unfold sumS; omega
    rw [hz] at e1
    unfold m_putWord_83 m_putWord_101
    rcases h57 with z | z
    · rw [if_eqp z, ← e1, hx0, if_pos z]
    · rw [if_eqn (by omega) (by omega) (by omega) (by omega) (by omega), ← e1, hx0, if_neg (by omega)]
  rw [e0]
  unfold m_putWord_183 m_putWord_208
  simp only [bnd_eq]
  have h561 : (sI M1 55 (x0 + sumS L i (j - i))).1 56 = M.1 56 := by simp (disch := omega) only [if_ltp, if_ltn, if_eqp, if_eqn, if_T, if_F, gd_zin, gd_isB0, gd_isB1, zix_toNat, Int.toNat_natCast, tn_a1, tn_a, tn_s1, tn_s, tn_m1, tn_l0, tn_l1, bnd_eq, obind_some, mr_some, sI_s, sI_n, sI_2, sA_1, sA_s, sA_i, sA_n]; rw [e3]
  rw [h561]
  have fin : ∀ v, v = max (M.1 56) x6 → ∃ M', some (sI (sI (sI M1 55 (x0 + sumS L i (j - i))) 56 v) 57 1) = some M' ∧ FLn M M' ∧ (M'.1 53 = M.1 53 ∧ M'.1 39 = M.1 39 ∧ M'.1 54 = M.1 54 ∧ M'.1 55 = x0 + sumS L i (j - i) ∧ M'.1 56 = max (M.1 56) x6 ∧ M'.1 57 = 1) ∧ M'.2 49 = M.2 49 ∧ (∀ k', i ≤ k' → k' < j → M'.2 47 (q k') = 1 ∧ M'.2 48 (q k') = M.2 43 n + bd + (x0 + sumS L i (k' - i)) ∧ M'.2 50 (q k') = (n : Int)) ∧ ∀ x, (∀ k', i ≤ k' → k' < j → q k' ≠ x) → M'.2 47 x = M.2 47 x ∧ M'.2 48 x = M.2 48 x ∧ M'.2 50 x = M.2 50 x := fun v hv => by
    refine ⟨_, rfl, ((e2.wsI (k := 55) (by simp) _).wsI (k := 56) (by simp) _).wsI (k := 57) (by simp) _, ⟨?_, ?_, ?_, ?_, ?_, ?_⟩, e4, e5, e6⟩
    · simp (disch := omega) only [if_ltp, if_ltn, if_eqp, if_eqn, if_T, if_F, gd_zin, gd_isB0, gd_isB1, zix_toNat, Int.toNat_natCast, tn_a1, tn_a, tn_s1, tn_s, tn_m1, tn_l0, tn_l1, bnd_eq, obind_some, mr_some, sI_s, sI_n, sI_2, sA_1, sA_s, sA_i, sA_n]; rw [e3]
    · simp (disch := omega) only [if_ltp, if_ltn, if_eqp, if_eqn, if_T, if_F, gd_zin, gd_isB0, gd_isB1, zix_toNat, Int.toNat_natCast, tn_a1, tn_a, tn_s1, tn_s, tn_m1, tn_l0, tn_l1, bnd_eq, obind_some, mr_some, sI_s, sI_n, sI_2, sA_1, sA_s, sA_i, sA_n]; rw [e3]
    · simp (disch := omega) only [if_ltp, if_ltn, if_eqp, if_eqn, if_T, if_F, gd_zin, gd_isB0, gd_isB1, zix_toNat, Int.toNat_natCast, tn_a1, tn_a, tn_s1, tn_s, tn_m1, tn_l0, tn_l1, bnd_eq, obind_some, mr_some, sI_s, sI_n, sI_2, sA_1, sA_s, sA_i, sA_n]; rw [e3]
    · simp (disch := omega) only [if_ltp, if_ltn, if_eqp, if_eqn, if_T, if_F, gd_zin, gd_isB0, gd_isB1, zix_toNat, Int.toNat_natCast, tn_a1, tn_a, tn_s1, tn_s, tn_m1, tn_l0, tn_l1, bnd_eq, obind_some, mr_some, sI_s, sI_n, sI_2, sA_1, sA_s, sA_i, sA_n]
    · simp (disch := omega) only [if_ltp, if_ltn, if_eqp, if_eqn, if_T, if_F, gd_zin, gd_isB0, gd_isB1, zix_toNat, Int.toNat_natCast, tn_a1, tn_a, tn_s1, tn_s, tn_m1, tn_l0, tn_l1, bnd_eq, obind_some, mr_some, sI_s, sI_n, sI_2, sA_1, sA_s, sA_i, sA_n]; exact hv
    · simp (disch := omega) only [if_ltp, if_ltn, if_eqp, if_eqn, if_T, if_F, gd_zin, gd_isB0, gd_isB1, zix_toNat, Int.toNat_natCast, tn_a1, tn_a, tn_s1, tn_s, tn_m1, tn_l0, tn_l1, bnd_eq, obind_some, mr_some, sI_s, sI_n, sI_2, sA_1, sA_s, sA_i, sA_n]
  by_cases z : M.1 56 < x6
  · rw [if_ltp z (by omega) (by omega)]
    exact fin _ (by omega)
  · rw [if_ltn (by omega) (by omega) (by omega)]
    exact fin _ (by omega)
end ML
