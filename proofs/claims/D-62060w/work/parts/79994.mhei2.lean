/-! the reference: heights -/
set_option maxRecDepth 100000
section MH
variable {M M' M0 M1 : MS} {T : TS} {rs : List RL} {C : List (Int × Nat)} {n p k q r j : Nat} {Wd Lf tl tp : Nat → Int} {v : Int} {R : List IT}
theorem bB_top (hW : WF T) (hIS : isP T (tN T) ≤ 183) {s : Nat} (hs : s ≤ tN T) : 0 ≤ bB T s ∧ bB T s ≤ 11247 := by
  have h24 := hW.1.2.1
  have := isP_le (T := T) hs
  unfold bB
  omega
/-- all numbers of a box that is filled are small -/
theorem hs_small (hW : WF T) (hok : ∀ r ∈ rs, okR2 r) (hrs : ∀ r ∈ rs, okRV r) (hIS : isP T (tN T) ≤ 183) (Q : LQ T rs v Wd Lf tl tp) (hn : n < tN T) (h1 : n < q) (h2 : q ≤ behindA T n) : (0 ≤ (hsP T rs Wd tl n q).1 ∧ 0 ≤ (hsP T rs Wd tl n q).2.1 ∧ 0 ≤ (hsP T rs Wd tl n q).2.2.1 ∧ (hsP T rs Wd tl n q).1 + (hsP T rs Wd tl n q).2.1 ≤ 12000 ∧ (hsP T rs Wd tl n q).2.2.1 ≤ 12000) ∧ (0 ≤ (flP T rs (Wd n) (hsP T rs Wd tl n q)).1 ∧ 0 ≤ (flP T rs (Wd n) (hsP T rs Wd tl n q)).2.1 ∧ (flP T rs (Wd n) (hsP T rs Wd tl n q)).1 + (flP T rs (Wd n) (hsP T rs Wd tl n q)).2.1 ≤ 12000) := by
  obtain ⟨i1, i2, i3, i4, r', i5, i6, i7, i8, i9⟩ := HB.at (Wd := Wd) hW hok hrs hIS hn (fun q _ g => tl_b hW hok hrs hIS Q q g) h1 h2
  have hle := beh_le hW hn
  have hO := run_ok (Wd := Wd) (tl := tl) hW hrs hIS h1 (by omega)
  have b1 := bB_top hW hIS (s := r') (by omega)
  have b2 := bB_top hW hIS (s := n + 1) (by omega)
  obtain ⟨f1, f2, f3, f4, f5⟩ := flP_b (W := Wd n) hO i1 i2 i3
  refine ⟨⟨i1, i2, i4, by omega, by omega⟩, f1, f2, by omega⟩
theorem tl_small (hW : WF T) (hok : ∀ r ∈ rs, okR2 r) (hrs : ∀ r ∈ rs, okRV r) (hIS : isP T (tN T) ≤ 183) (Q : LQ T rs v Wd Lf tl tp) (hn : n < tN T) : 0 ≤ tl n ∧ tl n ≤ 12000 := by
  have h1 := tl_b hW hok hrs hIS Q n hn
  have hle := beh_le hW hn
  have b1 := bB_top hW hIS (s := behindA T n) (by omega)
  have b2 := bB_top hW hIS (s := n + 1) (by omega)
  omega
/-- behind the flush, a box is set below -/
theorem heights_109 (hL : LM M T rs C) (hW : WF T) (hrs : ∀ r ∈ rs, okRV r) (hq : q < tN T) {s : HS} (hs : 0 ≤ s.1 ∧ 0 ≤ s.2.1 ∧ s.1 + s.2.1 ≤ 12000) (h3 : 0 ≤ s.2.2.1 ∧ s.2.2.1 ≤ 12000) (ht : M.2 45 q = tl q) (htl : 0 ≤ tl q ∧ tl q ≤ 12000) (x2 x7 : Int) (hn : n < tN T) : m_heights_109 M (n : Int) x2 (nmQ T n) s.1 s.2.2.1 x7 (q : Int) s.2.1 = some (.inl (sA (sI M 52 0) 46 q (tpS (rwP T n) (vlP T rs 4 q) s), (bxS (rwP T n) (vlP T rs 4 q) (tl q) s).1, (bxS (rwP T n) (vlP T rs 4 q) (tl q) s).2.1, (bxS (rwP T n) (vlP T rs 4 q) (tl q) s).2.2.1, ((q + 1 : Nat) : Int))) := by
  have h24 := hW.1.2.1
  have hnr := nm_rng hW hn
  have hm := (vl_rng hW hrs hq).2.2.2.1
  have e1 : (160 : Int) + (q : Int) = ((40 * 4 + q : Nat) : Int) := by omega
  have hvl : (sI M 52 0).2 36 (40 * 4 + q) = vlP T rs 4 q := by rw [sI_2]; exact hL.v hW hq (by omega)
  have base : ∀ t0, t0 = tpS (rwP T n) (vlP T rs 4 q) s → m_heights_163 (sI M 52 0) (n : Int) x2 (nmQ T n) s.2.2.1 x7 (q : Int) (vlP T rs 4 q) t0 (q : Int) = some (.inl (sA (sI M 52 0) 46 q (tpS (rwP T n) (vlP T rs 4 q) s), (bxS (rwP T n) (vlP T rs 4 q) (tl q) s).1, (bxS (rwP T n) (vlP T rs 4 q) (tl q) s).2.1, (bxS (rwP T n) (vlP T rs 4 q) (tl q) s).2.2.1, ((q + 1 : Nat) : Int))) := fun t0 h0 => by
    unfold m_heights_163 m_heights_215 m_heights_251
    have g45 : (sA (sI M 52 0) 46 q t0).2 45 q = tl q := by rw [sA_n _ _ _ _ _ _ (by omega), sI_2]; exact ht
    rw [gd_zin (by omega) (by omega) (by omega), zix_nat (by omega), bnd_eq, gd_zin (by omega) (by omega) (by omega), gd_zin (by omega) (by omega) (by omega), sA_s, g45, bnd_eq, gd_zin (by omega) (by omega) (by omega), ← h0]
    unfold bxS
    rw [← h0]
    by_cases z : 2 * vlP T rs 4 q + tl q < s.2.2.1
    · rw [if_ltp z (by omega) (by omega), Int.max_eq_left (by omega)]; rfl
    · rw [if_ltn (by omega) (by omega) (by omega), gd_zin (by omega) (by omega) (by omega), Int.max_eq_right (by omega)]; rfl
  unfold m_heights_109 m_heights_162
  rw [bnd_eq, e1, gd_zin (by omega) (by omega) (by omega), zix_nat (by omega), hvl, bnd_eq]
  by_cases hr : nmQ T n = 114
  · rw [if_eqp hr]
    refine base _ ?_
    unfold tpS rwP
    simp [hr]
  · have hrw : rwP T n = false := by unfold rwP; simp [hr]
    rw [if_eqn hr (by omega) (by omega) (by omega) (by omega)]
    by_cases z : vlP T rs 4 q < s.2.1
    · rw [if_ltp z (by omega) (by omega)]
      refine base _ ?_
      unfold tpS
      rw [hrw, if_neg (show ¬ (false = true) by simp), Int.max_eq_left (by omega)]
    · rw [if_ltn (by omega) (by omega) (by omega)]
      refine base _ ?_
      unfold tpS
      rw [hrw, if_neg (show ¬ (false = true) by simp), Int.max_eq_right (by omega)]
/-- what heights leaves -/
def HO (M0 M : MS) (T : TS) (rs : List RL) (C : List (Int × Nat)) (Wd Lf tl : Nat → Int) (n : Nat) : Prop :=
  ((∀ k, k ∉ [39, 52, 53, 54, 55, 56, 57] → M.1 k = M0.1 k) ∧ ∀ k, k ∉ [45, 46, 47, 48, 49, 50, 51] → M.2 k = M0.2 k) ∧ (M.2 45 n = tl n ∧ ∀ q, q ≠ n → M.2 45 q = M0.2 45 q) ∧ M.1 39 = M0.1 39 + (heP T rs Wd tl n).2.2.2.2 ∧
  ((∀ q, n < q → q < behindA T n → hoP T rs q = n → bxP T rs q = true → M.2 46 q = rtE T rs Wd tl q) ∧ ∀ q, ¬ (n < q ∧ q < behindA T n ∧ hoP T rs q = n ∧ bxP T rs q = true) → M.2 46 q = M0.2 46 q) ∧
  (∀ p k, p < behindA T n → k < (txP T p).length → chN T rs n p k → ∃ q j, Cov T rs Wd tl n q j p k ∧ ChQ M T rs C Wd Lf tl n q j p k) ∧
  ∀ p k, p < tN T → k < (txP T p).length → ¬ chN T rs n p k → M.2 47 (cIx T C p k) = M0.2 47 (cIx T C p k) ∧ M.2 48 (cIx T C p k) = M0.2 48 (cIx T C p k) ∧ M.2 49 (cIx T C p k) = M0.2 49 (cIx T C p k) ∧ M.2 50 (cIx T C p k) = M0.2 50 (cIx T C p k)
/-- a round of heights -/
theorem heights_step (hL : LM M0 T rs C) (hW : WF T) (hok : ∀ r ∈ rs, okR2 r) (hrs : ∀ r ∈ rs, okRV r) (hX : txOK T) (hIS : isP T (tN T) ≤ 183) (Q : LQ T rs v Wd Lf tl tp) (hv : 1 ≤ v ∧ v ≤ 64) (hn : n < tN T) (hb : bxP T rs n = true) (H : HM M0 T rs Wd Lf (tN T)) (hT : ∀ q, n < q → q < tN T → bxP T rs q = true → M0.2 45 q = tl q) (h1 : n < r) (h2 : r < behindA T n) (hC : HC M0 M T rs C Wd Lf tl n r (hsP T rs Wd tl n r).2.2.2.1) (hR : RunM M T C (hsP T rs Wd tl n r).2.2.2.1) (h39 : M.1 39 = M0.1 39 + (hsP T rs Wd tl n r).2.2.2.2) (x2 : Int) : ∃ M', m_heights_47s M (n : Int) x2 (nmQ T n) (hsP T rs Wd tl n r).1 (hsP T rs Wd tl n r).2.1 (hsP T rs Wd tl n r).2.2.1 ((behindA T n : Nat) : Int) (r : Int) = some (.inl (M', (hsP T rs Wd tl n (r + 1)).1, (hsP T rs Wd tl n (r + 1)).2.1, (hsP T rs Wd tl n (r + 1)).2.2.1, ((r + 1 : Nat) : Int))) ∧ HC M0 M' T rs C Wd Lf tl n (r + 1) (hsP T rs Wd tl n (r + 1)).2.2.2.1 ∧ RunM M' T C (hsP T rs Wd tl n (r + 1)).2.2.2.1 ∧ M'.1 39 = M0.1 39 + (hsP T rs Wd tl n (r + 1)).2.2.2.2 := by
  have h24 := hW.1.2.1
  have hbl := beh_le hW hn
  have hrn : r < tN T := by omega
  have L1 := hL.fl hC.1.m
  have H1 := H.h hC.1
  obtain ⟨g1, g2, g3, g4⟩ := H1 r hrn
  have g3 := g3 (by omega)
  obtain ⟨o1, o2, o3⟩ := ho_in hW hok r hrn (by omega)
  rw [hs_s h1]
  have same : (hst T rs Wd tl n (hsP T rs Wd tl n r) r = hsP T rs Wd tl n r) → ¬ chN T rs n r 0 ∨ True → (∀ k, ¬ chN T rs n r k) → ¬ (hoP T rs r = n ∧ bxP T rs r = true) → ∃ M', (some (.inl (M, (hsP T rs Wd tl n r).1, (hsP T rs Wd tl n r).2.1, (hsP T rs Wd tl n r).2.2.1, (r : Int) + 1)) : Option ((MS × Int × Int × Int × Int) ⊕ MS)) = some (.inl (M', (hst T rs Wd tl n (hsP T rs Wd tl n r) r).1, (hst T rs Wd tl n (hsP T rs Wd tl n r) r).2.1, (hst T rs Wd tl n (hsP T rs Wd tl n r) r).2.2.1, ((r + 1 : Nat) : Int))) ∧ HC M0 M' T rs C Wd Lf tl n (r + 1) (hst T rs Wd tl n (hsP T rs Wd tl n r) r).2.2.2.1 ∧ RunM M' T C (hst T rs Wd tl n (hsP T rs Wd tl n r) r).2.2.2.1 ∧ M'.1 39 = M0.1 39 + (hst T rs Wd tl n (hsP T rs Wd tl n r) r).2.2.2.2 := fun e _ hch hnb => by
    rw [e]
    obtain ⟨c1, c2, c3, c4⟩ := hC
    refine ⟨M, rfl, ⟨c1, ⟨fun q q1 q2 q3 q4 => ?_, fun q hq => ?_⟩, fun p k p1 p2 p3 p4 => ?_, c4⟩, hR, h39⟩
    · exact c2.1 q q1 (by have : q ≠ r := fun z => hnb (by rw [← z]; exact ⟨q3, q4⟩); omega) q3 q4
    · exact c2.2 q (fun z => hq ⟨z.1, by omega, z.2.2⟩)
    · exact c3 p k (by have : p ≠ r := fun z => hch k (by rw [← z]; exact p3); omega) p2 p3 p4
  unfold m_heights_47s
  rw [if_ltp (by omega) (by omega) (by omega), gd_zin (by omega) (by omega) (by omega), zix_nat (by omega), g3]
  by_cases hh : hoP T rs r = n
  · rw [if_eqp (by rw [hh]), gd_zin (by omega) (by omega) (by omega), g2]
    cases hbr : bxP T rs r with
    | false =>
      rw [if_neg (show ¬ (false = true) by simp), if_eqp rfl]
      unfold m_heights_224
      rw [gd_zin (by omega) (by omega) (by omega), zix_nat (by omega), g3, if_eqp (by rw [hh]), gd_zin (by omega) (by omega) (by omega), g1]
      cases hd : hdP T rs r with
      | true =>
        rw [if_pos rfl, if_eqn (by omega) (by omega) (by omega) (by omega) (by omega)]
        exact same (hst_hd hd _) (Or.inr trivial) (fun k z => by have := z.2.2.1; rw [hd] at this; cases this) (fun z => by rw [hbr] at z; cases z.2)
      | false =>
        rw [if_neg (show ¬ (false = true) by simp), if_eqp rfl, hst_ad hh hbr hd]
        have hl2 := run_len (T := T) (rs := rs) (Wd := Wd) (tl := tl) (n := n) (r - (n + 1))
        rw [show n + 1 + (r - (n + 1)) = r by omega] at hl2
        have hl3 : isP T (r + 1) = isP T r + (itQ T r).length := rfl
        have hl4 := isP_le (T := T) (a := r + 1) (b := tN T) (by omega)
        obtain ⟨M', m1, m2, m3⟩ := m_gather_eq L1 hW hrn hR (by omega)
        rw [m1, obind_some]
        obtain ⟨c1, c2, c3, c4⟩ := hC
        refine ⟨M', rfl, ⟨c1.trans m3.h, ⟨fun q q1 q2 q3 q4 => ?_, fun q hq => ?_⟩, fun p k p1 p2 p3 p4 => ?_, fun p k p1 p2 p3 => ?_⟩, m2, ?_⟩
        · rw [m3.2 46 (by omega)]
          exact c2.1 q q1 (by have : q ≠ r := fun z => by rw [z, hbr] at q4; cases q4
                              omega) q3 q4
        · rw [m3.2 46 (by omega)]
          exact c2.2 q (fun z => hq ⟨z.1, by omega, z.2.2⟩)
        · have p4' : (p, some k) ∉ (hsP T rs Wd tl n r).2.2.2.1 ∧ (p, some k) ∉ itQ T r := by
            have : (p, some k) ∉ (hsP T rs Wd tl n r).2.2.2.1 ++ itQ T r := p4
            rw [List.mem_append] at this
            exact ⟨fun z => this (Or.inl z), fun z => this (Or.inr z)⟩
          have hpr : p ≠ r := fun z => p4'.2 (by
            rw [z] at p2 p3 ⊢
            unfold itQ
            rw [if_pos p3.2.2.2.1, List.mem_map]
            exact ⟨k, List.mem_range.mpr p2, rfl⟩)
          obtain ⟨q, j, t1, t2⟩ := c3 p k (by omega) p2 p3 p4'.1
          refine ⟨q, j, t1, ?_⟩
          unfold ChQ
          rw [m3.2 47 (by omega), m3.2 48 (by omega), m3.2 49 (by omega), m3.2 50 (by omega)]
          exact t2
        · rw [m3.2 47 (by omega), m3.2 48 (by omega), m3.2 49 (by omega), m3.2 50 (by omega)]
          exact c4 p k p1 p2 p3
        · rw [m3.1 39 (by omega)]; exact h39
    | true =>
      rw [if_pos rfl, if_eqn (by omega) (by omega) (by omega) (by omega) (by omega), hst_bx hh hbr]
      have hE : EvQ T rs n r := Or.inr ⟨h1, h2, hh, hbr⟩
      obtain ⟨f1, f2, f3⟩ := hflush hL hW hok hrs hX hIS Q hv hn hb H hE hC hR h39
      obtain ⟨s1, s2⟩ := hs_small hW hok hrs hIS Q hn h1 (Nat.le_of_lt h2)
      have htl := tl_small hW hok hrs hIS Q hrn
      have fin : ∀ M1, HC M0 M1 T rs C Wd Lf tl n r [] → M1.1 39 = M0.1 39 + (flP T rs (Wd n) (hsP T rs Wd tl n r)).2.2.2.2 → ∃ M', m_heights_109 M1 (n : Int) x2 (nmQ T n) (flP T rs (Wd n) (hsP T rs Wd tl n r)).1 (hsP T rs Wd tl n r).2.2.1 ((behindA T n : Nat) : Int) (r : Int) (flP T rs (Wd n) (hsP T rs Wd tl n r)).2.1 = some (.inl (M', (bxS (rwP T n) (vlP T rs 4 r) (tl r) (flP T rs (Wd n) (hsP T rs Wd tl n r))).1, (bxS (rwP T n) (vlP T rs 4 r) (tl r) (flP T rs (Wd n) (hsP T rs Wd tl n r))).2.1, (bxS (rwP T n) (vlP T rs 4 r) (tl r) (flP T rs (Wd n) (hsP T rs Wd tl n r))).2.2.1, ((r + 1 : Nat) : Int))) ∧ HC M0 M' T rs C Wd Lf tl n (r + 1) [] ∧ RunM M' T C [] ∧ M'.1 39 = M0.1 39 + (flP T rs (Wd n) (hsP T rs Wd tl n r)).2.2.2.2 := fun M1 hC1 h39' => by
        have e2 : (hsP T rs Wd tl n r).2.2.1 = (flP T rs (Wd n) (hsP T rs Wd tl n r)).2.2.1 := rfl
        rw [e2, heights_109 (tl := tl) (hL.fl hC1.1.m) hW hrs hrn s2 (by rw [← e2]; omega) (by rw [hC1.1.2 45 (by simp)]; exact hT r h1 hrn hbr) htl _ _ hn]
        obtain ⟨c1, c2, c3, c4⟩ := hC1
        refine ⟨_, rfl, ⟨(c1.wsI (by simp) _).wsA (by simp) _ _, ⟨fun q q1 q2 q3 q4 => ?_, fun q hq => ?_⟩, fun p k p1 p2 p3 p4 => ?_, fun p k p1 p2 p3 => ?_⟩, ⟨?_, fun j hj => absurd hj (by simp)⟩, ?_⟩
        · by_cases z : q = r
          · rw [z, sA_s]
            unfold rtE
            rw [hh]
          · rw [sA_i _ _ _ _ _ z, sI_2]
            exact c2.1 q q1 (by omega) q3 q4
        · have z : q ≠ r := fun z => hq (by rw [z]; exact ⟨h1, by omega, hh, hbr⟩)
          rw [sA_i _ _ _ _ _ z, sI_2]
          exact c2.2 q (fun y => hq ⟨y.1, by omega, y.2.2⟩)
        · have hpr : p ≠ r := fun z => by
            have := p3.2.2.2.1
            rw [z] at this
            exact (bx_d hbr).1 this
          obtain ⟨q, j, t1, t2⟩ := c3 p k (by omega) p2 p3 p4
          refine ⟨q, j, t1, ?_⟩
          unfold ChQ
          rw [sA_n _ _ _ _ _ _ (by omega), sA_n _ _ _ _ _ _ (by omega), sA_n _ _ _ _ _ _ (by omega), sA_n _ _ _ _ _ _ (by omega), sI_2]
          exact t2
        · rw [sA_n _ _ _ _ _ _ (by omega), sA_n _ _ _ _ _ _ (by omega), sA_n _ _ _ _ _ _ (by omega), sA_n _ _ _ _ _ _ (by omega), sI_2]
          exact c4 p k p1 p2 p3
        · rw [sA_1, sI_s]; rfl
        · rw [sA_1, sI_n _ _ _ _ (by omega)]; exact h39'
      rw [f1, obind_some]
      unfold m_heights_98
      cases hz : hasL (rkL T rs (hsP T rs Wd tl n r)) with
      | false =>
        rw [if_neg (show ¬ (false = true) by simp), if_eqp rfl, if_eqp rfl]
        have e1 : (hsP T rs Wd tl n r).1 = (flP T rs (Wd n) (hsP T rs Wd tl n r)).1 := by unfold flP; rw [hz]; rfl
        have e2 : (hsP T rs Wd tl n r).2.1 = (flP T rs (Wd n) (hsP T rs Wd tl n r)).2.1 := by unfold flP; rw [hz]; rfl
        have := fin M (f2 hz).1 (f2 hz).2
        rw [← e1, ← e2] at this
        exact this
      | true =>
        rw [if_pos rfl, if_eqn (by omega) (by omega) (by omega) (by omega) (by omega)]
        obtain ⟨M1, m1, m2, m3⟩ := f3 hz
        rw [m1, obind_some, if_eqn (by omega) (by omega) (by omega) (by omega) (by omega)]
        have e2 : (flP T rs (Wd n) (hsP T rs Wd tl n r)).2.1 = 0 := by unfold flP; rw [hz]; rfl
        have := fin M1 m2 m3
        rw [e2] at this
        exact this
  · rw [if_eqn (by omega) (by omega) (by omega) (by omega) (by omega)]
    unfold m_heights_224
    rw [gd_zin (by omega) (by omega) (by omega), zix_nat (by omega), g3, if_eqn (by omega) (by omega) (by omega) (by omega) (by omega)]
    exact same (hst_no hh _) (Or.inr trivial) (fun k z => hh z.2.1) (fun z => hh z.1)
theorem m_heights_eq (hL : LM M0 T rs C) (hW : WF T) (hok : ∀ r ∈ rs, okR2 r) (hrs : ∀ r ∈ rs, okRV r) (hX : txOK T) (hIS : isP T (tN T) ≤ 183) (Q : LQ T rs v Wd Lf tl tp) (hv : 1 ≤ v ∧ v ≤ 64) (hn : n < tN T) (hb : bxP T rs n = true) (H : HM M0 T rs Wd Lf (tN T)) (hT : ∀ q, n < q → q < tN T → bxP T rs q = true → M0.2 45 q = tl q) : ∃ M', m_heights M0 (n : Int) = some M' ∧ HO M0 M' T rs C Wd Lf tl n := by
  have h24 := hW.1.2.1
  have hgt := behindA_gt T n
  have hbl := beh_le hW hn
  have hin := io_lt hW hn
  have hnr := nm_rng hW hn
  have A4 : FHt M0 (sI M0 52 0) := (FHt.refl M0).wsI (by simp) _
  have L4 := hL.fl A4.m
  unfold m_heights
  rw [m_border_eq hL hW hok hn, obind_some, bnd_eq, gd_zin (by omega) (by omega) (by omega), zix_nat (by omega), hL.o hW hn, gd_zin (by omega) (by omega) (by omega), zix_nat (by omega), hL.nm hW hn, bnd_eq, bnd_eq, m_behind_eq L4.1 hW.b (p := n) (by rw [hW.1.2.2.1]; exact hn), obind_some, bnd_eq]
  unfold m_heights_47
  have key := loopX (f := fun (z : MS × Int × Int × Int × Int) => m_heights_47s z.1 (n : Int) (2 * vlP T rs 5 n) (nmQ T n) z.2.1 z.2.2.1 z.2.2.2.1 ((behindA T n : Nat) : Int) z.2.2.2.2) (fun r z => z.2 = ((hsP T rs Wd tl n r).1, (hsP T rs Wd tl n r).2.1, (hsP T rs Wd tl n r).2.2.1, ((r : Nat) : Int)) ∧ HC M0 z.1 T rs C Wd Lf tl n r (hsP T rs Wd tl n r).2.2.2.1 ∧ RunM z.1 T C (hsP T rs Wd tl n r).2.2.2.1 ∧ z.1.1 39 = M0.1 39 + (hsP T rs Wd tl n r).2.2.2.2) (a := n + 1) (b := behindA T n) (s0 := (sI M0 52 0, 0, 0, 0, (n : Int) + 1)) hgt
  obtain ⟨z, hI, hz⟩ := key (by
    rw [hs_0]
    refine ⟨by simp, ⟨A4, ⟨fun q q1 q2 => by omega, fun q _ => rfl⟩, fun p k p1 p2 p3 => by have := p3.1; omega, fun p k _ _ _ => ⟨rfl, rfl, rfl, rfl⟩⟩, ⟨by rw [sI_s]; rfl, fun j hj => absurd hj (by simp)⟩, ?_⟩
    rw [sI_n _ _ _ _ (by omega)]
    show M0.1 39 = M0.1 39 + 0
    omega) (fun r z r1 r2 hz => by
    obtain ⟨M1, z2⟩ := z
    obtain ⟨i1, i2, i3, i4⟩ := hz
    have i1 : z2 = _ := i1
    subst i1
    obtain ⟨M', m1, m2, m3, m4⟩ := heights_step hL hW hok hrs hX hIS Q hv hn hb H hT (by omega) r2 i2 i3 i4 (2 * vlP T rs 5 n)
    exact ⟨_, m1, rfl, m2, m3, m4⟩)
  rw [hz]
  obtain ⟨M1, z2⟩ := z
  obtain ⟨i1, i2, i3, i4⟩ := hI
  have i1 : z2 = _ := i1
  subst i1
  refine Exists.imp (fun M' h => h) ?_
  have hE : EvQ T rs n (behindA T n) := Or.inl rfl
  obtain ⟨f1, f2, f3⟩ := hflush hL hW hok hrs hX hIS Q hv hn hb H hE i2 i3 i4
  have fin : ∀ M1, HC M0 M1 T rs C Wd Lf tl n (behindA T n) [] → M1.1 39 = M0.1 39 + (flP T rs (Wd n) (hsP T rs Wd tl n (behindA T n))).2.2.2.2 → ∃ M', m_heights_279 M1 (n : Int) (2 * vlP T rs 5 n) (nmQ T n) (heP T rs Wd tl n).1 (heP T rs Wd tl n).2.1 (heP T rs Wd tl n).2.2.1 = some M' ∧ HO M0 M' T rs C Wd Lf tl n := fun M1 hC1 h39' => by
    have e1 : m_heights_279 M1 (n : Int) (2 * vlP T rs 5 n) (nmQ T n) (heP T rs Wd tl n).1 (heP T rs Wd tl n).2.1 (heP T rs Wd tl n).2.2.1 = some (sA M1 45 n (tl n)) := by
      rw [Q.2.2 n hn]
      unfold m_heights_279 m_heights_311 tlE
      rw [gd_zin (by omega) (by omega) (by omega), gd_zin (by omega) (by omega) (by omega), gd_zin (by omega) (by omega) (by omega), zix_nat (by omega), bnd_eq, bnd_eq, bnd_eq]
      by_cases z1 : nmQ T n = 104
      · rw [if_eqp z1, if_pos z1]
      · rw [if_eqn z1 (by omega) (by omega) (by omega) (by omega), if_neg z1]
        by_cases z2 : nmQ T n = 114
        · rw [if_eqp z2, if_pos z2]
        · rw [if_eqn z2 (by omega) (by omega) (by omega) (by omega), if_neg z2]
    rw [e1]
    obtain ⟨c1, c2, c3, c4⟩ := hC1
    refine ⟨_, rfl, ⟨fun k hk => c1.1 k hk, fun k hk => ?_⟩, ⟨sA_s _ _ _ _, fun q hq => ?_⟩, h39', ⟨fun q q1 q2 q3 q4 => ?_, fun q hq => ?_⟩, fun p k p1 p2 p3 => ?_, fun p k p1 p2 p3 => ?_⟩
    · rw [sA_f _ _ _ _ _ (fun z => hk (by rw [z]; simp))]
      exact c1.2 k (fun z => hk (by simp at z ⊢; omega))
    · rw [sA_i _ _ _ _ _ hq, c1.2 45 (by simp)]
    · rw [sA_n _ _ _ _ _ _ (by omega)]; exact c2.1 q q1 q2 q3 q4
    · rw [sA_n _ _ _ _ _ _ (by omega)]; exact c2.2 q hq
    · obtain ⟨q, j, t1, t2⟩ := c3 p k p1 p2 p3 (by simp)
      refine ⟨q, j, t1, ?_⟩
      unfold ChQ
      rw [sA_n _ _ _ _ _ _ (by omega), sA_n _ _ _ _ _ _ (by omega), sA_n _ _ _ _ _ _ (by omega), sA_n _ _ _ _ _ _ (by omega)]
      exact t2
    · rw [sA_n _ _ _ _ _ _ (by omega), sA_n _ _ _ _ _ _ (by omega), sA_n _ _ _ _ _ _ (by omega), sA_n _ _ _ _ _ _ (by omega)]
      exact c4 p k p1 p2 p3
  have hgo : m_heights_47s M1 (n : Int) (2 * vlP T rs 5 n) (nmQ T n) (hsP T rs Wd tl n (behindA T n)).1 (hsP T rs Wd tl n (behindA T n)).2.1 (hsP T rs Wd tl n (behindA T n)).2.2.1 ((behindA T n : Nat) : Int) ((behindA T n : Nat) : Int) = mr (m_heights_257 M1 (n : Int) (2 * vlP T rs 5 n) (nmQ T n) (hsP T rs Wd tl n (behindA T n)).1 (hsP T rs Wd tl n (behindA T n)).2.1 (hsP T rs Wd tl n (behindA T n)).2.2.1) := by
    unfold m_heights_47s
    rw [if_ltn (by omega) (by omega) (by omega)]
  rw [iter_mr (by exact hgo)]
  unfold m_heights_257
  rw [f1, obind_some]
  cases hz : hasL (rkL T rs (hsP T rs Wd tl n (behindA T n))) with
  | false =>
    rw [if_neg (show ¬ (false = true) by simp), if_eqp rfl]
    have e1 : (hsP T rs Wd tl n (behindA T n)).1 = (heP T rs Wd tl n).1 := by unfold heP flP; rw [hz]; rfl
    have e2 : (hsP T rs Wd tl n (behindA T n)).2.1 = (heP T rs Wd tl n).2.1 := by unfold heP flP; rw [hz]; rfl
    rw [e1, e2]
    exact fin M1 (f2 hz).1 (f2 hz).2
  | true =>
    rw [if_pos rfl, if_eqn (by omega) (by omega) (by omega) (by omega) (by omega)]
    obtain ⟨M2, m1, m2, m3⟩ := f3 hz
    rw [m1, obind_some]
    have e2 : (heP T rs Wd tl n).2.1 = 0 := by unfold heP flP; rw [hz]; rfl
    have := fin M2 m2 m3
    rw [e2] at this
    exact this
end MH
