/-! the reference: the layout -/
set_option maxRecDepth 100000
/-- lines of the boxes before b -/
def lpP (T : TS) (rs : List RL) (Wd tl : Nat → Int) : Nat → Int
  | 0 => 0
  | b + 1 => lpP T rs Wd tl b + (if bxP T rs b then (heP T rs Wd tl b).2.2.2.2 else 0)
/-- a character that is put -/
def chA (T : TS) (rs : List RL) (p k : Nat) : Prop := hdP T rs p = false ∧ nmQ T p = 1 ∧ (txP T p).getD k 0 ≠ 32
/-- the layout stands in the reference -/
def LaidM (M : MS) (T : TS) (rs : List RL) (C : List (Int × Nat)) (Wd Lf tl tp : Nat → Int) (v : Int) : Prop :=
  LM M T rs C ∧ HM M T rs Wd Lf (tN T) ∧ (∀ n, n < tN T → bxP T rs n = true → M.2 45 n = tl n ∧ M.2 46 n = tp n) ∧ (M.1 37 = 1 ∧ M.1 38 = v ∧ M.1 39 = lpP T rs Wd tl (tN T)) ∧
  ∀ p k, p < tN T → k < (txP T p).length → (chA T rs p k → ∃ n q j, Cov T rs Wd tl n q j p k ∧ M.2 47 (cIx T C p k) = 1 ∧ M.2 48 (cIx T C p k) = Lf n + vlP T rs 5 n + (flF T rs Wd tl n q).2.2.1 j ∧ M.2 49 (cIx T C p k) = tp n + vlP T rs 5 n + flE T rs Wd tl n q + (flF T rs Wd tl n q).2.2.2 j) ∧ (¬ chA T rs p k → M.2 47 (cIx T C p k) = 0)
/-- while the heights are worked out, from behind: those from m on are done -/
def LJ (M1 M : MS) (T : TS) (rs : List RL) (C : List (Int × Nat)) (Wd Lf tl : Nat → Int) (m : Nat) : Prop :=
  ((∀ k, k ∉ [39, 52, 53, 54, 55, 56, 57] → M.1 k = M1.1 k) ∧ ∀ k, k ∉ [45, 46, 47, 48, 49, 50, 51] → M.2 k = M1.2 k) ∧ (∀ q, m ≤ q → q < tN T → bxP T rs q = true → M.2 45 q = tl q) ∧ M.1 39 = lpP T rs Wd tl (tN T) - lpP T rs Wd tl m ∧ (∀ q, q < tN T → 0 < q → bxP T rs q = true → m ≤ hoP T rs q → M.2 46 q = rtE T rs Wd tl q) ∧
  ∀ p k, p < tN T → k < (txP T p).length → (chA T rs p k → m ≤ hoP T rs p → ∃ n q j, Cov T rs Wd tl n q j p k ∧ ChQ M T rs C Wd Lf tl n q j p k) ∧ (¬ chA T rs p k → M.2 47 (cIx T C p k) = 0)
section ML
variable {M M' M0 M1 : MS} {T : TS} {rs : List RL} {C : List (Int × Nat)} {n p k q r j m : Nat} {Wd Lf tl tp : Nat → Int} {v : Int} {R : List IT} {w : List Int}
theorem LJ.fm (h : LJ M1 M T rs C Wd Lf tl m) : FLm M1 M := ⟨fun k hk => h.1.1 k (fun z => hk (by simp at z ⊢; omega)), fun k hk => h.1.2 k (fun z => by simp at z; omega)⟩
theorem LJ.hm (h : LJ M1 M T rs C Wd Lf tl m) (H : HM M1 T rs Wd Lf n) : HM M T rs Wd Lf n := fun q hq => by
  have := H q hq
  rw [h.1.2 40 (by simp), h.1.2 41 (by simp), h.1.2 42 (by simp), h.1.2 43 (by simp), h.1.2 44 (by simp)]
  exact this
theorem LJ.skip (h : LJ M1 M T rs C Wd Lf tl (m + 1)) (hW : WF T) (hok : ∀ r ∈ rs, okR2 r) (hm : m < tN T) (hb : bxP T rs m = false) : LJ M1 M T rs C Wd Lf tl m := by
  have hne : ∀ q, q < tN T → 0 < q → hoP T rs q ≠ m := fun q h1 h2 z => by
    have := (ho_in hW hok q h1 h2).2.1
    rw [z, hb] at this; cases this
  obtain ⟨j1, j2, j3, j4, j5⟩ := h
  refine ⟨j1, fun q h1 h2 h3 => ?_, ?_, fun q h1 h2 h3 h4 => ?_, fun p k h1 h2 => ⟨fun h3 h4 => ?_, (j5 p k h1 h2).2⟩⟩
  · exact j2 q (by have : q ≠ m := fun z => by rw [z, hb] at h3; cases h3
                   omega) h2 h3
  · rw [j3]
    show _ - (lpP T rs Wd tl m + _) = _
    rw [hb, if_neg (show ¬ (false = true) by simp)]
    omega
  · exact j4 q h1 h2 h3 (by have := hne q h1 h2; omega)
  · have hp0 : 0 < p := by
      rcases Nat.eq_zero_or_pos p with z | z
      · exfalso
        have := h3.2.1
        rw [z, nm_0 hW] at this
        omega
      · exact z
    exact (j5 p k h1 h2).1 h3 (by have := hne p h1 hp0; omega)
theorem LJ.step (h : LJ M1 M T rs C Wd Lf tl (m + 1)) (hW : WF T) (hok : ∀ r ∈ rs, okR2 r) (hm : m < tN T) (hb : bxP T rs m = true) (A : HO M M' T rs C Wd Lf tl m) : LJ M1 M' T rs C Wd Lf tl m := by
  obtain ⟨j1, j2, j3, j4, j5⟩ := h
  obtain ⟨a1, a2, a3, a4, a5, a6⟩ := A
  refine ⟨⟨fun k hk => (a1.1 k hk).trans (j1.1 k hk), fun k hk => (a1.2 k hk).trans (j1.2 k hk)⟩, fun q h1 h2 h3 => ?_, ?_, fun q h1 h2 h3 h4 => ?_, fun p k h1 h2 => ⟨fun h3 h4 => ?_, fun h3 => ?_⟩⟩
  · by_cases z : q = m
    · rw [z]; exact a2.1
    · rw [a2.2 q z]; exact j2 q (by omega) h2 h3
  · rw [a3, j3]
    show _ - (lpP T rs Wd tl m + _) + _ = _
    rw [hb, if_pos rfl]
    omega
  · obtain ⟨o1, o2, o3⟩ := ho_in hW hok q h1 h2
    by_cases z : hoP T rs q = m
    · exact a4.1 q (by omega) (by rw [← z]; exact o3) z h3
    · rw [a4.2 q (fun y => z y.2.2.1)]
      exact j4 q h1 h2 h3 (by omega)
  · have hp0 : 0 < p := by
      rcases Nat.eq_zero_or_pos p with z | z
      · exfalso
        have := h3.2.1
        rw [z, nm_0 hW] at this
        omega
      · exact z
    obtain ⟨o1, o2, o3⟩ := ho_in hW hok p h1 hp0
    by_cases z : hoP T rs p = m
    · obtain ⟨q, j, t1, t2⟩ := a5 p k (by rw [← z]; exact o3) h2 ⟨by omega, z, h3.1, h3.2.1, h3.2.2⟩
      exact ⟨m, q, j, t1, t2⟩
    · obtain ⟨s1, s2, s3, s4⟩ := a6 p k h1 h2 (fun y => z y.2.1)
      obtain ⟨n, q, j, t1, t2⟩ := (j5 p k h1 h2).1 h3 (by omega)
      refine ⟨n, q, j, t1, ?_⟩
      unfold ChQ
      rw [s1, s2, s3, s4]
      exact t2
  · obtain ⟨s1, s2, s3, s4⟩ := a6 p k h1 h2 (fun y => h3 ⟨y.2.2.1, y.2.2.2.1, y.2.2.2.2⟩)
    rw [s1]
    exact (j5 p k h1 h2).2 h3
/-- from places in boxes to places in all -/
theorem m_places_eq (hL : LM M T rs C) (hW : WF T) (hok : ∀ r ∈ rs, okR2 r) (Q : LQ T rs v Wd Lf tl tp) (H : HM M T rs Wd Lf (tN T)) (h46 : ∀ q, q < tN T → 0 < q → bxP T rs q = true → M.2 46 q = rtE T rs Wd tl q) (hch : ∀ p k, p < tN T → k < (txP T p).length → (chA T rs p k → ∃ n q j, Cov T rs Wd tl n q j p k ∧ ChQ M T rs C Wd Lf tl n q j p k) ∧ (¬ chA T rs p k → M.2 47 (cIx T C p k) = 0)) : ∃ M', m_places M = some M' ∧ M'.1 = M.1 ∧ (∀ k, k ≠ 46 → k ≠ 49 → M'.2 k = M.2 k) ∧ (∀ q, q < tN T → bxP T rs q = true → M'.2 46 q = tp q) ∧ ∀ p k, p < tN T → k < (txP T p).length → chA T rs p k → ∃ n q j, Cov T rs Wd tl n q j p k ∧ M'.2 47 (cIx T C p k) = 1 ∧ M'.2 48 (cIx T C p k) = Lf n + vlP T rs 5 n + (flF T rs Wd tl n q).2.2.1 j ∧ M'.2 49 (cIx T C p k) = tp n + vlP T rs 5 n + flE T rs Wd tl n q + (flF T rs Wd tl n q).2.2.2 j := by
  have h24 := hW.1.2.1
  have h1N := hW.1.1
  have hl := hW.1.2.2.1
  have h160 := hL.2.2.2.2.1
  have z0 : zix 0 = 0 := rfl
  unfold m_places
  rw [gd_zin (by omega) (by omega) (by omega), bnd_eq, z0]
  unfold m_places_9
  -- the boxes
  obtain ⟨z, hI, hz⟩ := loopX (f := fun (z : MS × Int) => m_places_9s z.1 z.2) (fun n z => z.2 = (n : Int) ∧ z.1.1 = M.1 ∧ (∀ k, k ≠ 46 → z.1.2 k = M.2 k) ∧ (∀ q, q < n → bxP T rs q = true → z.1.2 46 q = tp q) ∧ ∀ q, n ≤ q → z.1.2 46 q = M.2 46 q) (a := 1) (b := tN T) (s0 := (sA M 46 0 0, 1)) h1N ⟨rfl, rfl, fun k hk => sA_f _ _ _ _ _ hk, fun q hq _ => by
      have : q = 0 := by omega
      rw [this]
      show (sA M 46 0 0).2 46 0 = _
      rw [sA_s, Q.1.2.2], fun q hq => sA_i _ _ _ _ _ (by omega)⟩ (fun n z n1 n2 hz => by
    obtain ⟨M1, y⟩ := z
    obtain ⟨i1, i2, i3, i4, i5⟩ := hz
    have i1 : y = (n : Int) := i1
    subst i1
    have i2 : M1.1 = M.1 := i2
    have A : FLm M M1 := ⟨fun k _ => by rw [i2], fun k hk => i3 k (by omega)⟩
    have L1 := hL.fl A
    obtain ⟨g1, g2, g3, g4⟩ := H n n2
    obtain ⟨o1, o2, o3⟩ := ho_in hW hok n n2 (by omega)
    show ∃ s', m_places_9s M1 (n : Int) = some (.inl s') ∧ _
    unfold m_places_9s m_places_58
    rw [L1.1.2.1, hl, if_ltp (by omega) (by omega) (by omega), gd_zin (by omega) (by omega) (by omega), zix_nat (by omega), i3 41 (by omega), g2]
    cases hb : bxP T rs n with
    | false =>
      rw [if_neg (show ¬ (false = true) by simp), if_eqp rfl]
      refine ⟨_, rfl, by show (n : Int) + 1 = _; omega, i2, i3, fun q hq hbq => ?_, fun q hq => i5 q (by omega)⟩
      exact i4 q (by have : q ≠ n := fun z => by rw [z, hb] at hbq; cases hbq
                     omega) hbq
    | true =>
      have hE : M1.2 46 n + (M1.2 46 (hoP T rs n) + vlP T rs 5 (hoP T rs n)) = tp n := by
        rw [i5 n (Nat.le_refl _), i4 _ o1 o2, h46 n n2 (by omega) hb, (Q.2.1 n n2 (by omega)).2.2]
        omega
      rw [if_pos rfl, if_eqn (by omega) (by omega) (by omega) (by omega) (by omega), i3 42 (by omega), g3 (by omega), gd_zin (by omega) (by omega) (by omega), gd_zin (by omega) (by omega) (by omega), gd_zin (by omega) (by omega) (by omega), gd_zin (by omega) (by omega) (by omega), m_border_eq L1 hW hok (by omega), obind_some, gd_zin (by omega) (by omega) (by omega), bnd_eq, zix_nat (by omega), hE]
      refine ⟨_, rfl, by show (n : Int) + 1 = _; omega, i2, fun k hk => by rw [sA_f _ _ _ _ _ hk]; exact i3 k hk, fun q hq hbq => ?_, fun q hq => ?_⟩
      · by_cases z : q = n
        · rw [z, sA_s]
        · rw [sA_i _ _ _ _ _ z]; exact i4 q (by omega) hbq
      · rw [sA_i _ _ _ _ _ (by omega)]; exact i5 q (by omega))
  obtain ⟨M1, y⟩ := z
  obtain ⟨i1, i2, i3, i4, i5⟩ := hI
  have i1 : y = (tN T : Int) := i1
  subst i1
  have i2 : M1.1 = M.1 := i2
  have A : FLm M M1 := ⟨fun k _ => by rw [i2], fun k hk => i3 k (by omega)⟩
  have L1 := hL.fl A
  rw [hz]
  have hgo : m_places_9s M1 ((tN T : Nat) : Int) = mr (m_places_64 M1) := by
    unfold m_places_9s
    rw [L1.1.2.1, hl, if_ltn (by omega) (by omega) (by omega)]
  rw [iter_mr (by exact hgo)]
  unfold m_places_64 m_places_66
  -- the characters
  have h47 : ∀ c, c < C.length → M1.2 47 c = 0 ∨ (M1.2 47 c = 1 ∧ ∃ n, n < tN T ∧ bxP T rs n = true ∧ M1.2 50 c = (n : Int)) := fun c hc => by
    obtain ⟨p, k, hp, hk, e⟩ := cIx_surj hL.2.2.2 hW hc
    rw [i3 47 (by omega), i3 50 (by omega), ← e]
    by_cases ha : chA T rs p k
    · obtain ⟨n, q, j, t1, t2⟩ := (hch p k hp hk).1 ha
      exact Or.inr ⟨t2.1, n, t1.1, t1.2.1, t2.2.2.1⟩
    · exact Or.inl ((hch p k hp hk).2 ha)
  obtain ⟨M2, e1, e2⟩ := loopI (f := fun (z : MS × Int) => m_places_66s z.1 z.2) (P := fun M2 => M2.1 = M.1 ∧ (∀ k, k ≠ 49 → M2.2 k = M1.2 k) ∧ ∀ c, c < C.length → ∀ n, n < tN T → bxP T rs n = true → M1.2 47 c = 1 → M1.2 50 c = (n : Int) → M2.2 49 c = M1.2 49 c + (tp n + vlP T rs 5 n)) (fun c z => z.2 = (c : Int) ∧ z.1.1 = M.1 ∧ (∀ k, k ≠ 49 → z.1.2 k = M1.2 k) ∧ (∀ x, c ≤ x → z.1.2 49 x = M1.2 49 x) ∧ ∀ x, x < c → ∀ n, n < tN T → bxP T rs n = true → M1.2 47 x = 1 → M1.2 50 x = (n : Int) → z.1.2 49 x = M1.2 49 x + (tp n + vlP T rs 5 n)) (a := 0) (b := C.length) (s0 := (M1, 0)) (by omega) ⟨rfl, i2, fun _ _ => rfl, fun _ _ => rfl, fun x hx => by omega⟩ (fun c z _ c2 hz => by
    obtain ⟨M2, y⟩ := z
    obtain ⟨k1, k2, k3, k4, k5⟩ := hz
    have k1 : y = (c : Int) := k1
    subst k1
    have k2 : M2.1 = M.1 := k2
    have A2 : FLm M M2 := ⟨fun k _ => by rw [k2], fun k hk => (k3 k (by omega)).trans (i3 k (by omega))⟩
    have L2 := hL.fl A2
    show ∃ s', m_places_66s M2 (c : Int) = some (.inl s') ∧ _
    unfold m_places_66s m_places_115
    rw [L2.2.2.2.1, if_ltp (by omega) (by omega) (by omega), gd_zin (by omega) (by omega) (by omega), zix_nat (by omega), k3 47 (by omega)]
    rcases h47 c c2 with hh | ⟨hh, n, hn, hb, hbx⟩
    · rw [if_eqp hh]
      refine ⟨_, rfl, by show (c : Int) + 1 = _; omega, k2, k3, fun x hx => k4 x (by omega), fun x hx n t1 t2 t3 t4 => ?_⟩
      have : x ≠ c := fun z => by rw [z] at t3; omega
      exact k5 x (by omega) n t1 t2 t3 t4
    · rw [if_eqn (by omega) (by omega) (by omega) (by omega) (by omega), k3 50 (by omega), hbx, gd_zin (by omega) (by omega) (by omega), gd_zin (by omega) (by omega) (by omega), gd_zin (by omega) (by omega) (by omega), gd_zin (by omega) (by omega) (by omega), m_border_eq L2 hW hok hn, obind_some, gd_zin (by omega) (by omega) (by omega), bnd_eq, zix_nat (by omega), k4 c (Nat.le_refl _), k3 46 (by omega), i4 n hn hb]
      refine ⟨_, rfl, by show (c : Int) + 1 = _; omega, k2, fun k hk => by rw [sA_f _ _ _ _ _ hk]; exact k3 k hk, fun x hx => ?_, fun x hx n' t1 t2 t3 t4 => ?_⟩
      · rw [sA_i _ _ _ _ _ (by omega)]; exact k4 x (by omega)
      · by_cases z : x = c
        · rw [z] at t4 ⊢
          have : n' = n := by omega
          rw [sA_s, this]
        · rw [sA_i _ _ _ _ _ z]; exact k5 x (by omega) n' t1 t2 t3 t4) (fun z hz => by
    obtain ⟨M2, y⟩ := z
    obtain ⟨k1, k2, k3, k4, k5⟩ := hz
    have k1 : y = (C.length : Int) := k1
    subst k1
    have k2 : M2.1 = M.1 := k2
    show ∃ r, m_places_66s M2 ((C.length : Nat) : Int) = some (.inr r) ∧ _
    unfold m_places_66s
    rw [k2, hL.2.2.2.1, if_ltn (by omega) (by omega) (by omega)]
    exact ⟨_, rfl, k2, k3, k5⟩)
  refine ⟨M2, e1, e2.1, fun k h1 h2 => (e2.2.1 k h2).trans (i3 k h1), fun q h1 h2 => by rw [e2.2.1 46 (by omega)]; exact i4 q h1 h2, fun p k hp hk ha => ?_⟩
  obtain ⟨n, q, j, t1, t2, t3, t4, t5⟩ := (hch p k hp hk).1 ha
  refine ⟨n, q, j, t1, ?_, ?_, ?_⟩
  · rw [e2.2.1 47 (by omega), i3 47 (by omega)]; exact t2
  · rw [e2.2.1 48 (by omega), i3 48 (by omega)]; exact t3
  · rw [e2.2.2 (cIx T C p k) (cIx_d hL.2.2.2 hk).1 n t1.1 t1.2.1 (by rw [i3 47 (by omega)]; exact t2) (by rw [i3 50 (by omega)]; exact t4), i3 49 (by omega), t5]
    omega
end ML
