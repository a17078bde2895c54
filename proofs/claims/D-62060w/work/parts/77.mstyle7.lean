/-! the reference: all values -/
set_option maxRecDepth 100000
def VM (M : MS) (T : TS) (rs : List RL) : Prop := ∀ k, k < 7 → ∀ n, n < (tO T).length → M.2 36 (40 * k + n) = val T rs k ((tO T).getD n 0)
section MY
variable {M M' M'' : MS} {T : TS} {w e : List Int} {st : Nat → Nat → KV} {rs : List RL}
theorem WF.par_lt (hW : WF T) {i : Nat} (hi : i < tN T) (h0 : i ≠ 0) : seat T (tP T i) < seat T i := by
  obtain ⟨s1, s2⟩ := hW.seat_lt hi
  have hn0 : seat T i ≠ 0 := fun z => by
    rw [z, hW.seat0] at s2
    exact h0 s2.symm
  have hsp := getD_split s1
  rw [s2] at hsp
  have htl : ((tO T).take (seat T i)).length = seat T i := by rw [List.length_take]; omega
  obtain ⟨A1, A2, a1, a2, a3⟩ := hW.1.2.2.2.2.1.2.2.2 _ _ _ hsp (fun z => by rw [z] at htl; simp at htl; omega)
  have hA : A1.length + 1 + A2.length = seat T i := by rw [← htl, a1]; simp; omega
  have hg : (tO T).getD A1.length 0 = tP T i := by
    have : (tO T).getD A1.length 0 = ((tO T).take (seat T i)).getD A1.length 0 := (getD_take' (by omega)).symm
    rw [this, a1]; simp [List.getD]
  rw [← hg, hW.seatD (by omega)]
  omega
/-- the values of one node -/
theorem ms174 (hR : RepM M T) (hW : WF T) (hU : UpM M T) (hrs : ∀ r ∈ rs, okRL r) {n : Nat} (hn : n < (tO T).length) (hV : ∀ k, k < 7 → ∀ m, m < n → M.2 36 (40 * k + m) = val T rs k ((tO T).getD m 0)) (hK : ∀ k, k < 7 → -1 ≤ M.2 35 (40 * k + n) ∧ M.2 35 (40 * k + n) ≤ 200000 ∧ (M.2 35 (40 * k + n) < 0 ∧ gvm T rs k ((tO T).getD n 0) = -2 ∨ 0 ≤ M.2 35 (40 * k + n) ∧ gvm T rs k ((tO T).getD n 0) = M.2 36 (40 * k + n) ∧ gvm T rs k ((tO T).getD n 0) ≠ -2)) : ∃ M', m_style_174 M (n : Int) 0 = some (.inl (M', ((n + 1 : Nat) : Int))) ∧ M'.1 = M.1 ∧ (∀ f, f ≠ 36 → M'.2 f = M.2 f) ∧ (∀ k m, k < 7 → m < 40 → m ≠ n → M'.2 36 (40 * k + m) = M.2 36 (40 * k + m)) ∧ ∀ k, k < 7 → M'.2 36 (40 * k + n) = val T rs k ((tO T).getD n 0) := by
  have hl := hW.1.2.2.1
  have h24 := hW.1.2.1
  have hin := hW.ord hn
  have hn0 := hW.ord0 hn
  have hst : seat T ((tO T).getD n 0) = n := hW.seatD hn
  have hup := hU n hn
  have hM6 := hR.at hn
  generalize hi : (tO T).getD n 0 = i at *
  have hpv : ∀ k, ∃ pv, val T rs k i = valR T rs k i pv ∧ (i ≠ 0 → pv = val T rs k (tP T i)) := fun k => val_e hW k hin
  -- what the start gives
  have hini : ∀ (N : MS) (k : Nat), k < 7 → N.1 = M.1 → (∀ f, f ≠ 36 → N.2 f = M.2 f) → (∀ k m, k < 7 → m < 40 → m ≠ n → N.2 36 (40 * k + m) = M.2 36 (40 * k + m)) → ∃ pv, val T rs k i = valR T rs k i pv ∧ m_initial N (k : Int) (n : Int) = some (iniV T k i pv) := fun N k hk h1 h2 h3 => by
    obtain ⟨pv, p1, p2⟩ := hpv k
    refine ⟨pv, p1, ?_⟩
    have hFY : FY M N := ⟨fun g _ _ => by rw [h1], fun g hg => by rw [h2 g (by omega)]⟩
    have hRN := hR.fy hFY
    have i9 : k = 0 ∨ k = 2 → m_initial_9 N (k : Int) (n : Int) = some (if i = 0 then 1 else pv) := fun _ => by
      unfold m_initial_9
      by_cases z : n = 0
      · rw [if_eqp (by omega), if_pos (hn0.mpr z)]
      · have hi0 : i ≠ 0 := fun y => z (hn0.mp y)
        have hpl := hW.par_lt hin hi0
        rw [hst] at hpl
        have hpar := hW.par hin
        rw [if_eqn (by omega) (by omega) (by omega) (by omega) (by omega), if_neg hi0, gd_zin (by omega) (by omega) (by omega), zix_nat (by omega), h2 33 (by omega), hup, if_neg z, gd_zin (by omega) (by omega) (by omega), zix_toNat (by omega) (by omega), show (40 * (k : Int) + ((seat T (tP T i) : Nat) : Int)).toNat = 40 * k + seat T (tP T i) by omega, h3 k _ hk (by omega) (by omega), hV k hk _ hpl, (hW.seat_lt hpar).2, p2 hi0]
    unfold m_initial iniV
    by_cases c0 : k = 0
    · rw [if_eqp (by omega), if_pos (Or.inl c0)]; exact i9 (Or.inl c0)
    · rw [if_eqn (by omega) (by omega) (by omega) (by omega) (by omega)]
      by_cases c2 : k = 2
      · rw [if_eqp (by omega), if_pos (Or.inr c2)]; exact i9 (Or.inr c2)
      · rw [if_eqn (by omega) (by omega) (by omega) (by omega) (by omega), if_neg (show ¬ (k = 0 ∨ k = 2) by omega)]
        by_cases c3 : k = 3
        · rw [if_eqp (by omega), if_pos c3]
          unfold m_initial_59
          by_cases z : n = 0
          · rw [if_eqp (by omega), if_pos (Or.inl (hn0.mpr z))]
          · have hi0 : i ≠ 0 := fun y => z (hn0.mp y)
            rw [if_eqn (by omega) (by omega) (by omega) (by omega) (by omega), gd_zin (by omega) (by omega) (by omega), zix_nat (by omega), h2 6 (by omega), hM6, m_named_eq hRN hW.b mk_a hin, obind_some]
            have hb : ([112, 100, 117, 108, 104, 116, 114, 99] : List Int).contains (tM T i) = isBl (tM T i) := rfl
            rw [hb]
            cases hbl : isBl (tM T i) with
            | true => rw [zb_t, if_eqn (by omega) (by omega) (by omega) (by omega) (by omega), if_pos (Or.inr rfl)]
            | false => rw [zb_f, if_eqp rfl, if_neg (fun q => by rcases q with q | q; exact hi0 q; cases q)]
        · rw [if_eqn (by omega) (by omega) (by omega) (by omega) (by omega), if_neg c3]
          by_cases c6 : k = 6
          · rw [if_eqp (by omega), if_pos c6]
          · rw [if_eqn (by omega) (by omega) (by omega) (by omega) (by omega), if_neg c6]
  -- over the properties
  have key : ∀ (m k : Nat) (N : MS), k + m = 7 → N.1 = M.1 → (∀ f, f ≠ 36 → N.2 f = M.2 f) → (∀ k m, k < 7 → m < 40 → m ≠ n → N.2 36 (40 * k + m) = M.2 36 (40 * k + m)) → (∀ q, k ≤ q → q < 7 → N.2 36 (40 * q + n) = M.2 36 (40 * q + n)) → (∀ q, q < k → ∃ pv, val T rs q i = valR T rs q i pv ∧ N.2 36 (40 * q + n) = rawV T rs q i pv) → ∃ M', m_style_174 N (n : Int) (k : Int) = some (.inl (M', ((n + 1 : Nat) : Int))) ∧ M'.1 = M.1 ∧ (∀ f, f ≠ 36 → M'.2 f = M.2 f) ∧ (∀ k m, k < 7 → m < 40 → m ≠ n → M'.2 36 (40 * k + m) = M.2 36 (40 * k + m)) ∧ ∀ k, k < 7 → M'.2 36 (40 * k + n) = val T rs k i := by
    intro m
    induction m with
    | zero =>
      intro k N hk h1 h2 h3 h4 h5
      have hk7 : k = 7 := by omega
      have hFY : FY M N := ⟨fun g _ _ => by rw [h1], fun g hg => by rw [h2 g (by omega)]⟩
      have hRN := hR.fy hFY
      have hnm := m_named_eq hRN hW.b mk_tc hin
      have htc : ([116, 114, 99] : List Int).contains (tM T i) = isTC (tM T i) := rfl
      rw [htc] at hnm
      obtain ⟨pv, v1, v2⟩ := h5 3 (by omega)
      have hz : zix (120 + (n : Int)) = 40 * 3 + n := by rw [zix_toNat (by omega) (by omega)]; omega
      have hvr := val_rng hW hrs 3 (tD T i) i
      have hrr : -1 ≤ rawV T rs 3 i pv ∧ rawV T rs 3 i pv ≤ 200 := by
        have hv : valR T rs 3 i pv = valF T rs 3 (tD T i) i := v1.symm
        unfold valR at hv
        split at hv
        · next q => omega
        · omega
      have hval : ∀ q, q < 7 → q ≠ 3 → N.2 36 (40 * q + n) = val T rs q i := fun q hq h3' => by
        obtain ⟨pv, a1, a2⟩ := h5 q (by omega)
        rw [a2, a1]
        unfold valR
        rw [if_neg (fun z => h3' z.1)]
      have hpre : m_style_174s N (n : Int) (k : Int) = mr (if isTC (tM T i) = true ∧ rawV T rs 3 i pv = 105 then some (.inl (sA N 36 (40 * 3 + n) 98, ((n + 1 : Nat) : Int))) else some (.inl (N, ((n + 1 : Nat) : Int)))) := by
        unfold m_style_174s m_style_217 m_style_260
        rw [if_ltn (by omega) (by omega) (by omega), gd_zin (by omega) (by omega) (by omega), zix_nat (by omega), h2 6 (by omega), hM6, hnm, obind_some]
        congr 1
        cases ht : isTC (tM T i) with
        | false => rw [zb_f, if_eqp rfl, if_neg (fun q => by cases q.1)]; rfl
        | true =>
          rw [zb_t, if_eqn (by omega) (by omega) (by omega) (by omega) (by omega), gd_zin (by omega) (by omega) (by omega), hz, v2]
          by_cases y : rawV T rs 3 i pv = 105
          · rw [if_eqp y, gd_zin (by omega) (by omega) (by omega), bnd_eq, if_pos (show true = true ∧ rawV T rs 3 i pv = 105 from ⟨rfl, y⟩)]; rfl
          · rw [if_eqn y (by omega) (by omega) (by omega) (by omega), if_neg (fun q => y q.2)]; rfl
      by_cases y : isTC (tM T i) = true ∧ rawV T rs 3 i pv = 105
      · rw [if_pos y] at hpre
        refine ⟨_, iter_mr hpre, h1, fun f hf => by rw [sA_f _ _ _ _ _ hf]; exact h2 f hf, fun q m hq hm hmn => by rw [sA_i _ _ _ _ _ (by omega)]; exact h3 q m hq hm hmn, fun q hq => ?_⟩
        by_cases z : q = 3
        · rw [z, sA_s, v1]
          unfold valR
          rw [if_pos ⟨rfl, y⟩]
        · rw [sA_i _ _ _ _ _ (by omega)]; exact hval q hq z
      · rw [if_neg y] at hpre
        refine ⟨_, iter_mr hpre, h1, h2, h3, fun q hq => ?_⟩
        by_cases z : q = 3
        · rw [z, v2, v1]
          unfold valR
          rw [if_neg (fun u => y u.2)]
        · exact hval q hq z
    | succ m ih =>
      intro k N hk h1 h2 h3 h4 h5
      have hk7 : k < 7 := by omega
      obtain ⟨c1, c2, c3⟩ := hK k hk7
      have hz : zix (40 * (k : Int) + (n : Int)) = 40 * k + n := by rw [zix_toNat (by omega) (by omega)]; omega
      obtain ⟨pv, p1, p2⟩ := hini N k hk7 h1 h2 h3
      unfold m_style_174
      rcases c3 with ⟨c3, c4⟩ | ⟨c3, c4, c5⟩
      · have hpre : m_style_174s N (n : Int) (k : Int) = some (.inl (sA N 36 (40 * k + n) (iniV T k i pv), ((k + 1 : Nat) : Int))) := by
          unfold m_style_174s m_style_211
          rw [if_ltp (by omega) (by omega) (by omega), gd_zin (by omega) (by omega) (by omega), hz, h2 35 (by omega), if_ltp c3 (by omega) (by omega), p2, obind_some, gd_zin (by omega) (by omega) (by omega), bnd_eq]
          rfl
        obtain ⟨M', t⟩ := ih (k + 1) _ (by omega) (show (sA N 36 (40 * k + n) (iniV T k i pv)).1 = M.1 from h1) (fun f hf => by rw [sA_f _ _ _ _ _ hf]; exact h2 f hf) (fun q m hq hm hmn => by rw [sA_i _ _ _ _ _ (by omega)]; exact h3 q m hq hm hmn) (fun q q1 q2 => by rw [sA_i _ _ _ _ _ (by omega)]; exact h4 q (by omega) q2) (fun q hq => by
          by_cases z : q = k
          · rw [z, sA_s]
            refine ⟨pv, p1, ?_⟩
            unfold rawV
            rw [if_pos c4]
          · rw [sA_i _ _ _ _ _ (by omega)]; exact h5 q (by omega))
        exact ⟨M', by rw [iter_in hpre]; exact t.1, t.2⟩
      · have hpre : m_style_174s N (n : Int) (k : Int) = some (.inl (N, ((k + 1 : Nat) : Int))) := by
          unfold m_style_174s m_style_211
          rw [if_ltp (by omega) (by omega) (by omega), gd_zin (by omega) (by omega) (by omega), hz, h2 35 (by omega), if_ltn c3 (by omega) (by omega)]
          rfl
        obtain ⟨M', t⟩ := ih (k + 1) N (by omega) h1 h2 h3 (fun q q1 q2 => h4 q (by omega) q2) (fun q hq => by
          by_cases z : q = k
          · rw [z]
            refine ⟨pv, p1, ?_⟩
            unfold rawV
            rw [if_neg c5, h4 k (Nat.le_refl _) hk7, c4]
          · exact h5 q (by omega))
        exact ⟨M', by rw [iter_in hpre]; exact t.1, t.2⟩
  exact key 7 0 M rfl rfl (fun _ _ => rfl) (fun _ _ _ _ _ => rfl) (fun _ _ _ => rfl) (fun q hq => by omega)
theorem ms164 (hR : RepM M T) (hW : WF T) (hU : UpM M T) (hrs : ∀ r ∈ rs, okRL r) (hK : ∀ k, k < 7 → ∀ n, n < (tO T).length → -1 ≤ M.2 35 (40 * k + n) ∧ M.2 35 (40 * k + n) ≤ 200000 ∧ (M.2 35 (40 * k + n) < 0 ∧ gvm T rs k ((tO T).getD n 0) = -2 ∨ 0 ≤ M.2 35 (40 * k + n) ∧ gvm T rs k ((tO T).getD n 0) = M.2 36 (40 * k + n) ∧ gvm T rs k ((tO T).getD n 0) ≠ -2)) : ∃ M', m_style_162 M = some M' ∧ M'.1 = M.1 ∧ (∀ f, f ≠ 36 → M'.2 f = M.2 f) ∧ VM M' T rs := by
  have hl := hW.1.2.2.1
  have h24 := hW.1.2.1
  refine loopI (P := fun M' => M'.1 = M.1 ∧ (∀ f, f ≠ 36 → M'.2 f = M.2 f) ∧ VM M' T rs) (f := fun (z : MS × Int) => m_style_164s z.1 z.2) (fun n (z : MS × Int) => z.2 = (n : Int) ∧ z.1.1 = M.1 ∧ (∀ f, f ≠ 36 → z.1.2 f = M.2 f) ∧ (∀ k, k < 7 → ∀ m, m < n → z.1.2 36 (40 * k + m) = val T rs k ((tO T).getD m 0)) ∧ ∀ k, k < 7 → ∀ m, n ≤ m → m < 40 → z.1.2 36 (40 * k + m) = M.2 36 (40 * k + m)) (a := 0) (b := (tO T).length) (s0 := (M, 0)) (by omega) ⟨rfl, rfl, fun _ _ => rfl, fun _ _ m hm => by omega, fun _ _ _ _ _ => rfl⟩ (fun n z n1 n2 hI => ?_) (fun z hI => ?_)
  · obtain ⟨s1, s2, s3, s4, s5⟩ := hI
    have hFY : FY M z.1 := ⟨fun g _ _ => by rw [s2], fun g hg => by rw [s3 g (by omega)]⟩
    obtain ⟨M', t1, t2, t3, t4, t5⟩ := ms174 (M := z.1) (hR.fy hFY) hW (fun n hn => by rw [s3 33 (by omega)]; exact hU n hn) hrs n2 s4 (fun k hk => by rw [s3 35 (by omega), s5 k hk n (Nat.le_refl _) (by omega)]; exact hK k hk n n2)
    refine ⟨(M', ((n + 1 : Nat) : Int)), ?_, rfl, t2.trans s2, fun f hf => (t3 f hf).trans (s3 f hf), fun k hk m hm => ?_, fun k hk m m1 m2 => (t4 k m hk m2 (by omega)).trans (s5 k hk m (by omega) m2)⟩
    · simp only [m_style_164s]
      rw [s1, s2, hR.2.1, if_ltp (by omega) (by omega) (by omega)]
      exact t1
    · by_cases y : m = n
      · rw [y]; exact t5 k hk
      · rw [t4 k m hk (by omega) y]; exact s4 k hk m (by omega)
  · obtain ⟨s1, s2, s3, s4, s5⟩ := hI
    refine ⟨z.1, ?_, s2, s3, fun k hk n hn => s4 k hk n hn⟩
    simp only [m_style_164s]
    rw [s1, s2, hR.2.1, if_ltn (by omega) (by omega) (by omega)]
/-- all of it -/
theorem m_style_eq (hY : StyM M w) (hR : RepM M T) (hW : WF T) (hpt : ∀ e ∈ rulE w, ∀ p ∈ e.1, (0 ≤ p.1 ∧ p.1 < 128) ∧ -2147483648 ≤ p.2.1 ∧ p.2.1 < 2147483648) (hE : ∀ e ∈ rulE w, okE e) : ∃ M', m_style M = some M' ∧ FY M M' ∧ UpM M' T ∧ VM M' T ((rulE w).map (rlE w)) := by
  have hl := hW.1.2.2.1
  have h24 := hW.1.2.1
  obtain ⟨M1, a1, a2, a3⟩ := m_readSheet_eq hY
  have hR1 := hR.fy a2.fy
  -- parents
  have up : ∃ M2, m_style_6 M1 0 = m_style_31 M2 ∧ FY M1 M2 ∧ UpM M2 T ∧ (∀ f, f ≠ 33 → M2.2 f = M1.2 f) ∧ M2.1 = M1.1 := by
    have key : ∀ (m n : Nat) (N : MS), n + m = (tO T).length → N.1 = M1.1 → (∀ f, f ≠ 33 → N.2 f = M1.2 f) → (∀ j, j < n → N.2 33 j = (if j = 0 then -1 else ((seat T (tP T ((tO T).getD j 0)) : Nat) : Int))) → ∃ M2, m_style_6 N (n : Int) = m_style_31 M2 ∧ FY M1 M2 ∧ UpM M2 T ∧ (∀ f, f ≠ 33 → M2.2 f = M1.2 f) ∧ M2.1 = M1.1 := by
      intro m
      induction m with
      | zero =>
        intro n N hn h1 h2 h3
        refine ⟨N, ?_, ⟨fun g _ _ => by rw [h1], fun g hg => by rw [h2 g (by omega)]⟩, fun j hj => h3 j (by omega), h2, h1⟩
        refine iter_mr ?_
        simp only [m_style_6s]
        rw [h1, hR1.2.1, if_ltn (by omega) (by omega) (by omega)]
      | succ m ih =>
        intro n N hn h1 h2 h3
        have hFY : FY M1 N := ⟨fun g _ _ => by rw [h1], fun g hg => by rw [h2 g (by omega)]⟩
        have hp := m_parentOf_eq (hR1.fy hFY) hW (n := n) (by omega)
        obtain ⟨M2, t⟩ := ih (n + 1) (sA N 33 n (if n = 0 then -1 else ((seat T (tP T ((tO T).getD n 0)) : Nat) : Int))) (by omega) h1 (fun f hf => by rw [sA_f _ _ _ _ _ hf]; exact h2 f hf) (fun j hj => by
          by_cases z : j = n
          · rw [z, sA_s]
          · rw [sA_i _ _ _ _ _ z]; exact h3 j (by omega))
        refine ⟨M2, ?_, t.2⟩
        have hst : m_style_6s N (n : Int) = some (.inl (sA N 33 n (if n = 0 then -1 else ((seat T (tP T ((tO T).getD n 0)) : Nat) : Int)), ((n + 1 : Nat) : Int))) := by
          unfold m_style_6s
          rw [h1, hR1.2.1, if_ltp (by omega) (by omega) (by omega), hp, obind_some, gd_zin (by omega) (by omega) (by omega), bnd_eq, zix_nat (by omega)]
          rfl
        unfold m_style_6
        rw [iter_in hst]
        exact t.1
    exact key (tO T).length 0 M1 (by omega) rfl (fun _ _ => rfl) (fun j hj => by omega)
  obtain ⟨M2, b1, b2, b3, b4, b5⟩ := up
  -- keys
  have ky : ∃ M3, m_style_31 M2 = m_style_53 M3 ∧ (∀ f, f ≠ 35 → M3.2 f = M2.2 f) ∧ M3.1 = M2.1 ∧ ∀ j, j < 280 → M3.2 35 j = -1 := by
    have key : ∀ (m n : Nat) (N : MS), n + m = 280 → N.1 = M2.1 → (∀ f, f ≠ 35 → N.2 f = M2.2 f) → (∀ j, j < n → N.2 35 j = -1) → ∃ M3, m_style_33 N (n : Int) = m_style_53 M3 ∧ (∀ f, f ≠ 35 → M3.2 f = M2.2 f) ∧ M3.1 = M2.1 ∧ ∀ j, j < 280 → M3.2 35 j = -1 := by
      intro m
      induction m with
      | zero =>
        intro n N hn h1 h2 h3
        refine ⟨N, ?_, h2, h1, fun j hj => h3 j (by omega)⟩
        refine iter_mr ?_
        simp only [m_style_33s]
        rw [if_ltn (by omega) (by omega) (by omega)]
      | succ m ih =>
        intro n N hn h1 h2 h3
        obtain ⟨M3, t⟩ := ih (n + 1) (sA N 35 n (-1)) (by omega) h1 (fun f hf => by rw [sA_f _ _ _ _ _ hf]; exact h2 f hf) (fun j hj => by
          by_cases z : j = n
          · rw [z, sA_s]
          · rw [sA_i _ _ _ _ _ z]; exact h3 j (by omega))
        refine ⟨M3, ?_, t.2⟩
        have hst : m_style_33s N (n : Int) = some (.inl (sA N 35 n (-1), ((n + 1 : Nat) : Int))) := by
          unfold m_style_33s
          rw [if_ltp (by omega) (by omega) (by omega), gd_zin (by omega) (by omega) (by omega), bnd_eq, zix_nat (by omega)]
          rfl
        unfold m_style_33
        rw [iter_in hst]
        exact t.1
    exact key 280 0 M2 rfl rfl (fun _ _ => rfl) (fun j hj => by omega)
  obtain ⟨M3, c1, c2, c3, c4⟩ := ky
  have F3 : FY M1 M3 := b2.trans ⟨fun g _ _ => by rw [c3], fun g hg => by rw [c2 g (by omega)]⟩
  have F03 := a2.fy.trans F3
  have hU3 : UpM M3 T := fun n hn => by rw [c2 33 (by omega)]; exact b3 n hn
  have hRu3 : RulM M3 w (rulE w) := a3.cg (by rw [c3, b5]) (fun f i p1 p2 p3 p4 => by rw [c2 f (by omega), b4 f (by omega)]) a3.four
  -- rules
  obtain ⟨M4, d1, d2, d3, d4⟩ := m_rules_eq (w := w) (E := rulE w) (T := T) hE hpt hW (rulE w).length 0 M3 (fun k n => (-1, M3.2 36 (40 * k + n))) (by omega) (hY.fy F03) (hR.fy F03) hU3 hRu3 (fun k hk n hn => ⟨c4 _ (by omega), rfl, by show (-1 : Int) ≤ -1; omega, by show (-1 : Int) ≤ 200000; omega⟩)
  have F4 := F03.trans d2
  rw [List.drop_zero] at d4
  obtain ⟨M5, e1, e2, e3, e4⟩ := ms164 (M := M4) (rs := (rulE w).map (rlE w)) (hR.fy F4) hW d3 (fun r hr => by
    obtain ⟨x, _, rfl⟩ := List.mem_map.mp hr
    exact rlE_ok w x) (fun k hk n hn => by
    obtain ⟨f1, f2, f3, f4⟩ := d4 k hk n hn
    have hin := hW.ord hn
    obtain ⟨g1, g2⟩ := casc w (fun ps => fe T ps ((tO T).getD n 0)) k (rulE w) hE (M3.2 36 (40 * k + n))
    rw [f1, f2]
    refine ⟨f3, f4, ?_⟩
    have hgv : gvm T ((rulE w).map (rlE w)) k ((tO T).getD n 0) = giv (fun r => fe T r.1 ((tO T).getD n 0)) k ((rulE w).map (rlE w)) := by
      unfold gvm
      by_cases z : tM T ((tO T).getD n 0) = 1
      · rw [if_pos z]
        have hno : ∀ ps, fe T ps ((tO T).getD n 0) = false := fun ps => by unfold fe; rw [z]; rfl
        have hst0 : ∀ (L : List RL) (s : GS), L.foldl (gst (fun r => fe T r.1 ((tO T).getD n 0)) k) s = s := fun L => by
          induction L with
          | nil => intro s; rfl
          | cons r L ih =>
            intro s
            rw [List.foldl_cons]
            have : gst (fun r => fe T r.1 ((tO T).getD n 0)) k s r = s := by unfold gst; rw [show (fun r : RL => fe T r.1 ((tO T).getD n 0)) r = false from hno r.1, Bool.and_false, if_neg (by simp)]
            rw [this]; exact ih s
        unfold giv
        rw [hst0]
        rfl
      · rw [if_neg z]
        have hcg : ∀ (L : List RL), (∀ r ∈ L, r.1 ≠ []) → ∀ s : GS, L.foldl (gst (fun r => fitR T r.1.reverse ((tO T).getD n 0)) k) s = L.foldl (gst (fun r => fe T r.1 ((tO T).getD n 0)) k) s := fun L => by
          induction L with
          | nil => intro _ s; rfl
          | cons r L ih =>
            intro h s
            rw [List.foldl_cons, List.foldl_cons]
            have : gst (fun r => fitR T r.1.reverse ((tO T).getD n 0)) k s r = gst (fun r => fe T r.1 ((tO T).getD n 0)) k s r := by
              unfold gst
              rw [show (fun r : RL => fitR T r.1.reverse ((tO T).getD n 0)) r = (fun r : RL => fe T r.1 ((tO T).getD n 0)) r from (fe_anc (h r (by simp)) z (hW.nm hin)).symm]
            rw [this]; exact ih (fun y hy => h y (by simp [hy])) _
        have hne : ∀ r ∈ (rulE w).map (rlE w), r.1 ≠ [] := fun r hr => by
          obtain ⟨x, hx, rfl⟩ := List.mem_map.mp hr
          obtain ⟨j, hj, ej⟩ := List.getElem_of_mem hx
          have := (a3.2.2 j hj).2.2.2.2.2.2.1
          rw [gD hj, ej] at this
          have hl := (sel_len this).1
          intro z
          have hz : x.1 = [] := z
          rw [hz] at hl
          simp at hl
        unfold giv
        rw [hcg _ hne]
    rw [hgv, g1]
    rcases g2 with g2 | g2
    · left
      rw [if_pos (by omega)]
      exact ⟨(by omega : ((rulE w).foldl (mdS w (fun ps => fe T ps ((tO T).getD n 0)) k) (-1, M3.2 36 (40 * k + n))).1 < 0), rfl⟩
    · right
      rw [if_neg (by omega)]
      exact ⟨g2.1, rfl, by omega⟩)
  refine ⟨M5, ?_, F4.trans ⟨fun g _ _ => by rw [e2], fun g hg => by rw [e3 g (by omega)]⟩, fun n hn => by rw [e3 33 (by omega)]; exact d3 n hn, e4⟩
  unfold m_style
  rw [a1, obind_some, b1, c1]
  show m_style_55 M3 0 = some M5
  have d1' : m_style_55 M3 0 = m_style_162 M4 := d1
  rw [d1', e1]
theorem selR_rng : ∀ (n : Nat) (d : Int) (l : List Int) (ps : List PT), (∀ c ∈ l, 32 ≤ c ∧ c ≤ 126) → selR n d l = some ps → ∀ p ∈ ps, (0 ≤ p.1 ∧ p.1 < 128) ∧ -2147483648 ≤ p.2.1 ∧ p.2.1 < 2147483648 := by
  intro n
  induction n with
  | zero => intro d l ps _ h; cases h
  | succ n ih =>
    intro d l ps hl h
    have hL : 0 ≤ ptL l ∧ ptL l < 128 := by
      unfold ptL
      cases l with
      | nil => simp
      | cons c r => simp only []; have := hl c (by simp); split <;> omega
    have hC := ptC_rng l
    have hR : ∀ c ∈ ptR l, c ∈ l := fun c hc => by
      unfold ptR at hc
      cases l with
      | nil => simp at hc
      | cons a r =>
        simp only [] at hc
        split at hc
        · simp [hc]
        · exact hc
    have hsub : ∀ c ∈ bl (ptE l), 32 ≤ c ∧ c ≤ 126 := fun c hc => hl c (hR c ((List.dropWhile_sublist isCap).subset ((List.dropWhile_sublist isB).subset hc)))
    have step : ∀ (d' : Int) (l' : List Int), (∀ c ∈ l', 32 ≤ c ∧ c ≤ 126) → (selR n d' l').map (fun r => (ptL l, ptC l, d) :: r) = some ps → ∀ p ∈ ps, (0 ≤ p.1 ∧ p.1 < 128) ∧ -2147483648 ≤ p.2.1 ∧ p.2.1 < 2147483648 := fun d' l' hl' hh => by
      cases hs : selR n d' l' with
      | none => rw [hs] at hh; cases hh
      | some q =>
        rw [hs] at hh
        cases hh
        intro p hp
        rcases List.mem_cons.mp hp with z | z
        · rw [z]; exact ⟨hL, hC⟩
        · exact ih d' l' q hl' hs p z
    rw [selR] at h
    split at h
    · cases h
    · split at h
      · cases h
        intro p hp
        rw [List.mem_singleton.mp hp]; exact ⟨hL, hC⟩
      · split at h
        · exact step 1 _ (fun c hc => hsub c (List.mem_of_mem_tail ((List.dropWhile_sublist isB).subset hc))) h
        · split at h
          · cases h
          · exact step 0 _ hsub h
theorem rulE_ok (hY : StyM M w) : (∀ e ∈ rulE w, ∀ p ∈ e.1, (0 ≤ p.1 ∧ p.1 < 128) ∧ -2147483648 ≤ p.2.1 ∧ p.2.1 < 2147483648) ∧ (∀ e ∈ rulE w, okE e) ∧ ∀ e ∈ rulE w, sel e.2.1 = some e.1 := by
  obtain ⟨M', a1, a2, a3⟩ := m_readSheet_eq hY
  have key : ∀ e ∈ rulE w, sel e.2.1 = some e.1 ∧ ∀ c ∈ e.2.1, c ∈ w := fun e he => by
    obtain ⟨j, hj, ej⟩ := List.getElem_of_mem he
    obtain ⟨-, -, -, -, -, -, b7, -, -, b10⟩ := a3.2.2 j hj
    rw [gD hj, ej] at b7 b10
    exact ⟨b7, b10⟩
  have hlen : ∀ e ∈ rulE w, e.2.1.length ≤ 200 := by
    have gen : ∀ (n k : Nat) (E : List RE), k ≤ w.length → (∀ e ∈ E, e.2.1.length ≤ w.length) → ∀ e ∈ bE w n k E, e.2.1.length ≤ w.length := by
      intro n
      induction n with
      | zero => intro k E _ h; exact h
      | succ n ih =>
        intro k E hk h
        rw [bE]
        have hs1 := sgn_le w hk 123
        have hs2 := sgn_le w hs1.2 125
        split
        · exact h
        · split
          · exact h
          · split
            · exact h
            · refine ih _ _ (by omega) ?_
              split
              · exact h
              · intro e he
                rcases List.mem_append.mp he with z | z
                · exact h e z
                · rw [List.mem_singleton.mp z]
                  show (slc w k (sgn w k 123)).length ≤ w.length
                  rw [slc_len w hs1.2]; omega
    intro e he
    have := gen (w.length + 1) 0 [] (Nat.zero_le _) (by simp) e he
    have := hY.2.2.1
    omega
  refine ⟨fun e he => ?_, fun e he => ⟨sel_cS (key e he).1, ?_⟩, fun e he => (key e he).1⟩
  · have hw : ∀ c ∈ bl e.2.1, 32 ≤ c ∧ c ≤ 126 := fun c hc => hY.2.2.2 c ((key e he).2 c ((List.dropWhile_sublist isB).subset hc))
    exact selR_rng 4 0 _ _ hw (key e he).1
  · have := cC_len e.2.1
    have := hlen e he
    omega
end MY
