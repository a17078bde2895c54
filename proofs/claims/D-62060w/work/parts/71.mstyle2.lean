/-! the reference finds out which rules fit, as a whole -/
set_option maxRecDepth 100000
/-- what working the values out leaves -/
def FY (M M' : MS) : Prop := (∀ k, k ≠ 22 → k ≠ 32 → M'.1 k = M.1 k) ∧ ∀ k, k < 23 ∨ 36 < k → M'.2 k = M.2 k
def UpM (M : MS) (T : TS) : Prop := ∀ n, n < (tO T).length → M.2 33 n = (if n = 0 then -1 else ((seat T (tP T ((tO T).getD n 0)) : Nat) : Int))
/-- whether the first parts fit an element -/
def fe (T : TS) (l : List PT) (i : Nat) : Bool := decide (1 < tM T i) && fitR T l.reverse i
section MY
variable {M M' M'' : MS} {T : TS} {w : List Int}
theorem FY.refl (M : MS) : FY M M := ⟨fun _ _ _ => rfl, fun _ _ => rfl⟩
theorem FY.trans (h : FY M M') (h' : FY M' M'') : FY M M'' := ⟨fun k h1 h2 => (h'.1 k h1 h2).trans (h.1 k h1 h2), fun k hk => (h'.2 k hk).trans (h.2 k hk)⟩
theorem FS.fy (h : FS M M') : FY M M' := ⟨fun k h1 _ => h.1 k h1, fun k hk => h.2 k (by omega)⟩
theorem FY.sA (h : FY M M') {k : Nat} (hk : 23 ≤ k ∧ k ≤ 36) (i : Nat) (v : Int) : FY M (sA M' k i v) := ⟨h.1, fun j hj => by rw [sA_f _ _ _ _ _ (by omega)]; exact h.2 j hj⟩
theorem FY.s32 (h : FY M M') (v : Int) : FY M (sI M' 32 v) := ⟨fun j h1 h2 => by rw [sI_n _ _ _ _ h2]; exact h.1 j h1 h2, h.2⟩
theorem StyM.fy (h : StyM M w) (hf : FY M M') : StyM M' w := ⟨by rw [hf.1 2 (by omega) (by omega)]; exact h.1, by rw [hf.2 3 (by omega)]; exact h.2.1, h.2.2⟩
theorem RepM.fy (h : RepM M T) (hf : FY M M') : RepM M' T := by
  obtain ⟨f1, f2⟩ := hf
  unfold RepM at h ⊢
  rw [f1 4 (by omega) (by omega), f1 5 (by omega) (by omega), f1 7 (by omega) (by omega), f1 13 (by omega) (by omega), f1 16 (by omega) (by omega), f1 17 (by omega) (by omega), f2 6 (by omega), f2 8 (by omega), f2 9 (by omega), f2 10 (by omega), f2 12 (by omega), f2 14 (by omega), f2 15 (by omega), f2 18 (by omega), f2 19 (by omega)]
  exact h
theorem RepM.at (hR : RepM M T) {n : Nat} (hn : n < (tO T).length) : M.2 6 n = (((tO T).getD n 0 : Nat) : Int) := hR.2.2.2.2.1 n hn
theorem WF.ord (hW : WF T) {n : Nat} (hn : n < (tO T).length) : (tO T).getD n 0 < tN T := hW.1.2.2.2.1 _ (by rw [gD hn]; exact List.getElem_mem _)
theorem WF.seat0 (hW : WF T) : (tO T).getD 0 0 = 0 := by
  obtain ⟨r, hr⟩ := hW.1.2.2.2.2.1.2.1
  rw [hr]; rfl
theorem WF.seatD (hW : WF T) {n : Nat} (hn : n < (tO T).length) : seat T ((tO T).getD n 0) = n := by
  have hm : (tO T).getD n 0 ∈ tO T := by rw [gD hn]; exact List.getElem_mem _
  exact ((idx_iff hW.1.2.2.2.2.1.1 hm hn).mp rfl).symm
theorem WF.seat_lt (hW : WF T) {i : Nat} (hi : i < tN T) : seat T i < (tO T).length ∧ (tO T).getD (seat T i) 0 = i := seat_at' hW.1.2.2.2.2.1.1 (hW.full hi)
theorem WF.ord0 (hW : WF T) {n : Nat} (hn : n < (tO T).length) : (tO T).getD n 0 = 0 ↔ n = 0 := by
  constructor
  · intro h
    have := hW.seatD hn
    rw [h] at this
    have h0 := hW.seatD (n := 0) (by omega)
    rw [hW.seat0] at h0
    omega
  · intro h; rw [h]; exact hW.seat0
/-- where the parent stands -/
theorem m_parentOf_eq (hR : RepM M T) (hW : WF T) {n : Nat} (hn : n < (tO T).length) : m_parentOf M (n : Int) = some (if n = 0 then -1 else ((seat T (tP T ((tO T).getD n 0)) : Nat) : Int)) := by
  have hl := hW.1.2.2.1
  have h24 := hW.1.2.1
  have hin := hW.ord hn
  unfold m_parentOf
  rw [bnd_eq]
  by_cases e : n = 0
  · rw [if_pos e, e]
    refine iter_out ?_
    simp only [m_parentOf_4s]
    rw [if_ltp (by omega) (by omega) (by omega)]
    rfl
  · rw [if_neg e]
    have hsp := getD_split hn
    have hwo := hW.1.2.2.2.2.1
    have htl : ((tO T).take n).length = n := by rw [List.length_take]; omega
    obtain ⟨A1, A2, a1, a2, a3⟩ := hwo.2.2.2 _ _ _ hsp (fun z => by rw [z] at htl; simp at htl; omega)
    have hA : A1.length + 1 + A2.length = n := by rw [← htl, a1]; simp; omega
    have hidx : ∀ j, j < n → (tO T).getD j 0 = (A1 ++ tP T ((tO T).getD n 0) :: A2).getD j 0 := fun j hj => by rw [← a1]; exact (getD_take' hj).symm
    have hst : seat T (tP T ((tO T).getD n 0)) = A1.length := by
      have h1 := hidx A1.length (by omega)
      have h2 : (A1 ++ tP T ((tO T).getD n 0) :: A2).getD A1.length 0 = tP T ((tO T).getD n 0) := by simp [List.getD]
      rw [h2] at h1
      rw [← h1]
      exact hW.seatD (by omega)
    rw [hst]
    have hd : ∀ i, i < tN T → M.2 10 i = ((tD T i : Nat) : Int) := hR.2.2.2.2.2.2.2.1
    have hb := hW.b.2.2.2.2.2.2.2.1
    have hdn := hb _ hin
    -- down from n - 1
    have key : ∀ (m j : Nat), A1.length + m = j → j < n → iter (fun (z : Int) => m_parentOf_4s M (n : Int) z) (j : Int) = some ((A1.length : Nat) : Int) := by
      intro m
      induction m with
      | zero =>
        intro j hj hjn
        have hj' : j = A1.length := by omega
        refine iter_out ?_
        have hoj := hW.ord (n := j) (by omega)
        have hpj : (tO T).getD j 0 = tP T ((tO T).getD n 0) := by rw [hidx j hjn, hj']; simp [List.getD]
        have hdj := hb _ hoj
        simp only [m_parentOf_4s]
        rw [if_ltn (by omega) (by omega) (by omega), gd_zin (by omega) (by omega) (by omega), zix_nat (by omega), hR.at (by omega), gd_zin (by omega) (by omega) (by omega), gd_zin (by omega) (by omega) (by omega), zix_nat (show n < 2147483648 by omega), hR.at hn, gd_zin (by omega) (by omega) (by omega), zix_nat (by omega), zix_nat (by omega), hd _ hoj, hd _ hin, if_ltp (by rw [hpj]; omega) (by omega) (by omega), hj']
      | succ m ih =>
        intro j hj hjn
        have hoj := hW.ord (n := j) (by omega)
        have hmem : (tO T).getD j 0 ∈ A2 := by
          rw [hidx j hjn, gD (by simp; omega), List.getElem_append_right (by omega)]
          have : j - A1.length = m + 1 := by omega
          simp only [this, List.getElem_cons_succ]
          exact List.getElem_mem _
        have hge := a3 _ hmem
        have hdj := hb _ hoj
        have hst : m_parentOf_4s M (n : Int) (j : Int) = some (.inl ((j - 1 : Nat) : Int)) := by
          unfold m_parentOf_4s
          rw [if_ltn (by omega) (by omega) (by omega), gd_zin (by omega) (by omega) (by omega), zix_nat (by omega), hR.at (by omega), gd_zin (by omega) (by omega) (by omega), gd_zin (by omega) (by omega) (by omega), zix_nat (show n < 2147483648 by omega), hR.at hn, gd_zin (by omega) (by omega) (by omega), zix_nat (by omega), zix_nat (by omega), hd _ hoj, hd _ hin, if_ltn (by omega) (by omega) (by omega)]
          congr 2
          omega
        rw [iter_in hst]
        exact ih (j - 1) (by omega) (by omega)
    have := key A2.length (n - 1) (by omega) (by omega)
    unfold m_parentOf_4
    rw [show (n : Int) - 1 = ((n - 1 : Nat) : Int) by omega]
    exact this
theorem ancs_0 (T : TS) (hW : WF T) : ancs T 0 = [] := by
  unfold ancs
  have : tD T 0 = 0 := hW.1.2.2.2.2.1.2.2.1
  rw [this]; rfl
theorem ancs_s (hW : WF T) {i : Nat} (hi : i < tN T) (h0 : i ≠ 0) : ancs T i = tP T i :: ancs T (tP T i) := by
  have hd := (hW.1.2.2.2.2.1.dpos (hW.full hi) h0).2.2
  unfold ancs
  rw [← hd, ancF, if_neg h0]
theorem ancs_len (hW : WF T) : ∀ (d i : Nat), i < tN T → tD T i = d → (ancs T i).length = d ∧ ∀ a ∈ ancs T i, a < tN T ∧ tM T a ≠ 1 := by
  intro d
  induction d with
  | zero =>
    intro i hi hd
    unfold ancs
    rw [hd]; exact ⟨rfl, by simp [ancF]⟩
  | succ d ih =>
    intro i hi hd
    have h0 : i ≠ 0 := fun z => by rw [z, hW.1.2.2.2.2.1.2.2.1] at hd; omega
    have hd2 := (hW.1.2.2.2.2.1.dpos (hW.full hi) h0).2.2
    have hp := hW.par hi
    obtain ⟨i1, i2⟩ := ih (tP T i) hp (by omega)
    rw [ancs_s hW hi h0]
    refine ⟨by simp [i1], fun a ha => ?_⟩
    rcases List.mem_cons.mp ha with z | z
    · rw [z]; exact ⟨hp, nk1 (hW.2.1.2 i hi h0).2.1⟩
    · exact i2 a z
theorem fe_anc {l : List PT} (hl : l ≠ []) {a : Nat} (hm : tM T a ≠ 1) (hn : nmOK (tM T a)) : fe T l a = fitR T l.reverse a := by
  unfold fe
  by_cases e : 1 < tM T a
  · rw [decide_eq_true e, Bool.true_and]
  · unfold nmOK at hn
    have h0 : tM T a = 0 := by omega
    rw [decide_eq_false e, Bool.false_and]
    have hr : l.reverse ≠ [] := by simpa using hl
    have pf : ∀ p, ptFit T p a = false := fun p => by unfold ptFit; rw [h0]; rfl
    cases hrev : l.reverse with
    | nil => exact (hr hrev).elim
    | cons p r =>
      cases r with
      | nil => rw [fitR, pf]
      | cons q r => rw [fitR, pf, Bool.false_and]
/-- the walk over the ancestors -/
theorem ms131 (hW : WF T) (hU : UpM M T) {f : Nat → Bool} {j : Nat} (hj : 2 ≤ j ∧ j ≤ 4) (hf : ∀ n, n < (tO T).length → M.2 34 (40 * (j - 1) + n) = zb (f ((tO T).getD n 0))) {r : Nat} (hr : r < 12) {d : Int} (hd : M.2 25 (4 * r + j - 1) = d) (hdd : d = 0 ∨ d = 1) (x1 x4 x6 : Int) : ∀ (L : List Nat) (i s : Nat) (b : Bool), i < tN T → ancs T i = L → s + L.length ≤ 30 → m_match_131 M x1 (j : Int) ((4 * r + j - 1 : Nat) : Int) x4 x6 (zb b) (if i = 0 then -1 else ((seat T (tP T i) : Nat) : Int)) (s : Int) = m_match_206 M x1 (j : Int) ((4 * r + j - 1 : Nat) : Int) x4 x6 (zb (b || (if d = 0 then L.any f else (if s = 0 then (L.take 1).any f else false)))) := by
  have hl := hW.1.2.2.1
  have h24 := hW.1.2.1
  intro L
  induction L with
  | nil =>
    intro i s b hi hL hs
    have h0 : i = 0 := by
      by_cases z : i = 0
      · exact z
      · rw [ancs_s hW hi z] at hL; cases hL
    rw [if_pos h0]
    refine iter_mr ?_
    simp only [m_match_131s]
    rw [if_ltp (by omega) (by omega) (by omega), if_ltp (by omega) (by omega) (by omega)]
    congr 2
    by_cases e : d = 0
    · rw [if_pos e]; simp
    · rw [if_neg e]; simp
  | cons p L ih =>
    intro i s b hi hL hs
    have h0 : i ≠ 0 := fun z => by rw [z, ancs_0 T hW] at hL; cases hL
    rw [ancs_s hW hi h0] at hL
    have hp : tP T i = p := by cases hL; rfl
    have hL2 : ancs T p = L := by cases hL; rfl
    have hpn : p < tN T := by rw [← hp]; exact hW.par hi
    obtain ⟨s1, s2⟩ := hW.seat_lt hpn
    simp only [List.length_cons] at hs
    rw [if_neg h0, hp]
    have hup : M.2 33 (seat T p) = (if p = 0 then -1 else ((seat T (tP T p) : Nat) : Int)) := by
      rw [hU _ s1, s2]
      by_cases z : p = 0
      · rw [if_pos z, if_pos]
        rw [← hW.ord0 s1, s2]; exact z
      · rw [if_neg z, if_neg]
        intro y
        rw [← hW.ord0 s1, s2] at y
        exact z y
    have hz : zix (40 * ((j : Int) - 1) + ((seat T p : Nat) : Int)) = 40 * (j - 1) + seat T p := by rw [zix_toNat (by omega) (by omega)]; omega
    -- the step's outcome
    have hstep : m_match_131s M x1 (j : Int) ((4 * r + j - 1 : Nat) : Int) x4 x6 (zb b) ((seat T p : Nat) : Int) (s : Int) = some (.inl (zb (b || (f p && (decide (s = 0) || decide (d = 0)))), (if p = 0 then -1 else ((seat T (tP T p) : Nat) : Int)), ((s + 1 : Nat) : Int))) := by
      have e189 : ∀ v : Int, m_match_189 M x1 (j : Int) ((4 * r + j - 1 : Nat) : Int) x4 x6 ((seat T p : Nat) : Int) (s : Int) v = some (.inl (v, (if p = 0 then -1 else ((seat T (tP T p) : Nat) : Int)), ((s + 1 : Nat) : Int))) := fun v => by
        unfold m_match_189
        rw [gd_zin (by omega) (by omega) (by omega), bnd_eq, zix_nat (by omega), hup]
        rfl
      unfold m_match_131s m_match_188 m_match_184
      rw [if_ltp (by omega) (by omega) (by omega), if_ltn (by omega) (by omega) (by omega), if_ltp (by omega) (by omega) (by omega)]
      cases b with
      | true => rw [zb_t, if_eqn (by omega) (by omega) (by omega) (by omega) (by omega), e189, Bool.true_or]; rfl
      | false =>
        rw [zb_f, if_eqp rfl, gd_zin (by omega) (by omega) (by omega), hz, hf _ s1, s2, Bool.false_or]
        cases hfp : f p with
        | false => rw [zb_f, if_eqp rfl, e189, Bool.false_and]; rfl
        | true =>
          rw [zb_t, if_eqn (by omega) (by omega) (by omega) (by omega) (by omega), Bool.true_and]
          by_cases z : s = 0
          · rw [if_eqp (by omega), e189, decide_eq_true z]; rfl
          · rw [if_eqn (by omega) (by omega) (by omega) (by omega) (by omega), decide_eq_false z, Bool.false_or, gd_zin (by omega) (by omega) (by omega), zix_nat (by omega), hd]
            rcases hdd with y | y
            · rw [y, if_eqp rfl, e189]; rfl
            · rw [y, if_eqn (by omega) (by omega) (by omega) (by omega) (by omega), e189]; rfl
    have hrec := ih p (s + 1) (b || (f p && (decide (s = 0) || decide (d = 0)))) hpn hL2 (by omega)
    unfold m_match_131 at hrec ⊢
    rw [iter_in hstep, hrec]
    congr 2
    rcases hdd with y | y
    · rw [if_pos y, if_pos y, decide_eq_true y, Bool.or_true, Bool.and_true, List.any_cons, Bool.or_assoc]
    · rw [if_neg (by omega), if_neg (by omega), if_neg (by omega), decide_eq_false (show ¬ d = 0 by omega), Bool.or_false, Bool.or_false]
      by_cases z : s = 0
      · rw [if_pos z, decide_eq_true z]; simp
      · rw [if_neg z, decide_eq_false z]; simp
end MY
