/-! the reference: the table of fitting rules -/
set_option maxRecDepth 100000
def FitM (M : MS) (T : TS) (l : List PT) (j : Nat) : Prop := ∀ n, n < (tO T).length → M.2 34 (40 * j + n) = zb (fe T l ((tO T).getD n 0))
theorem fitR_c (T : TS) (p : PT) {r : List PT} (hr : r ≠ []) (i : Nat) : fitR T (p :: r) i = (ptFit T p i && (if p.2.2 = 0 then ancs T i else (ancs T i).take 1).any (fitR T r)) := by
  cases r with
  | nil => exact (hr rfl).elim
  | cons q r => rw [fitR]
theorem take_rev {ps : List PT} {j : Nat} (hj : j < ps.length) : (ps.take (j + 1)).reverse = ps.getD j (0, 0, 0) :: (ps.take j).reverse := by
  rw [List.take_succ, List.getElem?_eq_getElem hj, gD hj]
  simp
theorem any_cg {L : List Nat} {f g : Nat → Bool} (h : ∀ a ∈ L, f a = g a) : L.any f = L.any g := by
  induction L with
  | nil => rfl
  | cons a L ih => rw [List.any_cons, List.any_cons, h a (by simp), ih (fun b hb => h b (by simp [hb]))]
section MY
variable {M M' M'' : MS} {T : TS} {w : List Int}
/-- one node, one part -/
theorem ms23 (hR : RepM M T) (hW : WF T) (hU : UpM M T) {r j : Nat} (hr : r < 12) {ps : List PT} (hps : ps.length ≤ 4) (hj : j < ps.length) (hP : PtM M (4 * r) ps) (hd : ∀ p ∈ ps, p.2.2 = 0 ∨ p.2.2 = 1) (hc : ∀ p ∈ ps, (0 ≤ p.1 ∧ p.1 < 128) ∧ -2147483648 ≤ p.2.1 ∧ p.2.1 < 2147483648) (hF : 1 ≤ j → FitM M T (ps.take j) j) {n : Nat} (hn : n < (tO T).length) : m_match_23s M (r : Int) ((j + 1 : Nat) : Int) ((4 * r + j : Nat) : Int) (n : Int) = some (.inl (sA M 34 (40 * (j + 1) + n) (zb (fe T (ps.take (j + 1)) ((tO T).getD n 0))), ((n + 1 : Nat) : Int))) := by
  have hl := hW.1.2.2.1
  have h24 := hW.1.2.1
  have hin := hW.ord hn
  obtain ⟨p1, p2, p3⟩ := hP j hj
  have hpm : ps.getD j (0, 0, 0) ∈ ps := by rw [gD hj]; exact List.getElem_mem _
  have hpd := hd _ hpm
  obtain ⟨hpc, hpc2⟩ := hc _ hpm
  have hnm := hW.nm hin
  generalize hp : ps.getD j (0, 0, 0) = p at *
  generalize hi : (tO T).getD n 0 = i at *
  -- the end: what is put down
  have e206 : ∀ (a b : Bool), m_match_206 M (r : Int) ((j + 1 : Nat) : Int) ((4 * r + j : Nat) : Int) (n : Int) (zb a) (zb b) = some (.inl (sA M 34 (40 * (j + 1) + n) (zb (a && b)), ((n + 1 : Nat) : Int))) := fun a b => by
    have hz : zix (40 * ((j + 1 : Nat) : Int) + (n : Int)) = 40 * (j + 1) + n := by rw [zix_toNat (by omega) (by omega)]; omega
    have e232 : ∀ v : Bool, m_match_232 M (r : Int) ((j + 1 : Nat) : Int) ((4 * r + j : Nat) : Int) (n : Int) (zb v) (40 * ((j + 1 : Nat) : Int) + (n : Int)) = some (.inl (sA M 34 (40 * (j + 1) + n) (zb v), ((n + 1 : Nat) : Int))) := fun v => by
      unfold m_match_232
      rw [gd_zin (by omega) (by omega) (by omega), gd_c (by cases v <;> decide), bnd_eq, hz]
      rfl
    unfold m_match_206 m_match_231
    cases a with
    | false => rw [zb_f, if_eqp rfl, Bool.false_and]; exact e232 false
    | true =>
      rw [zb_t, if_eqn (by omega) (by omega) (by omega) (by omega) (by omega)]
      cases b with
      | false => rw [zb_f, if_eqp rfl]; exact e232 false
      | true => rw [zb_t, if_eqn (by omega) (by omega) (by omega) (by omega) (by omega)]; exact e232 true
  -- the middle: whether what is before fits
  have e105 : ∀ a : Bool, m_match_105 M (r : Int) ((j + 1 : Nat) : Int) ((4 * r + j : Nat) : Int) (n : Int) (zb a) = some (.inl (sA M 34 (40 * (j + 1) + n) (zb (a && (decide (j = 0) || (if p.2.2 = 0 then ancs T i else (ancs T i).take 1).any (fitR T (ps.take j).reverse)))), ((n + 1 : Nat) : Int))) := fun a => by
    have hup : M.2 33 n = (if i = 0 then -1 else ((seat T (tP T i) : Nat) : Int)) := by
      rw [hU n hn, hi]
      have := hW.ord0 hn
      rw [hi] at this
      by_cases z : n = 0
      · rw [if_pos z, if_pos (this.mpr z)]
      · rw [if_neg z, if_neg (fun y => z (this.mp y))]
    unfold m_match_105 m_match_117
    by_cases e : j = 0
    · rw [if_eqp (by omega), gd_zin (by omega) (by omega) (by omega), bnd_eq, zix_nat (by omega), decide_eq_true e, Bool.true_or]
      have := e206 a true
      rw [← this]
      refine iter_mr ?_
      simp only [m_match_131s]
      rw [if_ltp (by omega) (by omega) (by omega)]
      have hpar := hW.par hin
      have hsl := hW.seat_lt hpar
      by_cases z : M.2 33 n < 0
      · rw [if_ltp z (by rw [hup]; split <;> omega) (by omega)]; rfl
      · rw [if_ltn (by omega) (by omega) (by rw [hup]; split <;> omega), if_ltn (by omega) (by omega) (by omega)]; rfl
    · rw [if_eqn (by omega) (by omega) (by omega) (by omega) (by omega), gd_zin (by omega) (by omega) (by omega), bnd_eq, zix_nat (by omega), decide_eq_false e, Bool.false_or, hup]
      have hne : ps.take j ≠ [] := fun z => by have := congrArg List.length z; rw [List.length_take, List.length_nil] at this; omega
      have hlen := ancs_len hW (tD T i) i hin rfl
      have hdl := hW.b.2.2.2.2.2.2.2.1 i hin
      have := ms131 (M := M) hW hU (f := fe T (ps.take j)) (j := j + 1) (by omega) (by rw [Nat.add_sub_cancel]; exact hF (by omega)) hr (d := p.2.2) (by rw [show 4 * r + (j + 1) - 1 = 4 * r + j by omega]; exact p3) hpd (r : Int) (n : Int) (zb a) (ancs T i) i 0 false hin rfl (by rw [hlen.1]; omega)
      rw [show 4 * r + (j + 1) - 1 = 4 * r + j by omega, Bool.false_or, if_pos rfl] at this
      have h0 : zb false = 0 := rfl
      rw [h0] at this
      have this' : m_match_131 M (r : Int) ((j + 1 : Nat) : Int) ((4 * r + j : Nat) : Int) (n : Int) (zb a) 0 (if i = 0 then -1 else ((seat T (tP T i) : Nat) : Int)) 0 = _ := this
      rw [this', e206]
      congr 4
      congr 1
      have hcg : ∀ L : List Nat, (∀ x ∈ L, x ∈ ancs T i) → L.any (fe T (ps.take j)) = L.any (fitR T (ps.take j).reverse) := fun L hL => any_cg (fun x hx => fe_anc hne (hlen.2 x (hL x hx)).2 (hW.nm (hlen.2 x (hL x hx)).1))
      split
      · exact congrArg (fun z => a && z) (hcg _ (fun x hx => hx))
      · exact congrArg (fun z => a && z) (hcg _ (fun x hx => List.mem_of_mem_take hx))
  -- the whole of it
  have hfe : fe T (ps.take (j + 1)) i = ((decide (1 < tM T i) && ptFit T p i) && (decide (j = 0) || (if p.2.2 = 0 then ancs T i else (ancs T i).take 1).any (fitR T (ps.take j).reverse))) := by
    unfold fe
    rw [take_rev hj, hp]
    by_cases e : j = 0
    · rw [decide_eq_true e, Bool.true_or, Bool.and_true, e, List.take_zero]
      rfl
    · have hne : (ps.take j).reverse ≠ [] := fun z => by have := congrArg List.length z; rw [List.length_reverse, List.length_take, List.length_nil] at this; omega
      rw [decide_eq_false e, Bool.false_or, fitR_c T p hne, Bool.and_assoc]
  rw [hfe]
  have hM8 : M.2 8 i = tM T i := hR.2.2.2.2.2.1 i hin
  have hM9 : M.2 9 i = tC T i := hR.2.2.2.2.2.2.1 i hin
  unfold nmOK at hnm
  have hnp : 0 ≤ nmP p.1 ∧ nmP p.1 < 128 := by unfold nmP; split <;> omega
  unfold m_match_23s m_match_104
  rw [hR.2.1, if_ltp (by omega) (by omega) (by omega), gd_zin (by omega) (by omega) (by omega), bnd_eq, zix_nat (by omega), hR.at hn, hi, gd_zin (by omega) (by omega) (by omega), zix_nat (by omega), hM8]
  by_cases e1 : 1 < tM T i
  · rw [if_ltp e1 (by omega) (by omega), decide_eq_true e1, Bool.true_and, gd_zin (by omega) (by omega) (by omega), zix_nat (by omega), p1]
    have e77 : m_match_77 M (r : Int) ((j + 1 : Nat) : Int) ((4 * r + j : Nat) : Int) (n : Int) (i : Int) = m_match_105 M (r : Int) ((j + 1 : Nat) : Int) ((4 * r + j : Nat) : Int) (n : Int) (zb (decide (zand p.2.1 (zxor (tC T i) (-1)) = 0))) := by
      unfold m_match_77 m_match_104
      rw [gd_zin (by omega) (by omega) (by omega), gd_zin (by omega) (by omega) (by omega), gd_zin (by omega) (by omega) (by omega), zix_nat (by omega), zix_nat (by omega), p2, hM9]
      have hzf := zfit p.2.1 (tC T i) hpc2
      have hzr := zand_le (tC T i) p.2.1
      by_cases z : zand (tC T i) p.2.1 = p.2.1
      · rw [if_eqp z, decide_eq_true (hzf.mpr z)]; rfl
      · rw [if_eqn z hzr.1 hzr.2 hpc2.1 hpc2.2, decide_eq_false (fun y => z (hzf.mp y))]; rfl
    have hpt : ptFit T p i = (((decide (p.1 = 0) || decide (p.1 = 42)) || decide (p.1 = tM T i)) && decide (zand p.2.1 (zxor (tC T i) (-1)) = 0)) := by
      unfold ptFit
      rw [decide_eq_true (show tM T i ≠ 0 by omega), Bool.true_and]
    rw [hpt]
    by_cases z0 : nmP p.1 = 0
    · rw [if_eqp z0, e77, e105]
      have : (decide (p.1 = 0) || decide (p.1 = 42)) = true := by
        unfold nmP at z0
        by_cases y : p.1 = 42
        · rw [decide_eq_true y, Bool.or_true]
        · rw [if_neg y] at z0; rw [decide_eq_true z0, Bool.true_or]
      rw [this, Bool.true_or, Bool.true_and]
    · have hn0 : p.1 ≠ 0 ∧ p.1 ≠ 42 := by
        unfold nmP at z0
        constructor
        · intro y; rw [y] at z0; exact z0 rfl
        · intro y; rw [if_pos y] at z0; exact z0 rfl
      have hnn : nmP p.1 = p.1 := by unfold nmP; rw [if_neg hn0.2]
      rw [if_eqn z0 (by omega) (by omega) (by omega) (by omega), gd_zin (by omega) (by omega) (by omega), gd_zin (by omega) (by omega) (by omega), hnn, decide_eq_false hn0.1, decide_eq_false hn0.2, Bool.false_or, Bool.false_or]
      by_cases z1 : p.1 = tM T i
      · rw [if_eqp z1, e77, e105, decide_eq_true z1, Bool.true_and]
      · rw [if_eqn z1 (by omega) (by omega) (by omega) (by omega), decide_eq_false z1, Bool.false_and]
        exact e105 false
  · rw [if_ltn (by omega) (by omega) (by omega), decide_eq_false e1, Bool.false_and]
    exact e105 false
theorem UpM.f34 (h : UpM M T) {k : Nat} (hk : k ≠ 33) (i : Nat) (v : Int) : UpM (sA M k i v) T := fun n hn => by rw [sA_n _ _ _ _ _ _ (fun z => hk z.symm)]; exact h n hn
/-- one rule -/
theorem m_match_eq (hR : RepM M T) (hW : WF T) (hU : UpM M T) {r : Nat} (hr : r < 12) {ps : List PT} (hps : 1 ≤ ps.length ∧ ps.length ≤ 4) (hP : PtM M (4 * r) ps) (hL : M.2 26 r = ((ps.length : Nat) : Int)) (hd : ∀ p ∈ ps, p.2.2 = 0 ∨ p.2.2 = 1) (hc : ∀ p ∈ ps, (0 ≤ p.1 ∧ p.1 < 128) ∧ -2147483648 ≤ p.2.1 ∧ p.2.1 < 2147483648) : ∃ M', m_match M (r : Int) = some M' ∧ M'.1 = M.1 ∧ (∀ f, f ≠ 34 → M'.2 f = M.2 f) ∧ FitM M' T ps ps.length := by
  have hl := hW.1.2.2.1
  have h24 := hW.1.2.1
  -- a state of the walk
  have key : ∀ (m j : Nat) (N : MS), j + m = ps.length → N.1 = M.1 → (∀ f, f ≠ 34 → N.2 f = M.2 f) → (1 ≤ j → FitM N T (ps.take j) j) → ∃ M', m_match_2 N (r : Int) ((j + 1 : Nat) : Int) = some M' ∧ M'.1 = M.1 ∧ (∀ f, f ≠ 34 → M'.2 f = M.2 f) ∧ (1 ≤ ps.length → FitM M' T (ps.take ps.length) ps.length) := by
    intro m
    induction m with
    | zero =>
      intro j N hj h1 h2 hF
      have hj' : j = ps.length := by omega
      refine ⟨N, iter_out ?_, h1, h2, by rw [← hj']; exact hF⟩
      simp only [m_match_2s]
      rw [gd_zin (by omega) (by omega) (by omega), zix_nat (by omega), h2 26 (by omega), hL, if_ltp (by omega) (by omega) (by omega)]
    | succ m ih =>
      intro j N hj h1 h2 hF
      have hFY : FY M N := ⟨fun k _ _ => by rw [h1], fun k hk => h2 k (by omega)⟩
      -- over the nodes
      have inner : ∃ Q, m_match_23 N (r : Int) ((j + 1 : Nat) : Int) ((4 * r + j : Nat) : Int) 0 = some (.inl (Q, ((j + 1 + 1 : Nat) : Int))) ∧ (Q.1 = M.1 ∧ (∀ f, f ≠ 34 → Q.2 f = M.2 f) ∧ (∀ n, n < (tO T).length → Q.2 34 (40 * (j + 1) + n) = zb (fe T (ps.take (j + 1)) ((tO T).getD n 0)))) := by
        unfold m_match_23
        have lp := loopI (P := fun (x : (MS × Int) ⊕ MS) => ∃ Q, x = .inl (Q, ((j + 1 + 1 : Nat) : Int)) ∧ (Q.1 = M.1 ∧ (∀ f, f ≠ 34 → Q.2 f = M.2 f) ∧ (∀ n, n < (tO T).length → Q.2 34 (40 * (j + 1) + n) = zb (fe T (ps.take (j + 1)) ((tO T).getD n 0))))) (f := fun (z : MS × Int) => m_match_23s z.1 (r : Int) ((j + 1 : Nat) : Int) ((4 * r + j : Nat) : Int) z.2) (fun n (s : MS × Int) => s.2 = (n : Int) ∧ s.1.1 = M.1 ∧ (∀ f, f ≠ 34 → s.1.2 f = M.2 f) ∧ (∀ i, i < 40 * (j + 1) → s.1.2 34 i = N.2 34 i) ∧ (∀ i, i < n → s.1.2 34 (40 * (j + 1) + i) = zb (fe T (ps.take (j + 1)) ((tO T).getD i 0)))) (a := 0) (b := (tO T).length) (s0 := (N, 0)) (by omega) ⟨rfl, h1, h2, fun _ _ => rfl, fun i hi => by omega⟩ (fun n s n1 n2 hI => by
            obtain ⟨s1, s2, s3, s4, s5⟩ := hI
            have hFY2 : FY M s.1 := ⟨fun k _ _ => by rw [s2], fun k hk => s3 k (by omega)⟩
            have hst := ms23 (M := s.1) (hR.fy hFY2) hW (fun n hn => by rw [s3 33 (by omega)]; exact hU n hn) hr hps.2 (j := j) (by omega) (fun i hi => by rw [s3 23 (by omega), s3 24 (by omega), s3 25 (by omega)]; exact hP i hi) hd hc (fun hj1 n hn => by rw [s4 _ (by omega)]; exact hF hj1 n hn) n2
            refine ⟨(sA s.1 34 (40 * (j + 1) + n) (zb (fe T (ps.take (j + 1)) ((tO T).getD n 0))), ((n + 1 : Nat) : Int)), by rw [s1]; exact hst, rfl, s2, fun f hf => by rw [sA_f _ _ _ _ _ hf]; exact s3 f hf, fun i hi => by rw [sA_i _ _ _ _ _ (by omega)]; exact s4 i hi, fun i hi => ?_⟩
            by_cases z : i = n
            · rw [z, sA_s]
            · rw [sA_i _ _ _ _ _ (by omega)]; exact s5 i (by omega)) (fun s hI => by
            obtain ⟨s1, s2, s3, s4, s5⟩ := hI
            refine ⟨.inl (s.1, ((j + 1 + 1 : Nat) : Int)), ?_, s.1, rfl, s2, s3, s5⟩
            simp only [m_match_23s]
            rw [s1, s2, hR.2.1, if_ltn (by omega) (by omega) (by omega)]
            rfl)
        obtain ⟨x, x1, Q, x2, x3⟩ := lp
        rw [x2] at x1
        exact ⟨Q, x1, x3⟩
      obtain ⟨Q, q1, q2, q3, q4⟩ := inner
      obtain ⟨M', t1, t2, t3, t4⟩ := ih (j + 1) Q (by omega) q2 q3 (fun _ n hn => q4 n hn)
      refine ⟨M', ?_, t2, t3, t4⟩
      have hst : m_match_2s N (r : Int) ((j + 1 : Nat) : Int) = some (.inl (Q, ((j + 1 + 1 : Nat) : Int))) := by
        unfold m_match_2s
        rw [gd_zin (by omega) (by omega) (by omega), zix_nat (by omega), h2 26 (by omega), hL, if_ltn (by omega) (by omega) (by omega), bnd_eq, show 4 * (r : Int) + ((j + 1 : Nat) : Int) - 1 = ((4 * r + j : Nat) : Int) by omega]
        exact q1
      unfold m_match_2
      rw [iter_in hst]
      exact t1
  obtain ⟨M', t1, t2, t3, t4⟩ := key ps.length 0 M (by omega) rfl (fun _ _ => rfl) (fun z => by omega)
  have := t4 hps.1
  rw [List.take_of_length_le (Nat.le_refl _)] at this
  exact ⟨M', t1, t2, t3, this⟩
end MY
