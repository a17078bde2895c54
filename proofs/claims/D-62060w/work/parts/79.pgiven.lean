/-! the page: what the rules give -/
set_option maxRecDepth 100000
def okR2 (r : RL) : Prop := okRL r ∧ r.2.1 ≤ 10000 ∧ r.1 ≠ [] ∧ r.1.length ≤ 4 ∧ ∀ p ∈ r.1, (0 ≤ p.1 ∧ p.1 < 128) ∧ (p.2.2 = 0 ∨ p.2.2 = 1)
section PV
variable {h h' : HP} {pg a : Nat} {φ : Nat → Nat} {T : TS} {rs : List RL}
theorem gv_step {n : Int} (H : RepB h pg φ T) (hW : WF T) {i : Nat} (hi : i < tN T) (hm : tM T i ≠ 1) {r : RL} (hR : RuleR h r a) (hr : okR2 r) {k : Nat} (hk : k < 7) {s : GS} (hs : (-1 ≤ s.2.2.1 ∧ s.2.2.1 ≤ 10000) ∧ -1 ≤ s.2.2.2 ∧ s.2.2.2 ≤ 10000) (x2 : Nat) (j : Int) (hlen : lLen h x2 = some n) (hget : lGet h x2 j = some a) (hjn : j < n) (hj0 : 0 ≤ j ∧ n < 100) : f_X0_given_16s h (φ i) (k : Int) x2 s.1 s.2.1 s.2.2.1 s.2.2.2 j = some (.inl ((gst (fun r => fitR T r.1.reverse i) k s r).1, (gst (fun r => fitR T r.1.reverse i) k s r).2.1, (gst (fun r => fitR T r.1.reverse i) k s r).2.2.1, (gst (fun r => fitR T r.1.reverse i) k s r).2.2.2, j + 1)) := by
  obtain ⟨p, m, pw, iw⟩ := s
  obtain ⟨r1, r2, r3, r4, r5, r6, r7, r8, r9, r10, l, r11, r12⟩ := hR
  obtain ⟨⟨o1, o2⟩, o3, o4, o5, o6⟩ := hr
  obtain ⟨v1, v2⟩ := r10 k hk
  obtain ⟨w1, w2⟩ := o2 k
  simp only [] at hs
  have hfit : f_X0_fits 8 h l (φ i) = some (zb (fitR T r.1.reverse i)) := fits_p H hW r.1.reverse 8 l i (by simpa using o4) (by rw [List.length_reverse]; omega) r12 (fun q hq => o6 q (by simpa using hq)) hi hm
  -- the inner part, with both answers
  have e104 : ∀ (x y : Bool), f_X0_given_104 h (φ i) (k : Int) x2 p m pw iw j a (zb x) (zb y) = some (.inl (if fitR T r.1.reverse i = true then (if x then r.2.2.1 k else p, if y then r.2.2.2 k else m, if x then r.2.1 else pw, if y then r.2.1 else iw, j + 1) else (p, m, pw, iw, j + 1))) := fun x y => by
    unfold f_X0_given_104
    rw [gd_c r1, r11, obind_some, hfit, obind_some]
    cases hf : fitR T r.1.reverse i with
    | false => rw [zb_f, if_eqp rfl, if_neg (show ¬ (false = true) by simp)]; rfl
    | true =>
      rw [zb_t, if_eqn (by omega) (by omega) (by omega) (by omega) (by omega), if_pos rfl]
      have e167 : ∀ (q u : Int) (t : Int), f_X0_given_167 h (φ i) (k : Int) x2 q u iw j a (zb y) t = some (.inl (q, t, u, if y then r.2.1 else iw, j + 1)) := fun q u t => by
        unfold f_X0_given_167 f_X0_given_184 f_X0_given_186
        cases y with
        | false => rw [zb_f, if_eqp rfl]; rfl
        | true => rw [zb_t, if_eqn (by omega) (by omega) (by omega) (by omega) (by omega), gd_c r1, r9]; rfl
      have e148 : ∀ (q u : Int), f_X0_given_148 h (φ i) (k : Int) x2 q m iw j a (zb y) u = some (.inl (q, if y then r.2.2.2 k else m, u, if y then r.2.1 else iw, j + 1)) := fun q u => by
        unfold f_X0_given_148
        cases y with
        | false => rw [zb_f, if_eqp rfl]; exact e167 q u m
        | true => rw [zb_t, if_eqn (by omega) (by omega) (by omega) (by omega) (by omega), gd_c r1, r4, obind_some, gd_c (by rw [r6]; decide), gd_zin (by omega) (by omega) (by omega), zix_nat (by omega), v2]; exact e167 q u _
      have e132 : ∀ q : Int, f_X0_given_132 h (φ i) (k : Int) x2 m pw iw j a (zb x) (zb y) q = some (.inl (q, if y then r.2.2.2 k else m, if x then r.2.1 else pw, if y then r.2.1 else iw, j + 1)) := fun q => by
        unfold f_X0_given_132
        cases x with
        | false => rw [zb_f, if_eqp rfl]; exact e148 q pw
        | true => rw [zb_t, if_eqn (by omega) (by omega) (by omega) (by omega) (by omega), gd_c r1, r9]; exact e148 q _
      cases x with
      | false => rw [zb_f, if_eqp rfl]; exact e132 p
      | true => rw [zb_t, if_eqn (by omega) (by omega) (by omega) (by omega) (by omega), gd_c r1, r3, obind_some, gd_c (by rw [r5]; decide), gd_zin (by omega) (by omega) (by omega), zix_nat (by omega), v1]; exact e132 _
  have e92 : ∀ (x y : Bool), f_X0_given_92 h (φ i) (k : Int) x2 p m pw iw j a (zb x) (zb y) = some (.inl (if (x || y) && fitR T r.1.reverse i then (if x then r.2.2.1 k else p, if y then r.2.2.2 k else m, if x then r.2.1 else pw, if y then r.2.1 else iw, j + 1) else (p, m, pw, iw, j + 1))) := fun x y => by
    unfold f_X0_given_92
    cases x with
    | true => rw [zb_t, if_eqn (by omega) (by omega) (by omega) (by omega) (by omega)]; rw [Bool.true_or, Bool.true_and]; exact e104 true y
    | false =>
      rw [zb_f, if_eqp rfl]
      cases y with
      | true => rw [zb_t, if_eqn (by omega) (by omega) (by omega) (by omega) (by omega)]; rw [Bool.false_or, Bool.true_and]; exact e104 false true
      | false => rw [zb_f, if_eqp rfl]; rfl
  have e63 : ∀ x : Bool, f_X0_given_63 h (φ i) (k : Int) x2 p m pw iw j a (zb x) = f_X0_given_92 h (φ i) (k : Int) x2 p m pw iw j a (zb x) (zb (decide (r.2.2.2 k ≠ -2 ∧ iw ≤ r.2.1))) := fun x => by
    unfold f_X0_given_63 f_X0_given_91
    rw [gd_c r1, r4, obind_some, gd_c (by rw [r6]; decide), gd_zin (by omega) (by omega) (by omega), zix_nat (by omega), v2]
    by_cases z : r.2.2.2 k = -2
    · rw [if_eqp z, decide_eq_false (fun q => q.1 z)]; rfl
    · rw [if_eqn z (by omega) (by omega) (by omega) (by omega), gd_c r1, r9]
      by_cases y : iw ≤ r.2.1
      · rw [if_ltn y (by omega) (by omega), decide_eq_true ⟨z, y⟩]; rfl
      · rw [if_ltp (by omega) (by omega) (by omega), decide_eq_false (fun q => y q.2)]; rfl
  have e16 : f_X0_given_16s h (φ i) (k : Int) x2 p m pw iw j = f_X0_given_63 h (φ i) (k : Int) x2 p m pw iw j a (zb (decide (r.2.2.1 k ≠ -2 ∧ pw ≤ r.2.1))) := by
    unfold f_X0_given_16s f_X0_given_62
    rw [hlen, obind_some, if_ltp hjn (by omega) (by omega), hget, obind_some, gd_c r1, gd_c r1, r3, obind_some, gd_c (by rw [r5]; decide), gd_zin (by omega) (by omega) (by omega), zix_nat (by omega), v1]
    by_cases z : r.2.2.1 k = -2
    · rw [if_eqp z, decide_eq_false (fun q => q.1 z)]; rfl
    · rw [if_eqn z (by omega) (by omega) (by omega) (by omega), gd_c r1, r9]
      by_cases y : pw ≤ r.2.1
      · rw [if_ltn y (by omega) (by omega), decide_eq_true ⟨z, y⟩]; rfl
      · rw [if_ltp (by omega) (by omega) (by omega), decide_eq_false (fun q => y q.2)]; rfl
  simp only []
  rw [e16, e63, e92]
  unfold gst
  simp only []
  by_cases hh : ((decide (r.2.2.1 k ≠ -2 ∧ pw ≤ r.2.1) || decide (r.2.2.2 k ≠ -2 ∧ iw ≤ r.2.1)) && fitR T r.1.reverse i) = true
  · rw [if_pos hh, if_pos hh]
    simp only [decide_eq_true_eq]
  · rw [if_neg hh, if_neg hh]
theorem gst_w {fit : RL → Bool} {k : Nat} {s : GS} {r : RL} (hs : (-1 ≤ s.2.2.1 ∧ s.2.2.1 ≤ 10000) ∧ -1 ≤ s.2.2.2 ∧ s.2.2.2 ≤ 10000) (hr : 0 ≤ r.2.1 ∧ r.2.1 ≤ 10000) : (-1 ≤ (gst fit k s r).2.2.1 ∧ (gst fit k s r).2.2.1 ≤ 10000) ∧ -1 ≤ (gst fit k s r).2.2.2 ∧ (gst fit k s r).2.2.2 ≤ 10000 := by
  cases hf : fit r with
  | true =>
    rw [gst_up hf]
    unfold upG
    simp only []
    constructor
    · split <;> omega
    · split <;> omega
  | false =>
    have : gst fit k s r = s := by unfold gst; rw [hf, Bool.and_false, if_neg (by simp)]
    rw [this]; exact hs
theorem given_p (H : RepB h pg φ T) (hW : WF T) {i : Nat} (hi : i < tN T) (hm : tM T i ≠ 1) (hC : ShC h pg) (hRs : RulesR h rs (pL h (pg + 9))) (h12 : rs.length ≤ 12) (hok : ∀ r ∈ rs, okR2 r) {k : Nat} (hk : k < 7) : f_X0_given h (φ i) (k : Int) (pg + 9) = some (giv (fun r => fitR T r.1.reverse i) k rs) := by
  have hk9 := hC.2.1.1
  have hlen : lLen h (pg + 9) = some ((rs.length : Nat) : Int) := by unfold lLen; rw [gd_c (by rw [hk9]; decide), hRs.1]
  have hw : ∀ j, j ≤ rs.length → (-1 ≤ ((rs.take j).foldl (gst (fun r => fitR T r.1.reverse i) k) (-2, -2, -1, -1)).2.2.1 ∧ ((rs.take j).foldl (gst (fun r => fitR T r.1.reverse i) k) (-2, -2, -1, -1)).2.2.1 ≤ 10000) ∧ -1 ≤ ((rs.take j).foldl (gst (fun r => fitR T r.1.reverse i) k) (-2, -2, -1, -1)).2.2.2 ∧ ((rs.take j).foldl (gst (fun r => fitR T r.1.reverse i) k) (-2, -2, -1, -1)).2.2.2 ≤ 10000 := by
    intro j
    induction j with
    | zero => intro _; show (-1 ≤ (-1 : Int) ∧ (-1 : Int) ≤ 10000) ∧ -1 ≤ (-1 : Int) ∧ (-1 : Int) ≤ 10000; omega
    | succ j ih =>
      intro hj
      rw [List.take_succ, List.getElem?_eq_getElem (by omega), List.foldl_append]
      have hr := hok (rs[j]'(by omega)) (List.getElem_mem _)
      exact gst_w (fit := fun r => fitR T r.1.reverse i) (k := k) (ih (by omega)) ⟨hr.1.1, hr.2.1⟩
  have hstep : ∀ j, j < rs.length → (rs.take (j + 1)).foldl (gst (fun r => fitR T r.1.reverse i) k) (-2, -2, -1, -1) = gst (fun r => fitR T r.1.reverse i) k ((rs.take j).foldl (gst (fun r => fitR T r.1.reverse i) k) (-2, -2, -1, -1)) (rs.getD j ([], 0, vf0)) := fun j hj => by
    rw [List.take_succ, List.getElem?_eq_getElem hj, List.foldl_append, gD hj]; rfl
  unfold f_X0_given f_X0_given_16
  refine loopU (fun j => (((rs.take j).foldl (gst (fun r => fitR T r.1.reverse i) k) (-2, -2, -1, -1)).1, ((rs.take j).foldl (gst (fun r => fitR T r.1.reverse i) k) (-2, -2, -1, -1)).2.1, ((rs.take j).foldl (gst (fun r => fitR T r.1.reverse i) k) (-2, -2, -1, -1)).2.2.1, ((rs.take j).foldl (gst (fun r => fitR T r.1.reverse i) k) (-2, -2, -1, -1)).2.2.2, (j : Int))) 0 rs.length rfl (Nat.zero_le _) (fun j _ j2 => ?_) ?_
  · have hR := hRs.2 j j2
    have hr := hok (rs.getD j ([], 0, vf0)) (by rw [gD j2]; exact List.getElem_mem _)
    have hget : lGet h (pg + 9) ((j : Nat) : Int) = some ((pL h (pg + 9)).getD j 0) := by
      unfold lGet
      rw [gd_c (by rw [hk9]; decide), gd_zin (by omega) (by rw [hRs.1]; omega) (by rw [hRs.1]; omega), zix_nat (by omega)]
    have := gv_step (n := ((rs.length : Nat) : Int)) H hW hi hm hR hr hk (hw j (by omega)) (pg + 9) ((j : Nat) : Int) hlen hget (by omega) (by omega)
    rw [hstep j j2]
    exact this
  · simp only [f_X0_given_16s]
    rw [hlen, obind_some, if_ltn (by omega) (by omega) (by omega), List.take_of_length_le (Nat.le_refl _)]
    unfold f_X0_given_192 giv
    have hg := giv_rng (fit := fun r => fitR T r.1.reverse i) (k := k) (rs := rs) (fun r hr => (hok r hr).1)
    generalize hgen : rs.foldl (gst (fun r => fitR T r.1.reverse i) k) (-2, -2, -1, -1) = s at *
    by_cases z : s.2.1 = -2
    · rw [if_eqp z, if_neg (fun q => q z)]
    · unfold giv at hg
      rw [hgen, if_pos z] at hg
      rw [if_eqn z (by omega) (by omega) (by omega) (by omega), if_pos z]
end PV
