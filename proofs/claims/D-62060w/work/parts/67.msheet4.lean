/-! the sheet's rules: read at once, and while typed -/
set_option maxRecDepth 100000
/-- a rule in the sheet's text: parts, selector, where its body begins and ends -/
abbrev RE : Type := List PT × List Int × Nat × Nat
def slc (w : List Int) (a b : Nat) : List Int := (w.take b).drop a
def rlE (w : List Int) (e : RE) : RL := mkR e.1 e.2.1 (slc w e.2.2.1 e.2.2.2)
def sgn (w : List Int) (k : Nat) (c : Int) : Nat := k + ((w.drop k).takeWhile (fun x => decide (x ≠ c))).length
/-- the rules from a place on, behind those that stand -/
def bE (w : List Int) : Nat → Nat → List RE → List RE
  | 0, _, E => E
  | n + 1, k, E =>
    if 12 ≤ E.length then E
    else if sgn w k 123 = w.length then E
    else if sgn w (sgn w k 123) 125 = w.length then E
    else bE w n (sgn w (sgn w k 123) 125 + 1) (match sel (slc w k (sgn w k 123)) with
      | none => E
      | some ps => E ++ [(ps, slc w k (sgn w k 123), sgn w k 123 + 1, sgn w (sgn w k 123) 125)])
theorem sgn_le (w : List Int) {k : Nat} (hk : k ≤ w.length) (c : Int) : k ≤ sgn w k c ∧ sgn w k c ≤ w.length := by
  have := tw_le (fun x => decide (x ≠ c)) (w.drop k)
  rw [List.length_drop] at this
  unfold sgn
  omega
theorem sgn_at (w : List Int) {k : Nat} (hk : k ≤ w.length) {c : Int} (h : sgn w k c ≠ w.length) : w.getD (sgn w k c) 0 = c := by
  have hle := sgn_le w hk c
  have hle2 := tw_le (fun x => decide (x ≠ c)) (w.drop k)
  have h1 := tw_at (fun x => decide (x ≠ c)) (w.drop k) 0 (by rw [List.length_drop]; unfold sgn at h hle; omega)
  rw [getD_dr] at h1
  simp only [decide_eq_false_iff_not, Decidable.not_not] at h1
  exact h1
theorem sgn_no (w : List Int) {k : Nat} (hk : k ≤ w.length) {c : Int} {j : Nat} (h1 : k ≤ j) (h2 : j < sgn w k c) : w.getD j 0 ≠ c := by
  have := tw_lt (fun x => decide (x ≠ c)) (w.drop k) (j - k) 0 (by unfold sgn at h2; omega)
  rw [getD_dr, show k + (j - k) = j by omega] at this
  simpa using this
theorem slc_len (w : List Int) {a b : Nat} (h : b ≤ w.length) : (slc w a b).length = b - a := by unfold slc; rw [List.length_drop, List.length_take]; omega
theorem slc_mem {w : List Int} {a b : Nat} {c : Int} (hc : c ∈ slc w a b) : c ∈ w := List.mem_of_mem_take (List.mem_of_mem_drop hc)
theorem slc_at {w : List Int} {a b j : Nat} (hj : a + j < b) (hb : b ≤ w.length) : (slc w a b).getD j 0 = w.getD (a + j) 0 := by
  unfold slc
  rw [getD_dr, take_at hj]
theorem slc_ne {w : List Int} {a b : Nat} (hb : b ≤ w.length) {d : Int} (h : ∀ j, a ≤ j → j < b → w.getD j 0 ≠ d) : ∀ c ∈ slc w a b, c ≠ d := by
  intro c hc z
  obtain ⟨j, hj, e⟩ := List.getElem_of_mem hc
  have hl := slc_len w (a := a) hb
  have := slc_at (w := w) (a := a) (b := b) (j := j) (by omega) hb
  rw [gD hj, e, z] at this
  exact h (a + j) (by omega) (by omega) this.symm
theorem cut_at {w : List Int} {k o : Nat} (h1 : k ≤ o) (h2 : o < w.length) : w.drop k = slc w k o ++ w.getD o 0 :: w.drop (o + 1) := by
  have e1 : w.drop k = (w.drop k).take (o - k) ++ (w.drop k).drop (o - k) := (List.take_append_drop _ _).symm
  have e2 : (w.drop k).take (o - k) = slc w k o := by unfold slc; rw [List.drop_take]
  have e3 : (w.drop k).drop (o - k) = w.drop o := by rw [List.drop_drop, show k + (o - k) = o by omega]
  rw [e1, e2, e3, drop_c h2]
theorem cx_sel (rs : List RL) : ∀ (l t : List Int), (∀ c ∈ l, c ≠ 123) → l.foldl cx (rs, t, [], false) = (rs, t ++ l, [], false)
  | [], t, _ => by simp
  | c :: l, t, h => by
    rw [List.foldl_cons]
    have : cx (rs, t, [], false) c = (rs, t ++ [c], [], false) := by
      unfold cx
      rw [if_neg (fun z => h c (by simp) z.2), if_neg (fun z => by cases z.1), if_neg (fun z => by cases z)]
    rw [this, cx_sel rs l _ (fun y hy => h y (by simp [hy]))]
    simp
theorem cx_body (rs : List RL) (t : List Int) : ∀ (l b : List Int), (∀ c ∈ l, c ≠ 125) → l.foldl cx (rs, t, b, true) = (rs, t, b ++ l, true)
  | [], b, _ => by simp
  | c :: l, b, h => by
    rw [List.foldl_cons]
    have : cx (rs, t, b, true) c = (rs, t, b ++ [c], true) := by
      unfold cx
      rw [if_neg (fun z => by cases z.1), if_neg (fun z => h c (by simp) z.2), if_pos rfl]
    rw [this, cx_body rs t l _ (fun y hy => h y (by simp [hy]))]
    simp
theorem cx_12 (s : CX) (h : s.1.length = 12) : ∀ l : List Int, (l.foldl cx s).1 = s.1
  | [] => rfl
  | c :: l => by
    rw [List.foldl_cons]
    have h1 : (cx s c).1 = s.1 := by
      unfold cx
      split
      · rfl
      · split
        · show addR s.1 s.2.1 s.2.2.1 = s.1
          unfold addR
          split
          · rfl
          · rw [if_pos h]
        · split <;> rfl
    rw [cx_12 (cx s c) (by rw [h1]; exact h) l, h1]
theorem bE_cx (w : List Int) : ∀ (n k : Nat) (E : List RE), k ≤ w.length → w.length - k < n → E.length ≤ 12 → ((w.drop k).foldl cx (E.map (rlE w), [], [], false)).1 = (bE w n k E).map (rlE w) ∧ (bE w n k E).length ≤ 12 := by
  intro n
  induction n with
  | zero => intro k E hk hn; omega
  | succ n ih =>
    intro k E hk hn hE
    rw [bE]
    by_cases e1 : 12 ≤ E.length
    · rw [if_pos e1]
      exact ⟨cx_12 _ (by show (E.map (rlE w)).length = 12; rw [List.length_map]; omega) _, hE⟩
    · rw [if_neg e1]
      obtain ⟨o1, o2⟩ := sgn_le w hk 123
      by_cases e2 : sgn w k 123 = w.length
      · rw [if_pos e2]
        refine ⟨?_, hE⟩
        have : ∀ c ∈ w.drop k, c ≠ 123 := fun c hc z => by
          obtain ⟨j, hj, e⟩ := List.getElem_of_mem hc
          have hj' : j < w.length - k := by rw [List.length_drop] at hj; exact hj
          have := sgn_no w hk (c := 123) (j := k + j) (by omega) (by omega)
          rw [← getD_dr, gD hj, e] at this
          exact this z
        rw [cx_sel _ _ _ this]
      · rw [if_neg e2]
        have hat := sgn_at w hk e2
        have hno : ∀ c ∈ slc w k (sgn w k 123), c ≠ 123 := slc_ne o2 (fun j j1 j2 => sgn_no w hk j1 j2)
        have hcut := cut_at o1 (show sgn w k 123 < w.length by omega)
        have hno2 : ∀ {j : Nat}, sgn w k 123 ≤ j → j < sgn w (sgn w k 123) 125 → w.getD j 0 ≠ 125 := fun a b => sgn_no w o2 a b
        have hat2 : sgn w (sgn w k 123) 125 ≠ w.length → w.getD (sgn w (sgn w k 123) 125) 0 = 125 := fun a => sgn_at w o2 a
        have hle2 := sgn_le w o2 125
        generalize sgn w k 123 = o at *
        rw [hat] at hcut
        rw [hcut, List.foldl_append, cx_sel _ _ _ hno, List.nil_append, List.foldl_cons]
        have hcx : cx (E.map (rlE w), slc w k o, [], false) 123 = (E.map (rlE w), slc w k o, [], true) := by
          unfold cx
          rw [if_pos ⟨rfl, rfl⟩]
        rw [hcx]
        by_cases e3 : sgn w o 125 = w.length
        · rw [if_pos e3]
          refine ⟨?_, hE⟩
          have : ∀ c ∈ w.drop (o + 1), c ≠ 125 := fun c hc z => by
            obtain ⟨j, hj, e⟩ := List.getElem_of_mem hc
            have hj' : j < w.length - (o + 1) := by rw [List.length_drop] at hj; exact hj
            have := hno2 (j := o + 1 + j) (by omega) (by omega)
            rw [← getD_dr, gD hj, e] at this
            exact this z
          rw [cx_body _ _ _ _ this]
        · rw [if_neg e3]
          have hat2 := hat2 e3
          have hgt : o < sgn w o 125 := by
            by_cases z : sgn w o 125 = o
            · rw [z, hat] at hat2; omega
            · omega
          generalize sgn w o 125 = c at *
          have hcut2 := cut_at (w := w) (k := o + 1) (o := c) (by omega) (by omega)
          have hnb : ∀ x ∈ slc w (o + 1) c, x ≠ 125 := slc_ne (by omega) (fun j j1 j2 => hno2 (by omega) j2)
          rw [hat2] at hcut2
          rw [hcut2, List.foldl_append, cx_body _ _ _ _ hnb, List.nil_append, List.foldl_cons]
          have hcx2 : cx (E.map (rlE w), slc w k o, slc w (o + 1) c, true) 125 = (addR (E.map (rlE w)) (slc w k o) (slc w (o + 1) c), [], [], false) := by
            unfold cx
            rw [if_neg (fun z => by cases z.1), if_pos ⟨rfl, rfl⟩]
          rw [hcx2]
          have hadd : addR (E.map (rlE w)) (slc w k o) (slc w (o + 1) c) = (match sel (slc w k o) with
              | none => E
              | some ps => E ++ [(ps, slc w k o, o + 1, c)]).map (rlE w) := by
            unfold addR
            cases sel (slc w k o) with
            | none => rfl
            | some ps =>
              simp only []
              rw [if_neg (by rw [List.length_map]; omega), List.map_append]
              rfl
          rw [hadd]
          refine ih (c + 1) _ (by omega) (by omega) ?_
          split
          · exact hE
          · rw [List.length_append]; simp; omega
/-- the reference's rules -/
def RulM (M : MS) (w : List Int) (E : List RE) : Prop := M.1 22 = (E.length : Int) ∧ E.length ≤ 12 ∧ ∀ r, r < E.length → PtM M (4 * r) (E.getD r ([], [], 0, 0)).1 ∧ M.2 26 r = (((E.getD r ([], [], 0, 0)).1.length : Nat) : Int) ∧ M.2 27 r = ((cC (E.getD r ([], [], 0, 0)).2.1 : Nat) : Int) ∧ M.2 28 r = ((cS (E.getD r ([], [], 0, 0)).2.1 : Nat) : Int) ∧ M.2 29 r = (((E.getD r ([], [], 0, 0)).2.2.1 : Nat) : Int) ∧ M.2 30 r = (((E.getD r ([], [], 0, 0)).2.2.2 : Nat) : Int) ∧ sel (E.getD r ([], [], 0, 0)).2.1 = some (E.getD r ([], [], 0, 0)).1 ∧ (E.getD r ([], [], 0, 0)).2.2.1 ≤ (E.getD r ([], [], 0, 0)).2.2.2 ∧ (E.getD r ([], [], 0, 0)).2.2.2 ≤ w.length ∧ ∀ c ∈ (E.getD r ([], [], 0, 0)).2.1, c ∈ w
section MSH
variable {M M' M'' : MS} {w : List Int} {E : List RE}
theorem nextSign_s (h : StyM M w) {k : Nat} (hk : k ≤ w.length) {c : Int} (hc : 0 ≤ c ∧ c < 128) : m_nextSign M (k : Int) c = some (if sgn w k c = w.length then -1 else ((sgn w k c : Nat) : Int)) := by
  rw [m_nextSign_eq h hk hc]
  have hd : (w.drop k).length = w.length - k := List.length_drop
  have hle := tw_le (fun x => decide (x ≠ c)) (w.drop k)
  congr 1
  unfold sgn
  by_cases e : k + ((w.drop k).takeWhile (fun x => decide (x ≠ c))).length = w.length
  · rw [if_pos e, if_pos (by omega)]
  · rw [if_neg e, if_neg (by omega)]
theorem RulM.cg (R : RulM M w E) (h1 : M'.1 22 = M.1 22) (h2 : ∀ f i, (f = 23 ∨ f = 24 ∨ f = 25 → i < 4 * E.length) → (f = 26 ∨ f = 27 ∨ f = 28 ∨ f = 29 ∨ f = 30 → i < E.length) → 23 ≤ f → f ≤ 30 → M'.2 f i = M.2 f i) (h4 : ∀ r, r < E.length → (E.getD r ([], [], 0, 0)).1.length ≤ 4) : RulM M' w E := by
  obtain ⟨r1, r2, r3⟩ := R
  refine ⟨by rw [h1]; exact r1, r2, fun r hr => ?_⟩
  obtain ⟨a1, a2, a3, a4, a5, a6, a7⟩ := r3 r hr
  refine ⟨fun j hj => ?_, by rw [h2 26 r (by omega) (by omega) (by omega) (by omega)]; exact a2, by rw [h2 27 r (by omega) (by omega) (by omega) (by omega)]; exact a3, by rw [h2 28 r (by omega) (by omega) (by omega) (by omega)]; exact a4, by rw [h2 29 r (by omega) (by omega) (by omega) (by omega)]; exact a5, by rw [h2 30 r (by omega) (by omega) (by omega) (by omega)]; exact a6, a7⟩
  have := h4 r hr
  rw [h2 23 _ (by omega) (by omega) (by omega) (by omega), h2 24 _ (by omega) (by omega) (by omega) (by omega), h2 25 _ (by omega) (by omega) (by omega) (by omega)]
  exact a1 j hj
theorem selR_len : ∀ (n : Nat) (d : Int) (l : List Int) (ps : List PT), selR n d l = some ps → 1 ≤ ps.length ∧ ps.length ≤ n ∧ ∀ p ∈ ps, p.2.2 = 0 ∨ p.2.2 = 1 ∨ p.2.2 = d := by
  intro n
  induction n with
  | zero => intro d l ps h; cases h
  | succ n ih =>
    intro d l ps h
    rw [selR] at h
    have step : ∀ (d' : Int) (l' : List Int), (d' = 0 ∨ d' = 1) → (selR n d' l').map (fun r => (ptL l, ptC l, d) :: r) = some ps → 1 ≤ ps.length ∧ ps.length ≤ n + 1 ∧ ∀ p ∈ ps, p.2.2 = 0 ∨ p.2.2 = 1 ∨ p.2.2 = d := fun d' l' hd' hh => by
      cases hs : selR n d' l' with
      | none => rw [hs] at hh; cases hh
      | some q =>
        rw [hs] at hh
        cases hh
        obtain ⟨i1, i2, i3⟩ := ih d' l' q hs
        refine ⟨by simp, by simp; omega, fun p hp => ?_⟩
        rcases List.mem_cons.mp hp with z | z
        · rw [z]; exact Or.inr (Or.inr rfl)
        · have := i3 p z; omega
    split at h
    · cases h
    · split at h
      · cases h
        exact ⟨by simp, by simp, fun p hp => by rw [List.mem_singleton.mp hp]; exact Or.inr (Or.inr rfl)⟩
      · split at h
        · exact step 1 _ (Or.inr rfl) h
        · split at h
          · cases h
          · exact step 0 _ (Or.inl rfl) h
theorem sel_len {t : List Int} {ps : List PT} (h : sel t = some ps) : 1 ≤ ps.length ∧ ps.length ≤ 4 ∧ ∀ p ∈ ps, p.2.2 = 0 ∨ p.2.2 = 1 := by
  obtain ⟨a, b, c⟩ := selR_len 4 0 (bl t) ps h
  exact ⟨a, b, fun p hp => by have := c p hp; omega⟩
theorem RulM.four (R : RulM M w E) : ∀ r, r < E.length → (E.getD r ([], [], 0, 0)).1.length ≤ 4 := fun r hr => (sel_len (R.2.2 r hr).2.2.2.2.2.2.1).2.1
/-- the reference's selector -/
theorem m_selector_eq (h : StyM M w) {k to r : Nat} (hr : r < 12) (h22 : M.1 22 = (r : Int)) (hk : k ≤ to) (ht : to ≤ w.length) : ∃ M' b, m_selector M (k : Int) (to : Int) = some (M', b) ∧ FS M M' ∧ M'.1 = M.1 ∧ (∀ f i, (f ≠ 23 ∧ f ≠ 24 ∧ f ≠ 25 ∨ i < 4 * r ∨ 4 * r + 4 ≤ i) → (f ≠ 26 ∧ f ≠ 27 ∧ f ≠ 28 ∨ i ≠ r) → M'.2 f i = M.2 f i) ∧ (match sel (slc w k to) with
    | none => b = 0
    | some ps => b = 1 ∧ PtM M' (4 * r) ps ∧ M'.2 26 r = ((ps.length : Nat) : Int) ∧ M'.2 27 r = ((cC (slc w k to) : Nat) : Int) ∧ M'.2 28 r = ((cS (slc w k to) : Nat) : Int)) := by
  have hl := h.2.2.1
  have F : FS M (sA (sA M 27 r 0) 28 r 0) := ((FS.refl M).sA (by omega) _ _).sA (by omega) _ _
  have h3 := h.fs F
  have hb := m_blanks_eq (to := to) h3 ht hk
  have htl : (w.take to).length = to := by rw [List.length_take]; omega
  have hle : k + (((w.take to).drop k).takeWhile isB).length ≤ to := by
    have := tw_le isB ((w.take to).drop k)
    rw [List.length_drop, htl] at this
    omega
  obtain ⟨M', b, a1, a2, a3, a4, a5⟩ := selM ht hr 4 0 (k + (((w.take to).drop k).takeWhile isB).length) 0 _ h3 rfl hle (Or.inl rfl)
  refine ⟨M', b, ?_, F.trans a2, a3, fun f i p1 p2 => ?_, ?_⟩
  · unfold m_selector
    rw [h22, bnd_eq, gd_zin (by omega) (by omega) (by omega), bnd_eq, gd_zin (by omega) (by omega) (by omega), bnd_eq, zix_nat (by omega), hb, obind_some]
    exact a1
  · rw [a4 f i (by omega) p2]
    by_cases z : f = 28
    · rw [z, sA_i _ _ _ _ _ (by omega), sA_n _ _ _ _ _ _ (by omega)]
    · rw [sA_n _ _ _ _ _ _ z]
      by_cases z2 : f = 27
      · rw [z2, sA_i _ _ _ _ _ (by omega)]
      · rw [sA_n _ _ _ _ _ _ z2]
  · rw [drop_tw'] at a5
    have hbl : ((w.take to).drop k).dropWhile isB = bl (slc w k to) := rfl
    rw [hbl] at a5
    unfold sel
    have e27 : (sA (sA M 27 r 0) 28 r 0).2 27 r = 0 := by rw [sA_n _ _ _ _ _ _ (by omega), sA_s]
    have e28 : (sA (sA M 27 r 0) 28 r 0).2 28 r = 0 := by rw [sA_s]
    rw [cC_bl, cS_bl, e27, e28] at a5
    cases hs : selR 4 0 (bl (slc w k to)) with
    | none => rw [hs] at a5; exact a5
    | some ps =>
      rw [hs] at a5
      obtain ⟨y1, y2, y3, y4, y5⟩ := a5
      exact ⟨y1, y2, by rw [y3]; simp, by rw [y4]; simp, by rw [y5]; simp⟩
theorem m_readSheet_7_eq : ∀ (n k : Nat) (E : List RE) (M : MS), StyM M w → RulM M w E → k ≤ w.length → w.length - k < n → ∃ M', m_readSheet_7 M (k : Int) = some M' ∧ FS M M' ∧ RulM M' w (bE w n k E) := by
  intro n
  induction n with
  | zero => intro k E M h R hk hn; omega
  | succ n ih =>
    intro k E M h R hk hn
    have hl := h.2.2.1
    have hE := R.2.1
    rw [bE]
    unfold m_readSheet_7
    by_cases e1 : 12 ≤ E.length
    · rw [if_pos e1]
      refine ⟨M, iter_out ?_, FS.refl M, R⟩
      simp only [m_readSheet_7s]
      rw [if_ltn (by omega) (by omega) (by omega), R.1, if_ltn (by omega) (by omega) (by omega)]
    · rw [if_neg e1]
      obtain ⟨o1, o2⟩ := sgn_le w hk 123
      have hs1 := nextSign_s h hk (c := 123) (by omega)
      have stop : ∀ M : MS, m_readSheet_7 M (-1) = some M := fun M => by
        refine iter_out ?_
        simp only [m_readSheet_7s]
        rw [if_ltp (by omega) (by omega) (by omega)]
      have pre : m_readSheet_7s M (k : Int) = Option.bind (m_nextSign M (k : Int) 123) (fun y2 => if zI y2 < zI 0 then m_readSheet_43 M (k : Int) y2 (-1) else Option.bind (m_nextSign M y2 125) (fun y3 => m_readSheet_43 M (k : Int) y2 y3)) := by
        unfold m_readSheet_7s
        rw [if_ltn (by omega) (by omega) (by omega), R.1, if_ltp (by omega) (by omega) (by omega)]
      rw [hs1, obind_some] at pre
      by_cases e2 : sgn w k 123 = w.length
      · rw [if_pos e2] at pre ⊢
        refine ⟨M, ?_, FS.refl M, R⟩
        unfold m_readSheet_43 m_readSheet_89 m_readSheet_100 at pre
        rw [if_ltp (by omega) (by omega) (by omega), if_ltp (by omega) (by omega) (by omega), if_ltp (by omega) (by omega) (by omega)] at pre
        rw [iter_in pre]
        exact stop M
      · rw [if_neg e2] at pre ⊢
        have hle2 := sgn_le w o2 125
        have hs2 := nextSign_s h o2 (c := 125) (by omega)
        generalize ho : sgn w k 123 = o at *
        rw [if_ltn (by omega) (by omega) (by omega), hs2, obind_some] at pre
        by_cases e3 : sgn w o 125 = w.length
        · rw [if_pos e3] at pre ⊢
          refine ⟨M, ?_, FS.refl M, R⟩
          unfold m_readSheet_43 m_readSheet_89 m_readSheet_100 at pre
          rw [if_ltp (by omega) (by omega) (by omega), if_ltp (by omega) (by omega) (by omega)] at pre
          rw [iter_in pre]
          exact stop M
        · rw [if_neg e3] at pre ⊢
          have hat : w.getD o 0 = 123 := by rw [← ho]; exact sgn_at w hk (by rw [ho]; exact e2)
          have hat2 := sgn_at w o2 e3
          have hgt : o < sgn w o 125 := by
            by_cases z : sgn w o 125 = o
            · rw [z, hat] at hat2; omega
            · omega
          generalize sgn w o 125 = c at *
          obtain ⟨N, b, s1, s2, s3, s4, s5⟩ := m_selector_eq (r := E.length) h (by omega) R.1 o1 o2
          unfold m_readSheet_43 m_readSheet_89 m_readSheet_100 at pre
          rw [if_ltn (by omega) (by omega) (by omega), s1, obind_some] at pre
          have hN := h.fs s2
          have RN : RulM N w E := R.cg (by rw [s3]) (fun f i p1 p2 p3 p4 => s4 f i (by omega) (by omega)) R.four
          cases hsel : sel (slc w k o) with
          | none =>
            rw [hsel] at s5
            have hb0 : b = 0 := s5
            rw [hb0] at pre
            rw [if_eqp (show (0 : Int) = 0 from rfl), if_ltn (by omega) (by omega) (by omega)] at pre
            obtain ⟨M', t1, t2, t3⟩ := ih (c + 1) E N hN RN (by omega) (by omega)
            refine ⟨M', ?_, s2.trans t2, t3⟩
            rw [iter_in pre, show (c : Int) + 1 = ((c + 1 : Nat) : Int) by omega]
            exact t1
          | some ps =>
            rw [hsel] at s5
            obtain ⟨y1, y2, y3, y4, y5⟩ := s5
            rw [y1] at pre
            simp only [] at pre
            have h22 : N.1 22 = (E.length : Int) := by rw [s3]; exact R.1
            have h22b : (sA N 29 E.length ((o : Int) + 1)).1 22 = (E.length : Int) := h22
            have h22c : (sA (sA N 29 E.length ((o : Int) + 1)) 30 E.length (c : Int)).1 22 = (E.length : Int) := h22
            rw [if_eqn (by omega) (by omega) (by omega) (by omega) (by omega), h22, gd_zin (by omega) (by omega) (by omega), bnd_eq, zix_nat (by omega), h22b, gd_zin (by omega) (by omega) (by omega), bnd_eq, zix_nat (by omega), bnd_eq, h22c, if_ltn (by omega) (by omega) (by omega)] at pre
            have F3 : FS N (sI (sA (sA N 29 E.length ((o : Int) + 1)) 30 E.length (c : Int)) 22 ((E.length : Int) + 1)) := (((FS.refl N).sA (by omega) _ _).sA (by omega) _ _).s22 _
            have fr : ∀ f i, (f ≠ 29 ∧ f ≠ 30 ∨ i ≠ E.length) → (sI (sA (sA N 29 E.length ((o : Int) + 1)) 30 E.length (c : Int)) 22 ((E.length : Int) + 1)).2 f i = N.2 f i := fun f i p => by
              rw [sI_2]
              by_cases z : f = 30
              · rw [z, sA_i _ _ _ _ _ (by omega), sA_n _ _ _ _ _ _ (by omega)]
              · rw [sA_n _ _ _ _ _ _ z]
                by_cases z2 : f = 29
                · rw [z2, sA_i _ _ _ _ _ (by omega)]
                · rw [sA_n _ _ _ _ _ _ z2]
            have q29 : (sI (sA (sA N 29 E.length ((o : Int) + 1)) 30 E.length (c : Int)) 22 ((E.length : Int) + 1)).2 29 E.length = (o : Int) + 1 := by rw [sI_2, sA_n _ _ _ _ _ _ (by omega), sA_s]
            have q30 : (sI (sA (sA N 29 E.length ((o : Int) + 1)) 30 E.length (c : Int)) 22 ((E.length : Int) + 1)).2 30 E.length = (c : Int) := by rw [sI_2, sA_s]
            have q22 : (sI (sA (sA N 29 E.length ((o : Int) + 1)) 30 E.length (c : Int)) 22 ((E.length : Int) + 1)).1 22 = (E.length : Int) + 1 := sI_s _ _ _
            generalize sI (sA (sA N 29 E.length ((o : Int) + 1)) 30 E.length (c : Int)) 22 ((E.length : Int) + 1) = Q at *
            have RQ : RulM Q w (E ++ [(ps, slc w k o, o + 1, c)]) := by
              refine ⟨by rw [q22]; simp, by simp; omega, fun r hr => ?_⟩
              rw [List.length_append, List.length_singleton] at hr
              by_cases z : r < E.length
              · have e9 : (E ++ [(ps, slc w k o, o + 1, c)]).getD r ([], [], 0, 0) = E.getD r ([], [], 0, 0) := by rw [gD (by rw [List.length_append]; omega), List.getElem_append_left z, gD z]
                rw [e9]
                obtain ⟨a1, a2, a3, a4, a5, a6, a7⟩ := RN.2.2 r z
                have := RN.four r z
                refine ⟨fun j hj => ?_, by rw [fr 26 r (by omega)]; exact a2, by rw [fr 27 r (by omega)]; exact a3, by rw [fr 28 r (by omega)]; exact a4, by rw [fr 29 r (by omega)]; exact a5, by rw [fr 30 r (by omega)]; exact a6, a7⟩
                rw [fr 23 _ (by omega), fr 24 _ (by omega), fr 25 _ (by omega)]
                exact a1 j hj
              · have hr' : r = E.length := by omega
                have e9 : (E ++ [(ps, slc w k o, o + 1, c)]).getD r ([], [], 0, 0) = (ps, slc w k o, o + 1, c) := by rw [hr']; simp [List.getD]
                rw [e9, hr']
                refine ⟨fun j hj => ?_, by rw [fr 26 _ (by omega)]; exact y3, by rw [fr 27 _ (by omega)]; exact y4, by rw [fr 28 _ (by omega)]; exact y5, by rw [q29]; simp, by rw [q30], hsel, by show o + 1 ≤ c; omega, by show c ≤ w.length; omega, fun x hx => slc_mem hx⟩
                rw [fr 23 _ (by omega), fr 24 _ (by omega), fr 25 _ (by omega)]
                exact y2 j hj
            obtain ⟨M', t1, t2, t3⟩ := ih (c + 1) _ Q (hN.fs F3) RQ (by omega) (by omega)
            refine ⟨M', ?_, (s2.trans F3).trans t2, t3⟩
            rw [iter_in pre, show (c : Int) + 1 = ((c + 1 : Nat) : Int) by omega]
            exact t1
/-- the sheet's rules -/
def rulE (w : List Int) : List RE := bE w (w.length + 1) 0 []
theorem m_readSheet_eq (h : StyM M w) : ∃ M', m_readSheet M = some M' ∧ FS M M' ∧ RulM M' w (rulE w) := by
  have F : FS M (sI M 22 0) := (FS.refl M).s22 _
  obtain ⟨M', a1, a2, a3⟩ := m_readSheet_7_eq (w := w) (w.length + 1) 0 [] _ (h.fs F) ⟨by rw [sI_s]; rfl, by simp, fun r hr => by simp at hr⟩ (Nat.zero_le _) (by omega)
  refine ⟨M', ?_, F.trans a2, a3⟩
  unfold m_readSheet
  rw [bnd_eq]
  exact a1
theorem rul_cx (w : List Int) : (w.foldl cx cx0).1 = (rulE w).map (rlE w) ∧ (rulE w).length ≤ 12 := by
  have := bE_cx w (w.length + 1) 0 [] (Nat.zero_le _) (by omega) (by simp)
  rw [List.drop_zero] at this
  exact this
end MSH
