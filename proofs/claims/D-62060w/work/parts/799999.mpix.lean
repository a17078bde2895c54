/-! the reference: what can be asked of a layout -/
set_option maxRecDepth 100000
section MP
variable {M M' M1 : MS} {T : TS} {rs : List RL} {C : List (Int × Nat)} {n p k q c : Nat} {Wd Lf tl tp : Nat → Int} {PX PY : Nat → Nat → Int} {v x y : Int}
def mPX (M : MS) (T : TS) (C : List (Int × Nat)) (p k : Nat) : Int := M.2 48 (cIx T C p k)
def mPY (M : MS) (T : TS) (C : List (Int × Nat)) (p k : Nat) : Int := M.2 49 (cIx T C p k)
/-- all numbers of a layout are small -/
def LSm (T : TS) (rs : List RL) (Wd Lf tl tp : Nat → Int) (PX PY : Nat → Nat → Int) : Prop := (∀ n, n < tN T → (0 ≤ Lf n ∧ Lf n ≤ 20000) ∧ (0 ≤ Wd n ∧ Wd n ≤ 99) ∧ (0 ≤ tl n ∧ tl n ≤ 20000) ∧ 0 ≤ tp n ∧ tp n ≤ 20000) ∧ ∀ p k, p < tN T → k < (txP T p).length → chB T rs p k = true → (0 ≤ PX p k ∧ PX p k < 65536) ∧ 0 ≤ PY p k ∧ PY p k < 32768
theorem LaidM.xy (L : LaidM M T rs C Wd Lf tl tp v) : ∀ p k, p < tN T → k < (txP T p).length → chA T rs p k → ∃ n q j, Cov T rs Wd tl n q j p k ∧ mPX M T C p k = Lf n + vlP T rs 5 n + (flF T rs Wd tl n q).2.2.1 j ∧ mPY M T C p k = tp n + vlP T rs 5 n + flE T rs Wd tl n q + (flF T rs Wd tl n q).2.2.2 j := fun p k hp hk ha => by
  obtain ⟨n, q, j, e1, e2, e3, e4⟩ := (L.2.2.2.2 p k hp hk).1 ha
  exact ⟨n, q, j, e1, e3, e4⟩
theorem LaidM.sm (L : LaidM M T rs C Wd Lf tl tp v) (hW : WF T) (hok : ∀ r ∈ rs, okR2 r) (hrs : ∀ r ∈ rs, okRV r) (hIS : isP T (tN T) ≤ 183) (Q : LQ T rs v Wd Lf tl tp) (hv : 1 ≤ v ∧ v ≤ 64) : LSm T rs Wd Lf tl tp (mPX M T C) (mPY M T C) := by
  have h24 := hW.1.2.1
  refine ⟨fun n hn => ?_, fun p k hp hk hc => ?_⟩
  · have w := wd_b hW hok hrs Q hv n hn
    have t := tl_small hW hok hrs hIS Q hn
    have t2 := tp_b hW hok hrs hIS Q n hn
    have bt := bB_top hW hIS (s := n) (by omega)
    exact ⟨⟨w.2.1, by omega⟩, w.1, ⟨t.1, by omega⟩, t2.1, by omega⟩
  · have ha := chB_iff.mp hc
    obtain ⟨n', q', j', d1, d2, d3⟩ := L.xy p k hp hk ha
    rw [d2, d3]
    exact cov_b hW hok hrs hIS Q hv d1 ha.2.2
theorem m_box_no (h : M.1 37 = 0 ∨ m_none M x = some 1) (h2 : M.1 37 = 0 ∨ M.1 37 = 1) : m_box M x y = some (-1) := by
  unfold m_box
  by_cases z : M.1 37 = 0
  · rw [if_eqp z]
  · have h3 : m_none M x = some 1 := by
      rcases h with w | w
      · exact (z w).elim
      · exact w
    rw [if_eqn z (by omega) (by omega) (by omega) (by omega), h3, obind_some, if_eqn (by omega) (by omega) (by omega) (by omega) (by omega)]
theorem m_box_in (L : LaidM M T rs C Wd Lf tl tp v) (hW : WF T) (hok : ∀ r ∈ rs, okR2 r) (hn : n < tN T) (hy1 : -2147483648 ≤ y) (hy2 : y < 2147483648) : m_box M (n : Int) y = some (if bxP T rs n = true then (if y = 0 then Lf n else if y = 1 then tp n else if y = 2 then Wd n + 2 * vlP T rs 5 n else if y = 3 then tl n else -1) else -1) := by
  have h24 := hW.1.2.1
  obtain ⟨L1, L2, L3, L4, L5⟩ := L
  obtain ⟨g1, g2, g3, g4⟩ := L2 n hn
  unfold m_box
  rw [L4.1, if_eqn (by omega) (by omega) (by omega) (by omega) (by omega), mnone_in L1.1 hW hn, obind_some, if_eqp rfl, gd_zin (by omega) (by omega) (by omega), zix_nat (by omega), g2]
  cases hb : bxP T rs n with
  | false => rw [if_neg (show ¬ (false = true) by simp), if_eqp rfl, if_neg (show ¬ (false = true) by simp)]
  | true =>
    obtain ⟨t1, t2⟩ := L3 n hn hb
    obtain ⟨w1, w2⟩ := g4 hb
    rw [if_pos (show true = true from rfl), if_eqn (by omega) (by omega) (by omega) (by omega) (by omega), if_pos (show true = true from rfl)]
    by_cases z0 : y < 0
    · rw [if_ltp z0 (by omega) (by omega), if_neg (by omega), if_neg (by omega), if_neg (by omega), if_neg (by omega)]
    · rw [if_ltn (by omega) (by omega) (by omega)]
      by_cases z3 : 3 < y
      · rw [if_ltp z3 (by omega) (by omega), if_neg (by omega), if_neg (by omega), if_neg (by omega), if_neg (by omega)]
      · rw [if_ltn (by omega) (by omega) (by omega)]
        by_cases y0 : y = 0
        · rw [if_eqp y0, if_pos y0, gd_zin (by omega) (by omega) (by omega), w1]
        · rw [if_eqn y0 (by omega) (by omega) (by omega) (by omega), if_neg y0]
          by_cases y1 : y = 1
          · rw [if_eqp y1, if_pos y1, gd_zin (by omega) (by omega) (by omega), t2]
          · rw [if_eqn y1 (by omega) (by omega) (by omega) (by omega), if_neg y1]
            by_cases y2 : y = 2
            · rw [if_eqp y2, if_pos y2, gd_zin (by omega) (by omega) (by omega), m_border_eq L1 hW hok hn, obind_some, w2]
            · rw [if_eqn y2 (by omega) (by omega) (by omega) (by omega), if_neg y2, if_pos (by omega), gd_zin (by omega) (by omega) (by omega), t1]
theorem m_place_no (hf : m_find M x y = some (-1)) (h2 : M.1 37 = 0 ∨ M.1 37 = 1) : m_place M x y = some (-1) := by
  unfold m_place m_place_27
  rw [hf, obind_some]
  by_cases z : M.1 37 = 0
  · rw [if_eqp z]
  · rw [if_eqn z (by omega) (by omega) (by omega) (by omega), if_ltp (by omega) (by omega) (by omega)]
theorem m_place_0 (h : M.1 37 = 0) {r : Int} (hf : m_find M x y = some r) : m_place M x y = some (-1) := by
  unfold m_place m_place_27
  rw [hf, obind_some, if_eqp h]
theorem m_place_in (L : LaidM M T rs C Wd Lf tl tp v) (hW : WF T) (hn : n < tN T) (hm : nmQ T n = 1) (hy1 : 0 ≤ y) (hy2 : y < 2147483648) : m_place M (n : Int) y = some (if y.toNat < (txP T n).length then plV T rs (mPX M T C) (mPY M T C) n y.toNat else -1) := by
  obtain ⟨L1, L2, L3, L4, L5⟩ := L
  have h160 := L1.2.2.2.2.1
  unfold m_place m_place_27
  rw [mfind_in L1.1 L1.2.2.2 hW hn hm hy1 hy2, obind_some, L4.1, if_eqn (by omega) (by omega) (by omega) (by omega) (by omega)]
  by_cases z : y.toNat < (txP T n).length
  · obtain ⟨d1, d2, d3⟩ := cIx_d L1.2.2.2 z
    rw [if_pos z, if_pos z, if_ltn (by omega) (by omega) (by omega), gd_zin (by omega) (by omega) (by omega), zix_nat (by omega)]
    unfold plV
    cases hc : chB T rs n y.toNat with
    | false =>
      have hn : ¬ chA T rs n y.toNat := fun w => by rw [chB_iff.mpr w] at hc; cases hc
      rw [(L5 n y.toNat (by omega) z).2 hn, if_eqp rfl, if_neg (show ¬ (false = true) by simp)]
    | true =>
      obtain ⟨n', q', j', e1, e2, e3, e4⟩ := (L5 n y.toNat (by omega) z).1 (chB_iff.mp hc)
      rw [e2, if_eqn (by omega) (by omega) (by omega) (by omega) (by omega), if_pos (show true = true from rfl), gd_zin (by omega) (by omega) (by omega), gd_zin (by omega) (by omega) (by omega)]
      rfl
  · rw [if_neg z, if_neg z, if_ltp (by omega) (by omega) (by omega)]
theorem m_inked_eq {letter : Int} (hc : c < 160) (h18 : M.2 18 c = letter) {X Y s : Int} (h48 : M.2 48 c = X) (h49 : M.2 49 c = Y) (hX : 0 ≤ X ∧ X < 65536) (hY : 0 ≤ Y ∧ Y < 65536) (hs : 1 ≤ s ∧ s ≤ 9) (hx : 0 ≤ x ∧ x < 100) (hy : 0 ≤ y ∧ y < 100) : m_inked M (c : Int) x y s = some (if inkB letter X Y s x y then 1 else 0) := by
  unfold m_inked
  have hne0 : ¬ zI s = zI 0 := fun z => by
    have := (zI_eq (by omega) (by omega) (by omega) (by omega)).mp z
    omega
  rw [gd_zin (by omega) (by omega) (by omega), zix_nat (by omega), h48, bnd_eq, gd_zin (by omega) (by omega) (by omega), h49, bnd_eq, h18]
  unfold inkB
  by_cases z1 : x - X < 0
  · rw [if_ltp z1 (by omega) (by omega), decide_eq_false (by omega), Bool.false_and, if_neg (show ¬ (false = true) by simp)]
  · rw [if_ltn (by omega) (by omega) (by omega)]
    by_cases z2 : x - X < s
    · rw [if_ltp z2 (by omega) (by omega)]
      by_cases z3 : y - Y < 0
      · rw [if_ltp z3 (by omega) (by omega), decide_eq_false (by omega), Bool.false_and, if_neg (show ¬ (false = true) by simp)]
      · rw [if_ltn (by omega) (by omega) (by omega)]
        by_cases z4 : y - Y < s
        · rw [if_ltp z4 (by omega) (by omega), gd_zin (by omega) (by omega) (by omega), gd_c hne0, gd_c hne0, if_bit, decide_eq_true (by omega), Bool.true_and]
          cases bitB letter s (x - X) (y - Y) <;> rfl
        · rw [if_ltn (by omega) (by omega) (by omega), decide_eq_false (by omega), Bool.false_and, if_neg (show ¬ (false = true) by simp)]
    · rw [if_ltn (by omega) (by omega) (by omega), decide_eq_false (by omega), Bool.false_and, if_neg (show ¬ (false = true) by simp)]
/-- grounds -/
theorem pixel_36 (L : LaidM M T rs C Wd Lf tl tp v) (hW : WF T) (hok : ∀ r ∈ rs, okR2 r) (hrs : ∀ r ∈ rs, okRV r) (S : LSm T rs Wd Lf tl tp PX PY) {x y : Nat} (hx : x < 100) (hy : y < 100) : m_pixel_36 M (x : Int) (y : Int) 0 1 = m_pixel_171 M (x : Int) (y : Int) (grd T rs Wd Lf tl tp x y (tN T)) := by
  have h24 := hW.1.2.1
  have h1N := hW.1.1
  have hl := hW.1.2.2.1
  obtain ⟨L1, L2, L3, L4, L5⟩ := L
  have hv1 : vlP T rs 1 0 = 0 := by unfold vlP; rw [io_0 hW, val_root hW hok]; rfl
  have g1 : grd T rs Wd Lf tl tp x y 1 = 0 := by
    show gdS T rs Wd Lf tl tp 0 x y 0 = 0
    unfold gdS
    rw [if_neg (fun w => w.2.2.2 hv1)]
  unfold m_pixel_36
  refine loopU (fun n => (grd T rs Wd Lf tl tp x y n, ((n : Nat) : Int))) 1 (tN T) (by rw [g1]; rfl) h1N (fun n n1 n2 => ?_) ?_
  · show m_pixel_36s M (x : Int) (y : Int) (grd T rs Wd Lf tl tp x y n) (n : Int) = some (.inl (gdS T rs Wd Lf tl tp n x y (grd T rs Wd Lf tl tp x y n), ((n + 1 : Nat) : Int)))
    obtain ⟨a1, a2, a3, a4⟩ := L2 n n2
    obtain ⟨b1, b2, b3, b4⟩ := S.1 n n2
    have hvr := vl_rng hW hrs n2
    have e200 : (200 : Int) + (n : Int) = ((40 * 5 + n : Nat) : Int) := by omega
    have e40 : (40 : Int) + (n : Int) = ((40 * 1 + n : Nat) : Int) := by omega
    unfold m_pixel_36s m_pixel_133 m_pixel_134 m_pixel_165
    rw [L1.1.2.1, hl, if_ltp (by omega) (by omega) (by omega), gd_zin (by omega) (by omega) (by omega), zix_nat (by omega), a2, if_eqp (a := 0) (b := 0) rfl]
    have hno : ∀ s, ¬ (bxP T rs n = true ∧ (Lf n ≤ (x : Int) ∧ (x : Int) < Lf n + (Wd n + 2 * vlP T rs 5 n)) ∧ (tp n ≤ (y : Int) ∧ (y : Int) < tp n + tl n) ∧ vlP T rs 1 n ≠ 0) → (some (.inl (s, (n : Int) + 1)) : Option ((Int × Int) ⊕ Int)) = some (.inl (gdS T rs Wd Lf tl tp n x y s, ((n + 1 : Nat) : Int))) := fun s h => by
      unfold gdS
      rw [if_neg h]; rfl
    cases hb : bxP T rs n with
    | false =>
      rw [if_neg (show ¬ (false = true) by simp), if_eqp rfl]
      exact hno _ (fun w => by rw [hb] at w; cases w.1)
    | true =>
      obtain ⟨t1, t2⟩ := L3 n n2 hb
      obtain ⟨w1, w2⟩ := a4 hb
      rw [if_pos (show true = true from rfl), if_eqn (by omega) (by omega) (by omega) (by omega) (by omega), gd_zin (by omega) (by omega) (by omega), w1]
      by_cases z1 : (x : Int) < Lf n
      · rw [if_ltp z1 (by omega) (by omega)]
        exact hno _ (fun w => by omega)
      · rw [if_ltn (by omega) (by omega) (by omega), gd_zin (by omega) (by omega) (by omega), gd_zin (by omega) (by omega) (by omega), e200, gd_zin (by omega) (by omega) (by omega), zix_nat (by omega), w2, L1.v hW n2 (by omega)]
        by_cases z2 : (x : Int) < Lf n + Wd n + 2 * vlP T rs 5 n
        · rw [if_ltp z2 (by omega) (by omega), gd_zin (by omega) (by omega) (by omega), t2]
          by_cases z3 : (y : Int) < tp n
          · rw [if_ltp z3 (by omega) (by omega)]
            exact hno _ (fun w => by omega)
          · rw [if_ltn (by omega) (by omega) (by omega), gd_zin (by omega) (by omega) (by omega), gd_zin (by omega) (by omega) (by omega), t1]
            by_cases z4 : (y : Int) < tp n + tl n
            · rw [if_ltp z4 (by omega) (by omega), if_eqn (by omega) (by omega) (by omega) (by omega) (by omega), e40, gd_zin (by omega) (by omega) (by omega), zix_nat (by omega), L1.v hW n2 (by omega)]
              by_cases z5 : vlP T rs 1 n = 0
              · rw [if_eqp z5]
                exact hno _ (fun w => w.2.2.2 z5)
              · rw [if_eqn z5 (by omega) (by omega) (by omega) (by omega), gd_zin (by omega) (by omega) (by omega), bnd_eq]
                unfold gdS
                rw [if_pos ⟨hb, by omega, by omega, z5⟩]; rfl
            · rw [if_ltn (by omega) (by omega) (by omega)]
              exact hno _ (fun w => by omega)
        · rw [if_ltn (by omega) (by omega) (by omega)]
          exact hno _ (fun w => by omega)
  · show m_pixel_36s M (x : Int) (y : Int) _ ((tN T : Nat) : Int) = _
    unfold m_pixel_36s
    rw [L1.1.2.1, hl, if_ltn (by omega) (by omega) (by omega)]
end MP
