/-! the reference: a pixel -/
set_option maxRecDepth 100000
section MP
variable {M M' M1 : MS} {T : TS} {rs : List RL} {C : List (Int × Nat)} {n p k q c : Nat} {Wd Lf tl tp : Nat → Int} {v : Int}
theorem pixel_186 (L : LaidM M T rs C Wd Lf tl tp v) (hW : WF T) (hrs : ∀ r ∈ rs, okRV r) (S : LSm T rs Wd Lf tl tp (mPX M T C) (mPY M T C)) {x y : Nat} (hx : x < 100) (hy : y < 100) (hp : p < tN T) (s : Int) : m_pixel_186 M (x : Int) (y : Int) s (p : Int) 0 = some (.inl (if nmQ T p = 1 then gly T rs (mPX M T C) (mPY M T C) p x y s (txP T p).length else s, ((p + 1 : Nat) : Int))) := by
  have h24 := hW.1.2.1
  have hl := hW.1.2.2.1
  obtain ⟨L1, L2, L3, L4, L5⟩ := L
  have h160 := L1.2.2.2.2.1
  have h17 := L1.2.2.2.1
  have hin := io_lt hW hp
  have hnr := nm_rng hW hp
  have h6 := L1.o hW hp
  have h8 := L1.nm hW hp
  unfold m_pixel_186
  by_cases hm : nmQ T p = 1
  · rw [if_pos hm]
    have h0 : 0 < p := by
      rcases Nat.eq_zero_or_pos p with z | z
      · rw [z, nm_0 hW] at hm; omega
      · exact z
    have hu := (up_d hW hp h0).1
    have hvr := vl_rng hW hrs (n := upP T p) (by omega)
    have e80 : (80 : Int) + ((upP T p : Nat) : Int) = ((40 * 2 + upP T p : Nat) : Int) := by omega
    have e0 : M.2 36 (upP T p) = vlP T rs 0 (upP T p) := by
      have := L1.v hW (n := upP T p) (k := 0) (by omega) (by omega)
      rw [show 40 * 0 + upP T p = upP T p by omega] at this
      exact this
    refine loopUs (fun q => (gly T rs (mPX M T C) (mPY M T C) p x y s (cnC C (ioP T p) q), ((q : Nat) : Int))) 0 C.length rfl (by omega) (fun q _ q2 => ?_) ?_
    · have hlt : (C.getD q (0, 0)).2 < tN T := by rw [gD q2]; exact L1.2.2.2.2.2.2.1 _ (List.getElem_mem _)
      show m_pixel_186s M (x : Int) (y : Int) (gly T rs (mPX M T C) (mPY M T C) p x y s (cnC C (ioP T p) q)) (p : Int) (q : Int) = _
      unfold m_pixel_186s m_pixel_277
      rw [h17, if_ltp (by omega) (by omega) (by omega), gd_zin (by omega) (by omega) (by omega), zix_nat (by omega), h6, gd_zin (by omega) (by omega) (by omega), zix_nat (by omega), h8, if_eqp hm, gd_zin (by omega) (by omega) (by omega), gd_zin (by omega) (by omega) (by omega), zix_nat (by omega), (L1.2.2.2.2.2.1 q q2).2, cnC_s]
      by_cases z : (C.getD q (0, 0)).2 = ioP T p
      · obtain ⟨c1, c2⟩ := cIx_cn L1.2.2.2 q2 z
        rw [z, if_eqp rfl, if_pos rfl, gd_zin (by omega) (by omega) (by omega)]
        show _ = some (Sum.inl (if chB T rs p (cnC C (ioP T p) q) && inkB ((txP T p).getD (cnC C (ioP T p) q) 0) (mPX M T C p (cnC C (ioP T p) q)) (mPY M T C p (cnC C (ioP T p) q)) (vlP T rs 2 (upP T p)) x y then vlP T rs 0 (upP T p) else gly T rs (mPX M T C) (mPY M T C) p x y s (cnC C (ioP T p) q), ((q + 1 : Nat) : Int)))
        have h5 := L5 p (cnC C (ioP T p) q) hp c2
        cases hc : chB T rs p (cnC C (ioP T p) q) with
        | false =>
          have hn : ¬ chA T rs p (cnC C (ioP T p) q) := fun w => by rw [chB_iff.mpr w] at hc; cases hc
          have h47 := h5.2 hn
          rw [c1] at h47
          rw [h47, if_eqp rfl, Bool.false_and, if_neg (show ¬ (false = true) by simp)]; rfl
        | true =>
          obtain ⟨n', q', j', e1, e2, e3, e4⟩ := h5.1 (chB_iff.mp hc)
          obtain ⟨s1, s2⟩ := S.2 p _ hp c2 hc
          obtain ⟨d1, d2, d3⟩ := cIx_d L1.2.2.2 c2
          rw [c1] at e2 d3
          have hX48 : M.2 48 q = mPX M T C p (cnC C (ioP T p) q) := by unfold mPX; rw [c1]
          have hY49 : M.2 49 q = mPY M T C p (cnC C (ioP T p) q) := by unfold mPY; rw [c1]
          have h18 : M.2 18 q = (txP T p).getD (cnC C (ioP T p) q) 0 := by rw [(L1.2.2.2.2.2.1 q q2).1, d3]
          rw [e2, if_eqn (by omega) (by omega) (by omega) (by omega) (by omega), gd_zin (by omega) (by omega) (by omega), L1.up hW hp h0, e80, gd_zin (by omega) (by omega) (by omega), zix_nat (by omega), L1.v hW (by omega) (by omega), m_inked_eq (by omega) h18 hX48 hY49 s1 (by omega) hvr.2.2.1 (by omega) (by omega), obind_some, Bool.true_and]
          cases inkB ((txP T p).getD (cnC C (ioP T p) q) 0) (mPX M T C p (cnC C (ioP T p) q)) (mPY M T C p (cnC C (ioP T p) q)) (vlP T rs 2 (upP T p)) x y with
          | false => rw [if_neg (show ¬ (false = true) by simp), if_eqp rfl, if_neg (show ¬ (false = true) by simp)]; rfl
          | true => rw [if_pos (show true = true from rfl), if_eqn (by omega) (by omega) (by omega) (by omega) (by omega), if_pos (show true = true from rfl), gd_zin (by omega) (by omega) (by omega), gd_zin (by omega) (by omega) (by omega), zix_nat (by omega), e0, bnd_eq]; rfl
      · rw [if_eqn (by omega) (by omega) (by omega) (by omega) (by omega), if_neg z]; rfl
    · show m_pixel_186s M (x : Int) (y : Int) (gly T rs (mPX M T C) (mPY M T C) p x y s (cnC C (ioP T p) C.length)) (p : Int) ((C.length : Nat) : Int) = _
      unfold m_pixel_186s m_pixel_283
      rw [h17, if_ltn (by omega) (by omega) (by omega), cnC_all L1.2.2.2]; rfl
  · rw [if_neg hm]
    refine iter_out ?_
    show m_pixel_186s M (x : Int) (y : Int) s (p : Int) 0 = _
    unfold m_pixel_186s m_pixel_283
    rw [h17]
    by_cases z : C.length = 0
    · rw [if_ltn (by omega) (by omega) (by omega)]; rfl
    · rw [if_ltp (by omega) (by omega) (by omega), gd_zin (by omega) (by omega) (by omega), zix_nat (by omega), h6, gd_zin (by omega) (by omega) (by omega), zix_nat (by omega), h8, if_eqn hm (by omega) (by omega) (by omega) (by omega)]; rfl
theorem m_pixel_in (L : LaidM M T rs C Wd Lf tl tp v) (hW : WF T) (hok : ∀ r ∈ rs, okR2 r) (hrs : ∀ r ∈ rs, okRV r) (S : LSm T rs Wd Lf tl tp (mPX M T C) (mPY M T C)) (hv : 1 ≤ v ∧ v ≤ 64) {x y : Nat} (hx : (x : Int) < v) (hy : y < 64) : m_pixel M (x : Int) (y : Int) = some (pic T rs Wd Lf tl tp (mPX M T C) (mPY M T C) x y (tN T)) := by
  have h24 := hW.1.2.1
  have h1N := hW.1.1
  have hl := hW.1.2.2.1
  have L' := L
  obtain ⟨L1, L2, L3, L4, L5⟩ := L
  unfold m_pixel
  rw [L4.1, if_eqn (by omega) (by omega) (by omega) (by omega) (by omega), if_ltn (by omega) (by omega) (by omega), L4.2.1, if_ltp (by omega) (by omega) (by omega), if_ltn (by omega) (by omega) (by omega), if_ltn (by omega) (by omega) (by omega), pixel_36 L' hW hok hrs S (by omega) (by omega)]
  have p1 : pic T rs Wd Lf tl tp (mPX M T C) (mPY M T C) x y 1 = grd T rs Wd Lf tl tp x y (tN T) := by
    show (if nmQ T 0 = 1 then _ else _) = _
    rw [if_neg (by rw [nm_0 hW]; omega)]
    rfl
  unfold m_pixel_171 m_pixel_174
  refine loopUs (fun n => (pic T rs Wd Lf tl tp (mPX M T C) (mPY M T C) x y n, ((n : Nat) : Int))) 1 (tN T) (by rw [p1]; rfl) h1N (fun n n1 n2 => ?_) ?_
  · show m_pixel_174s M (x : Int) (y : Int) (pic T rs Wd Lf tl tp (mPX M T C) (mPY M T C) x y n) (n : Int) = _
    unfold m_pixel_174s
    rw [L1.1.2.1, hl, if_ltp (by omega) (by omega) (by omega), pixel_186 L' hW hrs S (by omega) (by omega) n2]
    rfl
  · show m_pixel_174s M (x : Int) (y : Int) _ ((tN T : Nat) : Int) = _
    unfold m_pixel_174s
    rw [L1.1.2.1, hl, if_ltn (by omega) (by omega) (by omega)]
theorem m_pixel_no {x y : Int} (h2 : M.1 37 = 0 ∨ M.1 37 = 1) (h3 : M.1 37 = 1 → M.1 38 = v ∧ 1 ≤ v ∧ v ≤ 64) (h : M.1 37 = 0 ∨ x < 0 ∨ v ≤ x ∨ y < 0 ∨ 63 < y) (x1 : -2147483648 ≤ x) (x2 : x < 2147483648) (y1 : -2147483648 ≤ y) (y2 : y < 2147483648) : m_pixel M x y = some (-1) := by
  unfold m_pixel
  by_cases z : M.1 37 = 0
  · rw [if_eqp z]
  · obtain ⟨e1, e2, e3⟩ := h3 (by omega)
    rw [if_eqn z (by omega) (by omega) (by omega) (by omega)]
    by_cases z1 : x < 0
    · rw [if_ltp z1 (by omega) (by omega)]
    · rw [if_ltn (by omega) (by omega) (by omega), e1]
      by_cases z2 : x < v
      · rw [if_ltp z2 (by omega) (by omega)]
        by_cases z3 : y < 0
        · rw [if_ltp z3 (by omega) (by omega)]
        · rw [if_ltn (by omega) (by omega) (by omega), if_ltp (by omega) (by omega) (by omega)]
      · rw [if_ltn (by omega) (by omega) (by omega)]
theorem m_lines_eq (h2 : M.1 37 = 0 ∨ M.1 37 = 1) : m_lines M = some (if M.1 37 = 0 then -1 else M.1 39) := by
  unfold m_lines
  by_cases z : M.1 37 = 0
  · rw [if_eqp z, if_pos z]
  · rw [if_eqn z (by omega) (by omega) (by omega) (by omega), if_neg z]
end MP
/-! the page: what can be asked of a layout -/
section PQ
variable {h h' : HP} {pg a n : Nat} {φ : Nat → Nat} {T : TS} {rs : List RL} {x y v : Int} {Wd Lf tl tp : Nat → Int} {PX PY : Nat → Nat → Int}
theorem box_0 (hk : pK h pg = 1) (hl : pI h pg 17 = 0) : f_X0_box h pg x y = some (h, -1) := by
  unfold f_X0_box
  rw [gd_c hk, hl, if_ltn (by omega) (by omega) (by omega)]; rfl
theorem box_none (hk : pK h pg = 1) (hl : 0 < pI h pg 17 ∧ pI h pg 17 < 100) (hi : f_X0_inner h pg x = some (h', none)) : f_X0_box h pg x y = some (h', -1) := by
  unfold f_X0_box
  rw [gd_c hk, if_ltp hl.1 (by omega) (by omega), gd_c hk, hi, obind_some]; rfl
theorem box_in (hk : pK h pg = 1) (hl : 0 < pI h pg 17 ∧ pI h pg 17 < 100) (hi : f_X0_inner h pg x = some (h, some (φ (ioP T n)))) (P : PE h pg φ T rs) (hW : WF T) (hrs : ∀ r ∈ rs, okRV r) (hn : n < tN T) (hm : nmQ T n ≠ 1) (hB : bxP T rs n = true → BoxC h φ T rs Wd Lf tl tp n) (y1 : -2147483648 ≤ y) (y2 : y < 2147483648) : f_X0_box h pg x y = some (h, if bxP T rs n = true then (if y = 0 then Lf n else if y = 1 then tp n else if y = 2 then Wd n + 2 * vlP T rs 5 n else if y = 3 then tl n else -1) else -1) := by
  have e1 := (P.el hW hn hm).1
  unfold f_X0_box
  rw [gd_c hk, if_ltp hl.1 (by omega) (by omega), gd_c hk, hi, obind_some]
  unfold f_X0_box_16
  simp only [nl]
  rw [gd_c e1.1, box_p P hW hrs hn hm, obind_some]
  cases hb : bxP T rs n with
  | false => rw [if_neg (show ¬ (false = true) by simp), if_eqp rfl, if_neg (show ¬ (false = true) by simp)]
  | true =>
    obtain ⟨b1, b2, b3, b4⟩ := hB hb
    rw [if_pos (show true = true from rfl), if_eqn (by omega) (by omega) (by omega) (by omega) (by omega), if_pos (show true = true from rfl)]
    by_cases y0 : y = 0
    · rw [if_eqp y0, if_pos y0, gd_c e1.1, b1]
    · rw [if_eqn y0 (by omega) (by omega) (by omega) (by omega), if_neg y0]
      by_cases z1 : y = 1
      · rw [if_eqp z1, if_pos z1, gd_c e1.1, b2]
      · rw [if_eqn z1 (by omega) (by omega) (by omega) (by omega), if_neg z1]
        by_cases z2 : y = 2
        · rw [if_eqp z2, if_pos z2, gd_c e1.1, b3]
        · rw [if_eqn z2 (by omega) (by omega) (by omega) (by omega), if_neg z2]
          by_cases z3 : y = 3
          · rw [if_eqp z3, if_pos z3, gd_c e1.1, b4]
          · rw [if_eqn z3 (by omega) (by omega) (by omega) (by omega), if_neg z3]
theorem place_0 (hk : pK h pg = 1) (hl : pI h pg 17 = 0) : f_X0_place h pg x y = some (h, -1) := by
  unfold f_X0_place
  rw [gd_c hk, hl, if_ltn (by omega) (by omega) (by omega)]; rfl
theorem place_none (hk : pK h pg = 1) (hl : 0 < pI h pg 17 ∧ pI h pg 17 < 100) (hi : f_X0_text h pg x = some (h', none)) : f_X0_place h pg x y = some (h', -1) := by
  unfold f_X0_place
  rw [gd_c hk, if_ltp hl.1 (by omega) (by omega), gd_c hk, hi, obind_some]; rfl
theorem placeQ_in (hk : pK h pg = 1) (hl : 0 < pI h pg 17 ∧ pI h pg 17 < 100) (hi : f_X0_text h pg x = some (h, some (φ (ioP T n)))) (P : PE h pg φ T rs) (hW : WF T) (hn : n < tN T) (hm : nmQ T n = 1) (hP : ∀ k, k < (txP T n).length → pI h (plA h φ T n) k = plV T rs PX PY n k) (y1 : -2147483648 ≤ y) (y2 : y < 2147483648) : f_X0_place h pg x y = some (h, if 0 ≤ y ∧ y.toNat < (txP T n).length then plV T rs PX PY n y.toNat else -1) := by
  obtain ⟨t1, t2, t3, t4, t5, t6, t7⟩ := P.tx hW hn hm
  unfold f_X0_place
  rw [gd_c hk, if_ltp hl.1 (by omega) (by omega), gd_c hk, hi, obind_some]
  unfold f_X0_place_16 f_X0_place_36 sLen
  simp only [nl]
  by_cases z : y < 0
  · rw [if_ltp z (by omega) (by omega), if_neg (by omega)]
  · rw [if_ltn (by omega) (by omega) (by omega), gd_c t1.1, t1.2.1, obind_some, gd_c (by rw [t1.2.2.1]; decide), obind_some, t6]
    by_cases z2 : y < ((txP T n).length : Int)
    · rw [if_ltp z2 (by omega) (by omega), gd_c t1.1, t2, obind_some, gd_c (by rw [t3]; decide), gd_zin (by omega) (by omega) (by omega), zix_toNat (by omega) (by omega), hP _ (by omega), if_pos (by omega)]
    · rw [if_ltn (by omega) (by omega) (by omega), if_neg (by omega)]
theorem lines_p (hk : pK h pg = 1) (hl : 0 ≤ pI h pg 17 ∧ pI h pg 17 < 100) (hR : RcP h pg) : f_X0_lines h pg = some (if pI h pg 17 = 0 then -1 else pI h (pg + 17) 3) := by
  unfold f_X0_lines
  by_cases z : pI h pg 17 = 0
  · rw [gd_c hk, z, if_ltn (by omega) (by omega) (by omega), if_pos rfl]
  · rw [gd_c hk, if_ltp (by omega) (by omega) (by omega), gd_c hk, hR.1.1, obind_some, gd_c hR.2.1.1, if_neg z]
theorem pixel_in (hk : pK h pg = 1) (hv : 1 ≤ v ∧ v ≤ 64) (hl : pI h pg 17 = v) (hR : RcP h pg) {x y : Nat} (hx : (x : Int) < v) (hy : y < 64) : f_X0_pixel h pg (x : Int) (y : Int) = some (pxl h pg x y) := by
  have e64 : (64 * (y : Int) + (x : Int)) = ((64 * y + x : Nat) : Int) := by omega
  unfold f_X0_pixel
  rw [if_ltn (by omega) (by omega) (by omega), gd_c hk, hl, if_ltp (by omega) (by omega) (by omega), if_ltn (by omega) (by omega) (by omega), if_ltp (by omega) (by omega) (by omega), gd_c hk, hR.1.2.1, obind_some, gd_c hR.1.2.2.1, e64, gd_zin (by omega) (by rw [hR.1.2.2.2]; omega) (by rw [hR.1.2.2.2]; omega), zix_nat (by omega)]
  rfl
theorem pixel_no (hk : pK h pg = 1) (hl : 0 ≤ pI h pg 17 ∧ pI h pg 17 ≤ 64) (hh : x < 0 ∨ pI h pg 17 ≤ x ∨ y < 0 ∨ 63 < y) (x1 : -2147483648 ≤ x) (x2 : x < 2147483648) (y1 : -2147483648 ≤ y) (y2 : y < 2147483648) : f_X0_pixel h pg x y = some (-1) := by
  unfold f_X0_pixel f_X0_pixel_22
  by_cases z1 : x < 0
  · rw [if_ltp z1 (by omega) (by omega)]
  · rw [if_ltn (by omega) (by omega) (by omega), gd_c hk]
    by_cases z2 : x < pI h pg 17
    · rw [if_ltp z2 (by omega) (by omega)]
      by_cases z3 : y < 0
      · rw [if_ltp z3 (by omega) (by omega)]
      · rw [if_ltn (by omega) (by omega) (by omega), if_ltn (by omega) (by omega) (by omega)]
    · rw [if_ltn (by omega) (by omega) (by omega)]
end PQ
