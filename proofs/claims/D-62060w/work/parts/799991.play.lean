/-! the page: a box is laid out -/
set_option maxRecDepth 100000
def SidS (pg : Nat) (φ : Nat → Nat) (T : TS) (rs : List RL) (Wd Lf tl tp : Nat → Int) (N : Nat) : Prop := ∀ (h : HP) (n : Nat), n < tN T → bxP T rs n = true → rwP T n = true → 2 * (behindA T n - n) ≤ N + 1 → PInv h pg φ T rs Wd Lf tl tp n (n + 1) (hsP T rs Wd tl n (n + 1)) → ∃ h', (F_lay N).2.1 h (φ (ioP T n)) (pg + 17) = some h' ∧ PInv h' pg φ T rs Wd Lf tl tp n (behindA T n) (hsP T rs Wd tl n (behindA T n)) ∧ PFr h h' φ T n ∧ pI h' (pg + 17) 3 = pI h (pg + 17) 3 + (lpP T rs Wd tl (behindA T n) - lpP T rs Wd tl (n + 1))
section PK
variable {h h' h0 h1 h2 : HP} {pg r : Nat} {φ : Nat → Nat} {T : TS} {rs : List RL} {R : List IT} {n p k q j x N e a : Nat} {Wd Lf tl tp : Nat → Int} {v : Int} {s : HS}
theorem OKL_nil : OKL [] := ⟨by simp, fun p hp => absurd hp (by simp)⟩
theorem flP_nil (hs : s.2.2.2.1 = []) (W : Int) : flP T rs W s = s := by
  obtain ⟨a, b, c, d, e⟩ := s
  have hs : d = [] := hs
  subst hs
  have h1 : (FL W (rkL T rs (a, b, c, [], e))).2.1 = 0 := (FL_l (W := W) OKL_nil).1.mpr rfl
  unfold flP
  rw [h1]
  show (a, b, c, [], e + 0) = _
  rw [Int.add_zero]
/-- a row has no run -/
theorem row_run (hW : WF T) (hok : ∀ r ∈ rs, okR2 r) (hrs : ∀ r ∈ rs, okRV r) (hn : n < tN T) (hr : nmQ T n = 114) : ∀ k, n + 1 + k ≤ tN T → (hsP T rs Wd tl n (n + 1 + k)).2.2.2.1 = [] ∧ (hsP T rs Wd tl n (n + 1 + k)).2.2.2.2 = 0 := by
  intro k
  induction k with
  | zero => intro _; rw [show n + 1 + 0 = n + 1 by omega, hs_0]; exact ⟨rfl, rfl⟩
  | succ k ih =>
    intro hk
    obtain ⟨i1, i2⟩ := ih (by omega)
    rw [show n + 1 + (k + 1) = (n + 1 + k) + 1 by omega, hs_s (by omega)]
    by_cases h1 : hoP T rs (n + 1 + k) = n
    · cases hd : hdP T rs (n + 1 + k) with
      | true => rw [hst_hd hd]; exact ⟨i1, i2⟩
      | false =>
        have hb := (ho_row hW hok hrs (n + 1 + k) (by omega) (by omega) hd (by rw [h1]; exact hr)).2.1
        rw [hst_bx h1 hb, flP_nil i1]
        exact ⟨rfl, i2⟩
    · rw [hst_no h1]; exact ⟨i1, i2⟩
theorem row_at (hW : WF T) (hok : ∀ r ∈ rs, okR2 r) (hrs : ∀ r ∈ rs, okRV r) (hn : n < tN T) (hr : nmQ T n = 114) (h1 : n < q) (h2 : q ≤ tN T) : (hsP T rs Wd tl n q).2.2.2.1 = [] ∧ (hsP T rs Wd tl n q).2.2.2.2 = 0 := by
  have := row_run (Wd := Wd) (tl := tl) hW hok hrs hn hr (q - (n + 1)) (by omega)
  rw [show n + 1 + (q - (n + 1)) = q by omega] at this
  exact this
theorem rw_nm (h : rwP T n = true) : nmQ T n = 114 := by unfold rwP at h; simpa using h
theorem cl_blk (hW : WF T) (ha : a < tN T) (hu : upP T a = n) (hna : n < a) : clP T rs n (behindA T a) = clP T rs n a + (if bxP T rs a then 1 else 0) := by
  have hbl := beh_le hW ha
  have hg := behindA_gt T a
  have e1 : clP T rs n (a + 1) = clP T rs n a + (if bxP T rs a then 1 else 0) := by
    rw [cl_s n a hna, hu, decide_eq_true (show n = n from rfl), Bool.true_and]
  rw [← e1]
  obtain ⟨d, e⟩ : ∃ d, behindA T a = a + 1 + d := ⟨behindA T a - (a + 1), by omega⟩
  rw [e]
  have key : ∀ d', d' ≤ d → clP T rs n (a + 1 + d') = clP T rs n (a + 1) := by
    intro d'
    induction d' with
    | zero => intro _; rfl
    | succ d' ih =>
      intro hd
      have hin := up_in hW ha (q := a + 1 + d') (by omega) (by omega)
      rw [show a + 1 + (d' + 1) = (a + 1 + d') + 1 by omega, cl_s n _ (by omega), ih (by omega), decide_eq_false (show ¬ upP T (a + 1 + d') = n by omega), Bool.false_and, if_neg (show ¬ (false = true) by simp)]
      rfl
  exact key d (Nat.le_refl _)
/-- the end of a box's layout -/
theorem lay_fin (hW : WF T) (hn : n < tN T) (hb : bxP T rs n = true) (rc : RC_lay) (H0 : PE h0 pg φ T rs) (F : PFr h0 h φ T n) (I : PInv h pg φ T rs Wd Lf tl tp n (behindA T n) s) (hs : s.2.2.2.1 = []) (ht : tl n = 2 * vlP T rs 5 n + ((if rwP T n then s.2.2.1 else s.1) + (if rwP T n then 0 else s.2.1))) : ∃ h', f_X0_lay_264 rc h (φ (ioP T n)) (tp n) (vlP T rs 5 n) = some h' ∧ PE h' pg φ T rs ∧ PFr h0 h' φ T n ∧ pI h' (pg + 17) 2 = 0 ∧ pI h' (pg + 17) 3 = pI h (pg + 17) 3 ∧ (∀ x, n ≤ x → x < behindA T n → bxP T rs x = true → BoxC h' φ T rs Wd Lf tl tp x) ∧ ∀ p k, n < p → p < behindA T n → nmQ T p = 1 → k < (txP T p).length → PlR T rs Wd Lf tl tp p k (pI h' (plA h' φ T p) k) := by
  have hbl := beh_le hW hn
  have hm := (bx_d hb).1
  obtain ⟨i1, ⟨⟨i2, i3, i4⟩, i5, i6, i7, i8⟩, i9, i10, i11, i12⟩ := I
  have e1 := (i1.el hW hn hm).1
  have hgo : f_X0_lay_264 rc h (φ (ioP T n)) (tp n) (vlP T rs 5 n) = some (wI h (φ (ioP T n)) 12 (tl n)) := by
    unfold f_X0_lay_264
    rw [gd_c e1.1, gd_c e1.1, gd_c e1.1, bnd_eq, i7, i8, ht]
    congr 2
    omega
  have A : AgL h (wI h (φ (ioP T n)) 12 (tl n)) := (AgL.refl h).aI (by unfold lP; rw [e1.1]; omega) _
  have hI3 : ∀ b j, ¬ (b = φ (ioP T n) ∧ j = 12) → pI (wI h (φ (ioP T n)) 12 (tl n)) b j = pI h b j := fun b j hbj => by
    rw [pI_wI, if_neg hbj]
  have h12 : pI (wI h (φ (ioP T n)) 12 (tl n)) (φ (ioP T n)) 12 = tl n := by rw [pI_wI, if_pos ⟨rfl, rfl⟩]
  generalize wI h (φ (ioP T n)) 12 (tl n) = h3 at hgo A hI3 h12
  have hr3 : ∀ j, pI h3 (pg + 17) j = pI h (pg + 17) j := fun j => hI3 _ _ (fun z => by have := i1.2.2.1; rw [z.1, e1.1] at this; omega)
  have hel3 : ∀ y j, y < tN T → nmQ T y ≠ 1 → (y ≠ n ∨ j ≠ 12) → pI h3 (φ (ioP T y)) j = pI h (φ (ioP T y)) j := fun y j hy hmy hyn => hI3 _ _ (fun z => by
    rcases hyn with w | w
    · exact i1.ne hW hy hn w z.1
    · exact w z.2)
  have htx3 : ∀ p k, p < tN T → nmQ T p = 1 → pI h3 (plA h φ T p) k = pI h (plA h φ T p) k := fun p k hp hmp => hI3 _ _ (fun z => by have := (i1.tx hW hp hmp).2.2.1; rw [z.1, e1.1] at this; omega)
  have F3 : PFr h h3 φ T n := ⟨A, fun y j hy hmy ho => hel3 y j hy hmy (Or.inl (by have := behindA_gt T n; omega)), fun p k hp hmp _ => htx3 p k hp hmp⟩
  refine ⟨h3, hgo, i1.agl hW A, F.tin H0 hW F3 (Nat.le_refl _) (Nat.le_refl _), ?_, hr3 3, fun y y1 y2 y3 => ?_, fun p k p1 p2 p3 p4 => ?_⟩
  · rw [hr3, i9.1, hs]; rfl
  · have hyn : y < tN T := by omega
    have hmy := (bx_d y3).1
    by_cases z : y = n
    · subst z
      unfold BoxC
      rw [hel3 y 9 hyn hmy (Or.inr (by omega)), hel3 y 10 hyn hmy (Or.inr (by omega)), hel3 y 11 hyn hmy (Or.inr (by omega))]
      exact ⟨i2, i3, i4, h12⟩
    · unfold BoxC
      rw [hel3 y 9 hyn hmy (Or.inl z), hel3 y 10 hyn hmy (Or.inl z), hel3 y 11 hyn hmy (Or.inl z), hel3 y 12 hyn hmy (Or.inl z)]
      exact i10 y (by omega) y2 y3
  · rw [plA_agl i1 hW A (by omega) p3, htx3 p k (by omega) p3]
    exact i11 p k p1 p2 p3 p4 (by rw [hs]; simp)
/-- the start of a box's layout -/
theorem lay_ini (hW : WF T) (hok : ∀ r ∈ rs, okR2 r) (hrs : ∀ r ∈ rs, okRV r) (Q : LQ T rs v Wd Lf tl tp) (hn : n < tN T) (hb : bxP T rs n = true) (H : PE h pg φ T rs) (hr2 : pI h (pg + 17) 2 = 0) (htx : ∀ p k, n < p → p < behindA T n → nmQ T p = 1 → k < (txP T p).length → pI h (plA h φ T p) k = -1) {fr av : Int} (hfr : fr + vlP T rs 4 n = Lf n) (hav : (if vlP T rs 6 n = -1 then max 0 (av - 2 * vlP T rs 4 n - 2 * vlP T rs 5 n) else vlP T rs 6 n) = Wd n) (ha : 0 ≤ av ∧ av ≤ 99) (rc : RC_lay) : ∃ h7, f_X0_lay_b rc h (φ (ioP T n)) fr (tp n) av (pg + 17) = (if nmQ T n = 104 then f_X0_lay_264 rc (wI h7 (φ (ioP T n)) 15 (pI h7 (φ (ioP T n)) 15 + 1)) (φ (ioP T n)) (tp n) (vlP T rs 5 n) else if nmQ T n = 114 then Option.bind (rc.2.1 h7 (φ (ioP T n)) (pg + 17)) (fun y10 => f_X0_lay_264 rc y10 (φ (ioP T n)) (tp n) (vlP T rs 5 n)) else f_X0_lay_148 rc h7 (φ (ioP T n)) (tp n) (pg + 17) (vlP T rs 5 n) 0) ∧ PInv h7 pg φ T rs Wd Lf tl tp n (n + 1) (hsP T rs Wd tl n (n + 1)) ∧ PFr h h7 φ T n ∧ pI h7 (pg + 17) 3 = pI h (pg + 17) 3 := by
  have hbl := beh_le hW hn
  have hm := (bx_d hb).1
  obtain ⟨e1, e2, e3, e4⟩ := H.el hW hn hm
  have hvr := vl_rng hW hrs hn
  have z4 : zix 4 = 4 := by decide
  have z5 : zix 5 = 5 := by decide
  have z6 : zix 6 = 6 := by decide
  generalize hE : φ (ioP T n) = E at *
  -- the room
  have hroom : f_X0_lay_b rc h E fr (tp n) av (pg + 17) = f_X0_lay_52 rc h E fr (tp n) (pg + 17) (vlP T rs 4 n) (vlP T rs 5 n) (Wd n) E := by
    unfold f_X0_lay_b
    rw [gd_c e1.1, e1.2.2.2.1, obind_some, gd_c (by rw [e1.2.2.2.2.1]; decide), gd_zin (by omega) (by rw [e1.2.2.2.2.2.1]; omega) (by rw [e1.2.2.2.2.2.1]; omega), z4, e2 4 (by omega), bnd_eq, gd_c e1.1, obind_some, gd_c (by rw [e1.2.2.2.2.1]; decide), gd_zin (by omega) (by rw [e1.2.2.2.2.2.1]; omega) (by rw [e1.2.2.2.2.2.1]; omega), z5, e2 5 (by omega), bnd_eq, gd_c e1.1, obind_some, gd_c (by rw [e1.2.2.2.2.1]; decide), gd_zin (by omega) (by rw [e1.2.2.2.2.2.1]; omega) (by rw [e1.2.2.2.2.2.1]; omega), z6, e2 6 (by omega), bnd_eq]
    by_cases z : vlP T rs 6 n = -1
    · rw [if_eqp z]
      rw [if_pos z] at hav
      have : zmax 0 (av - 2 * vlP T rs 4 n - 2 * vlP T rs 5 n) = Wd n := by
        rw [zmax_eq (by omega) (by omega) (by omega) (by omega), ← hav]
        omega
      rw [this]
    · rw [if_eqn z (by omega) (by omega) (by omega) (by omega)]
      rw [if_neg z] at hav
      rw [hav]
  rw [hroom]
  unfold f_X0_lay_52
  rw [gd_c e1.1, bnd_eq, gd_c (by exact e1.1), bnd_eq, gd_c (by exact e1.1), bnd_eq, gd_c (by exact e1.1), gd_c (by exact e1.1), bnd_eq, gd_c (by exact e1.1), gd_c (by exact e1.1), bnd_eq, gd_c (by exact e1.1), bnd_eq, gd_c (by exact e1.1), bnd_eq]
  generalize hh7 : wI (wI (wI (wI (wI (wI (wI h E 14 (Wd n)) E 9 (fr + vlP T rs 4 n)) E 10 (tp n)) E 13 (pI (wI (wI (wI h E 14 (Wd n)) E 9 (fr + vlP T rs 4 n)) E 10 (tp n)) E 9 + vlP T rs 5 n)) E 11 (pI (wI (wI (wI (wI h E 14 (Wd n)) E 9 (fr + vlP T rs 4 n)) E 10 (tp n)) E 13 (pI (wI (wI (wI h E 14 (Wd n)) E 9 (fr + vlP T rs 4 n)) E 10 (tp n)) E 9 + vlP T rs 5 n)) E 14 + 2 * vlP T rs 5 n)) E 15 (tp n + vlP T rs 5 n)) E 16 0 = h7
  have hlp : ∀ j, 9 ≤ j → lP h E j := fun j hj => by unfold lP; rw [e1.1]; omega
  have A : AgL h h7 := by
    rw [← hh7]
    exact (((((((AgL.refl h).aI (hlp 14 (by omega)) _).aI (hlp 9 (by omega)) _).aI (hlp 10 (by omega)) _).aI (hlp 13 (by omega)) _).aI (hlp 11 (by omega)) _).aI (hlp 15 (by omega)) _).aI (hlp 16 (by omega)) _
  have hI7 : ∀ b j, b ≠ E → pI h7 b j = pI h b j := fun b j hb => by
    rw [← hh7, pI_wI, if_neg (fun z => hb z.1), pI_wI, if_neg (fun z => hb z.1), pI_wI, if_neg (fun z => hb z.1), pI_wI, if_neg (fun z => hb z.1), pI_wI, if_neg (fun z => hb z.1), pI_wI, if_neg (fun z => hb z.1), pI_wI, if_neg (fun z => hb z.1)]
  have g9 : pI h7 E 9 = Lf n := by
    rw [← hh7]
    simp [pI_wI]
    exact hfr
  have g10 : pI h7 E 10 = tp n := by rw [← hh7]; simp [pI_wI]
  have g11 : pI h7 E 11 = Wd n + 2 * vlP T rs 5 n := by rw [← hh7]; simp [pI_wI]
  have g13 : pI h7 E 13 = Lf n + vlP T rs 5 n := by rw [← hh7]; simp [pI_wI]; omega
  have g14 : pI h7 E 14 = Wd n := by rw [← hh7]; simp [pI_wI]
  have g15 : pI h7 E 15 = tp n + vlP T rs 5 n := by rw [← hh7]; simp [pI_wI]
  have g16 : pI h7 E 16 = 0 := by rw [← hh7]; simp [pI_wI]
  have P7 := H.agl hW A
  have his1 := P7.1.is hW (io_lt hW hn) hm (x := 104) (by unfold nmOK; omega)
  have his2 := P7.1.is hW (io_lt hW hn) hm (x := 114) (by unfold nmOK; omega)
  rw [hE] at his1 his2
  have e7 := (P7.el hW hn hm).1
  rw [hE] at e7
  have hr7 : ∀ j, pI h7 (pg + 17) j = pI h (pg + 17) j := fun j => hI7 _ _ (fun z => by have := H.2.2.1; rw [z, e1.1] at this; omega)
  have htx7 : ∀ p k, p < tN T → nmQ T p = 1 → pI h7 (plA h φ T p) k = pI h (plA h φ T p) k := fun p k hp hmp => hI7 _ _ (fun z => by have := (H.tx hW hp hmp).2.2.1; rw [z, e1.1] at this; omega)
  refine ⟨h7, ?_, ⟨P7, ⟨⟨?_, ?_, ?_⟩, ?_, ?_, ?_, ?_⟩, ⟨?_, fun j hj => ?_⟩, fun y y1 y2 => by omega, fun p k p1 p2 => by omega, fun p k p1 p2 p3 p4 => ?_⟩, ⟨A, fun y j hy hmy ho => ?_, fun p k hp hmp _ => htx7 p k hp hmp⟩, hr7 3⟩
  · rw [gd_c e7.1, his1, obind_some]
    by_cases z1 : nmQ T n = 104
    · rw [if_pos z1, decide_eq_true (by exact z1)]
      show (if zI 1 = zI 0 then _ else _) = _
      rw [if_eqn (by omega) (by omega) (by omega) (by omega) (by omega), gd_c e7.1, gd_c e7.1, bnd_eq]
    · rw [if_neg z1, decide_eq_false (by exact z1)]
      show (if zI 0 = zI 0 then _ else _) = _
      rw [if_eqp rfl, gd_c e7.1, his2, obind_some]
      by_cases z2 : nmQ T n = 114
      · rw [if_pos z2, decide_eq_true (by exact z2)]
        show (if zI 1 = zI 0 then _ else _) = _
        rw [if_eqn (by omega) (by omega) (by omega) (by omega) (by omega)]
      · rw [if_neg z2, decide_eq_false (by exact z2)]
        show (if zI 0 = zI 0 then _ else _) = _
        rw [if_eqp rfl]
  · rw [hE]; exact g9
  · rw [hE]; exact g10
  · rw [hE]; exact g11
  · rw [hE]; exact g13
  · rw [hE]; exact g14
  · rw [hE, g15, hs_0]
    cases rwP T n <;> (show _ = tp n + vlP T rs 5 n + 0; omega)
  · rw [hE, g16, hs_0]
    cases rwP T n <;> rfl
  · rw [hr7, hr2, hs_0]; rfl
  · rw [hs_0] at hj
    exact absurd hj (by show ¬ j < ([] : List IT).length; simp)
  · rw [plA_agl H hW A (by omega) p3, htx7 p k (by omega) p3]
    exact htx p k (by omega) p2 p3 p4
  · exact hI7 _ _ (fun z => by
      rw [← hE] at z
      exact H.ne hW hy hn (by have := behindA_gt T n; omega) z)
end PK
