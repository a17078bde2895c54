/-! the page: boxes, all of them -/
set_option maxRecDepth 100000
section PK
variable {h h' h0 h1 h2 : HP} {pg r : Nat} {φ : Nat → Nat} {T : TS} {rs : List RL} {R : List IT} {n p k q j x N e a : Nat} {Wd Lf tl tp : Nat → Int} {v : Int} {s : HS}
theorem lp_s (b : Nat) (hb : bxP T rs b = true) : lpP T rs Wd tl (b + 1) = lpP T rs Wd tl b + (heP T rs Wd tl b).2.2.2.2 := by
  show lpP T rs Wd tl b + (if bxP T rs b then _ else 0) = _
  rw [hb, if_pos (show true = true from rfl)]
theorem lay_step (hW : WF T) (hok : ∀ r ∈ rs, okR2 r) (hrs : ∀ r ∈ rs, okRV r) (hX : txOK T) (hIS : isP T (tN T) ≤ 183) (Q : LQ T rs v Wd Lf tl tp) (hv : 1 ≤ v ∧ v ≤ 64) (hL : LayS pg φ T rs Wd Lf tl tp N) (hG : GatS pg φ T rs Wd Lf tl tp N) (hS : SidS pg φ T rs Wd Lf tl tp N) : LayS pg φ T rs Wd Lf tl tp (N + 1) := by
  intro h n fr av hn hb hN H hr2 htx hfr hav ha
  have hbl := beh_le hW hn
  have hgt := behindA_gt T n
  have hm := (bx_d hb).1
  obtain ⟨h7, e7, I7, F7, l7⟩ := lay_ini hW hok hrs Q hn hb H hr2 htx hfr hav ha (F_lay N)
  have e0 : (F_lay (N + 1)).1 h (φ (ioP T n)) fr (tp n) av (pg + 17) = f_X0_lay_b (F_lay N) h (φ (ioP T n)) fr (tp n) av (pg + 17) := rfl
  have hlp := lp_s (T := T) (rs := rs) (Wd := Wd) (tl := tl) n hb
  rw [e0, e7]
  by_cases z1 : nmQ T n = 104
  · rw [if_pos z1]
    have hrw : rwP T n = false := by unfold rwP; simp [z1]
    have hbe : behindA T n = n + 1 := by
      have := behind_no hW (i := ioP T n) (io_lt hW hn) (by unfold noKid; unfold nmQ at z1; omega)
      rw [seat_io hW hn] at this
      exact this
    have en := (I7.1.el hW hn hm).1
    have A : AgL h7 (wI h7 (φ (ioP T n)) 15 (pI h7 (φ (ioP T n)) 15 + 1)) := (AgL.refl h7).aI (by unfold lP; rw [en.1]; omega) _
    have hI8 : ∀ b j, ¬ (b = φ (ioP T n) ∧ j = 15) → pI (wI h7 (φ (ioP T n)) 15 (pI h7 (φ (ioP T n)) 15 + 1)) b j = pI h7 b j := fun b j hbj => by rw [pI_wI, if_neg hbj]
    have h15 : pI (wI h7 (φ (ioP T n)) 15 (pI h7 (φ (ioP T n)) 15 + 1)) (φ (ioP T n)) 15 = pI h7 (φ (ioP T n)) 15 + 1 := by rw [pI_wI, if_pos ⟨rfl, rfl⟩]
    generalize wI h7 (φ (ioP T n)) 15 (pI h7 (φ (ioP T n)) 15 + 1) = h8 at A hI8 h15 ⊢
    rw [hs_0] at I7
    obtain ⟨i1, ⟨⟨i2, i3, i4⟩, i5, i6, i7, i8⟩, i9, i10, i11, i12⟩ := I7
    rw [hrw, if_neg (show ¬ (false = true) by simp)] at i7 i8
    have i7 : pI h7 (φ (ioP T n)) 15 = tp n + vlP T rs 5 n + 0 := i7
    have i8 : pI h7 (φ (ioP T n)) 16 = 0 := i8
    have hr8 : ∀ j, pI h8 (pg + 17) j = pI h7 (pg + 17) j := fun j => hI8 _ _ (fun z => by have := i1.2.2.1; rw [z.1, en.1] at this; omega)
    have I8 : PInv h8 pg φ T rs Wd Lf tl tp n (behindA T n) (1, 0, 0, [], 0) := by
      rw [hbe]
      refine ⟨i1.agl hW A, ⟨⟨?_, ?_, ?_⟩, ?_, ?_, ?_, ?_⟩, ⟨?_, fun j hj => absurd hj (by show ¬ j < ([] : List IT).length; simp)⟩, fun y y1 y2 => by omega, fun p k p1 p2 => by omega, fun p k p1 p2 => by omega⟩
      · rw [hI8 _ _ (by omega)]; exact i2
      · rw [hI8 _ _ (by omega)]; exact i3
      · rw [hI8 _ _ (by omega)]; exact i4
      · rw [hI8 _ _ (by omega)]; exact i5
      · rw [hI8 _ _ (by omega)]; exact i6
      · rw [h15, i7, hrw, if_neg (show ¬ (false = true) by simp)]
        show _ = tp n + vlP T rs 5 n + 1
        omega
      · rw [hI8 _ _ (by omega), i8, hrw, if_neg (show ¬ (false = true) by simp)]
      · rw [hr8, i9.1]
    have F8 : PFr h7 h8 φ T n := ⟨A, fun y j hy hmy ho => hI8 _ _ (fun z => i1.ne hW hy hn (by omega) z.1), fun p k hp hmp _ => hI8 _ _ (fun z => by have := (i1.tx hW hp hmp).2.2.1; rw [z.1, en.1] at this; omega)⟩
    obtain ⟨h', f1, f2, f3, f4, f5, f6, f7⟩ := lay_fin hW hn hb (F_lay N) H (F7.tin H hW F8 (Nat.le_refl _) (Nat.le_refl _)) I8 rfl (by
      rw [hrw, if_neg (show ¬ (false = true) by simp), if_neg (show ¬ (false = true) by simp), Q.2.2 n hn]
      unfold tlE
      rw [if_pos z1]
      show _ = 2 * vlP T rs 5 n + (1 + 0)
      omega)
    refine ⟨h', f1, f2, f3, f4, ?_, f6, f7⟩
    have hz : (heP T rs Wd tl n).2.2.2.2 = 0 := by
      unfold heP
      rw [hbe, flP_nil (by rw [hs_0]), hs_0]
    rw [f5, hr8, l7, hbe, hlp, hz]
    omega
  · rw [if_neg z1]
    by_cases z2 : nmQ T n = 114
    · rw [if_pos z2]
      have hrw : rwP T n = true := by unfold rwP; simp [z2]
      obtain ⟨h8, g1, g2, g3, g4⟩ := hS h7 n hn hb hrw (by omega) I7
      have hrn := row_at (Wd := Wd) (tl := tl) hW hok hrs hn z2 hgt hbl
      rw [g1, obind_some]
      obtain ⟨h', f1, f2, f3, f4, f5, f6, f7⟩ := lay_fin hW hn hb (F_lay N) H (F7.tin H hW g3 (Nat.le_refl _) (Nat.le_refl _)) g2 hrn.1 (by
        rw [hrw, if_pos (show true = true from rfl), if_pos (show true = true from rfl), Q.2.2 n hn]
        unfold tlE
        rw [if_neg z1, if_pos z2]
        show _ = 2 * vlP T rs 5 n + ((hsP T rs Wd tl n (behindA T n)).2.2.1 + 0)
        rw [Int.add_zero]
        rfl)
      refine ⟨h', f1, f2, f3, f4, ?_, f6, f7⟩
      have hz : (heP T rs Wd tl n).2.2.2.2 = 0 := by
        unfold heP
        rw [flP_nil hrn.1]; exact hrn.2
      rw [f5, g4, l7, hlp, hz]
      omega
    · rw [if_neg z2]
      have hrw : rwP T n = false := by unfold rwP; simp [z2]
      have hl := kids_24 hW (ioP T n)
      have hkw := kw_all hW (io_lt hW hn)
      rw [seat_io hW hn] at hkw
      unfold f_X0_lay_148
      obtain ⟨h8, g1, g2, g3, g4⟩ := kids_p (f := fun (z : HP × Int) => f_X0_lay_148s (F_lay N) z.1 (φ (ioP T n)) (tp n) (pg + 17) (vlP T rs 5 n) z.2) hW hok hrs hX hIS Q hv hL hG hn hb hrw (Nat.le_refl _) hgt (bx_d hb).2.1 (fun y y1 y2 y3 => by
        rw [ho_s hW hok y1 y2, y3, hb, if_pos (show true = true from rfl)]) hN (fun g i G hi => by
        obtain ⟨l1, l2⟩ := G.wkids hW hn hm
        have ge := (G.el hW hn hm).1
        show f_X0_lay_148s (F_lay N) g (φ (ioP T n)) (tp n) (pg + 17) (vlP T rs 5 n) (i : Int) = _
        unfold f_X0_lay_148s
        rw [gd_c ge.1, ge.2.1, obind_some, l1, obind_some, if_ltp (by omega) (by omega) (by omega), gd_c ge.1, obind_some, (l2 i hi).1, obind_some, gd_c (l2 i hi).2]
        rfl) (kids T (ioP T n)).length 0 (n + 1) h7 (by omega) (by omega) (by rw [List.drop_zero]; exact hkw) I7
      obtain ⟨h9, p1, p2, p3, p4⟩ := pflush hW hok hrs hX hIS Q hv hn hb hrw (Or.inl rfl) g2
      have hgo : iter (fun (z : HP × Int) => f_X0_lay_148s (F_lay N) z.1 (φ (ioP T n)) (tp n) (pg + 17) (vlP T rs 5 n) z.2) (h7, 0) = f_X0_lay_264 (F_lay N) h9 (φ (ioP T n)) (tp n) (vlP T rs 5 n) := by
        rw [show ((0 : Int)) = ((0 : Nat) : Int) from rfl, g1]
        refine (iter_mr (o := f_X0_lay_258 (F_lay N) h8 (φ (ioP T n)) (tp n) (pg + 17) (vlP T rs 5 n)) ?_).trans ?_
        · obtain ⟨l1, l2⟩ := g2.1.wkids hW hn hm
          have ge := (g2.1.el hW hn hm).1
          simp only []
          unfold f_X0_lay_148s
          rw [gd_c ge.1, ge.2.1, obind_some, l1, obind_some, if_ltn (by omega) (by omega) (by omega)]
        · unfold f_X0_lay_258
          rw [p1, obind_some]
      rw [hgo]
      obtain ⟨h', f1, f2, f3, f4, f5, f6, f7⟩ := lay_fin hW hn hb (F_lay N) H ((F7.tin H hW g3 (Nat.le_refl _) (Nat.le_refl _)).tin H hW p3 (Nat.le_refl _) (Nat.le_refl _)) p2 rfl (by
        rw [hrw, if_neg (show ¬ (false = true) by simp), if_neg (show ¬ (false = true) by simp), Q.2.2 n hn]
        unfold tlE
        rw [if_neg z1, if_neg z2]
        rfl)
      refine ⟨h', f1, f2, f3, f4, ?_, f6, f7⟩
      have hz : (heP T rs Wd tl n).2.2.2.2 = (hsP T rs Wd tl n (behindA T n)).2.2.2.2 + (flF T rs Wd tl n (behindA T n)).2.1 := rfl
      have h00 : (hsP T rs Wd tl n (n + 1)).2.2.2.2 = 0 := by rw [hs_0]
      rw [f5, p4, g4, l7, hlp, hz, h00]
      omega
theorem lay_all (hW : WF T) (hok : ∀ r ∈ rs, okR2 r) (hrs : ∀ r ∈ rs, okRV r) (hX : txOK T) (hIS : isP T (tN T) ≤ 183) (Q : LQ T rs v Wd Lf tl tp) (hv : 1 ≤ v ∧ v ≤ 64) : ∀ N, LayS pg φ T rs Wd Lf tl tp N ∧ GatS pg φ T rs Wd Lf tl tp N ∧ SidS pg φ T rs Wd Lf tl tp N := by
  intro N
  induction N with
  | zero =>
    refine ⟨fun h n fr av hn hb hN => ?_, fun h n x hn hb hrw h1x h2x hho hd hbx hm h107 hN => ?_, fun h n hn hb hrw hN => ?_⟩
    · have := behindA_gt T n; omega
    · have := behindA_gt T x; omega
    · have := behindA_gt T n; omega
  | succ N ih =>
    obtain ⟨i1, i2, i3⟩ := ih
    exact ⟨lay_step hW hok hrs hX hIS Q hv i1 i2 i3, gat_step hW hok hrs hX hIS Q hv i1 i2, sid_step hW hok hrs hX hIS Q hv i1⟩
end PK
