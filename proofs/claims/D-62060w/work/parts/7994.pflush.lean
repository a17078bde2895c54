/-! the page: a run becomes lines -/
set_option maxRecDepth 100000
def PRl (h0 : HP) (bx r : Nat) (L : List RK) (ki pa : Nat → Nat) : LST → HP → Prop
  | (i, f, _, _, t, l, cx, cy), h => AgI h0 h (fP h0 bx r) ∧ ((l = 0 → pI h bx 15 = pI h0 bx 15 ∧ pI h bx 16 = pI h0 bx 16) ∧ (l ≠ 0 → pI h bx 15 = pI h0 bx 15 + pI h0 bx 16 + t ∧ pI h bx 16 = 0) ∧ pI h r 3 = pI h0 r 3 + l) ∧ (∀ k, f ≤ k → k < i → rkk L k ≠ 0) ∧ (∀ j, j < f → rkk L j = 2 → pI h (pa j) (ki j) = pI h0 bx 13 + cx j + 65536 * (pI h0 bx 15 + pI h0 bx 16 + cy j)) ∧ (∀ j, f ≤ j → j < i → rkk L j = 2 → pI h (pa j) (ki j) = cx j) ∧ (∀ j, j < i → rkk L j = 1 → pI h (pa j) (ki j) = -1) ∧ ∀ b k, pK h0 b = 41 → (∀ j, j < i → rkk L j ≠ 0 → ¬ (b = pa j ∧ k = ki j)) → pI h b k = pI h0 b k
/-- a line with nothing has no letter -/
def LU (L : List RK) : LST → Prop
  | (i, f, u, _, _, _, _, _) => u < 0 → ∀ k, f ≤ k → k < i → rkk L k ≠ 2
theorem LU.step {L : List RK} {W : Int} (h : OKL L) {S : LST} (hB : LB L S) (hN : LU L S) (hi : S.1 < L.length) : LU L (lstep W L S) := by
  obtain ⟨i, f, u, g, t, l, cx, cy⟩ := S
  obtain ⟨b1, b2, b3, b4, b5, b6, b7, b8, b9, b10, b11, b12, b13, b14, b15, b16⟩ := hB
  simp only [] at hi
  have hat := h.at hi
  unfold lstep
  simp only []
  split
  · exact fun _ k y1 y2 => by omega
  · split
    · next k0 k1 =>
      intro z k y1 y2
      by_cases w : k = i
      · rw [w]; omega
      · exact hN z k y1 (by omega)
    · next k0 k1 =>
      have k2 : rkk L i = 2 := by omega
      have hw1 := wEnd_gt hi k2
      have hw2 := wEnd_le (L := L) (i := i) (by omega)
      have hs := sumS_b (i := i) h (wEnd L i - i) (by omega)
      split
      · intro z; omega
      · intro z
        have hu0 : 0 ≤ (if u < 0 then 0 else u + g) := by
          split
          · omega
          · next z =>
            have : ¬ g < 0 := fun y => by rcases b13 z y with w | w; omega; exact w k2
            omega
        omega
theorem LU.run {L : List RK} {W : Int} (h : OKL L) : ∀ (n : Nat) (S : LST), LB L S → LU L S → LU L (lrun W L n S)
  | 0, S, hB, hN => hN
  | n + 1, S, hB, hN => by
    unfold lrun
    split
    · next q => exact LU.run h n _ (hB.step (W := W) h q).1 (hN.step h hB q)
    · exact hN
section PR
variable {h h' h0 h1 : HP} {r bx : Nat} {L : List RK} {tx ki pa : Nat → Nat} {i f j : Nat} {u g t l m v W : Int} {cx cy : Nat → Int}
theorem PRl.line (R0 : RnP h0 r L tx ki pa) (hO : OKL L) (hb : pK h0 bx = 2) (hi : i ≤ L.length) (hf : f ≤ i) (hl : 0 ≤ l) (ht : l = 0 → t = 0) (H : PRl h0 bx r L ki pa (i, f, u, g, t, l, cx, cy) h) (hm : 0 ≤ m ∧ m ≤ 9) (u' g' : Int) : ∃ h', f_X0_line h bx r (f : Int) (i : Int) m = some h' ∧ PRl h0 bx r L ki pa (i, i, u', g', t + hgh L f m (i - f), l + 1, cx, lnY L f i m t cy) h' := by
  obtain ⟨A, ⟨l1, l2, l3⟩, p2, p3, p4, p5, p6⟩ := H
  have R := R0.agi A hb
  have hb' : pK h bx = 2 := by rw [A.1]; exact hb
  obtain ⟨h', e1, e2, e3, e4, e5, e6, e7⟩ := line_p R hO hb' hf hi p2 hm
  have hE : pI h bx 15 + pI h bx 16 = pI h0 bx 15 + pI h0 bx 16 + t := by
    by_cases z : l = 0
    · rw [(l1 z).1, (l1 z).2, ht z]; omega
    · rw [(l2 z).1, (l2 z).2]; omega
  have hX : pI h bx 13 = pI h0 bx 13 := A.2.2.2.2.2.2.2.2.2 _ _ (fun z => by
    rcases z with z | z | z
    · omega
    · omega
    · omega)
  have A' : AgI h h' (fP h0 bx r) := e2.mono (fun b j z => by
    rcases z with z | z | z
    · exact Or.inl (by rw [← A.1]; exact z)
    · exact Or.inr (Or.inl z)
    · exact Or.inr (Or.inr z))
  refine ⟨h', e1, A.trans A', ⟨fun z => by omega, fun _ => ⟨by rw [e3, hE]; omega, e4⟩, by rw [e5, l3]; omega⟩, fun k k1 k2 => by omega, fun j j1 j2 => ?_, fun j j1 j2 => by omega, fun j j1 j2 => ?_, fun b k hbk hq => ?_⟩
  · unfold lnY
    by_cases z : f ≤ j ∧ j < i
    · rw [if_pos z, e6 j z.1 z.2 j2, hX, hE, p4 j z.1 z.2 j2]; omega
    · rw [if_neg z, e7 _ _ (R.pk (j := j) (by omega) (by omega)) (fun k k1 k2 k3 k4 => by
        have := R0.2.2 j k (by omega) (by omega) (by omega) (by omega) k4.1 k4.2
        omega)]
      exact p3 j (by omega) j2
  · rw [e7 _ _ (R.pk (j := j) (by omega) (by omega)) (fun k k1 k2 k3 k4 => by
      have := R0.2.2 j k (by omega) (by omega) (by omega) (by omega) k4.1 k4.2
      rw [this] at j2; omega)]
    exact p5 j (by omega) j2
  · rw [e7 b k (by rw [A.1]; exact hbk) (fun k' k1 k2 k3 => hq k' (by omega) (by omega))]
    exact p6 b k hbk hq
/-- how wide a word is -/
theorem flush114 (R : RnP h r L tx ki pa) (hO : OKL L) (hi : i < L.length) (k2 : rkk L i = 2) : f_X0_flush_114 h bx r (f : Int) u g (i : Int) 0 (i : Int) = f_X0_flush_159 h bx r (f : Int) u g (i : Int) (sumS L i (wEnd L i - i)) ((wEnd L i : Nat) : Int) := by
  have h183 := hO.1
  have hw1 := wEnd_gt hi k2
  have hw2 := wEnd_le (L := L) (i := i) (by omega)
  obtain ⟨r1, r2, r3, r4, r5, r6, r7, r8⟩ := R.1
  unfold f_X0_flush_114
  refine loopU (fun k => (sumS L i (k - i), ((k : Nat) : Int))) i (wEnd L i) (by simp [sumS]) (by omega) (fun k y1 y2 => ?_) ?_
  · have hin := wEnd_in y1 y2
    simp only [f_X0_flush_114s]
    rw [gd_c r1, r8, if_ltp (by omega) (by omega) (by omega), gd_c r1, r2, obind_some, gd_c r3, gd_zin (by omega) (by omega) (by omega), zix_nat (by omega), ((R.2.1 k hin.1).2 (by omega)).1, nl_some, gd_c r1, rblank_p R hO hin.1 (by omega), obind_some, if_neg (show ¬ rkk L k = 1 by omega), if_eqp rfl, gd_c r1, rsize_p R hO hin.1, obind_some, bnd_eq, sumS_step L y1]
    rfl
  · simp only [f_X0_flush_114s]
    rw [gd_c r1, r8]
    by_cases z : wEnd L i < L.length
    · have hk := wEnd_at (by omega) z
      have hat := hO.at z
      rw [if_ltp (by omega) (by omega) (by omega), gd_c r1, r2, obind_some, gd_c r3, gd_zin (by omega) (by omega) (by omega), zix_nat (by omega)]
      by_cases k0 : rkk L (wEnd L i) = 0
      · rw [((R.2.1 _ z).1 k0).1, nl_none]
      · rw [((R.2.1 _ z).2 k0).1, nl_some, gd_c r1, rblank_p R hO z k0, obind_some, if_pos (show rkk L (wEnd L i) = 1 by omega), if_eqn (by omega) (by omega) (by omega) (by omega) (by omega)]
    · rw [if_ltn (by omega) (by omega) (by omega)]
/-- the letters of a word -/
theorem flush219 (R0 : RnP h0 r L tx ki pa) (hO : OKL L) (hb : pK h0 bx = 2) (hj : j ≤ L.length) (hf : f ≤ i) (hk : ∀ k, i ≤ k → k < j → rkk L k = 2) (u0 : Int) (x2 : Int) : ∀ (d k : Nat) (h : HP), k + d = j → i ≤ k → PRl h0 bx r L ki pa (k, f, u, g, t, l, wdX L i k u0 cx, cy) h → ∃ h', f_X0_flush_219 h bx r x2 (u0 + sumS L i (k - i)) (k : Int) (j : Int) = some (.inl (h', x2, u0 + sumS L i (j - i), -1, (j : Int))) ∧ PRl h0 bx r L ki pa (j, f, u, g, t, l, wdX L i j u0 cx, cy) h' := by
  have h183 := hO.1
  intro d
  induction d with
  | zero =>
    intro k h hd hik H
    have e : k = j := by omega
    rw [e] at H ⊢
    refine ⟨h, ?_, H⟩
    unfold f_X0_flush_219
    refine iter_mr ?_
    simp only [f_X0_flush_219s]
    rw [if_ltn (by omega) (by omega) (by omega)]
    rfl
  | succ d ih =>
    intro k h hd hik H
    obtain ⟨A, ⟨l1, l2, l3⟩, p2, p3, p4, p5, p6⟩ := H
    have R := R0.agi A hb
    have k2 := hk k hik (by omega)
    have hpk := R0.pk (j := k) (by omega) (by omega)
    have Aw : AgI h0 (wI h (pa k) (ki k) (u0 + sumS L i (k - i))) (fP h0 bx r) := A.wi (Or.inl hpk) _
    have Rw := R0.agi Aw hb
    have hst : f_X0_flush_219s h bx r x2 (u0 + sumS L i (k - i)) (k : Int) (j : Int) = some (.inl (wI h (pa k) (ki k) (u0 + sumS L i (k - i)), u0 + sumS L i (k + 1 - i), ((k + 1 : Nat) : Int))) := by
      have hr := R.1.1
      have hrw := Rw.1.1
      unfold f_X0_flush_219s
      rw [if_ltp (by omega) (by omega) (by omega), gd_c hr, rput_p R hO (by omega) (by omega), obind_some, gd_c hrw, rsize_p Rw hO (by omega), obind_some, bnd_eq, sumS_step L hik, Int.add_assoc]
      rfl
    have hne : ∀ j', j' < k → rkk L j' ≠ 0 → ¬ (pa j' = pa k ∧ ki j' = ki k) := fun j' y1 y2 y3 => by
      have := R0.2.2 j' k (by omega) (by omega) y2 (by omega) y3.1 y3.2
      omega
    have h41 : pa k ≠ bx ∧ pa k ≠ r := ⟨kne h0 (by rw [hpk, hb]; omega), kne h0 (by rw [hpk, R0.1.1]; omega)⟩
    have hwd : ∀ j', j' < k → wdX L i (k + 1) u0 cx j' = wdX L i k u0 cx j' := fun j' y => by
      unfold wdX
      by_cases z : i ≤ j'
      · rw [if_pos ⟨z, by omega⟩, if_pos ⟨z, y⟩]
      · rw [if_neg (fun q => z q.1), if_neg (fun q => z q.1)]
    obtain ⟨h', e1, e2⟩ := ih (k + 1) (wI h (pa k) (ki k) (u0 + sumS L i (k - i))) (by omega) (by omega) (by
      refine ⟨Aw, ⟨fun z => ?_, fun z => ?_, ?_⟩, fun k' y1 y2 => ?_, fun j' y1 y2 => ?_, fun j' y1 y2 y3 => ?_, fun j' y1 y2 => ?_, fun b k' hbk hq => ?_⟩
      · rw [pI_wI, if_neg (fun q => h41.1 q.1.symm), pI_wI, if_neg (fun q => h41.1 q.1.symm)]; exact l1 z
      · rw [pI_wI, if_neg (fun q => h41.1 q.1.symm), pI_wI, if_neg (fun q => h41.1 q.1.symm)]; exact l2 z
      · rw [pI_wI, if_neg (fun q => h41.2 q.1.symm)]; exact l3
      · by_cases z : k' = k
        · rw [z]; omega
        · exact p2 k' y1 (by omega)
      · rw [pI_wI, if_neg (hne j' (by omega) (by omega)), hwd j' (by omega)]; exact p3 j' y1 y2
      · by_cases z : j' = k
        · rw [z, pI_wI, if_pos ⟨rfl, rfl⟩]
          unfold wdX
          rw [if_pos ⟨hik, by omega⟩]
        · rw [pI_wI, if_neg (hne j' (by omega) (by omega)), hwd j' (by omega)]; exact p4 j' y1 (by omega) y3
      · have : j' ≠ k := fun z => by rw [z] at y2; omega
        rw [pI_wI, if_neg (hne j' (by omega) (by omega))]; exact p5 j' (by omega) y2
      · rw [pI_wI, if_neg (fun q => hq k (by omega) (by omega) q)]
        exact p6 b k' hbk (fun j' y1 y2 => hq j' (by omega) y2))
    refine ⟨h', ?_, e2⟩
    unfold f_X0_flush_219
    rw [iter_in hst]
    exact e1
/-- one step -/
theorem PRl.step (R0 : RnP h0 r L tx ki pa) (hO : OKL L) (hb : pK h0 bx = 2) (hW : pI h0 bx 14 = W) (hW1 : -1 ≤ W ∧ W ≤ 1000) (hB : LB L (i, f, u, g, t, l, cx, cy)) (hN : LN L (i, f, u, g, t, l, cx, cy)) (H : PRl h0 bx r L ki pa (i, f, u, g, t, l, cx, cy) h) (hi : i < L.length) : ∃ h', f_X0_flush_10s h bx r (f : Int) u g (i : Int) = some (.inl (h', ((lstep W L (i, f, u, g, t, l, cx, cy)).2.1 : Int), (lstep W L (i, f, u, g, t, l, cx, cy)).2.2.1, (lstep W L (i, f, u, g, t, l, cx, cy)).2.2.2.1, ((lstep W L (i, f, u, g, t, l, cx, cy)).1 : Int))) ∧ PRl h0 bx r L ki pa (lstep W L (i, f, u, g, t, l, cx, cy)) h' := by
  have h183 := hO.1
  have hH := H
  obtain ⟨b1, b2, b3, b4, b5, b6, b7, b8, b9, b10, b11, b12, b13, b14, b15, b16⟩ := hB
  obtain ⟨A, ⟨l1, l2, l3⟩, p2, p3, p4, p5, p6⟩ := H
  have R := R0.agi A hb
  obtain ⟨r1, r2, r3, r4, r5, r6, r7, r8⟩ := R.1
  have hat := hO.at hi
  have zl : zix (i : Int) = i := zix_nat (by omega)
  unfold f_X0_flush_10s
  rw [gd_c r1, r8, if_ltp (by omega) (by omega) (by omega), gd_c r1, r2, obind_some, gd_c r3, gd_zin (by omega) (by omega) (by omega), zl]
  by_cases k0 : rkk L i = 0
  · rw [((R.2.1 i hi).1 k0).1, nl_none]
    have hm : 0 ≤ (if u < 0 then rsz L i else 0) ∧ (if u < 0 then rsz L i else 0) ≤ 9 := by split <;> omega
    obtain ⟨h', e1, e2⟩ := PRl.line R0 hO hb b1 b2 b10 hN.1 hH hm (-1) (-1)
    have e0 : (if zI u < zI 0 then gd (pK h r = 5) (Option.bind (f_X4_size h r (i : Int)) (fun y3 => f_X0_flush_48 h bx r (i : Int) y3 (i : Int) (f : Int) r bx)) else f_X0_flush_48 h bx r (i : Int) 0 (i : Int) (f : Int) r bx) = f_X0_flush_48 h bx r (i : Int) (if u < 0 then rsz L i else 0) (i : Int) (f : Int) r bx := by
      by_cases z : u < 0
      · rw [if_ltp z (by omega) (by omega), gd_c r1, rsize_p R hO hi, obind_some, if_pos z]
      · rw [if_ltn (by omega) (by omega) (by omega), if_neg z]
    rw [e0]
    unfold f_X0_flush_48
    rw [e1, obind_some, bnd_eq]
    unfold lstep
    simp only []
    rw [if_pos k0]
    refine ⟨h', rfl, ?_⟩
    obtain ⟨q1, q2, q3, q4, q5, q6, q7⟩ := e2
    refine ⟨q1, q2, fun k y1 y2 => by omega, fun j' y1 y2 => q4 j' (Nat.lt_of_le_of_ne (by omega) (fun z => by rw [z] at y2; omega)) y2, fun j' y1 y2 => by omega, fun j' y1 y2 => q6 j' (Nat.lt_of_le_of_ne (by omega) (fun z => by rw [z] at y2; omega)) y2, fun b k hbk hq => q7 b k hbk (fun j' y1 y2 => hq j' (by omega) y2)⟩
  · rw [((R.2.1 i hi).2 k0).1, nl_some, gd_c r1, rblank_p R hO hi k0, obind_some]
    by_cases k1 : rkk L i = 1
    · have hpk := R0.pk hi k0
      have e0 : (if zI g < zI 0 then gd (pK h r = 5) (Option.bind (f_X4_size h r (i : Int)) (fun y5 => f_X0_flush_92 h bx r (f : Int) u (i : Int) y5)) else f_X0_flush_92 h bx r (f : Int) u (i : Int) g) = f_X0_flush_92 h bx r (f : Int) u (i : Int) (if g < 0 then rsz L i else g) := by
        by_cases z : g < 0
        · rw [if_ltp z (by omega) (by omega), gd_c r1, rsize_p R hO hi, obind_some, if_pos z]
        · rw [if_ltn (by omega) (by omega) (by omega), if_neg z]
      rw [if_pos k1, if_eqn (by omega) (by omega) (by omega) (by omega) (by omega), e0]
      unfold f_X0_flush_92
      rw [gd_c r1, rput_p R hO hi k0, obind_some]
      unfold lstep
      simp only []
      rw [if_neg k0, if_pos k1]
      refine ⟨_, rfl, ?_⟩
      have hne : ∀ j', j' < i → rkk L j' ≠ 0 → ¬ (pa j' = pa i ∧ ki j' = ki i) := fun j' y1 y2 y3 => by
        have := R0.2.2 j' i (by omega) (by omega) y2 k0 y3.1 y3.2
        omega
      have h41 : pa i ≠ bx ∧ pa i ≠ r := ⟨kne h0 (by rw [hpk, hb]; omega), kne h0 (by rw [hpk, R0.1.1]; omega)⟩
      refine ⟨A.wi (Or.inl hpk) _, ⟨fun z => ?_, fun z => ?_, ?_⟩, fun k' y1 y2 => ?_, fun j' y1 y2 => ?_, fun j' y1 y2 y3 => ?_, fun j' y1 y2 => ?_, fun b k' hbk hq => ?_⟩
      · rw [pI_wI, if_neg (fun q => h41.1 q.1.symm), pI_wI, if_neg (fun q => h41.1 q.1.symm)]; exact l1 z
      · rw [pI_wI, if_neg (fun q => h41.1 q.1.symm), pI_wI, if_neg (fun q => h41.1 q.1.symm)]; exact l2 z
      · rw [pI_wI, if_neg (fun q => h41.2 q.1.symm)]; exact l3
      · by_cases z : k' = i
        · rw [z]; exact k0
        · exact p2 k' y1 (by omega)
      · rw [pI_wI, if_neg (hne j' (by omega) (by omega))]; exact p3 j' y1 y2
      · have : j' ≠ i := fun z => by rw [z] at y3; omega
        rw [pI_wI, if_neg (hne j' (by omega) (by omega))]; exact p4 j' y1 (by omega) y3
      · by_cases z : j' = i
        · rw [z, pI_wI, if_pos ⟨rfl, rfl⟩]
        · rw [pI_wI, if_neg (hne j' (by omega) (by omega))]; exact p5 j' (by omega) y2
      · rw [pI_wI, if_neg (fun q => hq i (by omega) k0 q)]
        exact p6 b k' hbk (fun j' y1 y2 => hq j' (by omega) y2)
    · have k2 : rkk L i = 2 := by omega
      have hw1 := wEnd_gt hi k2
      have hw2 := wEnd_le (L := L) (i := i) (by omega)
      have hs := sumS_b (i := i) hO (wEnd L i - i) (by omega)
      have hin : ∀ k, i ≤ k → k < wEnd L i → rkk L k = 2 := fun k k1 k3 => (wEnd_in k1 k3).2
      have hg : ¬ u < 0 → ¬ g < 0 := fun z y => by rcases b13 z y with w | w; omega; exact w k2
      have hW' : pI h bx 14 = W := by
        rw [A.2.2.2.2.2.2.2.2.2 _ _ (fun z => by rcases z with z | z | z <;> omega)]; exact hW
      have hb' : pK h bx = 2 := by rw [A.1]; exact hb
      have hwd0 : ∀ v, wdX L i i v cx = cx := fun v => by
        funext k
        unfold wdX
        rw [if_neg (by omega)]
      have hz : ∀ v : Int, v + sumS L i (i - i) = v := fun v => by rw [Nat.sub_self]; unfold sumS; omega
      rw [if_neg k1, if_eqp rfl, flush114 R hO hi k2]
      unfold f_X0_flush_159 f_X0_flush_181 f_X0_flush_182 f_X0_flush_201 f_X0_flush_210 f_X0_flush_218 lstep
      simp only []
      rw [if_neg k0, if_neg k1]
      by_cases hc : ¬ u < 0 ∧ W < u + g + sumS L i (wEnd L i - i)
      · have := hg hc.1
        rw [if_pos hc, if_ltn (by omega) (by omega) (by omega), gd_c hb', hW', if_ltp hc.2 (by omega) (by omega), if_eqn (by omega) (by omega) (by omega) (by omega) (by omega)]
        obtain ⟨h', e1, e2⟩ := PRl.line R0 hO hb b1 b2 b10 hN.1 hH (m := 0) (by omega) u g
        rw [e1, obind_some, if_ltn (by omega) (by omega) (by omega), if_eqn (by omega) (by omega) (by omega) (by omega) (by omega)]
        obtain ⟨h'', c1, c2⟩ := flush219 (i := i) (j := wEnd L i) (f := i) (u := u) (g := g) (cx := cx) R0 hO hb hw2 (Nat.le_refl _) hin 0 (i : Int) (wEnd L i - i) i h' (by omega) (Nat.le_refl _) (by rw [hwd0]; exact e2)
        rw [hz] at c1
        refine ⟨h'', ?_, c2⟩
        rw [c1, Int.zero_add]
      · rw [if_neg hc]
        obtain ⟨u0, hu⟩ : ∃ u0 : Int, u0 = if u < 0 then 0 else u + g := ⟨_, rfl⟩
        obtain ⟨h'', c1, c2⟩ := flush219 (i := i) (j := wEnd L i) (f := f) (u := u) (g := g) (cx := cx) R0 hO hb hw2 b2 hin u0 (f : Int) (wEnd L i - i) i h (by omega) (Nat.le_refl _) (by rw [hwd0]; exact hH)
        rw [hz] at c1
        rw [← hu]
        refine ⟨h'', ?_, c2⟩
        rw [← c1]
        by_cases z : u < 0
        · rw [if_pos z] at hu
          rw [if_ltp z (by omega) (by omega), if_pos trivial, if_ltp z (by omega) (by omega), hu]
        · rw [if_neg z] at hu
          have := hg z
          rw [if_ltn (by omega) (by omega) (by omega), gd_c hb', hW', if_ltn (by omega) (by omega) (by omega), if_pos trivial, if_ltn (by omega) (by omega) (by omega), if_pos trivial, hu]
theorem flush_loop (R0 : RnP h0 r L tx ki pa) (hO : OKL L) (hb : pK h0 bx = 2) (hW : pI h0 bx 14 = W) (hW1 : -1 ≤ W ∧ W ≤ 1000) : ∀ (d : Nat) (S : LST) (h : HP), L.length ≤ S.1 + d → LB L S → LN L S → PRl h0 bx r L ki pa S h → ∃ h', f_X0_flush_10 h bx r (S.2.1 : Int) S.2.2.1 S.2.2.2.1 (S.1 : Int) = f_X0_flush_10 h' bx r ((lrun W L d S).2.1 : Int) (lrun W L d S).2.2.1 (lrun W L d S).2.2.2.1 (L.length : Int) ∧ PRl h0 bx r L ki pa (lrun W L d S) h' := by
  intro d
  induction d with
  | zero =>
    intro S h hd hB hN H
    obtain ⟨i, f, u, g, t, l, cx, cy⟩ := S
    have hi : i = L.length := by have := hB.1; simp only [] at hd; omega
    exact ⟨h, by unfold lrun; simp only [hi], H⟩
  | succ d ih =>
    intro S h hd hB hN H
    unfold lrun
    by_cases hi : S.1 < L.length
    · rw [if_pos hi]
      have hst := hB.step (W := W) hO hi
      have hN' := hN.step (W := W) hO hB hi
      obtain ⟨i, f, u, g, t, l, cx, cy⟩ := S
      simp only [] at hi hd hst
      obtain ⟨h1, a1, a2⟩ := PRl.step R0 hO hb hW hW1 hB hN H hi
      obtain ⟨h', c1, c2⟩ := ih (lstep W L (i, f, u, g, t, l, cx, cy)) h1 (by omega) hst.1 hN' a2
      refine ⟨h', ?_, c2⟩
      rw [← c1]
      unfold f_X0_flush_10
      exact iter_in a1
    · rw [if_neg hi]
      obtain ⟨i, f, u, g, t, l, cx, cy⟩ := S
      have hi' : i = L.length := by have := hB.1; simp only [] at hi; omega
      exact ⟨h, by simp only [hi'], H⟩
/-- what the flush may change -/
def fP2 (h : HP) (bx r : Nat) (b j : Nat) : Prop := pK h b = 41 ∨ (b = bx ∧ (j = 15 ∨ j = 16)) ∨ (b = r ∧ (j = 2 ∨ j = 3))
theorem flush_p (R0 : RnP h0 r L tx ki pa) (hO : OKL L) (hb : pK h0 bx = 2) (hW : pI h0 bx 14 = W) (hW1 : -1 ≤ W ∧ W ≤ 1000) : ∃ h', f_X0_flush h0 bx r = some h' ∧ AgI h0 h' (fP2 h0 bx r) ∧ (hasL L = false → pI h' bx 15 = pI h0 bx 15 ∧ pI h' bx 16 = pI h0 bx 16) ∧ (hasL L = true → pI h' bx 15 = pI h0 bx 15 + pI h0 bx 16 + (FL W L).1 ∧ pI h' bx 16 = 0) ∧ pI h' r 3 = pI h0 r 3 + (FL W L).2.1 ∧ pI h' r 2 = 0 ∧ (∀ j, j < L.length → rkk L j = 2 → pI h' (pa j) (ki j) = pI h0 bx 13 + (FL W L).2.2.1 j + 65536 * (pI h0 bx 15 + pI h0 bx 16 + (FL W L).2.2.2 j)) ∧ (∀ j, j < L.length → rkk L j = 1 → pI h' (pa j) (ki j) = -1) ∧ ∀ b k, pK h0 b = 41 → (∀ j, j < L.length → rkk L j ≠ 0 → ¬ (b = pa j ∧ k = ki j)) → pI h' b k = pI h0 b k := by
  have h183 := hO.1
  have H0 : PRl h0 bx r L ki pa LST0 h0 := by
    unfold LST0
    exact ⟨AgI.refl _ _, ⟨fun _ => ⟨rfl, rfl⟩, fun z => (z rfl).elim, by omega⟩, fun k y1 y2 => by omega, fun j y1 => by omega, fun j y1 y2 => by omega, fun j y1 => by omega, fun b k _ _ => rfl⟩
  have hN0 : LN L LST0 := by
    unfold LN LST0
    exact ⟨fun _ => rfl, fun _ k hk => by omega, fun _ => ⟨rfl, by omega⟩⟩
  obtain ⟨h1, c1, c2⟩ := flush_loop R0 hO hb hW hW1 L.length LST0 h0 (by omega) (LB0 L) hN0 H0
  obtain ⟨hB, hi⟩ := LB.run (W := W) hO L.length LST0 (LB0 L) (by omega)
  have hN := LN.run (W := W) hO L.length LST0 (LB0 L) hN0
  have hfl := FL_l (W := W) hO
  have hU := LU.run (W := W) hO L.length LST0 (LB0 L) (by unfold LU LST0; exact fun _ k y1 y2 => by omega)
  have c1' : f_X0_flush h0 bx r = _ := c1
  rw [c1']
  have hFL : FL W L = lfin L (lrun W L L.length LST0) := rfl
  rw [hFL] at hfl ⊢
  generalize lrun W L L.length LST0 = S at *
  obtain ⟨i, f, u, g, t, l, cx, cy⟩ := S
  have hB' := hB
  obtain ⟨b1, b2, b3, b4, b5, b6, b7, b8, b9, b10, b11, b12, b13, b14, b15, b16⟩ := hB
  simp only [] at hi
  subst hi
  -- the run is empty again
  have fin : ∀ (g' : HP) (t' l' : Int) (cy' : Nat → Int), PRl h0 bx r L ki pa (L.length, L.length, u, g, t', l', cx, cy') g' → (l' = 0 ↔ hasL L = false) → ∃ h', f_X0_flush_269 g' r = some h' ∧ AgI h0 h' (fP2 h0 bx r) ∧ (hasL L = false → pI h' bx 15 = pI h0 bx 15 ∧ pI h' bx 16 = pI h0 bx 16) ∧ (hasL L = true → pI h' bx 15 = pI h0 bx 15 + pI h0 bx 16 + t' ∧ pI h' bx 16 = 0) ∧ pI h' r 3 = pI h0 r 3 + l' ∧ pI h' r 2 = 0 ∧ (∀ j, j < L.length → rkk L j = 2 → pI h' (pa j) (ki j) = pI h0 bx 13 + cx j + 65536 * (pI h0 bx 15 + pI h0 bx 16 + cy' j)) ∧ (∀ j, j < L.length → rkk L j = 1 → pI h' (pa j) (ki j) = -1) ∧ ∀ b k, pK h0 b = 41 → (∀ j, j < L.length → rkk L j ≠ 0 → ¬ (b = pa j ∧ k = ki j)) → pI h' b k = pI h0 b k := fun g' t' l' cy' H hl' => by
    obtain ⟨A, ⟨l1, l2, l3⟩, p2, p3, p4, p5, p6⟩ := H
    have hr : pK g' r = 5 := by rw [A.1]; exact R0.1.1
    have hrb : r ≠ bx := kne h0 (by rw [R0.1.1, hb]; omega)
    have h41 : ∀ b, pK h0 b = 41 → b ≠ r := fun b q => kne h0 (by rw [q, R0.1.1]; omega)
    refine ⟨wI g' r 2 0, ?_, ?_, fun z => ?_, fun z => ?_, ?_, ?_, fun j y1 y2 => ?_, fun j y1 y2 => ?_, fun b k hbk hq => ?_⟩
    · unfold f_X0_flush_269
      rw [gd_c hr, bnd_eq]
    · exact AgI.wi (A.mono (fun b j z => by rcases z with z | z | z; exact Or.inl z; exact Or.inr (Or.inl z); exact Or.inr (Or.inr ⟨z.1, Or.inr z.2⟩))) (Or.inr (Or.inr ⟨rfl, Or.inl rfl⟩)) _
    · rw [pI_wI, if_neg (fun q => hrb q.1.symm), pI_wI, if_neg (fun q => hrb q.1.symm)]; exact l1 (hl'.mpr z)
    · rw [pI_wI, if_neg (fun q => hrb q.1.symm), pI_wI, if_neg (fun q => hrb q.1.symm)]
      exact l2 (fun q => by rw [hl'.mp q] at z; cases z)
    · rw [pI_wI, if_neg (by omega)]; exact l3
    · rw [pI_wI, if_pos ⟨rfl, rfl⟩]
    · rw [pI_wI, if_neg (fun q => h41 _ (R0.pk y1 (by omega)) q.1)]; exact p3 j y1 y2
    · rw [pI_wI, if_neg (fun q => h41 _ (R0.pk y1 (by omega)) q.1)]; exact p5 j y1 y2
    · rw [pI_wI, if_neg (fun q => h41 _ hbk q.1)]; exact p6 b k hbk hq
  have hrk : pK h1 r = 5 := by rw [c2.1.1]; exact R0.1.1
  have hr2 : pI h1 r 2 = (L.length : Int) := (R0.agi c2.1 hb).1.2.2.2.2.2.2.2
  have e2 : f_X0_flush_10 h1 bx r (f : Int) u g (L.length : Int) = f_X0_flush_254 h1 bx r (f : Int) u := by
    unfold f_X0_flush_10
    refine iter_mr ?_
    simp only [f_X0_flush_10s]
    rw [gd_c hrk, hr2, if_ltn (by omega) (by omega) (by omega)]
  simp only []
  rw [e2]
  unfold f_X0_flush_254
  unfold lfin at hfl ⊢
  simp only [] at hfl ⊢
  by_cases z : u < 0
  · rw [if_pos z] at hfl ⊢
    rw [if_ltp z (by omega) (by omega)]
    refine fin h1 t l cy ?_ hfl.1
    obtain ⟨A, q2, p2, p3, p4, p5, p6⟩ := c2
    refine ⟨A, q2, fun k y1 y2 => by omega, fun j y1 y2 => ?_, fun j y1 y2 => by omega, p5, p6⟩
    by_cases y : j < f
    · exact p3 j y y2
    · exact (hU z j (by omega) y1 y2).elim
  · rw [if_neg z] at hfl ⊢
    rw [if_ltn (by omega) (by omega) (by omega), gd_c hrk, hr2]
    obtain ⟨h', e1, e3⟩ := PRl.line R0 hO hb (Nat.le_refl _) b2 b10 hN.1 c2 (m := 0) (by omega) u g
    rw [e1, obind_some]
    exact fin h' _ _ _ e3 hfl.1
end PR
