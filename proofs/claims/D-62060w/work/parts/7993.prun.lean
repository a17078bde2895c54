/-! the page: a run and a line of it -/
set_option maxRecDepth 100000
/-- what a line may change -/
def fP (h : HP) (bx r : Nat) (b j : Nat) : Prop := pK h b = 41 ∨ (b = bx ∧ (j = 15 ∨ j = 16)) ∨ (b = r ∧ j = 3)
/-- a letter's cells: its text, its number there, the array of places -/
def RnJ (h : HP) (L : List RK) (t k p : Nat) (j : Nat) : Prop := pK h t = 3 ∧ (∃ b, pP h t 2 = some b ∧ isS (pK h b) ∧ k < (pB h b).length ∧ (pB h b).length ≤ 1000 ∧ 0 ≤ (pB h b).getD k 0 ∧ (pB h b).getD k 0 < 128 ∧ ((pB h b).getD k 0 = 32 ↔ rkk L j = 1)) ∧ (pP h t 3 = some p ∧ pK h p = 41 ∧ k < pN h p ∧ pN h p ≤ 1000) ∧ ∃ e v, pP h t 0 = some e ∧ pK h e = 2 ∧ pP h e 7 = some v ∧ pK h v = 40 ∧ pN h v = 7 ∧ pI h v 2 = rsz L j
/-- the run in the page's cells -/
def RnP (h : HP) (r : Nat) (L : List RK) (tx ki pa : Nat → Nat) : Prop := (pK h r = 5 ∧ pP h r 0 = some (r + 1) ∧ pK h (r + 1) = 46 ∧ pN h (r + 1) = 184 ∧ pP h r 1 = some (r + 2) ∧ pK h (r + 2) = 42 ∧ pN h (r + 2) = 184 ∧ pI h r 2 = (L.length : Int)) ∧ (∀ j, j < L.length → (rkk L j = 0 → pP h (r + 1) j = none ∧ pI h (r + 2) j = rsz L j) ∧ (rkk L j ≠ 0 → pP h (r + 1) j = some (tx j) ∧ pI h (r + 2) j = (ki j : Nat) ∧ RnJ h L (tx j) (ki j) (pa j) j)) ∧ ∀ j j', j < L.length → j' < L.length → rkk L j ≠ 0 → rkk L j' ≠ 0 → pa j = pa j' → ki j = ki j' → j = j'
section PR
variable {h h' h1 g : HP} {r bx : Nat} {L : List RK} {tx ki pa : Nat → Nat} {f j t : Nat} {m v : Int}
theorem RnJ.agi {t k p : Nat} (R : RnJ h L t k p j) (A : AgI h h' (fP h bx r)) (hb : pK h bx = 2) (hr : pK h r = 5) : RnJ h' L t k p j := by
  obtain ⟨a1, a2, a3, a4, a5, a6, a7, a8, a9, a10⟩ := A
  obtain ⟨x1, x2, x3, e, v, y1, y2, y3, y4, y5, y6⟩ := R
  unfold RnJ
  rw [a1, a2, a3, a5]
  refine ⟨x1, x2, x3, e, v, y1, y2, y3, y4, y5, ?_⟩
  rw [a10 v 2 (fun z => by
    rcases z with z | z | z
    · rw [y4] at z; omega
    · omega
    · omega)]
  exact y6
theorem RnP.agi (R : RnP h r L tx ki pa) (A : AgI h h' (fP h bx r)) (hb : pK h bx = 2) : RnP h' r L tx ki pa := by
  obtain ⟨⟨r1, r2, r3, r4, r5, r6, r7, r8⟩, r9, r10⟩ := R
  have hA := A
  obtain ⟨a1, a2, a3, a4, a5, a6, a7, a8, a9, a10⟩ := A
  have hrb : r ≠ bx := kne h (by omega)
  refine ⟨⟨by rw [a1]; exact r1, by rw [a3]; exact r2, by rw [a1]; exact r3, by rw [a2]; exact r4, by rw [a3]; exact r5, by rw [a1]; exact r6, by rw [a2]; exact r7, ?_⟩, fun j hj => ?_, r10⟩
  · rw [a10 r 2 (fun z => by
      rcases z with z | z | z
      · rw [r1] at z; omega
      · exact hrb z.1
      · omega)]
    exact r8
  · have e : pI h' (r + 2) j = pI h (r + 2) j := a10 _ _ (fun z => by
      have q1 : r + 2 ≠ bx := kne h (by omega)
      rcases z with z | z | z
      · rw [r6] at z; omega
      · exact q1 z.1
      · omega)
    rw [a3, e]
    exact ⟨(r9 j hj).1, fun z => ⟨((r9 j hj).2 z).1, ((r9 j hj).2 z).2.1, ((r9 j hj).2 z).2.2.agi hA hb r1⟩⟩
theorem rsize_p (R : RnP h r L tx ki pa) (hO : OKL L) (hj : j < L.length) : f_X4_size h r (j : Int) = some (rsz L j) := by
  have h183 := hO.1
  obtain ⟨⟨r1, r2, r3, r4, r5, r6, r7, r8⟩, r9, r10⟩ := R
  unfold f_X4_size
  rw [gd_c r1, r2, obind_some, gd_c r3, gd_zin (by omega) (by omega) (by omega), zix_nat (by omega)]
  by_cases z : rkk L j = 0
  · obtain ⟨e1, e2⟩ := (r9 j hj).1 z
    rw [e1, nl_none, gd_c r1, r5, obind_some, gd_c (by rw [r6]; decide), gd_zin (by omega) (by omega) (by omega), e2]
  · obtain ⟨e1, e2, x1, x2, x3, e, v, y1, y2, y3, y4, y5, y6⟩ := (r9 j hj).2 z
    have z2 : zix 2 = 2 := by decide
    rw [e1, nl_some, gd_c r1, obind_some, gd_c r3, gd_zin (by omega) (by omega) (by omega), e1, obind_some, gd_c x1, y1, obind_some, gd_c y2, y3, obind_some, gd_c (by rw [y4]; decide), gd_zin (by omega) (by omega) (by omega), z2, y6]
theorem rblank_p (R : RnP h r L tx ki pa) (hO : OKL L) (hj : j < L.length) (hk : rkk L j ≠ 0) : f_X4_blank h r (j : Int) = some (if rkk L j = 1 then 1 else 0) := by
  have h183 := hO.1
  obtain ⟨⟨r1, r2, r3, r4, r5, r6, r7, r8⟩, r9, r10⟩ := R
  obtain ⟨e1, e2, x1, ⟨b, b1, b2, b3, b4, b5, b6, b7⟩, x3, x4⟩ := (r9 j hj).2 hk
  unfold f_X4_blank
  rw [gd_c r1, r2, obind_some, gd_c r3, gd_zin (by omega) (by omega) (by omega), zix_nat (by omega), e1, obind_some, gd_c x1, gd_c r1, r5, obind_some, gd_c (by rw [r6]; decide), gd_zin (by omega) (by omega) (by omega), b1, obind_some, e2]
  unfold sAt
  rw [gd_c b2, gd_zin (by omega) (by omega) (by omega), obind_some, zix_nat (by omega)]
  by_cases z : rkk L j = 1
  · rw [if_eqp (b7.mpr z), if_pos z]
  · rw [if_eqn (fun q => z (b7.mp q)) (by omega) (by omega) (by omega) (by omega), if_neg z]
theorem rplaced_p (R : RnP h r L tx ki pa) (hO : OKL L) (hj : j < L.length) (hk : rkk L j ≠ 0) : f_X4_placed h r (j : Int) = some (pI h (pa j) (ki j)) := by
  have h183 := hO.1
  obtain ⟨⟨r1, r2, r3, r4, r5, r6, r7, r8⟩, r9, r10⟩ := R
  obtain ⟨e1, e2, x1, x2, ⟨p1, p2, p3, p4⟩, x4⟩ := (r9 j hj).2 hk
  unfold f_X4_placed
  rw [gd_c r1, r2, obind_some, gd_c r3, gd_zin (by omega) (by omega) (by omega), zix_nat (by omega), e1, obind_some, gd_c x1, gd_c r1, r5, obind_some, gd_c (by rw [r6]; decide), gd_zin (by omega) (by omega) (by omega), p1, obind_some, gd_c (by rw [p2]; decide), e2, gd_zin (by omega) (by omega) (by omega), zix_nat (by omega)]
theorem rput_p (R : RnP h r L tx ki pa) (hO : OKL L) (hj : j < L.length) (hk : rkk L j ≠ 0) : f_X4_put h r (j : Int) v = some (wI h (pa j) (ki j) v) := by
  have h183 := hO.1
  obtain ⟨⟨r1, r2, r3, r4, r5, r6, r7, r8⟩, r9, r10⟩ := R
  obtain ⟨e1, e2, x1, x2, ⟨p1, p2, p3, p4⟩, x4⟩ := (r9 j hj).2 hk
  unfold f_X4_put
  rw [gd_c r1, r2, obind_some, gd_c r3, gd_zin (by omega) (by omega) (by omega), zix_nat (by omega), e1, obind_some, gd_c x1, gd_c r1, r5, obind_some, gd_c (by rw [r6]; decide), gd_zin (by omega) (by omega) (by omega), p1, obind_some, gd_c (by rw [p2]; decide), e2, gd_zin (by omega) (by omega) (by omega), zix_nat (by omega), bnd_eq]
theorem RnP.pk (R : RnP h r L tx ki pa) (hj : j < L.length) (hk : rkk L j ≠ 0) : pK h (pa j) = 41 := ((R.2.1 j hj).2 hk).2.2.2.2.1.2.1
/-- the height of a line -/
theorem line7 (R : RnP h r L tx ki pa) (hO : OKL L) (hf : f ≤ t) (ht : t ≤ L.length) (hk : ∀ k, f ≤ k → k < t → rkk L k ≠ 0) (hm : 0 ≤ m ∧ m ≤ 9) : f_X0_line h bx r (f : Int) (t : Int) m = f_X0_line_41 h bx r (f : Int) (t : Int) (hgh L f m (t - f)) := by
  have h183 := hO.1
  unfold f_X0_line f_X0_line_7
  refine loopU (fun k => (hgh L f m (k - f), ((k : Nat) : Int))) f t (by simp [hgh]) hf (fun k k1 k2 => ?_) ?_
  · have hat := hO.at (i := k) (by omega)
    have hh := hgh_b (f := f) (m := m) hO hm (k - f) (by omega)
    have h0 := hk k k1 k2
    simp only [f_X0_line_7s]
    rw [if_ltp (by omega) (by omega) (by omega), gd_c R.1.1, rblank_p R hO (by omega) h0, obind_some, hgh_step L k1]
    unfold f_X0_line_35
    by_cases z : rkk L k = 1
    · rw [if_pos z, if_eqn (by omega) (by omega) (by omega) (by omega) (by omega), if_neg (show ¬ rkk L k = 2 by omega)]; rfl
    · rw [if_neg z, if_eqp rfl, gd_c R.1.1, rsize_p R hO (by omega), obind_some, bnd_eq, if_pos (show rkk L k = 2 by omega), zmax_eq (by omega) (by omega) (by omega) (by omega)]
      have : (if hgh L f m (k - f) < rsz L k then rsz L k else hgh L f m (k - f)) = max (hgh L f m (k - f)) (rsz L k) := by split <;> omega
      rw [this]; rfl
  · simp only [f_X0_line_7s]
    rw [if_ltn (by omega) (by omega) (by omega)]
/-- the letters of a line -/
theorem line62 (R : RnP h r L tx ki pa) (hO : OKL L) (hb : pK h bx = 2) (ht : t ≤ L.length) (hk : ∀ k, f ≤ k → k < t → rkk L k ≠ 0) (x5 : Int) : ∀ (d k : Nat) (g : HP), k + d = t → f ≤ k → AgI h g (fun b j => pK h b = 41) → ∃ h', f_X0_line_62 g bx r (t : Int) x5 (k : Int) = f_X0_line_119 h' bx r x5 ∧ AgI h h' (fun b j => pK h b = 41) ∧ (∀ k', k ≤ k' → k' < t → rkk L k' = 2 → pI h' (pa k') (ki k') = pI h bx 13 + pI g (pa k') (ki k') + 65536 * (pI h bx 15 + x5 - rsz L k')) ∧ ∀ b j, (∀ k', k ≤ k' → k' < t → rkk L k' = 2 → ¬ (b = pa k' ∧ j = ki k')) → pI h' b j = pI g b j := by
  have h183 := hO.1
  intro d
  induction d with
  | zero =>
    intro k g hd hfk A
    refine ⟨g, ?_, A, fun k' y1 y2 => by omega, fun b j _ => rfl⟩
    unfold f_X0_line_62
    refine iter_mr ?_
    simp only [f_X0_line_62s]
    rw [if_ltn (by omega) (by omega) (by omega)]
  | succ d ih =>
    intro k g hd hfk A
    have h0 := hk k hfk (by omega)
    have hat := hO.at (i := k) (by omega)
    have Rg : RnP g r L tx ki pa := R.agi (bx := bx) (A.mono (fun b j z => Or.inl z)) hb
    have hbg : pK g bx = 2 := by rw [A.1]; exact hb
    have hpk := R.pk (j := k) (by omega) h0
    by_cases z : rkk L k = 1
    · have hst : f_X0_line_62s g bx r (t : Int) x5 (k : Int) = some (.inl (g, ((k + 1 : Nat) : Int))) := by
        unfold f_X0_line_62s
        rw [if_ltp (by omega) (by omega) (by omega), gd_c Rg.1.1, rblank_p Rg hO (by omega) h0, obind_some, if_pos z, if_eqn (by omega) (by omega) (by omega) (by omega) (by omega)]
        rfl
      obtain ⟨h', e1, e2, e3, e4⟩ := ih (k + 1) g (by omega) (by omega) A
      refine ⟨h', by unfold f_X0_line_62; rw [iter_in hst]; exact e1, e2, fun k' y1 y2 y3 => e3 k' (Nat.lt_of_le_of_ne y1 (fun q => by rw [← q] at y3; omega)) y2 y3, fun b j hbj => e4 b j (fun k' y1 y2 y3 => hbj k' (by omega) y2 y3)⟩
    · have k2 : rkk L k = 2 := by omega
      have e13 : pI g bx 13 = pI h bx 13 := A.2.2.2.2.2.2.2.2.2 _ _ (fun q => by omega)
      have e15 : pI g bx 15 = pI h bx 15 := A.2.2.2.2.2.2.2.2.2 _ _ (fun q => by omega)
      have hst : f_X0_line_62s g bx r (t : Int) x5 (k : Int) = some (.inl (wI g (pa k) (ki k) (pI h bx 13 + pI g (pa k) (ki k) + 65536 * (pI h bx 15 + x5 - rsz L k)), ((k + 1 : Nat) : Int))) := by
        unfold f_X0_line_62s
        rw [if_ltp (by omega) (by omega) (by omega), gd_c Rg.1.1, rblank_p Rg hO (by omega) h0, obind_some, if_neg z, if_eqp rfl, gd_c hbg, gd_c Rg.1.1, rplaced_p Rg hO (by omega) h0, obind_some, gd_c hbg, gd_c Rg.1.1, rsize_p Rg hO (by omega), obind_some, gd_c Rg.1.1, rput_p Rg hO (by omega) h0, obind_some, e13, e15]
        rfl
      obtain ⟨h', e1, e2, e3, e4⟩ := ih (k + 1) _ (by omega) (by omega) (A.wi hpk _)
      refine ⟨h', by unfold f_X0_line_62; rw [iter_in hst]; exact e1, e2, fun k' y1 y2 y3 => ?_, fun b j hbj => ?_⟩
      · by_cases w : k' = k
        · rw [w, e4 _ _ (fun k'' q1 q2 q3 q4 => by have := R.2.2 k k'' (by omega) (by omega) h0 (by omega) q4.1 q4.2; omega), pI_wI, if_pos ⟨rfl, rfl⟩]
        · rw [e3 k' (by omega) y2 y3, pI_wI, if_neg (fun q => w (R.2.2 k' k (by omega) (by omega) (by omega) h0 q.1 q.2))]
      · rw [e4 b j (fun k' q1 q2 q3 => hbj k' (by omega) q2 q3), pI_wI, if_neg (fun q => hbj k (by omega) (by omega) k2 q)]
theorem line_p (R : RnP h r L tx ki pa) (hO : OKL L) (hb : pK h bx = 2) (hf : f ≤ t) (ht : t ≤ L.length) (hk : ∀ k, f ≤ k → k < t → rkk L k ≠ 0) (hm : 0 ≤ m ∧ m ≤ 9) : ∃ h', f_X0_line h bx r (f : Int) (t : Int) m = some h' ∧ AgI h h' (fP h bx r) ∧ pI h' bx 15 = pI h bx 15 + pI h bx 16 + hgh L f m (t - f) ∧ pI h' bx 16 = 0 ∧ pI h' r 3 = pI h r 3 + 1 ∧ (∀ k, f ≤ k → k < t → rkk L k = 2 → pI h' (pa k) (ki k) = pI h bx 13 + pI h (pa k) (ki k) + 65536 * (pI h bx 15 + pI h bx 16 + hgh L f m (t - f) - rsz L k)) ∧ ∀ b j, pK h b = 41 → (∀ k, f ≤ k → k < t → rkk L k = 2 → ¬ (b = pa k ∧ j = ki k)) → pI h' b j = pI h b j := by
  rw [line7 R hO hf ht hk hm]
  have hrb : r ≠ bx := kne h (by rw [R.1.1, hb]; omega)
  have h41 : ∀ b, pK h b = 41 → b ≠ bx ∧ b ≠ r := fun b q => ⟨kne h (by rw [q, hb]; omega), kne h (by rw [q, R.1.1]; omega)⟩
  obtain ⟨g, hg⟩ : ∃ g, g = wI (wI h bx 15 (pI h bx 15 + pI h bx 16)) bx 16 0 := ⟨_, rfl⟩
  have A0 : AgI h g (fP h bx r) := by rw [hg]; exact ((AgI.refl h _).wi (Or.inr (Or.inl ⟨rfl, Or.inl rfl⟩)) _).wi (Or.inr (Or.inl ⟨rfl, Or.inr rfl⟩)) _
  have hbg : pK g bx = 2 := by rw [A0.1]; exact hb
  have g15 : pI g bx 15 = pI h bx 15 + pI h bx 16 := by rw [hg, pI_wI, if_neg (by omega), pI_wI, if_pos ⟨rfl, rfl⟩]
  have g16 : pI g bx 16 = 0 := by rw [hg, pI_wI, if_pos ⟨rfl, rfl⟩]
  have gn : ∀ b j, ¬ (b = bx ∧ (j = 15 ∨ j = 16)) → pI g b j = pI h b j := fun b j q => by
    rw [hg, pI_wI, if_neg (fun z => q ⟨z.1, Or.inr z.2⟩), pI_wI, if_neg (fun z => q ⟨z.1, Or.inl z.2⟩)]
  obtain ⟨h', e1, e2, e3, e4⟩ := line62 (h := g) (R.agi A0 hb) hO hbg ht hk (hgh L f m (t - f)) (t - f) f g (by omega) (by omega) (AgI.refl g _)
  have hk' : pK h' = pK h := e2.1.trans A0.1
  have hr' : pK h' r = 5 := by rw [hk']; exact R.1.1
  have hb' : pK h' bx = 2 := by rw [hk']; exact hb
  have n41 : ∀ b j, pK h b ≠ 41 → pI h' b j = pI g b j := fun b j q => e2.2.2.2.2.2.2.2.2.2 b j (fun z => q (by rw [← A0.1]; exact z))
  have e0 : f_X0_line_41 h bx r (f : Int) (t : Int) (hgh L f m (t - f)) = some (wI (wI h' bx 15 (pI h' bx 15 + hgh L f m (t - f))) r 3 (pI (wI h' bx 15 (pI h' bx 15 + hgh L f m (t - f))) r 3 + 1)) := by
    unfold f_X0_line_41
    rw [gd_c hb, gd_c hb, gd_c hb, bnd_eq, gd_c (by exact hb), bnd_eq, ← hg, e1]
    unfold f_X0_line_119
    rw [gd_c hb', gd_c hb', bnd_eq, gd_c (by exact hr'), gd_c (by exact hr'), bnd_eq]
  have hA' : AgI h h' (fP h bx r) := A0.trans (e2.mono (fun b j z => Or.inl (by rw [← A0.1]; exact z)))
  have b41 : pK h bx ≠ 41 := by omega
  have r41 : pK h r ≠ 41 := by rw [R.1.1]; omega
  refine ⟨_, e0, (hA'.wi (Or.inr (Or.inl ⟨rfl, Or.inl rfl⟩)) _).wi (Or.inr (Or.inr ⟨rfl, rfl⟩)) _, ?_, ?_, ?_, fun k k1 k2 k3 => ?_, fun b j hbk hbj => ?_⟩
  · rw [pI_wI, if_neg (fun z => hrb z.1.symm), pI_wI, if_pos ⟨rfl, rfl⟩, n41 _ _ b41, g15]
  · rw [pI_wI, if_neg (fun z => hrb z.1.symm), pI_wI, if_neg (by omega), n41 _ _ b41, g16]
  · rw [pI_wI, if_pos ⟨rfl, rfl⟩, pI_wI, if_neg (fun z => hrb z.1), n41 _ _ r41, gn _ _ (fun z => hrb z.1)]
  · have hp := R.pk (j := k) (by omega) (by omega)
    have q := h41 _ hp
    rw [pI_wI, if_neg (fun z => q.2 z.1), pI_wI, if_neg (fun z => q.1 z.1), e3 k k1 k2 k3, gn bx 13 (by omega), gn _ _ (fun z => q.1 z.1), g15]
  · have q := h41 b hbk
    rw [pI_wI, if_neg (fun z => q.2 z.1), pI_wI, if_neg (fun z => q.1 z.1), e4 b j hbj, gn _ _ (fun z => q.1 z.1)]
end PR
