/-! the page: a box while it is filled; a run ends -/
set_option maxRecDepth 100000
def plA (h : HP) (φ : Nat → Nat) (T : TS) (p : Nat) : Nat := (pP h (φ (ioP T p)) 3).getD 0
def BoxC (h : HP) (φ : Nat → Nat) (T : TS) (rs : List RL) (Wd Lf tl tp : Nat → Int) (x : Nat) : Prop := pI h (φ (ioP T x)) 9 = Lf x ∧ pI h (φ (ioP T x)) 10 = tp x ∧ pI h (φ (ioP T x)) 11 = Wd x + 2 * vlP T rs 5 x ∧ pI h (φ (ioP T x)) 12 = tl x
def PInv (h : HP) (pg : Nat) (φ : Nat → Nat) (T : TS) (rs : List RL) (Wd Lf tl tp : Nat → Int) (n q : Nat) (s : HS) : Prop :=
  PE h pg φ T rs ∧ ((pI h (φ (ioP T n)) 9 = Lf n ∧ pI h (φ (ioP T n)) 10 = tp n ∧ pI h (φ (ioP T n)) 11 = Wd n + 2 * vlP T rs 5 n) ∧ pI h (φ (ioP T n)) 13 = Lf n + vlP T rs 5 n ∧ pI h (φ (ioP T n)) 14 = Wd n ∧ pI h (φ (ioP T n)) 15 = tp n + vlP T rs 5 n + (if rwP T n then s.2.2.1 else s.1) ∧ pI h (φ (ioP T n)) 16 = (if rwP T n then 0 else s.2.1)) ∧ RunP h (pg + 17) φ T rs s.2.2.2.1 ∧
  (∀ x, n < x → x < q → bxP T rs x = true → BoxC h φ T rs Wd Lf tl tp x) ∧ (∀ p k, n < p → p < q → nmQ T p = 1 → k < (txP T p).length → (p, some k) ∉ s.2.2.2.1 → PlR T rs Wd Lf tl tp p k (pI h (plA h φ T p) k)) ∧ ∀ p k, q ≤ p → p < behindA T n → nmQ T p = 1 → k < (txP T p).length → pI h (plA h φ T p) k = -1
/-- what the layout of n leaves alone -/
def PFr (h h' : HP) (φ : Nat → Nat) (T : TS) (n : Nat) : Prop := AgL h h' ∧ (∀ x j, x < tN T → nmQ T x ≠ 1 → x < n ∨ behindA T n ≤ x → pI h' (φ (ioP T x)) j = pI h (φ (ioP T x)) j) ∧ ∀ p k, p < tN T → nmQ T p = 1 → p < n ∨ behindA T n ≤ p → pI h' (plA h φ T p) k = pI h (plA h φ T p) k
section PI
variable {h h' h1 : HP} {pg r : Nat} {φ : Nat → Nat} {T : TS} {rs : List RL} {R : List IT} {n p k q j : Nat} {Wd Lf tl tp : Nat → Int} {v : Int} {s : HS}
theorem PE.tx (H : PE h pg φ T rs) (hW : WF T) (hp : p < tN T) (hm : nmQ T p = 1) : TXc h (φ (ioP T p)) ∧ pP h (φ (ioP T p)) 3 = some (plA h φ T p) ∧ pK h (plA h φ T p) = 41 ∧ (txP T p).length ≤ pN h (plA h φ T p) ∧ pN h (plA h φ T p) ≤ 1000 ∧ pB h (φ (ioP T p) + 1) = txP T p ∧ pP h (φ (ioP T p)) 0 = some (φ (ioP T (upP T p))) := by
  have hX := H.1.txc (io_lt hW hp) hm
  have hB : pB h (φ (ioP T p) + 1) = txP T p := H.1.2.2.2.2.1 _ (io_lt hW hp) hm
  obtain ⟨a, a1, a2, a3, a4, a5, a6⟩ := hX.2.2.2.1
  have e : plA h φ T p = a := by unfold plA; rw [a1]; rfl
  have h0 : 0 < p := by
    rcases Nat.eq_zero_or_pos p with z | z
    · rw [z, nm_0 hW] at hm; omega
    · exact z
  have hpp := H.1.2.2.2.2.2.1 _ (io_lt hW hp)
  rw [if_neg (io_ne hW hp h0), ← (up_d hW hp h0).2.2.2] at hpp
  rw [e]
  exact ⟨hX, a1, a2, by rw [← hB]; exact a6, a5, hB, hpp⟩
theorem plA_agl (H : PE h pg φ T rs) (hW : WF T) (A : AgL h h') (hp : p < tN T) (hm : nmQ T p = 1) : plA h' φ T p = plA h φ T p := by
  unfold plA
  rw [A.2.1 _ _ (by rw [(H.tx hW hp hm).1.1]; omega)]
theorem plA_ne (H : PE h pg φ T rs) (hW : WF T) (hp : p < tN T) (hm : nmQ T p = 1) (hq : q < tN T) (hmq : nmQ T q = 1) (hne : p ≠ q) : plA h φ T p ≠ plA h φ T q := fun z => by
  have h1 := (H.tx hW hp hm).2.1
  have h2 := (H.tx hW hq hmq).2.1
  rw [← z] at h2
  exact H.ne hW hp hq hne (H.1.1.2.2.2.2.2 _ (H.1.2.2.1.2.1 _ (io_lt hW hp) hm) _ (H.1.2.2.1.2.1 _ (io_lt hW hq) hmq) _ h1 h2)
theorem RunP.rn (H : PE h pg φ T rs) (hW : WF T) (hX : txOK T) (hR : RunP h (pg + 17) φ T rs R) (hI : RI T rs Wd tl n r R) (hr : r ≤ tN T) : RnP h (pg + 17) (R.map (rkP T rs)) (fun j => φ (ioP T (R.getD j (0, none)).1)) (fun j => ((R.getD j (0, none)).2).getD 0) (fun j => plA h φ T (R.getD j (0, none)).1) := by
  obtain ⟨q1, q2, q3, q4, q5, q6, q7⟩ := H.2.2
  refine ⟨⟨q1, q2, q3, q4, q5, q6, q7, by rw [List.length_map]; exact hR.1⟩, fun j hj => ?_, fun j j' hj hj' h2 h2' e1 e2 => ?_⟩
  · rw [List.length_map] at hj
    rw [(rk_at hj).1, (rk_at hj).2]
    have hRj := hR.2 j hj
    obtain ⟨a1, a2, a3, a4, a5, a6, a7⟩ := hI j hj
    unfold RnJ
    rw [(rk_at hj).1, (rk_at hj).2]
    simp only []
    generalize R.getD j (0, none) = x at *
    obtain ⟨p, o⟩ := x
    cases o with
    | none => exact ⟨fun _ => hRj, fun z => (z rfl).elim⟩
    | some k =>
      have g1 : n < p := a1
      have g2 : p < r := a2
      have hp : p < tN T := by omega
      have hm : nmQ T p = 1 := a7.1
      have hk : k < (txP T p).length := a7.2.1
      obtain ⟨t1, t2, t3, t4, t5, t6, t7⟩ := H.tx hW hp hm
      have hx := hX p k hp hk
      have hu := (up_d hW hp (by omega)).1
      obtain ⟨u1, u2, u3, u4⟩ := H.el hW (n := upP T p) (by omega) (up_el hW hp (by omega))
      have e3 : (rkP T rs (p, some k)).1 = if (txP T p).getD k 0 = 32 then 1 else 2 := rfl
      rw [e3]
      refine ⟨fun z => by split at z <;> omega, fun _ => ⟨hRj.1, hRj.2, t1.1, ⟨φ (ioP T p) + 1, t1.2.1, by rw [t1.2.2.1]; decide, ?_, ?_, ?_, ?_, ?_⟩, ⟨t2, t3, ?_, t5⟩, φ (ioP T (upP T p)), φ (ioP T (upP T p)) + 2, t7, u1.1, u1.2.2.2.1, u1.2.2.2.2.1, u1.2.2.2.2.2.1, u2 2 (by omega)⟩⟩
      · rw [t6]; exact hk
      · rw [t6]; omega
      · rw [t6]; show 0 ≤ (txP T p).getD k 0; omega
      · rw [t6]; show (txP T p).getD k 0 < 128; omega
      · rw [t6]
        show (txP T p).getD k 0 = 32 ↔ _
        by_cases z : (txP T p).getD k 0 = 32
        · rw [if_pos z]; exact ⟨fun _ => rfl, fun _ => z⟩
        · rw [if_neg z]; exact ⟨fun y => (z y).elim, fun y => by omega⟩
      · exact Nat.lt_of_lt_of_le hk t4
  · rw [List.length_map] at hj hj'
    rw [(rk_at hj).1] at h2
    rw [(rk_at hj').1] at h2'
    obtain ⟨a1, a2, a3, a4, a5, a6, a7⟩ := hI j hj
    obtain ⟨b1, b2, b3, b4, b5, b6, b7⟩ := hI j' hj'
    simp only [] at e1 e2
    generalize R.getD j (0, none) = x at *
    generalize R.getD j' (0, none) = x' at *
    obtain ⟨p, o⟩ := x
    obtain ⟨p', o'⟩ := x'
    cases o with
    | none => exact absurd rfl h2
    | some k =>
      cases o' with
      | none => exact absurd rfl h2'
      | some k' =>
        have g1 : p < r := a2
        have g2 : p' < r := b2
        have e1 : plA h φ T p = plA h φ T p' := e1
        have e2 : k = k' := e2
        have hpp : p = p' := by
          by_cases z : p = p'
          · exact z
          · exact (plA_ne H hW (by omega) a7.1 (by omega) b7.1 z e1).elim
        have c1 : j = (hsP T rs Wd tl n p).2.2.2.1.length + k := a7.2.2
        have c2 : j' = (hsP T rs Wd tl n p').2.2.2.1.length + k' := b7.2.2
        rw [c1, c2, hpp, e2]
/-- a run ends in a box -/
theorem pflush (hW : WF T) (hok : ∀ r ∈ rs, okR2 r) (hrs : ∀ r ∈ rs, okRV r) (hX : txOK T) (hIS : isP T (tN T) ≤ 183) (Q : LQ T rs v Wd Lf tl tp) (hv : 1 ≤ v ∧ v ≤ 64) (hn : n < tN T) (hb : bxP T rs n = true) (hrw : rwP T n = false) (hE : EvQ T rs n q) (I : PInv h pg φ T rs Wd Lf tl tp n q (hsP T rs Wd tl n q)) : ∃ h', f_X0_flush h (φ (ioP T n)) (pg + 17) = some h' ∧ PInv h' pg φ T rs Wd Lf tl tp n q (flP T rs (Wd n) (hsP T rs Wd tl n q)) ∧ PFr h h' φ T n ∧ pI h' (pg + 17) 3 = pI h (pg + 17) 3 + (flF T rs Wd tl n q).2.1 := by
  obtain ⟨e1, e2⟩ := ev_lt hE
  have hbl := beh_le hW hn
  have hqn : q ≤ tN T := by omega
  obtain ⟨i1, ⟨⟨i2, i3, i4⟩, i5, i6, i7, i8⟩, i9, i10, i11, i12⟩ := I
  rw [hrw, if_neg (show ¬ (false = true) by simp)] at i7 i8
  have hI := RI.at (T := T) (rs := rs) (Wd := Wd) (tl := tl) e1
  have hO := run_ok (Wd := Wd) (tl := tl) hW hrs hIS e1 hqn
  have hw := (wd_b hW hok hrs Q hv n hn).1
  obtain ⟨n1, n2, n3, n4⟩ := i1.el hW hn (bx_d hb).1
  have hkr := i1.2.2.1
  have hrkL : rkL T rs (hsP T rs Wd tl n q) = (hsP T rs Wd tl n q).2.2.2.1.map (rkP T rs) := rfl
  obtain ⟨h', f1, f2, f3, f4, f5, f6, f7, f8, f9⟩ := flush_p (RunP.rn i1 hW hX i9 hI hqn) hO n1.1 i6 (by omega)
  have A : AgL h h' := f2.l (fun b j hbj => by
    rcases hbj with z | z | z
    · unfold lP; omega
    · rw [z.1]; unfold lP; rw [n1.1]; omega
    · rw [z.1]; unfold lP; rw [hkr]; omega)
  have hI0 : ∀ b j, ¬ fP2 h (φ (ioP T n)) (pg + 17) b j → pI h' b j = pI h b j := f2.2.2.2.2.2.2.2.2.2
  have hel : ∀ x j, x < tN T → nmQ T x ≠ 1 → (x ≠ n ∨ (j ≠ 15 ∧ j ≠ 16)) → pI h' (φ (ioP T x)) j = pI h (φ (ioP T x)) j := fun x j hx hm hj => by
    have hk := (i1.el hW hx hm).1.1
    refine hI0 _ _ (fun z => ?_)
    rcases z with z | z | z
    · omega
    · rcases hj with y | y
      · exact i1.ne hW hx hn y z.1
      · omega
    · rw [z.1, hkr] at hk; omega
  have htx : ∀ p k, p < tN T → nmQ T p = 1 → (p, some k) ∉ (hsP T rs Wd tl n q).2.2.2.1 → pI h' (plA h φ T p) k = pI h (plA h φ T p) k := fun p k hp hm hnot => by
    refine f9 _ _ (i1.tx hW hp hm).2.2.1 (fun j hj hk z => hnot ?_)
    rw [List.length_map] at hj
    rw [(rk_at hj).1] at hk
    obtain ⟨a1, a2, a3, a4, a5, a6, a7⟩ := hI j hj
    have hmem : (hsP T rs Wd tl n q).2.2.2.1.getD j (0, none) ∈ (hsP T rs Wd tl n q).2.2.2.1 := by rw [gD hj]; exact List.getElem_mem _
    generalize (hsP T rs Wd tl n q).2.2.2.1.getD j (0, none) = x at *
    obtain ⟨p', o⟩ := x
    cases o with
    | none => exact absurd rfl hk
    | some k' =>
      have g1 : plA h φ T p = plA h φ T p' := z.1
      have g2 : k = k' := z.2
      have g3 : p' < q := a2
      have hpp : p = p' := by
        by_cases y : p = p'
        · exact y
        · exact (plA_ne i1 hW hp hm (by omega) a7.1 y g1).elim
      rw [hpp, g2]
      exact hmem
  have hE2 : pI h (φ (ioP T n)) 15 + pI h (φ (ioP T n)) 16 = tp n + vlP T rs 5 n + flE T rs Wd tl n q := by
    rw [i7, i8]; unfold flE; omega
  refine ⟨h', f1, ⟨i1.agl hW A, ⟨⟨?_, ?_, ?_⟩, ?_, ?_, ?_, ?_⟩, ⟨?_, fun j hj => absurd hj (by show ¬ j < ([] : List IT).length; simp)⟩, fun x x1 x2 x3 => ?_, fun p k p1 p2 p3 p4 _ => ?_, fun p k p1 p2 p3 p4 => ?_⟩, ⟨A, fun x j hx hm hor => ?_, fun p k hp hm hor => ?_⟩, ?_⟩
  · rw [hel n 9 hn (bx_d hb).1 (Or.inr (by omega))]; exact i2
  · rw [hel n 10 hn (bx_d hb).1 (Or.inr (by omega))]; exact i3
  · rw [hel n 11 hn (bx_d hb).1 (Or.inr (by omega))]; exact i4
  · rw [hel n 13 hn (bx_d hb).1 (Or.inr (by omega))]; exact i5
  · rw [hel n 14 hn (bx_d hb).1 (Or.inr (by omega))]; exact i6
  · rw [hrw, if_neg (show ¬ (false = true) by simp)]
    unfold flP
    cases hz : hasL (rkL T rs (hsP T rs Wd tl n q)) with
    | false => rw [(f3 hz).1, i7]; rfl
    | true =>
      rw [(f4 hz).1, hE2]
      show _ = tp n + vlP T rs 5 n + ((hsP T rs Wd tl n q).1 + (hsP T rs Wd tl n q).2.1 + (FL (Wd n) (rkL T rs (hsP T rs Wd tl n q))).1)
      unfold flE
      rw [← hrkL]
      omega
  · rw [hrw, if_neg (show ¬ (false = true) by simp)]
    unfold flP
    cases hz : hasL (rkL T rs (hsP T rs Wd tl n q)) with
    | false => rw [(f3 hz).2, i8]; rfl
    | true => rw [(f4 hz).2]; rfl
  · rw [f6]; rfl
  · obtain ⟨b1, b2, b3, b4⟩ := i10 x x1 x2 x3
    have hxn : x < tN T := by omega
    unfold BoxC
    rw [hel x 9 hxn (bx_d x3).1 (Or.inl (by omega)), hel x 10 hxn (bx_d x3).1 (Or.inl (by omega)), hel x 11 hxn (bx_d x3).1 (Or.inl (by omega)), hel x 12 hxn (bx_d x3).1 (Or.inl (by omega))]
    exact ⟨b1, b2, b3, b4⟩
  · have hpn : p < tN T := by omega
    rw [plA_agl i1 hW A hpn p3]
    by_cases hm : (p, some k) ∈ (hsP T rs Wd tl n q).2.2.2.1
    · obtain ⟨j, j1, j2⟩ := getD_mem hm
      have hcov : Cov T rs Wd tl n q j p k := ⟨hn, hb, hE, j1, j2⟩
      have hd := hcov.d
      have hrk : rkk ((hsP T rs Wd tl n q).2.2.2.1.map (rkP T rs)) j = if (txP T p).getD k 0 = 32 then 1 else 2 := by rw [(rk_at j1).1, j2]; rfl
      have hlen : j < ((hsP T rs Wd tl n q).2.2.2.1.map (rkP T rs)).length := by rw [List.length_map]; exact j1
      by_cases z : (txP T p).getD k 0 = 32
      · have := f8 j hlen (by rw [hrk, if_pos z])
        rw [j2] at this
        exact ⟨fun _ => this, fun _ y => (y z).elim⟩
      · have := f7 j hlen (by rw [hrk, if_neg z])
        rw [j2] at this
        refine ⟨fun y => ?_, fun _ _ => ⟨n, q, j, hcov, ?_⟩⟩
        · rcases y with y | y
          · rw [hd.2.2.2.1] at y; cases y
          · exact (z y).elim
        · have t : pI h' (plA h φ T p) k = _ := this
          rw [t, i5, hE2]
          rfl
    · rw [htx p k hpn p3 hm]
      exact i11 p k p1 p2 p3 p4 hm
  · have hpn : p < tN T := by omega
    rw [plA_agl i1 hW A hpn p3, htx p k hpn p3 (fun z => by
      obtain ⟨j, j1, j2⟩ := getD_mem z
      have hcov : Cov T rs Wd tl n q j p k := ⟨hn, hb, hE, j1, j2⟩
      have := hcov.d.2.1
      omega)]
    exact i12 p k p1 p2 p3 p4
  · exact hel x j hx hm (Or.inl (by have := behindA_gt T n; omega))
  · exact htx p k hp hm (fun z => by
      obtain ⟨j, j1, j2⟩ := getD_mem z
      have hcov : Cov T rs Wd tl n q j p k := ⟨hn, hb, hE, j1, j2⟩
      have := hcov.d
      omega)
  · rw [f5]; rfl
end PI
