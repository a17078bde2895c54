/-! the layout, plainly, by places: the places -/
set_option maxRecDepth 100000
def ioP (T : TS) (n : Nat) : Nat := (tO T).getD n 0
def upP (T : TS) (n : Nat) : Nat := seat T (tP T (ioP T n))
def nmQ (T : TS) (n : Nat) : Int := tM T (ioP T n)
def dpP (T : TS) (n : Nat) : Nat := tD T (ioP T n)
def vlP (T : TS) (rs : List RL) (k n : Nat) : Int := val T rs k (ioP T n)
def hdP (T : TS) (rs : List RL) (n : Nat) : Bool := if nmQ T n = 1 then !shw T rs (tP T (ioP T n)) else !shw T rs (ioP T n)
def bxP (T : TS) (rs : List RL) (n : Nat) : Bool := decide (nmQ T n ≠ 1) && (!hdP T rs n && decide (vlP T rs 3 n = 98))
def hoF (T : TS) (rs : List RL) : Nat → Nat → Nat
  | 0, _ => 0
  | f + 1, n => if bxP T rs (upP T n) then upP T n else hoF T rs f (upP T n)
/-- the nearest box around -/
def hoP (T : TS) (rs : List RL) (n : Nat) : Nat := hoF T rs n n
section PP
variable {T : TS} {rs : List RL} {n q b : Nat}
theorem io_lt (hW : WF T) (hn : n < tN T) : ioP T n < tN T := getD_lt hW.1.2.2.2.1 (by rw [hW.1.2.2.1]; exact hn)
theorem io_0 (hW : WF T) : ioP T 0 = 0 := by
  obtain ⟨r, e⟩ := hW.1.2.2.2.2.1.2.1
  unfold ioP
  rw [e]; rfl
theorem seat_io (hW : WF T) (hn : n < tN T) : seat T (ioP T n) = n := hW.seatD (by rw [hW.1.2.2.1]; exact hn)
theorem io_seat (hW : WF T) {i : Nat} (hi : i < tN T) : ioP T (seat T i) = i ∧ seat T i < tN T := by
  have := hW.seat_lt hi
  exact ⟨this.2, by rw [hW.1.2.2.1] at this; exact this.1⟩
theorem io_ne (hW : WF T) (hn : n < tN T) (h0 : 0 < n) : ioP T n ≠ 0 := fun z => by
  have h1 := seat_io hW hn
  rw [z] at h1
  have h2 := seat_io hW (n := 0) (by omega)
  rw [io_0 hW] at h2
  omega
theorem getD_in {A1 A2 R : List Nat} {p m : Nat} (h1 : A1.length < m) (h2 : m < A1.length + 1 + A2.length) : (A1 ++ p :: (A2 ++ R)).getD m 0 ∈ A2 := by
  have e : A1 ++ p :: (A2 ++ R) = (A1 ++ [p]) ++ (A2 ++ R) := by simp
  rw [e, List.getD, List.getElem?_append_right (by simp; omega), List.getElem?_append_left (by simp; omega), List.getElem?_eq_getElem (by simp; omega)]
  exact List.getElem_mem _
theorem up_d (hW : WF T) (hn : n < tN T) (h0 : 0 < n) : upP T n < n ∧ dpP T (upP T n) + 1 = dpP T n ∧ (∀ m, upP T n < m → m < n → dpP T n ≤ dpP T m) ∧ ioP T (upP T n) = tP T (ioP T n) := by
  have hl := hW.1.2.2.1
  have hO : tO T = (tO T).take n ++ ioP T n :: (tO T).drop (n + 1) := by
    have h1 : ioP T n = (tO T)[n]'(by omega) := gD (by omega)
    rw [h1, List.getElem_cons_drop, List.take_append_drop]
  obtain ⟨A1, A2, e1, e2, e3⟩ := hW.1.2.2.2.2.1.2.2.2 _ _ _ hO (fun z => by
    have := congrArg List.length z
    rw [List.length_take, List.length_nil] at this
    omega)
  have hlen : A1.length + 1 + A2.length = n := by
    have := congrArg List.length e1
    rw [List.length_take] at this
    simp at this
    omega
  have hO2 : tO T = A1 ++ tP T (ioP T n) :: (A2 ++ ioP T n :: (tO T).drop (n + 1)) := by rw [e1] at hO; rw [List.append_assoc] at hO; exact hO
  have hio : ioP T A1.length = tP T (ioP T n) := by
    have : ∀ l : List Nat, l = A1 ++ tP T (ioP T n) :: (A2 ++ ioP T n :: (tO T).drop (n + 1)) → l.getD A1.length 0 = tP T (ioP T n) := fun l e => by rw [e]; simp [List.getD]
    exact this _ hO2
  have hup : upP T n = A1.length := by
    unfold upP
    rw [← hio]
    exact seat_io hW (by omega)
  rw [hup]
  refine ⟨by omega, ?_, fun m h1 h2 => ?_, hio⟩
  · unfold dpP; rw [hio]; exact e2
  · have : ioP T m ∈ A2 := by
      have : ∀ l : List Nat, l = A1 ++ tP T (ioP T n) :: (A2 ++ ioP T n :: (tO T).drop (n + 1)) → l.getD m 0 ∈ A2 := fun l e => by rw [e]; exact getD_in h1 (by omega)
      exact this _ hO2
    exact e3 _ this
theorem beh_le (hW : WF T) (hn : n < tN T) : behindA T n ≤ tN T := by
  have := behindA_le (T := T) (p := n) (by rw [hW.1.2.2.1]; exact hn)
  rw [hW.1.2.2.1] at this
  exact this
theorem beh_0 (hW : WF T) : behindA T 0 = tN T := by
  have h1 := beh_le hW (n := 0) (by have := hW.1.1; omega)
  rcases Nat.lt_or_eq_of_le h1 with h | h
  · exfalso
    have h2 := behindA_at (T := T) (p := 0) (by rw [hW.1.2.2.1]; exact h)
    have h3 := (up_d hW h (by have := behindA_gt T 0; omega)).2.1
    have h4 : tD T ((tO T).getD 0 0) = 0 := by
      have := io_0 hW
      unfold ioP at this
      rw [this]; exact hW.1.2.2.2.2.1.2.2.1
    unfold dpP ioP at h3
    omega
  · exact h
theorem up_in (hW : WF T) (hn : n < tN T) (h1 : n < q) (h2 : q < behindA T n) : n ≤ upP T q := by
  have hq : q < tN T := Nat.lt_of_lt_of_le h2 (beh_le hW hn)
  have hd := behindA_in h1 h2
  obtain ⟨u1, u2, u3, u4⟩ := up_d hW hq (by omega)
  by_cases h : n ≤ upP T q
  · exact h
  · have := u3 n (by omega) h1
    unfold dpP ioP at this
    omega
theorem beh_in (hW : WF T) (hn : n < tN T) (h1 : n < q) (h2 : q < behindA T n) : behindA T q ≤ behindA T n := by
  have hle := beh_le hW hn
  have hq : q < tN T := Nat.lt_of_lt_of_le h2 hle
  have hqle := beh_le hW hq
  by_cases h : behindA T q ≤ behindA T n
  · exact h
  · have hd := behindA_in h1 h2
    have h3 := behindA_in (T := T) (p := q) (k := behindA T n) h2 (by omega)
    have h4 := behindA_at (T := T) (p := n) (by rw [hW.1.2.2.1]; omega)
    omega
theorem up_beh (hW : WF T) (hq : q < tN T) (h0 : 0 < q) : q < behindA T (upP T q) := by
  obtain ⟨u1, u2, u3, u4⟩ := up_d hW hq h0
  by_cases h : q < behindA T (upP T q)
  · exact h
  · have h1 := behindA_gt T (upP T q)
    have h4 := behindA_at (T := T) (p := upP T q) (by rw [hW.1.2.2.1]; omega)
    by_cases e : behindA T (upP T q) = q
    · rw [e] at h4
      unfold dpP ioP at u2
      omega
    · have := u3 (behindA T (upP T q)) h1 (by omega)
      unfold dpP ioP at u2 this
      omega
theorem up_kid (hW : WF T) (hn : n < tN T) (h0 : 0 < n) : kidOK (nmQ T (upP T n)) (nmQ T n) ∧ nmI (nmQ T n) := by
  have := hW.2.1.2 (ioP T n) (io_lt hW hn) (io_ne hW hn h0)
  unfold nmQ
  rw [(up_d hW hn h0).2.2.2]
  exact ⟨this.2, this.1⟩
theorem up_el (hW : WF T) (hn : n < tN T) (h0 : 0 < n) : nmQ T (upP T n) ≠ 1 := fun z => (up_kid hW hn h0).1.1 (Or.inl z)
theorem nm_0 (hW : WF T) : nmQ T 0 = 0 := by unfold nmQ; rw [io_0 hW]; exact hW.2.1.1
theorem hd_el (hn : nmQ T n ≠ 1) : hdP T rs n = !shw T rs (ioP T n) := if_neg hn
theorem hd_up (hW : WF T) (hn : n < tN T) (h0 : 0 < n) : hdP T rs n = (hdP T rs (upP T n) || (decide (nmQ T n ≠ 1) && decide (vlP T rs 3 n = 110))) := by
  rw [hd_el (up_el hW hn h0), (up_d hW hn h0).2.2.2]
  by_cases hm : nmQ T n = 1
  · unfold hdP
    rw [if_pos hm]
    simp [hm]
  · rw [hd_el hm, shw_s hW (io_lt hW hn) (io_ne hW hn h0)]
    unfold vlP
    simp [hm]
theorem hd_0 (hW : WF T) (hok : ∀ r ∈ rs, okR2 r) : hdP T rs 0 = false := by
  rw [hd_el (by rw [nm_0 hW]; omega), io_0 hW, shw_0 hW, val_root hW hok]
  rfl
theorem bx_0 (hW : WF T) (hok : ∀ r ∈ rs, okR2 r) : bxP T rs 0 = true := by
  unfold bxP vlP
  rw [hd_0 hW hok, nm_0 hW, io_0 hW, val_root hW hok]
  rfl
theorem bx_d (h : bxP T rs n = true) : nmQ T n ≠ 1 ∧ hdP T rs n = false ∧ vlP T rs 3 n = 98 := by
  unfold bxP at h
  simpa using h
theorem bx_i (h1 : nmQ T n ≠ 1) (h2 : hdP T rs n = false) (h3 : vlP T rs 3 n = 98) : bxP T rs n = true := by
  unfold bxP
  simp [h1, h2, h3]
theorem hd_v (hW : WF T) (hn : n < tN T) (h0 : 0 < n) (hm : nmQ T n ≠ 1) (hh : hdP T rs n = false) : vlP T rs 3 n ≠ 110 := by
  rw [hd_up hW hn h0] at hh
  intro z
  simp [hm, z] at hh
theorem hd_p (hW : WF T) (hn : n < tN T) (h0 : 0 < n) (hh : hdP T rs n = false) : hdP T rs (upP T n) = false := by
  rw [hd_up hW hn h0] at hh
  cases h : hdP T rs (upP T n) with
  | false => rfl
  | true => rw [h] at hh; cases hh
/-- what is in a hidden node is hidden -/
theorem hd_in (hW : WF T) (hn : n < tN T) (hh : hdP T rs n = true) : ∀ k q, q ≤ k → n < q → q < behindA T n → hdP T rs q = true := by
  intro k
  induction k with
  | zero => intro q h1 h2; omega
  | succ k ih =>
    intro q h1 h2 h3
    have hq : q < tN T := Nat.lt_of_lt_of_le h3 (beh_le hW hn)
    have h4 := up_in hW hn h2 h3
    have h5 := (up_d hW hq (by omega)).1
    have h6 : hdP T rs (upP T q) = true := by
      by_cases e : upP T q = n
      · rw [e]; exact hh
      · exact ih _ (by omega) (by omega) (by omega)
    rw [hd_up hW hq (by omega), h6]; rfl
theorem hoF_ge (hW : WF T) : ∀ (f n : Nat), n ≤ f → n < tN T → bxP T rs 0 = true → hoF T rs f n = hoF T rs n n := by
  have h00 : upP T 0 = 0 := by
    unfold upP
    rw [io_0 hW, hW.1.2.2.2.2.2]
    have := seat_io hW (n := 0) (by have := hW.1.1; omega)
    rw [io_0 hW] at this
    exact this
  intro f
  induction f with
  | zero => intro n h _ _; rw [show n = 0 by omega]
  | succ f ih =>
    intro n h1 h2 hb
    by_cases h0 : n = 0
    · subst h0
      unfold hoF
      rw [h00, if_pos hb]
    · have hu := (up_d hW h2 (by omega)).1
      obtain ⟨k, rfl⟩ : ∃ k, n = k + 1 := ⟨n - 1, by omega⟩
      unfold hoF
      by_cases hx : bxP T rs (upP T (k + 1)) = true
      · rw [if_pos hx, if_pos hx]
      · rw [if_neg hx, if_neg hx, ih _ (by omega) (by omega) hb]
        have h3 : ∀ f', upP T (k + 1) ≤ f' → f' ≤ f → hoF T rs f' (upP T (k + 1)) = hoF T rs (upP T (k + 1)) (upP T (k + 1)) := by
          intro f' g1 g2
          by_cases e : f' = f
          · rw [e]; exact ih _ (by omega) (by omega) hb
          · -- a smaller measure: again by the same argument
            have gen : ∀ d m, m < tN T → hoF T rs (m + d) m = hoF T rs m m := by
              intro d m
              induction m using Nat.strongRecOn generalizing d with
              | ind m im =>
                intro hm
                by_cases m0 : m = 0
                · subst m0
                  cases d with
                  | zero => rfl
                  | succ d =>
                    rw [show 0 + (d + 1) = d + 1 by omega]
                    unfold hoF
                    rw [h00, if_pos hb]
                · have hum := (up_d hW hm (by omega)).1
                  obtain ⟨j, rfl⟩ : ∃ j, m = j + 1 := ⟨m - 1, by omega⟩
                  rw [show j + 1 + d = (j + d) + 1 by omega]
                  unfold hoF
                  by_cases hy : bxP T rs (upP T (j + 1)) = true
                  · rw [if_pos hy, if_pos hy]
                  · rw [if_neg hy, if_neg hy]
                    have i1 := im (upP T (j + 1)) hum (j + d - upP T (j + 1)) (by omega)
                    have i2 := im (upP T (j + 1)) hum (j - upP T (j + 1)) (by omega)
                    rw [show upP T (j + 1) + (j + d - upP T (j + 1)) = j + d by omega] at i1
                    rw [show upP T (j + 1) + (j - upP T (j + 1)) = j by omega] at i2
                    rw [i1, i2]
            have := gen (f' - upP T (k + 1)) (upP T (k + 1)) (by omega)
            rw [show upP T (k + 1) + (f' - upP T (k + 1)) = f' by omega] at this
            exact this
        exact (h3 k (by omega) (by omega)).symm
theorem ho_s (hW : WF T) (hok : ∀ r ∈ rs, okR2 r) (hn : n < tN T) (h0 : 0 < n) : hoP T rs n = if bxP T rs (upP T n) then upP T n else hoP T rs (upP T n) := by
  have hu := (up_d hW hn h0).1
  have hb := bx_0 hW hok
  obtain ⟨k, rfl⟩ : ∃ k, n = k + 1 := ⟨n - 1, by omega⟩
  show hoF T rs (k + 1) (k + 1) = _
  unfold hoF
  rw [hoF_ge hW k _ (by omega) (by omega) hb]
  rfl
theorem ho_in (hW : WF T) (hok : ∀ r ∈ rs, okR2 r) : ∀ n, n < tN T → 0 < n → hoP T rs n < n ∧ bxP T rs (hoP T rs n) = true ∧ n < behindA T (hoP T rs n) := by
  intro n
  induction n using Nat.strongRecOn with
  | ind n ih =>
    intro hn h0
    have hu := (up_d hW hn h0).1
    have hub := up_beh hW hn h0
    rw [ho_s hW hok hn h0]
    by_cases hb : bxP T rs (upP T n) = true
    · rw [if_pos hb]; exact ⟨hu, hb, hub⟩
    · rw [if_neg hb]
      have hu0 : upP T n ≠ 0 := fun z => hb (by rw [z]; exact bx_0 hW hok)
      obtain ⟨i1, i2, i3⟩ := ih _ hu (by omega) (by omega)
      have := beh_in hW (n := hoP T rs (upP T n)) (q := upP T n) (by omega) i1 i3
      exact ⟨by omega, i2, by omega⟩
/-- a box around a node is not further in than the nearest -/
theorem ho_near (hW : WF T) (hok : ∀ r ∈ rs, okR2 r) (hb : bxP T rs b = true) (hbn : b < tN T) : ∀ n, b < n → n < behindA T b → b ≤ hoP T rs n := by
  intro n
  induction n using Nat.strongRecOn with
  | ind n ih =>
    intro h1 h2
    have hn : n < tN T := Nat.lt_of_lt_of_le h2 (beh_le hW hbn)
    have hu := (up_d hW hn (by omega)).1
    have hin := up_in hW hbn h1 h2
    rw [ho_s hW hok hn (by omega)]
    by_cases hx : bxP T rs (upP T n) = true
    · rw [if_pos hx]; exact hin
    · rw [if_neg hx]
      have hne : upP T n ≠ b := fun z => hx (by rw [z]; exact hb)
      exact ih _ hu (by omega) (by omega)
/-- under a row only its cells are held -/
theorem ho_row (hW : WF T) (hok : ∀ r ∈ rs, okR2 r) (hrs : ∀ r ∈ rs, okRV r) : ∀ n, n < tN T → 0 < n → hdP T rs n = false → nmQ T (hoP T rs n) = 114 → upP T n = hoP T rs n ∧ bxP T rs n = true ∧ nmQ T n = 99 := by
  intro n
  induction n using Nat.strongRecOn with
  | ind n ih =>
    intro hn h0 hh hr
    have hu := (up_d hW hn h0).1
    have hs := ho_s hW hok hn h0
    by_cases hx : bxP T rs (upP T n) = true
    · rw [if_pos hx] at hs
      rw [hs] at hr
      have hk := up_kid hW hn h0
      have h99 := hk.1.2.2 hr
      have hv := val_ok hW hrs 3 _ (ioP T n) (io_lt hW hn) rfl
      refine ⟨hs.symm, bx_i (by omega) hh ?_, h99⟩
      have h110 := hd_v hW hn h0 (by omega) hh
      unfold okX okV at hv
      unfold vlP at h110 ⊢
      have h105 := hv.2 rfl (by unfold nmQ at h99; rw [h99]; rfl)
      rcases hv.1 with z | z
      · omega
      · have := z.2.1 rfl; omega
    · rw [if_neg hx] at hs
      rw [hs] at hr
      have hu0 : upP T n ≠ 0 := fun z => hx (by rw [z]; exact bx_0 hW hok)
      exact (hx (ih _ hu (by omega) (by omega) (hd_p hW hn h0 hh) hr).2.1).elim
end PP
