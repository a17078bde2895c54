/-! the layout, plainly: how big things get -/
set_option maxRecDepth 100000
def isP (T : TS) : Nat → Nat
  | 0 => 0
  | s + 1 => isP T s + (itQ T s).length
def bB (T : TS) (s : Nat) : Int := 400 * (s : Int) + 9 * (isP T s : Int)
section LB
variable {T : TS} {rs : List RL} {n q p k j r : Nat} {v : Int} {Wd Lf tl tp : Nat → Int}
theorem isP_le {a b : Nat} (h : a ≤ b) : isP T a ≤ isP T b := by
  obtain ⟨d, rfl⟩ : ∃ d, b = a + d := ⟨b - a, by omega⟩
  clear h
  induction d with
  | zero => exact Nat.le_refl _
  | succ d ih => exact Nat.le_trans ih (Nat.le_add_right _ _)
theorem bB_le {a b : Nat} (h : a ≤ b) : bB T a + 400 * ((b : Int) - a) ≤ bB T b := by
  have := isP_le (T := T) h
  unfold bB
  omega
theorem bB_s (q : Nat) : bB T (q + 1) = bB T q + 400 + 9 * ((itQ T q).length : Int) := by
  show 400 * ((q + 1 : Nat) : Int) + 9 * ((isP T q + (itQ T q).length : Nat) : Int) = 400 * (q : Int) + 9 * (isP T q : Int) + 400 + 9 * ((itQ T q).length : Int)
  omega
theorem vl_rng (hW : WF T) (hrs : ∀ r ∈ rs, okRV r) (hn : n < tN T) : (0 ≤ vlP T rs 0 n ∧ vlP T rs 0 n ≤ 9) ∧ (0 ≤ vlP T rs 1 n ∧ vlP T rs 1 n ≤ 9) ∧ (1 ≤ vlP T rs 2 n ∧ vlP T rs 2 n ≤ 9) ∧ (0 ≤ vlP T rs 4 n ∧ vlP T rs 4 n ≤ 99) ∧ (0 ≤ vlP T rs 5 n ∧ vlP T rs 5 n ≤ 99) ∧ (-1 ≤ vlP T rs 6 n ∧ vlP T rs 6 n ≤ 99) ∧ (vlP T rs 3 n = 98 ∨ vlP T rs 3 n = 105 ∨ vlP T rs 3 n = 110) := by
  have h : ∀ k, ((k = 6 ∧ vlP T rs k n = -1) ∨ okV k (vlP T rs k n)) := fun k => (val_ok hW hrs k _ (ioP T n) (io_lt hW hn) rfl).1
  refine ⟨?_, ?_, ?_, ?_, ?_, ?_, ?_⟩
  · rcases h 0 with z | z
    · omega
    · exact ⟨z.1, z.2.2.2.1 (by omega)⟩
  · rcases h 1 with z | z
    · omega
    · exact ⟨z.1, z.2.2.2.1 (by omega)⟩
  · rcases h 2 with z | z
    · omega
    · exact z.2.2.1 rfl
  · rcases h 4 with z | z
    · omega
    · exact ⟨z.1, z.2.2.2.2 (by omega)⟩
  · rcases h 5 with z | z
    · omega
    · exact ⟨z.1, z.2.2.2.2 (by omega)⟩
  · rcases h 6 with z | z
    · omega
    · have z1 := z.1
      have z2 := z.2.2.2.2 (by omega)
      omega
  · rcases h 3 with z | z
    · omega
    · exact z.2.1 rfl
theorem run_len (k : Nat) : (hsP T rs Wd tl n (n + 1 + k)).2.2.2.1.length + isP T (n + 1) ≤ isP T (n + 1 + k) := by
  induction k with
  | zero => rw [show n + 1 + 0 = n + 1 by omega, hs_0]; simp
  | succ k ih =>
    rw [show n + 1 + (k + 1) = (n + 1 + k) + 1 by omega, hs_s (by omega)]
    have hs : isP T (n + 1 + k + 1) = isP T (n + 1 + k) + (itQ T (n + 1 + k)).length := rfl
    unfold hst
    split
    · split
      · show ([] : List IT).length + _ ≤ _
        have := isP_le (T := T) (a := n + 1) (b := n + 1 + k + 1) (by omega)
        simp; omega
      · split
        · omega
        · show (_ ++ _ : List IT).length + _ ≤ _
          rw [List.length_append]
          omega
    · omega
theorem run_ok (hW : WF T) (hrs : ∀ r ∈ rs, okRV r) (hI : isP T (tN T) ≤ 183) (hq : n < q) (hqn : q ≤ tN T) : OKL (rkL T rs (hsP T rs Wd tl n q)) := by
  have hl := run_len (T := T) (rs := rs) (Wd := Wd) (tl := tl) (n := n) (q - (n + 1))
  rw [show n + 1 + (q - (n + 1)) = q by omega] at hl
  have hle := isP_le (T := T) hqn
  refine ⟨by unfold rkL; rw [List.length_map]; omega, fun x hx => ?_⟩
  unfold rkL at hx
  obtain ⟨y, hy, rfl⟩ := List.mem_map.mp hx
  obtain ⟨j, hj, e⟩ := List.getElem_of_mem hy
  obtain ⟨a1, a2, a3, a4, a5, a6, a7⟩ := RI.at (T := T) (rs := rs) (Wd := Wd) (tl := tl) hq j hj
  rw [gD hj, e] at a1 a2 a7
  obtain ⟨p, o⟩ := y
  cases o with
  | none =>
    have := (vl_rng hW hrs (n := p) (by have : p < q := a2; omega)).2.2.1
    exact ⟨by show 0 ≤ 2; omega, this⟩
  | some k =>
    have hp : p < tN T := by have : p < q := a2; omega
    have h0 : 0 < p := by have : n < p := a1; omega
    have hu := (up_d hW hp h0).1
    have := (vl_rng hW hrs (n := upP T p) (by omega)).2.2.1
    refine ⟨?_, this⟩
    show (if _ then 1 else 2) ≤ 2
    split <;> omega
theorem rkL_len (s : HS) : (rkL T rs s).length = s.2.2.2.1.length := by unfold rkL; rw [List.length_map]
theorem flP_b {s : HS} {W : Int} (h : OKL (rkL T rs s)) (h1 : 0 ≤ s.1) (h2 : 0 ≤ s.2.1) (h3 : s.2.1 ≤ 99) : 0 ≤ (flP T rs W s).1 ∧ 0 ≤ (flP T rs W s).2.1 ∧ (flP T rs W s).2.1 ≤ 99 ∧ (flP T rs W s).1 + (flP T rs W s).2.1 ≤ s.1 + s.2.1 + 9 * (s.2.2.2.1.length : Int) ∧ s.1 + s.2.1 ≤ (flP T rs W s).1 + (flP T rs W s).2.1 := by
  have hb := FL_b (W := W) h
  rw [rkL_len] at hb
  unfold flP
  cases hasL (rkL T rs s) with
  | false =>
    show 0 ≤ s.1 ∧ 0 ≤ s.2.1 ∧ s.2.1 ≤ 99 ∧ s.1 + s.2.1 ≤ _ ∧ s.1 + s.2.1 ≤ s.1 + s.2.1
    omega
  | true =>
    show 0 ≤ s.1 + s.2.1 + (FL W (rkL T rs s)).1 ∧ (0 : Int) ≤ 0 ∧ (0 : Int) ≤ 99 ∧ s.1 + s.2.1 + (FL W (rkL T rs s)).1 + 0 ≤ _ ∧ s.1 + s.2.1 ≤ s.1 + s.2.1 + (FL W (rkL T rs s)).1 + 0
    omega
def HB (T : TS) (rs : List RL) (n r : Nat) (s : HS) : Prop := 0 ≤ s.1 ∧ 0 ≤ s.2.1 ∧ s.2.1 ≤ 99 ∧ 0 ≤ s.2.2.1 ∧ ∃ r', n + 1 ≤ r' ∧ r' ≤ behindA T n ∧ s.1 + s.2.1 + 9 * (s.2.2.2.1.length : Int) ≤ bB T r' - bB T (n + 1) ∧ s.2.2.1 ≤ bB T r' - bB T (n + 1) ∧ ∀ q, r ≤ q → q < behindA T n → hoP T rs q = n → r' ≤ q
theorem tpS_b {row : Bool} {m : Int} {s : HS} (hm : 0 ≤ m) (h1 : 0 ≤ s.1) (h2 : 0 ≤ s.2.1) : 0 ≤ tpS row m s ∧ tpS row m s ≤ s.1 + s.2.1 + m := by
  unfold tpS
  split <;> omega
theorem HB.all (hW : WF T) (hok : ∀ r ∈ rs, okR2 r) (hrs : ∀ r ∈ rs, okRV r) (hI : isP T (tN T) ≤ 183) (hn : n < tN T) (htl : ∀ q, n < q → q < tN T → 0 ≤ tl q ∧ tl q ≤ 199 + bB T (behindA T q) - bB T (q + 1)) : ∀ k, n + 1 + k ≤ behindA T n → HB T rs n (n + 1 + k) (hsP T rs Wd tl n (n + 1 + k)) := by
  intro k
  induction k with
  | zero =>
    intro _
    rw [show n + 1 + 0 = n + 1 by omega, hs_0]
    have := behindA_gt T n
    refine ⟨by show (0 : Int) ≤ 0; omega, by show (0 : Int) ≤ 0; omega, by show (0 : Int) ≤ 99; omega, by show (0 : Int) ≤ 0; omega, n + 1, by omega, by omega, ?_, ?_, fun q h1 _ _ => h1⟩
    · show (0 : Int) + 0 + 9 * ((([] : List IT).length : Nat) : Int) ≤ _; simp
    · show (0 : Int) ≤ _; omega
  | succ k ih =>
    intro hk
    obtain ⟨i1, i2, i3, i4, r', i5, i6, i7, i8, i9⟩ := ih (by omega)
    have hble := beh_le hW hn
    have hqn : n + 1 + k < tN T := by omega
    have hO := run_ok (Wd := Wd) (tl := tl) hW hrs hI (n := n) (q := n + 1 + k) (by omega) (by omega)
    rw [show n + 1 + (k + 1) = (n + 1 + k) + 1 by omega, hs_s (by omega)]
    generalize hsP T rs Wd tl n (n + 1 + k) = s at i1 i2 i3 i4 i7 i8 hO ⊢
    have same : HB T rs n (n + 1 + k + 1) s := ⟨i1, i2, i3, i4, r', i5, i6, i7, i8, fun q h1 => i9 q (by omega)⟩
    by_cases h1 : hoP T rs (n + 1 + k) = n
    · have hr := i9 (n + 1 + k) (Nat.le_refl _) (by omega) h1
      cases hb : bxP T rs (n + 1 + k) with
      | true =>
        rw [hst_bx h1 hb]
        have hm := (vl_rng hW hrs hqn).2.2.2.1
        have ht := htl (n + 1 + k) (by omega) hqn
        obtain ⟨f1, f2, f3, f4, f5⟩ := flP_b (W := Wd n) hO i1 i2 i3
        have hf3 : (flP T rs (Wd n) s).2.2.1 = s.2.2.1 := rfl
        have hp := tpS_b (row := rwP T n) hm.1 f1 f2
        generalize flP T rs (Wd n) s = f at f1 f2 f3 f4 f5 hf3 hp ⊢
        have hbb := behindA_gt T (n + 1 + k)
        have hb1 := bB_le (T := T) (a := n + 1 + k) (b := n + 1 + k + 1) (by omega)
        have hb2 := bB_le (T := T) (a := r') (b := n + 1 + k) hr
        have hb3 := bB_le (T := T) (a := n + 1) (b := n + 1 + k) (by omega)
        have hb4 := bB_le (T := T) (a := n + 1 + k + 1) (b := behindA T (n + 1 + k)) hbb
        push_cast at hb1 hb2 hb3 hb4
        refine ⟨?_, hm.1, hm.2, ?_, behindA T (n + 1 + k), by omega, beh_in hW hn (by omega) (by omega), ?_, ?_, fun q g1 g2 g3 => ?_⟩
        · show 0 ≤ tpS _ _ f + tl _; omega
        · show 0 ≤ max f.2.2.1 _; omega
        · show tpS _ _ f + tl (n + 1 + k) + vlP T rs 4 (n + 1 + k) + 9 * ((([] : List IT).length : Nat) : Int) ≤ _
          simp only [List.length_nil]
          push_cast
          omega
        · show max f.2.2.1 (2 * vlP T rs 4 (n + 1 + k) + tl (n + 1 + k)) ≤ _
          omega
        · by_cases z : behindA T (n + 1 + k) ≤ q
          · exact z
          · have := ho_near hW hok hb hqn q (by omega) (by omega)
            omega
      | false =>
        cases hh : hdP T rs (n + 1 + k) with
        | true => rw [hst_hd hh]; exact same
        | false =>
          rw [hst_ad h1 hb hh]
          have hb2 := bB_le (T := T) (a := r') (b := n + 1 + k) hr
          have hb3 := bB_s (T := T) (n + 1 + k)
          refine ⟨i1, i2, i3, i4, n + 1 + k + 1, by omega, by omega, ?_, ?_, fun q g1 _ _ => g1⟩
          · show s.1 + s.2.1 + 9 * (((s.2.2.2.1 ++ itQ T (n + 1 + k)).length : Nat) : Int) ≤ _
            rw [List.length_append]
            push_cast at hb2 ⊢
            omega
          · show s.2.2.1 ≤ _
            push_cast at hb2
            omega
    · rw [hst_no h1]; exact same
theorem HB.at (hW : WF T) (hok : ∀ r ∈ rs, okR2 r) (hrs : ∀ r ∈ rs, okRV r) (hI : isP T (tN T) ≤ 183) (hn : n < tN T) (htl : ∀ q, n < q → q < tN T → 0 ≤ tl q ∧ tl q ≤ 199 + bB T (behindA T q) - bB T (q + 1)) (h1 : n < q) (h2 : q ≤ behindA T n) : HB T rs n q (hsP T rs Wd tl n q) := by
  have := HB.all (Wd := Wd) hW hok hrs hI hn htl (q - (n + 1)) (by omega)
  rw [show n + 1 + (q - (n + 1)) = q by omega] at this
  exact this
theorem tl_b (hW : WF T) (hok : ∀ r ∈ rs, okR2 r) (hrs : ∀ r ∈ rs, okRV r) (hI : isP T (tN T) ≤ 183) (Q : LQ T rs v Wd Lf tl tp) : ∀ n, n < tN T → 0 ≤ tl n ∧ tl n ≤ 199 + bB T (behindA T n) - bB T (n + 1) := by
  have key : ∀ d n, n < tN T → tN T ≤ n + d → 0 ≤ tl n ∧ tl n ≤ 199 + bB T (behindA T n) - bB T (n + 1) := by
    intro d
    induction d with
    | zero => intro n h1 h2; omega
    | succ d ih =>
      intro n hn hd
      have htl : ∀ q, n < q → q < tN T → 0 ≤ tl q ∧ tl q ≤ 199 + bB T (behindA T q) - bB T (q + 1) := fun q h1 h2 => ih q h2 (by omega)
      have hgt := behindA_gt T n
      have hle := beh_le hW hn
      obtain ⟨i1, i2, i3, i4, r', i5, i6, i7, i8, i9⟩ := HB.at (Wd := Wd) hW hok hrs hI hn htl hgt (Nat.le_refl _)
      have hO := run_ok (Wd := Wd) (tl := tl) hW hrs hI hgt hle
      have hm := (vl_rng hW hrs hn).2.2.2.2.1
      rw [Q.2.2 n hn]
      unfold heP
      generalize hsP T rs Wd tl n (behindA T n) = s at i1 i2 i3 i4 i7 i8 hO ⊢
      obtain ⟨f1, f2, f3, f4, f5⟩ := flP_b (W := Wd n) hO i1 i2 i3
      have hf3 : (flP T rs (Wd n) s).2.2.1 = s.2.2.1 := rfl
      generalize flP T rs (Wd n) s = f at f1 f2 f3 f4 f5 hf3 ⊢
      have hb := bB_le (T := T) i6
      have hb1 := bB_le (T := T) (a := n + 1) (b := behindA T n) hgt
      push_cast at hb1
      unfold tlE
      split
      · omega
      · split <;> omega
  intro n hn
  exact key (tN T) n hn (by omega)
theorem tp_b (hW : WF T) (hok : ∀ r ∈ rs, okR2 r) (hrs : ∀ r ∈ rs, okRV r) (hI : isP T (tN T) ≤ 183) (Q : LQ T rs v Wd Lf tl tp) : ∀ n, n < tN T → 0 ≤ tp n ∧ tp n ≤ bB T n := by
  intro n
  induction n using Nat.strongRecOn with
  | ind n ih =>
    intro hn
    by_cases h0 : n = 0
    · subst h0
      rw [Q.1.2.2]
      unfold bB
      omega
    · obtain ⟨o1, o2, o3⟩ := ho_in hW hok n hn (by omega)
      rw [(Q.2.1 n hn (by omega)).2.2]
      have hh := ih _ o1 (by omega)
      obtain ⟨i1, i2, i3, i4, r', i5, i6, i7, i8, i9⟩ := HB.at (Wd := Wd) hW hok hrs hI (n := hoP T rs n) (q := n) (by omega) (fun q _ h2 => tl_b hW hok hrs hI Q q h2) o1 (by omega)
      have hr := i9 n (Nat.le_refl _) o3 rfl
      have hO := run_ok (Wd := Wd) (tl := tl) hW hrs hI o1 (by omega)
      have hm := (vl_rng hW hrs hn).2.2.2.1
      have hp := (vl_rng hW hrs (n := hoP T rs n) (by omega)).2.2.2.2.1
      unfold rtE
      generalize hsP T rs Wd tl (hoP T rs n) n = s at i1 i2 i3 i4 i7 i8 hO ⊢
      obtain ⟨f1, f2, f3, f4, f5⟩ := flP_b (W := Wd (hoP T rs n)) hO i1 i2 i3
      have ht := tpS_b (row := rwP T (hoP T rs n)) hm.1 f1 f2
      have hb := bB_le (T := T) hr
      have hb1 := bB_le (T := T) (a := hoP T rs n) (b := hoP T rs n + 1) (by omega)
      push_cast at hb1
      omega
theorem cl_le {h a b : Nat} (hab : a ≤ b) : clP T rs h a ≤ clP T rs h b := by
  unfold clP
  obtain ⟨d, rfl⟩ : ∃ d, b = a + d := ⟨b - a, by omega⟩
  clear hab
  induction d with
  | zero => exact Nat.le_refl _
  | succ d ih =>
    rw [show a + (d + 1) = (a + d) + 1 by omega, List.range_succ, List.filter_append, List.length_append]
    omega
theorem div_b {w : Int} (hw : 0 ≤ w) (c : Nat) : 0 ≤ w / (c : Int) ∧ w / (c : Int) ≤ w ∧ ∀ a : Nat, a ≤ c → 0 ≤ (a : Int) * (w / (c : Int)) ∧ (a : Int) * (w / (c : Int)) ≤ w := by
  have h1 : 0 ≤ w / (c : Int) := Int.ediv_nonneg hw (by omega)
  have h2 : (c : Int) * (w / (c : Int)) ≤ w := by
    by_cases z : c = 0
    · rw [z]; simp; exact hw
    · rw [Int.mul_comm]; exact Int.ediv_mul_le w (by omega)
  refine ⟨h1, Int.ediv_le_self _ hw, fun a ha => ⟨Int.mul_nonneg (by omega) h1, ?_⟩⟩
  have : (a : Int) * (w / (c : Int)) ≤ (c : Int) * (w / (c : Int)) := Int.mul_le_mul_of_nonneg_right (by omega) h1
  omega
theorem wd_b (hW : WF T) (hok : ∀ r ∈ rs, okR2 r) (hrs : ∀ r ∈ rs, okRV r) (Q : LQ T rs v Wd Lf tl tp) (hv : 1 ≤ v ∧ v ≤ 64) : ∀ n, n < tN T → (0 ≤ Wd n ∧ Wd n ≤ 99) ∧ 0 ≤ Lf n ∧ Lf n ≤ 300 * (n : Int) := by
  intro n
  induction n using Nat.strongRecOn with
  | ind n ih =>
    intro hn
    by_cases h0 : n = 0
    · subst h0
      rw [Q.1.1, Q.1.2.1]
      omega
    · obtain ⟨o1, o2, o3⟩ := ho_in hW hok n hn (by omega)
      obtain ⟨q1, q2, q3⟩ := Q.2.1 n hn (by omega)
      have hh := ih _ o1 (by omega)
      have r1 := vl_rng hW hrs hn
      have r2 := vl_rng hW hrs (n := hoP T rs n) (by omega)
      obtain ⟨d1, d2, d3⟩ := div_b hh.1.1 (clP T rs (hoP T rs n) (tN T))
      have d4 := d3 (clP T rs (hoP T rs n) n) (cl_le (by omega))
      rw [q1, q2]
      have hav : 0 ≤ avE T rs n (Wd (hoP T rs n)) ∧ avE T rs n (Wd (hoP T rs n)) ≤ 99 := by
        unfold avE
        split <;> omega
      constructor
      · unfold wdE
        split <;> omega
      · unfold lfE
        split <;> omega
end LB
