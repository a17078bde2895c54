/-! children and their blocks, one behind the other -/
set_option maxRecDepth 100000
/-- a row of nodes whose blocks stand from q to e -/
def KW (T : TS) : List Nat → Nat → Nat → Prop
  | [], q, e => q = e
  | x :: L, q, e => x < tN T ∧ seat T x = q ∧ q < behindA T q ∧ behindA T q ≤ e ∧ KW T L (behindA T q) e
section KW
variable {T : TS}
theorem tw_app {f : Nat → Bool} {X R : List Nat} (hX : ∀ x ∈ X, f x = true) (hR : ∀ c R', R = c :: R' → f c = false) : (X ++ R).takeWhile f = X := by
  induction X with
  | nil =>
    cases R with
    | nil => rfl
    | cons c R => rw [List.nil_append, List.takeWhile_cons, if_neg (by rw [hR c R rfl]; simp)]
  | cons x X ih => rw [List.cons_append, List.takeWhile_cons, if_pos (hX x (by simp)), ih (fun y hy => hX y (by simp [hy]))]
theorem behind_cut (hW : WF T) {A X R : List Nat} {x : Nat} (hO : tO T = A ++ x :: (X ++ R)) (hX : ∀ y ∈ X, tD T x < tD T y) (hR : hdLe (tD T) (tD T x) R) : seat T x = A.length ∧ behindA T A.length = A.length + 1 + X.length := by
  have hnd := hW.1.2.2.2.2.1.1
  have hlt : A.length < (tO T).length := by rw [hO]; simp
  have hg : (tO T).getD A.length 0 = x := by rw [hO]; simp [List.getD]
  refine ⟨?_, ?_⟩
  · rw [← hg]; exact hW.seatD hlt
  · unfold behindA
    have hd : (tO T).drop (A.length + 1) = X ++ R := by rw [hO]; simp
    rw [hg, hd, tw_app (fun y hy => by simpa using hX y hy) (fun c R' e => by have := hR c R' e; simp; omega)]
theorem kw_all (hW : WF T) {i : Nat} (hi : i < tN T) : KW T (kids T i) (seat T i + 1) (behindA T (seat T i)) := by
  have hwo := hW.1.2.2.2.2.1
  obtain ⟨A, S, C, hO, hA, hB, hS, hC⟩ := cutT hwo.1 (hW.full hi)
  have hwo' := hwo
  rw [hO] at hwo'
  -- kids are those in S
  have hk : kids T i = kd (tP T) S i := by
    rw [kids_kd, hO, kd_app]
    have hA0 : kd (tP T) A i = [] := kd_nil (fun j hj j0 z => hwo'.out_mem hS hC (Or.inl hj) j0 (by rw [z]; simp))
    have hC0 : kd (tP T) C i = [] := kd_nil (fun j hj j0 z => hwo'.out_mem hS hC (Or.inr hj) j0 (by rw [z]; simp))
    rw [hA0, List.nil_append]
    by_cases h0 : i = 0
    · have : kd (tP T) (i :: (S ++ C)) i = kd (tP T) (S ++ C) i := by
        unfold kd
        rw [List.filter_cons, if_neg (by simp [h0])]
      rw [this, kd_app, hC0, List.append_nil]
    · rw [kd_cons _ h0, kd_app, hC0, List.append_nil, if_neg, List.nil_append]
      intro z
      have hd := (hwo.dpos (hW.full hi) h0).2.2
      rw [z] at hd; omega
  rw [hk, hB, ← hA]
  have gen : ∀ (n : Nat) (S1 S2 : List Nat), S2.length ≤ n → S = S1 ++ S2 → (∀ x S3, S2 = x :: S3 → tD T x = tD T i + 1) → KW T (kd (tP T) S2 i) (A.length + 1 + S1.length) (A.length + 1 + S.length) := by
    intro n
    induction n with
    | zero =>
      intro S1 S2 hl hS12 _
      have h2 : S2 = [] := List.eq_nil_of_length_eq_zero (by omega)
      rw [h2, hS12, h2]
      show _ = _
      simp
    | succ n ih =>
      intro S1 S2 hl hS12 hd
      cases S2 with
      | nil =>
        rw [hS12]
        show _ = _
        simp
      | cons x S3 =>
        have hdx := hd x S3 rfl
        have hxS : x ∈ S := by rw [hS12]; simp
        have hx0 : x ≠ 0 := fun z => by have := hS x hxS; rw [z, hwo.2.2.1] at this; omega
        -- x is a child
        have hpx : tP T x = i := by
          rcases hwo'.in_block hS hS12 with ⟨q1, _⟩ | ⟨G1, G2, q1, q2, _⟩
          · exact q1
          · have hm : tP T x ∈ S := by rw [hS12, q1]; simp
            have := hS _ hm
            omega
        have hxn : x < tN T := hW.1.2.2.2.1 x (by rw [hO]; simp [hxS])
        -- its block
        have hsplit := List.takeWhile_append_dropWhile (p := fun y => decide (tD T x < tD T y)) (l := S3)
        have hXd : ∀ y ∈ S3.takeWhile (fun y => decide (tD T x < tD T y)), tD T x < tD T y := fun y hy => by simpa using mem_tw _ _ hy
        have hRd : ∀ c R', S3.dropWhile (fun y => decide (tD T x < tD T y)) = c :: R' → tD T c ≤ tD T x := fun c R' e => by
          have hne : S3.dropWhile (fun y => decide (tD T x < tD T y)) ≠ [] := by rw [e]; simp
          have h2 := List.head_dropWhile_not (fun y => decide (tD T x < tD T y)) hne
          simp only [e, List.head_cons] at h2
          simpa using h2
        generalize S3.takeWhile (fun y => decide (tD T x < tD T y)) = X at *
        generalize S3.dropWhile (fun y => decide (tD T x < tD T y)) = R at *
        have hO2 : tO T = (A ++ i :: S1) ++ x :: (X ++ (R ++ C)) := by rw [hO, hS12, ← hsplit]; simp
        have hRC : hdLe (tD T) (tD T x) (R ++ C) := fun c R' e => by
          cases R with
          | nil => have := hC c R' e; omega
          | cons r R => cases e; exact hRd c R rfl
        obtain ⟨b1, b2⟩ := behind_cut hW hO2 hXd hRC
        have hAl : (A ++ i :: S1).length = A.length + 1 + S1.length := by simp; omega
        rw [hAl] at b1 b2
        have hwo2 := hwo
        rw [hO2] at hwo2
        -- the children in the rest
        have hkd : kd (tP T) (x :: S3) i = x :: kd (tP T) R i := by
          rw [kd_cons _ hx0, if_pos hpx, ← hsplit, kd_app]
          have : kd (tP T) X i = [] := kd_nil (fun j hj j0 z => by
            have := hwo2.in_mem hXd hj
            rw [z] at this
            rcases List.mem_cons.mp this with y | y
            · rw [y] at hdx; omega
            · have := hXd i y; omega)
          rw [this]; rfl
        rw [hkd]
        have hS12' : S = (S1 ++ x :: X) ++ R := by rw [hS12, ← hsplit]; simp
        have hrec := ih (S1 ++ x :: X) R (by have := congrArg List.length hsplit; simp at this hl; omega) hS12' (fun c R' e => by
          have h1 := hRd c R' e
          have h2 := hS c (by rw [hS12', e]; simp)
          omega)
        have hl2 : A.length + 1 + (S1 ++ x :: X).length = A.length + 1 + S1.length + 1 + X.length := by simp; omega
        rw [hl2] at hrec
        have hSl : S.length = S1.length + 1 + X.length + R.length := by rw [hS12']; simp; omega
        refine ⟨hxn, b1, by omega, by omega, ?_⟩
        rw [b2]
        exact hrec
  have g0 := gen S.length [] S (Nat.le_refl _) rfl (fun x S3 e => by
    rcases hwo'.in_block hS (S1 := []) (S2 := S3) (x := x) (by rw [e]; rfl) with ⟨_, q2, _⟩ | ⟨G1, G2, q1, _⟩
    · exact q2
    · simp at q1)
  simpa using g0
end KW
