/-! the reference: heights; a run ends -/
set_option maxRecDepth 100000
/-- what a box's heights leave alone -/
def FHt (M M' : MS) : Prop := (∀ k, k ∉ [39, 52, 53, 54, 55, 56, 57] → M'.1 k = M.1 k) ∧ ∀ k, k ∉ [46, 47, 48, 49, 50, 51] → M'.2 k = M.2 k
/-- a character has been put: part j of the run of n that ends at q -/
def ChQ (M : MS) (T : TS) (rs : List RL) (C : List (Int × Nat)) (Wd Lf tl : Nat → Int) (n q j p k : Nat) : Prop := M.2 47 (cIx T C p k) = 1 ∧ M.2 48 (cIx T C p k) = Lf n + vlP T rs 5 n + (flF T rs Wd tl n q).2.2.1 j ∧ M.2 50 (cIx T C p k) = (n : Int) ∧ M.2 49 (cIx T C p k) = flE T rs Wd tl n q + (flF T rs Wd tl n q).2.2.2 j
/-- a character that n's runs put -/
def chN (T : TS) (rs : List RL) (n p k : Nat) : Prop := n < p ∧ hoP T rs p = n ∧ hdP T rs p = false ∧ nmQ T p = 1 ∧ (txP T p).getD k 0 ≠ 32
/-- while n is filled, at r: all but the run -/
def HC (M0 M : MS) (T : TS) (rs : List RL) (C : List (Int × Nat)) (Wd Lf tl : Nat → Int) (n r : Nat) (R : List IT) : Prop :=
  FHt M0 M ∧ ((∀ q, n < q → q < r → hoP T rs q = n → bxP T rs q = true → M.2 46 q = rtE T rs Wd tl q) ∧ ∀ q, ¬ (n < q ∧ q < r ∧ hoP T rs q = n ∧ bxP T rs q = true) → M.2 46 q = M0.2 46 q) ∧
  (∀ p k, p < r → k < (txP T p).length → chN T rs n p k → (p, some k) ∉ R → ∃ q j, Cov T rs Wd tl n q j p k ∧ ChQ M T rs C Wd Lf tl n q j p k) ∧
  ∀ p k, p < tN T → k < (txP T p).length → ¬ chN T rs n p k → M.2 47 (cIx T C p k) = M0.2 47 (cIx T C p k) ∧ M.2 48 (cIx T C p k) = M0.2 48 (cIx T C p k) ∧ M.2 49 (cIx T C p k) = M0.2 49 (cIx T C p k) ∧ M.2 50 (cIx T C p k) = M0.2 50 (cIx T C p k)
section MH
variable {M M' M0 M1 : MS} {T : TS} {rs : List RL} {C : List (Int × Nat)} {n p k q r j : Nat} {Wd Lf tl tp : Nat → Int} {v : Int} {R : List IT}
theorem FHt.refl (M : MS) : FHt M M := ⟨fun _ _ => rfl, fun _ _ => rfl⟩
theorem FHt.trans (A : FHt M M1) (B : FHt M1 M') : FHt M M' := ⟨fun k hk => (B.1 k hk).trans (A.1 k hk), fun k hk => (B.2 k hk).trans (A.2 k hk)⟩
theorem FHt.m (A : FHt M M') : FLm M M' := ⟨fun k hk => A.1 k (fun z => hk (by simp at z ⊢; omega)), fun k hk => A.2 k (fun z => by simp at z; omega)⟩
theorem FLn.h (A : FLn M M') : FHt M M' := ⟨fun k hk => A.1 k (fun z => hk (by simp at z ⊢; omega)), fun k hk => A.2 k (fun z => hk (by simp at z ⊢; omega))⟩
theorem FRn.h (A : FRn M M') : FHt M M' := ⟨fun k hk => A.1 k (fun z => hk (by rw [z]; simp)), fun k hk => A.2 k (fun z => hk (by rw [z]; simp))⟩
theorem FHt.wsI (A : FHt M M1) {k : Nat} (hk : k ∈ [39, 52, 53, 54, 55, 56, 57]) (v : Int) : FHt M (sI M1 k v) := ⟨fun j hj => by rw [sI_n _ _ _ _ (fun e => hj (by rw [e]; exact hk))]; exact A.1 j hj, A.2⟩
theorem FHt.wsA (A : FHt M M1) {k : Nat} (hk : k ∈ [46, 47, 48, 49, 50, 51]) (i : Nat) (v : Int) : FHt M (sA M1 k i v) := ⟨A.1, fun j hj => by rw [sA_f _ _ _ _ _ (fun e => hj (by rw [e]; exact hk))]; exact A.2 j hj⟩
theorem HM.h (H : HM M T rs Wd Lf n) (A : FHt M M') : HM M' T rs Wd Lf n := fun m hm => by
  have := H m hm
  rw [A.2 40 (by simp), A.2 41 (by simp), A.2 42 (by simp), A.2 43 (by simp), A.2 44 (by simp)]
  exact this
theorem ev_lt (h : EvQ T rs n q) : n < q ∧ q ≤ behindA T n := by
  rcases h with z | z
  · rw [z]; exact ⟨behindA_gt T n, Nat.le_refl _⟩
  · exact ⟨z.1, by omega⟩
theorem getD_mem {x : IT} (h : x ∈ R) : ∃ j, j < R.length ∧ R.getD j (0, none) = x := by
  obtain ⟨j, hj, e⟩ := List.getElem_of_mem h
  exact ⟨j, hj, by rw [gD hj, e]⟩
/-- what part of the run a character is -/
theorem qC_in (hC : ChM M T C) (hW : WF T) (hI : RI T rs Wd tl n r R) (hr : r ≤ tN T) (hp : p < tN T) (hk : k < (txP T p).length) (hj : j < R.length) (h2 : (rkP T rs (R.getD j (0, none))).1 = 2) (e : qC T C R j = cIx T C p k) : R.getD j (0, none) = (p, some k) ∧ chN T rs n p k := by
  obtain ⟨a1, a2, a3, a4, a5, a6, a7⟩ := hI j hj
  unfold qC at e
  generalize R.getD j (0, none) = x at *
  obtain ⟨p', o⟩ := x
  cases o with
  | none => exact absurd h2 (by show ¬ 0 = 2; omega)
  | some k' =>
    have g2 : p' < r := a2
    obtain ⟨i1, i2⟩ := cIx_inj hC hW (p := p') (p' := p) (by omega) hp a7.2.1 hk e
    subst i1 i2
    refine ⟨rfl, a1, a3, a4, a7.1, fun z => ?_⟩
    have : (rkP T rs (p', some k')).1 = 1 := if_pos z
    omega
theorem hflush (hL : LM M0 T rs C) (hW : WF T) (hok : ∀ r ∈ rs, okR2 r) (hrs : ∀ r ∈ rs, okRV r) (hX : txOK T) (hIS : isP T (tN T) ≤ 183) (Q : LQ T rs v Wd Lf tl tp) (hv : 1 ≤ v ∧ v ≤ 64) (hn : n < tN T) (hb : bxP T rs n = true) (H : HM M0 T rs Wd Lf (tN T)) (hE : EvQ T rs n r) (hC : HC M0 M T rs C Wd Lf tl n r (hsP T rs Wd tl n r).2.2.2.1) (hR : RunM M T C (hsP T rs Wd tl n r).2.2.2.1) (h39 : M.1 39 = M0.1 39 + (hsP T rs Wd tl n r).2.2.2.2) :
    m_runs M = some (if hasL (rkL T rs (hsP T rs Wd tl n r)) then 1 else 0) ∧
    (hasL (rkL T rs (hsP T rs Wd tl n r)) = false → HC M0 M T rs C Wd Lf tl n r [] ∧ M.1 39 = M0.1 39 + (flP T rs (Wd n) (hsP T rs Wd tl n r)).2.2.2.2) ∧
    (hasL (rkL T rs (hsP T rs Wd tl n r)) = true → ∃ M', m_lay M (n : Int) ((hsP T rs Wd tl n r).1 + (hsP T rs Wd tl n r).2.1) = some (M', (flP T rs (Wd n) (hsP T rs Wd tl n r)).1) ∧ HC M0 M' T rs C Wd Lf tl n r [] ∧ M'.1 39 = M0.1 39 + (flP T rs (Wd n) (hsP T rs Wd tl n r)).2.2.2.2) := by
  have h24 := hW.1.2.1
  obtain ⟨e1, e2⟩ := ev_lt hE
  have hrn : r ≤ tN T := Nat.le_trans e2 (beh_le hW hn)
  obtain ⟨c1, c2, c3, c4⟩ := hC
  have L1 := hL.fl c1.m
  have H1 := H.h c1
  have hI := RI.at (T := T) (rs := rs) (Wd := Wd) (tl := tl) e1
  have hO := run_ok (Wd := Wd) (tl := tl) hW hrs hIS e1 hrn
  have hOl : (hsP T rs Wd tl n r).2.2.2.1.length ≤ 183 := by have := hO.1; rw [rkL_len] at this; exact this
  have hFl := FL_l (W := Wd n) hO
  have hw := (wd_b hW hok hrs Q hv n hn).1
  have hcov : ∀ p k, (p, some k) ∈ (hsP T rs Wd tl n r).2.2.2.1 → ∃ j, Cov T rs Wd tl n r j p k := fun p k hm => by
    obtain ⟨j, j1, j2⟩ := getD_mem hm
    exact ⟨j, hn, hb, hE, j1, j2⟩
  have hrkL : rkL T rs (hsP T rs Wd tl n r) = (hsP T rs Wd tl n r).2.2.2.1.map (rkP T rs) := rfl
  refine ⟨m_runs_eq L1 hW hX hR (hI.ok hrn) (by omega), fun hz => ?_, fun hz => ?_⟩
  · refine ⟨⟨c1, c2, fun p k h1 h2 h3 _ => ?_, c4⟩, ?_⟩
    · by_cases hm : (p, some k) ∈ (hsP T rs Wd tl n r).2.2.2.1
      · exfalso
        obtain ⟨j, j1, j2⟩ := getD_mem hm
        have := (hasL_f.mp hz) j (by rw [rkL_len]; exact j1)
        rw [hrkL, (rk_at j1).1, j2] at this
        have h2 : (rkP T rs (p, some k)).1 = 2 := if_neg h3.2.2.2.2
        omega
      · exact c3 p k h1 h2 h3 hm
    · show M.1 39 = M0.1 39 + ((hsP T rs Wd tl n r).2.2.2.2 + (FL (Wd n) (rkL T rs (hsP T rs Wd tl n r))).2.1)
      rw [h39, hFl.1.mpr hz]
      omega
  · have hRn := RunM.rn L1 hW hX hR hI hrn
    have hSz : SzM M (rkL T rs (hsP T rs Wd tl n r)) := fun M' A j hj => by
      rw [rkL_len] at hj
      have R' : RunM M' T C (hsP T rs Wd tl n r).2.2.2.1 := by
        refine ⟨by rw [A.1 52 (by simp)]; exact hR.1, fun j hj => by rw [A.2 51 (by simp)]; exact hR.2 j hj⟩
      rw [m_size_eq (L1.fl A.m) hW R' (hI.ok hrn) (by omega) hj, hrkL, (rk_at hj).2]
    have hBd : BdM M n (vlP T rs 5 n) := fun M' A => m_border_eq (L1.fl A.m) hW hok hn
    have h43 := (H1 n hn).2.2.2 hb
    obtain ⟨M', m1, m2, m3, m4, m5⟩ := m_lay_eq (frm := (hsP T rs Wd tl n r).1 + (hsP T rs Wd tl n r).2.1) hO hRn hSz hBd (by omega) h43.2 (by omega)
    refine ⟨M', ?_, ⟨c1.trans m2.h, ⟨fun q g1 g2 g3 g4 => ?_, fun q g => ?_⟩, fun p k h1 h2 h3 _ => ?_, fun p k h1 h2 h3 => ?_⟩, ?_⟩
    · rw [m1]
      unfold flP
      rw [hz, if_pos rfl]
    · rw [m2.2 46 (by simp)]; exact c2.1 q g1 g2 g3 g4
    · rw [m2.2 46 (by simp)]; exact c2.2 q g
    · have hpn : p < tN T := by omega
      by_cases hm : (p, some k) ∈ (hsP T rs Wd tl n r).2.2.2.1
      · obtain ⟨j, hc⟩ := hcov p k hm
        have j1 := hc.2.2.2.1
        have j2 := hc.2.2.2.2
        refine ⟨r, j, hc, ?_⟩
        have hq : qC T C (hsP T rs Wd tl n r).2.2.2.1 j = cIx T C p k := by unfold qC; rw [j2]
        have := m4 j (by rw [rkL_len]; exact j1) (by rw [hrkL, (rk_at j1).1, j2]; exact if_neg h3.2.2.2.2)
        rw [hq, h43.1] at this
        exact this
      · obtain ⟨q, j, g1, g2⟩ := c3 p k h1 h2 h3 hm
        refine ⟨q, j, g1, ?_⟩
        obtain ⟨s1, s2, s3, s4⟩ := m5 (cIx T C p k) (fun j' t1 t2 t3 => by
          rw [rkL_len] at t1
          rw [hrkL, (rk_at t1).1] at t2
          have t4 := (qC_in L1.2.2.2 hW hI hrn hpn h2 t1 t2 t3).1
          exact hm (by rw [← t4, gD t1]; exact List.getElem_mem _))
        unfold ChQ
        rw [s1, s2, s3, s4]
        exact g2
    · obtain ⟨s1, s2, s3, s4⟩ := m5 (cIx T C p k) (fun j' t1 t2 t3 => by
        rw [rkL_len] at t1
        rw [hrkL, (rk_at t1).1] at t2
        exact h3 (qC_in L1.2.2.2 hW hI hrn h1 h2 t1 t2 t3).2)
      rw [s1, s2, s3, s4]
      exact c4 p k h1 h2 h3
    · show M'.1 39 = M0.1 39 + ((hsP T rs Wd tl n r).2.2.2.2 + (FL (Wd n) (rkL T rs (hsP T rs Wd tl n r))).2.1)
      rw [m3, h39]
      omega
end MH
