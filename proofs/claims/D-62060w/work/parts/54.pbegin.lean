/-! a page begins anew: its tree -/
set_option maxRecDepth 100000
/-- the root alone, but for the sign of a broken page -/
def B0 (h : HP) (pg : Nat) : Prop := (pI h (pg + 1) 2 = 0 ∧ pI h (pg + 1) 3 = 0 ∧ pI h (pg + 1) 6 = 1 ∧ pL h (pg + 2) = []) ∧ pP h (pg + 1) 0 = none ∧ pL h (pg + 6) = [pg + 1] ∧ ∃ l, pP h (pg + 1) 5 = some l ∧ pL h l = [] ∧ pC h l ≤ 60
section PH
variable {h h0 h1 h' : HP} {pg u n : Nat}
theorem B0.rep (Hs : SHp h pg) (B : B0 h pg) (h7 : pI h pg 7 = 0) (h3 : pI h pg 3 = 0) (h4 : pI h pg 4 = 0) : RP h pg t0 := by
  obtain ⟨⟨b1, b2, b3, b4⟩, b5, b6, l, b7, b8, b9⟩ := B
  have z : ∀ i, i < tN t0 → i = 0 := fun i hi => by change i < 1 at hi; omega
  refine ⟨fun _ => pg + 1, ⟨Hs, rfl, ⟨fun i hi h0 => (h0 (z i hi)).elim, fun i hi hm => ?_, fun i j hi hj _ => by rw [z i hi, z j hj]⟩, fun i hi _ => ?_, fun i hi hm => ?_, fun i hi => ?_, b6, fun i hi _ => ⟨l, b7, b8, b9⟩, h7⟩, ?_⟩
  · change (0 : Int) = 1 at hm; omega
  · rw [z i hi]
    refine ⟨b1, b2, ?_, b4⟩
    rw [b3]
    exact (if_pos (by show 0 ∈ [0]; simp)).symm
  · change (0 : Int) = 1 at hm; omega
  · rw [z i hi, if_pos rfl]; exact b5
  · have e1 : elsT t0 = [] := by decide
    have e2 : txsT t0 = [] := by decide
    unfold CntP
    rw [e1, e2]
    exact ⟨h4, Nat.zero_le _, rfl, h3, Nat.zero_le _, rfl⟩
/-- the root's list -/
theorem rootL (Hs : SHp h pg) (hR : RU h (u + 1)) : ∃ h', f_X2_enter_22 h (pg + 1) = some h' ∧ SHp h' pg ∧ FP pg h h' ∧ cntS pg h h' ∧ RU h' u ∧ (∀ b k, b < pX h → pI h' b k = pI h b k) ∧ (∀ b, b < pX h → pK h b ≠ 21 → pL h' b = pL h b) ∧ pP h' (pg + 1) 0 = pP h (pg + 1) 0 ∧ ∃ l, pP h' (pg + 1) 5 = some l ∧ pL h' l = [] ∧ pC h' l ≤ 60 := by
  have hE := Hs.2.2.2.1.1
  have hlt := Hs.lt
  cases h5 : pP h (pg + 1) 5 with
  | some l =>
    obtain ⟨l1, l2, l3⟩ := hE.2.2.2.2.2.2.1 l h5
    have e4 : pg + 4 ≠ l := kne h (by have := Hs.2.1; omega)
    have e5 : pg + 5 ≠ l := kne h (by have := Hs.2.1; omega)
    refine ⟨wL h l [], ?_, Hs.aL (Ne.symm e4) (Ne.symm e5) _, FP.aL (tk2 l1 (by unfold treeK; omega)) _, ⟨rfl, rfl, pL_ne _ e4, pL_ne _ e5⟩, hR.mono (by omega), fun _ _ _ => rfl, fun b _ hb => pL_ne _ (kne h (by omega)), rfl, l, h5, by rw [pL_wL, if_pos rfl], l3⟩
    unfold f_X2_enter_22 f_X2_enter_40 lClr
    rw [gd_c hE.1, h5, nl_some, gd_c hE.1, obind_some, gd_c (by rw [l1]; decide), obind_some]
  | none =>
    have A : Agr h (wNew h 21 3) := (Agr.refl h).new 21 3
    have hfr : ∀ x ∈ (pg + 1) :: pL (wNew h 21 3) (pg + 5), pP (wNew h 21 3) x 5 ≠ some (pX h) := fun x hx z => by
      rw [(A.2.2 (pg + 5) (by omega)).2.2.2.2.1] at hx
      have hx' := Hs.mem_lt hx
      rw [(A.2.2 x (by have := hx'.2.2.2.2.2.2.2.1; omega)).2.2.2.1] at z
      have := (hx'.2.2.2.2.2.2.1 _ z).2.1
      omega
    have hk : pK (wNew h 21 3) (pg + 1) = 2 := by rw [(A.2.2 (pg + 1) (by omega)).1]; exact hE.1
    have hkl : pK (wNew h 21 3) (pX h) = 21 := by rw [pK_wNew, if_pos rfl]
    have H1 := (Hs.agr A).l5 hk hkl (Nat.lt_succ_self _) (by rw [pC_wNew, if_pos rfl]; omega) hfr
    have hself : pP (wP (wNew h 21 3) (pg + 1) 5 (some (pX h))) (pg + 1) 5 = some (pX h) := by rw [pP_wP, if_pos ⟨rfl, rfl⟩]
    refine ⟨wL (wP (wNew h 21 3) (pg + 1) 5 (some (pX h))) (pX h) [], ?_, H1.aL (by omega) (by omega) _, ?_, ?_, ?_, fun b k hb => ?_, fun b hb _ => ?_, ?_, pX h, hself, by rw [pL_wL, if_pos rfl], ?_⟩
    · unfold f_X2_enter_22 f_X2_enter_40 lClr lNew
      rw [gd_c hE.1, h5, nl_none, bnd_eq, gd_c (show rm1 h 3 from ⟨by have := hR.1; omega, by have := hR.2; omega⟩), bnd_eq, gd_c ⟨by rw [pK_wNew, if_pos rfl], by decide⟩, obind_some, wK_wNew, gd_c hk, bnd_eq, gd_c (show pK (wP (wNew h 21 3) (pg + 1) 5 (some (pX h))) (pg + 1) = 2 from hk), hself, obind_some, gd_c (by rw [pK_wP, hkl]; decide), obind_some]
    · exact ((FP.agr A (by omega)).xP (tk2 hk (by unfold treeK; omega)) (fun z => by omega) (fun _ => by rw [(A.2.2 (pg + 1) (by omega)).2.2.2.1]; exact h5)).xL (tk2 (k := 21) (by rw [pK_wP, hkl]) (by unfold treeK; omega))
    · exact (cntS.agr A hlt).trans ⟨rfl, rfl, pL_ne _ (by omega), pL_ne _ (by omega)⟩
    · exact ⟨by have := hR.1; show pX h + 1 + u ≤ pO h + 600000; omega, by have := hR.2; show pS h + 3 + 100 * u ≤ 7302250; omega⟩
    · exact (A.2.2 b hb).2.2.1 k
    · rw [pL_ne _ (by omega), pL_wP]; exact (A.2.2 b hb).2.2.2.2.1
    · rw [pP_wL, pP_ne _ (Or.inr (by omega))]; exact (A.2.2 (pg + 1) (by omega)).2.2.2.1 0
    · show pC (wNew h 21 3) (pX h) ≤ 60
      rw [pC_wNew, if_pos rfl]; omega
theorem begin_eq (Hs : SHp h pg) (hp : pP h (pg + 1) 0 = none) (hR : RU h (u + 2)) : ∃ h', f_X0_begin h pg = some h' ∧ SHp h' pg ∧ FP pg h h' ∧ RU h' u ∧ B0 h' pg := by
  have hE := Hs.2.2.2.1.1
  have hlt := Hs.lt
  have hb := Hs.2.1
  have hk6 : pK h (pg + 6) = 24 := hb.2.2.1
  have t2 : treeK (pK h (pg + 1)) := tk2 hE.1 (by unfold treeK; omega)
  have S1 : SHp (wI (wL (wI (wI h (pg + 1) 2 0) (pg + 1) 3 0) (pg + 2) []) (pg + 1) 6 0) pg := (((Hs.aI _ _ _).aI _ _ _).aL (by omega) (by omega) _).aI _ _ _
  have S2 : SHp (wL (wI (wL (wI (wI h (pg + 1) 2 0) (pg + 1) 3 0) (pg + 2) []) (pg + 1) 6 0) (pg + 6) []) pg := S1.aL (by omega) (by omega) _
  have F2 : FP pg h (wL (wI (wL (wI (wI h (pg + 1) 2 0) (pg + 1) 3 0) (pg + 2) []) (pg + 1) 6 0) (pg + 6) []) := ((((FP.aI t2 (fun z => by omega) _).xI (by exact t2) (fun z => by omega)).xL (by exact tk2 hE.2.2.1 (by unfold treeK; omega))).xI (by exact t2) (fun z => by omega)).xL (by exact tk2 hk6 (by unfold treeK; omega))
  obtain ⟨g, g1, g2, g3⟩ := lAdd_eq (h := wL (wI (wL (wI (wI h (pg + 1) 2 0) (pg + 1) 3 0) (pg + 2) []) (pg + 1) 6 0) (pg + 6) []) (u := u + 1) (a := pg + 6) (x := pg + 1) (by show isL (pK h (pg + 6)); rw [hk6]; decide) (by show isO (pK h (pg + 1)); rw [hE.1]; decide) (by rw [pL_wL, if_pos rfl]; simp) (by exact Hs.2.2.1.2.2.1) hR
  rw [pL_wL, if_pos rfl, List.nil_append] at g1
  obtain ⟨k1, k2, k3, k4, k5, k6⟩ := g2.k
  have k1' : pK g = pK h := k1
  have S3 : SHp (wI (wL g (pg + 6) [pg + 1]) (pg + 1) 6 1) pg := ((S2.gr g2).aL (by omega) (by omega) _).aI _ _ _
  have F3 : FP pg h (wI (wL g (pg + 6) [pg + 1]) (pg + 1) 6 1) := ((F2.trans (FP.gr g2 (by exact tk2 hk6 (by unfold treeK; omega)))).xL (tk2 (k := 24) (by rw [k1']; exact hk6) (by unfold treeK; omega))).xI (by show treeK (pK g (pg + 1)); rw [k1']; exact t2) (fun z => by omega)
  obtain ⟨h', r1, r2, r3, r4, r5, r6, r7, r8, r9⟩ := rootL (u := u) S3 g3
  have i2 : pI (wI (wL g (pg + 6) [pg + 1]) (pg + 1) 6 1) (pg + 1) 2 = 0 := by
    rw [pI_wI, if_neg (fun z => by omega), pI_wL, k3, pI_wL, pI_wI, if_neg (fun z => by omega), pI_wL, pI_wI, if_neg (fun z => by omega), pI_wI, if_pos ⟨rfl, rfl⟩]
  have i3 : pI (wI (wL g (pg + 6) [pg + 1]) (pg + 1) 6 1) (pg + 1) 3 = 0 := by
    rw [pI_wI, if_neg (fun z => by omega), pI_wL, k3, pI_wL, pI_wI, if_neg (fun z => by omega), pI_wL, pI_wI, if_pos ⟨rfl, rfl⟩]
  have i6 : pI (wI (wL g (pg + 6) [pg + 1]) (pg + 1) 6 1) (pg + 1) 6 = 1 := by rw [pI_wI, if_pos ⟨rfl, rfl⟩]
  have hX3 : pX h ≤ pX (wI (wL g (pg + 6) [pg + 1]) (pg + 1) 6 1) := F3.1
  have l2 : pL (wI (wL g (pg + 6) [pg + 1]) (pg + 1) 6 1) (pg + 2) = [] := by
    rw [pL_wI, pL_ne _ (by omega), k2, pL_ne _ (by omega), pL_wI, pL_wL, if_pos rfl]
  have l6 : pL (wI (wL g (pg + 6) [pg + 1]) (pg + 1) 6 1) (pg + 6) = [pg + 1] := by rw [pL_wI, pL_wL, if_pos rfl]
  refine ⟨h', ?_, r2, F3.trans r3, r5, ⟨?_, ?_, ?_, ?_⟩, ?_, ?_, r9⟩
  · unfold f_X0_begin f_X2_begin f_X0_enter f_X2_enter lClr
    rw [gd_c Hs.1.1, Hs.1.2.1, obind_some, gd_c hE.1, gd_c hE.1, gd_c zisC_0, bnd_eq, gd_c (by exact hE.1), bnd_eq, gd_c (by exact hE.1), pP_wI, pP_wI, hE.2.1, obind_some, gd_c (by show isL (pK h (pg + 1 + 1)); rw [hE.2.2.1]; decide), obind_some, gd_c (by exact hE.1), bnd_eq, obind_some, gd_c (by exact Hs.1.1), pP_wI, pP_wL, pP_wI, pP_wI, Hs.1.2.2.2.2.1, obind_some, gd_c (by show isL (pK h (pg + 6)); rw [hk6]; decide), obind_some, gd_c (by exact Hs.1.1), pP_wL, pP_wI, pP_wL, pP_wI, pP_wI, Hs.1.2.1, obind_some, gd_c (by exact Hs.1.1), gd_c (by exact Hs.1.1), Hs.1.2.2.2.2.1, obind_some]
    have g1' : lAdd (wL (wI (wL (wI (wI h (pg + 1) 2 0) (pg + 1) 3 0) (pg + 1 + 1) []) (pg + 1) 6 0) (pg + 6) []) (pg + 6) (pg + 1) = some (wL g (pg + 6) [pg + 1], 1) := g1
    rw [g1', obind_some, gd_c (by show pK g (pg + 1) = 2; rw [k1']; exact hE.1), gd_c (by show pK g (pg + 1) = 2; rw [k1']; exact hE.1), bnd_eq, gd_c (by show pK g (pg + 1) = 2; rw [k1']; exact hE.1)]
    simp only []
    rw [i2, if_eqn (by omega) (by omega) (by omega) (by omega) (by omega), gd_c (by show pK g (pg + 1) = 2; rw [k1']; exact hE.1), if_eqp rfl, r1]
    rfl
  · rw [r6 _ _ (by omega)]; exact i2
  · rw [r6 _ _ (by omega)]; exact i3
  · rw [r6 _ _ (by omega)]; exact i6
  · rw [r7 _ (by omega) (by show pK g (pg + 2) ≠ 21; rw [k1', show pK h (pg + 2) = 20 from hE.2.2.1]; omega)]; exact l2
  · rw [r8, pP_wI, pP_wL, k4]; exact hp
  · rw [r7 _ (by omega) (by show pK g (pg + 6) ≠ 21; rw [k1', hk6]; omega)]; exact l6
end PH
