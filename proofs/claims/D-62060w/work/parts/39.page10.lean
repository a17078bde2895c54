/-! the page's tree: a letter is added -/
set_option maxRecDepth 100000
section PB
variable {h h' h1 : HP} {pg u a t : Nat} {φ : Nat → Nat} {T : TS} {x c : Int} {X : List Int} {q : Nat × Nat × Nat}
theorem Agr.wci (A : Agr h h1) {b : Nat} (hb : pX h ≤ b) (s : Nat) (sp dp n : Int) : Agr h (wCI h1 s sp b dp n) := by
  obtain ⟨a1, a2, a3⟩ := A
  refine ⟨a1, a2, fun y hy => ?_⟩
  obtain ⟨x1, x2, x3, x4⟩ := a3 y hy
  exact ⟨x1, x2, fun j => by rw [pI_wCI, if_neg (by omega)]; exact x3 j, x4⟩
theorem X6_add (Hs : SHp h pg) (ht : t ∈ pL h (pg + 4)) (hl : (pB h (t + 1)).length ≤ 160) (hc : 0 ≤ c ∧ c < 256) (hR : RU h (u + 15)) : ∃ h', f_X6_add h t c = some h' ∧ SHp h' pg ∧ AgT h t h' ∧ pB h' (t + 1) = pB h (t + 1) ++ [c] ∧ FP pg h h' ∧ RU h' u := by
  obtain ⟨t1, t2, t3, ⟨p, p1, p2, p3, p4, p5, p6⟩, t5, t6⟩ := Hs.2.2.2.1.2.2.1 t ht
  have hp1 := Hs.1.1
  have hplt := Hs.lt
  have hpt : pg ≠ t := kne h (by rw [hp1, t1]; omega)
  have hpT : p ≠ t := kne h (by rw [p2, t1]; omega)
  have hpT1 : p ≠ t + 1 := kne h (by rw [p2, t3]; omega)
  obtain ⟨r1, r2⟩ := hR
  have hgk : pK (sGrow h (t + 1)) = pK h ∧ pN (sGrow h (t + 1)) = pN h ∧ pI (sGrow h (t + 1)) = pI h ∧ pP (sGrow h (t + 1)) = pP h ∧ pL (sGrow h (t + 1)) = pL h ∧ pB (sGrow h (t + 1)) = pB h ∧ pO (sGrow h (t + 1)) = pO h := by
    unfold sGrow; split <;> exact ⟨rfl, rfl, rfl, rfl, rfl, rfl, rfl⟩
  have hgX : pX h ≤ pX (sGrow h (t + 1)) ∧ pX (sGrow h (t + 1)) ≤ pX h + 1 ∧ pS (sGrow h (t + 1)) ≤ pS h + 322 ∧ (∀ b, b ≠ t + 1 → pC (sGrow h (t + 1)) b = pC h b) ∧ pC (sGrow h (t + 1)) (t + 1) ≤ 400 := by
    unfold sGrow
    split
    · next e =>
      refine ⟨Nat.le_succ _, Nat.le_refl _, by rw [pS_wGr]; omega, fun b hb => by rw [pC_wGr, if_neg hb], by rw [pC_wGr, if_pos rfl]; omega⟩
    · exact ⟨Nat.le_refl _, Nat.le_succ _, by omega, fun _ _ => rfl, t6⟩
  have hFg : FP pg h (sGrow h (t + 1)) := by
    unfold sGrow
    split
    · exact FP.aG (tk2 t3 (by unfold treeK; omega)) _
    · exact FP.refl _ _
  have happ : sApp h (t + 1) c = some (wB (sGrow h (t + 1)) (t + 1) (pB h (t + 1) ++ [c])) := by
    unfold sApp
    rw [gd_c ⟨by rw [t3]; decide, by rw [zti (by omega) (by omega)]; exact hc, by omega, by omega, by omega, by omega⟩]
  generalize sGrow h (t + 1) = g at *
  obtain ⟨k1, k2, k3, k4, k5, k6, k7⟩ := hgk
  obtain ⟨x1, x2, x3, x4, x5⟩ := hgX
  have hB1 : pB (wB g (t + 1) (pB h (t + 1) ++ [c])) (t + 1) = pB h (t + 1) ++ [c] := by rw [pB_wB, if_pos rfl]
  have AB : AgT h t (wB g (t + 1) (pB h (t + 1) ++ [c])) := by
    refine ⟨x1, k7, fun b hb => ⟨by rw [pK_wB, k1], by rw [pN_wB, k2], fun j => by rw [pI_wB, k3], fun j _ => by rw [pP_wB, k4], by rw [pL_wB, k5], fun hn => ⟨by rw [pB_wB, if_neg hn, k6], by rw [pC_wB]; exact x4 b hn⟩⟩⟩
  have hFB : FP pg h (wB g (t + 1) (pB h (t + 1) ++ [c])) := FP.xB hFg (tk2 (k := 30) (by rw [k1]; exact t3) (by unfold treeK; omega))
  have pre : f_X6_add h t c = if zI (pN h p : Int) < zI (((pB h (t + 1)).length + 1 : Nat) : Int) then (Option.bind (f_J10_copyOf_4 (wB g (t + 1) (pB h (t + 1) ++ [c])) p (2 * (pN h p : Int))) (fun y7 => gd (pK y7.1 t = 3) (bnd (wP y7.1 t 3 (some y7.2)) (fun h8 => some h8)))) else some (wB g (t + 1) (pB h (t + 1) ++ [c])) := by
    unfold f_X6_add sLen
    have e1 : pP (wB g (t + 1) (pB h (t + 1) ++ [c])) t 3 = some p := by rw [pP_wB, k4]; exact p1
    have e2 : pP (wB g (t + 1) (pB h (t + 1) ++ [c])) t 2 = some (t + 1) := by rw [pP_wB, k4]; exact t2
    have e3 : pK (wB g (t + 1) (pB h (t + 1) ++ [c])) = pK h := k1
    have e4 : pN (wB g (t + 1) (pB h (t + 1) ++ [c])) = pN h := k2
    rw [gd_c t1, t2, obind_some, happ, obind_some, e3, gd_c t1, e1, obind_some, gd_c (by rw [p2]; decide), gd_c t1, e2, obind_some, gd_c (by rw [t3]; decide), obind_some, hB1, e4, List.length_append, List.length_singleton, gd_c t1, gd_c t1, obind_some, gd_c (by rw [p2]; decide)]
  by_cases hgrow : pN h p < (pB h (t + 1)).length + 1
  · -- the places are copied
    have z2 : zix (2 * (pN h p : Int)) = 2 * pN h p := by rw [zix_toNat (by omega) (by omega)]; omega
    have zm : zmin (pN h p : Int) (2 * (pN h p : Int)) = (pN h p : Int) := by rw [zmin_eq (by omega) (by omega) (by omega) (by omega), if_neg (by omega)]
    have AN : Agr (wB g (t + 1) (pB h (t + 1) ++ [c])) (wCI (wNew (wB g (t + 1) (pB h (t + 1) ++ [c])) 41 (2 * pN h p)) p 0 (pX g) 0 (pN h p : Int)) := ((Agr.refl _).new 41 (2 * pN h p)).wci (Nat.le_refl _) _ _ _ _
    have nK : pK (wNew (wB g (t + 1) (pB h (t + 1) ++ [c])) 41 (2 * pN h p)) (pX g) = 41 := by rw [pK_wNew]; exact if_pos rfl
    have nN : pN (wNew (wB g (t + 1) (pB h (t + 1) ++ [c])) 41 (2 * pN h p)) (pX g) = 2 * pN h p := by rw [pN_wNew]; exact if_pos rfl
    have oK : ∀ b, b < pX h → pK (wNew (wB g (t + 1) (pB h (t + 1) ++ [c])) 41 (2 * pN h p)) b = pK h b := fun b hb => by rw [pK_wNew, if_neg (by show b ≠ pX g; omega), pK_wB, k1]
    have oN : pN (wNew (wB g (t + 1) (pB h (t + 1) ++ [c])) 41 (2 * pN h p)) p = pN h p := by rw [pN_wNew, if_neg (by show p ≠ pX g; omega), pN_wB, k2]
    have hcopy : f_J10_copyOf_4 (wB g (t + 1) (pB h (t + 1) ++ [c])) p (2 * (pN h p : Int)) = some (wCI (wNew (wB g (t + 1) (pB h (t + 1) ++ [c])) 41 (2 * pN h p)) p 0 (pX g) 0 (pN h p : Int), pX g) := by
      unfold f_J10_copyOf_4
      have e3 : pK (wB g (t + 1) (pB h (t + 1) ++ [c])) p = 41 := by rw [pK_wB, k1]; exact p2
      have e4 : pN (wB g (t + 1) (pB h (t + 1) ++ [c])) p = pN h p := by rw [pN_wB, k2]
      have e5 : pX (wB g (t + 1) (pB h (t + 1) ++ [c])) = pX g := rfl
      rw [e3, gd_c (by decide), e4, if_eqn (by omega) (by omega) (by omega) (by omega) (by omega), bnd_eq, gd_c (show rmA _ _ from ⟨by rw [zti (by omega) (by omega)]; omega, by rw [z2]; omega, by show pX g + 1 ≤ pO g + 600000; omega, by rw [z2]; show pS g + 2 * pN h p ≤ 7302250; omega⟩), gd_c (by decide), bnd_eq, z2, e5, gd_c (by rw [oK p p3, p2]; decide)]
      simp only [oN, zm]
      rw [gd_c ⟨⟨by rw [oK p p3, p2]; decide, by rw [nK]; decide⟩, by rw [zti (by omega) (by omega)]; omega, by rw [zti (by omega) (by omega)]; omega, by rw [zti (by omega) (by omega)]; omega, by rw [zti (by omega) (by omega), zti (by omega) (by omega), oN]; omega, by rw [zti (by omega) (by omega), zti (by omega) (by omega), nN]; omega⟩, bnd_eq]
    have Afin : AgT h t (wP (wCI (wNew (wB g (t + 1) (pB h (t + 1) ++ [c])) 41 (2 * pN h p)) p 0 (pX g) 0 (pN h p : Int)) t 3 (some (pX g))) := by
      refine ⟨Nat.le_trans x1 (Nat.le_succ _), k7, fun b hb => ?_⟩
      have w := AN.2.2 b (by show b < pX g; omega)
      have v := AB.2.2 b hb
      exact ⟨w.1.trans v.1, w.2.1.trans v.2.1, fun j => (w.2.2.1 j).trans (v.2.2.1 j), fun j hj => by rw [pP_ne _ (by omega)]; exact (w.2.2.2.1 j).trans (v.2.2.2.1 j hj), w.2.2.2.2.1.trans v.2.2.2.2.1, fun hn => ⟨w.2.2.2.2.2.1.trans (v.2.2.2.2.2 hn).1, w.2.2.2.2.2.2.trans (v.2.2.2.2.2 hn).2⟩⟩
    have sB : pB (wP (wCI (wNew (wB g (t + 1) (pB h (t + 1) ++ [c])) 41 (2 * pN h p)) p 0 (pX g) 0 (pN h p : Int)) t 3 (some (pX g))) (t + 1) = pB h (t + 1) ++ [c] := by
      rw [pB_wP, pB_wCI, pB_wNew, if_neg (by show t + 1 ≠ pX g; omega)]
      exact hB1
    have sP : pP (wP (wCI (wNew (wB g (t + 1) (pB h (t + 1) ++ [c])) 41 (2 * pN h p)) p 0 (pX g) 0 (pN h p : Int)) t 3 (some (pX g))) t 3 = some (pX g) := by rw [pP_wP, if_pos ⟨rfl, rfl⟩]
    have sC : pC (wP (wCI (wNew (wB g (t + 1) (pB h (t + 1) ++ [c])) 41 (2 * pN h p)) p 0 (pX g) 0 (pN h p : Int)) t 3 (some (pX g))) (t + 1) ≤ 400 := by
      rw [pC_wP, pC_wCI, pC_wNew, if_neg (by show t + 1 ≠ pX g; omega)]
      exact x5
    have aT := Afin.2.2 t (by omega)
    have aT1 := Afin.2.2 (t + 1) (by omega)
    refine ⟨_, ?_, Hs.agt Afin ht ⟨by rw [aT.1]; exact t1, by rw [aT.2.2.2.1 2 (by omega)]; exact t2, by rw [aT1.1]; exact t3, ⟨pX g, sP, nK, Nat.lt_succ_self _, ?_, ?_, ?_⟩, ?_, sC⟩ (fun p' hp' => ?_), Afin, sB, ?_, ?_⟩
    · rw [pre, if_ltp (by omega) (by omega) (by omega), hcopy, obind_some, gd_c (by exact (oK t (by omega)).trans t1), bnd_eq]
    · rw [pN_wP, pN_wCI, nN]; omega
    · rw [pN_wP, pN_wCI, nN]; omega
    · rw [pN_wP, pN_wCI, nN, sB, List.length_append, List.length_singleton]; omega
    · show t + 2 ≤ pX g + 1; omega
    · rw [sP] at hp'; cases hp'; exact Or.inr x1
    · exact FP.xP (hFB.trans (FP.agr AN (by show pg < pX g; omega))) (by exact tk2 ((oK t (by omega)).trans t1) (by unfold treeK; omega)) (fun z => (hpt z.symm).elim) (fun z => by omega)
    · exact ⟨by show pX g + 1 + u ≤ pO g + 600000; omega, by show pS g + 2 * pN h p + 100 * u ≤ 7302250; omega⟩
  · have aT := AB.2.2 t (by omega)
    have aT1 := AB.2.2 (t + 1) (by omega)
    have aP := AB.2.2 p p3
    have e1 : pP (wB g (t + 1) (pB h (t + 1) ++ [c])) t 3 = some p := by rw [pP_wB, k4]; exact p1
    refine ⟨_, ?_, Hs.agt AB ht ⟨by rw [aT.1]; exact t1, by rw [aT.2.2.2.1 2 (by omega)]; exact t2, by rw [aT1.1]; exact t3, ⟨p, e1, by rw [aP.1]; exact p2, by show p < pX g; omega, by rw [aP.2.1]; exact p4, by rw [aP.2.1]; exact p5, by rw [aP.2.1, hB1, List.length_append, List.length_singleton]; omega⟩, by show t + 2 ≤ pX g; omega, by rw [pC_wB]; exact x5⟩ (fun p' hp' => ?_), AB, hB1, hFB, ⟨by show pX g + u ≤ pO g + 600000; omega, by show pS g + 100 * u ≤ 7302250; omega⟩⟩
    · rw [pre, if_ltn (by omega) (by omega) (by omega)]
    · rw [e1] at hp'; cases hp'; exact Or.inl p1
end PB
