set_option maxRecDepth 100000
theorem jp_lDel {r h : HP} (hp : rep r h) {a : Nat} {i : Int} {y : HP × Nat} (e : lDel h a i = some y) : ∃ r', f_J2_remove r a i = some (r', some y.2) ∧ rep r' y.1 := by
  obtain ⟨ha, e⟩ := gd_inv e
  obtain ⟨hi, e⟩ := gd_inv e
  cases e
  have hLR := hp.2.2.2.2.1 a ha
  have hk := hp.kind (isL_ne ha)
  have hlen : (pL h a).length < 2147483640 := by have := hLR.2.1; have := hLR.2.2.1; omega
  obtain ⟨j, j1, j2, j3⟩ := zin_ex hi (by omega)
  obtain ⟨b, c1, c2, c3, c4, c5⟩ := hLR.back (by omega)
  have hz : zin i (pN r b) := ⟨hi.1, by rw [c3]; have := hi.2; have := hLR.2.1; omega⟩
  have B := BK.of hp ha c1 c5 (pI r a 0 + 1)
  have hchk := jp_chk hi (by omega)
  obtain ⟨l1, l2, l3, l4, l5⟩ := hLR
  have hlr : isLr (pK r a) := by rw [hk]; exact Or.inl ha
  have hlr1 : isLr (pK (wI r a 0 (pI r a 0 + 1)) a) := by rw [pK_wI]; exact hlr
  have hI2 : pI (wI r a 0 (pI r a 0 + 1)) a 2 = ((pL h a).length : Int) := by rw [pI_wI, if_neg (fun q => by cases q.2)]; exact l1
  have z1 : zI (i + 1) = zI ((j + 1 : Nat) : Int) := (zI_p1 j2 1).trans rfl
  have z2 : zI (((pL h a).length : Int) - 1 - i) = zI (((pL h a).length - 1 - j : Nat) : Int) := by rw [zI_m j2]; congr 1; omega
  have i1 : zix (i + 1) = j + 1 := (zix_c z1).trans (zix_nat (by omega))
  have i2 : zix (((pL h a).length : Int) - 1 - i) = (pL h a).length - 1 - j := (zix_c z2).trans (zix_nat (by omega))
  have i3 : zix (((pL h a).length : Int) - 1) = (pL h a).length - 1 := by rw [zix_of (by omega) (by omega)]; omega
  have t0 : (zI i).toInt = (j : Int) := by rw [j2]; exact zti (by omega) (by omega)
  have t1 : (zI (i + 1)).toInt = ((j + 1 : Nat) : Int) := by rw [z1]; exact zti (by omega) (by omega)
  have t2 : (zI (((pL h a).length : Int) - 1 - i)).toInt = (((pL h a).length - 1 - j : Nat) : Int) := by rw [z2]; exact zti (by omega) (by omega)
  have hne : b ≠ a := B.2.2.2.2.2.2.2.2.2.2.2.2
  have hlast : ∀ r1 : HP, pK r1 = pK r → pN r1 = pN r → f_J2_fastRemove_34 r1 a b (((pL h a).length : Int) - 1) = some (wP (wI r1 a 2 (((pL h a).length : Int) - 1)) b ((pL h a).length - 1) none) := by
    intro r1 k1 k2
    unfold f_J2_fastRemove_34
    rw [gd_of (by rw [k1]; exact hlr), bnd_eq, gd_of (by rw [pK_wI, k1]; exact c2), gd_of (by rw [pN_wI, k2, c3, zin_iff (by omega) (by omega)]; omega), gd_of (Or.inl rfl), bnd_eq, i3]
  have hfin : ∀ r1 : HP, pK r1 = pK r → pN r1 = pN r → pI r1 = pI (wI r a 0 (pI r a 0 + 1)) → (∀ x, x ≠ b → pP r1 x = pP r x) → (∀ k, k < (pL h a).length - 1 → pP r1 b k = some (if k < j then (pL h a).getD k 0 else (pL h a).getD (k + 1) 0)) → (pX r1 = pX r ∧ pS r1 = pS r ∧ pO r1 = pO r ∧ pD r1 = pD r ∧ pM r1 = pM r) → rep (wP (wI r1 a 2 (((pL h a).length : Int) - 1)) b ((pL h a).length - 1) none) (wL h a ((pL h a).take j ++ (pL h a).drop (j + 1))) := by
    intro r1 k1 k2 k3 k4 k5 k6
    refine BK.fin hp ha B (by rw [del_len j1]; omega) (fun z hz => l4 z (mem_del hz)) ?_ ?_ (fun z hz => ?_) ?_ (fun z hz => ?_) (fun k hk' => ?_) k6
    · rw [pK_wP, pK_wI, pK_wI]; exact k1
    · rw [pN_wP, pN_wI, pN_wI]; exact k2
    · funext q; rw [pI_wP, pI_wI, if_neg (fun q => hz q.1), k3]
    · rw [pI_wP, pI_wI, if_pos ⟨rfl, rfl⟩, del_len j1]; omega
    · funext q; rw [pP_wP, if_neg (fun q => hz q.1), pP_wI, pP_wI, k4 z hz]
    · rw [del_len j1] at hk'
      rw [pP_wP, if_neg (fun q => by have := q.2; omega), pP_wI, k5 k hk', del_getD j1]
  rw [j3]
  have hrm : ∀ r', f_J2_fastRemove r a b i = some r' → f_J2_remove r a i = some (r', some ((pL h a).getD j 0)) := by
    intro r' hf
    unfold f_J2_remove
    rw [gd_of hlr, l1, hchk, obind_some, gd_of hlr, bnd_eq, c1, obind_some, gd_of c2, gd_of hz, bnd_eq, gd_of (by rw [hk]; exact ha), hf, obind_some, j3, c4 j j1]
  by_cases hlt : j < (pL h a).length - 1
  · have hcp : cpOKP (wI r a 0 (pI r a 0 + 1)) b (i + 1) b i (((pL h a).length : Int) - 1 - i) := by
      refine ⟨⟨c2, c2⟩, ?_, ?_, ?_, ?_, ?_⟩
      · rw [t1]; omega
      · rw [t0]; omega
      · rw [t2]; omega
      · rw [t1, t2, pN_wI, c3]; omega
      · rw [t0, t2, pN_wI, c3]; omega
    refine ⟨_, hrm _ ?_, hfin (wCP (wI r a 0 (pI r a 0 + 1)) b (i + 1) b i (((pL h a).length : Int) - 1 - i)) rfl rfl rfl (fun x hx => ?_) (fun k hk' => ?_) ⟨rfl, rfl, rfl, rfl, rfl⟩⟩
    · unfold f_J2_fastRemove
      rw [gd_of hlr, gd_of hlr, bnd_eq, gd_of hlr1, bnd_eq, hI2, if_pos (by rw [j2, zlt (by omega) (by omega) (by omega) (by omega)]; omega), gd_of hcp, bnd_eq]
      exact hlast _ rfl rfl
    · rw [pP_wCP, if_neg hx, pP_wI]
    · rw [pP_wCP, if_pos rfl, i1, i2, j3, pP_wI]
      by_cases h1 : k < j
      · rw [pk_cpy_out (by omega), if_pos h1]
        exact c4 k (by omega)
      · rw [pk_cpy_in (by omega) (by omega), if_neg h1, show j + 1 + (k - j) = k + 1 by omega]
        exact c4 (k + 1) (by omega)
  · refine ⟨_, hrm _ ?_, hfin (wI r a 0 (pI r a 0 + 1)) rfl rfl rfl (fun x hx => rfl) (fun k hk' => ?_) ⟨rfl, rfl, rfl, rfl, rfl⟩⟩
    · unfold f_J2_fastRemove
      rw [gd_of hlr, gd_of hlr, bnd_eq, gd_of hlr1, bnd_eq, hI2, if_neg (by rw [j2, zlt (by omega) (by omega) (by omega) (by omega)]; omega)]
      exact hlast _ rfl rfl
    · rw [pP_wI, if_pos (by omega)]
      exact c4 k (by omega)
/-- emptying a list: its places one by one -/
theorem jp_clrloop {b : Nat} {n : Nat} (hn : n < 2147483640) : ∀ (d : Nat) (r : HP) (k : Nat), k + d = n → pK r b = 50 → n ≤ pN r b → ∃ r', f_J2_clear_27 r (some b) (n : Int) (k : Int) = some r' ∧ pK r' = pK r ∧ pN r' = pN r ∧ pI r' = pI r ∧ (∀ x, x ≠ b → pP r' x = pP r x) ∧ (pX r' = pX r ∧ pS r' = pS r ∧ pO r' = pO r ∧ pD r' = pD r ∧ pM r' = pM r) := by
  intro d
  induction d with
  | zero =>
    intro r k hk hb hN
    refine ⟨r, ?_, rfl, rfl, rfl, fun _ _ => rfl, rfl, rfl, rfl, rfl, rfl⟩
    unfold f_J2_clear_27
    refine iter_out ?_
    show f_J2_clear_27s r (some b) n k = _
    unfold f_J2_clear_27s
    rw [if_neg (by rw [zlt (by omega) (by omega) (by omega) (by omega)]; omega)]
  | succ d ih =>
    intro r k hk hb hN
    obtain ⟨r', f1, f2, f3, f4, f5, f6⟩ := ih (wP r b k none) (k + 1) (by omega) hb hN
    refine ⟨r', ?_, f2, f3, f4, fun x hx => ?_, f6⟩
    · rw [← f1]
      unfold f_J2_clear_27
      refine iter_in ?_
      show f_J2_clear_27s r (some b) n k = _
      unfold f_J2_clear_27s
      rw [if_pos (by rw [zlt (by omega) (by omega) (by omega) (by omega)]; omega), obind_some, gd_of hb, gd_of (by rw [zin_iff (by omega) (by omega)]; omega), gd_of (Or.inl rfl), bnd_eq, zix_nat (by omega)]
      rfl
    · rw [f5 x hx]
      funext q
      rw [pP_wP, if_neg (fun q => hx q.1)]
theorem jp_lClr {r h : HP} (hp : rep r h) {a : Nat} {y : HP} (e : lClr h a = some y) : ∃ r', f_J2_clear r a = some r' ∧ rep r' y := by
  obtain ⟨ha, e⟩ := gd_inv e
  cases e
  have hLR := hp.2.2.2.2.1 a ha
  have hk := hp.kind (isL_ne ha)
  have hlen : (pL h a).length < 2147483640 := by have := hLR.2.1; have := hLR.2.2.1; omega
  have hLR0 := hLR
  obtain ⟨l1, l2, l3, l4, l5⟩ := hLR
  have hlr : isLr (pK r a) := by rw [hk]; exact Or.inl ha
  generalize hr2 : wI (wI r a 0 (pI r a 0 + 1)) a 2 0 = r2
  have k1 : pK r2 = pK r := by rw [← hr2]; rfl
  have k2 : pN r2 = pN r := by rw [← hr2]; rfl
  have k3 : pP r2 = pP r := by rw [← hr2]; rfl
  have k4 : ∀ x, x ≠ a → pI r2 x = pI r x := fun x hx => by rw [← hr2]; funext q; rw [pI_wI, if_neg (fun q => hx q.1), pI_wI, if_neg (fun q => hx q.1)]
  have k5 : pI r2 a 2 = 0 := by rw [← hr2, pI_wI, if_pos ⟨rfl, rfl⟩]
  have k6 : pX r2 = pX r ∧ pS r2 = pS r ∧ pO r2 = pO r ∧ pD r2 = pD r ∧ pM r2 = pM r := by rw [← hr2]; exact ⟨rfl, rfl, rfl, rfl, rfl⟩
  have hrun : f_J2_clear r a = f_J2_clear_27 r2 (pP r a 1) ((pL h a).length : Int) 0 := by
    unfold f_J2_clear
    rw [gd_of hlr, gd_of hlr, bnd_eq, gd_of (by rw [pK_wI]; exact hlr), bnd_eq, gd_of (by rw [pK_wI]; exact hlr), bnd_eq, gd_of (by rw [pK_wI]; exact hlr), bnd_eq, hr2, pP_wI, pI_wI, if_neg (fun q => by cases q.2), l1]
  rcases l5 with ⟨l5, l6⟩ | ⟨l5, b, l6, l7, l8, l9⟩
  · have h0 : (pL h a).length = 0 := by omega
    refine ⟨r2, ?_, ?_⟩
    · rw [hrun, h0]
      unfold f_J2_clear_27
      refine iter_out ?_
      show f_J2_clear_27s r2 _ _ _ = _
      unfold f_J2_clear_27s
      rw [if_neg (by show ¬ zI 0 < zI ((0 : Nat) : Int); decide)]
    · refine rep.list hp ha ?_ rfl rfl rfl rfl rfl rfl (fun x hx => by rw [pL_wL, if_neg hx]) (fun x hx => rfl) (fun x h1 h2 h3 => ⟨by rw [k1], by rw [k2], k4 x h1, by rw [k3]⟩) (by rw [k1]) ?_ (fun q h1 h2 => absurd l5 h1)
      · rw [k6.1, k6.2.1, k6.2.2.1, k6.2.2.2.1, k6.2.2.2.2]
        exact hp.1
      · refine ⟨by rw [k5, pL_wL, if_pos rfl]; rfl, by rw [pL_wL, if_pos rfl]; exact Nat.zero_le _, l3, fun x hx => ?_, Or.inl ⟨l5, by rw [k3]; exact l6⟩⟩
        rw [pL_wL, if_pos rfl] at hx
        cases hx
  · have B := BK.of hp ha l6 l5 (pI r a 0 + 1)
    have hne : b ≠ a := B.2.2.2.2.2.2.2.2.2.2.2.2
    obtain ⟨r', f1, f2, f3, f4, f5, f6⟩ := jp_clrloop hlen (pL h a).length r2 0 (by omega) (by rw [k1]; exact l7) (by rw [k2, l8]; exact l2)
    refine ⟨r', ?_, ?_⟩
    · rw [hrun, l6]
      exact f1
    · refine BK.fin hp ha B (Nat.zero_le _) (fun z hz => by cases hz) ?_ ?_ (fun z hz => ?_) ?_ (fun z hz => ?_) (fun i hi => absurd hi (Nat.not_lt_zero i)) ?_
      · rw [f2, k1, pK_wI]
      · rw [f3, k2, pN_wI]
      · rw [f4, k4 z hz]
        funext q
        rw [pI_wI, if_neg (fun q => hz q.1)]
      · rw [f4, k5]; rfl
      · rw [f5 z hz, k3, pP_wI]
      · obtain ⟨x1, x2, x3, x4, x5⟩ := f6
        obtain ⟨y1, y2, y3, y4, y5⟩ := k6
        exact ⟨x1.trans y1, x2.trans y2, x3.trans y3, x4.trans y4, x5.trans y5⟩
