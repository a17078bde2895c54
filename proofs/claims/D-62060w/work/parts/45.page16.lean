/-! the page's tree between two states: the loops of an adoption -/
set_option maxRecDepth 100000
section PX
variable {h h0 h' h1 : HP} {pg N u : Nat} {φ : Nat → Nat} {M C : Nat → Int} {X : Nat → List Int} {L : Nat → List Nat} {own : Nat → Prop} {kf : Nat → List Nat} {fl : Nat → Int} {pf : Nat → Option (Option Nat)} {sf : List Nat}
theorem RepX.closeTo {i : Nat} (hi0 : 0 < i) : ∀ (d : Nat) (sf : List Nat) (fl : Nat → Int) (h : HP), RepX h pg N φ M C X L own kf fl pf sf → (∀ j ∈ sf, j < N ∧ M j ≠ 1) → sf.length = i + d → sf.length ≤ 40 → Sx pg h0 h → RU h u → ∃ h' fl', f_X0_closeTo h pg (i : Int) = some h' ∧ RepX h' pg N φ M C X L own kf fl' pf (sf.take i) ∧ (∀ j, fl' j = if j ∈ sf.drop i then 0 else fl j) ∧ Sx pg h0 h' ∧ RU h' u ∧ pL h' (pg + 7) = pL h (pg + 7) := by
  intro d
  induction d with
  | zero =>
    intro sf fl h H hS hl h40 S hR
    have hb := H.1
    refine ⟨h, fl, iter_out ?_, by rw [List.take_of_length_le (by omega)]; exact H, fun j => by rw [List.drop_eq_nil_of_le (by omega), if_neg (by simp)], S, hR, rfl⟩
    simp only [f_X0_closeTo_0s]
    unfold lLen
    rw [if_ltp (by omega) (by omega) (by omega), gd_c hb.1.1, hb.1.2.2.2.2.1, obind_some, gd_c (by rw [hb.2.1.2.2.1]; decide), obind_some, H.2.2.2.2.2.2.1, List.length_map, hl, if_ltn (by omega) (by omega) (by omega)]
  | succ d ih =>
    intro sf fl h H hS hl h40 S hR
    have hb := H.1
    have hsp : sf = sf.take (i + d) ++ [sf.getD (i + d) 0] := by
      conv => lhs; rw [getD_split (l := sf) (k := i + d) (by omega)]
      rw [List.drop_eq_nil_of_le (by omega)]
    have hl2 : (sf.take (i + d)).length = i + d := by rw [List.length_take]; omega
    have hmem : sf.getD (i + d) 0 ∈ sf := by rw [gD (by omega)]; exact List.getElem_mem _
    obtain ⟨e1, e2⟩ := hS _ hmem
    have hE := H.elc e1 e2
    have hk6 : pK h (pg + 6) = 24 := hb.2.1.2.2.1
    have hst : pL h (pg + 6) = (sf.take (i + d)).map φ ++ [φ (sf.getD (i + d) 0)] := by
      rw [H.2.2.2.2.2.2.1]
      have e := congrArg (List.map φ) hsp
      rw [List.map_append] at e
      exact e
    have hll : ((sf.take (i + d)).map φ ++ [φ (sf.getD (i + d) 0)]).length = i + d + 1 := by simp; omega
    have hd : lDel h (pg + 6) (((i + d + 1 : Nat) : Int) - 1) = some (wL h (pg + 6) ((sf.take (i + d)).map φ), φ (sf.getD (i + d) 0)) := by
      unfold lDel
      rw [gd_c (by rw [hk6]; decide), hst, gd_zin (by omega) (by omega) (by omega), zix_toNat (by omega) (by omega), show (((i + d + 1 : Nat) : Int) - 1).toNat = i + d by omega]
      congr 2
      · congr 1
        rw [List.take_left' (by rw [List.length_map]; exact hl2), List.drop_eq_nil_of_le (by omega), List.append_nil]
      · have : ((sf.take (i + d)).map φ).length = i + d := by rw [List.length_map]; exact hl2
        rw [gD (by rw [List.length_append]; simp; omega), List.getElem_append_right (by omega)]
        simp [this]
    have H1 := (H.wl6 (sf.take (i + d))).flag (v := 0) e1
    have S1 : Sx pg h0 (wI (wL h (pg + 6) ((sf.take (i + d)).map φ)) (φ (sf.getD (i + d) 0)) 6 0) := (S.wl (tk2 hk6 (by unfold treeK; omega)) (by omega) (by omega)).flag (H.wl6 (sf.take (i + d))) e1
    obtain ⟨h', fl', r1, r2, r3, r4, r5, r6⟩ := ih (sf.take (i + d)) (va_up fl (sf.getD (i + d) 0) 0) _ H1 (fun j hj => hS j (List.mem_of_mem_take hj)) hl2 (by omega) S1 hR
    refine ⟨h', fl', ?_, ?_, fun j => ?_, r4, r5, ?_⟩
    · have hstep : f_X0_closeTo_0s h pg (i : Int) = some (.inl (wI (wL h (pg + 6) ((sf.take (i + d)).map φ)) (φ (sf.getD (i + d) 0)) 6 0)) := by
        unfold f_X0_closeTo_0s lLen
        rw [if_ltp (by omega) (by omega) (by omega), gd_c hb.1.1, hb.1.2.2.2.2.1, obind_some, gd_c (by rw [hk6]; decide), obind_some, hst, hll, if_ltp (by omega) (by omega) (by omega), gd_c hb.1.1, gd_c hb.1.1, obind_some, gd_c (by rw [hk6]; decide), obind_some, hst, hll, hd, obind_some, gd_c (by exact hE.1), gd_c (by exact hE.1)]
        rfl
      show iter _ _ = _
      rw [iter_in hstep]
      exact r1
    · rw [List.take_take, Nat.min_eq_left (by omega)] at r2
      exact r2
    · rw [r3 j]
      have hdr : sf.drop i = (sf.take (i + d)).drop i ++ [sf.getD (i + d) 0] := by
        conv => lhs; rw [hsp, List.drop_append_of_le_length (by omega)]
      rw [hdr]
      by_cases z : j = sf.getD (i + d) 0
      · rw [z, va_up_s, ite_self, if_pos (by simp)]
      · rw [va_up_n _ _ _ _ z]
        have : (j ∈ (sf.take (i + d)).drop i ++ [sf.getD (i + d) 0]) = (j ∈ (sf.take (i + d)).drop i) := by
          rw [List.mem_append, List.mem_singleton]
          exact propext ⟨fun y => y.elim id (fun y => (z y).elim), Or.inl⟩
        simp only [this]
    · rw [r6, pL_wI, pL_ne _ (by omega)]
theorem RepX.keepL {x2 : Int} {hr bl b : Nat} (hb : b ≤ sf.length) (h40 : sf.length ≤ 40) (hS : ∀ j ∈ sf, j < N ∧ M j ≠ 1) : ∀ (d j : Nat) (h : HP), RepX h pg N φ M C X L own kf fl pf sf → sf.length = j + d → b ≤ j → pL h (pg + 7) = ((sf.drop b).take (j - b)).map φ → Sx pg h0 h → RU h (u + d) → ∃ h', f_X0_move_43 h pg x2 hr bl (j : Int) = f_X0_move_81 h' pg x2 hr bl ∧ RepX h' pg N φ M C X L own kf fl pf sf ∧ pL h' (pg + 7) = (sf.drop b).map φ ∧ Sx pg h0 h' ∧ RU h' u := by
  intro d
  induction d with
  | zero =>
    intro j h H hl hj h7 S hR
    have hp := H.1
    refine ⟨h, ?_, H, by rw [h7, List.take_of_length_le (by rw [List.length_drop]; omega)], S, hR⟩
    refine iter_mr ?_
    simp only [f_X0_move_43s]
    unfold lLen
    rw [gd_c hp.1.1, hp.1.2.2.2.2.1, obind_some, gd_c (by rw [hp.2.1.2.2.1]; decide), obind_some, H.2.2.2.2.2.2.1, List.length_map, if_ltn (by omega) (by omega) (by omega)]
  | succ d ih =>
    intro j h H hl hj h7 S hR
    have hp := H.1
    have hk7 : pK h (pg + 7) = 25 := hp.2.1.2.2.2.1
    have hmem : sf.getD j 0 ∈ sf := by rw [gD (by omega)]; exact List.getElem_mem _
    obtain ⟨e1, e2⟩ := hS _ hmem
    have hE := H.elc e1 e2
    have hlen7 : (pL h (pg + 7)).length = j - b := by rw [h7, List.length_map, List.length_take, List.length_drop]; omega
    obtain ⟨h1, g1, g2, g3⟩ := lAdd_eq (u := u + d) (a := pg + 7) (x := φ (sf.getD j 0)) (by rw [hk7]; decide) (by rw [hE.1]; decide) (by omega) hp.2.2.1.2.2.2 hR
    obtain ⟨k1, k2, k3, k4, k5, k6⟩ := g2.k
    have H1 := (H.gr g2).wl7 (pL h (pg + 7) ++ [φ (sf.getD j 0)])
    have S1 : Sx pg h0 (wL h1 (pg + 7) (pL h (pg + 7) ++ [φ (sf.getD j 0)])) := (S.gr g2 (tk2 hk7 (by unfold treeK; omega))).wl (tk2 (k := 25) (by rw [k1]; exact hk7) (by unfold treeK; omega)) (by omega) (by omega)
    obtain ⟨h', r1, r2, r3, r4, r5⟩ := ih (j + 1) _ H1 (by omega) (by omega) (by
      rw [pL_wL, if_pos rfl, h7, show j + 1 - b = (j - b) + 1 by omega, List.take_succ, List.map_append, List.getElem?_drop, show b + (j - b) = j by omega, List.getElem?_eq_getElem (by omega), gD (by omega)]
      rfl) S1 g3
    refine ⟨h', ?_, r2, r3, r4, r5⟩
    have hstep : f_X0_move_43s h pg x2 hr bl (j : Int) = some (.inl (wL h1 (pg + 7) (pL h (pg + 7) ++ [φ (sf.getD j 0)]), ((j + 1 : Nat) : Int))) := by
      unfold f_X0_move_43s lLen lGet
      rw [gd_c hp.1.1, hp.1.2.2.2.2.1, obind_some, gd_c (by rw [hp.2.1.2.2.1]; decide), obind_some, H.2.2.2.2.2.2.1, List.length_map, if_ltp (by omega) (by omega) (by omega), gd_c hp.1.1, gd_c hp.1.1, obind_some, gd_c (by rw [hp.2.1.2.2.1]; decide), H.2.2.2.2.2.2.1, gd_zin (by omega) (by rw [List.length_map]; omega) (by rw [List.length_map]; omega), zix_nat (by omega), getD_map (by omega), obind_some, gd_c hE.1, hp.1.2.2.2.2.2, obind_some, g1, obind_some]
      congr 3
    show iter _ _ = _
    rw [iter_in hstep]
    exact r1
theorem RepX.openL {hr bl : Nat} {ks : List Nat} (hK : ∀ j ∈ ks, j < N ∧ M j ≠ 1) (h40 : sf.length + ks.length ≤ 40) : ∀ (d j : Nat) (fl' : Nat → Int) (h : HP), RepX h pg N φ M C X L own kf fl' pf (sf ++ ks.take j) → (∀ i, fl' i = if i ∈ ks.take j then 1 else fl i) → ks.length = j + d → pL h (pg + 7) = ks.map φ → Sx pg h0 h → RU h (u + d) → ∃ h' fl'', f_X0_move_117 h pg hr bl (j : Int) = f_X0_move_171 h' hr bl ∧ RepX h' pg N φ M C X L own kf fl'' pf (sf ++ ks) ∧ (∀ i, fl'' i = if i ∈ ks then 1 else fl i) ∧ Sx pg h0 h' ∧ RU h' u := by
  intro d
  induction d with
  | zero =>
    intro j fl' h H hfl hl h7 S hR
    have hp := H.1
    rw [List.take_of_length_le (by omega)] at H hfl
    refine ⟨h, fl', ?_, H, hfl, S, hR⟩
    refine iter_mr ?_
    simp only [f_X0_move_117s]
    unfold lLen
    rw [gd_c hp.1.1, hp.1.2.2.2.2.2, obind_some, gd_c (by rw [hp.2.1.2.2.2.1]; decide), obind_some, h7, List.length_map, if_ltn (by omega) (by omega) (by omega)]
  | succ d ih =>
    intro j fl' h H hfl hl h7 S hR
    have hp := H.1
    have hk7 : pK h (pg + 7) = 25 := hp.2.1.2.2.2.1
    have hk6 : pK h (pg + 6) = 24 := hp.2.1.2.2.1
    have hmem : ks.getD j 0 ∈ ks := by rw [gD (by omega)]; exact List.getElem_mem _
    obtain ⟨e1, e2⟩ := hK _ hmem
    have hE := H.elc e1 e2
    have h6 := H.2.2.2.2.2.2.1
    obtain ⟨h1, g1, g2, g3⟩ := lAdd_eq (u := u + d) (a := pg + 6) (x := φ (ks.getD j 0)) (by rw [hk6]; decide) (by rw [hE.1]; decide) (by rw [h6, List.length_map, List.length_append, List.length_take]; omega) hp.2.2.1.2.2.1 hR
    obtain ⟨k1, k2, k3, k4, k5, k6⟩ := g2.k
    have htk : ks.take (j + 1) = ks.take j ++ [ks.getD j 0] := by
      rw [List.take_succ, List.getElem?_eq_getElem (by omega), gD (by omega)]; rfl
    have hv : pL h (pg + 6) ++ [φ (ks.getD j 0)] = (sf ++ ks.take (j + 1)).map φ := by rw [h6, htk]; simp
    rw [hv] at g1
    have H1 := (H.gr g2).wl6 (sf ++ ks.take (j + 1))
    have S1 : Sx pg h0 (wL h1 (pg + 6) ((sf ++ ks.take (j + 1)).map φ)) := (S.gr g2 (tk2 hk6 (by unfold treeK; omega))).wl (tk2 (k := 24) (by rw [k1]; exact hk6) (by unfold treeK; omega)) (by omega) (by omega)
    have H2 := H1.flag (v := 1) e1
    have h77 : pL (wL h1 (pg + 6) ((sf ++ ks.take (j + 1)).map φ)) (pg + 7) = ks.map φ := by rw [pL_ne _ (by omega), k2]; exact h7
    obtain ⟨h', fl'', r1, r2, r3, r4, r5⟩ := ih (j + 1) _ _ H2 (fun i => by
      rw [htk]
      by_cases z : i = ks.getD j 0
      · rw [z, va_up_s, if_pos (by simp)]
      · rw [va_up_n _ _ _ _ z, hfl i]
        have : (i ∈ ks.take j ++ [ks.getD j 0]) = (i ∈ ks.take j) := by
          rw [List.mem_append, List.mem_singleton]
          exact propext ⟨fun y => y.elim id (fun y => (z y).elim), Or.inl⟩
        simp only [this]) (by omega) h77 (S1.flag H1 e1) g3
    refine ⟨h', fl'', ?_, r2, r3, r4, r5⟩
    have hstep : f_X0_move_117s h pg hr bl (j : Int) = some (.inl (wI (wL h1 (pg + 6) ((sf ++ ks.take (j + 1)).map φ)) (φ (ks.getD j 0)) 6 1, ((j + 1 : Nat) : Int))) := by
      have hk1' : pK (wL h1 (pg + 6) ((sf ++ ks.take (j + 1)).map φ)) = pK h := k1
      have hP1' : pP (wL h1 (pg + 6) ((sf ++ ks.take (j + 1)).map φ)) = pP h := k4
      unfold f_X0_move_117s lLen lGet
      rw [gd_c hp.1.1, hp.1.2.2.2.2.2, obind_some, gd_c (by rw [hk7]; decide), obind_some, h7, List.length_map, if_ltp (by omega) (by omega) (by omega), gd_c hp.1.1, gd_c hp.1.1, obind_some, gd_c (by rw [hk7]; decide), h7, gd_zin (by omega) (by rw [List.length_map]; omega) (by rw [List.length_map]; omega), zix_nat (by omega), getD_map (by omega), obind_some, gd_c hE.1, hp.1.2.2.2.2.1, obind_some, g1, obind_some, hk1', hP1', gd_c hp.1.1, hp.1.2.2.2.2.2, obind_some, gd_c (by rw [hk7]; decide), h77, gd_zin (by omega) (by rw [List.length_map]; omega) (by rw [List.length_map]; omega), getD_map (by omega), obind_some, gd_c hE.1, gd_c hE.1, bnd_eq]
      congr 3
    show iter _ _ = _
    rw [iter_in hstep]
    exact r1
theorem RepX.moveL {hr bl : Nat} (hh : hr < N) (hhm : M hr ≠ 1) (hb : bl < N) (hbm : M bl ≠ 1) (hne : hr ≠ bl) {ks : List Nat} (hK : ∀ j ∈ ks, j < N) (h40 : ks.length ≤ 40) : ∀ (d j : Nat) (kf' : Nat → List Nat) (pf' : Nat → Option (Option Nat)) (h : HP), RepX h pg N φ M C X L own kf' fl pf' sf → kf' = va_up kf hr (ks.take j) → kf bl = ks → (∀ i, pf' i = if i ∈ ks.take j then some (some (φ hr)) else pf i) → ks.length = j + d → Sx pg h0 h → RU h (u + d) → ∃ h' pf'', f_X0_move_174 h (φ hr) (φ bl) (j : Int) = f_X0_move_213 h' (φ hr) (φ bl) ∧ RepX h' pg N φ M C X L own (va_up kf hr ks) fl pf'' sf ∧ (∀ i, pf'' i = if i ∈ ks then some (some (φ hr)) else pf i) ∧ Sx pg h0 h' ∧ RU h' u := by
  intro d
  induction d with
  | zero =>
    intro j kf' pf' h H hkf hks hpf hl S hR
    rw [List.take_of_length_le (by omega)] at hkf hpf
    rw [hkf] at H
    have hE := H.elc hb hbm
    have hkl : pL h (φ bl + 1) = ks.map φ := by rw [(H.2.2.2.1 bl hb hbm).2.2.2, va_up_n _ _ _ _ (Ne.symm hne), hks]
    refine ⟨h, pf', ?_, H, hpf, S, hR⟩
    refine iter_mr ?_
    simp only [f_X0_move_174s]
    unfold lLen
    rw [gd_c hE.1, hE.2.1, obind_some, gd_c (by rw [hE.2.2.1]; decide), obind_some, hkl, List.length_map, if_ltn (by omega) (by omega) (by omega)]
  | succ d ih =>
    intro j kf' pf' h H hkf hks hpf hl S hR
    rw [hkf] at H
    have hE := H.elc hb hbm
    have hkl : pL h (φ bl + 1) = ks.map φ := by rw [(H.2.2.2.1 bl hb hbm).2.2.2, va_up_n _ _ _ _ (Ne.symm hne), hks]
    have hmem : ks.getD j 0 ∈ ks := by rw [gD (by omega)]; exact List.getElem_mem _
    have e1 := hK _ hmem
    have htk : ks.take (j + 1) = ks.take j ++ [ks.getD j 0] := by
      rw [List.take_succ, List.getElem?_eq_getElem (by omega), gD (by omega)]; rfl
    have hlj : (ks.take j).length = j := by rw [List.length_take]; omega
    obtain ⟨h1, r1, r2, r3, r4, r5⟩ := H.put (w := hr) (t := ks.getD j 0) (k := j) (u := u + d) hh hhm e1 (by rw [va_up_s, hlj]; omega) (by rw [va_up_s, hlj]; omega) S hR
    have hkf2 : va_up (va_up kf hr (ks.take j)) hr ((va_up kf hr (ks.take j) hr).take j ++ ks.getD j 0 :: (va_up kf hr (ks.take j) hr).drop j) = va_up kf hr (ks.take (j + 1)) := by
      rw [va_up2, va_up_s, htk, List.take_of_length_le (by omega), List.drop_eq_nil_of_le (by omega)]
    obtain ⟨h', pf'', s1, s2, s3, s4, s5⟩ := ih (j + 1) _ _ h1 r2 hkf2 hks (fun i => by
      rw [htk]
      by_cases z : i = ks.getD j 0
      · rw [z, va_up_s, if_pos (by simp)]
      · rw [va_up_n _ _ _ _ z, hpf i]
        have : (i ∈ ks.take j ++ [ks.getD j 0]) = (i ∈ ks.take j) := by
          rw [List.mem_append, List.mem_singleton]
          exact propext ⟨fun y => y.elim id (fun y => (z y).elim), Or.inl⟩
        simp only [this]) (by omega) r3 r4
    refine ⟨h', pf'', ?_, s2, s3, s4, s5⟩
    have hstep : f_X0_move_174s h (φ hr) (φ bl) (j : Int) = some (.inl (h1, ((j + 1 : Nat) : Int))) := by
      unfold f_X0_move_174s lLen lGet
      rw [gd_c hE.1, hE.2.1, obind_some, gd_c (by rw [hE.2.2.1]; decide), obind_some, hkl, List.length_map, if_ltp (by omega) (by omega) (by omega), gd_c hE.1, obind_some, gd_c (by rw [hE.2.2.1]; decide), hkl, gd_zin (by omega) (by rw [List.length_map]; omega) (by rw [List.length_map]; omega), zix_nat (by omega), getD_map (by omega), obind_some, gd_c (by exact H.kd e1), gd_c (by exact (H.elc hh hhm).1), r1, obind_some]
      congr 3
    show iter _ _ = _
    rw [iter_in hstep]
    exact s1
theorem RepX.last (H : RepX h pg N φ M C X L own kf fl pf sf) {hr bl : Nat} (hh : hr < N) (hb : bl < N) (hbm : M bl ≠ 1) (S : Sx pg h0 h) (hR : RU h (u + 1)) : ∃ h', f_X0_move_213 h (φ hr) (φ bl) = some h' ∧ RepX h' pg N φ M C X L own (va_up kf bl [hr]) fl (va_up pf hr (some (some (φ bl)))) sf ∧ Sx pg h0 h' ∧ RU h' u := by
  have hE := H.elc hb hbm
  have H1 := H.kid hb hbm []
  have S1 : Sx pg h0 (wL h (φ bl + 1) (([] : List Nat).map φ)) := S.kid H hb hbm
  obtain ⟨h', r1, r2, r3, r4, r5⟩ := H1.put (w := bl) (t := hr) (k := 0) (u := u) hb hbm hh (Nat.zero_le _) (by rw [va_up_s]; simp) S1 hR
  rw [va_up_s, va_up2] at r2
  refine ⟨h', ?_, r2, r3, r4⟩
  unfold f_X0_move_213 lClr
  rw [gd_c hE.1, hE.2.1, obind_some, gd_c (by rw [hE.2.2.1]; decide), obind_some, gd_c (by exact hE.1)]
  have r1' : f_X2_put (wL h (φ bl + 1) []) (φ bl) 0 (φ hr) = some h' := r1
  rw [r1', obind_some]
end PX
