/-! the page's tree: the stack -/
set_option maxRecDepth 100000
section PB
variable {h h' h1 : HP} {pg u : Nat} {φ : Nat → Nat} {T : TS}
theorem WF.stk (hW : WF T) : ∀ i ∈ tS T, i < tN T ∧ tM T i ≠ 1 := fun i hi => ⟨(hW.2.2.1.2.2.1 i hi).1, nk1 (hW.2.2.1.2.2.1 i hi).2⟩
theorem RepC.wlg (H : RepC h pg φ T) {a : Nat} (v : List Nat) (e4 : pg + 4 ≠ a) (e5 : pg + 5 ≠ a) (e6 : pg + 6 ≠ a) (hc : ∀ i, i < tN T → tM T i ≠ 1 → φ i + 1 ≠ a) : RepC (wL h a v) pg φ T := by
  refine ⟨H.1.aL (Ne.symm e4) (Ne.symm e5) v, H.2.1, ?_, fun i hi hm => ?_, H.2.2.2.2.1, H.2.2.2.2.2.1, ?_, H.2.2.2.2.2.2.2⟩
  · rw [pL_ne v e4, pL_ne v e5]; exact H.2.2.1
  · rw [pL_ne v (hc i hi hm)]
    exact H.2.2.2.1 i hi hm
  · rw [pL_ne v e6]; exact H.2.2.2.2.2.2.1
theorem LsC.wl (L : LsC h φ T) (H : RepC h pg φ T) (hS : ∀ i ∈ tS T, i < tN T ∧ tM T i ≠ 1) {a : Nat} (v : List Nat) (ha : pK h a ≠ 21) : LsC (wL h a v) φ T := by
  intro i hi hm
  obtain ⟨l, l1, l2, l3⟩ := L i hi hm
  have hl := (H.lls (hS i hi).1 (hS i hi).2 l1).1
  exact ⟨l, l1, by rw [pL_ne v (kne h (by omega))]; exact l2, l3⟩
theorem RepC.pop (H : RepC h pg φ T) (hn : (tS T).Nodup) (hS : ∀ i ∈ tS T, i < tN T ∧ tM T i ≠ 1) {S : List Nat} {e : Nat} (hs : tS T = S ++ [e]) : RepC (wI (wL h (pg + 6) (S.map φ)) (φ e) 6 0) pg φ (setS T S) := by
  have b := H.1.2.1
  have he := hS e (by rw [hs]; simp)
  have hne : e ∉ S := fun z => by
    rw [hs] at hn
    exact (List.nodup_append.mp hn).2.2 e z e (by simp) rfl
  refine ⟨(H.1.aL (by omega) (by omega) _).aI _ _ _, H.2.1, ?_, fun i hi hm => ?_, H.2.2.2.2.1, H.2.2.2.2.2.1, ?_, ?_⟩
  · rw [pL_wI, pL_ne _ (by omega), pL_ne _ (by omega)]; exact H.2.2.1
  · obtain ⟨x1, x2, x3, x4⟩ := H.2.2.2.1 i hi hm
    have hk := (H.elc hi hm).2.2.1
    refine ⟨?_, ?_, ?_, ?_⟩
    · rw [pI_wI, if_neg (fun z => by omega)]; exact x1
    · rw [pI_wI, if_neg (fun z => by omega)]; exact x2
    · rw [pI_wI]
      by_cases q : i = e
      · rw [if_pos ⟨by rw [q], rfl⟩, if_neg (by rw [q]; exact hne)]
      · rw [if_neg (fun z => q (H.2.2.1.2.2 i e hi he.1 z.1)), pI_wL, x3, hs]
        have : (i ∈ S ++ [e]) = (i ∈ tS (setS T S)) := by rw [tS_setS]; simp [q]
        simp only [this]
    · rw [pL_wI, pL_ne _ (kne h (by omega))]; exact x4
  · rw [pL_wI, pL_wL, if_pos rfl]; rfl
  · rw [pI_wI, if_neg (fun z => by omega)]; exact H.2.2.2.2.2.2.2
theorem RepB.pop1 (H : RepB h pg φ T) (hW : WF T) {S : List Nat} {e : Nat} (hs : tS T = S ++ [e]) {i : Nat} (hi : 0 < i) (hi2 : i ≤ S.length) : ∃ h', f_X0_closeTo_0s h pg (i : Int) = some (.inl h') ∧ RepB h' pg φ (setS T S) ∧ FP pg h h' ∧ cntS pg h h' ∧ ∀ u, RU h u → RU h' u := by
  have h24 := hW.b.2.2.2.2.1
  have h1 := hW.1.2.1
  have hlen : (tS T).length = S.length + 1 := by rw [hs]; simp
  have he := hW.stk e (by rw [hs]; simp)
  have hE := H.elc he.1 he.2
  have hb := H.1
  have hk6 : pK h (pg + 6) = 24 := hb.2.1.2.2.1
  have hst : pL h (pg + 6) = S.map φ ++ [φ e] := by rw [H.2.2.2.2.2.2.1, hs, List.map_append]; rfl
  have hll : (S.map φ ++ [φ e]).length = S.length + 1 := by simp
  refine ⟨wI (wL h (pg + 6) (S.map φ)) (φ e) 6 0, ?_, (H.c.pop hW.2.2.1.2.1 hW.stk hs).b ?_, ?_, ?_, fun u q => q⟩
  · have hd : lDel h (pg + 6) (((S.length + 1 : Nat) : Int) - 1) = some (wL h (pg + 6) (S.map φ), φ e) := by
      unfold lDel
      rw [gd_c (by rw [hk6]; decide), hst, gd_zin (by omega) (by omega) (by omega), zix_toNat (by omega) (by omega), show (((S.length + 1 : Nat) : Int) - 1).toNat = S.length by omega]
      congr 2
      · congr 1
        rw [List.take_left' (by simp), List.drop_eq_nil_of_le (by omega), List.append_nil]
      · simp [List.getD]
    unfold f_X0_closeTo_0s lLen
    rw [if_ltp (by omega) (by omega) (by omega), gd_c hb.1.1, hb.1.2.2.2.2.1, obind_some, gd_c (by rw [hk6]; decide), obind_some, hst, hll, if_ltp (by omega) (by omega) (by omega), gd_c hb.1.1, gd_c hb.1.1, obind_some, gd_c (by rw [hk6]; decide), obind_some, hst, hll, hd, obind_some, gd_c (by exact hE.1), gd_c (by exact hE.1)]
    rfl
  · intro i hi hm
    have hi' : i ∈ tS T := by rw [hs]; exact List.mem_append_left _ hi
    exact (H.l.wl H.c hW.stk (a := pg + 6) (S.map φ) (by omega)) i hi' hm
  · exact (FP.aL (by rw [hk6]; unfold treeK; omega) _).trans (FP.aI (by rw [pK_wL, hE.1]; unfold treeK; omega) (fun q => by have q2 := hE.1; rw [q, hb.1.1] at q2; omega) 0)
  · refine ⟨?_, ?_, pL_ne _ (by omega), pL_ne _ (by omega)⟩
    · rw [pI_wI, if_neg (fun z => by omega)]; rfl
    · rw [pI_wI, if_neg (fun z => by omega)]; rfl
theorem setS_self (T : TS) : setS T (tS T) = T := rfl
theorem RepB.closeTo (H : RepB h pg φ T) (hW : WF T) {i : Nat} (hi : i ≤ (tS T).length) : ∃ h', f_X0_closeTo h pg (i : Int) = some h' ∧ RepB h' pg φ (cls T i) ∧ FP pg h h' ∧ cntS pg h h' ∧ ∀ u, RU h u → RU h' u := by
  have h24 := hW.b.2.2.2.2.1
  have hn := hW.1.2.1
  by_cases h0 : i = 0
  · refine ⟨h, ?_, by rw [h0]; exact H, FP.refl _ _, cntS.refl _ _, fun _ q => q⟩
    refine iter_out ?_
    simp only [f_X0_closeTo_0s]
    rw [h0, if_ltn (by omega) (by omega) (by omega)]
  · have key : ∀ d (T : TS) (h : HP), RepB h pg φ T → WF T → (tS T).length = i + d → ∃ h', iter (fun (z : HP) => f_X0_closeTo_0s z pg (i : Int)) h = some h' ∧ RepB h' pg φ (setS T ((tS T).take i)) ∧ FP pg h h' ∧ cntS pg h h' ∧ ∀ u, RU h u → RU h' u := by
      intro d
      induction d with
      | zero =>
        intro T h H hW hl
        have h24 := hW.b.2.2.2.2.1
        have hn := hW.1.2.1
        refine ⟨h, iter_out ?_, ?_, FP.refl _ _, cntS.refl _ _, fun _ q => q⟩
        · simp only [f_X0_closeTo_0s]
          unfold lLen
          rw [if_ltp (by omega) (by omega) (by omega), gd_c H.1.1.1, H.1.1.2.2.2.2.1, obind_some, gd_c (by rw [H.1.2.1.2.2.1]; decide), obind_some, H.2.2.2.2.2.2.1, List.length_map, hl, if_ltn (by omega) (by omega) (by omega)]
        · rw [List.take_of_length_le (by omega), setS_self]; exact H
      | succ d ih =>
        intro T h H hW hl
        have hsp : tS T = (tS T).take (i + d) ++ [(tS T).getD (i + d) 0] := by
          conv => lhs; rw [getD_split (l := tS T) (k := i + d) (by omega)]
          rw [List.drop_eq_nil_of_le (by omega)]
        have hl2 : ((tS T).take (i + d)).length = i + d := by rw [List.length_take]; omega
        obtain ⟨h1, a1, a2, a3, a4, a5⟩ := H.pop1 hW hsp (i := i) (by omega) (by rw [hl2]; omega)
        obtain ⟨h2, b1, b2, b3, b4, b5⟩ := ih (setS T ((tS T).take (i + d))) h1 a2 (hW.take (by omega)) (by rw [tS_setS, hl2])
        refine ⟨h2, ?_, ?_, a3.trans b3, a4.trans b4, fun u q => b5 u (a5 u q)⟩
        · rw [iter_in a1]; exact b1
        · rw [tS_setS, List.take_take, Nat.min_eq_left (by omega)] at b2
          exact b2
    obtain ⟨h', k1, k2, k3⟩ := key ((tS T).length - i) T h H hW (by omega)
    refine ⟨h', k1, ?_, k3⟩
    unfold cls
    rw [if_neg h0]
    exact k2
/-! entering -/
theorem RepC.push (H : RepC h pg φ T) {i : Nat} (hi : i < tN T) (hs : i ∉ tS T) : RepC (wI (wL h (pg + 6) (pL h (pg + 6) ++ [φ i])) (φ i) 6 1) pg φ (psh T i) := by
  have b := H.1.2.1
  refine ⟨(H.1.aL (by omega) (by omega) _).aI _ _ _, H.2.1, ?_, fun j hj hm => ?_, H.2.2.2.2.1, H.2.2.2.2.2.1, ?_, ?_⟩
  · rw [pL_wI, pL_ne _ (by omega), pL_ne _ (by omega)]; exact H.2.2.1
  · obtain ⟨x1, x2, x3, x4⟩ := H.2.2.2.1 j hj hm
    have hk := (H.elc hj hm).2.2.1
    refine ⟨?_, ?_, ?_, ?_⟩
    · rw [pI_wI, if_neg (fun z => by omega)]; exact x1
    · rw [pI_wI, if_neg (fun z => by omega)]; exact x2
    · rw [pI_wI, tS_psh]
      by_cases q : j = i
      · rw [if_pos ⟨by rw [q], rfl⟩, if_pos (by rw [q]; simp)]
      · rw [if_neg (fun z => q (H.2.2.1.2.2 j i hj hi z.1)), pI_wL, x3]
        have : (j ∈ tS T ++ [i]) = (j ∈ tS T) := by simp [q]
        simp only [this]
    · rw [pL_wI, pL_ne _ (kne h (by omega))]; exact x4
  · rw [pL_wI, pL_wL, if_pos rfl, H.2.2.2.2.2.2.1, tS_psh, List.map_append]; rfl
  · rw [pI_wI, if_neg (fun z => by omega)]; exact H.2.2.2.2.2.2.2
theorem SHp.l5 (H : SHp h pg) {e l : Nat} (he : pK h e = 2) (hl : pK h l = 21) (hlt : l < pX h) (hcl : pC h l ≤ 60) (hfr : ∀ x ∈ (pg + 1) :: pL h (pg + 5), pP h x 5 ≠ some l) : SHp (wP h e 5 (some l)) pg := by
  obtain ⟨⟨a1, a2, a3, a4, a5, a6⟩, b, c, ⟨d1, d2, d3, d4⟩, f, g⟩ := H
  have hpe : pg ≠ e := kne h (by omega)
  have hE : ∀ x, ELc h x → ELc (wP h e 5 (some l)) x := fun x hx => by
    obtain ⟨x1, x2, x3, x4, x5, x6, x7, x8⟩ := hx
    refine ⟨x1, by rw [pP_ne _ (Or.inr (by omega))]; exact x2, x3, by rw [pP_ne _ (Or.inr (by omega))]; exact x4, x5, x6, fun l' hl' => ?_, x8⟩
    rw [pP_wP] at hl'
    by_cases q : x = e ∧ 5 = 5
    · rw [if_pos q] at hl'; cases hl'; exact ⟨hl, hlt, hcl⟩
    · rw [if_neg q] at hl'; exact x7 l' hl'
  have hT : ∀ x, TXc h x → TXc (wP h e 5 (some l)) x := fun x hx => by
    obtain ⟨x1, x2, x3, x4, x5⟩ := hx
    refine ⟨x1, by rw [pP_ne _ (Or.inr (by omega))]; exact x2, x3, by rw [pP_ne _ (Or.inr (by omega))]; exact x4, x5⟩
  refine ⟨⟨a1, by rw [pP_ne _ (Or.inl hpe)]; exact a2, by rw [pP_ne _ (Or.inl hpe)]; exact a3, by rw [pP_ne _ (Or.inl hpe)]; exact a4, by rw [pP_ne _ (Or.inl hpe)]; exact a5, by rw [pP_ne _ (Or.inl hpe)]; exact a6⟩, b, c, ⟨hE _ d1, fun x hx => hE x (d2 x hx), fun x hx => hT x (d3 x hx), d4⟩, fun x hx y hy m hm hm2 => ?_, fun x hx y hy m => ?_⟩
  · rw [pP_wP] at hm hm2
    by_cases qx : x = e ∧ 5 = 5
    · by_cases qy : y = e ∧ 5 = 5
      · rw [qx.1, qy.1]
      · rw [if_pos qx] at hm; cases hm
        rw [if_neg qy] at hm2
        exact (hfr y hy hm2).elim
    · rw [if_neg qx] at hm
      by_cases qy : y = e ∧ 5 = 5
      · rw [if_pos qy] at hm2; cases hm2
        exact (hfr x hx hm).elim
      · rw [if_neg qy] at hm2
        exact f x hx y hy m hm hm2
  · rw [pP_ne _ (Or.inr (by omega)), pP_ne _ (Or.inr (by omega))]; exact g x hx y hy m
theorem RepC.l5 (H : RepC h pg φ T) {e l : Nat} (he : pK h e = 2) (hl : pK h l = 21) (hlt : l < pX h) (hcl : pC h l ≤ 60) (hfr : ∀ x ∈ (pg + 1) :: pL h (pg + 5), pP h x 5 ≠ some l) : RepC (wP h e 5 (some l)) pg φ T := by
  refine ⟨H.1.l5 he hl hlt hcl hfr, H.2.1, H.2.2.1, H.2.2.2.1, H.2.2.2.2.1, fun i hi => ?_, H.2.2.2.2.2.2.1, H.2.2.2.2.2.2.2⟩
  rw [pP_ne _ (Or.inr (by omega))]
  exact H.2.2.2.2.2.1 i hi
theorem SHp.mem_lt (H : SHp h pg) {x : Nat} (hx : x ∈ (pg + 1) :: pL h (pg + 5)) : ELc h x := by
  rcases List.mem_cons.mp hx with z | z
  · rw [z]; exact H.2.2.2.1.1
  · exact H.2.2.2.1.2.1 x z
theorem RepC.mem5 (H : RepC h pg φ T) {i : Nat} (hi : i < tN T) (hm : tM T i ≠ 1) : φ i ∈ (pg + 1) :: pL h (pg + 5) := by
  by_cases e : i = 0
  · rw [e, H.2.1]; simp
  · exact List.mem_cons_of_mem _ (H.2.2.1.1 i hi e hm)
theorem RepC.enter2 {i : Nat} (H : RepC h pg φ (psh T i)) (L : LsC h φ T) (hS : ∀ i ∈ tS T, i < tN T ∧ tM T i ≠ 1) (hi : i < tN T) (hm : tM T i ≠ 1) (hs : i ∉ tS T) (hL : tL T i = []) (hn : nmOK (tM T i)) (hR : RU h (u + 1)) (h0 : i = 0 → tM T i = 0) : ∃ h', (if zI (pI h (φ i) 2) = zI 99 then f_X2_enter_22 h (φ i) else gd (pK h (φ i) = 2) (if zI (pI h (φ i) 2) = zI 0 then f_X2_enter_22 h (φ i) else some h)) = some h' ∧ RepB h' pg φ (psh T i) ∧ FP pg h h' ∧ cntS pg h h' ∧ RU h' u := by
  have hE := H.elc hi hm
  have h2 := (H.2.2.2.1 i hi hm).1
  rw [tM_psh] at h2
  unfold nmOK at hn
  have key : (tM T i = 99 ∨ tM T i = 0) → ∃ h', f_X2_enter_22 h (φ i) = some h' ∧ RepB h' pg φ (psh T i) ∧ FP pg h h' ∧ cntS pg h h' ∧ RU h' u := fun _ => by
    cases h5 : pP h (φ i) 5 with
    | some l =>
      obtain ⟨l1, l2, l3⟩ := H.lls hi hm h5
      refine ⟨wL h l [], ?_, (H.wl [] (Or.inl l1)).b (fun j hj hmj => ?_), FP.aL (by rw [l1]; unfold treeK; omega) _, ⟨rfl, rfl, pL_ne _ (kne h (by have := H.1.2.1; omega)), pL_ne _ (kne h (by have := H.1.2.1; omega))⟩, hR.mono (by omega)⟩
      · unfold f_X2_enter_22 f_X2_enter_40 lClr
        rw [gd_c hE.1, h5, nl_some, gd_c hE.1, obind_some, gd_c (by rw [l1]; decide), obind_some]
      · by_cases q : j = i
        · refine ⟨l, by rw [q]; exact h5, by rw [pL_wL, if_pos rfl, tL_psh, q, hL]; rfl, l3⟩
        · have hj' : j ∈ tS T := by
            rw [tS_psh] at hj
            rcases List.mem_append.mp hj with z | z
            · exact z
            · simp at z; exact (q z).elim
          obtain ⟨m, m1, m2, m3⟩ := L j hj' hmj
          refine ⟨m, m1, ?_, m3⟩
          rw [pL_ne _ ?_]
          · exact m2
          · intro z
            have hjS := hS j hj'
            exact q (H.2.2.1.2.2 j i hjS.1 hi (H.1.2.2.2.2.1 _ (H.mem5 hjS.1 hjS.2) _ (H.mem5 hi hm) l (by rw [← z]; exact m1) h5))
    | none =>
      have hlt := H.1.lt
      have A : Agr h (wNew h 21 3) := (Agr.refl h).new 21 3
      have hfr : ∀ x ∈ (pg + 1) :: pL (wNew h 21 3) (pg + 5), pP (wNew h 21 3) x 5 ≠ some (pX h) := fun x hx z => by
        rw [(A.2.2 (pg + 5) (by omega)).2.2.2.2.1] at hx
        have hx' := H.1.mem_lt hx
        rw [(A.2.2 x (by have := hx'.2.2.2.2.2.2.2.1; omega)).2.2.2.1] at z
        have := (hx'.2.2.2.2.2.2.1 _ z).2.1
        omega
      have hk : pK (wNew h 21 3) (φ i) = 2 := by rw [(A.2.2 (φ i) (by have := (H.kd hi).2; omega)).1]; exact hE.1
      have hkl : pK (wNew h 21 3) (pX h) = 21 := by rw [pK_wNew, if_pos rfl]
      have H1 := (H.agr A).l5 hk hkl (Nat.lt_succ_self _) (by rw [pC_wNew, if_pos rfl]; omega) hfr
      have hself : pP (wP (wNew h 21 3) (φ i) 5 (some (pX h))) (φ i) 5 = some (pX h) := by rw [pP_wP, if_pos ⟨rfl, rfl⟩]
      have H2 := H1.wl (a := pX h) [] (Or.inl hkl)
      refine ⟨wL (wP (wNew h 21 3) (φ i) 5 (some (pX h))) (pX h) [], ?_, H2.b (fun j hj hmj => ?_), ?_, ?_, ?_⟩
      · unfold f_X2_enter_22 f_X2_enter_40 lClr lNew
        rw [gd_c hE.1, h5, nl_none, bnd_eq, gd_c (show rm1 h 3 from ⟨by have := hR.1; omega, by have := hR.2; omega⟩), bnd_eq, gd_c ⟨by rw [pK_wNew, if_pos rfl], by decide⟩, obind_some, wK_wNew, gd_c hk, bnd_eq, gd_c (show pK (wP (wNew h 21 3) (φ i) 5 (some (pX h))) (φ i) = 2 from hk), hself, obind_some, gd_c (by rw [pK_wP, hkl]; decide), obind_some]
      · by_cases q : j = i
        · refine ⟨pX h, by rw [q]; exact hself, by rw [pL_wL, if_pos rfl, tL_psh, q, hL]; rfl, ?_⟩
          show pC (wNew h 21 3) (pX h) ≤ 60
          rw [pC_wNew, if_pos rfl]; omega
        · have hj' : j ∈ tS T := by
            rw [tS_psh] at hj
            rcases List.mem_append.mp hj with z | z
            · exact z
            · simp at z; exact (q z).elim
          obtain ⟨m, m1, m2, m3⟩ := L j hj' hmj
          have hjS := hS j hj'
          have hml := (H.lls hjS.1 hjS.2 m1).2.1
          have hji : φ j ≠ φ i := fun z => q (H.2.2.1.2.2 j i hjS.1 hi z)
          refine ⟨m, ?_, ?_, ?_⟩
          · rw [pP_wL, pP_ne _ (Or.inl hji), (A.2.2 (φ j) (by have := (H.kd hjS.1).2; omega)).2.2.2.1]; exact m1
          · rw [pL_ne _ (by omega), pL_wP, (A.2.2 m hml).2.2.2.2.1]; exact m2
          · rw [pC_wL, pC_wP, (A.2.2 m hml).2.2.2.2.2.2]; exact m3
      · exact ((FP.agr A (by omega)).trans (FP.aP (by rw [hk]; unfold treeK; omega) (fun z => by have := H.1.1.1; rw [z] at hk; rw [(A.2.2 pg (by omega)).1] at hk; omega) (fun _ => by rw [(A.2.2 (φ i) (by have := (H.kd hi).2; omega)).2.2.2.1]; exact h5) _)).trans (FP.aL (by rw [pK_wP, hkl]; unfold treeK; omega) _)
      · refine (cntS.agr A hlt).trans ⟨rfl, rfl, pL_ne _ (by omega), pL_ne _ (by omega)⟩
      · exact ⟨by have := hR.1; show pX h + 1 + u ≤ pO h + 600000; omega, by have := hR.2; show pS h + 3 + 100 * u ≤ 7302250; omega⟩
  rw [h2]
  by_cases q : tM T i = 99
  · rw [if_eqp q]; exact key (Or.inl q)
  · rw [if_eqn q (by omega) (by omega) (by omega) (by omega), gd_c hE.1]
    by_cases q2 : tM T i = 0
    · rw [if_eqp q2]; exact key (Or.inr q2)
    · rw [if_eqn q2 (by omega) (by omega) (by omega) (by omega)]
      refine ⟨h, rfl, H.b (fun j hj hmj => ?_), FP.refl _ _, cntS.refl _ _, hR.mono (by omega)⟩
      rw [tS_psh] at hj
      rcases List.mem_append.mp hj with z | z
      · exact L j z hmj
      · simp at z
        rw [z] at hmj
        rcases hmj with y | y
        · exact (q y).elim
        · exact (q2 (h0 y)).elim
end PB
