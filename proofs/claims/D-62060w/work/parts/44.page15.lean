/-! the page's tree while it is between two states: children, flags, parents and the stack by themselves -/
set_option maxRecDepth 100000
def RepX (h : HP) (pg N : Nat) (φ : Nat → Nat) (M C : Nat → Int) (X : Nat → List Int) (L : Nat → List Nat) (own : Nat → Prop) (kf : Nat → List Nat) (fl : Nat → Int) (pf : Nat → Option (Option Nat)) (sf : List Nat) : Prop :=
  SHp h pg ∧ φ 0 = pg + 1 ∧
  ((∀ i, i < N → i ≠ 0 → M i ≠ 1 → φ i ∈ pL h (pg + 5)) ∧ (∀ i, i < N → M i = 1 → φ i ∈ pL h (pg + 4)) ∧ ∀ i j, i < N → j < N → φ i = φ j → i = j) ∧
  (∀ i, i < N → M i ≠ 1 → pI h (φ i) 2 = M i ∧ pI h (φ i) 3 = C i ∧ pI h (φ i) 6 = fl i ∧ pL h (φ i + 1) = (kf i).map φ) ∧
  (∀ i, i < N → M i = 1 → pB h (φ i + 1) = X i) ∧
  (∀ i v, i < N → pf i = some v → pP h (φ i) 0 = v) ∧
  pL h (pg + 6) = sf.map φ ∧
  (∀ i, own i → i < N ∧ M i ≠ 1 ∧ ∃ l, pP h (φ i) 5 = some l ∧ pL h l = (L i).map φ ∧ pC h l ≤ 60) ∧
  pI h pg 7 = 0
def Sx (pg : Nat) (h0 h : HP) : Prop := FP pg h0 h ∧ cntS pg h0 h
section PX
variable {h h0 h' h1 : HP} {pg N u : Nat} {φ : Nat → Nat} {M C : Nat → Int} {X : Nat → List Int} {L : Nat → List Nat} {own : Nat → Prop} {kf : Nat → List Nat} {fl : Nat → Int} {pf : Nat → Option (Option Nat)} {sf : List Nat}
theorem RepX.elc (H : RepX h pg N φ M C X L own kf fl pf sf) {i : Nat} (hi : i < N) (hm : M i ≠ 1) : ELc h (φ i) := by
  by_cases e : i = 0
  · rw [e, H.2.1]; exact H.1.2.2.2.1.1
  · exact H.1.2.2.2.1.2.1 _ (H.2.2.1.1 i hi e hm)
theorem RepX.txc (H : RepX h pg N φ M C X L own kf fl pf sf) {i : Nat} (hi : i < N) (hm : M i = 1) : TXc h (φ i) := H.1.2.2.2.1.2.2.1 _ (H.2.2.1.2.1 i hi hm)
theorem RepX.kd (H : RepX h pg N φ M C X L own kf fl pf sf) {i : Nat} (hi : i < N) : pK h (φ i) = 2 ∨ pK h (φ i) = 3 := by
  by_cases e : M i = 1
  · exact Or.inr (H.txc hi e).1
  · exact Or.inl (H.elc hi e).1
theorem RepX.gr (H : RepX h pg N φ M C X L own kf fl pf sf) {a : Nat} (g : Gr h a h1) : RepX h1 pg N φ M C X L own kf fl pf sf := by
  obtain ⟨k1, k2, k3, k4, k5, k6⟩ := g.k
  refine ⟨H.1.gr g, H.2.1, ?_, ?_, ?_, ?_, ?_, fun i hi => ?_, ?_⟩
  · rw [k2]; exact H.2.2.1
  · rw [k3, k2]; exact H.2.2.2.1
  · rw [k5]; exact H.2.2.2.2.1
  · rw [k4]; exact H.2.2.2.2.2.1
  · rw [k2]; exact H.2.2.2.2.2.2.1
  · obtain ⟨i1, i2, l, l1, l2, l3⟩ := H.2.2.2.2.2.2.2.1 i hi
    refine ⟨i1, i2, l, by rw [k4]; exact l1, by rw [k2]; exact l2, ?_⟩
    rcases g with e | ⟨n, hn, e⟩
    · rw [e]; exact l3
    · rw [e, pC_wGr]; split
      · exact hn
      · exact l3
  · rw [k3]; exact H.2.2.2.2.2.2.2.2
theorem RepX.kid (H : RepX h pg N φ M C X L own kf fl pf sf) {i : Nat} (hi : i < N) (hm : M i ≠ 1) (v : List Nat) : RepX (wL h (φ i + 1) (v.map φ)) pg N φ M C X L own (va_up kf i v) fl pf sf := by
  have hE := H.elc hi hm
  have b := H.1.2.1
  have e4 : pg + 4 ≠ φ i + 1 := kne h (by rw [hE.2.2.1]; omega)
  have e5 : pg + 5 ≠ φ i + 1 := kne h (by rw [hE.2.2.1]; omega)
  have e6 : pg + 6 ≠ φ i + 1 := kne h (by rw [hE.2.2.1]; omega)
  refine ⟨H.1.aL (Ne.symm e4) (Ne.symm e5) _, H.2.1, ?_, fun j hj hmj => ?_, H.2.2.2.2.1, H.2.2.2.2.2.1, ?_, fun j hj => ?_, H.2.2.2.2.2.2.2.2⟩
  · rw [pL_ne _ e4, pL_ne _ e5]; exact H.2.2.1
  · obtain ⟨x1, x2, x3, x4⟩ := H.2.2.2.1 j hj hmj
    refine ⟨x1, x2, x3, ?_⟩
    by_cases e : j = i
    · rw [e, va_up_s, pL_wL, if_pos rfl]
    · rw [va_up_n _ _ _ _ e, pL_ne _ (fun z => e (H.2.2.1.2.2 j i hj hi (by omega)))]
      exact x4
  · rw [pL_ne _ e6]; exact H.2.2.2.2.2.2.1
  · obtain ⟨i1, i2, l, l1, l2, l3⟩ := H.2.2.2.2.2.2.2.1 j hj
    have hl := ((H.elc i1 i2).2.2.2.2.2.2.1 l l1).1
    exact ⟨i1, i2, l, l1, by rw [pL_ne _ (kne h (by rw [hE.2.2.1]; omega))]; exact l2, l3⟩
theorem RepX.par (H : RepX h pg N φ M C X L own kf fl pf sf) {i : Nat} (hi : i < N) (v : Option Nat) : RepX (wP h (φ i) 0 v) pg N φ M C X L own kf fl (va_up pf i (some v)) sf := by
  have hp : pg ≠ φ i := kne h (by have := H.kd hi; have := H.1.1.1; omega)
  refine ⟨H.1.aP (Or.inl ⟨rfl, Ne.symm hp⟩) v, H.2.1, H.2.2.1, H.2.2.2.1, H.2.2.2.2.1, fun j w hj hw => ?_, H.2.2.2.2.2.2.1, fun j hj => ?_, H.2.2.2.2.2.2.2.2⟩
  · by_cases e : j = i
    · rw [e, va_up_s] at hw
      cases hw
      rw [e, pP_wP, if_pos ⟨rfl, rfl⟩]
    · rw [va_up_n _ _ _ _ e] at hw
      rw [pP_ne _ (Or.inl (fun z => e (H.2.2.1.2.2 j i hj hi z)))]
      exact H.2.2.2.2.2.1 j w hj hw
  · obtain ⟨i1, i2, l, l1, l2⟩ := H.2.2.2.2.2.2.2.1 j hj
    exact ⟨i1, i2, l, by rw [pP_ne _ (Or.inr (by omega))]; exact l1, l2⟩
theorem RepX.flag (H : RepX h pg N φ M C X L own kf fl pf sf) {i : Nat} (hi : i < N) (v : Int) : RepX (wI h (φ i) 6 v) pg N φ M C X L own kf (va_up fl i v) pf sf := by
  refine ⟨H.1.aI _ _ _, H.2.1, H.2.2.1, fun j hj hmj => ?_, H.2.2.2.2.1, H.2.2.2.2.2.1, H.2.2.2.2.2.2.1, H.2.2.2.2.2.2.2.1, ?_⟩
  · obtain ⟨x1, x2, x3, x4⟩ := H.2.2.2.1 j hj hmj
    refine ⟨?_, ?_, ?_, x4⟩
    · rw [pI_wI, if_neg (fun z => by omega)]; exact x1
    · rw [pI_wI, if_neg (fun z => by omega)]; exact x2
    · by_cases e : j = i
      · rw [e, va_up_s, pI_wI, if_pos ⟨rfl, rfl⟩]
      · rw [va_up_n _ _ _ _ e, pI_wI, if_neg (fun z => e (H.2.2.1.2.2 j i hj hi z.1))]; exact x3
  · rw [pI_wI, if_neg (fun z => by omega)]; exact H.2.2.2.2.2.2.2.2
theorem RepX.wl6 (H : RepX h pg N φ M C X L own kf fl pf sf) (s : List Nat) : RepX (wL h (pg + 6) (s.map φ)) pg N φ M C X L own kf fl pf s := by
  have b := H.1.2.1
  refine ⟨H.1.aL (by omega) (by omega) _, H.2.1, ?_, fun j hj hmj => ?_, H.2.2.2.2.1, H.2.2.2.2.2.1, ?_, fun j hj => ?_, H.2.2.2.2.2.2.2.2⟩
  · rw [pL_ne _ (by omega), pL_ne _ (by omega)]; exact H.2.2.1
  · have hE := H.elc hj hmj
    rw [pL_ne _ (kne h (by rw [hE.2.2.1]; omega))]
    exact H.2.2.2.1 j hj hmj
  · rw [pL_wL, if_pos rfl]
  · obtain ⟨i1, i2, l, l1, l2, l3⟩ := H.2.2.2.2.2.2.2.1 j hj
    have hl := ((H.elc i1 i2).2.2.2.2.2.2.1 l l1).1
    exact ⟨i1, i2, l, l1, by rw [pL_ne _ (kne h (by omega))]; exact l2, l3⟩
theorem RepX.wl7 (H : RepX h pg N φ M C X L own kf fl pf sf) (s : List Nat) : RepX (wL h (pg + 7) s) pg N φ M C X L own kf fl pf sf := by
  have b := H.1.2.1
  refine ⟨H.1.aL (by omega) (by omega) _, H.2.1, ?_, fun j hj hmj => ?_, H.2.2.2.2.1, H.2.2.2.2.2.1, ?_, fun j hj => ?_, H.2.2.2.2.2.2.2.2⟩
  · rw [pL_ne _ (by omega), pL_ne _ (by omega)]; exact H.2.2.1
  · have hE := H.elc hj hmj
    rw [pL_ne _ (kne h (by rw [hE.2.2.1]; omega))]
    exact H.2.2.2.1 j hj hmj
  · rw [pL_ne _ (by omega)]; exact H.2.2.2.2.2.2.1
  · obtain ⟨i1, i2, l, l1, l2, l3⟩ := H.2.2.2.2.2.2.2.1 j hj
    have hl := ((H.elc i1 i2).2.2.2.2.2.2.1 l l1).1
    exact ⟨i1, i2, l, l1, by rw [pL_ne _ (kne h (by omega))]; exact l2, l3⟩
theorem RepX.wloc (H : RepX h pg N φ M C X L own kf fl pf sf) (v : Option Nat) (k : Int) : RepX (wI (wP h pg 12 v) pg 13 k) pg N φ M C X L own kf fl pf sf := by
  refine ⟨(H.1.aP (Or.inr rfl) v).aI _ _ _, H.2.1, H.2.2.1, fun j hj hmj => ?_, H.2.2.2.2.1, fun j w hj hw => ?_, H.2.2.2.2.2.2.1, fun j hj => ?_, ?_⟩
  · obtain ⟨x1, x2, x3, x4⟩ := H.2.2.2.1 j hj hmj
    refine ⟨?_, ?_, ?_, x4⟩
    · rw [pI_wI, if_neg (fun z => by omega)]; exact x1
    · rw [pI_wI, if_neg (fun z => by omega)]; exact x2
    · rw [pI_wI, if_neg (fun z => by omega)]; exact x3
  · rw [pP_wI, pP_ne _ (Or.inr (by omega))]; exact H.2.2.2.2.2.1 j w hj hw
  · obtain ⟨i1, i2, l, l1, l2⟩ := H.2.2.2.2.2.2.2.1 j hj
    exact ⟨i1, i2, l, by rw [pP_wI, pP_ne _ (Or.inr (by omega))]; exact l1, l2⟩
  · rw [pI_wI, if_neg (fun z => by omega)]; exact H.2.2.2.2.2.2.2.2
theorem Sx.refl (pg : Nat) (h : HP) : Sx pg h h := ⟨FP.refl _ _, cntS.refl _ _⟩
theorem Sx.gr (S : Sx pg h0 h) {a : Nat} (g : Gr h a h1) (hk : treeK (pK h a)) : Sx pg h0 h1 := ⟨S.1.trans (FP.gr g hk), S.2.trans (cntS.gr g)⟩
theorem Sx.wl (S : Sx pg h0 h) {a : Nat} {v : List Nat} (hk : treeK (pK h a)) (e4 : pg + 4 ≠ a) (e5 : pg + 5 ≠ a) : Sx pg h0 (wL h a v) := ⟨S.1.xL hk, S.2.trans ⟨rfl, rfl, pL_ne _ e4, pL_ne _ e5⟩⟩
theorem Sx.kid (S : Sx pg h0 h) (H : RepX h pg N φ M C X L own kf fl pf sf) {i : Nat} (hi : i < N) (hm : M i ≠ 1) {v : List Nat} : Sx pg h0 (wL h (φ i + 1) v) := by
  have hE := H.elc hi hm
  have b := H.1.2.1
  exact S.wl (tk2 hE.2.2.1 (by unfold treeK; omega)) (kne h (by rw [hE.2.2.1]; omega)) (kne h (by rw [hE.2.2.1]; omega))
theorem Sx.par (S : Sx pg h0 h) (H : RepX h pg N φ M C X L own kf fl pf sf) {i : Nat} (hi : i < N) {v : Option Nat} : Sx pg h0 (wP h (φ i) 0 v) := by
  have hk := H.kd hi
  exact ⟨S.1.xP (by unfold treeK; omega) (fun z => by have := H.1.1.1; rw [z] at hk; omega) (fun z => by omega), S.2.trans ⟨rfl, rfl, rfl, rfl⟩⟩
theorem Sx.flag (S : Sx pg h0 h) (H : RepX h pg N φ M C X L own kf fl pf sf) {i : Nat} (hi : i < N) {v : Int} : Sx pg h0 (wI h (φ i) 6 v) := by
  have hk := H.kd hi
  refine ⟨S.1.xI (by unfold treeK; omega) (fun z => by have := H.1.1.1; rw [z] at hk; omega), S.2.trans ⟨?_, ?_, rfl, rfl⟩⟩
  · rw [pI_wI, if_neg (fun z => by omega)]
  · rw [pI_wI, if_neg (fun z => by omega)]
theorem Sx.loc (S : Sx pg h0 h) (hk : pK h pg = 1) (v : Option Nat) (k : Int) : Sx pg h0 (wI (wP h pg 12 v) pg 13 k) := by
  refine ⟨S.1.trans (FP.loc hk v k), S.2.trans ⟨?_, ?_, rfl, rfl⟩⟩
  · rw [pI_wI, if_neg (fun z => by omega)]; rfl
  · rw [pI_wI, if_neg (fun z => by omega)]; rfl
/-! doings -/
theorem RepX.put (H : RepX h pg N φ M C X L own kf fl pf sf) {w t k : Nat} (hw : w < N) (hwm : M w ≠ 1) (ht : t < N) (hk : k ≤ (kf w).length) (hl : (kf w).length ≤ 40) (S : Sx pg h0 h) (hR : RU h (u + 1)) : ∃ h', f_X2_put h (φ w) ((k : Nat) : Int) (φ t) = some h' ∧ RepX h' pg N φ M C X L own (va_up kf w ((kf w).take k ++ t :: (kf w).drop k)) fl (va_up pf t (some (some (φ w)))) sf ∧ Sx pg h0 h' ∧ RU h' u ∧ pL h' (pg + 7) = pL h (pg + 7) := by
  have hE := H.elc hw hwm
  have hel := (H.2.2.2.1 w hw hwm).2.2.2
  have htk := H.kd ht
  obtain ⟨h1, g1, g2, g3⟩ := lIns_eq (u := u) (a := φ w + 1) (x := φ t) (k := k) (by rw [hE.2.2.1]; decide) (by show pK h (φ t) = 2 ∨ pK h (φ t) = 3 ∨ pK h (φ t) = 7; omega) (by rw [hel, List.length_map]; omega) hE.2.2.2.2.2.2.2.2 (by rw [hel, List.length_map]; exact hk) hR
  obtain ⟨k1, k2, k3, k4, k5, k6⟩ := g2.k
  have Hg := H.gr g2
  have hv : (pL h (φ w + 1)).take k ++ φ t :: (pL h (φ w + 1)).drop k = ((kf w).take k ++ t :: (kf w).drop k).map φ := by rw [hel, List.map_append, List.map_cons, List.map_take, List.map_drop]
  rw [hv] at g1
  have H1 := Hg.kid hw hwm ((kf w).take k ++ t :: (kf w).drop k)
  have S1 : Sx pg h0 (wL h1 (φ w + 1) (((kf w).take k ++ t :: (kf w).drop k).map φ)) := (S.gr g2 (tk2 hE.2.2.1 (by unfold treeK; omega))).kid Hg hw hwm
  refine ⟨_, ?_, H1.par ht (some (φ w)), S1.par H1 ht, g3, ?_⟩
  · unfold f_X2_put
    rw [gd_c hE.1, hE.2.1, obind_some, g1, obind_some, gd_c (by show pK h1 (φ t) = 2 ∨ pK h1 (φ t) = 3; rw [k1]; exact htk), bnd_eq]
  · rw [pL_wP, pL_ne _ (kne h1 (by have := H.1.2.1; rw [k1, hE.2.2.1]; omega)), k2]
theorem RepX.is (H : RepX h pg N φ M C X L own kf fl pf sf) {i : Nat} (hi : i < N) (hm : M i ≠ 1) (hn : nmOK (M i)) {x : Int} (hx : nmOK x) : f_X2_is h (φ i) x = some (zb (decide (M i = x))) := by
  unfold nmOK at hn hx
  unfold f_X2_is
  rw [gd_c (H.elc hi hm).1, (H.2.2.2.1 i hi hm).1]
  by_cases e : M i = x
  · rw [if_eqp e, decide_eq_true e]; rfl
  · rw [if_eqn e (by omega) (by omega) (by omega) (by omega), decide_eq_false e]; rfl
theorem RepX.top (H : RepX h pg N φ M C X L own kf fl pf sf) (hl : 1 ≤ sf.length) (h24 : sf.length ≤ 40) (hS : ∀ i ∈ sf, i < N ∧ M i ≠ 1 ∧ nmOK (M i)) : f_X0_top h pg = some (φ (sf.getD (sf.length - 1) 0)) := by
  have hb := H.1
  have hs := H.2.2.2.2.2.2.1
  have hm : sf.getD (sf.length - 1) 0 ∈ sf := by rw [gD (by omega)]; exact List.getElem_mem _
  have hk := (H.elc (hS _ hm).1 (hS _ hm).2.1).1
  unfold f_X0_top lLen lGet
  rw [gd_c hb.1.1, gd_c hb.1.1, hb.1.2.2.2.2.1, obind_some, gd_c (by rw [hb.2.1.2.2.1]; decide), obind_some, gd_c (by rw [hb.2.1.2.2.1]; decide), hs, List.length_map, gd_zin (by omega) (by omega) (by omega), obind_some, zix_toNat (by omega) (by omega), tn_s1, getD_map (by omega), gd_c hk]
theorem RepX.topm (H : RepX h pg N φ M C X L own kf fl pf sf) (hl : 1 ≤ sf.length) (h24 : sf.length ≤ 40) (hS : ∀ i ∈ sf, i < N ∧ M i ≠ 1 ∧ nmOK (M i)) {x : Int} (hx : nmOK x) : f_X0_reach h pg x 0 = some ((lastB (fun k => decide (1 ≤ k) && decide (M (sf.getD k 0) = x)) sf.length : Nat) : Int) := by
  have hs := H.2.2.2.2.2.2.1
  have hb := H.1
  have hloop : ∀ k, k < sf.length → iter (fun (z : Int) => f_X0_reach_10s h pg x 0 z) (k : Int) = some ((lastB (fun k => decide (1 ≤ k) && decide (M (sf.getD k 0) = x)) (k + 1) : Nat) : Int) := by
    intro k
    induction k with
    | zero =>
      intro _
      refine iter_out ?_
      simp only [f_X0_reach_10s]
      rw [if_ltn (by omega) (by omega) (by omega)]
      rfl
    | succ k ih =>
      intro hk
      have hm : sf.getD (k + 1) 0 ∈ sf := by rw [gD hk]; exact List.getElem_mem _
      obtain ⟨t2, t3, hnm⟩ := hS _ hm
      have hel := H.elc t2 t3
      have hl2 := (H.2.2.2.1 _ t2 t3).1
      have hstep : f_X0_reach_10s h pg x 0 ((k + 1 : Nat) : Int) = if M (sf.getD (k + 1) 0) = x then some (.inr ((k + 1 : Nat) : Int)) else some (.inl ((k : Nat) : Int)) := by
        simp only [f_X0_reach_10s]
        unfold lGet
        rw [if_ltp (by omega) (by omega) (by omega), gd_c hb.1.1, hb.1.2.2.2.2.1, obind_some, gd_c (by rw [hb.2.1.2.2.1]; decide), hs, gd_zin (by omega) (by rw [List.length_map]; omega) (by rw [List.length_map]; omega), obind_some, zix_nat (by omega), getD_map hk, gd_c hel.1, gd_c hel.1, H.is t2 t3 hnm hx, obind_some]
        by_cases e : M (sf.getD (k + 1) 0) = x
        · rw [if_pos e, decide_eq_true e, zb_t, if_eqn (by omega) (by omega) (by omega) (by omega) (by omega)]
        · unfold nmOK at hnm
          rw [if_neg e, decide_eq_false e, zb_f, if_eqp rfl, gd_c hel.1, gd_c (by omega), hl2, idxOf_eq (by omega) (by omega) (by omega), obind_some]
          have hneg : ixT 0 (M (sf.getD (k + 1) 0)) < 0 := (ixT_neg 0 _).mpr rfl
          have hrg := ixT_rng 0 (by omega) (M (sf.getD (k + 1) 0))
          rw [if_ltp (by omega) (by omega) (by omega)]
          congr 2
          omega
      rw [lastB_s]
      simp only [show decide (1 ≤ k + 1) = true from decide_eq_true (by omega), Bool.true_and, decide_eq_true_eq]
      by_cases e : M (sf.getD (k + 1) 0) = x
      · rw [if_pos e] at hstep ⊢
        exact iter_out hstep
      · rw [if_neg e] at hstep ⊢
        rw [iter_in hstep]
        exact ih (by omega)
  unfold f_X0_reach lLen f_X0_reach_10
  rw [gd_c hb.1.1, hb.1.2.2.2.2.1, obind_some, gd_c (by rw [hb.2.1.2.2.1]; decide), obind_some, bnd_eq, hs, List.length_map, show (sf.length : Int) - 1 = ((sf.length - 1 : Nat) : Int) by omega, hloop _ (by omega), show sf.length - 1 + 1 = sf.length by omega]
theorem RepX.index (H : RepX h pg N φ M C X L own kf fl pf sf) {w t : Nat} (hw : w < N) (hm : M w ≠ 1) (ht : t < N) {K1 K2 : List Nat} (e1 : kf w = K1 ++ t :: K2) (e3 : t ∉ K1) (hN : ∀ i ∈ K1, i < N) (h24 : (kf w).length ≤ 40) : f_X2_index h (φ w) (φ t) = some ((K1.length : Nat) : Int) := by
  have hE := H.elc hw hm
  have hl : pL h (φ w + 1) = (kf w).map φ := (H.2.2.2.1 _ hw hm).2.2.2
  have hkl : (kf w).length = K1.length + 1 + K2.length := by rw [e1]; simp; omega
  unfold f_X2_index f_X2_index_2
  refine loopUs (fun k => (k : Int)) 0 K1.length rfl (Nat.zero_le _) (fun k k1 k2 => ?_) ?_
  · have hne : ¬ (some (φ ((kf w).getD k 0)) = some (φ t)) := fun q => by
      have hk : (kf w).getD k 0 = K1.getD k 0 := by rw [e1, gD (by simp; omega), List.getElem_append_left k2, gD k2]
      have hin : K1.getD k 0 ∈ K1 := by rw [gD k2]; exact List.getElem_mem _
      rw [hk] at q
      have := H.2.2.1.2.2 _ _ (hN _ hin) ht (Option.some.inj q)
      rw [this] at hin
      exact e3 hin
    simp only [f_X2_index_2s]
    unfold lLen lGet
    rw [gd_c hE.1, hE.2.1, obind_some, gd_c (by rw [hE.2.2.1]; decide), obind_some, hl, List.length_map, if_ltp (by omega) (by omega) (by omega), gd_c hE.1, obind_some, gd_c (by rw [hE.2.2.1]; decide), hl, gd_zin (by omega) (by rw [List.length_map]; omega) (by rw [List.length_map]; omega), obind_some, zix_nat (by omega), getD_map (by omega), if_neg hne]
    rfl
  · have hat : (kf w).getD K1.length 0 = t := by rw [e1]; simp [List.getD]
    simp only [f_X2_index_2s]
    unfold lLen lGet
    rw [gd_c hE.1, hE.2.1, obind_some, gd_c (by rw [hE.2.2.1]; decide), obind_some, hl, List.length_map, if_ltp (by omega) (by omega) (by omega), gd_c hE.1, obind_some, gd_c (by rw [hE.2.2.1]; decide), hl, gd_zin (by omega) (by rw [List.length_map]; omega) (by rw [List.length_map]; omega), obind_some, zix_nat (by omega), getD_map (by omega), hat, if_pos rfl]
end PX
