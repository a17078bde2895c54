/-! the page's tree: adoption -/
set_option maxRecDepth 100000
section PX
variable {h h0 h' h1 : HP} {pg N u : Nat} {φ : Nat → Nat} {M C : Nat → Int} {X : Nat → List Int} {L : Nat → List Nat} {own : Nat → Prop} {kf : Nat → List Nat} {fl : Nat → Int} {pf : Nat → Option (Option Nat)} {sf : List Nat}
theorem RepX.locT (H : RepX h pg N φ M C X L own kf fl pf sf) (hl : 1 ≤ sf.length) (h24 : sf.length ≤ 40) (hS : ∀ i ∈ sf, i < N ∧ M i ≠ 1 ∧ nmOK (M i)) (htr : isTR (M (sf.getD (sf.length - 1) 0)) = true) {w tb : Nat} (htb : sf.getD (lastB (fun k => decide (1 ≤ k) && decide (M (sf.getD k 0) = 116)) sf.length) 0 = tb) (hw : w < N) (hwm : M w ≠ 1) (hpf : pf tb = some (some (φ w))) {K1 K2 : List Nat} (hk : kf w = K1 ++ tb :: K2) (hn : tb ∉ K1) (hK : ∀ i ∈ K1, i < N) (h40 : (kf w).length ≤ 40) : f_X0_locate h pg = some (wI (wP h pg 12 (some (φ w))) pg 13 ((K1.length : Nat) : Int)) := by
  have hb := H.1
  have hm : sf.getD (sf.length - 1) 0 ∈ sf := by rw [gD (by omega)]; exact List.getElem_mem _
  obtain ⟨m1, m2, m3⟩ := hS _ hm
  have hE := H.elc m1 m2
  have hlt := lastB_lt (fun k => decide (1 ≤ k) && decide (M (sf.getD k 0) = 116)) sf.length (by omega)
  have hmt : sf.getD (lastB (fun k => decide (1 ≤ k) && decide (M (sf.getD k 0) = 116)) sf.length) 0 ∈ sf := by rw [gD hlt]; exact List.getElem_mem _
  have hreach := H.topm hl h24 hS (x := 116) (by unfold nmOK; omega)
  rw [htb] at hmt
  obtain ⟨t1, t2, t3⟩ := hS _ hmt
  have hEt := H.elc t1 t2
  have hp0 := H.2.2.2.2.2.1 tb _ t1 hpf
  have k23 : f_X0_locate_23 h pg = some (wI (wP h pg 12 (some (φ w))) pg 13 ((K1.length : Nat) : Int)) := by
    have hself : pP (wP h pg 12 (some (φ w))) pg 12 = some (φ w) := by rw [pP_wP, if_pos ⟨rfl, rfl⟩]
    have H12 := H.wloc (some (φ w)) (pI (wP h pg 12 (some (φ w))) pg 13)
    rw [wI_id rfl] at H12
    have hix := H12.index hw hwm t1 hk hn hK h40
    unfold f_X0_locate_23 lGet
    rw [gd_c hb.1.1, gd_c hb.1.1, hreach, obind_some, hb.1.2.2.2.2.1, obind_some, gd_c (by rw [hb.2.1.2.2.1]; decide), H.2.2.2.2.2.2.1, gd_zin (by omega) (by rw [List.length_map]; omega) (by rw [List.length_map]; omega), zix_nat (by omega), getD_map hlt, htb, obind_some, gd_c hEt.1, gd_c hEt.1, gd_c hb.1.1, hp0, bnd_eq, gd_c (by exact hb.1.1), hself, obind_some, gd_c (by exact (H.elc hw hwm).1), hix, obind_some, gd_c (by exact hb.1.1), bnd_eq]
  unfold nmOK at m3
  unfold f_X0_locate
  rw [gd_c hb.1.1, H.top hl h24 hS, obind_some, gd_c hE.1, H.is m1 m2 (by unfold nmOK; omega) (x := 116) (by unfold nmOK; omega), obind_some]
  by_cases e1 : M (sf.getD (sf.length - 1) 0) = 116
  · rw [decide_eq_true e1, zb_t, if_eqn (by omega) (by omega) (by omega) (by omega) (by omega)]
    exact k23
  · have e2 : M (sf.getD (sf.length - 1) 0) = 114 := by
      unfold isTR at htr
      rw [decide_eq_false e1] at htr
      simpa using htr
    rw [decide_eq_false e1, zb_f, if_eqp rfl, gd_c hE.1, H.is m1 m2 (by unfold nmOK; omega) (x := 114) (by unfold nmOK; omega), obind_some, decide_eq_true e2, zb_t, if_eqn (by omega) (by omega) (by omega) (by omega) (by omega)]
    exact k23
theorem RepX.locF (H : RepX h pg N φ M C X L own kf fl pf sf) (hl : 1 ≤ sf.length) (h24 : sf.length ≤ 40) (hS : ∀ i ∈ sf, i < N ∧ M i ≠ 1 ∧ nmOK (M i)) (htr : isTR (M (sf.getD (sf.length - 1) 0)) = false) : f_X0_locate h pg = some (wI (wP h pg 12 (some (φ (sf.getD (sf.length - 1) 0)))) pg 13 (((kf (sf.getD (sf.length - 1) 0)).length : Nat) : Int)) := by
  have hb := H.1
  have hm : sf.getD (sf.length - 1) 0 ∈ sf := by rw [gD (by omega)]; exact List.getElem_mem _
  obtain ⟨m1, m2, m3⟩ := hS _ hm
  have hE := H.elc m1 m2
  unfold isTR at htr
  simp only [Bool.or_eq_false_iff] at htr
  unfold f_X0_locate lLen
  rw [gd_c hb.1.1, H.top hl h24 hS, obind_some, gd_c hE.1, H.is m1 m2 m3 (x := 116) (by unfold nmOK; omega), obind_some, htr.1, zb_f, if_eqp rfl, gd_c hE.1, H.is m1 m2 m3 (x := 114) (by unfold nmOK; omega), obind_some, htr.2, zb_f, if_eqp rfl, gd_c hb.1.1, bnd_eq, gd_c (by exact hE.1), pP_ne _ (Or.inr (by omega)), hE.2.1, obind_some, gd_c (by show isL (pK h _); rw [hE.2.2.1]; decide), obind_some, pL_wP, (H.2.2.2.1 _ m1 m2).2.2.2, List.length_map, gd_c (by exact hb.1.1), bnd_eq]
theorem RepX.toB {T : TS} (H : RepX h pg (tN T) φ (tM T) (tC T) (tX T) (tL T) own kf fl pf sf) (h1 : ∀ i ∈ tS T, tM T i = 99 ∨ i = 0 → own i) (h2 : ∀ i, i < tN T → tM T i ≠ 1 → kf i = kids T i) (h3 : ∀ i, i < tN T → fl i = if i ∈ tS T then 1 else 0) (h4 : ∀ i, i < tN T → pf i = some (if i = 0 then none else some (φ (tP T i)))) (h5 : sf = tS T) : RepB h pg φ T := by
  refine ⟨H.1, H.2.1, H.2.2.1, fun i hi hm => ?_, H.2.2.2.2.1, fun i hi => H.2.2.2.2.2.1 i _ hi (h4 i hi), by rw [← h5]; exact H.2.2.2.2.2.2.1, fun i hi hm => (H.2.2.2.2.2.2.2.1 i (h1 i hi hm)).2.2, H.2.2.2.2.2.2.2.2⟩
  obtain ⟨x1, x2, x3, x4⟩ := H.2.2.2.1 i hi hm
  exact ⟨x1, x2, by rw [x3, h3 i hi], by rw [x4, h2 i hi hm]⟩
end PX
section PB
variable {h h' h1 : HP} {pg u a e b id : Nat} {φ : Nat → Nat} {T : TS} {x c : Int}
theorem RepB.toX (H : RepB h pg φ T) (hW : WF T) (D : Det h pg φ T a x c) (hx : x ≠ 1) : RepX h pg (tN T + 1) (va_up φ (tN T) a) (va_up (tM T) (tN T) x) (va_up (tC T) (tN T) c) (va_up (tX T) (tN T) []) (va_up (tL T) (tN T) []) (fun i => i ∈ tS T ∧ (tM T i = 99 ∨ i = 0)) (va_up (kids T) (tN T) []) (fun i => if i ∈ tS T then 1 else 0) (fun i => if i = tN T then none else some (if i = 0 then none else some (φ (tP T i)))) (tS T) := by
  have hN := hW.1.1
  obtain ⟨d1, d2, ⟨d3, d4, d5, d6⟩, d7⟩ := D
  have hup : ∀ i, i < tN T → va_up φ (tN T) a i = φ i := fun i hi => va_up_n _ _ _ _ (by omega)
  have hmap : ∀ l : List Nat, (∀ i ∈ l, i < tN T) → l.map (va_up φ (tN T) a) = l.map φ := fun l hl => map_up hl
  refine ⟨H.1, by rw [hup 0 (by omega)]; exact H.2.1, ⟨fun i hi h0 hm => ?_, fun i hi hm => ?_, fun i j hi hj e => ?_⟩, fun i hi hm => ?_, fun i hi hm => ?_, fun i v hi hv => ?_, ?_, fun i hi => ?_, H.2.2.2.2.2.2.2.2⟩
  · by_cases z : i = tN T
    · rw [z, va_up_s]; exact d1
    · rw [va_up_n _ _ _ _ z] at hm ⊢; exact H.2.2.1.1 i (by omega) h0 hm
  · by_cases z : i = tN T
    · rw [z, va_up_s] at hm; exact (hx hm).elim
    · rw [va_up_n _ _ _ _ z] at hm ⊢; exact H.2.2.1.2.1 i (by omega) hm
  · by_cases z : i = tN T
    · by_cases y : j = tN T
      · omega
      · rw [z, va_up_s, hup j (by omega)] at e; exact (d2 j (by omega) e.symm).elim
    · by_cases y : j = tN T
      · rw [y, va_up_s, hup i (by omega)] at e; exact (d2 i (by omega) e).elim
      · rw [hup i (by omega), hup j (by omega)] at e; exact H.2.2.1.2.2 i j (by omega) (by omega) e
  · by_cases z : i = tN T
    · have hnS : tN T ∉ tS T := fun y => by have := (hW.stk _ y).1; omega
      rw [z, va_up_s, va_up_s, va_up_s, va_up_s]
      refine ⟨d3, d4, ?_, d6⟩
      rw [d5]
      exact (if_neg hnS).symm
    · have hi' : i < tN T := by omega
      rw [va_up_n _ _ _ _ z] at hm
      rw [va_up_n _ _ _ _ z, va_up_n _ _ _ _ z, va_up_n _ _ _ _ z, va_up_n _ _ _ _ z, hmap _ (fun j hj => hW.1.2.2.2.1 j (mem_kids.mp hj).1)]
      exact H.2.2.2.1 i hi' hm
  · by_cases z : i = tN T
    · rw [z, va_up_s] at hm; exact (hx hm).elim
    · rw [va_up_n _ _ _ _ z] at hm
      rw [va_up_n _ _ _ _ z, va_up_n _ _ _ _ z]; exact H.2.2.2.2.1 i (by omega) hm
  · simp only [] at hv
    by_cases z : i = tN T
    · rw [if_pos z] at hv; cases hv
    · rw [if_neg z] at hv
      rw [va_up_n _ _ _ _ z, H.2.2.2.2.2.1 i (by omega)]
      exact Option.some.inj hv
  · rw [hmap _ (fun i hi => (hW.stk i hi).1)]; exact H.2.2.2.2.2.2.1
  · have hs := hW.stk i hi.1
    have z : i ≠ tN T := by omega
    obtain ⟨l, l1, l2, l3⟩ := H.l i hi.1 hi.2
    refine ⟨by omega, by rw [va_up_n _ _ _ _ z]; exact hs.2, l, by rw [va_up_n _ _ _ _ z]; exact l1, ?_, l3⟩
    rw [va_up_n _ _ _ _ z, hmap _ (fun j hj => (hW.2.2.2.1 i j hj).1)]; exact l2
theorem va_upn (f : Nat → List Nat) (k : Nat) (hk : f k = []) : f = va_up f k [] := by rw [← hk, va_up_id]
theorem split_uniq {K1 K2 P Q : List Nat} {x : Nat} (hh : K1 ++ x :: K2 = P ++ x :: Q) (h1 : x ∉ K1) (h2 : x ∉ P) : K1 = P ∧ K2 = Q := by
  rcases split2 hh with ⟨Z, z1, z2⟩ | ⟨z1, z2, z3⟩ | ⟨Z, z1, z2⟩
  · exact (h1 (by rw [z1]; simp)).elim
  · exact ⟨z1, z3⟩
  · exact (h2 (by rw [z1]; simp)).elim
theorem tAdopt_none (hn : tN T = 24) : tAdopt T e b id = none := by
  unfold tAdopt
  simp only []
  rw [mkN_none (by exact hn)]
theorem RepB.move (H : RepB h pg φ T) (C : CntP h pg φ T) (hW : WF T) (ha : AdOK T e b id) (hR : RU h (u + 80)) : ∃ h', f_X0_move h pg (φ id) (e : Int) (b : Int) = some h' ∧ OutP pg h u (tAdopt T e b id) h' := by
  have ha' := ha
  obtain ⟨g1, g2, g3, g4, g5, g6, g7⟩ := ha
  have hWb := hW.b
  have hSm := hWb.2.2.2.2.2.1
  have h24 := hW.1.2.1
  have hlS := hWb.2.2.2.2.1
  have hN := hW.1.1
  have hidn : id < tN T := by rw [← g4]; exact getD_lt hSm (by omega)
  have hfn := fmt_nm g5
  have hbS : (tS T).getD b 0 ∈ tS T := by rw [gD g3]; exact List.getElem_mem _
  obtain ⟨hbl, hbm⟩ := hW.stk _ hbS
  have hEid := H.elc hidn (by omega)
  have hel := H.2.2.2.1 _ hidn (by omega)
  have hx1 : tM T id ≠ 1 := by omega
  obtain ⟨p1, p2⟩ := H.element (x := tM T id) (c := tC T id) (u := u + 76) C hW (by unfold nmOK; omega) hx1 hR
  by_cases en : tN T = 24
  · obtain ⟨h1, r1, r2, r3, r4, r5⟩ := p1 en
    rw [tAdopt_none en]
    refine ⟨h1, ?_, r3, r4, r5.mono (by omega), r2⟩
    unfold f_X0_move
    rw [gd_c hEid.1, gd_c hEid.1, gd_c H.1.1.1, hel.1, hel.2.1, r1, obind_some, nl_none]
  · obtain ⟨h1, a, r1, r2, r3, r4, r5⟩ := p2 en
    obtain ⟨A, S, D, hO, hA, hB, hS, hD⟩ := cutT hW.1.2.2.2.2.1.1 (hW.full hbl)
    obtain ⟨hno, hA0, hpl, w1, w2, w3, hw⟩ := ad_place hW ha' hO hS hD
    have hAd : AdC T ((tS T).getD b 0) A S D := ⟨hO, hA0, hS, hD⟩
    obtain ⟨f1, f2, f3, f4, f5, f6, f7, f8⟩ := AdC.f hW hAd
    obtain ⟨A', C', hAC, hq, hA'0, hwin, -, -⟩ := hpl
    rw [tO_setO] at hAC hwin
    rw [tAdopt_eq en hO hA hB hAC hq]
    have hat := ad_at hW ha' hAd hAC hq
    have hwn : (plc (setO T (A ++ D) (tP T) (tD T)) e).2.2 < tN T := (f5 _ (List.mem_append.mp hwin)).1
    have hwb : (plc (setO T (A ++ D) (tP T) (tD T)) e).2.2 ∉ (tS T).getD b 0 :: S := (ad_Po (w := 0) hW hAd rfl hwin).2.2.1
    have hwm := nk1 w1
    generalize (plc (setO T (A ++ D) (tP T) (tD T)) e).2.2 = w at *
    have hX0 := r2.toX hW r3 hx1
    have hSx0 : Sx pg h1 h1 := Sx.refl _ _
    have hup : ∀ i, i < tN T → va_up φ (tN T) a i = φ i := fun i hi => va_up_n _ _ _ _ (by omega)
    have hMo : ∀ i, i < tN T → va_up (tM T) (tN T) (tM T id) i = tM T i := fun i hi => va_up_n _ _ _ _ (by omega)
    have hks : ∀ i, i < tN T → va_up (kids T) (tN T) [] i = kids T i := fun i hi => va_up_n _ _ _ _ (by omega)
    have hst : ∀ i ∈ tS T, i < tN T + 1 ∧ va_up (tM T) (tN T) (tM T id) i ≠ 1 ∧ nmOK (va_up (tM T) (tN T) (tM T id) i) := fun i hi => by
      have := hW.stk i hi
      rw [hMo i this.1]
      exact ⟨by omega, this.2, hW.nm this.1⟩
    have hklen : ∀ i, (kids T i).length ≤ 40 := fun i => by have := kids_len hW i; omega
    have hkn : ∀ i, ∀ j ∈ kids T i, j < tN T + 1 := fun i j hj => by have := hW.1.2.2.2.1 j (mem_kids.mp hj).1; omega
    generalize hbe : (tS T).getD b 0 = bl at *
    -- the kept ones
    have hX1 := hX0.wl7 []
    have hk7 : pK h1 (pg + 7) = 25 := hX0.1.2.1.2.2.2.1
    have S1 : Sx pg h1 (wL h1 (pg + 7) []) := hSx0.wl (tk2 hk7 (by unfold treeK; omega)) (by omega) (by omega)
    obtain ⟨h2, k1, k2, k3, k4, k5⟩ := RepX.keepL (h0 := h1) (u := u + 52) (x2 := (e : Int)) (hr := a) (bl := φ bl) (b := b) (by omega) (by omega) (fun j hj => ⟨(hst j hj).1, (hst j hj).2.1⟩) ((tS T).length - b) b _ hX1 (by omega) (Nat.le_refl _) (by rw [pL_wL, if_pos rfl, Nat.sub_self]; rfl) S1 (r5.mono (by omega))
    -- closing
    obtain ⟨h3, fl3, c1, c2, c3, c4, c5, c6⟩ := RepX.closeTo (h0 := h1) (u := u + 52) (i := e) (by omega) ((tS T).length - e) _ _ _ k2 (fun j hj => ⟨(hst j hj).1, (hst j hj).2.1⟩) (by omega) (by omega) k4 k5
    -- out of the old parent
    obtain ⟨K1, K2, m1, m2, m3⟩ := kids_bf hW hbl f1
    have hp0m : tM T (tP T bl) ≠ 1 := nk1 (hW.2.1.2 _ hbl f1).2.1
    have hE3 := c2.elc (i := tP T bl) (by omega) (by rw [hMo _ f7]; exact hp0m)
    have hix := c2.index (w := tP T bl) (t := bl) (by omega) (by rw [hMo _ f7]; exact hp0m) (by omega) (by rw [hks _ f7]; exact m1) m3 (fun i hi => hkn _ i (by rw [m1]; exact List.mem_append_left _ hi)) (by rw [hks _ f7]; exact hklen _)
    have hp0 := c2.2.2.2.2.2.1 bl (some (φ (tP T bl))) (by omega) (by simp only []; rw [if_neg (by omega), if_neg f1])
    have hX4 := c2.kid (i := tP T bl) (by omega) (by rw [hMo _ f7]; exact hp0m) (K1 ++ K2)
    have S4 : Sx pg h1 (wL h3 (va_up φ (tN T) a (tP T bl) + 1) ((K1 ++ K2).map (va_up φ (tN T) a))) := c4.kid c2 (by omega) (by rw [hMo _ f7]; exact hp0m)
    have hwo := hW.1.2.2.2.2.1
    rw [hO] at hwo
    have hndAD : (A ++ D).Nodup := (hwo.del hA0 hS hD).1
    have hkf4 : ∀ i, i < tN T → i ∉ bl :: S → va_up (va_up (kids T) (tN T) []) (tP T bl) (K1 ++ K2) i = kd (tP T) A' i ++ kd (tP T) C' i := fun i hi hn => by
      rw [← kd_app, ← hAC, kd_app]
      by_cases z : i = tP T bl
      · rw [z, va_up_s]
        have hk0 := ad_k0 hW hAd f6
        rw [if_pos rfl, m1] at hk0
        obtain ⟨y1, y2⟩ := split_uniq (P := kd (tP T) A (tP T bl)) (Q := kd (tP T) D (tP T bl)) hk0 m3 (fun y => f3.1 (mem_kd.mp y).1)
        rw [y1, y2]
      · rw [va_up_n _ _ _ _ z, hks i hi, ad_k0 hW hAd hn, if_neg (fun y => z y.symm), List.nil_append]
    have hsl : ((tS T).take e).length = e := by rw [List.length_take]; omega
    have hsg : ∀ k, k < e → ((tS T).take e).getD k 0 = (tS T).getD k 0 := fun k hk => getD_take' hk
    have hst4 : ∀ i ∈ (tS T).take e, i < tN T + 1 ∧ va_up (tM T) (tN T) (tM T id) i ≠ 1 ∧ nmOK (va_up (tM T) (tN T) (tM T id) i) := fun i hi => hst i (List.mem_of_mem_take hi)
    have hMt : ∀ k, k < e → va_up (tM T) (tN T) (tM T id) (((tS T).take e).getD k 0) = sNm T k := fun k hk => by
      rw [hsg k hk, hMo _ (getD_lt hSm (by omega))]
      rfl
    have hkl4 : ∀ i, i < tN T → i ∉ bl :: S → (va_up (va_up (kids T) (tN T) []) (tP T bl) (K1 ++ K2) i).length ≤ 40 := fun i hi hn => by
      by_cases z : i = tP T bl
      · rw [z, va_up_s]
        have := hklen (tP T bl)
        rw [m1] at this
        simp at this ⊢; omega
      · rw [va_up_n _ _ _ _ z, hks i hi]; exact hklen i
    have hloc : f_X0_locate (wL h3 (va_up φ (tN T) a (tP T bl) + 1) ((K1 ++ K2).map (va_up φ (tN T) a))) pg = some (wI (wP (wL h3 (va_up φ (tN T) a (tP T bl) + 1) ((K1 ++ K2).map (va_up φ (tN T) a))) pg 12 (some (va_up φ (tN T) a w))) pg 13 (((kd (tP T) A' w).length : Nat) : Int)) := by
      cases htr : isTR (tM T ((tS T).getD (e - 1) 0)) with
      | true =>
        obtain ⟨K3, y1, y2⟩ := hat.1 htr
        have hlb : lastB (fun k => decide (1 ≤ k) && decide (va_up (tM T) (tN T) (tM T id) (((tS T).take e).getD k 0) = 116)) ((tS T).take e).length = lastB (fun k => decide (1 ≤ k) && decide (sNm T k = 116)) e := by
          rw [hsl]
          exact lastB_cg _ _ _ (fun k hk => by rw [hMt k hk])
        have hlt := lastB_lt (fun k => decide (1 ≤ k) && decide (sNm T k = 116)) e (by omega)
        obtain ⟨q1, q2, q3⟩ := hW.mem_t g1 (by omega) (hW.tbl g1 (by omega) htr)
        generalize htb : (tS T).getD (lastB (fun k => decide (1 ≤ k) && decide (sNm T k = 116)) e) 0 = tb at *
        have htbC : tb ∈ A' ++ C' := by rw [y2]; simp
        have htbn := ad_Po (w := 0) hW hAd hAC htbC
        refine hX4.locT (tb := tb) (by omega) (by omega) hst4 (by rw [hsl, hMt _ (by omega)]; exact htr) (by rw [hlb, hsg _ hlt]; exact htb) (by omega) (by rw [hMo _ hwn]; exact hwm) ?_ (K2 := kd (tP T) K3 w) ?_ (fun y => ?_) (fun i hi => ?_) (hkl4 w hwn hwb)
        · show (if tb = tN T then none else some (if tb = 0 then none else some (φ (tP T tb)))) = _
          rw [if_neg (by omega), if_neg q3, y1, hup _ (hW.par q1)]
        · rw [hkf4 w hwn hwb, y2, kd_cons _ q3, if_pos y1.symm]
          rfl
        · have := mem_kd.mp y
          rw [hAC, y2] at hndAD
          exact (nodup_mid hndAD).1 this.1
        · have := (ad_Po (w := 0) hW hAd hAC (List.mem_append_left C' (mem_kd.mp hi).1)).2.1
          omega
      | false =>
        obtain ⟨y1, y2⟩ := hat.2 htr
        have := hX4.locF (by omega) (by omega) hst4 (by rw [hsl, hMt _ (by omega)]; exact htr)
        rw [hsl, hsg _ (by omega), ← y1, hkf4 w hwn hwb, y1, y2, List.append_nil, ← y1] at this
        exact this
    have hX5 := hX4.wloc (some (va_up φ (tN T) a w)) (((kd (tP T) A' w).length : Nat) : Int)
    have S5 := S4.loc hX4.1.1.1 (some (va_up φ (tN T) a w)) (((kd (tP T) A' w).length : Nat) : Int)
    have hR5 : RU (wI (wP (wL h3 (va_up φ (tN T) a (tP T bl) + 1) ((K1 ++ K2).map (va_up φ (tN T) a))) pg 12 (some (va_up φ (tN T) a w))) pg 13 (((kd (tP T) A' w).length : Nat) : Int)) (u + 51 + 1) := c5
    have s12 : pP (wI (wP (wL h3 (va_up φ (tN T) a (tP T bl) + 1) ((K1 ++ K2).map (va_up φ (tN T) a))) pg 12 (some (va_up φ (tN T) a w))) pg 13 (((kd (tP T) A' w).length : Nat) : Int)) pg 12 = some (va_up φ (tN T) a w) := by rw [pP_wI, pP_wP, if_pos ⟨rfl, rfl⟩]
    have s13 : pI (wI (wP (wL h3 (va_up φ (tN T) a (tP T bl) + 1) ((K1 ++ K2).map (va_up φ (tN T) a))) pg 12 (some (va_up φ (tN T) a w))) pg 13 (((kd (tP T) A' w).length : Nat) : Int)) pg 13 = (((kd (tP T) A' w).length : Nat) : Int) := by rw [pI_wI, if_pos ⟨rfl, rfl⟩]
    have s7 : pL (wI (wP (wL h3 (va_up φ (tN T) a (tP T bl) + 1) ((K1 ++ K2).map (va_up φ (tN T) a))) pg 12 (some (va_up φ (tN T) a w))) pg 13 (((kd (tP T) A' w).length : Nat) : Int)) (pg + 7) = ((tS T).drop b).map (va_up φ (tN T) a) := by
      rw [pL_wI, pL_wP, pL_ne _ (kne h3 (by have := c2.1.2.1; rw [hE3.2.2.1]; omega)), c6, k3]
    have hEw := hX5.elc (i := w) (by omega) (by rw [hMo _ hwn]; exact hwm)
    have hkp : f_X0_move_81 h2 pg (e : Int) a (φ bl) = (Option.bind (f_X2_put (wI (wP (wL h3 (va_up φ (tN T) a (tP T bl) + 1) ((K1 ++ K2).map (va_up φ (tN T) a))) pg 12 (some (va_up φ (tN T) a w))) pg 13 (((kd (tP T) A' w).length : Nat) : Int)) (va_up φ (tN T) a w) (((kd (tP T) A' w).length : Nat) : Int) (φ bl)) (fun y7 => f_X0_move_117 y7 pg a (φ bl) 0)) := by
      have hEb := c2.elc (i := bl) (by omega) (by rw [hMo _ hbl]; exact hbm)
      rw [hup bl hbl] at hp0 hix hEb
      rw [hup _ f7] at hix hE3
      have hd : lDel h3 (φ (tP T bl) + 1) ((K1.length : Nat) : Int) = some (wL h3 (va_up φ (tN T) a (tP T bl) + 1) ((K1 ++ K2).map (va_up φ (tN T) a)), va_up φ (tN T) a bl) := by
        have hpl : pL h3 (φ (tP T bl) + 1) = K1.map (va_up φ (tN T) a) ++ va_up φ (tN T) a bl :: K2.map (va_up φ (tN T) a) := by
          have := (c2.2.2.2.1 (tP T bl) (by omega) (by rw [hMo _ f7]; exact hp0m)).2.2.2
          rw [hup _ f7, hks _ f7, m1] at this
          rw [this]; simp
        have hk1l : K1.length ≤ 40 := by have := hklen (tP T bl); rw [m1] at this; simp at this; omega
        have hk2l : K2.length ≤ 40 := by have := hklen (tP T bl); rw [m1] at this; simp at this; omega
        unfold lDel
        rw [gd_c (by rw [hE3.2.2.1]; decide), hpl, gd_zin (by omega) (by simp; omega) (by simp; omega), zix_nat (by omega), hup _ f7]
        congr 2
        · congr 1
          rw [List.map_append, List.take_left' (by simp), show K1.map (va_up φ (tN T) a) ++ va_up φ (tN T) a bl :: K2.map (va_up φ (tN T) a) = (K1.map (va_up φ (tN T) a) ++ [va_up φ (tN T) a bl]) ++ K2.map (va_up φ (tN T) a) by simp, List.drop_left' (by simp)]
        · simp [List.getD]
      unfold f_X0_move_81
      rw [gd_c k2.1.1.1, c1, obind_some, gd_c hEb.1, hp0, obind_some, gd_c hE3.1, gd_c hEb.1, obind_some, gd_c hE3.1, hix, obind_some, hE3.2.1, obind_some, hd, obind_some, gd_c (by exact c2.1.1.1)]
      unfold f_X0_insert
      rw [gd_c (by exact c2.1.1.1)]
      simp only []
      rw [hloc, obind_some, gd_c (by exact c2.1.1.1), gd_c (by exact c2.1.1.1), s12, obind_some, s13, gd_c (by exact hEw.1)]
      generalize f_X2_put _ _ _ _ = o
      cases o with
      | none => rfl
      | some y => rfl
    have hkA : (kd (tP T) A' w).length ≤ (va_up (va_up (kids T) (tN T) []) (tP T bl) (K1 ++ K2) w).length := by rw [hkf4 w hwn hwb, List.length_append]; omega
    obtain ⟨h6, x1, x2, x3, x4, x5⟩ := hX5.put (w := w) (t := bl) (k := (kd (tP T) A' w).length) (by omega) (by rw [hMo _ hwn]; exact hwm) (by omega) hkA (hkl4 w hwn hwb) S5 hR5
    rw [hkf4 w hwn hwb, List.take_left' rfl, List.drop_left' rfl] at x2
    rw [hup bl hbl] at x1
    rw [x1, obind_some] at hkp
    have hkdr : ((tS T).drop b).length = (tS T).length - b := List.length_drop
    obtain ⟨h7, fl7, o1, o2, o3, o4, o5⟩ := RepX.openL (h0 := h1) (u := u + 26) (hr := a) (bl := φ bl) (ks := (tS T).drop b) (sf := (tS T).take e) (fl := fl3) (fun j hj => ⟨(hst j (List.mem_of_mem_drop hj)).1, (hst j (List.mem_of_mem_drop hj)).2.1⟩) (by omega) ((tS T).length - b) 0 fl3 h6 (by rw [List.take_zero, List.append_nil]; exact x2) (fun i => by rw [List.take_zero, if_neg (by simp)]) (by omega) (by rw [x5]; exact s7) x3 (x4.mono (by omega))
    have hbw : bl ≠ w := fun z => hwb (by rw [← z]; simp)
    have hbp : bl ≠ tP T bl := fun z => f6 (by rw [← z]; simp)
    have hkb : va_up (va_up (va_up (kids T) (tN T) []) (tP T bl) (K1 ++ K2)) w (kd (tP T) A' w ++ bl :: kd (tP T) C' w) bl = kids T bl := by
      rw [va_up_n _ _ _ _ hbw, va_up_n _ _ _ _ hbp, hks bl hbl]
    have hkn0 : va_up (va_up (va_up (kids T) (tN T) []) (tP T bl) (K1 ++ K2)) w (kd (tP T) A' w ++ bl :: kd (tP T) C' w) (tN T) = [] := by
      rw [va_up_n _ _ _ _ (by omega), va_up_n _ _ _ _ (by omega), va_up_s]
    have hkbl := kids_len hW bl
    obtain ⟨h8, pf8, v1, v2, v3, v4, v5⟩ := RepX.moveL (h0 := h1) (u := u + 1) (hr := tN T) (bl := bl) (N := tN T + 1) (pg := pg) (φ := va_up φ (tN T) a) (by omega) (by rw [va_up_s]; exact hx1) (by omega) (by rw [hMo _ hbl]; exact hbm) (by omega) (ks := kids T bl) (hkn bl) (hklen bl) (kids T bl).length 0 _ _ h7 o2 (by
      rw [List.take_zero]
      exact va_upn _ _ hkn0) hkb (fun i => by rw [List.take_zero, if_neg (by simp)]) (by omega) o4 (o5.mono (by omega))
    rw [va_up_s, hup bl hbl] at v1
    obtain ⟨h9, y1, y2, y3, y4⟩ := v2.last (hr := tN T) (bl := bl) (u := u) (by omega) (by omega) (by rw [hMo _ hbl]; exact hbm) v4 v5
    rw [va_up_s, hup bl hbl] at y1
    refine ⟨h9, ?_, OutP.of (φ := va_up φ (tN T) a) ?_ ?_ (r4.trans y3.1) y4⟩
    · have hg : (pL h1 (pg + 6)).getD b 0 = φ bl := by rw [r2.2.2.2.2.2.2.1, getD_map g3, hbe]
      have hg2 : (pL h1 (pg + 6)).length = (tS T).length := by rw [r2.2.2.2.2.2.2.1, List.length_map]
      have hEb1 := (r2.elc hbl hbm).1
      unfold f_X0_move lGet lClr
      rw [gd_c hEid.1, gd_c hEid.1, gd_c H.1.1.1, hel.1, hel.2.1, r1, obind_some, nl_some]
      simp only []
      rw [gd_c r2.1.1.1, r2.1.1.2.2.2.2.1, obind_some, gd_c (by rw [r2.1.2.1.2.2.1]; decide), gd_zin (by omega) (by rw [hg2]; omega) (by rw [hg2]; omega), zix_nat (by omega), hg, obind_some, gd_c hEb1, gd_c r2.1.1.1, r2.1.1.2.2.2.2.2, obind_some, gd_c (by rw [hk7]; decide), obind_some, k1, hkp]
      have o1' : f_X0_move_117 h6 pg a (φ bl) 0 = f_X0_move_171 h7 a (φ bl) := o1
      have v1' : f_X0_move_174 h7 a (φ bl) 0 = f_X0_move_213 h8 a (φ bl) := v1
      rw [o1']
      unfold f_X0_move_171
      rw [v1', y1]
    · refine RepX.toB y2 (fun i hi hm => ?_) (fun i hi hm => ?_) (fun i hi => ?_) (fun i hi => ?_) rfl
      · change i ∈ (tS T).take e ++ (tS T).drop b at hi
        have hi' : i ∈ tS T := by
          rcases List.mem_append.mp hi with z | z
          · exact List.mem_of_mem_take z
          · exact List.mem_of_mem_drop z
        change va_up (tM T) (tN T) (tM T id) i = 99 ∨ i = 0 at hm
        rw [hMo i (hW.stk i hi').1] at hm
        exact ⟨hi', hm⟩
      · change i < tN T + 1 at hi
        show _ = kd (adP T bl w (bl :: S)) (A' ++ bl :: tN T :: (S ++ C')) i
        by_cases z1 : i = bl
        · rw [z1, va_up_s, ad_k3 hwb hW hAd hAC]
        · rw [va_up_n _ _ _ _ z1]
          by_cases z2 : i = tN T
          · rw [z2, va_up_s, ad_k4 hwn hW hAd hAC]
          · rw [va_up_n _ _ _ _ z2]
            by_cases z3 : i ∈ S
            · have z4 : i ≠ w := fun z => hwb (by rw [← z]; exact List.mem_cons_of_mem _ z3)
              have z5 : i ≠ tP T bl := fun z => f6 (by rw [← z]; exact List.mem_cons_of_mem _ z3)
              rw [va_up_n _ _ _ _ z4, va_up_n _ _ _ _ z5, va_up_n _ _ _ _ z2, ad_k2 hwb hW hAd hAC z3]
            · have z4 : i ∉ bl :: S := fun z => (List.mem_cons.mp z).elim z1 z3
              rw [ad_k1 hW hAd hAC z4 z2]
              by_cases z5 : i = w
              · rw [z5, va_up_s, if_pos rfl]; rfl
              · rw [va_up_n _ _ _ _ z5, hkf4 i (by omega) z4, if_neg (fun y => z5 y.symm), List.nil_append]
      · rw [o3 i, c3 i]
        show _ = if i ∈ (tS T).take e ++ (tS T).drop b then 1 else 0
        by_cases z1 : i ∈ (tS T).drop b
        · rw [if_pos z1, if_pos (List.mem_append_right _ z1)]
        · rw [if_neg z1]
          by_cases z2 : i ∈ (tS T).take e
          · have hnd := hW.2.2.1.2.1
            rw [← List.take_append_drop e (tS T)] at hnd
            have z3 : i ∉ (tS T).drop e := fun z => (List.nodup_append.mp hnd).2.2 i z2 i z rfl
            rw [if_neg z3, if_pos (List.mem_append_left _ z2), if_pos (List.mem_of_mem_take z2)]
          · rw [if_neg (show i ∉ (tS T).take e ++ (tS T).drop b from fun z => (List.mem_append.mp z).elim z2 z1)]
            by_cases z3 : i ∈ (tS T).drop e
            · rw [if_pos z3]
            · rw [if_neg z3, if_neg]
              intro z
              rw [← List.take_append_drop e (tS T)] at z
              exact (List.mem_append.mp z).elim z2 z3
      · change i < tN T + 1 at hi
        show _ = some (if i = 0 then none else some (va_up φ (tN T) a (adP T bl w (bl :: S) i)))
        by_cases z1 : i = tN T
        · rw [z1, va_up_s, if_neg (by omega), adP_n]
        · have hi' : i < tN T := by omega
          rw [va_up_n _ _ _ _ z1, v3 i]
          by_cases z2 : i ∈ kids T bl
          · have hk := mem_kids.mp z2
            have hiS : i ∈ S := by
              rw [ad_kS hW hAd (by simp)] at z2
              exact (mem_kd.mp z2).1
            rw [if_pos z2, if_neg hk.2.1, ad_P hW hAd hiS, if_pos hk.2.2]
          · rw [if_neg z2]
            by_cases z3 : i = bl
            · rw [z3, va_up_s, if_neg f1, ad_Pb hW hAd]
            · rw [va_up_n _ _ _ _ z3]
              show (if i = tN T then none else some (if i = 0 then none else some (φ (tP T i)))) = _
              rw [if_neg z1]
              by_cases z4 : i = 0
              · rw [if_pos z4, if_pos z4]
              · rw [if_neg z4, if_neg z4]
                have : adP T bl w (bl :: S) i = tP T i := by
                  by_cases z5 : i ∈ S
                  · rw [ad_P hW hAd z5, if_neg (fun y => z2 (mem_kids.mpr ⟨hW.full hi', z4, y⟩))]
                  · exact adP_out (fun z => (List.mem_cons.mp z).elim z3 z5) z3 z1
                rw [this, hup _ (hW.par hi')]
    · exact r3.2.2.2.mono y3.2 rfl rfl
end PB
