/-! the page's tree: start tags -/
set_option maxRecDepth 100000
section PB
variable {h h' h1 : HP} {pg u a t : Nat} {φ : Nat → Nat} {T : TS} {x c : Int} {X : List Int} {q : Nat × Nat × Nat}
theorem lastB_cg (f g : Nat → Bool) : ∀ n, (∀ k, k < n → f k = g k) → lastB f n = lastB g n
  | 0, _ => rfl
  | n + 1, hh => by
    rw [lastB_s, lastB_s, hh n (by omega), lastB_cg f g n (fun k hk => hh k (by omega))]
theorem getD_snoc {l : List Nat} {n k : Nat} (hk : k < l.length) : (l ++ [n]).getD k 0 = l.getD k 0 := by
  rw [gD (by rw [List.length_append]; omega), List.getElem_append_left hk, gD hk]
theorem getD_snoc' {l : List Nat} {n : Nat} : (l ++ [n]).getD l.length 0 = n := by simp [List.getD]
theorem ownr_psh (hW : WF T) (hx : x ≠ 99) : ownr (psh (mkT T x c q) (tN T)) = ownr T := by
  have hlt := topm_lt hW.b 99
  have h1 : ∀ k, k < (tS T).length → sNm (psh (mkT T x c q) (tN T)) k = sNm T k := fun k hk => by
    unfold sNm
    rw [tS_psh, tS_mkT, tM_psh, tM_mkT, getD_snoc hk, va_up_n _ _ _ _ (by have := getD_lt (k := k) hW.b.2.2.2.2.2.1 hk; omega)]
  have h2 : topm (psh (mkT T x c q) (tN T)) 99 = topm T 99 := by
    unfold topm
    rw [tS_psh, tS_mkT, List.length_append, List.length_singleton, lastB_s]
    have : sNm (psh (mkT T x c q) (tN T)) (tS T).length = x := by
      unfold sNm
      rw [tS_psh, tS_mkT, tM_psh, tM_mkT, getD_snoc', va_up_s]
    rw [this, decide_eq_false hx, Bool.and_false]
    simp only [Bool.false_eq_true, if_false]
    exact lastB_cg _ _ _ (fun k hk => by rw [h1 k hk])
  unfold ownr
  rw [h2, tS_psh, tS_mkT, getD_snoc hlt]
theorem RepB.fmt (H : RepB h pg φ T) (hW : WF T) {i : Nat} (hi : i < tN T) (hm : tM T i ≠ 1) : f_X2_formatting h (φ i) = some (zb (isFmt (tM T i))) := by
  have hn := hW.nm hi
  unfold nmOK at hn
  unfold f_X2_formatting
  rw [gd_c (H.elc hi hm).1, gd_c (by omega), (H.2.2.2.1 i hi hm).1, idxOf_eq (by omega) (by omega) (by omega), obind_some]
  have hr := ixT_rng 10 (by omega) (tM T i)
  have hg := ixT_neg 10 (tM T i)
  have hs : (sT 10).contains (tM T i) = isFmt (tM T i) := rfl
  rw [hs] at hg
  cases hf : isFmt (tM T i) with
  | true =>
    have : ¬ ixT 10 (tM T i) < 0 := fun z => by rw [hg, hf] at z; cases z
    rw [if_ltn (by omega) (by omega) (by omega)]; rfl
  | false =>
    rw [if_ltp (hg.mpr hf) (by omega) (by omega)]; rfl
/-- the tail of a start tag -/
def tAft (T : TS) (x c : Int) (q : Nat × Nat × Nat) : TS := if x = 104 ∨ x = 107 then mkT T x c q else if isFmt x then addL (psh (mkT T x c q) (tN T)) (ownr T) (tN T) else psh (mkT T x c q) (tN T)
theorem RepB.st155 (H : RepB h pg φ (mkT T x c q)) (C : CntP h pg φ (mkT T x c q)) (hW : WF T) (hW1 : WF (mkT T x c q)) (hW2 : x ≠ 104 → x ≠ 107 → WF (psh (mkT T x c q) (tN T))) (hx : 97 ≤ x ∧ x ≤ 122) (ha : φ (tN T) = a) (hR : RU h (u + 3)) : ∃ h', f_X0_start_155 h pg x a = some h' ∧ OutP pg h u (some (tAft T x c q)) h' := by
  unfold f_X0_start_155 tAft
  by_cases e1 : x = 104
  · rw [if_eqp e1, if_pos (Or.inl e1)]
    exact ⟨h, rfl, OutP.of H C (FP.refl _ _) (hR.mono (by omega))⟩
  · rw [if_eqn e1 (by omega) (by omega) (by omega) (by omega)]
    by_cases e2 : x = 107
    · rw [if_eqp e2, if_pos (Or.inr e2)]
      exact ⟨h, rfl, OutP.of H C (FP.refl _ _) (hR.mono (by omega))⟩
    · rw [if_eqn e2 (by omega) (by omega) (by omega) (by omega), if_neg (by omega)]
      have hb := H.1
      have hW2 := hW2 e1 e2
      have hN := hW.1.1
      have hlenS := hW.b.2.2.2.2.1
      have h24 := hW.1.2.1
      have hnS : tN T ∉ tS T := fun y => by have := (hW.stk _ y).1; omega
      obtain ⟨h3, t1, t2, t3, t4, t5⟩ := H.enter (u := u + 1) hW1.stk (by rw [tS_mkT]; omega) (i := tN T) (by rw [tN_mkT]; omega) (by rw [tM_mkT, va_up_s]; omega) hnS (by rw [tL_mkT, va_up_s]) (by rw [tM_mkT, va_up_s]; unfold nmOK; omega) (fun z => by omega) hR
      have C3 : CntP h3 pg φ (psh (mkT T x c q) (tN T)) := C.mono t4 rfl rfl
      have hn2 : tN T < tN (psh (mkT T x c q) (tN T)) := by rw [tN_psh, tN_mkT]; omega
      have hm2 : tM (psh (mkT T x c q) (tN T)) (tN T) = x := by rw [tM_psh, tM_mkT, va_up_s]
      have hE := t2.elc hn2 (by rw [hm2]; omega)
      have hfmt := t2.fmt hW2 hn2 (by rw [hm2]; omega)
      rw [hm2] at hfmt
      rw [ha] at t1 hE hfmt
      rw [gd_c hb.1.1, t1, obind_some, gd_c hE.1, hfmt, obind_some]
      cases hf : isFmt x with
      | false =>
        rw [zb_f, if_eqp rfl]
        simp only [Bool.false_eq_true, if_false]
        exact ⟨h3, rfl, OutP.of t2 C3 t3 (t5.mono (by omega))⟩
      | true =>
        rw [zb_t, if_eqn (by omega) (by omega) (by omega) (by omega) (by omega)]
        simp only [if_true]
        obtain ⟨l, l1, l2, l3, l4, l5⟩ := t2.list hW2
        obtain ⟨o1, o2⟩ := hW2.own
        have hfn := fmt_nm hf
        have h4 := hW2.2.2.2.2.1 (ownr (psh (mkT T x c q) (tN T)))
        rw [ownr_psh hW (by omega)] at l2 l3 o1 o2 h4
        have hb3 := t2.1
        rw [gd_c hb3.1.1, l1, obind_some, obind_some]
        have e21 : pg + 4 ≠ l := kne h3 (by have := hb3.2.1; omega)
        have e22 : pg + 5 ≠ l := kne h3 (by have := hb3.2.1; omega)
        -- adding behind
        have addB : ∀ (g : HP) (T3 : TS), RepB g pg φ T3 → CntP g pg φ T3 → FP pg h g → RU g (u + 1) → pP g (φ (ownr T)) 5 = some l → pK g l = 21 → pK g a = 2 → (∀ i ∈ tS T3, i < tN T3 ∧ tM T3 i ≠ 1) → ownr T ∈ tS T3 → (tM T3 (ownr T) = 99 ∨ ownr T = 0) → (tL T3 (ownr T)).length ≤ 4 → ∃ h', f_X0_start_204 g a l = some h' ∧ OutP pg h u (some (setL T3 (va_up (tL T3) (ownr T) (tL T3 (ownr T) ++ [tN T])))) h' := fun g T3 G1 G2 G3 G4 G5 G6 G7 G8 G9 G10 G11 => by
          obtain ⟨l', m1, m2, m3⟩ := G1.l _ G9 G10
          rw [G5] at m1
          cases m1
          obtain ⟨g1, r1, r2, r3⟩ := lAdd_eq (u := u) (a := l) (x := a) (by rw [G6]; decide) (by rw [G7]; decide) (by rw [m2, List.length_map]; omega) m3 G4
          obtain ⟨k1, k2, k3, k4, k5, k6⟩ := r2.k
          have Gg := G1.gr r2
          obtain ⟨l'', m1', m2', m3'⟩ := Gg.l _ G9 G10
          rw [k4, G5] at m1'
          cases m1'
          have R := Gg.lset G8 G9 (l := l) (by rw [k4]; exact G5) m3' (tL T3 (ownr T) ++ [tN T])
          have hv : (tL T3 (ownr T) ++ [tN T]).map φ = pL g l ++ [a] := by rw [List.map_append, m2, List.map_singleton, ha]
          rw [hv] at R
          refine ⟨_, ?_, OutP.of R ((G2.mono (cntS.gr r2) rfl rfl).mono ⟨rfl, rfl, pL_ne _ e21, pL_ne _ e22⟩ rfl rfl) ((G3.trans (FP.gr r2 (tk2 G6 (by unfold treeK; omega)))).trans (FP.aL (tk2 (k := 21) (by rw [k1]; exact G6) (by unfold treeK; omega)) _)) r3⟩
          unfold f_X0_start_204
          rw [r1, obind_some]
        unfold lLen
        rw [gd_c (by rw [l5]; decide), obind_some, l3, List.length_map]
        unfold addL
        by_cases e4 : (tL (psh (mkT T x c q) (tN T)) (ownr T)).length = 4
        · rw [if_eqp (by omega), if_pos e4]
          have R := t2.lset hW2.stk o1 l2 l4 ((tL (psh (mkT T x c q) (tN T)) (ownr T)).drop 1)
          obtain ⟨h', s1, s2⟩ := addB _ _ R (C3.mono ⟨rfl, rfl, pL_ne _ e21, pL_ne _ e22⟩ rfl rfl) (FP.xL t3 (tk2 l5 (by unfold treeK; omega))) t5 l2 l5 hE.1 hW2.stk o1 o2 (by rw [tL_setL, va_up_s, List.length_drop]; omega)
          refine ⟨h', ?_, ?_⟩
          · unfold lDel
            rw [gd_c (by rw [l5]; decide), gd_zin (by omega) (by rw [l3, List.length_map]; omega) (by rw [l3, List.length_map]; omega), obind_some]
            have : wL h3 l ((pL h3 l).take (zix 0) ++ (pL h3 l).drop (zix 0 + 1)) = wL h3 l (((tL (psh (mkT T x c q) (tN T)) (ownr T)).drop 1).map φ) := by
              rw [show zix 0 = 0 by decide, l3, List.map_drop]; rfl
            rw [this]
            exact s1
          · rw [tL_setL, va_up_s, va_up2] at s2
            exact s2
        · rw [if_eqn (by omega) (by omega) (by omega) (by omega) (by omega), if_neg e4]
          exact addB _ _ t2 C3 t3 t5 l2 l5 hE.1 hW2.stk o1 o2 h4
/-- put as the last in the top -/
theorem RepB.putTop (H : RepB h pg φ T) (hW : WF T) (hx1 : x ≠ 1) (D : Det h pg φ T a x c) (hR : RU h (u + 1)) : ∃ h', (∀ (β : Type) (k : HP → Option β), (Option.bind (f_X0_top h pg) (fun y3 => gd (pK h pg = 1) (Option.bind (f_X0_top h pg) (fun y4 => gd (pK h y4 = 2) (Option.bind (pP h y4 4) (fun a5 => Option.bind (lLen h a5) (fun y6 => gd (pK h y3 = 2) (Option.bind (f_X2_put h y3 y6 a) k)))))))) = k h') ∧ RepB h' pg (va_up φ (tN T) a) (mkT T x c (plcIn T ((tS T).getD ((tS T).length - 1) 0))) ∧ CntP h' pg (va_up φ (tN T) a) (mkT T x c (plcIn T ((tS T).getD ((tS T).length - 1) 0))) ∧ FP pg h h' ∧ RU h' u := by
  have hb := H.1
  obtain ⟨t1, t2, t3⟩ := hW.top hW.len (Nat.le_refl _)
  have hE := H.elc t2 (nk1 t3)
  obtain ⟨h', r1, r2, r3, r4, r5⟩ := H.putG (q := plcIn T ((tS T).getD ((tS T).length - 1) 0)) (u := u) hW t2 (nk1 t3) (D.n hx1) (tK T) hR
  refine ⟨h', fun β k => ?_, r2, r3, r4, r5⟩
  rw [kids_in hW t2] at r1
  unfold lLen
  rw [H.top hW, obind_some, gd_c hb.1.1, obind_some, gd_c hE.1, hE.2.1, obind_some, gd_c (by rw [hE.2.2.1]; decide), obind_some, (H.2.2.2.1 _ t2 (nk1 t3)).2.2.2, List.length_map, gd_c hE.1]
  have r1' : f_X2_put h (φ ((tS T).getD ((tS T).length - 1) 0)) (((kids T ((tS T).getD ((tS T).length - 1) 0)).length : Nat) : Int) a = some h' := r1
  rw [r1', obind_some]
theorem tPut_some (hn : tN T ≠ 24) : tPut T x c q = some (tAft T x c q) := by
  unfold tPut tAft
  rw [mkN_some hn]
  simp only []
  split
  · rfl
  · split <;> rfl
theorem tPut_none (hn : tN T = 24) : tPut T x c q = none := by
  unfold tPut
  rw [mkN_none hn]
theorem WF.aft2 (hW : WF T) (hn : tN T ≠ 24) (hq : Place T q) (hx : 97 ≤ x ∧ x ≤ 122) (hk : kidOK (tM T q.2.2) x) (hr : x = 114 → tM T ((tS T).getD ((tS T).length - 1) 0) = 116) : x ≠ 104 → x ≠ 107 → WF (psh (mkT T x c q) (tN T)) := fun e1 e2 => hW.mkpsh hn hq (Or.inr hx) hk (by unfold noKid; omega) hr
theorem RepB.st95 (H : RepB h pg φ T) (C : CntP h pg φ T) (hW : WF T) (hx : 97 ≤ x ∧ x ≤ 122) (b : Bool) (hq : Place T (if b then plcIn T ((tS T).getD ((tS T).length - 1) 0) else plc T (tS T).length)) (hk : kidOK (tM T (if b then plcIn T ((tS T).getD ((tS T).length - 1) 0) else plc T (tS T).length).2.2) x) (hr : x = 114 → tM T ((tS T).getD ((tS T).length - 1) 0) = 116) (hc : pI h pg 11 = c) (hR : RU h (u + 8)) : ∃ h', f_X0_start_95 h pg x (zb b) = some h' ∧ OutP pg h u (tPut T x c (if b then plcIn T ((tS T).getD ((tS T).length - 1) 0) else plc T (tS T).length)) h' := by
  have hb := H.1
  obtain ⟨p1, p2⟩ := H.element (x := x) (c := c) (u := u + 4) C hW (by unfold nmOK; omega) (by omega) hR
  have pre : ∀ r, f_X0_element h pg x c = some r → f_X0_start_95 h pg x (zb b) = f_X0_start_115 r.1 pg x (zb b) r.2 := fun r hr => by
    unfold f_X0_start_95
    rw [gd_c hb.1.1, H.2.2.2.2.2.2.2.2, if_eqp rfl, gd_c hb.1.1, gd_c hb.1.1, hc, hr, obind_some]
  by_cases e : tN T = 24
  · obtain ⟨h', r1, r2, r3, r4, r5⟩ := p1 e
    rw [tPut_none e]
    refine ⟨h', ?_, r3, r4, r5.mono (by omega), r2⟩
    rw [pre _ r1]
    rfl
  · obtain ⟨h1, a, r1, r2, r3, r4, r5⟩ := p2 e
    rw [tPut_some e]
    rw [pre _ r1]
    unfold f_X0_start_115
    rw [nl_some]
    cases b with
    | false =>
      rw [zb_f, if_eqp rfl]
      simp only [Bool.false_eq_true, if_false] at hq hk ⊢
      obtain ⟨h2, s1, s2, s3, s4, s5⟩ := r2.insert (u := u + 3) hW (r3.n (by omega)) (tK T) r5
      have hW1 : WF (mkT T x c (plc T (tS T).length)) := hW.mk e hq (Or.inr hx) hk
      obtain ⟨h3, w1, w2⟩ := RepB.st155 (T := T) (x := x) (c := c) (q := plc T (tS T).length) (a := a) (u := u) s2 s3 hW hW1 (hW.aft2 e hq hx hk hr) hx (va_up_s _ _ _) s5
      refine ⟨h3, ?_, OutP.pre (r4.trans s4) w2⟩
      rw [gd_c (by exact r2.1.1.1), s1, obind_some, w1]
    | true =>
      rw [zb_t, if_eqn (by omega) (by omega) (by omega) (by omega) (by omega)]
      simp only [if_true] at hq hk ⊢
      obtain ⟨h2, s1, s2, s3, s4, s5⟩ := r2.putTop (u := u + 3) hW (by omega) r3 r5
      have hW1 := hW.mk (c := c) e hq (Or.inr hx) hk
      obtain ⟨h3, w1, w2⟩ := RepB.st155 (T := T) (x := x) (c := c) (a := a) (u := u) s2 s3 hW hW1 (hW.aft2 e hq hx hk hr) hx (va_up_s _ _ _) s5
      refine ⟨h3, ?_, OutP.pre (r4.trans s4) w2⟩
      rw [gd_c (by exact r2.1.1.1), s1 _ (fun y7 => f_X0_start_155 y7 pg x a)]
      exact w1
end PB
