/-! a new list, a new text; the JDK's calls at the page's level -/
set_option maxRecDepth 100000
theorem RR.relabel {E : PEw} {r : HP} {H : Heap} {a k : Nat} (h : RR E r H) (hk : kc (pK r a) = kc k) (ho : pK r a = 90 ∨ pK r a = 91) (ho' : isL k ∨ isS k) : RR E (wK r a k) H := by
  obtain ⟨r1, r2, r3, r4, r5⟩ := h
  refine ⟨fun b h1 h2 => ?_, r2, fun b hb => ?_, fun b j x hb hx => ?_, r5⟩
  · by_cases e : b = a
    · subst e
      obtain ⟨c1, c2, c3⟩ := r1 b (by omega) (by omega)
      refine ⟨cellOf_obj (by rw [pK_wK, if_pos rfl]; omega) ?_, c2, c3⟩
      rw [pK_wK, if_pos rfl, ← hk]
      exact c1.1 (by omega)
    · rw [pK_wK, if_neg e] at h1 h2
      obtain ⟨c1, c2, c3⟩ := r1 b h1 h2
      exact ⟨c1.kept (by rw [pK_wK, if_neg e]) rfl rfl rfl rfl, c2, c3⟩
  · by_cases e : b = a
    · rw [pK_wK, if_pos e] at hb; omega
    · rw [pK_wK, if_neg e] at hb; exact r3 b hb
  · have e : b ≠ a := fun e => by rw [pK_wK, if_pos e] at hb; omega
    rw [pK_wK, if_neg e] at hb
    have h1 := r4 b j x hb hx
    have e' : x ≠ a := fun e => by rw [e] at h1; omega
    rw [pK_wK, if_neg e']
    exact h1
theorem rep.newC {r h r' h' : HP} {a k : Nat} (hp : rep r h) (ha : pK h a = 90 ∨ pK h a = 91) (hk : isL k ∨ isS k) (hX : pX r' = pX h' ∧ pS r' = pS h' ∧ pO r' = pO h' ∧ pD r' = pD h' ∧ pM r' = pM h') (eD' : pD h' = pD h) (eK' : ∀ x, x ≠ a → pK h' x = pK h x) (eKa : pK h' a = k) (eN' : pN h' = pN h) (eI' : pI h' = pI h) (eP' : pP h' = pP h) (eL' : pL h' = pL h) (eB' : pB h' = pB h) (eC' : ∀ x, x ≠ a → pC h' x = pC h x)
    (hr : ∀ x, x ≠ a → pK r x ≠ 0 → pK r' x = pK r x ∧ pN r' x = pN r x ∧ pI r' x = pI r x ∧ pP r' x = pP r x) (hra : pK r' a = k) (hLS : (isL k → LR r' h' a ∧ pC h' a = 0) ∧ (isS k → SR r' h' a ∧ ∀ b, pP r' a 0 = some b → pK r b = 0)) : rep r' h' := by
  obtain ⟨p1, p2, p3, p4, p5, p6, p7, p8, p9, p10⟩ := hp
  have hk' : ∀ x, pK h x ≠ 0 → x ≠ a → pK r' x = pK r x ∧ pN r' x = pN r x ∧ pI r' x = pI r x ∧ pP r' x = pP r x := fun x hx e => hr x e (by rw [(p2 x hx).1]; exact hx)
  have hD : pD h ≠ a := fun e => by
    rw [e] at p9
    have := (p2 a (by omega)).1
    omega
  have ho : ∀ x b, x ≠ a → ownB r' h' x b → ownB r h x b := by
    intro x b e q
    unfold ownB at q ⊢
    rw [eK' x e, eC' x e] at q
    rcases q with ⟨q1, q2, q3⟩ | ⟨q1, q2⟩
    · rw [(hk' x (by omega) e).2.2.2] at q3
      exact Or.inl ⟨q1, q2, q3⟩
    · rw [(hk' x (by omega) e).2.2.2] at q2
      exact Or.inr ⟨q1, q2⟩
  have hoa : ∀ b, ownB r' h' a b → pK r' b ≠ 0 ∧ pK r b = 0 := by
    intro b q
    unfold ownB at q
    rw [eKa] at q
    rcases q with ⟨q1, q2, q3⟩ | ⟨q1, q2⟩
    · exact absurd (hLS.1 q1).2 q2
    · obtain ⟨s1, s2⟩ := hLS.2 q1
      obtain ⟨c, l1, l2, -⟩ := s1
      rw [q2] at l1
      cases l1
      exact ⟨by omega, s2 b q2⟩
  have hnb : ∀ x b, ownB r h x b → b ≠ a := fun x b q e => by have := (p7 x b q).1; rw [e] at this; omega
  refine ⟨hX, fun x hx => ?_, fun x hx => ?_, fun x hx => ?_, fun x hx => ?_, fun x hx => ?_, fun x b q => ?_, fun x x' b q q' => ?_, ?_⟩
  · by_cases e : x = a
    · subst e
      rw [hra, eKa]
      refine ⟨rfl, ?_⟩
      rcases hk with q | q
      · exact Or.inr (Or.inl q)
      · exact Or.inr (Or.inr (Or.inl q))
    · rw [eK' x e] at hx ⊢
      rw [(hk' x hx e).1]; exact p2 x hx
  · have e : x ≠ a := fun e => by rw [e, eKa] at hx; omega
    rw [eK' x e] at hx
    obtain ⟨k1, k2, k3, k4⟩ := hk' x (by omega) e
    rw [k2, k3, k4, eN', eI', eP']
    exact p3 x hx
  · have e : x ≠ a := fun e => by rw [e, eKa] at hx; omega
    rw [eK' x e] at hx
    obtain ⟨k1, k2, k3, k4⟩ := hk' x (by omega) e
    rw [k3, k4, eB', eL', eC' x e]
    exact p4 x hx
  · by_cases e : x = a
    · subst e
      rw [eKa] at hx
      exact (hLS.1 hx).1
    · rw [eK' x e] at hx
      obtain ⟨k1, k2, k3, k4⟩ := hk' x (by omega) e
      refine (p5 x hx).kept (by rw [k3]) (by rw [k4]) (by rw [eL']) (eC' x e) eD' (fun z hz => eK' z (fun e => by rw [e] at hz; omega)) (fun b hb1 hb2 => ?_)
      have q : ownB r h x b := Or.inl ⟨hx, hb1, hb2⟩
      obtain ⟨m1, m2, m3, m4⟩ := hr b (hnb x b q) (p7 x b q).2
      exact ⟨m1, m2, m4⟩
  · by_cases e : x = a
    · subst e
      rw [eKa] at hx
      exact (hLS.2 hx).1
    · rw [eK' x e] at hx
      obtain ⟨k1, k2, k3, k4⟩ := hk' x (by omega) e
      refine (p6 x hx).kept k3 (by rw [k4]) (by rw [eB']) (eC' x e) (fun b hb2 => ?_)
      have q : ownB r h x b := Or.inr ⟨hx, hb2⟩
      obtain ⟨m1, m2, m3, m4⟩ := hr b (hnb x b q) (p7 x b q).2
      exact ⟨m1, m2, m3⟩
  · by_cases e : x = a
    · subst e
      obtain ⟨q1, q2⟩ := hoa b q
      have e' : b ≠ x := fun e => by
        rw [e] at q2
        have := (p2 x (by omega)).1
        omega
      refine ⟨?_, q1⟩
      rw [eK' b e']
      by_cases e : pK h b = 0
      · exact e
      · rw [(p2 b e).1] at q2
        exact q2
    · have q0 := ho x b e q
      obtain ⟨q1, q2⟩ := p7 x b q0
      have e' := hnb x b q0
      exact ⟨by rw [eK' b e']; exact q1, by rw [(hr b e' q2).1]; exact q2⟩
  · by_cases e : x = a
    · by_cases e' : x' = a
      · rw [e, e']
      · subst e
        exact absurd (hoa b q).2 (p7 x' b (ho x' b e' q')).2
    · by_cases e' : x' = a
      · subst e'
        exact absurd (hoa b q').2 (p7 x b (ho x b e q)).2
      · exact p8 x x' b (ho x b e q) (ho x' b e' q')
  · rw [eD']
    obtain ⟨m1, m2, m3, m4⟩ := hr (pD h) hD (by omega)
    exact ⟨m1.trans p9, m2.trans p10⟩
theorem jp_lNew {r h : HP} (hp : rep r h) {a k : Nat} {y : HP} (e : lNew h a k = some y) : ∃ r', f_J2_init r a = some r' ∧ rep (wK r' a k) y ∧ pK r' a = 90 ∧ isL k ∧ (pX r' = pX y ∧ pS r' = pS y ∧ pO r' = pO y) := by
  obtain ⟨⟨ha, hk⟩, e⟩ := gd_inv e
  cases e
  have hka := hp.kind (a := a) (by omega)
  obtain ⟨z1, z2, z3, z4, z5⟩ := hp.2.2.2.1 a (Or.inl ha)
  have hlr : isLr (pK r a) := Or.inr (hka.trans ha)
  refine ⟨wP (wI r a 0 0) a 1 (some (pD r)), ?_, ?_, hka.trans ha, hk, hp.1.1, hp.1.2.1, hp.1.2.2.1⟩
  · unfold f_J2_init f_J1_init f_J0_init
    rw [obind_some, gd_of hlr, bnd_eq, obind_some, gd_of (by rw [pK_wI]; exact hlr), bnd_eq, pD_wI]
  · refine rep.newC hp (Or.inl ha) (Or.inl hk) hp.1 rfl (fun x hx => by rw [pK_wK, if_neg hx]) (by rw [pK_wK, if_pos rfl]) rfl rfl rfl rfl rfl (fun _ _ => rfl) (fun x h1 h2 => ⟨by rw [pK_wK, if_neg h1, pK_wP, pK_wI], rfl, ?_, ?_⟩) (by rw [pK_wK, if_pos rfl]) ⟨fun _ => ⟨⟨?_, ?_, ?_, ?_, Or.inl ⟨z5, ?_⟩⟩, z5⟩, fun q => by omega⟩
    · funext q; rw [pI_wK, pI_wP, pI_wI, if_neg (fun q => h1 q.1)]
    · funext q; rw [pP_wK, pP_wP, if_neg (fun q => h1 q.1), pP_wI]
    · rw [pI_wK, pI_wP, pI_wI, if_neg (fun q => by cases q.2), z1, pL_wK, z3]; rfl
    · rw [pL_wK, z3]; exact Nat.zero_le _
    · rw [pC_wK, z5]; decide
    · intro x hx; rw [pL_wK, z3] at hx; cases hx
    · rw [pP_wK, pP_wP, if_pos ⟨rfl, rfl⟩, pD_wK, hp.1.2.2.2.1]
theorem jp_sNew {r h : HP} (hp : rep r h) (hw : wfX r) {a k : Nat} {y : HP} (e : sNew h a k = some y) : ∃ r', f_J5_init r a = some r' ∧ rep (wK r' a k) y ∧ pK r' a = 91 ∧ isS k ∧ (pX r' = pX y ∧ pS r' = pS y ∧ pO r' = pO y) := by
  obtain ⟨⟨ha, hk, hrm⟩, e⟩ := gd_inv e
  cases e
  have hka := hp.kind (a := a) (by omega)
  obtain ⟨z1, z2, z3, z4, z5⟩ := hp.2.2.2.1 a (Or.inr ha)
  have hsr : isSr (pK r a) := Or.inr (hka.trans ha)
  obtain ⟨x1, x2, x3, x4, x5⟩ := hp.1
  have hna : a ≠ pX r := fun e => by have := hw a (by omega); omega
  have hK0 : pK r (pX r) = 0 := by
    by_cases e : pK r (pX r) = 0
    · exact e
    · have := hw _ e; omega
  have hix : zix 16 = 16 := by decide
  have hr2 : rmA r 16 := ⟨by decide, by rw [hix]; decide, by rw [x1, x3]; exact hrm.1, by rw [hix, x2]; exact hrm.2⟩
  have h1 : pX r + 1 = pX h + 1 := by rw [x1]
  have h2 : pS r + 16 = pS h + 16 := by rw [x2]
  refine ⟨wI (wP (wNew r 51 16) a 0 (some (pX r))) a 1 0, ?_, ?_, ?_, hk, h1, h2, x3⟩
  · unfold f_J5_init f_J4_init
    rw [if_neg (by decide), bnd_eq, gd_of hr2, bnd_eq, hix, gd_of (by rw [pK_wNew, if_neg hna]; exact hsr), bnd_eq, gd_of (by rw [pK_wP, pK_wNew, if_neg hna]; exact hsr), bnd_eq, obind_some]
  · refine rep.newC hp (Or.inr ha) (Or.inr hk) ⟨h1, h2, x3, x4, x5⟩ rfl (fun x hx => by rw [pK_wGr, pK_wK, if_neg hx]) (by rw [pK_wGr, pK_wK, if_pos rfl]) rfl rfl rfl rfl rfl (fun x hx => by rw [pC_wGr, if_neg hx, pC_wK]) (fun x g1 g2 => ?_) (by rw [pK_wK, if_pos rfl]) ⟨fun q => by omega, fun _ => ⟨?_, fun b hb => ?_⟩⟩
    · have e : x ≠ pX r := fun e => g2 (by rw [e]; exact hK0)
      refine ⟨by rw [pK_wK, if_neg g1, pK_wI, pK_wP, pK_wNew, if_neg e], by rw [pN_wK, pN_wI, pN_wP, pN_wNew, if_neg e], ?_, ?_⟩
      · funext q; rw [pI_wK, pI_wI, if_neg (fun q => g1 q.1), pI_wP, pI_wNew, if_neg e]
      · funext q; rw [pP_wK, pP_wI, pP_wP, if_neg (fun q => g1 q.1), pP_wNew, if_neg e]
    · refine SR.of (r := r) (h := h) (b := pX r) (l := []) ?_ ?_ ?_ ?_ ?_ (Nat.zero_le _) ?_ (fun i hi => absurd hi (Nat.not_lt_zero i)) ?_
      · rw [pP_wK, pP_wI, pP_wP, if_pos ⟨rfl, rfl⟩]
      · rw [pK_wK, if_neg (Ne.symm hna), pK_wI, pK_wP, pK_wNew, if_pos rfl]
      · rw [pN_wK, pN_wI, pN_wP, pN_wNew, if_pos rfl, pC_wGr, if_pos rfl]
      · rw [pI_wK, pI_wI, if_pos ⟨rfl, rfl⟩]
      · rw [pI_wK, pI_wI, if_neg (fun q => by cases q.2), pI_wP, pI_wNew, if_neg hna, z1]; rfl
      · rw [pC_wGr, if_pos rfl]; decide
      · rw [pB_wGr, pB_wK, z4]
    · rw [pP_wK, pP_wI, pP_wP, if_pos ⟨rfl, rfl⟩] at hb
      cases hb
      exact hK0
  · rw [pK_wI, pK_wP, pK_wNew, if_neg hna]; exact hka.trans ha
section ZJ
variable {p : Program} {l : Launch} {e : Env} {R : Room} {s : State} {m : MethodId} {args : Array Value} {below : List Frame} {meth : Method} {c : Code} {H : Heap} {locs : List Loc} {Q : State → Prop}
variable {cc : ByteArray} {pc : Nat} {ls : Array Slot} {rest : List Value} {E : PEw} {own : String} {nL : Nat} {ret : Option FieldType} {nm : String} {h0 h h1 : HP}
variable {y : MethodName} {bytes : ByteArray} {maxL n index : Nat} {rt : Option FieldType} {v : Option Value} {As : List Value} {fr lo : Nat}
theorem zj_liftV (C : PC E p s m args meth c own cc nL ret nm) (hz : ZP E s h0 h H locs) {F1 F2 : Prop} (hr : F1 ∧ F2 ∧ RBw R h0) {b cl : Nat} (hg : ∀ r, rep r h → gk visR cl (pK r b)) (hm : ∀ r, rep r h → wfX r → ∃ r', Met l y (ws_ y bytes maxL rt) (rmP r fr lo) (PR E r (.ref b :: As)) (QR E r r' v) (pX r' - pX r) (pS r' - pS r) (eF E) ∧ (∀ H' : Heap, RR E r' H' → RPw E h1 H') ∧ pX r' = pX h1 ∧ pS r' = pS h1 ∧ pO r' = pO h1)
    (q1 : Cond.methodLink own index y ∈ lw_all) (q2 : Cond.instanceMethod y ∈ lw_all) (q3 : (Cond.selects (cR cl) y y).before args s = true) (q4 : Cond.initialized y.cls ∈ lw_all) (q5 : Cond.code y bytes maxL rt ∈ lw_all) (hd : lenOK y n) (hR : fr + 1 ≤ R.frames ∧ 8 + (maxL + 11) + lo ≤ R.locals) (hn : As.length = n) (hl : ls.size = nL) {st : List Value} (hst : st = As.reverse ++ .ref b :: rest) (hcat : (rest.map fun v => v.category).sum ≤ 8) (hdg : decode cc pc = .ok (.invokevirtual index, 3))
    (kk : ∀ (H : Heap) (locs : List Loc), ZP E s h0 h1 H locs → W p l e R s m args below meth c H locs (pX h1 - pX h0) (pS h1 - pS h0) Q (F0 m (pc + 3) ls (v.toList ++ rest))) : W p l e R s m args below meth c H locs (pX h - pX h0) (pS h - pS h0) Q (F0 m pc ls st) := by
  obtain ⟨⟨r, hp, hrr⟩, f, hle1⟩ := hz
  obtain ⟨r', hM, hfin, e1, e2, e3⟩ := hm r hp hrr.wf
  have hz' : ZG (RR E) E s h0 r H locs := ⟨hrr, f, by unfold hle at hle1 ⊢; rw [hp.1.1, hp.1.2.1, hp.1.2.2.1]; exact hle1⟩
  rw [← hp.1.1, ← hp.1.2.1]
  refine zg_callV gR C hz' hr (hg r hp) hM q1 q2 q3 q4 q5 hd hR hn hl hst hcat hdg (fun H locs hz2 => ?_)
  have hw := kk H locs ⟨hfin H hz2.1, hz2.2.1, by have := hz2.2.2; unfold hle at this ⊢; rw [← e1, ← e2, ← e3]; exact this⟩
  rw [← e1, ← e2] at hw
  exact hw
theorem zj_liftI (C : PC E p s m args meth c own cc nL ret nm) (hz : ZP E s h0 h H locs) {F1 F2 : Prop} (hr : F1 ∧ F2 ∧ RBw R h0) {b : Nat} (hm : ∀ r, rep r h → wfX r → ∃ r', Met l y (ws_ y bytes maxL none) (rmP r fr lo) (PR E r (.ref b :: As)) (QR E r r' v) (pX r' - pX r) (pS r' - pS r) (eF E) ∧ (∀ H' : Heap, RR E r' H' → RPw E h1 H') ∧ pX r' = pX h1 ∧ pS r' = pS h1 ∧ pO r' = pO h1)
    (q1 : Cond.methodLink own index y ∈ lw_all) (q2 : Cond.instanceMethod y ∈ lw_all) (q4 : Cond.initialized y.cls ∈ lw_all) (q5 : Cond.code y bytes maxL none ∈ lw_all) (hd : lenOK y n) (hR : fr + 1 ≤ R.frames ∧ 8 + (maxL + 11) + lo ≤ R.locals) (hn : As.length = n) (hl : ls.size = nL) {st : List Value} (hst : st = As.reverse ++ .ref b :: rest) (hcat : (rest.map fun v => v.category).sum ≤ 8) (hdg : decode cc pc = .ok (.invokespecial index, 3))
    (kk : ∀ (H : Heap) (locs : List Loc), ZP E s h0 h1 H locs → W p l e R s m args below meth c H locs (pX h1 - pX h0) (pS h1 - pS h0) Q (F0 m (pc + 3) ls (v.toList ++ rest))) (hy1 : y.name = "<init>" := by rfl) : W p l e R s m args below meth c H locs (pX h - pX h0) (pS h - pS h0) Q (F0 m pc ls st) := by
  obtain ⟨⟨r, hp, hrr⟩, f, hle1⟩ := hz
  obtain ⟨r', hM, hfin, e1, e2, e3⟩ := hm r hp hrr.wf
  have hz' : ZG (RR E) E s h0 r H locs := ⟨hrr, f, by unfold hle at hle1 ⊢; rw [hp.1.1, hp.1.2.1, hp.1.2.2.1]; exact hle1⟩
  rw [← hp.1.1, ← hp.1.2.1]
  refine zg_callI gR C hz' hr hM q1 q2 q4 q5 hd hR hn hl hst hcat hdg (fun H locs hz2 => ?_) hy1
  have hw := kk H locs ⟨hfin H hz2.1, hz2.2.1, by have := hz2.2.2; unfold hle at this ⊢; rw [← e1, ← e2, ← e3]; exact this⟩
  rw [← e1, ← e2] at hw
  exact hw
theorem zj_lLen {a : Nat} {y : Int} (C : PC E p s m args meth c own cc nL ret nm) (hz : ZP E s h0 h H locs) {F1 F2 : Prop} (hr : F1 ∧ F2 ∧ RBw R h0) (ey : lLen h a = some y) (q1 : Cond.methodLink own index yJ2_size ∈ lw_all) (q2 : Cond.instanceMethod yJ2_size ∈ lw_all) (q3 : (Cond.selects (cR 8) yJ2_size yJ2_size).before args s = true) (q4 : Cond.initialized yJ2_size.cls ∈ lw_all) (q5 : Cond.code yJ2_size cJ2_size 1 (some .int) ∈ lw_all) (hl : ls.size = nL) (hR : 0 + 1 ≤ R.frames ∧ 8 + (1 + 11) + 0 ≤ R.locals) (hcat : (rest.map fun v => v.category).sum ≤ 8) (hdg : decode cc pc = .ok (.invokevirtual index, 3))
    (kk : ∀ (H : Heap) (locs : List Loc), ZP E s h0 h H locs → W p l e R s m args below meth c H locs (pX h - pX h0) (pS h - pS h0) Q (F0 m (pc + 3) ls (.int (zI y) :: rest))) : W p l e R s m args below meth c H locs (pX h - pX h0) (pS h - pS h0) Q (F0 m pc ls (.ref a :: rest)) := by
  have hk : isL (pK h a) := (gd_inv ey).1
  refine zj_liftV (v := some (.int (zI y))) (As := []) (n := 0) (fr := 0) (lo := 0) (h1 := h) (cl := 8) C hz hr (fun r hp => gkl (Or.inl (by rw [hp.kind (isL_ne hk)]; exact hk))) (fun r hp hw => ?_) q1 q2 q3 q4 q5 (by decide +kernel) hR rfl hl rfl hcat hdg kk
  exact ⟨r, met_J2_size l E (jp_lLen hp ey), fun H' hr' => ⟨r, hp, hr'⟩, hp.1.1, hp.1.2.1, hp.1.2.2.1⟩
theorem zj_lGet {a : Nat} {x0 : Int} {y : Nat} (C : PC E p s m args meth c own cc nL ret nm) (hz : ZP E s h0 h H locs) {F1 F2 : Prop} (hr : F1 ∧ F2 ∧ RBw R h0) (ey : lGet h a x0 = some y) (q1 : Cond.methodLink own index yJ2_get ∈ lw_all) (q2 : Cond.instanceMethod yJ2_get ∈ lw_all) (q3 : (Cond.selects (cR 8) yJ2_get yJ2_get).before args s = true) (q4 : Cond.initialized yJ2_get.cls ∈ lw_all) (q5 : Cond.code yJ2_get cJ2_get 2 (some (.object "java/lang/Object")) ∈ lw_all) (hl : ls.size = nL) (hR : 2 + 1 ≤ R.frames ∧ 8 + (2 + 11) + 43 ≤ R.locals) (hcat : (rest.map fun v => v.category).sum ≤ 8) (hdg : decode cc pc = .ok (.invokevirtual index, 3))
    (kk : ∀ (H : Heap) (locs : List Loc), ZP E s h0 h H locs → W p l e R s m args below meth c H locs (pX h - pX h0) (pS h - pS h0) Q (F0 m (pc + 3) ls (.ref y :: rest))) : W p l e R s m args below meth c H locs (pX h - pX h0) (pS h - pS h0) Q (F0 m pc ls (.int (zI x0) :: .ref a :: rest)) := by
  have hk : isL (pK h a) := (gd_inv ey).1
  refine zj_liftV (v := some (.ref y)) (As := [.int (zI x0)]) (n := 1) (fr := 2) (lo := 43) (h1 := h) (cl := 8) C hz hr (fun r hp => gkl (Or.inl (by rw [hp.kind (isL_ne hk)]; exact hk))) (fun r hp hw => ?_) q1 q2 q3 q4 q5 (by decide +kernel) hR rfl hl rfl hcat hdg kk
  exact ⟨r, met_J2_get l E (jp_lGet hp ey), fun H' hr' => ⟨r, hp, hr'⟩, hp.1.1, hp.1.2.1, hp.1.2.2.1⟩
theorem zj_lAdd {a : Nat} {x0 : Nat} {y : HP × Int} (C : PC E p s m args meth c own cc nL ret nm) (hz : ZP E s h0 h H locs) {F1 F2 : Prop} (hr : F1 ∧ F2 ∧ RBw R h0) (ey : lAdd h a x0 = some y) (q1 : Cond.methodLink own index yJ2_add ∈ lw_all) (q2 : Cond.instanceMethod yJ2_add ∈ lw_all) (q3 : (Cond.selects (cR 8) yJ2_add yJ2_add).before args s = true) (q4 : Cond.initialized yJ2_add.cls ∈ lw_all) (q5 : Cond.code yJ2_add cJ2_add 2 (some .boolean) ∈ lw_all) (hl : ls.size = nL) (hR : 6 + 1 ≤ R.frames ∧ 8 + (2 + 11) + 154 ≤ R.locals) (hcat : (rest.map fun v => v.category).sum ≤ 8) (hdg : decode cc pc = .ok (.invokevirtual index, 3))
    (kk : ∀ (H : Heap) (locs : List Loc), ZP E s h0 y.1 H locs → W p l e R s m args below meth c H locs (pX y.1 - pX h0) (pS y.1 - pS h0) Q (F0 m (pc + 3) ls (.int (zI y.2) :: rest))) : W p l e R s m args below meth c H locs (pX h - pX h0) (pS h - pS h0) Q (F0 m pc ls (.ref x0 :: .ref a :: rest)) := by
  have hk : isL (pK h a) := (gd_inv ey).1.1
  refine zj_liftV (v := some (.int (zI y.2))) (As := [.ref x0]) (n := 1) (fr := 6) (lo := 154) (h1 := y.1) (cl := 8) C hz hr (fun r hp => gkl (Or.inl (by rw [hp.kind (isL_ne hk)]; exact hk))) (fun r hp hw => ?_) q1 q2 q3 q4 q5 (by decide +kernel) hR rfl hl rfl hcat hdg kk
  obtain ⟨r', f1, f2⟩ := jp_lAdd hp hw ey
  exact ⟨r', met_J2_add l E f1, fun H' hr' => ⟨r', f2, hr'⟩, f2.1.1, f2.1.2.1, f2.1.2.2.1⟩
theorem zj_lIns {a : Nat} {x0 : Int} {x1 : Nat} {y : HP} (C : PC E p s m args meth c own cc nL ret nm) (hz : ZP E s h0 h H locs) {F1 F2 : Prop} (hr : F1 ∧ F2 ∧ RBw R h0) (ey : lIns h a x0 x1 = some y) (q1 : Cond.methodLink own index yJ2_add_3 ∈ lw_all) (q2 : Cond.instanceMethod yJ2_add_3 ∈ lw_all) (q3 : (Cond.selects (cR 8) yJ2_add_3 yJ2_add_3).before args s = true) (q4 : Cond.initialized yJ2_add_3.cls ∈ lw_all) (q5 : Cond.code yJ2_add_3 cJ2_add_3 5 none ∈ lw_all) (hl : ls.size = nL) (hR : 5 + 1 ≤ R.frames ∧ 8 + (5 + 11) + 131 ≤ R.locals) (hcat : (rest.map fun v => v.category).sum ≤ 8) (hdg : decode cc pc = .ok (.invokevirtual index, 3))
    (kk : ∀ (H : Heap) (locs : List Loc), ZP E s h0 y H locs → W p l e R s m args below meth c H locs (pX y - pX h0) (pS y - pS h0) Q (F0 m (pc + 3) ls (rest))) : W p l e R s m args below meth c H locs (pX h - pX h0) (pS h - pS h0) Q (F0 m pc ls (.ref x1 :: .int (zI x0) :: .ref a :: rest)) := by
  have hk : isL (pK h a) := (gd_inv ey).1.1
  refine zj_liftV (v := none) (As := [.int (zI x0), .ref x1]) (n := 2) (fr := 5) (lo := 131) (h1 := y) (cl := 8) C hz hr (fun r hp => gkl (Or.inl (by rw [hp.kind (isL_ne hk)]; exact hk))) (fun r hp hw => ?_) q1 q2 q3 q4 q5 (by decide +kernel) hR rfl hl rfl hcat hdg kk
  obtain ⟨r', f1, f2⟩ := jp_lIns hp hw ey
  exact ⟨r', met_J2_add_3 l E f1, fun H' hr' => ⟨r', f2, hr'⟩, f2.1.1, f2.1.2.1, f2.1.2.2.1⟩
theorem zj_lDel {a : Nat} {x0 : Int} {y : HP × Nat} (C : PC E p s m args meth c own cc nL ret nm) (hz : ZP E s h0 h H locs) {F1 F2 : Prop} (hr : F1 ∧ F2 ∧ RBw R h0) (ey : lDel h a x0 = some y) (q1 : Cond.methodLink own index yJ2_remove ∈ lw_all) (q2 : Cond.instanceMethod yJ2_remove ∈ lw_all) (q3 : (Cond.selects (cR 8) yJ2_remove yJ2_remove).before args s = true) (q4 : Cond.initialized yJ2_remove.cls ∈ lw_all) (q5 : Cond.code yJ2_remove cJ2_remove 4 (some (.object "java/lang/Object")) ∈ lw_all) (hl : ls.size = nL) (hR : 2 + 1 ≤ R.frames ∧ 8 + (4 + 11) + 67 ≤ R.locals) (hcat : (rest.map fun v => v.category).sum ≤ 8) (hdg : decode cc pc = .ok (.invokevirtual index, 3))
    (kk : ∀ (H : Heap) (locs : List Loc), ZP E s h0 y.1 H locs → W p l e R s m args below meth c H locs (pX y.1 - pX h0) (pS y.1 - pS h0) Q (F0 m (pc + 3) ls (.ref y.2 :: rest))) : W p l e R s m args below meth c H locs (pX h - pX h0) (pS h - pS h0) Q (F0 m pc ls (.int (zI x0) :: .ref a :: rest)) := by
  have hk : isL (pK h a) := (gd_inv ey).1
  refine zj_liftV (v := some (.ref y.2)) (As := [.int (zI x0)]) (n := 1) (fr := 2) (lo := 67) (h1 := y.1) (cl := 8) C hz hr (fun r hp => gkl (Or.inl (by rw [hp.kind (isL_ne hk)]; exact hk))) (fun r hp hw => ?_) q1 q2 q3 q4 q5 (by decide +kernel) hR rfl hl rfl hcat hdg kk
  obtain ⟨r', f1, f2⟩ := jp_lDel hp ey
  exact ⟨r', met_J2_remove l E f1, fun H' hr' => ⟨r', f2, hr'⟩, f2.1.1, f2.1.2.1, f2.1.2.2.1⟩
theorem zj_lSet {a : Nat} {x0 : Int} {x1 : Nat} {y : HP × Nat} (C : PC E p s m args meth c own cc nL ret nm) (hz : ZP E s h0 h H locs) {F1 F2 : Prop} (hr : F1 ∧ F2 ∧ RBw R h0) (ey : lSet h a x0 x1 = some y) (q1 : Cond.methodLink own index yJ2_set ∈ lw_all) (q2 : Cond.instanceMethod yJ2_set ∈ lw_all) (q3 : (Cond.selects (cR 8) yJ2_set yJ2_set).before args s = true) (q4 : Cond.initialized yJ2_set.cls ∈ lw_all) (q5 : Cond.code yJ2_set cJ2_set 4 (some (.object "java/lang/Object")) ∈ lw_all) (hl : ls.size = nL) (hR : 2 + 1 ≤ R.frames ∧ 8 + (4 + 11) + 43 ≤ R.locals) (hcat : (rest.map fun v => v.category).sum ≤ 8) (hdg : decode cc pc = .ok (.invokevirtual index, 3))
    (kk : ∀ (H : Heap) (locs : List Loc), ZP E s h0 y.1 H locs → W p l e R s m args below meth c H locs (pX y.1 - pX h0) (pS y.1 - pS h0) Q (F0 m (pc + 3) ls (.ref y.2 :: rest))) : W p l e R s m args below meth c H locs (pX h - pX h0) (pS h - pS h0) Q (F0 m pc ls (.ref x1 :: .int (zI x0) :: .ref a :: rest)) := by
  have hk : isL (pK h a) := (gd_inv ey).1.1
  refine zj_liftV (v := some (.ref y.2)) (As := [.int (zI x0), .ref x1]) (n := 2) (fr := 2) (lo := 43) (h1 := y.1) (cl := 8) C hz hr (fun r hp => gkl (Or.inl (by rw [hp.kind (isL_ne hk)]; exact hk))) (fun r hp hw => ?_) q1 q2 q3 q4 q5 (by decide +kernel) hR rfl hl rfl hcat hdg kk
  obtain ⟨r', f1, f2⟩ := jp_lSet hp ey
  exact ⟨r', met_J2_set l E f1, fun H' hr' => ⟨r', f2, hr'⟩, f2.1.1, f2.1.2.1, f2.1.2.2.1⟩
theorem zj_lClr {a : Nat} {y : HP} (C : PC E p s m args meth c own cc nL ret nm) (hz : ZP E s h0 h H locs) {F1 F2 : Prop} (hr : F1 ∧ F2 ∧ RBw R h0) (ey : lClr h a = some y) (q1 : Cond.methodLink own index yJ2_clear ∈ lw_all) (q2 : Cond.instanceMethod yJ2_clear ∈ lw_all) (q3 : (Cond.selects (cR 8) yJ2_clear yJ2_clear).before args s = true) (q4 : Cond.initialized yJ2_clear.cls ∈ lw_all) (q5 : Cond.code yJ2_clear cJ2_clear 4 none ∈ lw_all) (hl : ls.size = nL) (hR : 0 + 1 ≤ R.frames ∧ 8 + (4 + 11) + 0 ≤ R.locals) (hcat : (rest.map fun v => v.category).sum ≤ 8) (hdg : decode cc pc = .ok (.invokevirtual index, 3))
    (kk : ∀ (H : Heap) (locs : List Loc), ZP E s h0 y H locs → W p l e R s m args below meth c H locs (pX y - pX h0) (pS y - pS h0) Q (F0 m (pc + 3) ls (rest))) : W p l e R s m args below meth c H locs (pX h - pX h0) (pS h - pS h0) Q (F0 m pc ls (.ref a :: rest)) := by
  have hk : isL (pK h a) := (gd_inv ey).1
  refine zj_liftV (v := none) (As := []) (n := 0) (fr := 0) (lo := 0) (h1 := y) (cl := 8) C hz hr (fun r hp => gkl (Or.inl (by rw [hp.kind (isL_ne hk)]; exact hk))) (fun r hp hw => ?_) q1 q2 q3 q4 q5 (by decide +kernel) hR rfl hl rfl hcat hdg kk
  obtain ⟨r', f1, f2⟩ := jp_lClr hp ey
  exact ⟨r', met_J2_clear l E f1, fun H' hr' => ⟨r', f2, hr'⟩, f2.1.1, f2.1.2.1, f2.1.2.2.1⟩
theorem zj_lNew {a : Nat} {k : Nat} {y : HP} (C : PC E p s m args meth c own cc nL ret nm) (hz : ZP E s h0 h H locs) {F1 F2 : Prop} (hr : F1 ∧ F2 ∧ RBw R h0) (ey : lNew h a k = some y) (q1 : Cond.methodLink own index yJ2_init ∈ lw_all) (q2 : Cond.instanceMethod yJ2_init ∈ lw_all) (q4 : Cond.initialized yJ2_init.cls ∈ lw_all) (q5 : Cond.code yJ2_init cJ2_init 1 none ∈ lw_all) (hl : ls.size = nL) (hR : 3 + 1 ≤ R.frames ∧ 8 + (1 + 11) + 60 ≤ R.locals) (hcat : (rest.map fun v => v.category).sum ≤ 8) (hdg : decode cc pc = .ok (.invokespecial index, 3))
    (kk : ∀ (H : Heap) (locs : List Loc), ZP E s h0 y H locs → W p l e R s m args below meth c H locs (pX y - pX h0) (pS y - pS h0) Q (F0 m (pc + 3) ls (rest))) : W p l e R s m args below meth c H locs (pX h - pX h0) (pS h - pS h0) Q (F0 m pc ls (.ref a :: rest)) := by
  refine zj_liftI (v := none) (As := []) (n := 0) (fr := 3) (lo := 60) (h1 := y) C hz hr (fun r hp hw => ?_) q1 q2 q4 q5 (by decide +kernel) hR rfl hl rfl hcat hdg kk
  obtain ⟨r', f1, f2, f3, f4, f5⟩ := jp_lNew hp ey
  exact ⟨r', met_J2_init l E f1, fun H' hr' => ⟨wK r' a k, f2, hr'.relabel (by rw [f3]; unfold kc; rw [if_neg (by decide), if_pos (by decide), if_neg (by omega), if_pos (by omega)]) (Or.inl f3) (Or.inl f4)⟩, f5⟩
theorem zj_sNew {a : Nat} {k : Nat} {y : HP} (C : PC E p s m args meth c own cc nL ret nm) (hz : ZP E s h0 h H locs) {F1 F2 : Prop} (hr : F1 ∧ F2 ∧ RBw R h0) (ey : sNew h a k = some y) (q1 : Cond.methodLink own index yJ5_init ∈ lw_all) (q2 : Cond.instanceMethod yJ5_init ∈ lw_all) (q4 : Cond.initialized yJ5_init.cls ∈ lw_all) (q5 : Cond.code yJ5_init cJ5_init 1 none ∈ lw_all) (hl : ls.size = nL) (hR : 2 + 1 ≤ R.frames ∧ 8 + (1 + 11) + 41 ≤ R.locals) (hcat : (rest.map fun v => v.category).sum ≤ 8) (hdg : decode cc pc = .ok (.invokespecial index, 3))
    (kk : ∀ (H : Heap) (locs : List Loc), ZP E s h0 y H locs → W p l e R s m args below meth c H locs (pX y - pX h0) (pS y - pS h0) Q (F0 m (pc + 3) ls (rest))) : W p l e R s m args below meth c H locs (pX h - pX h0) (pS h - pS h0) Q (F0 m pc ls (.ref a :: rest)) := by
  refine zj_liftI (v := none) (As := []) (n := 0) (fr := 2) (lo := 41) (h1 := y) C hz hr (fun r hp hw => ?_) q1 q2 q4 q5 (by decide +kernel) hR rfl hl rfl hcat hdg kk
  obtain ⟨r', f1, f2, f3, f4, f5⟩ := jp_sNew hp hw ey
  exact ⟨r', met_J5_init l E f1, fun H' hr' => ⟨wK r' a k, f2, hr'.relabel (by rw [f3]; unfold kc; rw [if_neg (by decide), if_neg (by decide), if_neg (by omega), if_neg (by omega)]) (Or.inr f3) (Or.inr f4)⟩, f5⟩
theorem zj_sApp {a : Nat} {x0 : Int} {y : HP} (C : PC E p s m args meth c own cc nL ret nm) (hz : ZP E s h0 h H locs) {F1 F2 : Prop} (hr : F1 ∧ F2 ∧ RBw R h0) (ey : sApp h a x0 = some y) (q1 : Cond.methodLink own index yJ5_append ∈ lw_all) (q2 : Cond.instanceMethod yJ5_append ∈ lw_all) (q3 : (Cond.selects (cR 9) yJ5_append yJ5_append).before args s = true) (q4 : Cond.initialized yJ5_append.cls ∈ lw_all) (q5 : Cond.code yJ5_append cJ5_append 2 (some (.object "java/lang/StringBuilder")) ∈ lw_all) (hl : ls.size = nL) (hR : 5 + 1 ≤ R.frames ∧ 8 + (2 + 11) + 112 ≤ R.locals) (hcat : (rest.map fun v => v.category).sum ≤ 8) (hdg : decode cc pc = .ok (.invokevirtual index, 3))
    (kk : ∀ (H : Heap) (locs : List Loc), ZP E s h0 y H locs → W p l e R s m args below meth c H locs (pX y - pX h0) (pS y - pS h0) Q (F0 m (pc + 3) ls (.ref a :: rest))) : W p l e R s m args below meth c H locs (pX h - pX h0) (pS h - pS h0) Q (F0 m pc ls (.int (zI x0) :: .ref a :: rest)) := by
  have hk : isS (pK h a) := (gd_inv ey).1.1
  refine zj_liftV (v := some (.ref a)) (As := [.int (zI x0)]) (n := 1) (fr := 5) (lo := 112) (h1 := y) (cl := 9) C hz hr (fun r hp => gks (Or.inl (by rw [hp.kind (isS_ne hk)]; exact hk))) (fun r hp hw => ?_) q1 q2 q3 q4 q5 (by decide +kernel) hR rfl hl rfl hcat hdg kk
  obtain ⟨r', f1, f2⟩ := jp_sApp hp hw ey
  exact ⟨r', met_J5_append l E f1, fun H' hr' => ⟨r', f2, hr'⟩, f2.1.1, f2.1.2.1, f2.1.2.2.1⟩
theorem zj_sLen {a : Nat} {y : Int} (C : PC E p s m args meth c own cc nL ret nm) (hz : ZP E s h0 h H locs) {F1 F2 : Prop} (hr : F1 ∧ F2 ∧ RBw R h0) (ey : sLen h a = some y) (q1 : Cond.methodLink own index yJ5_length ∈ lw_all) (q2 : Cond.instanceMethod yJ5_length ∈ lw_all) (q3 : (Cond.selects (cR 9) yJ5_length yJ5_length).before args s = true) (q4 : Cond.initialized yJ5_length.cls ∈ lw_all) (q5 : Cond.code yJ5_length cJ5_length 1 (some .int) ∈ lw_all) (hl : ls.size = nL) (hR : 1 + 1 ≤ R.frames ∧ 8 + (1 + 11) + 20 ≤ R.locals) (hcat : (rest.map fun v => v.category).sum ≤ 8) (hdg : decode cc pc = .ok (.invokevirtual index, 3))
    (kk : ∀ (H : Heap) (locs : List Loc), ZP E s h0 h H locs → W p l e R s m args below meth c H locs (pX h - pX h0) (pS h - pS h0) Q (F0 m (pc + 3) ls (.int (zI y) :: rest))) : W p l e R s m args below meth c H locs (pX h - pX h0) (pS h - pS h0) Q (F0 m pc ls (.ref a :: rest)) := by
  have hk : isS (pK h a) := (gd_inv ey).1
  refine zj_liftV (v := some (.int (zI y))) (As := []) (n := 0) (fr := 1) (lo := 20) (h1 := h) (cl := 9) C hz hr (fun r hp => gks (Or.inl (by rw [hp.kind (isS_ne hk)]; exact hk))) (fun r hp hw => ?_) q1 q2 q3 q4 q5 (by decide +kernel) hR rfl hl rfl hcat hdg kk
  exact ⟨r, met_J5_length l E (jp_sLen hp ey), fun H' hr' => ⟨r, hp, hr'⟩, hp.1.1, hp.1.2.1, hp.1.2.2.1⟩
theorem zj_sAt {a : Nat} {x0 : Int} {y : Int} (C : PC E p s m args meth c own cc nL ret nm) (hz : ZP E s h0 h H locs) {F1 F2 : Prop} (hr : F1 ∧ F2 ∧ RBw R h0) (ey : sAt h a x0 = some y) (q1 : Cond.methodLink own index yJ5_charAt ∈ lw_all) (q2 : Cond.instanceMethod yJ5_charAt ∈ lw_all) (q3 : (Cond.selects (cR 9) yJ5_charAt yJ5_charAt).before args s = true) (q4 : Cond.initialized yJ5_charAt.cls ∈ lw_all) (q5 : Cond.code yJ5_charAt cJ5_charAt 2 (some .char) ∈ lw_all) (hl : ls.size = nL) (hR : 3 + 1 ≤ R.frames ∧ 8 + (2 + 11) + 67 ≤ R.locals) (hcat : (rest.map fun v => v.category).sum ≤ 8) (hdg : decode cc pc = .ok (.invokevirtual index, 3))
    (kk : ∀ (H : Heap) (locs : List Loc), ZP E s h0 h H locs → W p l e R s m args below meth c H locs (pX h - pX h0) (pS h - pS h0) Q (F0 m (pc + 3) ls (.int (zI y) :: rest))) : W p l e R s m args below meth c H locs (pX h - pX h0) (pS h - pS h0) Q (F0 m pc ls (.int (zI x0) :: .ref a :: rest)) := by
  have hk : isS (pK h a) := (gd_inv ey).1
  refine zj_liftV (v := some (.int (zI y))) (As := [.int (zI x0)]) (n := 1) (fr := 3) (lo := 67) (h1 := h) (cl := 9) C hz hr (fun r hp => gks (Or.inl (by rw [hp.kind (isS_ne hk)]; exact hk))) (fun r hp hw => ?_) q1 q2 q3 q4 q5 (by decide +kernel) hR rfl hl rfl hcat hdg kk
  obtain ⟨w, f1, f2⟩ := jp_sAt hp ey
  rw [← f2]
  exact ⟨r, met_J5_charAt l E f1, fun H' hr' => ⟨r, hp, hr'⟩, hp.1.1, hp.1.2.1, hp.1.2.2.1⟩
theorem zj_sSet {a : Nat} {x0 : Int} {y : HP} (C : PC E p s m args meth c own cc nL ret nm) (hz : ZP E s h0 h H locs) {F1 F2 : Prop} (hr : F1 ∧ F2 ∧ RBw R h0) (ey : sSet h a x0 = some y) (q1 : Cond.methodLink own index yJ5_setLength ∈ lw_all) (q2 : Cond.instanceMethod yJ5_setLength ∈ lw_all) (q3 : (Cond.selects (cR 9) yJ5_setLength yJ5_setLength).before args s = true) (q4 : Cond.initialized yJ5_setLength.cls ∈ lw_all) (q5 : Cond.code yJ5_setLength cJ5_setLength 2 none ∈ lw_all) (hl : ls.size = nL) (hR : 5 + 1 ≤ R.frames ∧ 8 + (2 + 11) + 112 ≤ R.locals) (hcat : (rest.map fun v => v.category).sum ≤ 8) (hdg : decode cc pc = .ok (.invokevirtual index, 3))
    (kk : ∀ (H : Heap) (locs : List Loc), ZP E s h0 y H locs → W p l e R s m args below meth c H locs (pX y - pX h0) (pS y - pS h0) Q (F0 m (pc + 3) ls (rest))) : W p l e R s m args below meth c H locs (pX h - pX h0) (pS h - pS h0) Q (F0 m pc ls (.int (zI x0) :: .ref a :: rest)) := by
  have hk : isS (pK h a) := (gd_inv ey).1.1
  refine zj_liftV (v := none) (As := [.int (zI x0)]) (n := 1) (fr := 5) (lo := 112) (h1 := y) (cl := 9) C hz hr (fun r hp => gks (Or.inl (by rw [hp.kind (isS_ne hk)]; exact hk))) (fun r hp hw => ?_) q1 q2 q3 q4 q5 (by decide +kernel) hR rfl hl rfl hcat hdg kk
  obtain ⟨r', f1, f2⟩ := jp_sSet hp ey
  exact ⟨r', met_J5_setLength l E f1, fun H' hr' => ⟨r', f2, hr'⟩, f2.1.1, f2.1.2.1, f2.1.2.2.1⟩
end ZJ
