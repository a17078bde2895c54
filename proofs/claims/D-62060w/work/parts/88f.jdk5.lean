set_option maxRecDepth 100000
theorem rep.sb {r h r' h' : HP} {a : Nat} (hp : rep r h) (ha : isS (pK h a)) (hX : pX r' = pX h' ∧ pS r' = pS h' ∧ pO r' = pO h' ∧ pD r' = pD h' ∧ pM r' = pM h') (eD' : pD h' = pD h) (eK' : pK h' = pK h) (eN' : pN h' = pN h) (eI' : pI h' = pI h) (eP' : pP h' = pP h) (eL' : pL h' = pL h) (eB' : ∀ x, x ≠ a → pB h' x = pB h x) (eC' : ∀ x, x ≠ a → pC h' x = pC h x)
    (hr : ∀ x, x ≠ a → pK r x ≠ 0 → ¬ ownB r h a x → pK r' x = pK r x ∧ pN r' x = pN r x ∧ pI r' x = pI r x ∧ pP r' x = pP r x) (hra : pK r' a = pK r a) (hSR : SR r' h' a) (hown : ∀ b, pP r' a 0 = some b → ownB r h a b ∨ pK r b = 0) : rep r' h' := by
  obtain ⟨p1, p2, p3, p4, p5, p6, p7, p8, p9, p10⟩ := hp
  have hno : ∀ x, pK h x ≠ 0 → ¬ ownB r h a x := fun x hx q => hx (p7 a x q).1
  have hk : ∀ x, pK h x ≠ 0 → x ≠ a → pK r' x = pK r x ∧ pN r' x = pN r x ∧ pI r' x = pI r x ∧ pP r' x = pP r x := fun x hx e => hr x e (by rw [(p2 x hx).1]; exact hx) (hno x hx)
  have hD : pD h ≠ a ∧ ¬ ownB r h a (pD h) := by
    refine ⟨fun e => ?_, fun q => ?_⟩
    · rw [e] at p9
      have := (p2 a (by omega)).1
      omega
    · rcases q with ⟨q1, q2, q3⟩ | ⟨q1, q2⟩
      · omega
      · obtain ⟨b, l1, l2, -⟩ := p6 a q1
        rw [q2] at l1
        cases l1
        omega
  have ho : ∀ x b, x ≠ a → ownB r' h' x b → ownB r h x b := by
    intro x b e q
    unfold ownB at q ⊢
    rw [eK', eC' x e] at q
    rcases q with ⟨q1, q2, q3⟩ | ⟨q1, q2⟩
    · rw [(hk x (by omega) e).2.2.2] at q3
      exact Or.inl ⟨q1, q2, q3⟩
    · rw [(hk x (by omega) e).2.2.2] at q2
      exact Or.inr ⟨q1, q2⟩
  have hoa : ∀ b, ownB r' h' a b → pK r' b ≠ 0 ∧ (ownB r h a b ∨ pK r b = 0) := by
    intro b q
    unfold ownB at q
    rw [eK'] at q
    rcases q with ⟨q1, q2, q3⟩ | ⟨q1, q2⟩
    · omega
    · refine ⟨?_, hown b q2⟩
      obtain ⟨c, l1, l2, -⟩ := hSR
      rw [q2] at l1
      cases l1
      omega
  have hapart : ∀ x b, x ≠ a → ownB r h x b → ¬ ownB r h a b := fun x b e q q' => e (p8 x a b q q')
  refine ⟨hX, fun x hx => ?_, fun x hx => ?_, fun x hx => ?_, fun x hx => ?_, fun x hx => ?_, fun x b q => ?_, fun x x' b q q' => ?_, ?_⟩
  · rw [eK'] at hx ⊢
    by_cases e : x = a
    · subst e; rw [hra]; exact p2 x hx
    · rw [(hk x hx e).1]; exact p2 x hx
  · rw [eK'] at hx
    have e : x ≠ a := fun e => by subst e; omega
    obtain ⟨k1, k2, k3, k4⟩ := hk x (by omega) e
    rw [k2, k3, k4, eN', eI', eP']
    exact p3 x hx
  · rw [eK'] at hx
    have e : x ≠ a := fun e => by subst e; omega
    obtain ⟨k1, k2, k3, k4⟩ := hk x (by omega) e
    rw [k3, k4, eB' x e, eL', eC' x e]
    exact p4 x hx
  · rw [eK'] at hx
    have e : x ≠ a := fun e => by subst e; omega
    obtain ⟨k1, k2, k3, k4⟩ := hk x (by omega) e
    refine (p5 x hx).kept (by rw [k3]) (by rw [k4]) (by rw [eL']) (eC' x e) eD' (fun z _ => by rw [eK']) (fun b hb1 hb2 => ?_)
    have q : ownB r h x b := Or.inl ⟨hx, hb1, hb2⟩
    have e' : b ≠ a := fun e2 => by have := (p7 x b q).1; rw [e2] at this; omega
    obtain ⟨m1, m2, m3, m4⟩ := hr b e' (p7 x b q).2 (hapart x b e q)
    exact ⟨m1, m2, m4⟩
  · by_cases e : x = a
    · subst e; exact hSR
    · rw [eK'] at hx
      obtain ⟨k1, k2, k3, k4⟩ := hk x (by omega) e
      refine (p6 x hx).kept k3 (by rw [k4]) (eB' x e) (eC' x e) (fun b hb2 => ?_)
      have q : ownB r h x b := Or.inr ⟨hx, hb2⟩
      have e' : b ≠ a := fun e2 => by have := (p7 x b q).1; rw [e2] at this; omega
      obtain ⟨m1, m2, m3, m4⟩ := hr b e' (p7 x b q).2 (hapart x b e q)
      exact ⟨m1, m2, m3⟩
  · rw [eK']
    by_cases e : x = a
    · subst e
      obtain ⟨q1, q2⟩ := hoa b q
      refine ⟨?_, q1⟩
      rcases q2 with q2 | q2
      · exact (p7 x b q2).1
      · by_cases e : pK h b = 0
        · exact e
        · rw [(p2 b e).1] at q2
          exact q2
    · have q0 := ho x b e q
      obtain ⟨q1, q2⟩ := p7 x b q0
      have e' : b ≠ a := fun e2 => by rw [e2] at q1; omega
      exact ⟨q1, by rw [(hr b e' q2 (hapart x b e q0)).1]; exact q2⟩
  · by_cases e : x = a
    · by_cases e' : x' = a
      · rw [e, e']
      · subst e
        have q0 := ho x' b e' q'
        rcases (hoa b q).2 with q2 | q2
        · exact p8 x x' b q2 q0
        · exact absurd q2 (p7 x' b q0).2
    · by_cases e' : x' = a
      · subst e'
        have q0 := ho x b e q
        rcases (hoa b q').2 with q2 | q2
        · exact p8 x x' b q0 q2
        · exact absurd q2 (p7 x b q0).2
      · exact p8 x x' b (ho x b e q) (ho x' b e' q')
  · rw [eD']
    obtain ⟨m1, m2, m3, m4⟩ := hr (pD h) hD.1 (by omega) hD.2
    exact ⟨m1.trans p9, m2.trans p10⟩
theorem isS_ne {k : Nat} (h : isS k) : k ≠ 0 := by omega
theorem jp_sLen {r h : HP} (hp : rep r h) {a : Nat} {y : Int} (e : sLen h a = some y) : f_J5_length r a = some y := by
  obtain ⟨hl, e⟩ := gd_inv e
  cases e
  obtain ⟨b, l1, l2, l3, l4, l5, -⟩ := hp.2.2.2.2.2.1 a hl
  have hk := hp.kind (isS_ne hl)
  unfold f_J5_length f_J4_length
  rw [gd_of (by rw [hk]; exact Or.inl hl), obind_some, gd_of (by rw [hk]; exact hl), l5]
theorem jp_sAt {r h : HP} (hp : rep r h) {a : Nat} {i y : Int} (e : sAt h a i = some y) : ∃ w, f_J5_charAt r a i = some w ∧ zI w = zI y := by
  obtain ⟨hl, e⟩ := gd_inv e
  obtain ⟨hi, e⟩ := gd_inv e
  cases e
  obtain ⟨b, l1, l2, l3, l4, l5, l6, l7, l8⟩ := hp.2.2.2.2.2.1 a hl
  have hk := hp.kind (isS_ne hl)
  obtain ⟨j, j1, j2, j3⟩ := zin_ex hi (by omega)
  obtain ⟨⟨v1, v2⟩, v3⟩ := l8 j j1
  have hsr : isSr (pK r a) := by rw [hk]; exact Or.inl hl
  have hz : zin i (pN r b) := ⟨hi.1, by rw [l3]; have := hi.2; omega⟩
  have hb := zbyte v1 v2
  have hmin : zmin ((pB h a).length : Int) (zshr (pN r b : Int) 0) = ((pB h a).length : Int) := by
    rw [l3, zshr_0 (by omega) (by omega), zmin_eq (by omega) (by omega) (by omega) (by omega), if_neg (by omega)]
  obtain ⟨h1, h2⟩ := zin_cmp hi (by omega)
  have hck : f_J6_checkIndex r i ((pB h a).length : Int) = some () := by
    unfold f_J6_checkIndex f_J12_checkIndex
    rw [if_neg h1, if_pos h2, obind_some]
  refine ⟨zi2c (zand (zi2b ((pB h a).getD j 0)) 255), ?_, by rw [j3]; exact hb⟩
  unfold f_J5_charAt f_J4_charAt
  rw [gd_of hsr, bnd_eq, gd_of hsr, bnd_eq, gd_of hsr, l1, obind_some, gd_of (by rw [l2]; exact Or.inl rfl), bnd_eq, l4, l5, hmin, hck, obind_some, if_pos rfl, gd_of l2, gd_of hz, j3, v3]
  have hC : zisC (zi2c (zand (zi2b ((pB h a).getD j 0)) 255)) := by
    unfold zisC
    rw [hb]
    omega
  rw [gd_of hC, obind_some, gd_of (by rw [hk]; exact hl)]
  first | rfl | (rw [gd_of hC])
theorem SR.of {r h r1 h1 : HP} {a b : Nat} {l : List Int} (e1 : pP r1 a 0 = some b) (e2 : pK r1 b = 51) (e3 : pN r1 b = pC h1 a) (e4 : pI r1 a 1 = 0) (e5 : pI r1 a 3 = (l.length : Int)) (e6 : l.length ≤ pC h1 a) (e7 : pC h1 a ≤ 7302250) (e8 : ∀ i, i < l.length → (0 ≤ (zI (l.getD i 0)).toInt ∧ (zI (l.getD i 0)).toInt < 256) ∧ pI r1 b i = zi2b (l.getD i 0)) (e9 : pB h1 a = l) : SR r1 h1 a := by
  subst e9
  exact ⟨b, e1, e2, e3, e4, e5, e6, e7, e8⟩
theorem jp_sSet {r h : HP} (hp : rep r h) {a : Nat} {n : Int} {y : HP} (e : sSet h a n = some y) : ∃ r', f_J5_setLength r a n = some r' ∧ rep r' y := by
  obtain ⟨⟨ha, hn⟩, e'⟩ := gd_inv e
  clear e
  subst hn
  cases e'
  have hSR := hp.2.2.2.2.2.1 a ha
  obtain ⟨b, l1, l2, l3, l4, l5, l6, l7, l8⟩ := hSR
  have hk := hp.kind (isS_ne ha)
  have hsr : isSr (pK r a) := by rw [hk]; exact Or.inl ha
  have ho : ownB r h a b := Or.inr ⟨ha, l1⟩
  have hne : b ≠ a := fun e => by have := (hp.2.2.2.2.2.2.1 a b ho).1; rw [e] at this; omega
  have hens : f_J4_ensureCapacityInternal r a 0 = some r := by
    unfold f_J4_ensureCapacityInternal
    rw [gd_of hsr, l1, obind_some, gd_of (by rw [l2]; exact Or.inl rfl), gd_of hsr, bnd_eq, l4, l3, zshr_0 (by omega) (by omega), if_neg (by rw [zlt (by omega) (by omega) (by omega) (by omega)]; omega)]
  have fin : ∀ r1 : HP, pK r1 = pK r → pN r1 = pN r → (∀ x, x ≠ a → pI r1 x = pI r x) → pI r1 a 1 = 0 → pP r1 = pP r → (pX r1 = pX r ∧ pS r1 = pS r ∧ pO r1 = pO r ∧ pD r1 = pD r ∧ pM r1 = pM r) → ∃ r', f_J4_setLength_76 r1 a 0 = some r' ∧ rep r' (wB h a []) := by
    intro r1 k1 k2 k3 k4 k5 k6
    refine ⟨wI r1 a 3 0, ?_, ?_⟩
    · unfold f_J4_setLength_76
      rw [gd_of (by rw [k1]; exact hsr), bnd_eq]
    · obtain ⟨x1, x2, x3, x4, x5⟩ := k6
      refine rep.sb hp ha ⟨x1.trans hp.1.1, x2.trans hp.1.2.1, x3.trans hp.1.2.2.1, x4.trans hp.1.2.2.2.1, x5.trans hp.1.2.2.2.2⟩ rfl rfl rfl rfl rfl rfl (fun x hx => by rw [pB_wB, if_neg hx]) (fun _ _ => rfl) (fun x h1 h2 h3 => ⟨by rw [pK_wI, k1], by rw [pN_wI, k2], ?_, by rw [pP_wI, k5]⟩) (by rw [pK_wI, k1]) ?_ (fun q hq => ?_)
      · funext q; rw [pI_wI, if_neg (fun q => h1 q.1)]; exact congrFun (k3 x h1) q
      · refine SR.of (r := r) (h := h) (b := b) (l := []) (by rw [pP_wI, k5]; exact l1) (by rw [pK_wI, k1]; exact l2) (by rw [pN_wI, k2]; exact l3) (by rw [pI_wI, if_neg (fun q => by cases q.2)]; exact k4) (by rw [pI_wI, if_pos ⟨rfl, rfl⟩]; rfl) (Nat.zero_le _) l7 (fun i hi => absurd hi (Nat.not_lt_zero i)) (by rw [pB_wB, if_pos rfl])
      · rw [pP_wI, k5, l1] at hq
        cases hq
        exact Or.inl ho
  have hrun : ∀ r', (if zI 0 < zI (pI r a 3) then gd (isSr (pK r a)) (bnd (wI r a 2 1) (fun h2 => f_J4_setLength_76 h2 a 0)) else f_J4_setLength_76 r a 0) = some r' → f_J5_setLength r a 0 = some r' := by
    intro r' hf
    unfold f_J5_setLength f_J4_setLength
    rw [if_neg (by decide), gd_of (by rw [hk]; exact ha), hens, obind_some, gd_of hsr, if_neg (by rw [l5, zlt (by omega) (by omega) (by omega) (by omega)]; omega), gd_of hsr, hf, obind_some, gd_of (by rw [hk]; exact ha)]
  by_cases hlt : zI 0 < zI (pI r a 3)
  · obtain ⟨r', f1, f2⟩ := fin (wI r a 2 1) rfl rfl (fun x hx => by funext q; rw [pI_wI, if_neg (fun q => hx q.1)]) (by rw [pI_wI, if_neg (fun q => by cases q.2)]; exact l4) rfl ⟨rfl, rfl, rfl, rfl, rfl⟩
    exact ⟨r', hrun r' (by rw [if_pos hlt, gd_of hsr, bnd_eq]; exact f1), f2⟩
  · obtain ⟨r', f1, f2⟩ := fin r rfl rfl (fun _ _ => rfl) l4 rfl ⟨rfl, rfl, rfl, rfl, rfl⟩
    exact ⟨r', hrun r' (by rw [if_neg hlt]; exact f1), f2⟩
theorem getD_snocI {l : List Int} {x : Int} {i : Nat} (h : i < l.length) : (l ++ [x]).getD i 0 = l.getD i 0 := by
  rw [List.getD_eq_getElem?_getD, List.getD_eq_getElem?_getD, List.getElem?_append_left h]
/-- a text's cell and backing array, ready for one more letter -/
def BS (r h r2 h2 : HP) (a b : Nat) : Prop :=
  (pX r2 = pX h2 ∧ pS r2 = pS h2 ∧ pO r2 = pO h2 ∧ pD r2 = pD h2 ∧ pM r2 = pM h2) ∧ (pD h2 = pD h ∧ pK h2 = pK h ∧ pN h2 = pN h ∧ pI h2 = pI h ∧ pP h2 = pP h ∧ pB h2 = pB h ∧ pL h2 = pL h) ∧ (∀ x, x ≠ a → pC h2 x = pC h x) ∧
  (∀ x, x ≠ a → pK r x ≠ 0 → ¬ ownB r h a x → pK r2 x = pK r x ∧ pN r2 x = pN r x ∧ pI r2 x = pI r x ∧ pP r2 x = pP r x) ∧ pK r2 a = pK r a ∧ pP r2 a 0 = some b ∧ pK r2 b = 51 ∧ pN r2 b = pC h2 a ∧ pC h2 a ≤ 7302250 ∧ (ownB r h a b ∨ pK r b = 0) ∧ pI r2 a = pI r a ∧ (∀ i, i < (pB h a).length → pI r2 b i = zi2b ((pB h a).getD i 0)) ∧ b ≠ a
theorem jp_ensure {r h : HP} (hp : rep r h) (hw : wfX r) {a : Nat} (ha : isS (pK h a)) (hok : sOk h a) : ∃ r2 b, f_J4_ensureCapacityInternal r a (((pB h a).length : Int) + 1) = some r2 ∧ BS r h r2 (sGrow h a) a b ∧ (pB h a).length < pC (sGrow h a) a := by
  have hSR := hp.2.2.2.2.2.1 a ha
  obtain ⟨b, l1, l2, l3, l4, l5, l6, l7, l8⟩ := hSR
  have hk := hp.kind (isS_ne ha)
  have hsr : isSr (pK r a) := by rw [hk]; exact Or.inl ha
  have ho : ownB r h a b := Or.inr ⟨ha, l1⟩
  have hne : b ≠ a := fun e => by have := (hp.2.2.2.2.2.2.1 a b ho).1; rw [e] at this; omega
  obtain ⟨x1, x2, x3, x4, x5⟩ := hp.1
  obtain ⟨ok1, ok2, ok3, ok4⟩ := hok
  have hens : ∀ o, (if zI 0 < zI (((pB h a).length : Int) + 1 - (pC h a : Int)) then gd (isSr (pK r a)) (gd (isS (pK r a)) (Option.bind (f_J4_newCapacity r a (((pB h a).length : Int) + 1)) (fun y3 => gd (isSr (pK r a)) (Option.bind (pP r a 0) (fun a4 => Option.bind (f_J10_copyOf_3 r a4 (zshl y3 (pI r a 1))) (fun y5 => gd (isSr (pK y5.1 a)) (bnd (wP y5.1 a 0 (some y5.2)) (fun h6 => some h6)))))))) else some r) = o → f_J4_ensureCapacityInternal r a (((pB h a).length : Int) + 1) = o := by
    intro o hf
    unfold f_J4_ensureCapacityInternal
    rw [gd_of hsr, l1, obind_some, gd_of (by rw [l2]; exact Or.inl rfl), gd_of hsr, bnd_eq, l3]
    rw [show zshr (pC h a : Int) (pI r a 1) = (pC h a : Int) by rw [l4]; exact zshr_0 (by omega) (by omega)]
    rw [← hf, l1]
  by_cases he : (pB h a).length = pC h a
  · have hgr : sGrow h a = wGr h a (2 * pC h a + 2) := by unfold sGrow; rw [if_pos he]
    generalize hC : pC h a = C at *
    have hna : a ≠ pX r := fun e => by have := hw a (by rw [hk]; exact isS_ne ha); omega
    have hbX : b ≠ pX r := fun e => by have := hw b (by rw [l2]; decide); omega
    have hK0 : pK r (pX r) = 0 := by
      by_cases e : pK r (pX r) = 0
      · exact e
      · have := hw _ e; omega
    have hnc : f_J4_newCapacity r a (((pB h a).length : Int) + 1) = some ((2 * C + 2 : Nat) : Int) := by
      unfold f_J4_newCapacity f_J8_newLength
      rw [gd_of hsr, l1, obind_some, gd_of (by rw [l2]; exact Or.inl rfl), bnd_eq, gd_of hsr, bnd_eq, bnd_eq, gd_of hsr, l3, l4, zshl_0 (by omega) (by omega), zshl_0 (by omega) (by omega), zmax_eq (by omega) (by omega) (by omega) (by omega), bnd_eq]
      have e : (C : Int) + (if ((pB h a).length : Int) + 1 - (C : Int) < (C : Int) + 2 then (C : Int) + 2 else ((pB h a).length : Int) + 1 - (C : Int)) = ((2 * C + 2 : Nat) : Int) := by
        split <;> omega
      rw [e, if_pos (by rw [zlt (by omega) (by omega) (by omega) (by omega)]; omega), if_neg (by rw [zlt (by omega) (by omega) (by omega) (by omega)]; omega), obind_some, if_neg (by rw [zeq (by omega) (by omega) (by omega) (by omega)]; omega), gd_of hsr, zshr_0 (by omega) (by omega)]
    have hix : zix ((2 * C + 2 : Nat) : Int) = 2 * C + 2 := zix_nat (by omega)
    have hmin : zmin (C : Int) ((2 * C + 2 : Nat) : Int) = (C : Int) := by
      rw [zmin_eq (by omega) (by omega) (by omega) (by omega), if_neg (by omega)]
    have e0 : zix 0 = 0 := by decide
    have eC : zix (C : Int) = C := zix_nat (by omega)
    have hcopy : f_J10_copyOf_3 r b ((2 * C + 2 : Nat) : Int) = some (wCI (wNew r 51 (2 * C + 2)) b 0 (pX r) 0 (C : Int), pX r) := by
      unfold f_J10_copyOf_3
      have hcp : cpOKY (wNew r 51 (2 * C + 2)) b 0 (pX r) 0 (C : Int) := by
        refine ⟨⟨?_, ?_⟩, by decide, by decide, by rw [zti (by omega) (by omega)]; omega, ?_, ?_⟩
        · rw [pK_wNew, if_neg hbX]; exact l2
        · rw [pK_wNew, if_pos rfl]
        · rw [pN_wNew, if_neg hbX, l3, zti (by omega) (by omega), zti (by omega) (by omega)]; omega
        · rw [pN_wNew, if_pos rfl, zti (by omega) (by omega), zti (by omega) (by omega)]; omega
      have hrm : rmA r ((2 * C + 2 : Nat) : Int) := ⟨by rw [zti (by omega) (by omega)]; omega, by rw [hix]; omega, by rw [x1, x3]; exact ok2, by rw [hix, x2]; omega⟩
      rw [gd_of (by rw [l2]; exact Or.inl rfl), l3, if_neg (by rw [zeq (by omega) (by omega) (by omega) (by omega)]; omega), bnd_eq, gd_of hrm, bnd_eq, hix, gd_of (by rw [pK_wNew, if_neg hbX, l2]; exact Or.inl rfl)]
      simp only [pN_wNew, hbX, if_false, l3, hmin]
      rw [gd_of hcp, bnd_eq]
    refine ⟨wP (wCI (wNew r 51 (2 * C + 2)) b 0 (pX r) 0 (C : Int)) a 0 (some (pX r)), pX r, ?_, ?_, ?_⟩
    · apply hens
      rw [if_pos (by rw [zlt (by omega) (by omega) (by omega) (by omega)]; omega), gd_of hsr, gd_of (by rw [hk]; exact ha), hnc, obind_some, gd_of hsr, l1, obind_some, l4, zshl_0 (by omega) (by omega), hcopy, obind_some]
      rw [gd_of (by show isSr (pK (wCI (wNew r 51 (2 * C + 2)) b 0 (pX r) 0 (C : Int)) a); rw [pK_wCI, pK_wNew, if_neg hna]; exact hsr)]
      rfl
    · rw [hgr]
      refine ⟨?_, ⟨rfl, rfl, rfl, rfl, rfl, rfl, rfl⟩, fun x hx => by rw [pC_wGr, if_neg hx], fun x h1 h2 h3 => ?_, ?_, ?_, ?_, ?_, ?_, Or.inr hK0, ?_, fun i hi => ?_, Ne.symm hna⟩
      · refine ⟨?_, ?_, x3, x4, x5⟩
        · show pX r + 1 = pX h + 1
          omega
        · show pS r + (2 * C + 2) = pS h + (2 * C + 2)
          omega
      · have e : x ≠ pX r := fun e => h2 (by rw [e]; exact hK0)
        refine ⟨?_, ?_, ?_, ?_⟩
        · rw [pK_wP, pK_wCI, pK_wNew, if_neg e]
        · rw [pN_wP, pN_wCI, pN_wNew, if_neg e]
        · funext j; rw [pI_wP, pI_wCI, if_neg e, pI_wNew, if_neg e]
        · funext j; rw [pP_wP, if_neg (fun q => h1 q.1), pP_wCI, pP_wNew, if_neg e]
      · rw [pK_wP, pK_wCI, pK_wNew, if_neg hna]
      · rw [pP_wP, if_pos ⟨rfl, rfl⟩]
      · rw [pK_wP, pK_wCI, pK_wNew, if_pos rfl]
      · rw [pN_wP, pN_wCI, pN_wNew, if_pos rfl, pC_wGr, if_pos rfl]
      · rw [pC_wGr, if_pos rfl]; omega
      · funext j; rw [pI_wP, pI_wCI, if_neg hna, pI_wNew, if_neg hna]
      · rw [pI_wP, pI_wCI, if_pos rfl, e0, eC, pk_cpy_in (by omega) (by omega), pI_wNew, if_neg hbX, show 0 + (i - 0) = i by omega]
        exact (l8 i hi).2
    · rw [hgr, pC_wGr, if_pos rfl]; omega
  · have hgr : sGrow h a = h := by unfold sGrow; rw [if_neg he]
    rw [hgr]
    refine ⟨r, b, ?_, ⟨hp.1, ⟨rfl, rfl, rfl, rfl, rfl, rfl, rfl⟩, fun _ _ => rfl, fun _ _ _ _ => ⟨rfl, rfl, rfl, rfl⟩, rfl, l1, l2, l3, l7, Or.inl ho, rfl, fun i hi => (l8 i hi).2, hne⟩, by omega⟩
    apply hens
    rw [if_neg (by rw [zlt (by omega) (by omega) (by omega) (by omega)]; omega)]
theorem jp_sApp {r h : HP} (hp : rep r h) (hw : wfX r) {a : Nat} {c : Int} {y : HP} (e : sApp h a c = some y) : ∃ r', f_J5_append r a c = some (r', a) ∧ rep r' y := by
  obtain ⟨⟨ha, hc, hok⟩, e⟩ := gd_inv e
  cases e
  obtain ⟨r2, b, f1, B, hlt⟩ := jp_ensure hp hw ha hok
  have hk := hp.kind (isS_ne ha)
  have hsr : isSr (pK r a) := by rw [hk]; exact Or.inl ha
  obtain ⟨b0, l1, l2, l3, l4, l5, l6, l7, l8⟩ := hp.2.2.2.2.2.1 a ha
  have hlen := hok.1
  obtain ⟨c1, ⟨d1, d2, d3, d4, d5, d6, d7⟩, c3, c4, c5, c6, c7, c8, c9, c10, c11, c12, c13⟩ := B
  have hsr2 : isSr (pK r2 a) := by rw [c5]; exact hsr
  have hI3 : pI r2 a 3 = ((pB h a).length : Int) := by rw [c11]; exact l5
  have hI1 : pI r2 a 1 = 0 := by rw [c11]; exact l4
  have hlat : f_J4_isLatin1 r2 a = some 1 := by
    unfold f_J4_isLatin1
    rw [if_neg (by decide), gd_of hsr2, hI1, if_pos rfl]
  have hce : f_J13_canEncode_2 c = some 1 := by
    unfold f_J13_canEncode_2
    rw [if_neg (fun q => by have := Int32.lt_iff_toInt_lt.mp q; rw [zti (a := 255) (by decide) (by decide)] at this; omega)]
  have hix : zix ((pB h a).length : Int) = (pB h a).length := zix_nat (by omega)
  have hC2 : pC (sGrow h a) a ≤ 7302250 := c9
  refine ⟨wI (wI r2 a 3 (((pB h a).length : Int) + 1)) b (pB h a).length (zi2b c), ?_, ?_⟩
  · unfold f_J5_append f_J4_append
    rw [gd_of hsr, gd_of (by rw [hk]; exact ha), l5, f1, obind_some, gd_of (by rw [c5, hk]; exact ha), hlat, obind_some, if_neg (by decide), hce, obind_some, if_neg (by decide), gd_of hsr2, gd_of hsr2, bnd_eq, gd_of hsr2, bnd_eq, c6, obind_some, hI3, gd_of (by rw [pK_wI]; exact c7), gd_of (by rw [pN_wI, c8, zin_iff (by omega) (by omega)]; omega), bnd_eq, hix, zi2b_2, obind_some, gd_of (by rw [hk]; exact ha)]
  · refine rep.sb hp ha c1 d1 d2 d3 d4 d5 d7 (fun x hx => by rw [pB_wB, if_neg hx, d6]) c3 (fun x h1 h2 h3 => ?_) (by rw [pK_wI, pK_wI]; exact c5) ?_ (fun q hq => ?_)
    · obtain ⟨m1, m2, m3, m4⟩ := c4 x h1 h2 h3
      have hxb : x ≠ b := fun e => by
        subst e
        rcases c10 with q | q
        · exact h3 q
        · exact h2 q
      refine ⟨m1, m2, ?_, m4⟩
      funext q
      rw [pI_wI, if_neg (fun q => hxb q.1), pI_wI, if_neg (fun q => h1 q.1)]
      exact congrFun m3 q
    · refine SR.of (r := r) (h := h) (b := b) (l := pB h a ++ [c]) c6 c7 c8 ?_ ?_ ?_ c9 (fun i hi => ?_) (by rw [pB_wB, if_pos rfl])
      · rw [pI_wI, if_neg (fun q => c13 q.1.symm), pI_wI, if_neg (fun q => by cases q.2)]; exact hI1
      · rw [pI_wI, if_neg (fun q => c13 q.1.symm), pI_wI, if_pos ⟨rfl, rfl⟩, List.length_append]; rfl
      · rw [List.length_append]; exact hlt
      · rw [List.length_append] at hi
        have hi : i < (pB h a).length + 1 := hi
        by_cases e : i = (pB h a).length
        · rw [pI_wI, if_pos ⟨rfl, e⟩]
          have e2 : (pB h a ++ [c]).getD i 0 = c := by rw [e]; simp
          rw [e2]
          exact ⟨hc, rfl⟩
        · have hi' : i < (pB h a).length := Nat.lt_of_le_of_ne (Nat.le_of_lt_succ hi) e
          rw [pI_wI, if_neg (fun q => e q.2), pI_wI, if_neg (fun q => c13 q.1), getD_snocI hi']
          exact ⟨(l8 i hi').1, c12 i hi'⟩
    · have hq : pP r2 a 0 = some q := hq
      rw [c6] at hq
      cases hq
      exact c10
