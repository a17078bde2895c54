/-! the reference: end tags, characters -/
set_option maxRecDepth 100000
theorem last_split (f : Nat → Bool) : ∀ l : List Nat, (∀ x ∈ l, f x = false) ∨ ∃ Z1 z Z2, l = Z1 ++ z :: Z2 ∧ f z = true ∧ ∀ x ∈ Z2, f x = false
  | [] => Or.inl (fun _ h => by cases h)
  | a :: l => by
    rcases last_split f l with h | ⟨Z1, z, Z2, e, h1, h2⟩
    · cases hf : f a with
      | true => exact Or.inr ⟨[], a, l, rfl, hf, h⟩
      | false =>
        left
        intro x hx
        rcases List.mem_cons.mp hx with q | q
        · rw [q]; exact hf
        · exact h x q
    · exact Or.inr ⟨a :: Z1, z, Z2, by rw [e]; rfl, h1, h2⟩
section MT
variable {M : MS} {T : TS}
/-- what stands before a place: its last node in the parent, by going back over deeper ones -/
theorem prev_scan (hW : WF T) {q : Nat × Nat × Nat} (hq : Place T q) : ∃ k, k < q.1 ∧ (∀ j, k < j → j < q.1 → q.2.1 < tD T ((tO T).getD j 0)) ∧ tD T ((tO T).getD k 0) ≤ q.2.1 ∧ prevSib T q = if tD T ((tO T).getD k 0) = q.2.1 then some ((tO T).getD k 0) else none := by
  obtain ⟨A, C, e1, e2, e3, e4, e5, e6⟩ := hq
  have hwo := hW.1.2.2.2.2.1
  have hnO : tN T ∉ tO T := fun z => by have := hW.1.2.2.2.1 _ z; omega
  obtain ⟨A1, A2, a1, a2, a3⟩ := (e6 (tN T) hnO).2.2.2 A (tN T) C rfl e3
  rw [va_up_s] at a1 a2 a3
  have hwn : q.2.2 ≠ tN T := fun z => hnO (z ▸ e4)
  rw [va_up_s, va_up_n _ _ _ _ hwn] at a2
  have a3' : ∀ x ∈ A2, q.2.1 ≤ tD T x := fun x hx => by
    have h1 := a3 x hx
    have hxn : x ≠ tN T := fun z => hnO (by rw [e1, a1, ← z]; simp [hx])
    rw [va_up_n _ _ _ _ hxn] at h1
    exact h1
  have hnd : (A1 ++ q.2.2 :: (A2 ++ C)).Nodup := by
    have := hwo.1
    rw [e1, a1] at this
    simpa using this
  have hO : tO T = A1 ++ q.2.2 :: (A2 ++ C) := by rw [e1, a1]; simp
  have hlen : q.1 = A1.length + 1 + A2.length := by rw [← e2, a1]; simp; omega
  have hps : prevSib T q = (A.filter (fun i => decide (i ≠ 0) && decide (tP T i = q.2.2))).getLast? := by
    unfold prevSib
    rw [e1, ← e2]
    simp
  -- the parent's own depth
  have hkid : ∀ x, x ∈ tO T → x ≠ 0 → tP T x = q.2.2 → tD T x = q.2.1 := fun x hx h0 hp => by
    have := (hwo.dpos hx h0).2.2
    rw [hp] at this
    omega
  -- nothing up to the parent is a child of it
  have hlow : ∀ x ∈ A1 ++ [q.2.2], (decide (x ≠ 0) && decide (tP T x = q.2.2)) = false := fun x hx => by
    by_cases h0 : x = 0
    · simp [h0]
    · have hp : tP T x ≠ q.2.2 := fun hp => by
        obtain ⟨B1, B2, b⟩ := List.append_of_mem hx
        have hB : B1 ≠ [] := fun z => by
          obtain ⟨r, hr⟩ := hwo.2.1
          rw [hO] at hr
          have h9 : A1 ++ q.2.2 :: (A2 ++ C) = (A1 ++ [q.2.2]) ++ (A2 ++ C) := by simp
          rw [h9, b, z] at hr
          cases hr
          exact h0 rfl
        obtain ⟨D1, D2, d1, -⟩ := hwo.2.2.2 B1 x (B2 ++ (A2 ++ C)) (by
          rw [hO]
          have h9 : A1 ++ q.2.2 :: (A2 ++ C) = (A1 ++ [q.2.2]) ++ (A2 ++ C) := by simp
          rw [h9, b]; simp) hB
        rw [hp] at d1
        -- the parent stands in B1, a part of A1
        have hin : q.2.2 ∈ A1 := by
          rcases List.eq_nil_or_concat B2 with z | ⟨B3, y, z⟩
          · rw [z] at b
            have := List.append_inj_left' b rfl
            rw [this, d1]; simp
          · rw [z] at b
            have h8 : A1 ++ [q.2.2] = (B1 ++ x :: B3) ++ [y] := by rw [b]; simp
            have := List.append_inj_left' h8 rfl
            rw [this, d1]; simp
        exact (nodup_mid hnd).1 hin
      simp [hp]
  have hfl : A.filter (fun i => decide (i ≠ 0) && decide (tP T i = q.2.2)) = A2.filter (fun i => decide (i ≠ 0) && decide (tP T i = q.2.2)) := by
    have h9 : A = (A1 ++ [q.2.2]) ++ A2 := by rw [a1]; simp
    rw [h9, List.filter_append]
    have : (A1 ++ [q.2.2]).filter (fun i => decide (i ≠ 0) && decide (tP T i = q.2.2)) = [] := List.filter_eq_nil_iff.mpr (fun x hx => by rw [hlow x hx]; simp)
    rw [this, List.nil_append]
  have hat : ∀ j, j < A2.length → (tO T).getD (A1.length + 1 + j) 0 = A2.getD j 0 := fun j hj => by
    have h9 : tO T = (A1 ++ [q.2.2]) ++ (A2 ++ C) := by rw [hO]; simp
    rw [h9]
    simp only [List.getD, List.getElem?_append, List.length_append, List.length_singleton]
    rw [if_neg (by omega), show A1.length + 1 + j - (A1.length + 1) = j by omega, if_pos hj]
  rcases last_split (fun x => decide (tD T x ≤ q.2.1)) A2 with h | ⟨Z1, z, Z2, h1, h2, h3⟩
  · -- all deeper: the parent is found
    have hk : (tO T).getD A1.length 0 = q.2.2 := by rw [hO]; simp
    refine ⟨A1.length, by omega, fun j j1 j2 => ?_, by rw [hk]; omega, ?_⟩
    · have hj := hat (j - (A1.length + 1)) (by omega)
      rw [show A1.length + 1 + (j - (A1.length + 1)) = j by omega] at hj
      rw [hj]
      have := h (A2.getD (j - (A1.length + 1)) 0) (by rw [gD (by omega)]; exact List.getElem_mem _)
      simpa using this
    · rw [hk, if_neg (by omega), hps, hfl]
      have : A2.filter (fun i => decide (i ≠ 0) && decide (tP T i = q.2.2)) = [] := List.filter_eq_nil_iff.mpr (fun x hx => by
        intro hc
        simp only [Bool.and_eq_true, decide_eq_true_eq] at hc
        have hd := hkid x (by rw [hO]; simp [hx]) hc.1 hc.2
        have := h x hx
        simp [hd] at this)
      rw [this]; rfl
  · have hzA : z ∈ A2 := by rw [h1]; simp
    have hzd : tD T z = q.2.1 := by
      have b1 := a3' z hzA
      have b2 : tD T z ≤ q.2.1 := by simpa using h2
      omega
    have hz2 : ∀ x ∈ Z2, q.2.1 < tD T x := fun x hx => by simpa using h3 x hx
    have hz0 : z ≠ 0 := fun q0 => by rw [q0, hwo.2.2.1] at hzd; omega
    have hk : (tO T).getD (A1.length + 1 + Z1.length) 0 = z := by rw [hat _ (by rw [h1]; simp), h1]; simp
    have hpz : tP T z = q.2.2 := by
      obtain ⟨D1, D2, d1, d2, d3⟩ := hwo.2.2.2 (A1 ++ q.2.2 :: Z1) z (Z2 ++ C) (by rw [hO, h1]; simp) (by simp)
      rcases split2 d1 with ⟨Y, y1, y2⟩ | ⟨y1, y2, y3⟩ | ⟨Y, y1, y2⟩
      · have := d3 q.2.2 (by rw [y2]; simp)
        omega
      · exact y2.symm
      · have := a3' (tP T z) (by rw [h1, y2]; simp)
        omega
    have hlA2 : A2.length = Z1.length + 1 + Z2.length := by rw [h1]; simp; omega
    refine ⟨A1.length + 1 + Z1.length, by omega, fun j j1 j2 => ?_, by rw [hk]; omega, ?_⟩
    · have hj := hat (j - (A1.length + 1)) (by omega)
      rw [show A1.length + 1 + (j - (A1.length + 1)) = j by omega] at hj
      rw [hj]
      refine hz2 _ ?_
      have h9 : A2 = (Z1 ++ [z]) ++ Z2 := by rw [h1]; simp
      rw [h9]
      simp only [List.getD, List.getElem?_append, List.length_append, List.length_singleton]
      rw [if_neg (by omega), List.getElem?_eq_getElem (by omega)]
      exact List.getElem_mem _
    · rw [hk, if_pos hzd, hps, hfl, h1, List.filter_append, List.filter_cons, if_pos (by simp [hz0, hpz])]
      have : Z2.filter (fun i => decide (i ≠ 0) && decide (tP T i = q.2.2)) = [] := List.filter_eq_nil_iff.mpr (fun x hx => by
        intro hc
        simp only [Bool.and_eq_true, decide_eq_true_eq] at hc
        have hd := hkid x (by rw [hO, h1]; simp [hx]) hc.1 hc.2
        have := hz2 x hx
        omega)
      rw [this]
      simp
theorem m_addC_eq (hR : RepM M T) (hk : tK T < 160) {i : Nat} (hi : i < tN T) (c : Int) : ∃ M', m_character_119 M c (i : Int) = some M' ∧ FM M M' ∧ RepM M' (addC T i c) := by
  obtain ⟨h4, h5, h7, h13, h6, h8, h9, h10, h12, ⟨E, e1, e2⟩, ⟨C, c1, c2, c3, c4, c5⟩⟩ := hR
  refine ⟨sI (sA (sA M 18 C.length c) 19 C.length (i : Int)) 17 ((C.length : Int) + 1), ?_, (((FM.refl M).sA (by simp) _ _).sA (by simp) _ _).sI (by simp) _, ?_⟩
  · unfold m_character_119
    simp (disch := omega) only [if_ltp, if_ltn, if_eqp, if_eqn, if_T, if_F, gd_zin, gd_isB0, gd_isB1, zix_toNat, Int.toNat_natCast, tn_a1, tn_a, tn_s1, tn_s, tn_m1, tn_l0, tn_l1, bnd_eq, obind_some, mr_some, sI_s, sI_n, sI_2, sA_1, sA_s, sA_i, sA_n, h4, c1]
  · refine ⟨?_, ?_, ?_, ?_, ?_, ?_, ?_, ?_, ?_, ⟨E, ?_, ?_⟩, ⟨C ++ [(c, i)], ?_, ?_, fun k hk => ?_, fun e he => ?_, fun j => ?_⟩⟩
    · simp (disch := omega) only [if_ltp, if_ltn, if_eqp, if_eqn, if_T, if_F, gd_zin, gd_isB0, gd_isB1, zix_toNat, Int.toNat_natCast, tn_a1, tn_a, tn_s1, tn_s, tn_m1, tn_l0, tn_l1, bnd_eq, obind_some, mr_some, sI_s, sI_n, sI_2, sA_1, sA_s, sA_i, sA_n]; exact h4
    · simp (disch := omega) only [if_ltp, if_ltn, if_eqp, if_eqn, if_T, if_F, gd_zin, gd_isB0, gd_isB1, zix_toNat, Int.toNat_natCast, tn_a1, tn_a, tn_s1, tn_s, tn_m1, tn_l0, tn_l1, bnd_eq, obind_some, mr_some, sI_s, sI_n, sI_2, sA_1, sA_s, sA_i, sA_n]; exact h5
    · simp (disch := omega) only [if_ltp, if_ltn, if_eqp, if_eqn, if_T, if_F, gd_zin, gd_isB0, gd_isB1, zix_toNat, Int.toNat_natCast, tn_a1, tn_a, tn_s1, tn_s, tn_m1, tn_l0, tn_l1, bnd_eq, obind_some, mr_some, sI_s, sI_n, sI_2, sA_1, sA_s, sA_i, sA_n]; exact h7
    · simp (disch := omega) only [if_ltp, if_ltn, if_eqp, if_eqn, if_T, if_F, gd_zin, gd_isB0, gd_isB1, zix_toNat, Int.toNat_natCast, tn_a1, tn_a, tn_s1, tn_s, tn_m1, tn_l0, tn_l1, bnd_eq, obind_some, mr_some, sI_s, sI_n, sI_2, sA_1, sA_s, sA_i, sA_n]; exact h13
    · simp (disch := omega) only [if_ltp, if_ltn, if_eqp, if_eqn, if_T, if_F, gd_zin, gd_isB0, gd_isB1, zix_toNat, Int.toNat_natCast, tn_a1, tn_a, tn_s1, tn_s, tn_m1, tn_l0, tn_l1, bnd_eq, obind_some, mr_some, sI_s, sI_n, sI_2, sA_1, sA_s, sA_i, sA_n]; exact h6
    · simp (disch := omega) only [if_ltp, if_ltn, if_eqp, if_eqn, if_T, if_F, gd_zin, gd_isB0, gd_isB1, zix_toNat, Int.toNat_natCast, tn_a1, tn_a, tn_s1, tn_s, tn_m1, tn_l0, tn_l1, bnd_eq, obind_some, mr_some, sI_s, sI_n, sI_2, sA_1, sA_s, sA_i, sA_n]; exact h8
    · simp (disch := omega) only [if_ltp, if_ltn, if_eqp, if_eqn, if_T, if_F, gd_zin, gd_isB0, gd_isB1, zix_toNat, Int.toNat_natCast, tn_a1, tn_a, tn_s1, tn_s, tn_m1, tn_l0, tn_l1, bnd_eq, obind_some, mr_some, sI_s, sI_n, sI_2, sA_1, sA_s, sA_i, sA_n]; exact h9
    · simp (disch := omega) only [if_ltp, if_ltn, if_eqp, if_eqn, if_T, if_F, gd_zin, gd_isB0, gd_isB1, zix_toNat, Int.toNat_natCast, tn_a1, tn_a, tn_s1, tn_s, tn_m1, tn_l0, tn_l1, bnd_eq, obind_some, mr_some, sI_s, sI_n, sI_2, sA_1, sA_s, sA_i, sA_n]; exact h10
    · simp (disch := omega) only [if_ltp, if_ltn, if_eqp, if_eqn, if_T, if_F, gd_zin, gd_isB0, gd_isB1, zix_toNat, Int.toNat_natCast, tn_a1, tn_a, tn_s1, tn_s, tn_m1, tn_l0, tn_l1, bnd_eq, obind_some, mr_some, sI_s, sI_n, sI_2, sA_1, sA_s, sA_i, sA_n]; exact h12
    · simp (disch := omega) only [if_ltp, if_ltn, if_eqp, if_eqn, if_T, if_F, gd_zin, gd_isB0, gd_isB1, zix_toNat, Int.toNat_natCast, tn_a1, tn_a, tn_s1, tn_s, tn_m1, tn_l0, tn_l1, bnd_eq, obind_some, mr_some, sI_s, sI_n, sI_2, sA_1, sA_s, sA_i, sA_n]; exact e1
    · simp (disch := omega) only [if_ltp, if_ltn, if_eqp, if_eqn, if_T, if_F, gd_zin, gd_isB0, gd_isB1, zix_toNat, Int.toNat_natCast, tn_a1, tn_a, tn_s1, tn_s, tn_m1, tn_l0, tn_l1, bnd_eq, obind_some, mr_some, sI_s, sI_n, sI_2, sA_1, sA_s, sA_i, sA_n]; exact e2
    · rw [sI_s, List.length_append]; simp
    · rw [tK_addC, List.length_append, c2]; rfl
    · rw [List.length_append] at hk
      rw [sI_2]
      by_cases z : k = C.length
      · rw [z, sA_n _ _ _ _ _ _ (by omega), sA_s, sA_s]
        simp
      · have hk2 : k < C.length := by simp at hk; omega
        rw [sA_n _ _ _ _ _ _ (by omega), sA_i _ _ _ _ _ z, sA_i _ _ _ _ _ z, sA_n _ _ _ _ _ _ (by omega)]
        have : (C ++ [(c, i)]).getD k (0, 0) = C.getD k (0, 0) := by simp [List.getD, List.getElem?_append, hk2]
        rw [this]
        exact c3 k hk2
    · rcases List.mem_append.mp he with z | z
      · exact c4 e z
      · simp at z
        rw [z]; exact hi
    · rw [List.filter_append, List.map_append, c5, tX_addC]
      by_cases z : j = i
      · rw [z, va_up_s]; simp
      · rw [va_up_n _ _ _ _ z]
        simp [Ne.symm z]
theorem tK_renewF : ∀ (d o k : Nat) (T T' : TS), renewF o d k T = some T' → tK T' = tK T := by
  intro d
  induction d with
  | zero => intro o k T T' h; cases h; rfl
  | succ d ih =>
    intro o k T T' h
    unfold renewF at h
    split at h
    · by_cases hn : tN T = 24
      · rw [mkN_none hn] at h; cases h
      · rw [mkN_some hn] at h
        have := ih _ _ _ _ h
        rw [this]; rfl
    · cases h; rfl
theorem tK_renew {T' : TS} (h : tRenew T = some T') : tK T' = tK T := tK_renewF _ _ _ _ _ h
theorem m_character_eq (hR : RepM M T) (hW : WF T) (hK : tK T < 160) {c : Int} (hc : nmOK c) : ∃ M', m_character M c = some M' ∧ OutM M (tChar c T) M' := by
  have hWb := hW.b
  have hw1 := hW.1.2.1
  have hlS := hWb.2.2.2.2.1
  have hlen := hW.len
  have hc' := hc
  unfold nmOK at hc'
  have htop := (hW.top hlen (Nat.le_refl _)).2.1
  have h12 := hR.2.2.2.2.2.2.2.2.1 ((tS T).length - 1) (by omega)
  have h13 := hR.2.2.2.1
  -- from renewing on
  have hgo : ∃ M', m_character_27 M c = some M' ∧ OutM M (match tRenew T with
      | none => none
      | some T1 => (match prevSib T1 (plc T1 (tS T1).length) with
        | some i => if tM T1 i = 1 then some (addC T1 i c) else (match mkN T1 1 0 (plc T1 (tS T1).length) with
          | none => none
          | some T2 => some (addC T2 (tN T1) c))
        | none => (match mkN T1 1 0 (plc T1 (tS T1).length) with
          | none => none
          | some T2 => some (addC T2 (tN T1) c)))) M' := by
    obtain ⟨M1, a1, a2, a3⟩ := m_renew_eq hR hW
    unfold m_character_27
    rw [a1, obind_some]
    cases hr : tRenew T with
    | none =>
      rw [hr] at a3
      have h4 : M1.1 4 = 1 := a3
      refine ⟨M1, ?_, a2, h4⟩
      simp (disch := omega) only [if_ltp, if_ltn, if_eqp, if_eqn, if_T, if_F, gd_zin, gd_isB0, gd_isB1, zix_toNat, Int.toNat_natCast, tn_a1, tn_a, tn_s1, tn_s, tn_m1, tn_l0, tn_l1, bnd_eq, obind_some, mr_some, sI_s, sI_n, sI_2, sA_1, sA_s, sA_i, sA_n, h4]
    | some T1 =>
      rw [hr] at a3
      have hR1 : RepM M1 T1 := a3
      have hW1 := hW.renew hr
      have hK1 : tK T1 < 160 := by rw [tK_renew hr]; exact hK
      have h4 : M1.1 4 = 0 := hR1.1
      have hw11 := hW1.1.2.1
      have hpl := (hW1.place hW1.len (Nat.le_refl _)).1
      have hple := plc_le hW1.b hW1.len (Nat.le_refl _)
      rw [if_eqp h4, m_findPlace_st hR1 hW1, obind_some, bnd_eq]
      simp only []
      obtain ⟨k, s1, s2, s3, s4⟩ := prev_scan hW1 hpl
      have hOl := hW1.1.2.2.1
      have hRp := hR1.place ((plc T1 (tS T1).length).1 : Nat) ((plc T1 (tS T1).length).2.1 : Nat)
      have hfmp : FM M (sI (sI M1 20 ((plc T1 (tS T1).length).1 : Nat)) 21 ((plc T1 (tS T1).length).2.1 : Nat)) := (a2.sI (by simp) _).sI (by simp) _
      have hg20 : (sI (sI M1 20 ((plc T1 (tS T1).length).1 : Nat)) 21 ((plc T1 (tS T1).length).2.1 : Nat)).1 20 = ((plc T1 (tS T1).length).1 : Int) := by simp (disch := omega) only [if_ltp, if_ltn, if_eqp, if_eqn, if_T, if_F, gd_zin, gd_isB0, gd_isB1, zix_toNat, Int.toNat_natCast, tn_a1, tn_a, tn_s1, tn_s, tn_m1, tn_l0, tn_l1, bnd_eq, obind_some, mr_some, sI_s, sI_n, sI_2, sA_1, sA_s, sA_i, sA_n]
      have hg21 : (sI (sI M1 20 ((plc T1 (tS T1).length).1 : Nat)) 21 ((plc T1 (tS T1).length).2.1 : Nat)).1 21 = ((plc T1 (tS T1).length).2.1 : Int) := by simp (disch := omega) only [if_ltp, if_ltn, if_eqp, if_eqn, if_T, if_F, gd_zin, gd_isB0, gd_isB1, zix_toNat, Int.toNat_natCast, tn_a1, tn_a, tn_s1, tn_s, tn_m1, tn_l0, tn_l1, bnd_eq, obind_some, mr_some, sI_s, sI_n, sI_2, sA_1, sA_s, sA_i, sA_n]
      generalize hMp : sI (sI M1 20 ((plc T1 (tS T1).length).1 : Nat)) 21 ((plc T1 (tS T1).length).2.1 : Nat) = Mp at *
      have h6 := hRp.2.2.2.2.1
      have h8 := hRp.2.2.2.2.2.1
      have h10 := hRp.2.2.2.2.2.2.2.1
      generalize hq : plc T1 (tS T1).length = q at *
      have hkl : k < (tO T1).length := by omega
      have hkn := getD_lt hW1.1.2.2.2.1 hkl
      have hscan : m_character_54 Mp c ((q.1 : Int) - 1) = m_character_82 Mp c (k : Int) := by
        refine loopU (fun j => (((q.1 - 1 - j : Nat) : Nat) : Int)) 0 (q.1 - 1 - k) (by show _ = ((q.1 - 1 - 0 : Nat) : Int); omega) (Nat.zero_le _) (fun j j1 j2 => ?_) ?_
        · have hd := s2 (q.1 - 1 - j) (by omega) (by omega)
          have hjn := getD_lt hW1.1.2.2.2.1 (show q.1 - 1 - j < (tO T1).length by omega)
          have hdn := hW1.b.2.2.2.2.2.2.2.1 _ hjn
          simp only [m_character_54s]
          simp (disch := omega) only [if_ltp, if_ltn, if_eqp, if_eqn, if_T, if_F, gd_zin, gd_isB0, gd_isB1, zix_toNat, Int.toNat_natCast, tn_a1, tn_a, tn_s1, tn_s, tn_m1, tn_l0, tn_l1, bnd_eq, obind_some, mr_some, sI_s, sI_n, sI_2, sA_1, sA_s, sA_i, sA_n, h6, h10, hg21]
          congr 3
          omega
        · rw [show q.1 - 1 - (q.1 - 1 - k) = k by omega]
          have hdn := hW1.b.2.2.2.2.2.2.2.1 _ hkn
          simp only [m_character_54s]
          by_cases hk0 : k = 0
          · subst hk0
            simp (disch := omega) only [if_ltp, if_ltn, if_eqp, if_eqn, if_T, if_F, gd_zin, gd_isB0, gd_isB1, zix_toNat, Int.toNat_natCast, tn_a1, tn_a, tn_s1, tn_s, tn_m1, tn_l0, tn_l1, bnd_eq, obind_some, mr_some, sI_s, sI_n, sI_2, sA_1, sA_s, sA_i, sA_n]
          · simp (disch := omega) only [if_ltp, if_ltn, if_eqp, if_eqn, if_T, if_F, gd_zin, gd_isB0, gd_isB1, zix_toNat, Int.toNat_natCast, tn_a1, tn_a, tn_s1, tn_s, tn_m1, tn_l0, tn_l1, bnd_eq, obind_some, mr_some, sI_s, sI_n, sI_2, sA_1, sA_s, sA_i, sA_n, h6, h10, hg21]
      rw [hg20, hscan]
      have hnew : (∃ M', m_character_112 Mp c = some M' ∧ OutM M (match mkN T1 1 0 q with
          | none => none
          | some T2 => some (addC T2 (tN T1) c)) M') := by
        unfold m_character_112
        by_cases hn : tN T1 = 24
        · rw [mkN_none hn, m_create_none hRp _ _ hn, obind_some]
          refine ⟨sI Mp 4 1, ?_, hfmp.sI (by simp) _, sI_s _ _ _⟩
          unfold m_character_119
          simp (disch := omega) only [if_ltp, if_ltn, if_eqp, if_eqn, if_T, if_F, gd_zin, gd_isB0, gd_isB1, zix_toNat, Int.toNat_natCast, tn_a1, tn_a, tn_s1, tn_s, tn_m1, tn_l0, tn_l1, bnd_eq, obind_some, mr_some, sI_s, sI_n, sI_2, sA_1, sA_s, sA_i, sA_n]
        · rw [mkN_some hn]
          simp only []
          obtain ⟨M2, b1, b2, b3, b4⟩ := m_create_some hRp ⟨hW1.1.2.1, hW1.1.2.2.1⟩ 1 0 q hn hple.1 hg20 hg21 (hW1.2.2.2.2.2 _ (Nat.le_refl _)).1 (hW1.2.2.2.2.2 _ (Nat.le_refl _)).2
          obtain ⟨M3, d1, d2, d3⟩ := m_addC_eq b4 hK1 (i := tN T1) (by rw [tN_mkT]; omega) c
          exact ⟨M3, by rw [b1, obind_some]; exact d1, (hfmp.trans b2).trans d2, d3⟩
      have hdn := hW1.b.2.2.2.2.2.2.2.1 _ hkn
      have hnm := hW1.nm hkn
      unfold nmOK at hnm
      unfold m_character_82
      by_cases hde : tD T1 ((tO T1).getD k 0) = q.2.1
      · rw [if_pos hde] at s4
        rw [s4]
        simp only []
        by_cases hx1 : tM T1 ((tO T1).getD k 0) = 1
        · rw [if_pos hx1]
          obtain ⟨M3, d1, d2, d3⟩ := m_addC_eq hRp hK1 hkn c
          refine ⟨M3, ?_, hfmp.trans d2, d3⟩
          have hde' : ((tD T1 ((tO T1).getD k 0) : Nat) : Int) = (q.2.1 : Int) := by rw [hde]
          simp (disch := omega) only [if_ltp, if_ltn, if_eqp, if_eqn, if_T, if_F, gd_zin, gd_isB0, gd_isB1, zix_toNat, Int.toNat_natCast, tn_a1, tn_a, tn_s1, tn_s, tn_m1, tn_l0, tn_l1, bnd_eq, obind_some, mr_some, sI_s, sI_n, sI_2, sA_1, sA_s, sA_i, sA_n, h6, h8, h10, hg21]
          exact d1
        · rw [if_neg hx1]
          obtain ⟨M3, d1, d2⟩ := hnew
          refine ⟨M3, ?_, d2⟩
          simp (disch := omega) only [if_ltp, if_ltn, if_eqp, if_eqn, if_T, if_F, gd_zin, gd_isB0, gd_isB1, zix_toNat, Int.toNat_natCast, tn_a1, tn_a, tn_s1, tn_s, tn_m1, tn_l0, tn_l1, bnd_eq, obind_some, mr_some, sI_s, sI_n, sI_2, sA_1, sA_s, sA_i, sA_n, h6, h8]
          exact d1
      · rw [if_neg hde] at s4
        rw [s4]
        simp only []
        obtain ⟨M3, d1, d2⟩ := hnew
        refine ⟨M3, ?_, d2⟩
        by_cases hx1 : tM T1 ((tO T1).getD k 0) = 1
        · simp (disch := omega) only [if_ltp, if_ltn, if_eqp, if_eqn, if_T, if_F, gd_zin, gd_isB0, gd_isB1, zix_toNat, Int.toNat_natCast, tn_a1, tn_a, tn_s1, tn_s, tn_m1, tn_l0, tn_l1, bnd_eq, obind_some, mr_some, sI_s, sI_n, sI_2, sA_1, sA_s, sA_i, sA_n, h6, h8, h10, hg21]
          exact d1
        · simp (disch := omega) only [if_ltp, if_ltn, if_eqp, if_eqn, if_T, if_F, gd_zin, gd_isB0, gd_isB1, zix_toNat, Int.toNat_natCast, tn_a1, tn_a, tn_s1, tn_s, tn_m1, tn_l0, tn_l1, bnd_eq, obind_some, mr_some, sI_s, sI_n, sI_2, sA_1, sA_s, sA_i, sA_n, h6, h8]
          exact d1
  have hT : ∀ (h : ¬ (c = 32 ∧ isTR (tM T ((tS T).getD ((tS T).length - 1) 0)) = true)), tChar c T = (match tRenew T with
      | none => none
      | some T1 => (match prevSib T1 (plc T1 (tS T1).length) with
        | some i => if tM T1 i = 1 then some (addC T1 i c) else (match mkN T1 1 0 (plc T1 (tS T1).length) with
          | none => none
          | some T2 => some (addC T2 (tN T1) c))
        | none => (match mkN T1 1 0 (plc T1 (tS T1).length) with
          | none => none
          | some T2 => some (addC T2 (tN T1) c)))) := fun h => by
    unfold tChar
    rw [if_neg h]
    rfl
  unfold m_character
  by_cases h32 : c = 32
  · have hnm := m_named_eq hR hWb mk_tr htop
    rw [contains_tr] at hnm
    cases hb : isTR (tM T ((tS T).getD ((tS T).length - 1) 0)) with
    | true =>
      have hT2 : tChar c T = some T := by unfold tChar; rw [if_pos ⟨h32, hb⟩]
      rw [hT2]
      refine ⟨M, ?_, FM.refl M, hR⟩
      rw [hb, zb_t] at hnm
      simp (disch := omega) only [if_ltp, if_ltn, if_eqp, if_eqn, if_T, if_F, gd_zin, gd_isB0, gd_isB1, zix_toNat, Int.toNat_natCast, tn_a1, tn_a, tn_s1, tn_s, tn_m1, tn_l0, tn_l1, bnd_eq, obind_some, mr_some, sI_s, sI_n, sI_2, sA_1, sA_s, sA_i, sA_n, h13, h12, hnm]
    | false =>
      rw [hT (fun q => by rw [hb] at q; cases q.2)]
      obtain ⟨M', a1, a2⟩ := hgo
      refine ⟨M', ?_, a2⟩
      rw [hb, zb_f] at hnm
      simp (disch := omega) only [if_ltp, if_ltn, if_eqp, if_eqn, if_T, if_F, gd_zin, gd_isB0, gd_isB1, zix_toNat, Int.toNat_natCast, tn_a1, tn_a, tn_s1, tn_s, tn_m1, tn_l0, tn_l1, bnd_eq, obind_some, mr_some, sI_s, sI_n, sI_2, sA_1, sA_s, sA_i, sA_n, h13, h12, hnm]
      exact a1
  · rw [hT (fun q => h32 q.1)]
    obtain ⟨M', a1, a2⟩ := hgo
    refine ⟨M', ?_, a2⟩
    simp (disch := omega) only [if_ltp, if_ltn, if_eqp, if_eqn, if_T, if_F, gd_zin, gd_isB0, gd_isB1, zix_toNat, Int.toNat_natCast, tn_a1, tn_a, tn_s1, tn_s, tn_m1, tn_l0, tn_l1, bnd_eq, obind_some, mr_some, sI_s, sI_n, sI_2, sA_1, sA_s, sA_i, sA_n]
    exact a1
theorem m_end_eq (hR : RepM M T) (hW : WF T) {x : Int} (hx : 97 ≤ x ∧ x ≤ 122) : ∃ M', m_end M x = some M' ∧ OutM M (tEnd x T) M' := by
  have hx' : nmOK x := by unfold nmOK; omega
  have h4 : M.1 4 = 0 := hR.1
  have h24 := hW.b.2.2.2.2.1
  have hw1 := hW.1.2.1
  have hl116 := topm_lt hW.b 116
  have hl114 := topm_lt hW.b 114
  have hcl : ∀ (y : Int) (hy : nmOK y) {mask : Int} {l : List Int} (hm : MK mask l), ∃ M', Option.bind (m_reach M y mask) (fun y7 => if zI y7 = zI 0 then some M else Option.bind (m_topmost M y) (fun y8 => bnd (sI M 13 y8) (fun M9 => some M9))) = some M' ∧ OutM M (some (cls T (rch T y l))) M' := fun y hy mask l hm => by
    obtain ⟨M1, p1, p2, p3⟩ := m_close_eq hR hW y hy hm (fun M5 => some M5)
    exact ⟨M1, p3, p1, p2⟩
  unfold m_end tEnd
  by_cases x1 : x = 112
  · subst x1
    rw [if_eqp rfl]
    simp only [if_true]
    obtain ⟨r1, r2⟩ := m_reach_eq hR hW.b 112 hx' mk_c
    have ht := topm_lt hW.b 112
    by_cases h0 : rch T 112 [99] = 0
    · rw [r1, if_pos h0, if_pos h0, obind_some, if_eqp rfl, m_findPlace_st hR hW, obind_some]
      have hRp := hR.place ((plc T (tS T).length).1 : Nat) ((plc T (tS T).length).2.1 : Nat)
      have hfmp : FM M (sI (sI M 20 ((plc T (tS T).length).1 : Nat)) 21 ((plc T (tS T).length).2.1 : Nat)) := ((FM.refl M).sI (by simp) _).sI (by simp) _
      have hple := plc_le hW.b hW.len (Nat.le_refl _)
      by_cases hn : tN T = 24
      · rw [mkN_none hn, m_create_none hRp _ _ hn]
        refine ⟨sA (sI (sI (sI M 20 ((plc T (tS T).length).1 : Nat)) 21 ((plc T (tS T).length).2.1 : Nat)) 4 1) 11 0 0, ?_, (hfmp.sI (by simp) _).sA (by simp) _ _, ?_⟩
        · simp (disch := omega) only [if_ltp, if_ltn, if_eqp, if_eqn, if_T, if_F, gd_zin, gd_isB0, gd_isB1, zix_toNat, Int.toNat_natCast, tn_a1, tn_a, tn_s1, tn_s, tn_m1, tn_l0, tn_l1, bnd_eq, obind_some, mr_some, sI_s, sI_n, sI_2, sA_1, sA_s, sA_i, sA_n]
        · show (sA _ _ _ _).1 4 = 1
          simp (disch := omega) only [if_ltp, if_ltn, if_eqp, if_eqn, if_T, if_F, gd_zin, gd_isB0, gd_isB1, zix_toNat, Int.toNat_natCast, tn_a1, tn_a, tn_s1, tn_s, tn_m1, tn_l0, tn_l1, bnd_eq, obind_some, mr_some, sI_s, sI_n, sI_2, sA_1, sA_s, sA_i, sA_n]
      · rw [mkN_some hn]
        obtain ⟨M2, b1, b2, b3, b4⟩ := m_create_some hRp ⟨hW.1.2.1, hW.1.2.2.1⟩ 112 0 (plc T (tS T).length) hn hple.1 (by simp (disch := omega) only [if_ltp, if_ltn, if_eqp, if_eqn, if_T, if_F, gd_zin, gd_isB0, gd_isB1, zix_toNat, Int.toNat_natCast, tn_a1, tn_a, tn_s1, tn_s, tn_m1, tn_l0, tn_l1, bnd_eq, obind_some, mr_some, sI_s, sI_n, sI_2, sA_1, sA_s, sA_i, sA_n]) (by simp (disch := omega) only [if_ltp, if_ltn, if_eqp, if_eqn, if_T, if_F, gd_zin, gd_isB0, gd_isB1, zix_toNat, Int.toNat_natCast, tn_a1, tn_a, tn_s1, tn_s, tn_m1, tn_l0, tn_l1, bnd_eq, obind_some, mr_some, sI_s, sI_n, sI_2, sA_1, sA_s, sA_i, sA_n]) (hW.2.2.2.2.2 _ (Nat.le_refl _)).1 (hW.2.2.2.2.2 _ (Nat.le_refl _)).2
        refine ⟨sA M2 11 0 (tN T : Int), ?_, (hfmp.trans b2).sA (by simp) _ _, b4.mv 0 _⟩
        rw [b1]
        simp (disch := omega) only [if_ltp, if_ltn, if_eqp, if_eqn, if_T, if_F, gd_zin, gd_isB0, gd_isB1, zix_toNat, Int.toNat_natCast, tn_a1, tn_a, tn_s1, tn_s, tn_m1, tn_l0, tn_l1, bnd_eq, obind_some, mr_some, sI_s, sI_n, sI_2, sA_1, sA_s, sA_i, sA_n]
    · rw [r1, if_neg h0, if_neg h0, m_topmost_eq hR hW.b 112 hx', ← r2 h0, zlast_p h0]
      refine ⟨sI M 13 ((rch T 112 [99] : Nat) : Int), ?_, (FM.refl M).sI (by simp) _, ?_⟩
      · simp (disch := omega) only [if_ltp, if_ltn, if_eqp, if_eqn, if_T, if_F, gd_zin, gd_isB0, gd_isB1, zix_toNat, Int.toNat_natCast, tn_a1, tn_a, tn_s1, tn_s, tn_m1, tn_l0, tn_l1, bnd_eq, obind_some, mr_some, sI_s, sI_n, sI_2, sA_1, sA_s, sA_i, sA_n]
      · unfold cls
        rw [if_neg h0]
        exact hR.close (by rw [r2 h0]; omega)
  · rw [if_eqn x1 (by omega) (by omega) (by omega) (by omega), if_neg x1]
    by_cases x2 : x = 100
    · subst x2
      rw [if_eqp rfl, if_pos (Or.inl rfl)]
      exact hcl 100 hx' mk_c
    · rw [if_eqn x2 (by omega) (by omega) (by omega) (by omega)]
      by_cases x3 : x = 117
      · subst x3
        rw [if_eqp rfl, if_pos (Or.inr rfl)]
        exact hcl 117 hx' mk_c
      · rw [if_eqn x3 (by omega) (by omega) (by omega) (by omega), if_neg (show ¬ (x = 100 ∨ x = 117) by omega)]
        by_cases x4 : x = 108
        · subst x4
          rw [if_eqp rfl, if_pos rfl]
          exact hcl 108 hx' mk_uc
        · rw [if_eqn x4 (by omega) (by omega) (by omega) (by omega), if_neg x4]
          by_cases x5 : x = 116
          · subst x5
            rw [if_eqp rfl, if_pos rfl, m_topmost_eq hR hW.b 116 hx', obind_some, rch_nil, obind_some]
            by_cases h0 : topm T 116 = 0
            · rw [h0, zlast_0]
              refine ⟨M, ?_, FM.refl M, hR⟩
              simp (disch := omega) only [if_ltp, if_ltn, if_eqp, if_eqn, if_T, if_F, gd_zin, gd_isB0, gd_isB1, zix_toNat, Int.toNat_natCast, tn_a1, tn_a, tn_s1, tn_s, tn_m1, tn_l0, tn_l1, bnd_eq, obind_some, mr_some, sI_s, sI_n, sI_2, sA_1, sA_s, sA_i, sA_n]
            · rw [zlast_p h0]
              refine ⟨sI M 13 ((topm T 116 : Nat) : Int), ?_, (FM.refl M).sI (by simp) _, ?_⟩
              · simp (disch := omega) only [if_ltp, if_ltn, if_eqp, if_eqn, if_T, if_F, gd_zin, gd_isB0, gd_isB1, zix_toNat, Int.toNat_natCast, tn_a1, tn_a, tn_s1, tn_s, tn_m1, tn_l0, tn_l1, bnd_eq, obind_some, mr_some, sI_s, sI_n, sI_2, sA_1, sA_s, sA_i, sA_n]
              · unfold cls
                rw [if_neg h0]
                exact hR.close (by omega)
          · rw [if_eqn x5 (by omega) (by omega) (by omega) (by omega), if_neg x5]
            by_cases x6 : x = 114
            · subst x6
              rw [if_eqp rfl, if_pos rfl, m_topmost_eq hR hW.b 114 hx', m_topmost_eq hR hW.b 116 (by unfold nmOK; omega), obind_some, obind_some, obind_some, rch_r hW]
              by_cases hlt : topm T 116 < topm T 114
              · have h6 := topm_r hW (show topm T 114 ≠ 0 by omega)
                rw [if_pos hlt, zlast_p h6, zlast_p (by omega)]
                refine ⟨sI M 13 ((topm T 114 : Nat) : Int), ?_, (FM.refl M).sI (by simp) _, ?_⟩
                · simp (disch := omega) only [if_ltp, if_ltn, if_eqp, if_eqn, if_T, if_F, gd_zin, gd_isB0, gd_isB1, zix_toNat, Int.toNat_natCast, tn_a1, tn_a, tn_s1, tn_s, tn_m1, tn_l0, tn_l1, bnd_eq, obind_some, mr_some, sI_s, sI_n, sI_2, sA_1, sA_s, sA_i, sA_n]
                · unfold cls
                  rw [if_neg (by omega)]
                  exact hR.close (by omega)
              · have hz : zlast (topm T 114) ≤ zlast (topm T 116) := by unfold zlast; split <;> split <;> omega
                have hz1 : -1 ≤ zlast (topm T 114) := by unfold zlast; split <;> omega
                have hz2 : zlast (topm T 116) < 100 := by unfold zlast; split <;> omega
                rw [if_neg hlt]
                refine ⟨M, ?_, FM.refl M, hR⟩
                rw [if_ltn hz (by omega) (by omega)]
            · rw [if_eqn x6 (by omega) (by omega) (by omega) (by omega), if_neg x6]
              by_cases x7 : x = 99
              · subst x7
                rw [if_eqp rfl, if_pos rfl]
                exact hcl 99 hx' mk_t
              · rw [if_eqn x7 (by omega) (by omega) (by omega) (by omega), if_neg x7]
                by_cases x8 : x = 104
                · subst x8
                  rw [if_eqp rfl, if_pos (Or.inl rfl)]
                  exact ⟨M, rfl, FM.refl M, hR⟩
                · rw [if_eqn x8 (by omega) (by omega) (by omega) (by omega)]
                  by_cases x9 : x = 107
                  · subst x9
                    rw [if_eqp rfl, if_pos (Or.inr rfl)]
                    exact ⟨M, rfl, FM.refl M, hR⟩
                  · rw [if_eqn x9 (by omega) (by omega) (by omega) (by omega), if_neg (show ¬ (x = 104 ∨ x = 107) by omega)]
                    obtain ⟨M', a1, a2⟩ := m_endOther_eq hR hW hx
                    refine ⟨M', ?_, a2⟩
                    rw [a1]; rfl
end MT
