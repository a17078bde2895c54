/-! the children after an adoption -/
set_option maxRecDepth 100000
def kd (p : Nat → Nat) (o : List Nat) (i : Nat) : List Nat := o.filter (fun j => decide (j ≠ 0) && decide (p j = i))
theorem kids_kd (T : TS) (i : Nat) : kids T i = kd (tP T) (tO T) i := rfl
theorem kd_app (p : Nat → Nat) (A B : List Nat) (i : Nat) : kd p (A ++ B) i = kd p A i ++ kd p B i := List.filter_append _ _
theorem kd_cons {p : Nat → Nat} {j : Nat} (B : List Nat) {i : Nat} (h0 : j ≠ 0) : kd p (j :: B) i = (if p j = i then [j] else []) ++ kd p B i := by
  unfold kd
  rw [List.filter_cons]
  by_cases e : p j = i
  · rw [if_pos (by simp [h0, e]), if_pos e]; rfl
  · rw [if_neg (by simp [e]), if_neg e]; rfl
theorem kd_nil {p : Nat → Nat} {o : List Nat} {i : Nat} (hh : ∀ j ∈ o, j ≠ 0 → p j ≠ i) : kd p o i = [] := by
  unfold kd
  rw [List.filter_eq_nil_iff]
  intro j hj
  simp only [Bool.and_eq_true, decide_eq_true_eq, not_and]
  exact fun h0 => hh j hj h0
theorem kd_cg {p p' : Nat → Nat} {o : List Nat} {i : Nat} (hh : ∀ j ∈ o, p j = p' j) : kd p o i = kd p' o i := List.filter_congr (fun j hj => by rw [hh j hj])
theorem mem_kd {p : Nat → Nat} {o : List Nat} {i j : Nat} : j ∈ kd p o i ↔ j ∈ o ∧ j ≠ 0 ∧ p j = i := by
  unfold kd
  simp only [List.mem_filter, Bool.and_eq_true, decide_eq_true_eq]
section AD
variable {T : TS} {e b id bl w : Nat} {A S C A' C' : List Nat}
/-- the block's surroundings -/
def AdC (T : TS) (bl : Nat) (A S C : List Nat) : Prop := tO T = A ++ bl :: (S ++ C) ∧ A ≠ [] ∧ (∀ x ∈ S, tD T bl < tD T x) ∧ hdLe (tD T) (tD T bl) C
theorem AdC.f (hW : WF T) (hA : AdC T bl A S C) : bl ≠ 0 ∧ bl < tN T ∧ (bl ∉ A ∧ bl ∉ S ∧ bl ∉ C) ∧ (∀ j ∈ S, j ≠ 0 ∧ j < tN T ∧ j ∉ A ∧ j ∉ C ∧ tP T j ∈ bl :: S) ∧ (∀ j, j ∈ A ∨ j ∈ C → j < tN T ∧ (j ≠ 0 → tP T j ∉ bl :: S)) ∧ tP T bl ∉ bl :: S ∧ tP T bl < tN T ∧ (bl :: S).Nodup := by
  obtain ⟨hO, hA0, hS, hC⟩ := hA
  have hwo := hW.1.2.2.2.2.1
  have hnd := hwo.1
  have hlt := hW.1.2.2.2.1
  have h0 : bl ≠ 0 := hwo.tail0 hO hA0
  rw [hO] at hwo hnd hlt
  have hb : bl < tN T := hlt bl (by simp)
  obtain ⟨n1, n2⟩ := nodup_mid hnd
  have hpar := hW.par hb
  have hS0 : ∀ j ∈ S, j ≠ 0 := fun j hj z => by have := hS j hj; rw [z, hwo.2.2.1] at this; omega
  have hdis := List.nodup_append.mp hnd
  have hpb : tP T bl ∉ bl :: S := fun z => by
    have hd := (hwo.dpos (i := bl) (by simp) h0).2.2
    rcases List.mem_cons.mp z with y | y
    · rw [y] at hd; omega
    · have := hS _ y; omega
  have hSC := (List.nodup_cons.mp hdis.2.1).2
  have hSC2 := List.nodup_append.mp hSC
  refine ⟨h0, hb, ⟨n1, fun z => n2 (List.mem_append_left _ z), fun z => n2 (List.mem_append_right _ z)⟩, fun j hj => ⟨hS0 j hj, hlt j (by simp [hj]), fun z => hdis.2.2 j z j (by simp [hj]) rfl, fun z => hSC2.2.2 j hj j z rfl, hwo.in_mem hS hj⟩, fun j hj => ⟨hlt j (by rcases hj with z | z <;> simp [z]), fun j0 => hwo.out_mem hS hC hj j0⟩, hpb, hpar, List.nodup_cons.mpr ⟨fun z => n2 (List.mem_append_left _ z), hSC2.1⟩⟩
theorem ad_k0 (hW : WF T) (hA : AdC T bl A S C) {i : Nat} (hi : i ∉ bl :: S) : kids T i = kd (tP T) A i ++ ((if tP T bl = i then [bl] else []) ++ kd (tP T) C i) := by
  obtain ⟨f1, f2, f3, f4, f5, f6, f7, f8⟩ := AdC.f hW hA
  rw [kids_kd, hA.1, kd_app, kd_cons _ f1, kd_app, kd_nil (o := S) (fun j hj j0 z => hi (by rw [← z]; exact (f4 j hj).2.2.2.2)), List.nil_append]
theorem ad_kS (hW : WF T) (hA : AdC T bl A S C) {i : Nat} (hi : i ∈ bl :: S) : kids T i = kd (tP T) S i := by
  obtain ⟨f1, f2, f3, f4, f5, f6, f7, f8⟩ := AdC.f hW hA
  rw [kids_kd, hA.1, kd_app, kd_cons _ f1, kd_app, kd_nil (o := A) (fun j hj j0 z => (f5 j (Or.inl hj)).2 j0 (by rw [z]; exact hi)), kd_nil (o := C) (fun j hj j0 z => (f5 j (Or.inr hj)).2 j0 (by rw [z]; exact hi)), if_neg (fun z => f6 (by rw [z]; exact hi))]
  simp
theorem ad_P {w j : Nat} (hW : WF T) (hA : AdC T bl A S C) (hj : j ∈ S) : adP T bl w (bl :: S) j = if tP T j = bl then tN T else tP T j := by
  obtain ⟨f1, f2, f3, f4, f5, f6, f7, f8⟩ := AdC.f hW hA
  obtain ⟨g1, g2, g3, g4, g5⟩ := f4 j hj
  unfold adP
  by_cases z : tP T j = bl
  · rw [if_pos ⟨by omega, List.mem_cons_of_mem _ hj, z⟩, if_pos z]
  · rw [if_neg (fun y => z y.2.2), if_neg z, va_up_n _ _ _ _ (by omega), va_up_n _ _ _ _ (show j ≠ bl from fun y => f3.2.1 (y ▸ hj))]
theorem ad_Pb {w : Nat} (hW : WF T) (hA : AdC T bl A S C) : adP T bl w (bl :: S) bl = w := by
  obtain ⟨f1, f2, f3, f4, f5, f6, f7, f8⟩ := AdC.f hW hA
  unfold adP
  rw [if_neg (fun y => f6 (by rw [y.2.2]; simp)), va_up_n _ _ _ _ (by omega), va_up_s]
theorem ad_Po {w j : Nat} (hW : WF T) (hA : AdC T bl A S C) (hAC : A ++ C = A' ++ C') (hj : j ∈ A' ++ C') : adP T bl w (bl :: S) j = tP T j ∧ j < tN T ∧ j ∉ bl :: S ∧ (j ≠ 0 → tP T j ∉ bl :: S) := by
  obtain ⟨f1, f2, f3, f4, f5, f6, f7, f8⟩ := AdC.f hW hA
  rw [← hAC] at hj
  have hj' := List.mem_append.mp hj
  obtain ⟨g1, g2⟩ := f5 j hj'
  have hn : j ∉ bl :: S := fun z => by
    rcases List.mem_cons.mp z with y | y
    · rw [y] at hj'; exact hj'.elim f3.1 f3.2.2
    · exact hj'.elim (f4 j y).2.2.1 (f4 j y).2.2.2.1
  exact ⟨adP_out hn (fun z => hn (by rw [z]; simp)) (by omega), g1, hn, g2⟩
theorem ad_k1 {w i : Nat} (hW : WF T) (hA : AdC T bl A S C) (hAC : A ++ C = A' ++ C') (hi : i ∉ bl :: S) (hn : i ≠ tN T) : kd (adP T bl w (bl :: S)) (A' ++ bl :: tN T :: (S ++ C')) i = kd (tP T) A' i ++ ((if w = i then [bl] else []) ++ kd (tP T) C' i) := by
  obtain ⟨f1, f2, f3, f4, f5, f6, f7, f8⟩ := AdC.f hW hA
  have hN := hW.1.1
  rw [kd_app, kd_cons _ f1, kd_cons _ (by omega), kd_app, ad_Pb hW hA, adP_n, if_neg (show ¬ bl = i from fun z => hi (by rw [z]; simp)), List.nil_append, kd_nil (o := S) (fun j hj j0 z => by
    rw [ad_P hW hA hj] at z
    split at z
    · exact hn z.symm
    · exact hi (by rw [← z]; exact (f4 j hj).2.2.2.2)), List.nil_append, kd_cg (o := A') (fun j hj => (ad_Po hW hA hAC (List.mem_append_left _ hj)).1), kd_cg (o := C') (fun j hj => (ad_Po hW hA hAC (List.mem_append_right _ hj)).1)]
theorem ad_k2 {w i : Nat} (hw : w ∉ bl :: S) (hW : WF T) (hA : AdC T bl A S C) (hAC : A ++ C = A' ++ C') (hi : i ∈ S) : kd (adP T bl w (bl :: S)) (A' ++ bl :: tN T :: (S ++ C')) i = kids T i := by
  obtain ⟨f1, f2, f3, f4, f5, f6, f7, f8⟩ := AdC.f hW hA
  have hN := hW.1.1
  have hib : i ≠ bl := fun z => f3.2.1 (z ▸ hi)
  have hi' : i ∈ bl :: S := List.mem_cons_of_mem _ hi
  rw [ad_kS hW hA hi', kd_app, kd_cons _ f1, kd_cons _ (by omega), kd_app, ad_Pb hW hA, adP_n, if_neg (show ¬ bl = i from fun z => hib z.symm), List.nil_append, if_neg (show ¬ w = i from fun z => hw (by rw [z]; exact hi')), List.nil_append, kd_nil (o := A') (fun j hj j0 z => by
    have := ad_Po (w := w) hW hA hAC (List.mem_append_left C' hj)
    rw [this.1] at z
    exact this.2.2.2 j0 (by rw [z]; exact hi')), List.nil_append, kd_nil (o := C') (fun j hj j0 z => by
    have := ad_Po (w := w) hW hA hAC (List.mem_append_right A' hj)
    rw [this.1] at z
    exact this.2.2.2 j0 (by rw [z]; exact hi')), List.append_nil]
  unfold kd
  refine List.filter_congr (fun j hj => ?_)
  rw [ad_P hW hA hj]
  by_cases z : tP T j = bl
  · rw [if_pos z, z, decide_eq_false (show ¬ bl = i from fun y => hib y.symm), decide_eq_false (show ¬ tN T = i by have := (f4 i hi).2.1; omega)]
  · rw [if_neg z]
theorem ad_k3 {w : Nat} (hw : w ∉ bl :: S) (hW : WF T) (hA : AdC T bl A S C) (hAC : A ++ C = A' ++ C') : kd (adP T bl w (bl :: S)) (A' ++ bl :: tN T :: (S ++ C')) bl = [tN T] := by
  obtain ⟨f1, f2, f3, f4, f5, f6, f7, f8⟩ := AdC.f hW hA
  have hN := hW.1.1
  rw [kd_app, kd_cons _ f1, kd_cons _ (by omega), kd_app, ad_Pb hW hA, adP_n, if_pos rfl, if_neg (show ¬ w = bl from fun z => hw (by rw [z]; simp)), List.nil_append, kd_nil (o := A') (fun j hj j0 z => by
    have := ad_Po (w := w) hW hA hAC (List.mem_append_left C' hj)
    rw [this.1] at z
    exact this.2.2.2 j0 (by rw [z]; simp)), List.nil_append, kd_nil (o := C') (fun j hj j0 z => by
    have := ad_Po (w := w) hW hA hAC (List.mem_append_right A' hj)
    rw [this.1] at z
    exact this.2.2.2 j0 (by rw [z]; simp)), kd_nil (o := S) (fun j hj j0 z => by
    rw [ad_P hW hA hj] at z
    split at z
    · omega
    · next y => exact y z)]
  rfl
theorem ad_k4 {w : Nat} (hw : w < tN T) (hW : WF T) (hA : AdC T bl A S C) (hAC : A ++ C = A' ++ C') : kd (adP T bl w (bl :: S)) (A' ++ bl :: tN T :: (S ++ C')) (tN T) = kids T bl := by
  obtain ⟨f1, f2, f3, f4, f5, f6, f7, f8⟩ := AdC.f hW hA
  have hN := hW.1.1
  rw [ad_kS hW hA (by simp), kd_app, kd_cons _ f1, kd_cons _ (by omega), kd_app, ad_Pb hW hA, adP_n, if_neg (show ¬ bl = tN T by omega), List.nil_append, if_neg (show ¬ w = tN T by omega), List.nil_append, kd_nil (o := A') (fun j hj j0 z => by
    have := ad_Po (w := w) hW hA hAC (List.mem_append_left C' hj)
    rw [this.1] at z
    have := hW.par this.2.1
    omega), List.nil_append, kd_nil (o := C') (fun j hj j0 z => by
    have := ad_Po (w := w) hW hA hAC (List.mem_append_right A' hj)
    rw [this.1] at z
    have := hW.par this.2.1
    omega), List.append_nil]
  unfold kd
  refine List.filter_congr (fun j hj => ?_)
  rw [ad_P hW hA hj]
  by_cases z : tP T j = bl
  · rw [if_pos z, z]; simp
  · rw [if_neg z, decide_eq_false z, decide_eq_false (show ¬ tP T j = tN T by have := hW.par (f4 j hj).2.1; omega)]
/-- where the place is, among the children -/
theorem ad_at (hW : WF T) (ha : AdOK T e b id) (hA : AdC T ((tS T).getD b 0) A S C) (hAC : A ++ C = A' ++ C') (hq : A'.length = (plc (setO T (A ++ C) (tP T) (tD T)) e).1) :
    (isTR (tM T ((tS T).getD (e - 1) 0)) = true → ∃ K2, (plc (setO T (A ++ C) (tP T) (tD T)) e).2.2 = tP T ((tS T).getD (lastB (fun k => decide (1 ≤ k) && decide (sNm T k = 116)) e) 0) ∧ C' = (tS T).getD (lastB (fun k => decide (1 ≤ k) && decide (sNm T k = 116)) e) 0 :: K2) ∧
    (isTR (tM T ((tS T).getD (e - 1) 0)) = false → (plc (setO T (A ++ C) (tP T) (tD T)) e).2.2 = (tS T).getD (e - 1) 0 ∧ kd (tP T) C' ((tS T).getD (e - 1) 0) = []) := by
  obtain ⟨hno, hA0, hpl, -, -, -, -⟩ := ad_place hW ha hA.1 hA.2.2.1 hA.2.2.2
  obtain ⟨g1, g2, g3, g4, g5, g6, g7⟩ := ha
  have hwo := hW.1.2.2.2.2.1
  rw [hA.1] at hwo
  have hwd : WFo (A ++ C) (tP T) (tD T) := hwo.del hA0 hA.2.2.1 hA.2.2.2
  have hin : ∀ i, i < e → (tS T).getD i 0 ∈ A ++ C := fun i hi => by
    have hm := hW.full (getD_lt hW.b.2.2.2.2.2.1 (show i < (tS T).length by omega))
    rw [hA.1] at hm
    have := hno i (by omega)
    simp only [List.mem_append, List.mem_cons] at hm this ⊢
    rcases hm with z | z | z | z
    · exact Or.inl z
    · exact (this (Or.inl z)).elim
    · exact (this (Or.inr z)).elim
    · exact Or.inr z
  have hsn : ∀ k, sNm (setO T (A ++ C) (tP T) (tD T)) k = sNm T k := fun _ => rfl
  constructor
  · intro htr
    have htb := hW.tbl g1 (by omega) htr
    have hlt := lastB_lt (fun k => decide (1 ≤ k) && decide (sNm T k = 116)) e (by omega)
    have hplc : plc (setO T (A ++ C) (tP T) (tD T)) e = (seat (setO T (A ++ C) (tP T) (tD T)) ((tS T).getD (lastB (fun k => decide (1 ≤ k) && decide (sNm T k = 116)) e) 0), tD T ((tS T).getD (lastB (fun k => decide (1 ≤ k) && decide (sNm T k = 116)) e) 0), tP T ((tS T).getD (lastB (fun k => decide (1 ≤ k) && decide (sNm T k = 116)) e) 0)) := by
      unfold plc
      simp only [tS_setO, tM_setO, hsn]
      rw [htr, if_pos (by simpa using htb)]
      rfl
    rw [hplc] at hq ⊢
    have hm := hin _ hlt
    generalize (tS T).getD (lastB (fun k => decide (1 ≤ k) && decide (sNm T k = 116)) e) 0 = tb at *
    obtain ⟨A2, S2, C2, c1, c2, -⟩ := cutT (T := setO T (A ++ C) (tP T) (tD T)) hwd.1 hm
    rw [tO_setO, hAC] at c1
    have hl : A'.length = A2.length := by rw [c2]; exact hq
    obtain ⟨-, d2⟩ := List.append_inj c1 hl
    exact ⟨S2 ++ C2, rfl, d2⟩
  · intro htr
    have hplc : plc (setO T (A ++ C) (tP T) (tD T)) e = plcIn (setO T (A ++ C) (tP T) (tD T)) ((tS T).getD (e - 1) 0) := by
      unfold plc plcIn
      simp only [tS_setO, tM_setO, hsn]
      rw [htr]
      simp
    rw [hplc] at hq ⊢
    have hm := hin (e - 1) (by omega)
    generalize (tS T).getD (e - 1) 0 = top at *
    obtain ⟨A2, S2, C2, c1, c2, c3, c4, c5⟩ := cutT (T := setO T (A ++ C) (tP T) (tD T)) hwd.1 hm
    rw [tO_setO] at c1
    have c1' := c1
    rw [hAC, show A2 ++ top :: (S2 ++ C2) = (A2 ++ top :: S2) ++ C2 by simp] at c1'
    have hl : A'.length = (A2 ++ top :: S2).length := by
      rw [hq]
      show behindA _ _ = _
      rw [c3]; simp; omega
    obtain ⟨-, d2⟩ := List.append_inj c1' hl
    refine ⟨rfl, ?_⟩
    rw [d2]
    rw [c1] at hwd
    exact kd_nil (fun j hj j0 z => hwd.out_mem c4 c5 (Or.inr hj) j0 (by rw [z]; simp))
end AD
