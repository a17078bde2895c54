/-! the reference's lists of formatting elements -/
set_option maxRecDepth 100000
def EntA (M : MS) (E : List (Nat × Nat)) : Prop := M.1 16 = (E.length : Int) ∧ ∀ k, k < E.length → M.2 14 k = ((E.getD k (0, 0)).1 : Nat) ∧ M.2 15 k = ((E.getD k (0, 0)).2 : Nat)
def fl (o : Nat) (E : List (Nat × Nat)) : List Nat := (E.filter (fun e => decide (e.2 = o))).map Prod.fst
theorem fl_app (o : Nat) (E F : List (Nat × Nat)) : fl o (E ++ F) = fl o E ++ fl o F := by simp [fl]
theorem fl_c (o : Nat) (e : Nat × Nat) (E : List (Nat × Nat)) : fl o (e :: E) = if e.2 = o then e.1 :: fl o E else fl o E := by
  unfold fl
  by_cases h : e.2 = o <;> simp [h]
theorem fl_nil (o : Nat) : fl o [] = [] := rfl
def cn (o : Nat) (E : List (Nat × Nat)) (g : Nat) : Nat := (fl o (E.take g)).length
theorem split_at {α : Type} {l : List α} {k : Nat} {d : α} (h : k < l.length) : l = l.take k ++ l.getD k d :: l.drop (k + 1) := by
  conv => lhs; rw [← List.take_append_drop k l]
  rw [List.drop_eq_getElem_cons h, gD h]
theorem cn_s {o : Nat} {E : List (Nat × Nat)} {g : Nat} (h : g < E.length) : cn o E (g + 1) = if (E.getD g (0, 0)).2 = o then cn o E g + 1 else cn o E g := by
  unfold cn
  have : E.take (g + 1) = E.take g ++ [E.getD g (0, 0)] := by rw [List.take_succ, gD h]; simp [h]
  rw [this, fl_app, fl_c, fl_nil]
  split <;> simp
theorem cn_all (o : Nat) (E : List (Nat × Nat)) : cn o E E.length = (fl o E).length := by unfold cn; rw [List.take_length]
theorem cn_at {o : Nat} {E : List (Nat × Nat)} {g : Nat} (h : g < E.length) (ho : (E.getD g (0, 0)).2 = o) : cn o E g < (fl o E).length ∧ (fl o E).getD (cn o E g) 0 = (E.getD g (0, 0)).1 := by
  have e := split_at (d := (0, 0)) h
  have e2 : fl o E = fl o (E.take g) ++ (E.getD g (0, 0)).1 :: fl o (E.drop (g + 1)) := by
    conv => lhs; rw [e]
    rw [fl_app, fl_c, if_pos ho]
  rw [e2]
  unfold cn
  constructor
  · simp
  · simp
theorem fl_set {o : Nat} {E : List (Nat × Nat)} {g x : Nat} (h : g < E.length) (ho : (E.getD g (0, 0)).2 = o) : fl o (E.set g (x, o)) = (fl o E).set (cn o E g) x := by
  have e := split_at (d := (0, 0)) h
  have e1 : E.set g (x, o) = E.take g ++ (x, o) :: E.drop (g + 1) := by
    rw [List.set_eq_take_append_cons_drop, if_pos h]
  have e2 : fl o E = fl o (E.take g) ++ (E.getD g (0, 0)).1 :: fl o (E.drop (g + 1)) := by
    conv => lhs; rw [e]
    rw [fl_app, fl_c, if_pos ho]
  rw [e1, e2, fl_app, fl_c, if_pos rfl]
  unfold cn
  simp
theorem fl_set_ne {o o' : Nat} {E : List (Nat × Nat)} {g x : Nat} (h : g < E.length) (ho : (E.getD g (0, 0)).2 = o) (hne : o' ≠ o) : fl o' (E.set g (x, o)) = fl o' E := by
  have e := split_at (d := (0, 0)) h
  have e1 : E.set g (x, o) = E.take g ++ (x, o) :: E.drop (g + 1) := by
    rw [List.set_eq_take_append_cons_drop, if_pos h]
  have e2 : fl o' E = fl o' (E.take g) ++ fl o' (E.drop (g + 1)) := by
    conv => lhs; rw [e]
    rw [fl_app, fl_c, if_neg (by rw [ho]; exact Ne.symm hne)]
  rw [e1, e2, fl_app, fl_c, if_neg (Ne.symm hne)]
section MT
variable {M : MS} {T : TS} {E : List (Nat × Nat)}
theorem EntA.uniq {E' : List (Nat × Nat)} (h : EntA M E) (h' : EntA M E') : E = E' := by
  have hl : E.length = E'.length := by have := h.1; have := h'.1; omega
  refine List.ext_getElem hl (fun k h1 h2 => ?_)
  have a := h.2 k h1
  have b := h'.2 k h2
  rw [gD h1] at a
  rw [gD h2] at b
  refine Prod.ext ?_ ?_
  · have := a.1.symm.trans b.1; omega
  · have := a.2.symm.trans b.2; omega
theorem RepM.ent (h : RepM M T) : ∃ E, EntA M E := by
  obtain ⟨-, -, -, -, -, -, -, -, -, ⟨E, e1, e2, e3, e4, e5⟩, -⟩ := h
  exact ⟨E, e1, e3⟩
theorem RepM.ent' (h : RepM M T) (hE : EntA M E) : E.length < tN T ∧ (∀ e ∈ E, e.1 < tN T ∧ e.2 < tN T) ∧ ∀ o, fl o E = tL T o := by
  obtain ⟨-, -, -, -, -, -, -, -, -, ⟨E', e1, e2, e3, e4, e5⟩, -⟩ := h
  have : E = E' := hE.uniq ⟨e1, e3⟩
  rw [this]
  exact ⟨e2, e4, e5⟩
/-- the lists anew -/
theorem RepM.reent (h : RepM M T) {M' : MS} {E' : List (Nat × Nat)} {l : Nat → List Nat} (h1 : ∀ k, k ≠ 16 → M'.1 k = M.1 k) (h2 : ∀ k, k ≠ 14 → k ≠ 15 → M'.2 k = M.2 k) (hE : EntA M' E') (hl : E'.length < tN T) (hm : ∀ e ∈ E', e.1 < tN T ∧ e.2 < tN T) (hf : ∀ o, fl o E' = l o) : RepM M' (setL T l) := by
  obtain ⟨h4, h5, h7, h13, h6, h8, h9, h10, h12, -, ⟨C, c1, c2, c3, c4⟩⟩ := h
  refine ⟨?_, ?_, ?_, ?_, ?_, ?_, ?_, ?_, ?_, ⟨E', hE.1, hl, hE.2, hm, hf⟩, ⟨C, ?_, c2, ?_, c4⟩⟩
  · rw [h1 _ (by omega)]; exact h4
  · rw [h1 _ (by omega)]; exact h5
  · rw [h1 _ (by omega)]; exact h7
  · rw [h1 _ (by omega)]; exact h13
  · rw [h2 _ (by omega) (by omega)]; exact h6
  · rw [h2 _ (by omega) (by omega)]; exact h8
  · rw [h2 _ (by omega) (by omega)]; exact h9
  · rw [h2 _ (by omega) (by omega)]; exact h10
  · rw [h2 _ (by omega) (by omega)]; exact h12
  · rw [h1 _ (by omega)]; exact c1
  · rw [h2 _ (by omega) (by omega), h2 _ (by omega) (by omega)]; exact c3
theorem m_push_eq (hR : RepM M T) (hW : WFb T) (i : Nat) : ∃ M', m_push M (i : Int) = some M' ∧ FM M M' ∧ (M'.1 16 = M.1 16 ∧ M'.2 14 = M.2 14 ∧ M'.2 15 = M.2 15) ∧ RepM M' (psh T i) := by
  obtain ⟨h4, h5, h7, h13, h6, h8, h9, h10, h12, ⟨E, e1, e2⟩, ⟨C, c1, c2⟩⟩ := hR
  obtain ⟨w1, w2, w3, w4, w5, w6, w7, -⟩ := hW
  refine ⟨sI (sA M 12 (tS T).length (i : Int)) 13 (((tS T).length : Int) + 1), ?_, ((FM.refl M).sA (by simp) _ _).sI (by simp) _, ?_, ?_⟩
  · unfold m_push
    simp (disch := omega) only [if_ltp, if_ltn, if_eqp, if_eqn, if_T, if_F, gd_zin, gd_isB0, gd_isB1, zix_toNat, Int.toNat_natCast, tn_a1, tn_a, tn_s1, tn_s, tn_m1, tn_l0, tn_l1, bnd_eq, obind_some, mr_some, sI_s, sI_n, sI_2, sA_1, sA_s, sA_i, sA_n, h4, h13]
  · refine ⟨?_, ?_, ?_⟩
    · simp (disch := omega) only [if_ltp, if_ltn, if_eqp, if_eqn, if_T, if_F, gd_zin, gd_isB0, gd_isB1, zix_toNat, Int.toNat_natCast, tn_a1, tn_a, tn_s1, tn_s, tn_m1, tn_l0, tn_l1, bnd_eq, obind_some, mr_some, sI_s, sI_n, sI_2, sA_1, sA_s, sA_i, sA_n]
    · funext j; simp (disch := omega) only [if_ltp, if_ltn, if_eqp, if_eqn, if_T, if_F, gd_zin, gd_isB0, gd_isB1, zix_toNat, Int.toNat_natCast, tn_a1, tn_a, tn_s1, tn_s, tn_m1, tn_l0, tn_l1, bnd_eq, obind_some, mr_some, sI_s, sI_n, sI_2, sA_1, sA_s, sA_i, sA_n]
    · funext j; simp (disch := omega) only [if_ltp, if_ltn, if_eqp, if_eqn, if_T, if_F, gd_zin, gd_isB0, gd_isB1, zix_toNat, Int.toNat_natCast, tn_a1, tn_a, tn_s1, tn_s, tn_m1, tn_l0, tn_l1, bnd_eq, obind_some, mr_some, sI_s, sI_n, sI_2, sA_1, sA_s, sA_i, sA_n]
  · refine ⟨?_, ?_, ?_, ?_, ?_, ?_, ?_, ?_, ?_, ⟨E, ?_, ?_⟩, ⟨C, ?_, ?_⟩⟩
    · simp (disch := omega) only [if_ltp, if_ltn, if_eqp, if_eqn, if_T, if_F, gd_zin, gd_isB0, gd_isB1, zix_toNat, Int.toNat_natCast, tn_a1, tn_a, tn_s1, tn_s, tn_m1, tn_l0, tn_l1, bnd_eq, obind_some, mr_some, sI_s, sI_n, sI_2, sA_1, sA_s, sA_i, sA_n]; exact h4
    · simp (disch := omega) only [if_ltp, if_ltn, if_eqp, if_eqn, if_T, if_F, gd_zin, gd_isB0, gd_isB1, zix_toNat, Int.toNat_natCast, tn_a1, tn_a, tn_s1, tn_s, tn_m1, tn_l0, tn_l1, bnd_eq, obind_some, mr_some, sI_s, sI_n, sI_2, sA_1, sA_s, sA_i, sA_n]; exact h5
    · simp (disch := omega) only [if_ltp, if_ltn, if_eqp, if_eqn, if_T, if_F, gd_zin, gd_isB0, gd_isB1, zix_toNat, Int.toNat_natCast, tn_a1, tn_a, tn_s1, tn_s, tn_m1, tn_l0, tn_l1, bnd_eq, obind_some, mr_some, sI_s, sI_n, sI_2, sA_1, sA_s, sA_i, sA_n]; exact h7
    · simp (disch := omega) only [if_ltp, if_ltn, if_eqp, if_eqn, if_T, if_F, gd_zin, gd_isB0, gd_isB1, zix_toNat, Int.toNat_natCast, tn_a1, tn_a, tn_s1, tn_s, tn_m1, tn_l0, tn_l1, bnd_eq, obind_some, mr_some, sI_s, sI_n, sI_2, sA_1, sA_s, sA_i, sA_n]; rw [tS_psh, List.length_append]; simp
    · simp (disch := omega) only [if_ltp, if_ltn, if_eqp, if_eqn, if_T, if_F, gd_zin, gd_isB0, gd_isB1, zix_toNat, Int.toNat_natCast, tn_a1, tn_a, tn_s1, tn_s, tn_m1, tn_l0, tn_l1, bnd_eq, obind_some, mr_some, sI_s, sI_n, sI_2, sA_1, sA_s, sA_i, sA_n]; exact h6
    · simp (disch := omega) only [if_ltp, if_ltn, if_eqp, if_eqn, if_T, if_F, gd_zin, gd_isB0, gd_isB1, zix_toNat, Int.toNat_natCast, tn_a1, tn_a, tn_s1, tn_s, tn_m1, tn_l0, tn_l1, bnd_eq, obind_some, mr_some, sI_s, sI_n, sI_2, sA_1, sA_s, sA_i, sA_n]; exact h8
    · simp (disch := omega) only [if_ltp, if_ltn, if_eqp, if_eqn, if_T, if_F, gd_zin, gd_isB0, gd_isB1, zix_toNat, Int.toNat_natCast, tn_a1, tn_a, tn_s1, tn_s, tn_m1, tn_l0, tn_l1, bnd_eq, obind_some, mr_some, sI_s, sI_n, sI_2, sA_1, sA_s, sA_i, sA_n]; exact h9
    · simp (disch := omega) only [if_ltp, if_ltn, if_eqp, if_eqn, if_T, if_F, gd_zin, gd_isB0, gd_isB1, zix_toNat, Int.toNat_natCast, tn_a1, tn_a, tn_s1, tn_s, tn_m1, tn_l0, tn_l1, bnd_eq, obind_some, mr_some, sI_s, sI_n, sI_2, sA_1, sA_s, sA_i, sA_n]; exact h10
    · intro k hk
      rw [tS_psh, List.length_append] at hk
      rw [tS_psh, sI_2]
      by_cases z : k = (tS T).length
      · rw [z, sA_s]; simp
      · rw [sA_i _ _ _ _ _ z, h12 k (by simp at hk; omega)]
        simp [List.getD, List.getElem?_append, show k < (tS T).length by simp at hk; omega]
    · simp (disch := omega) only [if_ltp, if_ltn, if_eqp, if_eqn, if_T, if_F, gd_zin, gd_isB0, gd_isB1, zix_toNat, Int.toNat_natCast, tn_a1, tn_a, tn_s1, tn_s, tn_m1, tn_l0, tn_l1, bnd_eq, obind_some, mr_some, sI_s, sI_n, sI_2, sA_1, sA_s, sA_i, sA_n]; exact e1
    · simp (disch := omega) only [if_ltp, if_ltn, if_eqp, if_eqn, if_T, if_F, gd_zin, gd_isB0, gd_isB1, zix_toNat, Int.toNat_natCast, tn_a1, tn_a, tn_s1, tn_s, tn_m1, tn_l0, tn_l1, bnd_eq, obind_some, mr_some, sI_s, sI_n, sI_2, sA_1, sA_s, sA_i, sA_n]; exact e2
    · simp (disch := omega) only [if_ltp, if_ltn, if_eqp, if_eqn, if_T, if_F, gd_zin, gd_isB0, gd_isB1, zix_toNat, Int.toNat_natCast, tn_a1, tn_a, tn_s1, tn_s, tn_m1, tn_l0, tn_l1, bnd_eq, obind_some, mr_some, sI_s, sI_n, sI_2, sA_1, sA_s, sA_i, sA_n]; exact c1
    · simp (disch := omega) only [if_ltp, if_ltn, if_eqp, if_eqn, if_T, if_F, gd_zin, gd_isB0, gd_isB1, zix_toNat, Int.toNat_natCast, tn_a1, tn_a, tn_s1, tn_s, tn_m1, tn_l0, tn_l1, bnd_eq, obind_some, mr_some, sI_s, sI_n, sI_2, sA_1, sA_s, sA_i, sA_n]; exact c2
theorem m_push_no {i : Int} (h : M.1 4 = 1) : m_push M i = some M := by
  unfold m_push
  simp (disch := omega) only [if_ltp, if_ltn, if_eqp, if_eqn, if_T, if_F, gd_zin, gd_isB0, gd_isB1, zix_toNat, Int.toNat_natCast, tn_a1, tn_a, tn_s1, tn_s, tn_m1, tn_l0, tn_l1, bnd_eq, obind_some, mr_some, sI_s, sI_n, sI_2, sA_1, sA_s, sA_i, sA_n, h]
/-- the first loop: behind the last that stands in the stack -/
def frmG (T : TS) (o : Nat) (E : List (Nat × Nat)) (g : Nat) : Nat := lastB (fun k => decide (1 ≤ k) && (decide ((E.getD (k - 1) (0, 0)).2 = o) && decide ((E.getD (k - 1) (0, 0)).1 ∈ tS T))) (g + 1)
theorem frmG_s (T : TS) (o : Nat) (E : List (Nat × Nat)) (g : Nat) : frmG T o E (g + 1) = if (E.getD g (0, 0)).2 = o ∧ (E.getD g (0, 0)).1 ∈ tS T then g + 1 else frmG T o E g := by
  unfold frmG
  rw [lastB_s]
  simp
theorem frm_cn {o : Nat} (hL : fl o E = tL T o) : ∀ g, g ≤ E.length → lastB (fun k => decide (1 ≤ k) && decide ((tL T o).getD (k - 1) 0 ∈ tS T)) (cn o E g + 1) = cn o E (frmG T o E g) ∧ frmG T o E g ≤ g
  | 0, _ => by
    have : frmG T o E 0 = 0 := by unfold frmG; simp [lastB]
    rw [this]
    simp [cn, fl, lastB]
  | g + 1, hg => by
    obtain ⟨h1, h2⟩ := frm_cn hL g (by omega)
    rw [cn_s (show g < E.length by omega)]
    by_cases ho : (E.getD g (0, 0)).2 = o
    · obtain ⟨c1, c2⟩ := cn_at (by omega) ho
      rw [if_pos ho, lastB_s]
      rw [hL] at c2
      simp only [Nat.add_sub_cancel]
      rw [c2]
      by_cases hm : (E.getD g (0, 0)).1 ∈ tS T
      · have hfs : frmG T o E (g + 1) = g + 1 := by rw [frmG_s, if_pos ⟨ho, hm⟩]
        rw [hfs, cn_s (show g < E.length by omega), if_pos ho, if_pos (by rw [show decide ((E.getD g (0, 0)).1 ∈ tS T) = true from decide_eq_true hm]; simp)]
        exact ⟨rfl, Nat.le_refl _⟩
      · have hfs : frmG T o E (g + 1) = frmG T o E g := by rw [frmG_s, if_neg (fun q => hm q.2)]
        rw [hfs]
        simp only [hm, decide_false, Bool.and_false, Bool.false_eq_true, if_false]
        exact ⟨h1, by omega⟩
    · have hfs : frmG T o E (g + 1) = frmG T o E g := by rw [frmG_s, if_neg (fun q => ho q.1)]
      rw [if_neg ho, hfs]
      exact ⟨h1, by omega⟩
theorem m_renew_loop2 (o : Nat) : ∀ (n g : Nat) (M : MS) (T : TS) (E : List (Nat × Nat)) (d : Nat), E.length - g = n → g ≤ E.length → RepM M T → WF T → EntA M E → o < tN T → (tL T o).length ≤ cn o E g + d → ∃ M', m_renew_52 M (o : Int) (g : Int) = some M' ∧ OutM M (renewF o d (cn o E g) T) M' := by
  intro n
  induction n with
  | zero =>
    intro g M T E d hn hg hR hW hE ho hd
    have hge : g = E.length := by omega
    have hl := (hR.ent' hE)
    have hw1 := hW.1.2.1
    refine ⟨M, ?_, FM.refl M, ?_⟩
    · refine iter_out ?_
      simp only [m_renew_52s]
      simp (disch := omega) only [if_ltp, if_ltn, if_eqp, if_eqn, if_T, if_F, gd_zin, gd_isB0, gd_isB1, zix_toNat, Int.toNat_natCast, tn_a1, tn_a, tn_s1, tn_s, tn_m1, tn_l0, tn_l1, bnd_eq, obind_some, mr_some, sI_s, sI_n, sI_2, sA_1, sA_s, sA_i, sA_n, hE.1]
    · have hc : ¬ cn o E g < (tL T o).length := by
        have := hl.2.2 o
        have h2 := cn_all o E
        rw [hge, h2, this]; omega
      cases d with
      | zero => exact hR
      | succ d =>
        unfold renewF
        rw [if_neg hc]
        exact hR
  | succ n ih =>
    intro g M T E d hn hg hR hW hE ho hd
    have hgl : g < E.length := by omega
    obtain ⟨hl1, hl2, hl3⟩ := hR.ent' hE
    have hw1 := hW.1.2.1
    have hEg := hE.2 g hgl
    have hmem : E.getD g (0, 0) ∈ E := by rw [gD hgl]; exact List.getElem_mem _
    have hlt := hl2 _ hmem
    have h16 := hE.1
    have h4 : M.1 4 = 0 := hR.1
    by_cases hog : (E.getD g (0, 0)).2 = o
    · -- one of the owner's
      obtain ⟨c1, c2⟩ := cn_at hgl hog
      rw [hl3 o] at c1 c2
      obtain ⟨d, rfl⟩ : ∃ d', d = d' + 1 := ⟨d - 1, by omega⟩
      have hlen := hW.len
      have h13 : M.1 13 = ((tS T).length : Int) := hR.2.2.2.1
      have hfp := m_findPlace_eq hR hW.b hlen (Nat.le_refl _)
      have hRp := hR.place ((plc T (tS T).length).1 : Nat) ((plc T (tS T).length).2.1 : Nat)
      have h8 : M.2 8 (E.getD g (0, 0)).1 = tM T (E.getD g (0, 0)).1 := hR.2.2.2.2.2.1 _ hlt.1
      have h9 : M.2 9 (E.getD g (0, 0)).1 = tC T (E.getD g (0, 0)).1 := hR.2.2.2.2.2.2.1 _ hlt.1
      have hstep : m_renew_52s M (o : Int) (g : Int) = Option.bind (m_create (sI (sI M 20 ((plc T (tS T).length).1 : Nat)) 21 ((plc T (tS T).length).2.1 : Nat)) (tM T (E.getD g (0, 0)).1) (tC T (E.getD g (0, 0)).1)) (fun y5 => Option.bind (m_push y5.1 y5.2) (fun y6 => some (.inl (sA y6 14 g y5.2, (g : Int) + 1)))) := by
        simp only [m_renew_52s, m_renew_127]
        simp (disch := omega) only [if_ltp, if_ltn, if_eqp, if_eqn, if_T, if_F, gd_zin, gd_isB0, gd_isB1, zix_toNat, Int.toNat_natCast, tn_a1, tn_a, tn_s1, tn_s, tn_m1, tn_l0, tn_l1, bnd_eq, obind_some, mr_some, sI_s, sI_n, sI_2, sA_1, sA_s, sA_i, sA_n, h16, h4, hEg.1, hEg.2, hog, h13, hfp, h8, h9]
      unfold renewF
      rw [if_pos c1, c2]
      by_cases hnn : tN T = 24
      · rw [mkN_none hnn]
        refine ⟨sA (sI (sI (sI M 20 ((plc T (tS T).length).1 : Nat)) 21 ((plc T (tS T).length).2.1 : Nat)) 4 1) 14 g 0, ?_, ?_, ?_⟩
        · rw [m_create_none hRp _ _ hnn, obind_some, m_push_no (by simp (disch := omega) only [if_ltp, if_ltn, if_eqp, if_eqn, if_T, if_F, gd_zin, gd_isB0, gd_isB1, zix_toNat, Int.toNat_natCast, tn_a1, tn_a, tn_s1, tn_s, tn_m1, tn_l0, tn_l1, bnd_eq, obind_some, mr_some, sI_s, sI_n, sI_2, sA_1, sA_s, sA_i, sA_n]), obind_some] at hstep
          show iter _ _ = _
          rw [iter_in hstep]
          refine iter_out ?_
          simp only [m_renew_52s]
          by_cases hl : g + 1 < E.length
          · simp (disch := omega) only [if_ltp, if_ltn, if_eqp, if_eqn, if_T, if_F, gd_zin, gd_isB0, gd_isB1, zix_toNat, Int.toNat_natCast, tn_a1, tn_a, tn_s1, tn_s, tn_m1, tn_l0, tn_l1, bnd_eq, obind_some, mr_some, sI_s, sI_n, sI_2, sA_1, sA_s, sA_i, sA_n, h16]
          · simp (disch := omega) only [if_ltp, if_ltn, if_eqp, if_eqn, if_T, if_F, gd_zin, gd_isB0, gd_isB1, zix_toNat, Int.toNat_natCast, tn_a1, tn_a, tn_s1, tn_s, tn_m1, tn_l0, tn_l1, bnd_eq, obind_some, mr_some, sI_s, sI_n, sI_2, sA_1, sA_s, sA_i, sA_n, h16]
        · exact (((((FM.refl M).sI (by simp) _).sI (by simp) _).sI (by simp) _)).sA (by simp) _ _
        · show (sA _ _ _ _).1 4 = 1
          simp (disch := omega) only [if_ltp, if_ltn, if_eqp, if_eqn, if_T, if_F, gd_zin, gd_isB0, gd_isB1, zix_toNat, Int.toNat_natCast, tn_a1, tn_a, tn_s1, tn_s, tn_m1, tn_l0, tn_l1, bnd_eq, obind_some, mr_some, sI_s, sI_n, sI_2, sA_1, sA_s, sA_i, sA_n]
      · rw [mkN_some hnn]
        obtain ⟨hpl, -⟩ := hW.place hlen (Nat.le_refl _)
        have hw2 := hW.mk hnn hpl (x := tM T (E.getD g (0, 0)).1) (c := tC T (E.getD g (0, 0)).1) (by
          have hml : (E.getD g (0, 0)).1 ∈ tL T o := by rw [← c2, gD c1]; exact List.getElem_mem _
          have := fmt_nm (hW.2.2.2.1 o _ hml).2
          unfold nmI
          omega) (hW.kid hlen (Nat.le_refl _) _)
        have hw3 := hW.again hnn ho c1
        rw [c2] at hw3
        obtain ⟨M1, a1, a2, a3, a4⟩ := m_create_some hRp ⟨hW.1.2.1, hW.1.2.2.1⟩ (tM T (E.getD g (0, 0)).1) (tC T (E.getD g (0, 0)).1) (plc T (tS T).length) hnn (plc_le hW.b hlen (Nat.le_refl _)).1 (by simp (disch := omega) only [if_ltp, if_ltn, if_eqp, if_eqn, if_T, if_F, gd_zin, gd_isB0, gd_isB1, zix_toNat, Int.toNat_natCast, tn_a1, tn_a, tn_s1, tn_s, tn_m1, tn_l0, tn_l1, bnd_eq, obind_some, mr_some, sI_s, sI_n, sI_2, sA_1, sA_s, sA_i, sA_n]) (by simp (disch := omega) only [if_ltp, if_ltn, if_eqp, if_eqn, if_T, if_F, gd_zin, gd_isB0, gd_isB1, zix_toNat, Int.toNat_natCast, tn_a1, tn_a, tn_s1, tn_s, tn_m1, tn_l0, tn_l1, bnd_eq, obind_some, mr_some, sI_s, sI_n, sI_2, sA_1, sA_s, sA_i, sA_n]) (hW.2.2.2.2.2 _ (Nat.le_refl _)).1 (hW.2.2.2.2.2 _ (Nat.le_refl _)).2
        obtain ⟨M2, b1, b2, b3, b4⟩ := m_push_eq a4 hw2.b (tN T)
        have hfm2 : FM M M2 := (((FM.refl M).sI (by simp) _).sI (by simp) _).trans (a2.trans b2)
        have hE2 : EntA M2 E := by
          refine ⟨?_, fun k hk => ?_⟩
          · rw [b3.1, a3.1]; simp (disch := omega) only [if_ltp, if_ltn, if_eqp, if_eqn, if_T, if_F, gd_zin, gd_isB0, gd_isB1, zix_toNat, Int.toNat_natCast, tn_a1, tn_a, tn_s1, tn_s, tn_m1, tn_l0, tn_l1, bnd_eq, obind_some, mr_some, sI_s, sI_n, sI_2, sA_1, sA_s, sA_i, sA_n]; exact h16
          · rw [b3.2.1, a3.2.1, b3.2.2, a3.2.2]
            exact hE.2 k hk
        obtain ⟨f1, f2, f3⟩ := b4.ent' hE2
        have hE3 : EntA (sA M2 14 g (tN T : Int)) (E.set g (tN T, o)) := by
          refine ⟨?_, fun k hk => ?_⟩
          · rw [sA_1, List.length_set]; exact hE2.1
          · rw [List.length_set] at hk
            by_cases z : k = g
            · rw [z]
              constructor
              · rw [sA_s]; simp [List.getD, hgl]
              · rw [sA_n _ _ _ _ _ _ (by omega), (hE2.2 g hgl).2, hog]; simp [List.getD, hgl]
            · have : (E.set g (tN T, o)).getD k (0, 0) = E.getD k (0, 0) := by simp [List.getD, List.getElem?_set, Ne.symm z]
              rw [this, sA_i _ _ _ _ _ z, sA_n _ _ _ _ _ _ (by omega)]
              exact hE2.2 k hk
        have hR3 : RepM (sA M2 14 g (tN T : Int)) (setL (psh (mkT T (tM T (E.getD g (0, 0)).1) (tC T (E.getD g (0, 0)).1) (plc T (tS T).length)) (tN T)) (va_up (va_up (tL T) (tN T) []) o ((va_up (tL T) (tN T) [] o).set (cn o E g) (tN T)))) := by
          refine b4.reent (fun k _ => rfl) (fun k k1 k2 => sA_f _ _ _ _ _ k1) hE3 (by rw [List.length_set]; exact f1) (fun e he => ?_) (fun o' => ?_)
          · rcases List.mem_or_eq_of_mem_set he with z | z
            · exact f2 e z
            · rw [z, tN_psh, tN_mkT]
              exact ⟨by show tN T < tN T + 1; omega, by show o < tN T + 1; omega⟩
          · by_cases z : o' = o
            · rw [z, va_up_s, fl_set hgl hog, f3 o, tL_psh, tL_mkT]
            · rw [va_up_n _ _ _ _ z, fl_set_ne hgl hog z, f3 o', tL_psh, tL_mkT]
        have hcn : cn o (E.set g (tN T, o)) (g + 1) = cn o E g + 1 := by
          rw [cn_s (by rw [List.length_set]; exact hgl)]
          have e9 : (E.set g (tN T, o)).getD g (0, 0) = (tN T, o) := by simp [List.getD, hgl]
          rw [e9, if_pos rfl]
          unfold cn
          rw [List.take_set_of_le (Nat.le_refl g)]
        have hih := ih (g + 1) (sA M2 14 g (tN T : Int)) _ (E.set g (tN T, o)) d (by rw [List.length_set]; omega) (by rw [List.length_set]; omega) hR3 hw3 hE3 (by rw [tN_setL, tN_psh, tN_mkT]; omega) (by
          rw [hcn, tL_setL, va_up_s, List.length_set, va_up_n _ _ _ _ (by omega)]; omega)
        obtain ⟨M4, i1, i2, i3⟩ := hih
        rw [hcn] at i3
        refine ⟨M4, ?_, (hfm2.sA (by simp) _ _).trans i2, i3⟩
        rw [a1, obind_some, b1, obind_some] at hstep
        show iter _ _ = _
        rw [iter_in hstep]
        exact i1
    · have hcn : cn o E (g + 1) = cn o E g := by rw [cn_s hgl, if_neg hog]
      have hih := ih (g + 1) M T E d (by omega) (by omega) hR hW hE ho (by rw [hcn]; exact hd)
      rw [hcn] at hih
      obtain ⟨M4, i1, i2⟩ := hih
      refine ⟨M4, ?_, i2⟩
      have hstep : m_renew_52s M (o : Int) (g : Int) = some (.inl (M, (g : Int) + 1)) := by
        have hne : (((E.getD g (0, 0)).2 : Nat) : Int) ≠ (o : Int) := by omega
        simp only [m_renew_52s, m_renew_127]
        simp (disch := omega) only [if_ltp, if_ltn, if_eqp, if_eqn, if_T, if_F, gd_zin, gd_isB0, gd_isB1, zix_toNat, Int.toNat_natCast, tn_a1, tn_a, tn_s1, tn_s, tn_m1, tn_l0, tn_l1, bnd_eq, obind_some, mr_some, sI_s, sI_n, sI_2, sA_1, sA_s, sA_i, sA_n, h16, h4, hEg.1, hEg.2]
      show iter _ _ = _
      rw [iter_in hstep]
      exact i1
theorem m_renew_eq (hR : RepM M T) (hW : WF T) : ∃ M', m_renew M = some M' ∧ OutM M (tRenew T) M' := by
  obtain ⟨E, hE⟩ := hR.ent
  obtain ⟨hl1, hl2, hl3⟩ := hR.ent' hE
  have hw1 := hW.1.2.1
  have ho := hW.ownr_lt
  have h16 := hE.1
  obtain ⟨f1, f2⟩ := frm_cn (hl3 (ownr T)) E.length (Nat.le_refl _)
  rw [cn_all, hl3] at f1
  have h2 := m_renew_loop2 (ownr T) (E.length - frmG T (ownr T) E E.length) (frmG T (ownr T) E E.length) M T E (tL T (ownr T)).length rfl f2 hR hW hE ho (by omega)
  obtain ⟨M', a1, a2⟩ := h2
  refine ⟨M', ?_, by unfold tRenew frm; rw [f1]; exact a2⟩
  unfold m_renew
  rw [m_listOwner_eq hR hW.b, obind_some]
  refine loopU (fun g => (((frmG T (ownr T) E g : Nat) : Int), (g : Int))) 0 E.length rfl (Nat.zero_le _) (fun g g1 g2 => ?_) ?_
  · have hEg := hE.2 g g2
    have hmem : E.getD g (0, 0) ∈ E := by rw [gD g2]; exact List.getElem_mem _
    have hlt := hl2 _ hmem
    simp only [m_renew_9s, m_renew_44]
    have hfg := (frm_cn (hl3 (ownr T)) g (by omega)).2
    by_cases hog : (E.getD g (0, 0)).2 = ownr T
    · have hop := m_opened_eq hR hW.b hlt.1
      by_cases hm : (E.getD g (0, 0)).1 ∈ tS T
      · have hfs : frmG T (ownr T) E (g + 1) = g + 1 := by rw [frmG_s, if_pos ⟨hog, hm⟩]
        rw [hfs]
        rw [if_pos hm] at hop
        have hix := List.idxOf_lt_length_of_mem hm
        have hl24 := hW.b.2.2.2.2.1
        simp (disch := omega) only [if_ltp, if_ltn, if_eqp, if_eqn, if_T, if_F, gd_zin, gd_isB0, gd_isB1, zix_toNat, Int.toNat_natCast, tn_a1, tn_a, tn_s1, tn_s, tn_m1, tn_l0, tn_l1, bnd_eq, obind_some, mr_some, sI_s, sI_n, sI_2, sA_1, sA_s, sA_i, sA_n, h16, hEg.1, hEg.2, hog, hop]
        rfl
      · have hfs : frmG T (ownr T) E (g + 1) = frmG T (ownr T) E g := by rw [frmG_s, if_neg (fun q => hm q.2)]
        rw [hfs]
        rw [if_neg hm] at hop
        simp (disch := omega) only [if_ltp, if_ltn, if_eqp, if_eqn, if_T, if_F, gd_zin, gd_isB0, gd_isB1, zix_toNat, Int.toNat_natCast, tn_a1, tn_a, tn_s1, tn_s, tn_m1, tn_l0, tn_l1, bnd_eq, obind_some, mr_some, sI_s, sI_n, sI_2, sA_1, sA_s, sA_i, sA_n, h16, hEg.1, hEg.2, hog, hop]
        rfl
    · have hne : (((E.getD g (0, 0)).2 : Nat) : Int) ≠ ((ownr T : Nat) : Int) := by omega
      have hfs : frmG T (ownr T) E (g + 1) = frmG T (ownr T) E g := by rw [frmG_s, if_neg (fun q => hog q.1)]
      rw [hfs]
      simp (disch := omega) only [if_ltp, if_ltn, if_eqp, if_eqn, if_T, if_F, gd_zin, gd_isB0, gd_isB1, zix_toNat, Int.toNat_natCast, tn_a1, tn_a, tn_s1, tn_s, tn_m1, tn_l0, tn_l1, bnd_eq, obind_some, mr_some, sI_s, sI_n, sI_2, sA_1, sA_s, sA_i, sA_n, h16, hEg.1, hEg.2]
      rfl
  · simp only [m_renew_9s, m_renew_50]
    simp (disch := omega) only [if_ltp, if_ltn, if_eqp, if_eqn, if_T, if_F, gd_zin, gd_isB0, gd_isB1, zix_toNat, Int.toNat_natCast, tn_a1, tn_a, tn_s1, tn_s, tn_m1, tn_l0, tn_l1, bnd_eq, obind_some, mr_some, sI_s, sI_n, sI_2, sA_1, sA_s, sA_i, sA_n, h16]
    rw [a1]
    rfl
end MT
