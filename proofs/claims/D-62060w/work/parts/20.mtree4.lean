/-! the reference: closing, listing, start tags -/
set_option maxRecDepth 100000
section MT
variable {M : MS} {T : TS} {E : List (Nat × Nat)}
theorem RepM.close (hR : RepM M T) {n : Nat} (hn : n ≤ (tS T).length) : RepM (sI M 13 (n : Int)) (setS T ((tS T).take n)) := by
  obtain ⟨h4, h5, h7, h13, h6, h8, h9, h10, h12, ⟨E, e1, e2⟩, ⟨C, c1, c2⟩⟩ := hR
  refine ⟨?_, ?_, ?_, ?_, h6, h8, h9, h10, ?_, ⟨E, ?_, e2⟩, ⟨C, ?_, c2⟩⟩
  · simp (disch := omega) only [if_ltp, if_ltn, if_eqp, if_eqn, if_T, if_F, gd_zin, gd_isB0, gd_isB1, zix_toNat, Int.toNat_natCast, tn_a1, tn_a, tn_s1, tn_s, tn_m1, tn_l0, tn_l1, bnd_eq, obind_some, mr_some, sI_s, sI_n, sI_2, sA_1, sA_s, sA_i, sA_n]; exact h4
  · simp (disch := omega) only [if_ltp, if_ltn, if_eqp, if_eqn, if_T, if_F, gd_zin, gd_isB0, gd_isB1, zix_toNat, Int.toNat_natCast, tn_a1, tn_a, tn_s1, tn_s, tn_m1, tn_l0, tn_l1, bnd_eq, obind_some, mr_some, sI_s, sI_n, sI_2, sA_1, sA_s, sA_i, sA_n]; exact h5
  · simp (disch := omega) only [if_ltp, if_ltn, if_eqp, if_eqn, if_T, if_F, gd_zin, gd_isB0, gd_isB1, zix_toNat, Int.toNat_natCast, tn_a1, tn_a, tn_s1, tn_s, tn_m1, tn_l0, tn_l1, bnd_eq, obind_some, mr_some, sI_s, sI_n, sI_2, sA_1, sA_s, sA_i, sA_n]; exact h7
  · simp (disch := omega) only [if_ltp, if_ltn, if_eqp, if_eqn, if_T, if_F, gd_zin, gd_isB0, gd_isB1, zix_toNat, Int.toNat_natCast, tn_a1, tn_a, tn_s1, tn_s, tn_m1, tn_l0, tn_l1, bnd_eq, obind_some, mr_some, sI_s, sI_n, sI_2, sA_1, sA_s, sA_i, sA_n]; rw [tS_setS, List.length_take, Nat.min_eq_left hn]
  · intro k hk
    rw [tS_setS, List.length_take, Nat.min_eq_left hn] at hk
    rw [tS_setS, getD_take' hk]
    exact h12 k (by omega)
  · simp (disch := omega) only [if_ltp, if_ltn, if_eqp, if_eqn, if_T, if_F, gd_zin, gd_isB0, gd_isB1, zix_toNat, Int.toNat_natCast, tn_a1, tn_a, tn_s1, tn_s, tn_m1, tn_l0, tn_l1, bnd_eq, obind_some, mr_some, sI_s, sI_n, sI_2, sA_1, sA_s, sA_i, sA_n]; exact e1
  · simp (disch := omega) only [if_ltp, if_ltn, if_eqp, if_eqn, if_T, if_F, gd_zin, gd_isB0, gd_isB1, zix_toNat, Int.toNat_natCast, tn_a1, tn_a, tn_s1, tn_s, tn_m1, tn_l0, tn_l1, bnd_eq, obind_some, mr_some, sI_s, sI_n, sI_2, sA_1, sA_s, sA_i, sA_n]; exact c1
/-- closing down to an element that is reached -/
theorem m_close_eq (hR : RepM M T) (hW : WF T) (x : Int) (hx : nmOK x) {mask : Int} {l : List Int} (hm : MK mask l) {β : Type} (K : MS → Option β) : ∃ M', FM M M' ∧ RepM M' (cls T (rch T x l)) ∧ Option.bind (m_reach M x mask) (fun y3 => if zI y3 = zI 0 then K M else Option.bind (m_topmost M x) (fun y4 => bnd (sI M 13 y4) (fun M5 => K M5))) = K M' := by
  obtain ⟨r1, r2⟩ := m_reach_eq hR hW.b x hx hm
  have ht := topm_lt hW.b x
  by_cases h0 : rch T x l = 0
  · refine ⟨M, FM.refl M, by rw [h0]; exact hR, ?_⟩
    rw [r1, if_pos h0]
    simp (disch := omega) only [if_ltp, if_ltn, if_eqp, if_eqn, if_T, if_F, gd_zin, gd_isB0, gd_isB1, zix_toNat, Int.toNat_natCast, tn_a1, tn_a, tn_s1, tn_s, tn_m1, tn_l0, tn_l1, bnd_eq, obind_some, mr_some, sI_s, sI_n, sI_2, sA_1, sA_s, sA_i, sA_n]
  · have h1 := r2 h0
    refine ⟨sI M 13 ((rch T x l : Nat) : Int), (FM.refl M).sI (by simp) _, ?_, ?_⟩
    · unfold cls
      rw [if_neg h0]
      exact hR.close (by omega)
    · rw [r1, if_neg h0, m_topmost_eq hR hW.b x hx, ← h1, zlast_p h0]
      simp (disch := omega) only [if_ltp, if_ltn, if_eqp, if_eqn, if_T, if_F, gd_zin, gd_isB0, gd_isB1, zix_toNat, Int.toNat_natCast, tn_a1, tn_a, tn_s1, tn_s, tn_m1, tn_l0, tn_l1, bnd_eq, obind_some, mr_some, sI_s, sI_n, sI_2, sA_1, sA_s, sA_i, sA_n]
def sG (M : MS) (n : Int) (g h : Nat → Int) : MS := (va_up M.1 16 n, fun a => if a = 14 then g else if a = 15 then h else M.2 a)
def shF (a k : Nat) (f : Nat → Int) : Nat → Int := fun i => if a ≤ i ∧ i < k then f (i + 1) else f i
theorem shF_a (a : Nat) (f : Nat → Int) : shF a a f = f := by funext i; unfold shF; rw [if_neg (by omega)]
theorem shF_ge {a k i : Nat} (f : Nat → Int) (h : k ≤ i) : shF a k f i = f i := by unfold shF; rw [if_neg (by omega)]
theorem shF_in {a k i : Nat} (f : Nat → Int) (h1 : a ≤ i) (h2 : i < k) : shF a k f i = f (i + 1) := by unfold shF; rw [if_pos ⟨h1, h2⟩]
theorem shF_lo {a k i : Nat} (f : Nat → Int) (h1 : i < a) : shF a k f i = f i := by unfold shF; rw [if_neg (by omega)]
theorem shF_s {a k : Nat} (f : Nat → Int) (h : a ≤ k) : va_up (shF a k f) k (f (k + 1)) = shF a (k + 1) f := by
  funext i
  by_cases e : i = k
  · rw [e, va_up_s, shF_in f h (by omega)]
  · rw [va_up_n _ _ _ _ e]
    unfold shF
    by_cases q : a ≤ i ∧ i < k
    · rw [if_pos q, if_pos (by omega)]
    · rw [if_neg q, if_neg (by omega)]
theorem sG_1 (M : MS) (n : Int) (g h : Nat → Int) : (sG M n g h).1 16 = n := by simp [sG, va_up]
theorem sG_14 (M : MS) (n : Int) (g h : Nat → Int) : (sG M n g h).2 14 = g := by simp [sG]
theorem sG_15 (M : MS) (n : Int) (g h : Nat → Int) : (sG M n g h).2 15 = h := by simp [sG]
theorem sG_0 (M : MS) (n : Int) : sI M 16 n = sG M n (M.2 14) (M.2 15) := by
  refine Prod.ext rfl ?_
  funext b
  simp only [sI_2, sG]
  split
  · next q => rw [q]
  · split
    · next q => rw [q]
    · rfl
theorem sG_A14 (M : MS) (n : Int) (g h : Nat → Int) (i : Nat) (v : Int) : sA (sG M n g h) 14 i v = sG M n (va_up g i v) h := by
  refine Prod.ext rfl ?_
  funext b
  show va_up (sG M n g h).2 14 (va_up ((sG M n g h).2 14) i v) b = _
  rw [sG_14]
  by_cases q : b = 14
  · rw [q, va_up_s, sG_14]
  · rw [va_up_n _ _ _ _ q]
    simp [sG, q]
theorem sG_A15 (M : MS) (n : Int) (g h : Nat → Int) (i : Nat) (v : Int) : sA (sG M n g h) 15 i v = sG M n g (va_up h i v) := by
  refine Prod.ext rfl ?_
  funext b
  show va_up (sG M n g h).2 15 (va_up ((sG M n g h).2 15) i v) b = _
  rw [sG_15]
  by_cases q : b = 15
  · rw [q, va_up_s, sG_15]
  · rw [va_up_n _ _ _ _ q]
    simp [sG, q]
theorem m_dropEntry_eq (hE : EntA M E) (hl : E.length < 40) {a : Nat} (ha : a < E.length) : ∃ M', m_dropEntry M (a : Int) = some M' ∧ FM M M' ∧ EntA M' (E.take a ++ E.drop (a + 1)) ∧ (∀ k, k ≠ 16 → M'.1 k = M.1 k) ∧ ∀ k, k ≠ 14 → k ≠ 15 → M'.2 k = M.2 k := by
  have h16 := hE.1
  refine ⟨sG M ((E.length : Int) - 1) (shF a (E.length - 1) (M.2 14)) (shF a (E.length - 1) (M.2 15)), ?_, ?_, ?_, ?_, ?_⟩
  · unfold m_dropEntry
    rw [bnd_eq, h16]
    refine loopUs (fun k => (sG M ((E.length : Int) - 1) (shF a k (M.2 14)) (shF a k (M.2 15)), (k : Int))) a (E.length - 1) ?_ (by omega) (fun k k1 k2 => ?_) ?_
    · rw [shF_a, shF_a, sG_0]
    · simp only [m_dropEntry_12s]
      simp (disch := omega) only [if_ltp, if_ltn, if_eqp, if_eqn, if_T, if_F, gd_zin, gd_isB0, gd_isB1, zix_toNat, Int.toNat_natCast, tn_a1, tn_a, tn_s1, tn_s, tn_m1, tn_l0, tn_l1, bnd_eq, obind_some, mr_some, sI_s, sI_n, sI_2, sA_1, sA_s, sA_i, sA_n, sG_1, sG_14, sG_15, sG_A14, sG_A15, shF_ge]
      rw [shF_s _ k1, shF_s _ k1]
      rfl
    · simp only [m_dropEntry_12s]
      simp (disch := omega) only [if_ltp, if_ltn, if_eqp, if_eqn, if_T, if_F, gd_zin, gd_isB0, gd_isB1, zix_toNat, Int.toNat_natCast, tn_a1, tn_a, tn_s1, tn_s, tn_m1, tn_l0, tn_l1, bnd_eq, obind_some, mr_some, sI_s, sI_n, sI_2, sA_1, sA_s, sA_i, sA_n, sG_1]
  · refine ⟨fun k hk => va_up_n _ _ _ _ (fun q => hk (by rw [q]; simp)), fun k hk => ?_⟩
    have k1 : ¬ k = 14 := fun q => hk (by rw [q]; simp)
    have k2 : ¬ k = 15 := fun q => hk (by rw [q]; simp)
    simp only [sG]
    rw [if_neg k1, if_neg k2]
  · have hlen : (E.take a ++ E.drop (a + 1)).length = E.length - 1 := by simp; omega
    refine ⟨?_, fun k hk => ?_⟩
    · rw [hlen, sG_1]; omega
    · rw [hlen] at hk
      have hg : (E.take a ++ E.drop (a + 1)).getD k (0, 0) = if a ≤ k then E.getD (k + 1) (0, 0) else E.getD k (0, 0) := by
        simp only [List.getD, List.getElem?_append, List.length_take, Nat.min_eq_left (show a ≤ E.length by omega)]
        by_cases q : k < a
        · rw [if_pos q, if_neg (by omega), List.getElem?_take, if_pos q]
        · rw [if_neg q, if_pos (by omega), List.getElem?_drop, show a + 1 + (k - a) = k + 1 by omega]
      rw [hg, sG_14, sG_15]
      by_cases q : a ≤ k
      · rw [shF_in _ q hk, shF_in _ q hk, if_pos q]
        exact hE.2 (k + 1) (by omega)
      · rw [shF_lo _ (by omega), shF_lo _ (by omega), if_neg q]
        exact hE.2 k (by omega)
  · exact fun k hk => va_up_n _ _ _ _ hk
  · intro k k1 k2
    simp only [sG]
    rw [if_neg k1, if_neg k2]
theorem fl_drop {o : Nat} {g : Nat} (h : g < E.length) (ho : (E.getD g (0, 0)).2 = o) (o' : Nat) : fl o' (E.take g ++ E.drop (g + 1)) = if o' = o then (fl o E).take (cn o E g) ++ (fl o E).drop (cn o E g + 1) else fl o' E := by
  have e := split_at (d := (0, 0)) h
  have e2 : ∀ q, fl q E = fl q (E.take g) ++ fl q ([E.getD g (0, 0)]) ++ fl q (E.drop (g + 1)) := fun q => by
    conv => lhs; rw [e]
    rw [fl_app, ← List.singleton_append, fl_app, List.append_assoc]
  rw [fl_app]
  by_cases z : o' = o
  · rw [if_pos z, e2 o, z, fl_c, if_pos ho, fl_nil]
    unfold cn
    simp
  · rw [if_neg z, e2 o', fl_c, if_neg (by rw [ho]; exact Ne.symm z), fl_nil]
    simp
theorem m_list_eq (hR : RepM M T) (hW : WF T) {i o : Nat} (hi : i < tN T) (ho : o < tN T) (hsp : ∀ E, EntA M E → E.length + 1 < tN T) : ∃ M', m_list M (i : Int) (o : Int) = some M' ∧ FM M M' ∧ RepM M' (addL T o i) := by
  obtain ⟨E, hE⟩ := hR.ent
  obtain ⟨hl1, hl2, hl3⟩ := hR.ent' hE
  have hsp' := hsp E hE
  have hw1 := hW.1.2.1
  have h16 := hE.1
  -- the last part: one more entry
  have hadd : ∀ (M1 : MS) (E1 : List (Nat × Nat)), EntA M1 E1 → E1.length ≤ E.length → (∀ e ∈ E1, e ∈ E) → (∀ k, k ≠ 16 → M1.1 k = M.1 k) → (∀ k, k ≠ 14 → k ≠ 15 → M1.2 k = M.2 k) → FM M M1 → (∀ o', fl o' E1 = if o' = o then (if (tL T o).length = 4 then (tL T o).drop 1 else tL T o) else tL T o') → ∃ M', m_list_74 M1 (i : Int) (o : Int) = some M' ∧ FM M M' ∧ RepM M' (addL T o i) := by
    intro M1 E1 a1 a2 a2' a3 a4 a5 a6
    refine ⟨sI (sA (sA M1 14 E1.length (i : Int)) 15 E1.length (o : Int)) 16 ((E1.length : Int) + 1), ?_, ((a5.sA (by simp) _ _).sA (by simp) _ _).sI (by simp) _, ?_⟩
    · unfold m_list_74
      simp (disch := omega) only [if_ltp, if_ltn, if_eqp, if_eqn, if_T, if_F, gd_zin, gd_isB0, gd_isB1, zix_toNat, Int.toNat_natCast, tn_a1, tn_a, tn_s1, tn_s, tn_m1, tn_l0, tn_l1, bnd_eq, obind_some, mr_some, sI_s, sI_n, sI_2, sA_1, sA_s, sA_i, sA_n, a1.1]
    · refine hR.reent (E' := E1 ++ [(i, o)]) (fun k hk => ?_) (fun k k1 k2 => ?_) ⟨?_, fun k hk => ?_⟩ ?_ (fun e he => ?_) (fun o' => ?_)
      · rw [sI_n _ _ _ _ hk]; exact a3 k hk
      · rw [sI_2, sA_f _ _ _ _ _ k2, sA_f _ _ _ _ _ k1]; exact a4 k k1 k2
      · rw [sI_s, List.length_append]; simp
      · rw [List.length_append] at hk
        rw [sI_2]
        by_cases z : k = E1.length
        · rw [z, sA_n _ _ _ _ _ _ (by omega), sA_s, sA_s]
          simp
        · have hk2 : k < E1.length := by simp at hk; omega
          rw [sA_n _ _ _ _ _ _ (by omega), sA_i _ _ _ _ _ z, sA_i _ _ _ _ _ z, sA_n _ _ _ _ _ _ (by omega)]
          have : (E1 ++ [(i, o)]).getD k (0, 0) = E1.getD k (0, 0) := by simp [List.getD, List.getElem?_append, hk2]
          rw [this]
          exact a1.2 k hk2
      · rw [List.length_append]; simp; omega
      · rcases List.mem_append.mp he with z | z
        · exact hl2 e (a2' e z)
        · simp at z
          rw [z]; exact ⟨hi, ho⟩
      · rw [fl_app, a6, fl_c, fl_nil]
        by_cases z : o' = o
        · rw [z, va_up_s, if_pos rfl, if_pos rfl]
        · rw [va_up_n _ _ _ _ z, if_neg z, if_neg (Ne.symm z)]; simp
  unfold m_list
  rw [bnd_eq, h16]
  refine loopI (fun j s => s.2.2 = (E.length : Int) - 1 - j ∧ s.2.1 = ((fl o (E.drop (E.length - j))).length : Int) ∧ (0 < (fl o (E.drop (E.length - j))).length → ∃ g : Nat, s.1 = (g : Int) ∧ E.length - j ≤ g ∧ g < E.length ∧ (E.getD g (0, 0)).2 = o ∧ fl o ((E.take g).drop (E.length - j)) = [])) (a := 0) (b := E.length) (Nat.zero_le _) ?_ ?_ ?_
  · refine ⟨by simp, ?_, ?_⟩
    · simp [fl]
    · intro q; simp [fl] at q
  · intro j s _ hj ⟨s1, s2, s3⟩
    obtain ⟨x3, x4, x5⟩ := s
    simp only [] at s1 s2 s3
    subst s1 s2
    have hgl : E.length - 1 - j < E.length := by omega
    have hEg := hE.2 _ hgl
    have hmem : E.getD (E.length - 1 - j) (0, 0) ∈ E := by rw [gD hgl]; exact List.getElem_mem _
    have hlt := hl2 _ hmem
    have hdr : E.drop (E.length - (j + 1)) = E.getD (E.length - 1 - j) (0, 0) :: E.drop (E.length - j) := by
      rw [show E.length - (j + 1) = E.length - 1 - j by omega, List.drop_eq_getElem_cons hgl, gD hgl, show E.length - 1 - j + 1 = E.length - j by omega]
    have hix : ((E.length : Int) - 1 - (j : Int)) = ((E.length - 1 - j : Nat) : Int) := by omega
    by_cases hog : (E.getD (E.length - 1 - j) (0, 0)).2 = o
    · refine ⟨(((E.length - 1 - j : Nat) : Int), ((fl o (E.drop (E.length - j))).length : Int) + 1, ((E.length - 1 - j : Nat) : Int) + (-1)), ?_, ?_, ?_, ?_⟩
      · simp only [m_list_13s, m_list_35, m_list_54]
        rw [hix]
        simp (disch := omega) only [if_ltp, if_ltn, if_eqp, if_eqn, if_T, if_F, gd_zin, gd_isB0, gd_isB1, zix_toNat, Int.toNat_natCast, tn_a1, tn_a, tn_s1, tn_s, tn_m1, tn_l0, tn_l1, bnd_eq, obind_some, mr_some, sI_s, sI_n, sI_2, sA_1, sA_s, sA_i, sA_n, hEg.2, hog]
      · simp only []; omega
      · simp only []
        rw [hdr, fl_c, if_pos hog]
        simp
      · intro _
        refine ⟨E.length - 1 - j, rfl, by omega, hgl, hog, ?_⟩
        rw [show E.length - (j + 1) = E.length - 1 - j by omega, List.drop_take]
        simp [fl]
    · have hne : (((E.getD (E.length - 1 - j) (0, 0)).2 : Nat) : Int) ≠ (o : Int) := by omega
      refine ⟨(x3, ((fl o (E.drop (E.length - j))).length : Int) + 0, ((E.length - 1 - j : Nat) : Int) + (-1)), ?_, ?_, ?_, ?_⟩
      · simp only [m_list_13s, m_list_35, m_list_54]
        rw [hix]
        simp (disch := omega) only [if_ltp, if_ltn, if_eqp, if_eqn, if_T, if_F, gd_zin, gd_isB0, gd_isB1, zix_toNat, Int.toNat_natCast, tn_a1, tn_a, tn_s1, tn_s, tn_m1, tn_l0, tn_l1, bnd_eq, obind_some, mr_some, sI_s, sI_n, sI_2, sA_1, sA_s, sA_i, sA_n, hEg.2]
      · simp only []; omega
      · simp only []
        rw [hdr, fl_c, if_neg hog]
        simp
      · rw [hdr, fl_c, if_neg hog]
        intro q
        obtain ⟨g, g1, g2, g3, g4, g5⟩ := s3 q
        refine ⟨g, g1, by omega, g3, g4, ?_⟩
        have : (E.take g).drop (E.length - (j + 1)) = E.getD (E.length - 1 - j) (0, 0) :: (E.take g).drop (E.length - j) := by
          have hgl2 : E.length - 1 - j < (E.take g).length := by rw [List.length_take]; omega
          rw [show E.length - (j + 1) = E.length - 1 - j by omega, List.drop_eq_getElem_cons hgl2, gD hgl, show E.length - 1 - j + 1 = E.length - j by omega]
          simp
        rw [this, fl_c, if_neg hog, g5]
  · intro s ⟨s1, s2, s3⟩
    obtain ⟨x3, x4, x5⟩ := s
    simp only [Nat.sub_self, List.drop_zero] at s1 s2 s3
    subst s1 s2
    rw [hl3 o] at s3 ⊢
    have h4 := hW.2.2.2.2.1 o
    have hout : m_list_13s M (i : Int) (o : Int) x3 ((tL T o).length : Int) ((E.length : Int) - 1 - (E.length : Int)) = mr (m_list_63 M (i : Int) (o : Int) x3 ((tL T o).length : Int)) := by
      simp only [m_list_13s]
      simp (disch := omega) only [if_ltp, if_ltn, if_eqp, if_eqn, if_T, if_F, gd_zin, gd_isB0, gd_isB1, zix_toNat, Int.toNat_natCast, tn_a1, tn_a, tn_s1, tn_s, tn_m1, tn_l0, tn_l1, bnd_eq, obind_some, mr_some, sI_s, sI_n, sI_2, sA_1, sA_s, sA_i, sA_n]
    by_cases hc : (tL T o).length = 4
    · obtain ⟨g, g1, g2, g3, g4, g5⟩ := s3 (by omega)
      subst g1
      obtain ⟨M1, d1, d2, d3, d4, d5⟩ := m_dropEntry_eq hE (by omega) g3
      have hcn : cn o E g = 0 := by unfold cn; rw [g5]; rfl
      have hfl := fl_drop (E := E) g3 g4
      obtain ⟨M', m1, m2⟩ := hadd M1 _ d3 (by simp; omega) (fun e he => by
        rcases List.mem_append.mp he with z | z
        · exact List.mem_of_mem_take z
        · exact List.mem_of_mem_drop z) d4 d5 d2 (fun o' => by
        rw [hfl o', hcn, if_pos hc, hl3 o', hl3 o]
        simp)
      refine ⟨M', ?_, m2⟩
      show m_list_13s M (i : Int) (o : Int) (g : Int) ((tL T o).length : Int) ((E.length : Int) - 1 - (E.length : Int)) = _
      rw [hout]
      unfold m_list_63
      rw [hc, d1]
      simp (disch := omega) only [if_ltp, if_ltn, if_eqp, if_eqn, if_T, if_F, gd_zin, gd_isB0, gd_isB1, zix_toNat, Int.toNat_natCast, tn_a1, tn_a, tn_s1, tn_s, tn_m1, tn_l0, tn_l1, bnd_eq, obind_some, mr_some, sI_s, sI_n, sI_2, sA_1, sA_s, sA_i, sA_n]
      rw [m1]
      rfl
    · obtain ⟨M', m1, m2⟩ := hadd M E hE (Nat.le_refl _) (fun e he => he) (fun k _ => rfl) (fun k _ _ => rfl) (FM.refl M) (fun o' => by
        rw [hl3 o', if_neg hc]
        split
        · next z => rw [z]
        · rfl)
      refine ⟨M', ?_, m2⟩
      show m_list_13s M (i : Int) (o : Int) x3 ((tL T o).length : Int) ((E.length : Int) - 1 - (E.length : Int)) = _
      rw [hout]
      unfold m_list_63
      have hne : ((tL T o).length : Int) ≠ 4 := by omega
      simp (disch := omega) only [if_ltp, if_ltn, if_eqp, if_eqn, if_T, if_F, gd_zin, gd_isB0, gd_isB1, zix_toNat, Int.toNat_natCast, tn_a1, tn_a, tn_s1, tn_s, tn_m1, tn_l0, tn_l1, bnd_eq, obind_some, mr_some, sI_s, sI_n, sI_2, sA_1, sA_s, sA_i, sA_n]
      rw [m1]
      rfl
end MT
