/-! the page's sheet is typed -/
set_option maxRecDepth 100000
def CK (s : CX) (n : Nat) : Prop := s.2.1.length ≤ n ∧ s.2.2.1.length ≤ n ∧ (∀ c ∈ s.2.1, 32 ≤ c ∧ c ≤ 126) ∧ (∀ c ∈ s.2.2.1, 32 ≤ c ∧ c ≤ 126) ∧ s.1.length ≤ 12
theorem CK_0 : CK cx0 0 := ⟨Nat.le_refl _, Nat.le_refl _, by simp [cx0], by simp [cx0], by simp [cx0]⟩
theorem addR_len {rs : List RL} (t b : List Int) (h : rs.length ≤ 12) : (addR rs t b).length ≤ 12 := by
  unfold addR
  split
  · exact h
  · split
    · exact h
    · rw [List.length_append]; simp; omega
theorem CK.step {s : CX} {n : Nat} (H : CK s n) {c : Int} (hc : 32 ≤ c ∧ c ≤ 126) : CK (cx s c) (n + 1) := by
  obtain ⟨h1, h2, h3, h4, h5⟩ := H
  unfold cx
  split
  · exact ⟨by show s.2.1.length ≤ n + 1; omega, by show s.2.2.1.length ≤ n + 1; omega, h3, h4, h5⟩
  · split
    · exact ⟨Nat.zero_le _, Nat.zero_le _, by simp, by simp, addR_len _ _ h5⟩
    · split
      · refine ⟨by show s.2.1.length ≤ n + 1; omega, by show (s.2.2.1 ++ [c]).length ≤ n + 1; simp; omega, h3, fun y hy => ?_, h5⟩
        rcases List.mem_append.mp hy with z | z
        · exact h4 y z
        · rw [List.mem_singleton.mp z]; exact hc
      · refine ⟨by show (s.2.1 ++ [c]).length ≤ n + 1; simp; omega, by show s.2.2.1.length ≤ n + 1; omega, fun y hy => ?_, h4, h5⟩
        rcases List.mem_append.mp hy with z | z
        · exact h3 y z
        · rw [List.mem_singleton.mp z]; exact hc
section PS
variable {h h0 h' h1 g : HP} {pg x u a n : Nat} {t e b : List Int} {r : RL} {c i4 i5 w : Int} {L : List Nat} {ps : List PT} {rs : List RL} {s : CX}
theorem RulesR.snoc (R : RulesR h rs L) (R1 : RuleR h r a) : RulesR h (rs ++ [r]) (L ++ [a]) := by
  obtain ⟨r1, r2⟩ := R
  refine ⟨by simp [r1], fun k hk => ?_⟩
  rw [List.length_append, List.length_singleton] at hk
  by_cases z : k < rs.length
  · have e1 : (rs ++ [r]).getD k ([], 0, vf0) = rs.getD k ([], 0, vf0) := by rw [gD (by rw [List.length_append]; omega), List.getElem_append_left z, gD z]
    have e2 : (L ++ [a]).getD k 0 = L.getD k 0 := by rw [gD (by rw [List.length_append]; omega), List.getElem_append_left (by omega), gD (by omega)]
    rw [e1, e2]; exact r2 k z
  · have hk' : k = rs.length := by omega
    have e1 : (rs ++ [r]).getD k ([], 0, vf0) = r := by rw [hk']; simp [List.getD]
    have e2 : (L ++ [a]).getD k 0 = a := by rw [hk', ← r1]; simp [List.getD]
    rw [e1, e2]; exact R1
theorem rule_p (S : SX h pg L t b i4 i5) (R : RulesR h rs L) (hrs : rs.length ≤ 12) (hT : okT t) (hB : okT b) (hb : b.length ≤ 120) (hR : RU h (u + 380)) : ∃ g L', f_X3_rule h (pg + 8) = some g ∧ AgS pg h g ∧ SX g pg L' t b i4 i5 ∧ RulesR g (addR rs t b) L' ∧ RU g u := by
  have hS := S
  obtain ⟨⟨⟨c1, c2, c3, c4, c5, c6⟩, ⟨d1, d2, d3, d4⟩, ⟨e1, e2, e3, e4⟩, e5⟩, x2, x3, x4, x5, x6⟩ := S
  obtain ⟨g1, o, r1, r2, r3, r4⟩ := read_p (h := h) (x := pg + 10) (u := u + 376) (by omega) (by rw [d2]; decide) x3 hT hR
  have S1 := hS.agr r2
  have A1 : AgS pg h g1 := r2.ags
  have R1 : RulesR g1 rs L := R.ags A1 hS.1
  obtain ⟨⟨⟨c1', c2', c3', c4', c5', c6'⟩, ⟨d1', d2', d3', d4'⟩, ⟨e1', e2', e3', e4'⟩, e5'⟩, x2', x3', x4', x5', x6'⟩ := S1
  have S1 : SX g1 pg L t b i4 i5 := ⟨⟨⟨c1', c2', c3', c4', c5', c6'⟩, ⟨d1', d2', d3', d4'⟩, ⟨e1', e2', e3', e4'⟩, e5'⟩, x2', x3', x4', x5', x6'⟩
  unfold addR f_X3_rule
  rw [gd_c c2, c4, obind_some, r1, obind_some]
  cases hsel : sel t with
  | none =>
    rw [hsel] at r4
    have ro : o = none := r4
    rw [ro]
    exact ⟨g1, L, rfl, A1, S1, R1, r3.mono (by omega)⟩
  | some ps =>
    rw [hsel] at r4
    obtain ⟨q1, q2⟩ := r4
    obtain ⟨last, hlast⟩ : ∃ l, o = some l := Option.ne_none_iff_exists'.mp q1
    rw [hlast] at q2
    rw [hlast, nl_some]
    simp only []
    unfold lLen
    rw [gd_c c2', c3', obind_some, gd_c (by rw [d1']; decide), obind_some, x2', R.1]
    by_cases e12 : rs.length = 12
    · rw [if_eqp (by omega), if_pos e12]
      exact ⟨g1, L, rfl, A1, S1, R1, r3.mono (by omega)⟩
    · rw [if_eqn (by omega) (by omega) (by omega) (by omega) (by omega), if_neg e12, rule29 S1 hT]
      obtain ⟨g2, n1, n2, n3, n4⟩ := nR_eq (h := g1) (last := last) (w := wt t) (u := u + 373) q2 r3
      have S2 := S1.agr n2
      have A2 : AgS pg h g2 := A1.trans n2.ags
      have hkA := n4.1
      obtain ⟨g3, l1, l2, l3⟩ := lAdd_eq (h := g2) (u := u + 372) (a := pg + 9) (x := pX g1) (by rw [S2.1.2.1.1]; decide) (by rw [hkA]; decide) (by rw [S2.2.1, R.1]; omega) S2.1.2.2.1.1 n3
      rw [S2.2.1] at l1
      obtain ⟨k1, k2, k3, k4, k5, k6⟩ := l2.k
      have hX3 : pX g2 ≤ pX g3 := by rcases l2 with z | ⟨m, _, z⟩ <;> rw [z]; exact Nat.le_refl _; exact Nat.le_succ _
      have hC3 : ∀ y, pC g3 y ≤ pC g2 y ∨ (y = pg + 9 ∧ pC g3 y ≤ 60) := fun y => by
        rcases l2 with z | ⟨m, hm, z⟩
        · rw [z]; exact Or.inl (Nat.le_refl _)
        · rw [z, pC_wGr]; split
          · next q => exact Or.inr ⟨q, hm⟩
          · exact Or.inl (Nat.le_refl _)
      have A3 : AgS pg h (wB (wL g3 (pg + 9) (L ++ [pX g1])) (pg + 14) []) := by
        refine AgS.aB (AgS.aL ?_ _) (by omega) _
        rcases l2 with z | ⟨m, hm, z⟩
        · rw [z]; exact A2
        · rw [z]; exact A2.aG (by omega) m
      have S3 : SX (wB (wL g3 (pg + 9) (L ++ [pX g1])) (pg + 14) []) pg (L ++ [pX g1]) t b i4 i5 := by
        obtain ⟨⟨⟨y1, y2, y3, y4, y5, y6⟩, yb, ⟨z1, z2, z3, z4⟩, z5⟩, y7, y8, y9, y10, y11⟩ := S2
        refine ⟨⟨⟨?_, ?_, ?_, ?_, ?_, ?_⟩, ?_, ⟨?_, ?_, ?_, ?_⟩, Nat.le_trans z5 hX3⟩, ?_, ?_, ?_, ?_, ?_⟩
        · show pP g3 pg 14 = _; rw [k4]; exact y1
        · show pK g3 (pg + 8) = _; rw [k1]; exact y2
        · show pP g3 (pg + 8) 0 = _; rw [k4]; exact y3
        · show pP g3 (pg + 8) 1 = _; rw [k4]; exact y4
        · show pP g3 (pg + 8) 2 = _; rw [k4]; exact y5
        · show pP g3 (pg + 8) 3 = _; rw [k4]; exact y6
        · show pK g3 (pg + 9) = 27 ∧ pK g3 (pg + 10) = 31 ∧ pK g3 (pg + 12) = 32 ∧ pK g3 (pg + 14) = 33
          rw [k1]; exact yb
        · show pC g3 (pg + 9) ≤ 60; rcases hC3 (pg + 9) with z | z <;> omega
        · show pC g3 (pg + 10) ≤ 400; rcases hC3 (pg + 10) with z | z <;> omega
        · show pC g3 (pg + 12) ≤ 400; rcases hC3 (pg + 12) with z | z <;> omega
        · show pC g3 (pg + 14) ≤ 400; rcases hC3 (pg + 14) with z | z <;> omega
        · rw [pL_wB, pL_wL, if_pos rfl]
        · rw [pB_wB, if_neg (by omega), pB_wL, k5]; exact y8
        · rw [pB_wB, if_neg (by omega), pB_wL, k5]; exact y9
        · show pI g3 (pg + 8) 4 = i4; rw [k3]; exact y10
        · show pI g3 (pg + 8) 5 = i5; rw [k3]; exact y11
      have R3 : RuleR (wB (wL g3 (pg + 9) (L ++ [pX g1])) (pg + 14) []) (ps, wt t, vf0) (pX g1) := n4.cell ⟨k1, k4, k3, k6⟩ hX3
      obtain ⟨g4, b1, b2, b3, b4, b5⟩ := body115 (u := u) A3 S3 (by rw [pB_wB, if_pos rfl]) R3 hB hb r2.1 (by have := S1.1.2.2.2; omega) (RU.mono (u := u + 372) l3 (by omega))
      refine ⟨g4, L ++ [pX g1], ?_, b2, b3, ?_, b5⟩
      · unfold f_X3_rule_85 sSet
        rw [bnd_eq, gd_c (show rm1 g1 4 from ⟨by have := r3.1; omega, by have := r3.2; omega⟩), bnd_eq, n1, obind_some, gd_c S2.1.1.2.1, S2.1.1.2.2.1, obind_some, l1, obind_some]
        simp only []
        rw [gd_c (by show pK g3 (pg + 8) = 4; rw [k1]; exact S2.1.1.2.1), show pP (wL g3 (pg + 9) (L ++ [pX g1])) (pg + 8) 3 = some (pg + 14) by rw [pP_wL, k4]; exact S2.1.1.2.2.2.2.2, obind_some, gd_c ⟨by show isS (pK g3 (pg + 14)); rw [k1, S2.1.2.1.2.2.2]; decide, by simp⟩, obind_some]
        exact b1
      · exact (R.ags b2 hS.1).snoc b4
theorem type_no (hk : pK h (pg + 8) = 4) (h5 : pI h (pg + 8) 5 = ((n : Nat) : Int)) (hn : n ≤ 120) (hc : 0 ≤ c ∧ c < 65536) (hh : c < 32 ∨ 126 < c ∨ n = 120) : f_X3_type h (pg + 8) c = some (h, 0) := by
  unfold f_X3_type
  by_cases e1 : c < 32
  · rw [if_ltp e1 (by omega) (by omega)]
  · rw [if_ltn (by omega) (by omega) (by omega)]
    by_cases e2 : 126 < c
    · rw [if_ltp e2 (by omega) (by omega)]
    · rw [if_ltn (by omega) (by omega) (by omega), gd_c hk, h5, if_eqp (by omega)]
theorem type_ok (H : ShR h pg s) (hK : CK s n) (h5 : pI h (pg + 8) 5 = ((n : Nat) : Int)) (hn : n ≤ 119) (hc : 32 ≤ c ∧ c ≤ 126) (hR : RU h (u + 380)) : ∃ h', f_X3_type h (pg + 8) c = some (h', 1) ∧ AgS pg h h' ∧ ShR h' pg (cx s c) ∧ pI h' (pg + 8) 5 = ((n + 1 : Nat) : Int) ∧ RU h' u := by
  obtain ⟨rs, t, b, inB⟩ := s
  obtain ⟨hC, hRs, h12, hs, hb, h4⟩ := H
  change RulesR h rs (pL h (pg + 9)) at hRs
  change rs.length ≤ 12 at h12
  change pB h (pg + 10) = t at hs
  change pB h (pg + 12) = b at hb
  change pI h (pg + 8) 4 = (if inB then 1 else 0) at h4
  obtain ⟨n1, n2, n3, n4, n5⟩ := hK
  change t.length ≤ n at n1
  change b.length ≤ n at n2
  change (∀ c ∈ t, 32 ≤ c ∧ c ≤ 126) at n3
  change (∀ c ∈ b, 32 ≤ c ∧ c ≤ 126) at n4
  have hk := hC.1.2.1
  have pre : f_X3_type h (pg + 8) c = (if zI (pI (wI h (pg + 8) 5 (((n : Nat) : Int) + 1)) (pg + 8) 4) = zI 0 then if zI c = zI 123 then gd (pK (wI h (pg + 8) 5 (((n : Nat) : Int) + 1)) (pg + 8) = 4) (bnd (wI (wI h (pg + 8) 5 (((n : Nat) : Int) + 1)) (pg + 8) 4 1) (fun h2 => some (h2, 1))) else f_X3_type_54 (wI h (pg + 8) 5 (((n : Nat) : Int) + 1)) (pg + 8) c else f_X3_type_54 (wI h (pg + 8) 5 (((n : Nat) : Int) + 1)) (pg + 8) c) := by
    unfold f_X3_type
    rw [if_ltn (by omega) (by omega) (by omega), if_ltn (by omega) (by omega) (by omega), gd_c hk, h5, if_eqn (by omega) (by omega) (by omega) (by omega) (by omega), gd_c hk, gd_c hk, bnd_eq, gd_c (by exact hk)]
  rw [pre]
  have A1 : AgS pg h (wI h (pg + 8) 5 (((n : Nat) : Int) + 1)) := (AgS.refl pg h).aI _ (Or.inl rfl)
  have R1 : RulesR (wI h (pg + 8) 5 (((n : Nat) : Int) + 1)) rs (pL h (pg + 9)) := hRs.ags A1 hC
  have S1 : SX (wI h (pg + 8) 5 (((n : Nat) : Int) + 1)) pg (pL h (pg + 9)) t b (if inB then 1 else 0) (((n : Nat) : Int) + 1) := ⟨hC, rfl, hs, hb, by rw [pI_wI, if_neg (fun z => by omega)]; exact h4, by rw [pI_wI, if_pos ⟨rfl, rfl⟩]⟩
  have R0 : RU (wI h (pg + 8) 5 (((n : Nat) : Int) + 1)) (u + 380) := hR
  have hkg : pK (wI h (pg + 8) 5 (((n : Nat) : Int) + 1)) (pg + 8) = 4 := hk
  generalize wI h (pg + 8) 5 (((n : Nat) : Int) + 1) = g at *
  obtain ⟨SC, sL, sT', sB, s4, s5⟩ := S1
  have mkR : ∀ (g' : HP) (L' : List Nat) (s' : CX) (i4 : Int), AgS pg h g' → SX g' pg L' s'.2.1 s'.2.2.1 i4 (((n : Nat) : Int) + 1) → RulesR g' s'.1 L' → s'.1.length ≤ 12 → i4 = (if s'.2.2.2 then 1 else 0) → RU g' u → AgS pg h g' ∧ ShR g' pg s' ∧ pI g' (pg + 8) 5 = ((n + 1 : Nat) : Int) ∧ RU g' u := fun g' L' s' i4 a1 a2 a3 a4 a5 a6 => by
    obtain ⟨b1, b2, b3, b4, b5, b6⟩ := a2
    exact ⟨a1, ⟨b1, by rw [b2]; exact a3, a4, b3, b4, by rw [b5]; exact a5⟩, by rw [b6]; omega, a6⟩
  -- a letter more
  have app : ∀ (y : Nat) (hy : y = pg + 10 ∨ y = pg + 12) (tx : List Int), pB g y = tx → tx.length ≤ n → isS (pK g y) → ∃ g', sApp g y c = some (wB g' y (tx ++ [c])) ∧ AgS pg h (wB g' y (tx ++ [c])) ∧ ShC (wB g' y (tx ++ [c])) pg ∧ RU (wB g' y (tx ++ [c])) u ∧ pL (wB g' y (tx ++ [c])) = pL g ∧ pI (wB g' y (tx ++ [c])) = pI g ∧ (∀ z, z ≠ y → pB (wB g' y (tx ++ [c])) z = pB g z) ∧ RulesR (wB g' y (tx ++ [c])) rs (pL h (pg + 9)) := fun y hy tx htx hl hkS => by
    obtain ⟨g', a1, a2, a3⟩ := sApp_eq (h := g) (b := y) (c := c) (u := u) hkS (by rw [htx]; omega) (by rcases hy with z | z <;> rw [z]; exact SC.2.2.1.2.1; exact SC.2.2.1.2.2.1) (by omega) (R0.mono (by omega))
    rw [htx] at a1
    obtain ⟨k1, k2, k3, k4, k5, k6, k7, k8⟩ := a2.k
    have AA : AgS pg h (wB g' y (tx ++ [c])) := (A1.gr (by omega) a2).aB (by omega) _
    exact ⟨g', a1, AA, SC.app (by omega) a2 _, a3.mono (by omega), k2, k3, fun z hz => by rw [pB_wB, if_neg hz, k5], hRs.ags AA hC⟩
  unfold cx
  simp only []
  cases inB with
  | false =>
    have s4' : pI g (pg + 8) 4 = 0 := s4
    rw [s4', if_eqp rfl]
    by_cases e : c = 123
    · rw [if_eqp e, if_pos ⟨rfl, e⟩, gd_c hkg, bnd_eq]
      refine ⟨_, rfl, mkR (wI g (pg + 8) 4 1) _ _ 1 (A1.aI _ (Or.inl rfl)) ⟨SC.wi _ _ _, sL, sT', sB, by rw [pI_wI, if_pos ⟨rfl, rfl⟩], by rw [pI_wI, if_neg (fun z => by omega)]; exact s5⟩ (R1.ags (h' := wI g (pg + 8) 4 1) ((AgS.refl pg g).aI _ (Or.inl rfl)) SC) h12 rfl (R0.mono (by omega))⟩
    · rw [if_eqn e (by omega) (by omega) (by omega) (by omega), if_neg (show ¬ (false = false ∧ c = 123) from fun z => e z.2), if_neg (show ¬ (false = true ∧ c = 125) from fun z => by cases z.1), if_neg (show ¬ (false = true) from fun z => by cases z)]
      unfold f_X3_type_54 f_X3_type_78
      rw [gd_c hkg, s4', if_eqp rfl, gd_c hkg, if_eqp rfl, gd_c hkg, SC.1.2.2.2.1, obind_some]
      obtain ⟨g', a1, a2, a3, a4, a5, a6, a7, a8⟩ := app (pg + 10) (by omega) t sT' n1 (by rw [SC.2.1.2.1]; decide)
      rw [a1, obind_some]
      refine ⟨_, rfl, mkR _ (pL h (pg + 9)) _ 0 a2 ⟨a3, by rw [a5]; exact sL, by rw [pB_wB, if_pos rfl], by rw [a7 _ (by omega)]; exact sB, by rw [a6, s4]; rfl, by rw [a6]; exact s5⟩ a8 h12 rfl a4⟩
  | true =>
    have s4' : pI g (pg + 8) 4 = 1 := s4
    rw [s4', if_eqn (by omega) (by omega) (by omega) (by omega) (by omega), if_neg (show ¬ (true = false ∧ c = 123) from fun z => by cases z.1)]
    unfold f_X3_type_54 f_X3_type_78
    rw [gd_c hkg, s4', if_eqn (by omega) (by omega) (by omega) (by omega) (by omega)]
    by_cases e : c = 125
    · rw [if_eqp e, if_pos ⟨rfl, e⟩, gd_c hkg]
      obtain ⟨g2, L', r1, r2, r3, r4, r5⟩ := rule_p (u := u) (⟨SC, sL, sT', sB, s4, s5⟩ : SX g pg (pL h (pg + 9)) t b (if true then 1 else 0) (((n : Nat) : Int) + 1)) R1 h12 ⟨by omega, n3⟩ ⟨by omega, n4⟩ (by omega) R0
      obtain ⟨y1, y2, y3, y4, y5, y6⟩ := r3
      have A2 : AgS pg h g2 := A1.trans r2
      have A3 : AgS pg h (wI (wB (wB g2 (pg + 10) []) (pg + 12) []) (pg + 8) 4 0) := ((A2.aB (by omega) _).aB (by omega) _).aI _ (Or.inl rfl)
      have A4 : AgS pg g2 (wI (wB (wB g2 (pg + 10) []) (pg + 12) []) (pg + 8) 4 0) := (((AgS.refl pg g2).aB (by omega) _).aB (by omega) _).aI _ (Or.inl rfl)
      refine ⟨wI (wB (wB g2 (pg + 10) []) (pg + 12) []) (pg + 8) 4 0, ?_, mkR _ L' (addR rs t b, [], [], false) 0 A3 ⟨y1, y2, by rw [pB_wI, pB_wB, if_neg (by omega), pB_wB, if_pos rfl], by rw [pB_wI, pB_wB, if_pos rfl], by rw [pI_wI, if_pos ⟨rfl, rfl⟩], by rw [pI_wI, if_neg (fun z => by omega)]; exact y6⟩ (r4.ags A4 y1) (addR_len _ _ h12) rfl r5⟩
      rw [r1, obind_some, gd_c y1.1.2.1]
      unfold f_X3_next sSet
      rw [gd_c y1.1.2.1, y1.1.2.2.2.1, obind_some, gd_c ⟨by rw [y1.2.1.2.1]; decide, rfl⟩, obind_some, gd_c (by exact y1.1.2.1), show pP (wB g2 (pg + 10) []) (pg + 8) 2 = some (pg + 12) from y1.1.2.2.2.2.1, obind_some, gd_c ⟨by show isS (pK g2 (pg + 12)); rw [y1.2.1.2.2.1]; decide, rfl⟩, obind_some, gd_c (by exact y1.1.2.1), bnd_eq, obind_some]
    · rw [if_eqn e (by omega) (by omega) (by omega) (by omega), if_neg (show ¬ (true = true ∧ c = 125) from fun z => e z.2), if_pos rfl, gd_c hkg, if_eqn (by omega) (by omega) (by omega) (by omega) (by omega), gd_c hkg, SC.1.2.2.2.2.1, obind_some]
      obtain ⟨g', a1, a2, a3, a4, a5, a6, a7, a8⟩ := app (pg + 12) (by omega) b sB n2 (by rw [SC.2.1.2.2.1]; decide)
      rw [a1, obind_some]
      refine ⟨_, rfl, mkR _ (pL h (pg + 9)) _ 1 a2 ⟨a3, by rw [a5]; exact sL, by rw [a7 _ (by omega)]; exact sT', by rw [pB_wB, if_pos rfl], by rw [a6, s4]; rfl, by rw [a6]; exact s5⟩ a8 h12 rfl a4⟩
end PS
