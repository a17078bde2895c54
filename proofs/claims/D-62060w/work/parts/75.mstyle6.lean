/-! the reference: bodies and rules -/
set_option maxRecDepth 100000
section MY
variable {M M' M'' : MS} {T : TS} {w e : List Int} {st : Nat → Nat → KV}
theorem KVM.cg {st' : Nat → Nat → KV} (h : KVM M T st) (he : ∀ k n, n < (tO T).length → st k n = st' k n) : KVM M T st' := fun k hk n hn => by rw [← he k n hn]; exact h k hk n hn
theorem FitM.f {ps : List PT} {j : Nat} (h : FitM M T ps j) (hf : M'.2 34 = M.2 34) : FitM M' T ps j := fun n hn => by rw [hf]; exact h n hn
/-- a rule's body -/
theorem m_body_eq (hY : StyM M w) (hR : RepM M T) (hW : WF T) {r : Nat} (hr : r < 12) {ps : List PT} (hps : 1 ≤ ps.length ∧ ps.length ≤ 4) (hL : M.2 26 r = ((ps.length : Nat) : Int)) (hF : FitM M T ps ps.length) (hK : KVM M T st) {C S : Nat} (hC : M.2 27 r = (C : Int)) (hS : M.2 28 r = (S : Int)) (hCS : C ≤ 200 ∧ S ≤ 4) {f c : Nat} (h30 : M.2 30 r = (c : Int)) (hfc : f ≤ c) (hcw : c ≤ w.length) (h32 : M.1 32 = 0) : ∃ M', m_style_80 M (r : Int) (f : Int) = some (.inl (M', ((r + 1 : Nat) : Int))) ∧ M'.1 32 = 0 ∧ (∀ g, g ≠ 32 → M'.1 g = M.1 g) ∧ (∀ g, g ≠ 31 → g ≠ 35 → g ≠ 36 → M'.2 g = M.2 g) ∧ KVM M' T (fun k n => if fe T ps ((tO T).getD n 0) then (bodyD (slc w f c)).foldl (kst k (10 * (C : Int) + (S : Int))) (st k n) else st k n) := by
  have hl := hY.2.2.1
  have hsl := slc_len w (a := f) hcw
  -- what the letters so far give
  have key : ∀ (m k : Nat) (N : MS) (wd : List Int) (D : List (Nat × Int × Bool)), k + m = c → f ≤ k → (∀ g, g ≠ 32 → N.1 g = M.1 g) → (∀ g, g ≠ 31 → g ≠ 35 → g ≠ 36 → N.2 g = M.2 g) → WdM N wd → wd.length + f ≤ k → N.1 32 = ((wd.length : Nat) : Int) → KVM N T (fun k n => if fe T ps ((tO T).getD n 0) then D.foldl (kst k (10 * (C : Int) + (S : Int))) (st k n) else st k n) → ∃ M', m_style_80 N (r : Int) (k : Int) = some (.inl (M', ((r + 1 : Nat) : Int))) ∧ M'.1 32 = 0 ∧ (∀ g, g ≠ 32 → M'.1 g = M.1 g) ∧ (∀ g, g ≠ 31 → g ≠ 35 → g ≠ 36 → M'.2 g = M.2 g) ∧ KVM M' T (fun q n => if fe T ps ((tO T).getD n 0) then ((slc w k c ++ [59]).foldl bsD (wd, D)).2.foldl (kst q (10 * (C : Int) + (S : Int))) (st q n) else st q n) := by
    intro m
    induction m with
    | zero =>
      intro k N wd D hk hfk n1 n2 hw hwl n32 hKN
      have hk' : k = c := by omega
      have hFY : FY M N := ⟨fun g _ g2 => n1 g g2, fun g hg => n2 g (by omega) (by omega) (by omega)⟩
      obtain ⟨M', t1, t2, t3, t4, t5⟩ := m_declare_eq (M := N) (hR.fy hFY) hW hr hps (by rw [n2 26 (by omega) (by omega) (by omega)]; exact hL) (hF.f (n2 34 (by omega) (by omega) (by omega))) hKN (by rw [n2 27 (by omega) (by omega) (by omega)]; exact hC) (by rw [n2 28 (by omega) (by omega) (by omega)]; exact hS) hCS hw n32
      refine ⟨M', ?_, t2, fun g hg => (t3 g hg).trans (n1 g hg), fun g g1 g2 g3 => (t4 g g2 g3).trans (n2 g g1 g2 g3), ?_⟩
      · refine iter_mr ?_
        simp only [m_style_80s]
        unfold m_style_151
        rw [gd_zin (by omega) (by omega) (by omega), zix_nat (by omega), n2 30 (by omega) (by omega) (by omega), h30, if_ltn (by omega) (by omega) (by omega), t1, obind_some]
        rfl
      · have hsn : slc w k c = [] := List.eq_nil_of_length_eq_zero (by rw [slc_len w hcw]; omega)
        rw [hsn]
        refine t5.cg (fun q n hn => ?_)
        by_cases u : fe T ps ((tO T).getD n 0) = true
        · rw [if_pos u, if_pos u, if_pos u]
          show (dec wd).toList.foldl _ (D.foldl _ _) = (D ++ (dec wd).toList).foldl _ _
          rw [List.foldl_append]
        · rw [if_neg u, if_neg u, if_neg u]
    | succ m ih =>
      intro k N wd D hk hfk n1 n2 hw hwl n32 hKN
      have hklt : k < c := by omega
      have hFY : FY M N := ⟨fun g _ g2 => n1 g g2, fun g hg => n2 g (by omega) (by omega) (by omega)⟩
      have hYN := hY.fy hFY
      have hc := hY.at (k := k) (by omega)
      have hsl2 : slc w k c = w.getD k 0 :: slc w (k + 1) c := by
        unfold slc
        rw [drop_c (t := w.take c) (i := k) (by rw [List.length_take]; omega), take_at hklt]
      have hpre : m_style_80s N (r : Int) (k : Int) = if w.getD k 0 = 59 then Option.bind (m_declare N (r : Int)) (fun y8 => some (.inl (y8, ((k + 1 : Nat) : Int)))) else if w.getD k 0 = 32 then some (.inl (N, ((k + 1 : Nat) : Int))) else some (.inl (sI (sA N 31 wd.length (w.getD k 0)) 32 (((wd.length : Nat) : Int) + 1), ((k + 1 : Nat) : Int))) := by
        unfold m_style_80s m_style_145
        rw [gd_zin (by omega) (by omega) (by omega), zix_nat (by omega), n2 30 (by omega) (by omega) (by omega), h30, if_ltp (by omega) (by omega) (by omega), gd_zin (by omega) (by omega) (by omega), zix_nat (by omega), hYN.2.1 k (by omega)]
        by_cases e1 : w.getD k 0 = 59
        · rw [if_eqp e1, if_pos e1]; rfl
        · rw [if_eqn e1 (by omega) (by omega) (by omega) (by omega), if_neg e1, gd_zin (by omega) (by omega) (by omega)]
          by_cases e2 : w.getD k 0 = 32
          · rw [if_eqp e2, if_pos e2]; rfl
          · have hs32 : (sA N 31 wd.length (w.getD k 0)).1 32 = ((wd.length : Nat) : Int) := n32
            rw [if_eqn e2 (by omega) (by omega) (by omega) (by omega), if_neg e2, gd_zin (by omega) (by omega) (by omega), n32, gd_zin (by omega) (by omega) (by omega), bnd_eq, zix_nat (by omega), bnd_eq, hs32]
            rfl
      have hfold : (slc w k c ++ [59]).foldl bsD (wd, D) = (slc w (k + 1) c ++ [59]).foldl bsD (bsD (wd, D) (w.getD k 0)) := by rw [hsl2]; rfl
      rw [hfold]
      unfold m_style_80
      by_cases e1 : w.getD k 0 = 59
      · obtain ⟨M', t1, t2, t3, t4, t5⟩ := m_declare_eq (M := N) (hR.fy hFY) hW hr hps (by rw [n2 26 (by omega) (by omega) (by omega)]; exact hL) (hF.f (n2 34 (by omega) (by omega) (by omega))) hKN (by rw [n2 27 (by omega) (by omega) (by omega)]; exact hC) (by rw [n2 28 (by omega) (by omega) (by omega)]; exact hS) hCS hw n32
        rw [if_pos e1, t1, obind_some] at hpre
        have hbs : bsD (wd, D) (w.getD k 0) = ([], D ++ (dec wd).toList) := by unfold bsD; rw [if_pos e1]
        rw [hbs]
        obtain ⟨M2, u1, u2⟩ := ih (k + 1) M' [] (D ++ (dec wd).toList) (by omega) (by omega) (fun g hg => (t3 g hg).trans (n1 g hg)) (fun g g1 g2 g3 => (t4 g g2 g3).trans (n2 g g1 g2 g3)) ⟨fun j hj => by simp at hj, by simp, by simp⟩ (by simp; omega) t2 (t5.cg (fun q n hn => by
          by_cases u : fe T ps ((tO T).getD n 0) = true
          · rw [if_pos u, if_pos u, if_pos u, List.foldl_append]
          · rw [if_neg u, if_neg u, if_neg u]))
        exact ⟨M2, by rw [iter_in hpre]; exact u1, u2⟩
      · rw [if_neg e1] at hpre
        by_cases e2 : w.getD k 0 = 32
        · rw [if_pos e2] at hpre
          have hbs : bsD (wd, D) (w.getD k 0) = (wd, D) := by unfold bsD; rw [if_neg e1, if_pos e2]
          rw [hbs]
          obtain ⟨M2, u1, u2⟩ := ih (k + 1) N wd D (by omega) (by omega) n1 n2 hw (by omega) n32 hKN
          exact ⟨M2, by rw [iter_in hpre]; exact u1, u2⟩
        · rw [if_neg e2] at hpre
          have hbs : bsD (wd, D) (w.getD k 0) = (wd ++ [w.getD k 0], D) := by unfold bsD; rw [if_neg e1, if_neg e2]
          rw [hbs]
          have hwd2 : WdM (sI (sA N 31 wd.length (w.getD k 0)) 32 (((wd.length : Nat) : Int) + 1)) (wd ++ [w.getD k 0]) := by
            refine ⟨fun j hj => ?_, by simp; omega, fun y hy => ?_⟩
            · rw [List.length_append, List.length_singleton] at hj
              rw [sI_2]
              by_cases z : j = wd.length
              · rw [z, sA_s]; simp [List.getD]
              · rw [sA_i _ _ _ _ _ z, hw.1 j (by omega), gD (by omega), gD (by rw [List.length_append]; omega), List.getElem_append_left (by omega)]
            · rcases List.mem_append.mp hy with z | z
              · exact hw.2.2 y z
              · rw [List.mem_singleton.mp z]; exact hc
          obtain ⟨M2, u1, u2⟩ := ih (k + 1) (sI (sA N 31 wd.length (w.getD k 0)) 32 (((wd.length : Nat) : Int) + 1)) (wd ++ [w.getD k 0]) D (by omega) (by omega) (fun g hg => by rw [sI_n _ _ _ _ hg]; exact n1 g hg) (fun g g1 g2 g3 => by rw [sI_2, sA_f _ _ _ _ _ g1]; exact n2 g g1 g2 g3) hwd2 (by simp; omega) (by rw [sI_s]; simp) (fun q hq n hn => by rw [sI_2, sA_n _ _ _ _ _ _ (by omega), sA_n _ _ _ _ _ _ (by omega)]; exact hKN q hq n hn)
          exact ⟨M2, by rw [iter_in hpre]; exact u1, u2⟩
  obtain ⟨M', t1, t2⟩ := key (c - f) f M [] [] (by omega) (Nat.le_refl _) (fun _ _ => rfl) (fun _ _ _ _ => rfl) ⟨fun j hj => by simp at hj, by simp, by simp⟩ (by simp) h32 (hK.cg (fun k n hn => by
    show _ = if fe T ps ((tO T).getD n 0) = true then st k n else st k n
    rw [ite_self]))
  exact ⟨M', t1, t2⟩
/-- all rules -/
theorem m_rules_eq {E : List RE} (hE : ∀ e ∈ E, okE e) (hpt : ∀ e ∈ E, ∀ p ∈ e.1, (0 ≤ p.1 ∧ p.1 < 128) ∧ -2147483648 ≤ p.2.1 ∧ p.2.1 < 2147483648) (hW : WF T) : ∀ (m r : Nat) (N : MS) (st : Nat → Nat → KV), r + m = E.length → StyM N w → RepM N T → UpM N T → RulM N w E → KVM N T st → ∃ M', m_style_55 N (r : Int) = m_style_162 M' ∧ FY N M' ∧ UpM M' T ∧ KVM M' T (fun k n => (E.drop r).foldl (mdS w (fun ps => fe T ps ((tO T).getD n 0)) k) (st k n)) := by
  intro m
  induction m with
  | zero =>
    intro r N st hr hY hR hU hRu hK
    refine ⟨N, ?_, FY.refl N, hU, hK.cg (fun k n hn => by rw [List.drop_eq_nil_of_le (by omega)]; rfl)⟩
    refine iter_mr ?_
    simp only [m_style_55s]
    have := hRu.2.1
    rw [hRu.1, if_ltn (by omega) (by omega) (by omega)]
  | succ m ih =>
    intro r N st hr hY hR hU hRu hK
    have h12 := hRu.2.1
    have hrE : r < E.length := by omega
    obtain ⟨a1, a2, a3, a4, a5, a6, a7, a8, a9, a10⟩ := hRu.2.2 r hrE
    have hmem : E.getD r ([], [], 0, 0) ∈ E := by rw [gD hrE]; exact List.getElem_mem _
    have hdrop : E.drop r = E.getD r ([], [], 0, 0) :: E.drop (r + 1) := by rw [List.drop_eq_getElem_cons hrE, gD hrE]
    generalize E.getD r ([], [], 0, 0) = en at *
    obtain ⟨l1, l2, l3⟩ := sel_len a7
    have hok := hE en hmem
    obtain ⟨N1, b1, b2, b3, b4⟩ := m_match_eq hR hW hU (r := r) (by omega) ⟨l1, l2⟩ a1 a2 l3 (hpt en hmem)
    have F1 : FY N (sI N1 32 0) := ⟨fun g g1 g2 => by rw [sI_n _ _ _ _ g2, b2], fun g hg => by rw [sI_2, b3 g (by omega)]⟩
    have hR1 := hR.fy F1
    obtain ⟨N2, c1, c2, c3, c4, c5⟩ := m_body_eq (M := sI N1 32 0) (st := st) (hY.fy F1) hR1 hW (r := r) (by omega) ⟨l1, l2⟩ (by rw [sI_2, b3 26 (by omega)]; exact a2) (b4.f rfl) (fun k hk n hn => by rw [sI_2, b3 35 (by omega), b3 36 (by omega)]; exact hK k hk n hn) (C := cC en.2.1) (S := cS en.2.1) (by rw [sI_2, b3 27 (by omega)]; exact a3) (by rw [sI_2, b3 28 (by omega)]; exact a4) ⟨hok.2, hok.1⟩ (f := en.2.2.1) (c := en.2.2.2) (by rw [sI_2, b3 30 (by omega)]; exact a6) a8 a9 (sI_s _ _ _)
    have F2 : FY (sI N1 32 0) N2 := ⟨fun g g1 g2 => c3 g g2, fun g hg => c4 g (by omega) (by omega) (by omega)⟩
    have F := F1.trans F2
    have hU2 : UpM N2 T := fun n hn => by rw [c4 33 (by omega) (by omega) (by omega), sI_2, b3 33 (by omega)]; exact hU n hn
    have hRu2 : RulM N2 w E := hRu.cg (by rw [c3 22 (by omega), sI_n _ _ _ _ (by omega), b2]) (fun f i p1 p2 p3 p4 => by
      by_cases z : f = 31
      · omega
      · rw [c4 f z (by omega) (by omega), sI_2, b3 f (by omega)]) hRu.four
    obtain ⟨M', d1, d2, d3, d4⟩ := ih (r + 1) N2 _ (by omega) (hY.fy F) (hR.fy F) hU2 hRu2 c5
    refine ⟨M', ?_, F.trans d2, d3, d4.cg (fun k n hn => ?_)⟩
    · have hst : m_style_55s N (r : Int) = some (.inl (N2, ((r + 1 : Nat) : Int))) := by
        unfold m_style_55s
        rw [hRu.1, if_ltp (by omega) (by omega) (by omega), b1, obind_some, bnd_eq, gd_zin (by omega) (by omega) (by omega), bnd_eq, zix_nat (by omega), sI_2, b3 29 (by omega), a5]
        exact c1
      unfold m_style_55
      rw [iter_in hst]
      exact d1
    · rw [hdrop, List.foldl_cons]
      rfl
end MY
