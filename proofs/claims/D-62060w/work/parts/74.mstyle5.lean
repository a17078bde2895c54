/-! the reference: rules are applied -/
set_option maxRecDepth 100000
def KVM (M : MS) (T : TS) (st : Nat → Nat → KV) : Prop := ∀ k, k < 7 → ∀ n, n < (tO T).length → M.2 35 (40 * k + n) = (st k n).1 ∧ M.2 36 (40 * k + n) = (st k n).2 ∧ -1 ≤ (st k n).1 ∧ (st k n).1 ≤ 200000
section MY
variable {M M' M'' : MS} {T : TS} {w e : List Int} {st : Nat → Nat → KV}
theorem kst_rng {k : Nat} {R : Int} (hR : 0 ≤ R ∧ R < 100000) {s : KV} (hs : -1 ≤ s.1 ∧ s.1 ≤ 200000) (d : Nat × Int × Bool) : -1 ≤ (kst k R s d).1 ∧ (kst k R s d).1 ≤ 200000 := by
  unfold kst
  by_cases z : d.1 = k ∧ s.1 ≤ (if d.2.2 = true then 100000 else 0) + R
  · rw [if_pos z]
    show -1 ≤ (if d.2.2 = true then 100000 else 0) + R ∧ (if d.2.2 = true then 100000 else 0) + R ≤ 200000
    split <;> omega
  · rw [if_neg z]; exact hs
/-- one declaration, over the nodes -/
theorem ms112 (hR : RepM M T) (hW : WF T) {r : Nat} (hr : r < 12) {ps : List PT} (hps : 1 ≤ ps.length ∧ ps.length ≤ 4) (hL : M.2 26 r = ((ps.length : Nat) : Int)) (hF : FitM M T ps ps.length) (hK : KVM M T st) {k0 : Nat} (hk0 : k0 < 7) (v : Int) (s : Bool) {R : Int} (hRr : 0 ≤ R ∧ R < 100000) : ∃ M', m_declare_112 M (r : Int) (k0 : Int) v ((if s then 100000 else 0) + R) 0 = some M' ∧ M'.1 = M.1 ∧ (∀ f, f ≠ 35 → f ≠ 36 → M'.2 f = M.2 f) ∧ KVM M' T (fun k n => if fe T ps ((tO T).getD n 0) then kst k R (st k n) (k0, v, s) else st k n) := by
  have hl := hW.1.2.2.1
  have h24 := hW.1.2.1
  have hrk : 0 ≤ (if s then 100000 else 0) + R ∧ (if s then 100000 else 0) + R < 200000 := by split <;> omega
  have kp : ∀ x : KV, x.1 ≤ (if s then 100000 else 0) + R → kst k0 R x (k0, v, s) = ((if s then 100000 else 0) + R, v) := fun x hx => if_pos ⟨rfl, hx⟩
  have kn : ∀ x : KV, ¬ x.1 ≤ (if s then 100000 else 0) + R → kst k0 R x (k0, v, s) = x := fun x hx => if_neg (fun z => hx z.2)
  have kn2 : ∀ (k : Nat) (x : KV), k ≠ k0 → kst k R x (k0, v, s) = x := fun k x hk => if_neg (fun z => hk z.1.symm)
  generalize (if s then (100000 : Int) else 0) + R = rk at *
  refine loopI (P := fun M' => M'.1 = M.1 ∧ (∀ f, f ≠ 35 → f ≠ 36 → M'.2 f = M.2 f) ∧ KVM M' T (fun k n => if fe T ps ((tO T).getD n 0) then kst k R (st k n) (k0, v, s) else st k n)) (f := fun (z : MS × Int) => m_declare_112s z.1 (r : Int) (k0 : Int) v rk z.2) (fun n (z : MS × Int) => z.2 = (n : Int) ∧ z.1.1 = M.1 ∧ (∀ f, f ≠ 35 → f ≠ 36 → z.1.2 f = M.2 f) ∧ KVM z.1 T (fun k m => if m < n ∧ fe T ps ((tO T).getD m 0) = true then kst k R (st k m) (k0, v, s) else st k m)) (a := 0) (b := (tO T).length) (s0 := (M, 0)) (by omega) ⟨rfl, rfl, fun _ _ _ => rfl, fun k hk m hm => by simp only [Nat.not_lt_zero, false_and, if_false]; exact hK k hk m hm⟩ (fun n z n1 n2 hI => ?_) (fun z hI => ?_)
  · obtain ⟨s1, s2, s3, s4⟩ := hI
    obtain ⟨q1, q2, q3, q4⟩ := s4 k0 hk0 n n2
    simp only [Nat.lt_irrefl, false_and, if_false] at q1 q2 q3 q4
    have hz1 : zix (40 * ((ps.length : Nat) : Int) + (n : Int)) = 40 * ps.length + n := by rw [zix_toNat (by omega) (by omega)]; omega
    have hz2 : zix (40 * (k0 : Int) + (n : Int)) = 40 * k0 + n := by rw [zix_toNat (by omega) (by omega)]; omega
    have hpre : m_declare_112s z.1 (r : Int) (k0 : Int) v rk z.2 = if fe T ps ((tO T).getD n 0) = true ∧ (st k0 n).1 ≤ rk then some (.inl (sA (sA z.1 35 (40 * k0 + n) rk) 36 (40 * k0 + n) v, ((n + 1 : Nat) : Int))) else some (.inl (z.1, ((n + 1 : Nat) : Int))) := by
      unfold m_declare_112s m_declare_189
      rw [s1, s2, hR.2.1, if_ltp (by omega) (by omega) (by omega), gd_zin (by omega) (by omega) (by omega), zix_nat (by omega), s3 26 (by omega) (by omega), hL, gd_zin (by omega) (by omega) (by omega), hz1, s3 34 (by omega) (by omega), hF n n2]
      cases hf : fe T ps ((tO T).getD n 0) with
      | false => rw [zb_f, if_eqp rfl, if_neg (fun z => by cases z.1)]; rfl
      | true =>
        rw [zb_t, if_eqn (by omega) (by omega) (by omega) (by omega) (by omega), gd_zin (by omega) (by omega) (by omega), hz2, q1]
        by_cases y : (st k0 n).1 ≤ rk
        · rw [if_ltn y (by omega) (by omega), gd_zin (by omega) (by omega) (by omega), bnd_eq, gd_zin (by omega) (by omega) (by omega), bnd_eq, if_pos (show true = true ∧ (st k0 n).1 ≤ rk from ⟨rfl, y⟩)]; rfl
        · rw [if_ltp (by omega) (by omega) (by omega), if_neg (fun z => y z.2)]; rfl
    have hK' : ∀ (N : MS), (∀ k m, (k ≠ k0 ∨ m ≠ n) → k < 7 → m < (tO T).length → N.2 35 (40 * k + m) = z.1.2 35 (40 * k + m) ∧ N.2 36 (40 * k + m) = z.1.2 36 (40 * k + m)) → (N.2 35 (40 * k0 + n) = (if fe T ps ((tO T).getD n 0) = true then kst k0 R (st k0 n) (k0, v, s) else st k0 n).1 ∧ N.2 36 (40 * k0 + n) = (if fe T ps ((tO T).getD n 0) = true then kst k0 R (st k0 n) (k0, v, s) else st k0 n).2) → KVM N T (fun k m => if m < n + 1 ∧ fe T ps ((tO T).getD m 0) = true then kst k R (st k m) (k0, v, s) else st k m) := fun N ho hh k hk m hm => by
      obtain ⟨a1, a2, a3, a4⟩ := hK k hk m hm
      show N.2 35 (40 * k + m) = (if m < n + 1 ∧ fe T ps ((tO T).getD m 0) = true then kst k R (st k m) (k0, v, s) else st k m).1 ∧ N.2 36 (40 * k + m) = (if m < n + 1 ∧ fe T ps ((tO T).getD m 0) = true then kst k R (st k m) (k0, v, s) else st k m).2 ∧ -1 ≤ (if m < n + 1 ∧ fe T ps ((tO T).getD m 0) = true then kst k R (st k m) (k0, v, s) else st k m).1 ∧ (if m < n + 1 ∧ fe T ps ((tO T).getD m 0) = true then kst k R (st k m) (k0, v, s) else st k m).1 ≤ 200000
      by_cases y : k = k0 ∧ m = n
      · rw [y.1, y.2]
        rw [y.1, y.2] at a3 a4
        refine ⟨?_, ?_, ?_, ?_⟩
        · rw [hh.1]
          by_cases u : fe T ps ((tO T).getD n 0) = true
          · rw [if_pos u, if_pos ⟨by omega, u⟩]
          · rw [if_neg u, if_neg (fun q => u q.2)]
        · rw [hh.2]
          by_cases u : fe T ps ((tO T).getD n 0) = true
          · rw [if_pos u, if_pos ⟨by omega, u⟩]
          · rw [if_neg u, if_neg (fun q => u q.2)]
        · split
          · exact (kst_rng hRr ⟨a3, a4⟩ _).1
          · exact a3
        · split
          · exact (kst_rng hRr ⟨a3, a4⟩ _).2
          · exact a4
      · obtain ⟨b1, b2⟩ := ho k m (by omega) hk hm
        obtain ⟨c1, c2, c3, c4⟩ := s4 k hk m hm
        simp only [] at c1 c2 c3 c4
        rw [b1, b2]
        by_cases u : m = n
        · have hkk : k ≠ k0 := fun q => y ⟨q, u⟩
          have hkst : kst k R (st k m) (k0, v, s) = st k m := kn2 k _ hkk
          rw [if_neg (fun q => by omega)] at c1 c2 c3 c4
          rw [hkst, ite_self]
          exact ⟨c1, c2, c3, c4⟩
        · have : (m < n + 1 ∧ fe T ps ((tO T).getD m 0) = true) = (m < n ∧ fe T ps ((tO T).getD m 0) = true) := propext ⟨fun q => ⟨by omega, q.2⟩, fun q => ⟨by omega, q.2⟩⟩
          simp only [this]
          exact ⟨c1, c2, c3, c4⟩
    rw [hpre]
    by_cases y : fe T ps ((tO T).getD n 0) = true ∧ (st k0 n).1 ≤ rk
    · rw [if_pos y]
      refine ⟨_, rfl, rfl, s2, fun f f1 f2 => by rw [sA_f _ _ _ _ _ f2, sA_f _ _ _ _ _ f1]; exact s3 f f1 f2, hK' _ (fun k m hkm hk hm => ⟨?_, ?_⟩) ⟨?_, ?_⟩⟩
      · rw [sA_n _ _ _ _ _ _ (by omega), sA_i _ _ _ _ _ (by omega)]
      · rw [sA_i _ _ _ _ _ (by omega), sA_n _ _ _ _ _ _ (by omega)]
      · rw [if_pos y.1, sA_n _ _ _ _ _ _ (by omega), sA_s, kp _ y.2]
      · rw [if_pos y.1, sA_s, kp _ y.2]
    · rw [if_neg y]
      refine ⟨_, rfl, rfl, s2, s3, hK' _ (fun k m _ _ _ => ⟨rfl, rfl⟩) ?_⟩
      by_cases u : fe T ps ((tO T).getD n 0) = true
      · have hkst : kst k0 R (st k0 n) (k0, v, s) = st k0 n := kn _ (fun q => y ⟨u, q⟩)
        rw [if_pos u, hkst]; exact ⟨q1, q2⟩
      · rw [if_neg u]; exact ⟨q1, q2⟩
  · obtain ⟨s1, s2, s3, s4⟩ := hI
    refine ⟨z.1, ?_, s2, s3, fun k hk n hn => ?_⟩
    · simp only [m_declare_112s]
      rw [s1, s2, hR.2.1, if_ltn (by omega) (by omega) (by omega)]
    · have := s4 k hk n hn
      have e : (n < (tO T).length ∧ fe T ps ((tO T).getD n 0) = true) = (fe T ps ((tO T).getD n 0) = true) := propext ⟨fun q => q.2, fun q => ⟨hn, q⟩⟩
      simp only [e] at this
      exact this
/-- one declaration -/
theorem m_declare_eq (hR : RepM M T) (hW : WF T) {r : Nat} (hr : r < 12) {ps : List PT} (hps : 1 ≤ ps.length ∧ ps.length ≤ 4) (hL : M.2 26 r = ((ps.length : Nat) : Int)) (hF : FitM M T ps ps.length) (hK : KVM M T st) {C S : Nat} (hC : M.2 27 r = (C : Int)) (hS : M.2 28 r = (S : Int)) (hCS : C ≤ 200 ∧ S ≤ 4) {wd : List Int} (hw : WdM M wd) (h32 : M.1 32 = ((wd.length : Nat) : Int)) : ∃ M', m_declare M (r : Int) = some M' ∧ M'.1 32 = 0 ∧ (∀ f, f ≠ 32 → M'.1 f = M.1 f) ∧ (∀ f, f ≠ 35 → f ≠ 36 → M'.2 f = M.2 f) ∧ KVM M' T (fun k n => if fe T ps ((tO T).getD n 0) then (dec wd).toList.foldl (kst k (10 * (C : Int) + (S : Int))) (st k n) else st k n) := by
  have hwl := hw.2.1
  -- a word without its mark
  have main : ∀ (e : List Int) (s : Bool), WdM M e → ∃ M', m_declare_39 M (r : Int) (zb s) ((e.length : Nat) : Int) = some M' ∧ M'.1 32 = 0 ∧ (∀ f, f ≠ 32 → M'.1 f = M.1 f) ∧ (∀ f, f ≠ 35 → f ≠ 36 → M'.2 f = M.2 f) ∧ KVM M' T (fun k n => if fe T ps ((tO T).getD n 0) then ((decE e).map (fun q => (q.1, q.2, s))).toList.foldl (kst k (10 * (C : Int) + (S : Int))) (st k n) else st k n) := fun e s he => by
    obtain ⟨d1, d2⟩ := m_declared_eq he
    have p57 : m_declare_39 M (r : Int) (zb s) ((e.length : Nat) : Int) = m_declare_57 M (r : Int) ((e.length : Nat) : Int) (zb s) (idxE e) := by
      unfold m_declare_39
      have hel := he.2.1
      cases e with
      | nil => rw [if_ltn (by simp) (by simp) (by simp)]; rfl
      | cons p e =>
        have hp := he.2.2 p (by simp)
        have g0 : M.2 31 0 = p := he.1 0 (by simp)
        rw [if_ltp (by simp) (by omega) (by omega), gd_zin (by omega) (by omega) (by omega), show zix 0 = 0 by decide, g0, m_prop_eq p (by omega) (by omega), obind_some]
        rfl
    rw [p57]
    unfold m_declare_57
    rw [d1, obind_some, bnd_eq]
    cases hd : decE e with
    | none =>
      simp only []
      rw [if_ltp (by omega) (by omega) (by omega)]
      refine ⟨sI M 32 0, rfl, sI_s _ _ _, fun f hf => sI_n _ _ _ _ hf, fun _ _ _ => rfl, fun k hk n hn => ?_⟩
      show _ = (if fe T ps ((tO T).getD n 0) = true then st k n else st k n).1 ∧ _ = (if fe T ps ((tO T).getD n 0) = true then st k n else st k n).2 ∧ -1 ≤ (if fe T ps ((tO T).getD n 0) = true then st k n else st k n).1 ∧ (if fe T ps ((tO T).getD n 0) = true then st k n else st k n).1 ≤ 200000
      rw [ite_self]; exact hK k hk n hn
    | some q =>
      obtain ⟨k0, v⟩ := q
      have hv := decE_v hd
      have hix := d2 _ hd
      have hk0 : k0 < 7 := by
        have : idxE e ≤ 6 := by
          cases e with
          | nil => show (-1 : Int) ≤ 6; omega
          | cons p e => exact (ix7_rng p).2
        simp only [] at hix
        omega
      simp only [] at hix ⊢
      rw [if_ltn (by omega) (by omega) (by omega), hix]
      have hFY : FY M (sI M 32 0) := (FY.refl M).s32 _
      obtain ⟨M', t1, t2, t3, t4⟩ := ms112 (M := sI M 32 0) (hR.fy hFY) hW hr hps hL hF hK hk0 v s (R := 10 * (C : Int) + (S : Int)) (by omega)
      have e90 : ∀ x : Int, x = (if s then 100000 else 0) → m_declare_90 (sI M 32 0) (r : Int) (k0 : Int) v x = some M' := fun x hx => by
        unfold m_declare_90
        rw [gd_zin (by omega) (by omega) (by omega), gd_zin (by omega) (by omega) (by omega), bnd_eq, zix_nat (by omega), sI_2, hC, hS, hx, show (if s then (100000 : Int) else 0) + 10 * (C : Int) + (S : Int) = (if s then 100000 else 0) + (10 * (C : Int) + (S : Int)) by omega]
        exact t1
      refine ⟨M', ?_, by rw [t2]; exact sI_s _ _ _, fun f hf => by rw [t2]; exact sI_n _ _ _ _ hf, t3, t4⟩
      cases s with
      | false => rw [zb_f, if_eqp rfl]; exact e90 0 rfl
      | true => rw [zb_t, if_eqn (by omega) (by omega) (by omega) (by omega) (by omega)]; exact e90 100000 rfl
  unfold m_declare m_declare_26 m_declare_27
  rw [bnd_eq, h32]
  have off : wd.getLastD 0 ≠ 33 → ∃ M', (if zI (0 : Int) = zI 0 then m_declare_39 M (r : Int) 0 ((wd.length : Nat) : Int) else m_declare_39 M (r : Int) 0 (((wd.length : Nat) : Int) - 1)) = some M' ∧ M'.1 32 = 0 ∧ (∀ f, f ≠ 32 → M'.1 f = M.1 f) ∧ (∀ f, f ≠ 35 → f ≠ 36 → M'.2 f = M.2 f) ∧ KVM M' T (fun k n => if fe T ps ((tO T).getD n 0) then (dec wd).toList.foldl (kst k (10 * (C : Int) + (S : Int))) (st k n) else st k n) := fun hn => by
    have hdc : dec wd = (decE wd).map (fun q => (q.1, q.2, false)) := by unfold dec; rw [if_neg hn]
    rw [if_eqp rfl, hdc]
    exact main wd false hw
  by_cases e1 : wd = []
  · rw [if_ltn (by rw [e1]; simp) (by omega) (by omega)]
    exact off (by rw [e1]; simp)
  · have hpos : wd.length ≠ 0 := fun z => e1 (List.eq_nil_of_length_eq_zero z)
    have hlast := getLastD_eq wd e1
    have hm : wd.getD (wd.length - 1) 0 ∈ wd := by rw [gD (by omega)]; exact List.getElem_mem _
    have hr' := hw.2.2 _ hm
    rw [if_ltp (by omega) (by omega) (by omega), gd_zin (by omega) (by omega) (by omega), zix_toNat (by omega) (by omega), show (((wd.length : Nat) : Int) - 1).toNat = wd.length - 1 by omega, hw.1 _ (by omega), ← hlast]
    rw [← hlast] at hr'
    by_cases e2 : wd.getLastD 0 = 33
    · have hdc : dec wd = (decE wd.dropLast).map (fun q => (q.1, q.2, true)) := by unfold dec; rw [if_pos e2]
      rw [if_eqp e2, if_eqn (by omega) (by omega) (by omega) (by omega) (by omega), hdc, show ((wd.length : Nat) : Int) - 1 = ((wd.dropLast.length : Nat) : Int) by rw [List.length_dropLast]; omega]
      refine main wd.dropLast true ⟨fun k hk => ?_, by rw [List.length_dropLast]; omega, fun c hc => hw.2.2 c ((List.dropLast_sublist wd).subset hc)⟩
      rw [List.length_dropLast] at hk
      rw [hw.1 k (by omega), gD (by omega), gD (by rw [List.length_dropLast]; omega), List.getElem_dropLast]
    · rw [if_eqn e2 (by omega) (by omega) (by omega) (by omega)]
      exact off e2
end MY
