/-! the page's tree: looking -/
set_option maxRecDepth 100000
theorem gd_c {α : Type} {c : Prop} {i : Decidable c} {x : Option α} (h : c) : (@gd α c i x) = x := gd_of h
section PB
variable {h : HP} {pg : Nat} {φ : Nat → Nat} {T : TS}
theorem RepB.elc (H : RepB h pg φ T) {i : Nat} (hi : i < tN T) (hm : tM T i ≠ 1) : ELc h (φ i) := by
  by_cases e : i = 0
  · rw [e, H.2.1]; exact H.1.2.2.2.1.1
  · exact H.1.2.2.2.1.2.1 _ (H.2.2.1.1 i hi e hm)
theorem RepB.txc (H : RepB h pg φ T) {i : Nat} (hi : i < tN T) (hm : tM T i = 1) : TXc h (φ i) := H.1.2.2.2.1.2.2.1 _ (H.2.2.1.2.1 i hi hm)
theorem nk1 {x : Int} (h : ¬ noKid x) : x ≠ 1 := fun q => h (Or.inl q)
theorem RepB.top (H : RepB h pg φ T) (hW : WF T) : f_X0_top h pg = some (φ ((tS T).getD ((tS T).length - 1) 0)) := by
  have hl := hW.len
  have h24 := hW.b.2.2.2.2.1
  have h1 := hW.1.2.1
  obtain ⟨t1, t2, t3⟩ := hW.top hl (Nat.le_refl _)
  have hs := H.2.2.2.2.2.2.1
  have hk := (H.elc t2 (nk1 t3)).1
  have hb := H.1
  unfold f_X0_top lLen lGet
  rw [gd_c hb.1.1, gd_c hb.1.1, hb.1.2.2.2.2.1, obind_some, gd_c (by rw [hb.2.1.2.2.1]; decide), obind_some, gd_c (by rw [hb.2.1.2.2.1]; decide), hs, List.length_map, gd_zin (by omega) (by omega) (by omega), obind_some, zix_toNat (by omega) (by omega), tn_s1]
  have : ((tS T).map φ).getD ((tS T).length - 1) 0 = φ ((tS T).getD ((tS T).length - 1) 0) := by
    rw [gD (by rw [List.length_map]; omega), List.getElem_map, gD (by omega)]
  rw [this, gd_c hk]
theorem RepB.is (H : RepB h pg φ T) (hW : WF T) {i : Nat} (hi : i < tN T) (hm : tM T i ≠ 1) {x : Int} (hx : nmOK x) : f_X2_is h (φ i) x = some (zb (decide (tM T i = x))) := by
  have hn := hW.nm hi
  unfold nmOK at hn hx
  unfold f_X2_is
  rw [gd_c (H.elc hi hm).1, (H.2.2.2.1 i hi hm).1]
  by_cases e : tM T i = x
  · rw [if_eqp e, decide_eq_true e]; rfl
  · rw [if_eqn e (by omega) (by omega) (by omega) (by omega), decide_eq_false e]; rfl
theorem zi2b_n : ∀ n : Nat, n < 256 → zi2b (n : Int) = if n < 128 then (n : Int) else (n : Int) - 256 := by decide +kernel
theorem sT_ok : ∀ n : Nat, n < 11 → (sT n).length ≤ 8 ∧ ∀ c ∈ sT n, 97 ≤ c ∧ c ≤ 122 := by decide
theorem tw_self {α : Type} (f : α → Bool) : ∀ l : List α, (∀ x ∈ l, f x = true) → l.takeWhile f = l
  | [], _ => rfl
  | a :: l, h => by
    rw [List.takeWhile_cons, if_pos (h a (by simp)), tw_self f l (fun x hx => h x (by simp [hx]))]
/-- where a letter stands first in a constant text -/
def ixT (n : Nat) (c : Int) : Int := if ((sT n).takeWhile (fun x => decide (x ≠ c))).length = (sT n).length then -1 else (((sT n).takeWhile (fun x => decide (x ≠ c))).length : Int)
theorem ixT_neg (n : Nat) (c : Int) : ixT n c < 0 ↔ (sT n).contains c = false := by
  unfold ixT
  by_cases e : ((sT n).takeWhile (fun x => decide (x ≠ c))).length = (sT n).length
  · rw [if_pos e]
    refine ⟨fun _ => ?_, fun _ => by omega⟩
    cases hc : (sT n).contains c with
    | false => rfl
    | true =>
      exfalso
      have hm : c ∈ sT n := by simpa using hc
      obtain ⟨k, hk, ek⟩ := List.getElem_of_mem hm
      have := tw_lt (fun x => decide (x ≠ c)) (sT n) k 0 (by omega)
      rw [gD hk, ek] at this
      simp at this
  · rw [if_neg e]
    refine ⟨fun q => by omega, fun q => ?_⟩
    have hle := tw_le (fun x => decide (x ≠ c)) (sT n)
    have := tw_at (fun x => decide (x ≠ c)) (sT n) 0 (by omega)
    simp only [decide_eq_false_iff_not, Decidable.not_not] at this
    have hm : c ∈ sT n := by
      rw [← this, gD (by omega)]
      exact List.getElem_mem _
    have : (sT n).contains c = true := by simpa using hm
    rw [q] at this; cases this
theorem ixT_rng (n : Nat) (hn : n < 11) (c : Int) : -1 ≤ ixT n c ∧ ixT n c < 8 := by
  have h1 := (sT_ok n hn).1
  have hle := tw_le (fun x => decide (x ≠ c)) (sT n)
  unfold ixT
  split <;> omega
theorem idxOf_eq {n : Nat} (hn : n < 11) {c : Int} (h1 : 0 ≤ c) (h2 : c < 65536) : f_J6_indexOf h n c = some (ixT n c) := by
  obtain ⟨s1, s2⟩ := sT_ok n hn
  have hle := tw_le (fun x => decide (x ≠ c)) (sT n)
  have hlen : f_J6_length h n = some ((sT n).length : Int) := by
    unfold f_J6_length f_J6_coder
    rw [gd_c hn, gd_c hn, gd_c hn, if_eqn (by omega) (by omega) (by omega) (by omega) (by omega), gd_c hn, gd_c zisY_0, obind_some, zshr_0 (by omega) (by omega)]
  have hlat : f_J6_isLatin1 h n = some 1 := by
    unfold f_J6_isLatin1
    rw [if_eqn (by omega) (by omega) (by omega) (by omega) (by omega), gd_c hn, if_eqp rfl]
  have hgo : f_J13_indexOf h n c 0 ((sT n).length : Int) = some (ixT n c) := by
    unfold f_J13_indexOf f_J13_canEncode
    rw [if_ltn h1 (by omega) (by omega)]
    by_cases hc : 255 < c
    · rw [if_ltp hc (by omega) (by omega), obind_some, if_eqp rfl]
      congr 1
      unfold ixT
      rw [if_pos]
      have : (sT n).takeWhile (fun x => decide (x ≠ c)) = sT n := by
        refine tw_self _ _ (fun x hx => ?_)
        have := s2 x hx
        simp
        omega
      rw [this]
    · rw [if_ltn (by omega) (by omega) (by omega), obind_some, if_eqn (by omega) (by omega) (by omega) (by omega) (by omega), bnd_eq, gd_c hn, bnd_eq]
      have e1 : zmax 0 0 = 0 := by rw [zmax_eq (by omega) (by omega) (by omega) (by omega)]; rfl
      have e2 : zmin ((sT n).length : Int) ((sT n).length : Int) = ((sT n).length : Int) := by rw [zmin_eq (by omega) (by omega) (by omega) (by omega)]; simp
      rw [e1, e2]
      have hb : zi2b c = if c < 128 then c else c - 256 := by
        have := zi2b_n c.toNat (by omega)
        rw [show ((c.toNat : Nat) : Int) = c by omega] at this
        rw [this]
        by_cases q : c < 128
        · rw [if_pos q, if_pos (by omega)]
        · rw [if_neg q, if_neg (by omega)]
      have hloop : 0 < (sT n).length → f_J13_indexOfChar h n c 0 ((sT n).length : Int) = some (ixT n c) := fun hpos => by
        unfold f_J13_indexOfChar
        rw [bnd_eq, hb]
        refine loopUs (fun k => (k : Int)) 0 ((sT n).takeWhile (fun x => decide (x ≠ c))).length rfl (Nat.zero_le _) (fun k k1 k2 => ?_) ?_
        · have hne := tw_lt (fun x => decide (x ≠ c)) (sT n) k 0 k2
          simp only [decide_eq_true_eq] at hne
          have hm : (sT n).getD k 0 ∈ sT n := by rw [gD (by omega)]; exact List.getElem_mem _
          have hr := s2 _ hm
          simp only [f_J13_indexOfChar_7s]
          rw [if_ltp (by omega) (by omega) (by omega), gd_c ⟨hn, zin_of (by omega) (by omega) (by omega)⟩, zix_nat (by omega), if_eqn (by split <;> omega) (by omega) (by omega) (by split <;> omega) (by split <;> omega)]
          rfl
        · simp only [f_J13_indexOfChar_7s]
          unfold ixT
          by_cases e : ((sT n).takeWhile (fun x => decide (x ≠ c))).length = (sT n).length
          · rw [if_pos e, e, if_ltn (by omega) (by omega) (by omega)]
          · have hat := tw_at (fun x => decide (x ≠ c)) (sT n) 0 (by omega)
            simp only [decide_eq_false_iff_not, Decidable.not_not] at hat
            have hm : (sT n).getD ((sT n).takeWhile (fun x => decide (x ≠ c))).length 0 ∈ sT n := by rw [gD (by omega)]; exact List.getElem_mem _
            have hr := s2 _ hm
            rw [hat] at hr
            rw [if_neg e, if_ltp (by omega) (by omega) (by omega), gd_c ⟨hn, zin_of (by omega) (by omega) (by omega)⟩, zix_nat (by omega), hat, if_eqp (by rw [if_pos (by omega)])]
      by_cases hz : (sT n).length = 0
      · rw [hz, if_ltn (by omega) (by omega) (by omega)]
        unfold ixT
        rw [if_pos (by omega)]
      · rw [if_ltp (by omega) (by omega) (by omega), hloop (by omega)]
        rfl
  unfold f_J6_indexOf f_J6_indexOf_2
  rw [gd_c hn, gd_c hn, hlat, obind_some, if_eqn (by omega) (by omega) (by omega) (by omega) (by omega), gd_c hn, gd_c hn, hlen, obind_some, hgo]
  rfl
theorem getD_map {l : List Nat} {k : Nat} (hk : k < l.length) : (l.map φ).getD k 0 = φ (l.getD k 0) := by
  rw [gD (by rw [List.length_map]; omega), List.getElem_map, gD hk]
theorem RepB.reach (H : RepB h pg φ T) (hW : WF T) {x : Int} (hx : nmOK x) {n : Nat} (hn : n < 11) : f_X0_reach h pg x n = some ((rch T x (sT n) : Nat) : Int) := by
  have hl := hW.len
  have h24 := hW.b.2.2.2.2.1
  have h1 := hW.1.2.1
  have hs := H.2.2.2.2.2.2.1
  have hb := H.1
  have hloop : ∀ k, k < (tS T).length → iter (fun (z : Int) => f_X0_reach_10s h pg x n z) (k : Int) = some ((reachB (fun k => decide (1 ≤ k) && decide (sNm T k = x)) (fun k => decide (1 ≤ k) && (sT n).contains (sNm T k)) (k + 1) : Nat) : Int) := by
    intro k
    induction k with
    | zero =>
      intro _
      refine iter_out ?_
      simp only [f_X0_reach_10s]
      rw [if_ltn (by omega) (by omega) (by omega)]
      rfl
    | succ k ih =>
      intro hk
      have hks := (hW.top (n := k + 2) (by omega) (by omega))
      rw [show k + 2 - 1 = k + 1 from rfl] at hks
      obtain ⟨t1, t2, t3⟩ := hks
      have hnm := hW.nm t2
      unfold nmOK at hnm
      have hel := H.elc t2 (nk1 t3)
      have hl2 := (H.2.2.2.1 _ t2 (nk1 t3)).1
      have hsn : sNm T (k + 1) = tM T ((tS T).getD (k + 1) 0) := rfl
      have hstep : f_X0_reach_10s h pg x n ((k + 1 : Nat) : Int) = if tM T ((tS T).getD (k + 1) 0) = x then some (.inr ((k + 1 : Nat) : Int)) else if (sT n).contains (tM T ((tS T).getD (k + 1) 0)) then some (.inr 0) else some (.inl ((k : Nat) : Int)) := by
        simp only [f_X0_reach_10s]
        unfold lGet
        rw [if_ltp (by omega) (by omega) (by omega), gd_c hb.1.1, hb.1.2.2.2.2.1, obind_some, gd_c (by rw [hb.2.1.2.2.1]; decide), hs, gd_zin (by omega) (by rw [List.length_map]; omega) (by rw [List.length_map]; omega), obind_some, zix_nat (by omega), getD_map hk, gd_c hel.1, gd_c hel.1, H.is hW t2 (nk1 t3) hx, obind_some]
        by_cases e : tM T ((tS T).getD (k + 1) 0) = x
        · rw [if_pos e, decide_eq_true e, zb_t, if_eqn (by omega) (by omega) (by omega) (by omega) (by omega)]
        · rw [if_neg e, decide_eq_false e, zb_f, if_eqp rfl, gd_c hel.1, gd_c hn, hl2, idxOf_eq hn (by omega) (by omega), obind_some]
          have hrg := ixT_rng n hn (tM T ((tS T).getD (k + 1) 0))
          cases hc : (sT n).contains (tM T ((tS T).getD (k + 1) 0)) with
          | true =>
            have : ¬ ixT n (tM T ((tS T).getD (k + 1) 0)) < 0 := fun q => by rw [ixT_neg, hc] at q; cases q
            rw [if_ltn (by omega) (by omega) (by omega)]
            rfl
          | false =>
            have := (ixT_neg n (tM T ((tS T).getD (k + 1) 0))).mpr hc
            rw [if_ltp (by omega) (by omega) (by omega)]
            simp only [Bool.false_eq_true, if_false]
            congr 2
            omega
      rw [reachB]
      simp only [show decide (1 ≤ k + 1) = true from decide_eq_true (by omega), Bool.true_and, hsn, decide_eq_true_eq]
      by_cases e : tM T ((tS T).getD (k + 1) 0) = x
      · rw [if_pos e] at hstep ⊢
        exact iter_out hstep
      · rw [if_neg e] at hstep ⊢
        cases hc : (sT n).contains (tM T ((tS T).getD (k + 1) 0)) with
        | true =>
          rw [hc] at hstep
          exact iter_out hstep
        | false =>
          rw [hc] at hstep
          simp only [Bool.false_eq_true, if_false] at hstep ⊢
          rw [iter_in hstep]
          exact ih (by omega)
  unfold f_X0_reach lLen f_X0_reach_10
  rw [gd_c hb.1.1, hb.1.2.2.2.2.1, obind_some, gd_c (by rw [hb.2.1.2.2.1]; decide), obind_some, bnd_eq, hs, List.length_map, show ((tS T).length : Int) - 1 = (((tS T).length - 1 : Nat) : Int) by omega, hloop _ (by omega), show (tS T).length - 1 + 1 = (tS T).length by omega]
  rfl
end PB
