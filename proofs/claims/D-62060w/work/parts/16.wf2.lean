/-! tags and characters keep it -/
set_option maxRecDepth 100000
section WFE
variable {T : TS}
theorem WF.mem_t (h : WF T) {n : Nat} (h1 : 1 ≤ n) (h2 : n ≤ (tS T).length) (e : lastB (fun k => decide (1 ≤ k) && decide (sNm T k = 116)) n ≠ 0) : (tS T).getD (lastB (fun k => decide (1 ≤ k) && decide (sNm T k = 116)) n) 0 < tN T ∧ tM T ((tS T).getD (lastB (fun k => decide (1 ≤ k) && decide (sNm T k = 116)) n) 0) = 116 ∧ (tS T).getD (lastB (fun k => decide (1 ≤ k) && decide (sNm T k = 116)) n) 0 ≠ 0 := by
  have hlt := lastB_lt (fun k => decide (1 ≤ k) && decide (sNm T k = 116)) n (by omega)
  have hat := lastB_at _ n e
  simp only [Bool.and_eq_true, decide_eq_true_eq] at hat
  have h116 : tM T ((tS T).getD (lastB (fun k => decide (1 ≤ k) && decide (sNm T k = 116)) n) 0) = 116 := hat.2
  refine ⟨getD_lt h.b.2.2.2.2.2.1 (by omega), h116, fun q => ?_⟩
  rw [q, h.2.1.1] at h116
  omega
theorem WF.place (h : WF T) {n : Nat} (h1 : 1 ≤ n) (h2 : n ≤ (tS T).length) : Place T (plc T n) ∧ ¬ noKid (tM T (plc T n).2.2) ∧ tM T (plc T n).2.2 ≠ 116 ∧ tM T (plc T n).2.2 ≠ 114 := by
  obtain ⟨ht1, ht2, ht3⟩ := h.top h1 h2
  have hwo := h.1.2.2.2.2.1
  unfold plc
  simp only []
  split
  · next hc =>
    simp only [Bool.and_eq_true, decide_eq_true_eq] at hc
    obtain ⟨m1, m2, m3⟩ := h.mem_t h1 h2 hc.2
    refine ⟨place_bf hwo (h.full m1) m3, ?_⟩
    have hk := (h.2.1.2 _ m1 m3).2
    rw [m2] at hk
    exact ⟨hk.1, fun q => absurd (hk.2.1 q) (by decide), fun q => absurd (hk.2.2 q) (by decide)⟩
  · next hc =>
    refine ⟨place_in hwo (h.full ht2), ht3, ?_⟩
    have hn : isTR (tM T ((tS T).getD (n - 1) 0)) = false := by
      cases hb : isTR (tM T ((tS T).getD (n - 1) 0)) with
      | false => rfl
      | true =>
        have := h.tbl h1 h2 hb
        rw [hb] at hc
        simp [this] at hc
    unfold isTR at hn
    simpa using hn
theorem WF.kid (h : WF T) {n : Nat} (h1 : 1 ≤ n) (h2 : n ≤ (tS T).length) (x : Int) : kidOK (tM T (plc T n).2.2) x := by
  obtain ⟨-, a, b, c⟩ := h.place h1 h2
  exact ⟨a, fun q => absurd q b, fun q => absurd q c⟩
theorem WF.mkpsh (h : WF T) (hn : tN T ≠ 24) {x c : Int} {q : Nat × Nat × Nat} (hq : Place T q) (hx : nmI x) (hk : kidOK (tM T q.2.2) x) (hx2 : ¬ noKid x) (hr : x = 114 → tM T ((tS T).getD ((tS T).length - 1) 0) = 116) : WF (psh (mkT T x c q) (tN T)) := by
  have hs : ∀ j ∈ tS T, j < tN T := fun j hj => (h.2.2.1.2.2.1 j hj).1
  have hl : 1 ≤ (tS T).length := by obtain ⟨r, e⟩ := h.2.2.1.1; rw [e]; simp
  refine (h.mk hn hq hx hk).wpsh ?_ ?_ ?_ ?_ ?_
  · rw [tN_mkT]; omega
  · rw [tS_mkT]; exact fun z => by have := hs _ z; omega
  · rw [tM_mkT, va_up_s]; exact hx2
  · rw [tM_mkT, va_up_s, tS_mkT, va_up_n _ _ _ _ (by have := getD_lt hs (show (tS T).length - 1 < (tS T).length by omega); omega)]
    exact hr
  · intro j hj
    rw [tS_mkT] at hj
    rw [tP_mkT, anc_old (fun j hj => h.par hj) (hs j hj)]
    exact fun z => by omega
theorem fmt_nm {x : Int} (h : isFmt x = true) : x = 98 ∨ x = 105 ∨ x = 115 := by
  unfold isFmt at h
  simpa using h
theorem WF.len (h : WF T) : 1 ≤ (tS T).length := by obtain ⟨r, e⟩ := h.2.2.1.1; rw [e]; simp
theorem WF.ownr_lt (h : WF T) : ownr T < tN T := getD_lt h.b.2.2.2.2.2.1 (topm_lt h.b 99)
/-- one more formatting element made anew -/
theorem WF.again (h : WF T) (hn : tN T ≠ 24) {o k : Nat} (ho : o < tN T) (hk : k < (tL T o).length) : WF (setL (psh (mkT T (tM T ((tL T o).getD k 0)) (tC T ((tL T o).getD k 0)) (plc T (tS T).length)) (tN T)) (va_up (va_up (tL T) (tN T) []) o ((va_up (tL T) (tN T) [] o).set k (tN T)))) := by
  have hm : (tL T o).getD k 0 ∈ tL T o := by rw [gD hk]; exact List.getElem_mem _
  obtain ⟨hm1, hm2⟩ := h.2.2.2.1 o _ hm
  have hf := fmt_nm hm2
  have hlen := h.len
  have hw := h.mkpsh hn (h.place hlen (Nat.le_refl _)).1 (x := tM T ((tL T o).getD k 0)) (c := tC T ((tL T o).getD k 0)) (by unfold nmI; omega) (h.kid hlen (Nat.le_refl _) _) (by unfold noKid; omega) (fun q => by omega)
  refine hw.wsetL (fun o' i hi => ?_) (fun o' => ?_) (fun i hi => ?_)
  · rw [tN_psh, tN_mkT, tM_psh, tM_mkT]
    by_cases e : o' = o
    · rw [e, va_up_s, va_up_n _ _ _ _ (by omega)] at hi
      rcases List.mem_or_eq_of_mem_set hi with z | z
      · have := h.2.2.2.1 o i z
        rw [va_up_n _ _ _ _ (by omega)]
        exact ⟨by omega, this.2⟩
      · rw [z, va_up_s]
        exact ⟨by omega, hm2⟩
    · rw [va_up_n _ _ _ _ e] at hi
      have := hw.2.2.2.1 o' i hi
      rw [tN_psh, tN_mkT, tM_psh, tM_mkT] at this
      exact this
  · by_cases e : o' = o
    · rw [e, va_up_s, List.length_set, va_up_n _ _ _ _ (by omega)]
      exact h.2.2.2.2.1 o
    · rw [va_up_n _ _ _ _ e]
      exact hw.2.2.2.2.1 o'
  · rw [tN_psh, tN_mkT] at hi
    rw [va_up_n _ _ _ _ (by omega), va_up_n _ _ _ _ (by omega)]
    exact (h.2.2.2.2.2 i (by omega)).1
theorem WF.wrenewF : ∀ (d : Nat) (o k : Nat) (T T' : TS), WF T → o < tN T → renewF o d k T = some T' → WF T' := by
  intro d
  induction d with
  | zero =>
    intro o k T T' h ho e
    cases e
    exact h
  | succ d ih =>
    intro o k T T' h ho e
    unfold renewF at e
    split at e
    · next hk =>
      by_cases hn : tN T = 24
      · rw [mkN_none hn] at e; cases e
      · rw [mkN_some hn] at e
        exact ih o (k + 1) _ T' (h.again hn ho hk) (by rw [tN_setL, tN_psh, tN_mkT]; omega) e
    · cases e; exact h
theorem WF.renew (h : WF T) {T' : TS} (e : tRenew T = some T') : WF T' := WF.wrenewF _ _ _ _ _ h h.ownr_lt e
theorem WF.waddL (h : WF T) {o i : Nat} (ho : o < tN T) (hi : i < tN T) (hf : isFmt (tM T i) = true) : WF (addL T o i) := by
  refine h.wsetL (fun o' j hj => ?_) (fun o' => ?_) (fun j hj => ?_)
  · by_cases e : o' = o
    · rw [e, va_up_s] at hj
      rcases List.mem_append.mp hj with z | z
      · split at z
        · exact h.2.2.2.1 o j (List.mem_of_mem_drop z)
        · exact h.2.2.2.1 o j z
      · simp at z
        rw [z]; exact ⟨hi, hf⟩
    · rw [va_up_n _ _ _ _ e] at hj
      exact h.2.2.2.1 o' j hj
  · by_cases e : o' = o
    · rw [e, va_up_s, List.length_append]
      have := h.2.2.2.2.1 o
      split
      · simp; omega
      · simp; omega
    · rw [va_up_n _ _ _ _ e]; exact h.2.2.2.2.1 o'
  · rw [va_up_n _ _ _ _ (by omega)]
    exact (h.2.2.2.2.2 j hj).1
theorem WF.put (h : WF T) {x c : Int} {q : Nat × Nat × Nat} (hq : Place T q) (hx : 97 ≤ x ∧ x ≤ 122) (hk : kidOK (tM T q.2.2) x) (hr : x = 114 → tM T ((tS T).getD ((tS T).length - 1) 0) = 116) {T' : TS} (e : tPut T x c q = some T') : WF T' := by
  unfold tPut at e
  by_cases hn : tN T = 24
  · rw [mkN_none hn] at e; cases e
  · rw [mkN_some hn] at e
    simp only [] at e
    split at e
    · cases e; exact h.mk hn hq (Or.inr hx) hk
    · next hx2 =>
      have hp := h.mkpsh hn hq (Or.inr hx) (c := c) hk (by unfold noKid; omega) hr
      split at e
      · next hf =>
        cases e
        refine hp.waddL ?_ ?_ ?_
        · rw [tN_psh, tN_mkT]; have := h.ownr_lt; omega
        · rw [tN_psh, tN_mkT]; omega
        · rw [tM_psh, tM_mkT, va_up_s]; exact hf
      · cases e; exact hp
theorem WF.wcls (h : WF T) (i : Nat) : WF (cls T i) := by
  unfold cls
  split
  · exact h
  · exact h.take (by omega)
theorem topm_at {x : Int} (h : topm T x ≠ 0) : sNm T (topm T x) = x := by
  have := lastB_at _ _ h
  simp only [Bool.and_eq_true, decide_eq_true_eq] at this
  exact this.2
theorem getD_take' {l : List Nat} {i j : Nat} (h : j < i) : (l.take i).getD j 0 = l.getD j 0 := by simp [List.getD, List.getElem?_take, h]
/-- the top behind a closing -/
theorem cls_top (h : WF T) {x : Int} (hx : topm T x ≠ 0) : tM (cls T (topm T x + 1)) ((tS (cls T (topm T x + 1))).getD ((tS (cls T (topm T x + 1))).length - 1) 0) = x ∧ (tS (cls T (topm T x + 1))).length = topm T x + 1 := by
  have hlt := topm_lt h.b x
  have e : cls T (topm T x + 1) = setS T ((tS T).take (topm T x + 1)) := if_neg (by omega)
  rw [e, tS_setS, tM_setS, List.length_take, Nat.min_eq_left (by omega)]
  refine ⟨?_, rfl⟩
  rw [getD_take' (by omega)]
  exact topm_at hx
theorem WF.inTop (h : WF T) : Place T (plcIn T ((tS T).getD ((tS T).length - 1) 0)) := place_in h.1.2.2.2.2.1 (h.full (h.top h.len (Nat.le_refl _)).2.1)
theorem kid_t : kidOK 116 114 := ⟨by unfold noKid; decide, fun _ => rfl, fun q => by omega⟩
theorem kid_r : kidOK 114 99 := ⟨by unfold noKid; decide, fun q => by omega, fun _ => rfl⟩
theorem WF.start (h : WF T) {x c : Int} (hx : 97 ≤ x ∧ x ≤ 122) {T' : TS} (e : tStart x c T = some T') : WF T' := by
  unfold tStart at e
  split at e
  · next hrc =>
    split at e
    · cases e; exact h
    · next h0 =>
      simp only [] at e
      split at e
      · next hx' =>
        have h1 := h.wcls (topm T 116 + 1)
        have h2 := (cls_top h h0).1
        exact h1.put h1.inTop hx ⟨fun q => by unfold plcIn noKid at q; simp only [] at q; omega, fun _ => hx', fun q => by unfold plcIn at q; simp only [] at q; omega⟩ (fun _ => h2) e
      · have hx' : x = 99 := by omega
        split at e
        · next hlt =>
          have h1 := h.wcls (topm T 114 + 1)
          have h2 := (cls_top h (x := 114) (by omega)).1
          exact h1.put h1.inTop hx ⟨fun q => by unfold plcIn noKid at q; simp only [] at q; omega, fun q => by unfold plcIn at q; simp only [] at q; omega, fun _ => hx'⟩ (fun q => by omega) e
        · have h1 := h.wcls (topm T 116 + 1)
          have h2 := (cls_top h h0).1
          by_cases hn : tN (cls T (topm T 116 + 1)) = 24
          · rw [mkN_none hn] at e; cases e
          · rw [mkN_some hn] at e
            simp only [] at e
            have h3 := h1.mkpsh hn (x := 114) (c := 0) h1.inTop (Or.inr (by omega)) ⟨fun q => by unfold plcIn noKid at q; simp only [] at q; omega, fun _ => rfl, fun q => by unfold plcIn at q; simp only [] at q; omega⟩ (by unfold noKid; omega) (fun _ => h2)
            have h4 : tM (psh (mkT (cls T (topm T 116 + 1)) 114 0 (plcIn (cls T (topm T 116 + 1)) ((tS (cls T (topm T 116 + 1))).getD ((tS (cls T (topm T 116 + 1))).length - 1) 0))) (tN (cls T (topm T 116 + 1)))) ((tS (psh (mkT (cls T (topm T 116 + 1)) 114 0 (plcIn (cls T (topm T 116 + 1)) ((tS (cls T (topm T 116 + 1))).getD ((tS (cls T (topm T 116 + 1))).length - 1) 0))) (tN (cls T (topm T 116 + 1))))).getD ((tS (psh (mkT (cls T (topm T 116 + 1)) 114 0 (plcIn (cls T (topm T 116 + 1)) ((tS (cls T (topm T 116 + 1))).getD ((tS (cls T (topm T 116 + 1))).length - 1) 0))) (tN (cls T (topm T 116 + 1))))).length - 1) 0) = 114 := by
              rw [tM_psh, tM_mkT, tS_psh, tS_mkT, List.length_append]
              simp [va_up_s]
            exact h3.put h3.inTop hx (by have := kid_r; rw [← h4, ← hx'] at this; exact this) (fun q => by omega) e
  · next hrc =>
    split at e
    · simp only [] at e
      have h1 : WF (if x = 108 then cls (cls T (rch T 112 [99])) (rch (cls T (rch T 112 [99])) 108 [117, 99]) else cls T (rch T 112 [99])) := by
        split
        · exact (h.wcls _).wcls _
        · exact h.wcls _
      exact h1.put (h1.place h1.len (Nat.le_refl _)).1 hx (h1.kid h1.len (Nat.le_refl _) x) (fun q => by omega) e
    · cases hr : tRenew T with
      | none => rw [hr] at e; cases e
      | some T1 =>
        rw [hr] at e
        have h1 := h.renew hr
        exact h1.put (h1.place h1.len (Nat.le_refl _)).1 hx (h1.kid h1.len (Nat.le_refl _) x) (fun q => by omega) e
theorem WF.text (h : WF T) {c : Int} {T' : TS} (e : tChar c T = some T') : WF T' := by
  unfold tChar at e
  split at e
  · cases e; exact h
  · cases hr : tRenew T with
    | none => rw [hr] at e; cases e
    | some T1 =>
      rw [hr] at e
      have h1 := h.renew hr
      simp only [] at e
      have hmk : ∀ T2, mkN T1 1 0 (plc T1 (tS T1).length) = some T2 → WF (addC T2 (tN T1) c) := fun T2 e2 => by
        by_cases hn : tN T1 = 24
        · rw [mkN_none hn] at e2; cases e2
        · rw [mkN_some hn] at e2
          cases e2
          exact (h1.mk hn (h1.place h1.len (Nat.le_refl _)).1 (Or.inl rfl) (h1.kid h1.len (Nat.le_refl _) 1)).waddC (by rw [tN_mkT]; omega)
      have hmk2 : (match mkN T1 1 0 (plc T1 (tS T1).length) with
          | none => none
          | some T2 => some (addC T2 (tN T1) c)) = some T' → WF T' := fun e2 => by
        cases hm : mkN T1 1 0 (plc T1 (tS T1).length) with
        | none => rw [hm] at e2; cases e2
        | some T2 =>
          rw [hm] at e2
          cases e2
          exact hmk T2 hm
      cases hp : prevSib T1 (plc T1 (tS T1).length) with
      | none =>
        rw [hp] at e
        exact hmk2 e
      | some i =>
        rw [hp] at e
        simp only [] at e
        split at e
        · cases e
          refine h1.waddC ?_
          unfold prevSib at hp
          have := List.mem_of_getLast? hp
          exact h1.1.2.2.2.1 i (List.mem_of_mem_take (List.mem_filter.mp this).1)
        · exact hmk2 e
end WFE
