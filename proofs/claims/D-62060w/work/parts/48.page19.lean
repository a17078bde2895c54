/-! the page's tree: end tags -/
set_option maxRecDepth 100000
def hdF (f : Nat → Bool) (j : Nat) : Nat := ((List.range j).filter f).headD 0
theorem hdF_s (f : Nat → Bool) (h0 : f 0 = false) (j : Nat) : hdF f (j + 1) = if hdF f j ≠ 0 then hdF f j else if f j then j else 0 := by
  unfold hdF
  rw [List.range_succ, List.filter_append]
  cases hl : (List.range j).filter f with
  | nil =>
    rw [List.nil_append, if_neg (by simp), List.filter_cons, List.filter_nil]
    split <;> rfl
  | cons a l =>
    have ha : a ∈ (List.range j).filter f := by rw [hl]; simp
    have hf := (List.mem_filter.mp ha).2
    have : a ≠ 0 := fun z => by rw [z, h0] at hf; cases hf
    rw [if_pos (by simpa using this)]
    rfl
theorem hdF_lt (f : Nat → Bool) {j : Nat} (h : 0 < j) : hdF f j < j := by
  unfold hdF
  cases hl : (List.range j).filter f with
  | nil => simpa using h
  | cons a l =>
    have ha : a ∈ (List.range j).filter f := by rw [hl]; simp
    exact List.mem_range.mp (List.mem_filter.mp ha).1
section PB
variable {h h' h1 : HP} {pg u a e b id : Nat} {φ : Nat → Nat} {T : TS} {x c : Int}
theorem RepB.blk (H : RepB h pg φ T) (hW : WF T) {i : Nat} (hi : i < tN T) (hm : tM T i ≠ 1) : f_X2_block h (φ i) = some (zb (isBlk (tM T i))) := by
  have hn := hW.nm hi
  unfold nmOK at hn
  unfold f_X2_block
  rw [gd_c (H.elc hi hm).1, gd_c (by omega), (H.2.2.2.1 i hi hm).1, idxOf_eq (by omega) (by omega) (by omega), obind_some]
  have hr := ixT_rng 9 (by omega) (tM T i)
  have hg := ixT_neg 9 (tM T i)
  have hs : (sT 9).contains (tM T i) = isBlk (tM T i) := rfl
  rw [hs] at hg
  cases hf : isBlk (tM T i) with
  | true =>
    have : ¬ ixT 9 (tM T i) < 0 := fun z => by rw [hg, hf] at z; cases z
    rw [if_ltn (by omega) (by omega) (by omega)]; rfl
  | false =>
    rw [if_ltp (hg.mpr hf) (by omega) (by omega)]; rfl
/-- the loop over the stack: where the element, the lowest block above it, and whether a table stands above it -/
theorem RepB.ad65 (H : RepB h pg φ T) (hW : WF T) {l : Nat} {k : Int} (hid : id ∈ tS T) (hf : isFmt (tM T id) = true) : f_X0_adopt_65 h pg l k (φ id) 0 0 0 1 = f_X0_adopt_168 h pg l k (φ id) (((tS T).idxOf id : Nat) : Int) ((hdF (fun j => decide ((tS T).idxOf id < j) && isBlk (sNm T j)) (tS T).length : Nat) : Int) (if lastB (fun j => decide ((tS T).idxOf id < j) && decide (sNm T j = 116)) (tS T).length ≠ 0 then 1 else 0) := by
  have hb := H.1
  have h24 := hW.b.2.2.2.2.1
  have hn := hW.1.2.1
  have hfn := fmt_nm hf
  have hi := hW.stk id hid
  have hlt := List.idxOf_lt_length_of_mem hid
  have hat : (tS T).getD ((tS T).idxOf id) 0 = id := (idx_iff hW.2.2.1.2.1 hid hlt).mpr rfl
  have hE := H.elc hi.1 hi.2
  have hflag : pI h (φ id) 6 = 1 := by rw [(H.2.2.2.1 id hi.1 hi.2).2.2.1, if_pos hid]
  have hi1 : 1 ≤ (tS T).idxOf id := by
    by_cases z : (tS T).idxOf id = 0
    · rw [z] at hat
      obtain ⟨r, hr⟩ := hW.2.2.1.1
      rw [hr] at hat
      have : id = 0 := hat.symm
      rw [this, hW.2.1.1] at hfn
      omega
    · omega
  have hst := H.2.2.2.2.2.2.1
  generalize hei : (tS T).idxOf id = ei at *
  have hg0 : (fun j => decide (ei < j) && isBlk (sNm T j)) 0 = false := by simp
  refine loopU (fun j => ((if ei < j then (ei : Int) else 0), ((hdF (fun j => decide (ei < j) && isBlk (sNm T j)) j : Nat) : Int), (if lastB (fun j => decide (ei < j) && decide (sNm T j = 116)) j ≠ 0 then 1 else 0), (j : Int))) 1 (tS T).length ?_ hW.len (fun j j1 j2 => ?_) ?_
  · have e1 : hdF (fun j => decide (ei < j) && isBlk (sNm T j)) 1 = 0 := by have := hdF_lt (fun j => decide (ei < j) && isBlk (sNm T j)) (j := 1) (by omega); omega
    have e2 : lastB (fun j => decide (ei < j) && decide (sNm T j = 116)) 1 = 0 := by have := lastB_lt (fun j => decide (ei < j) && decide (sNm T j = 116)) 1 (by omega); omega
    simp only [e1, e2, if_neg (show ¬ ei < 1 by omega), ne_eq, not_true_eq_false, if_false]
    rfl
  · have hmem : (tS T).getD j 0 ∈ tS T := by rw [gD j2]; exact List.getElem_mem _
    have hs := hW.stk _ hmem
    have hEj := H.elc hs.1 hs.2
    have hlj := hdF_lt (fun j => decide (ei < j) && isBlk (sNm T j)) (j := j) (by omega)
    have hllj := lastB_lt (fun j => decide (ei < j) && decide (sNm T j = 116)) j (by omega)
    have hpre : ∀ (v5 v6 v7 : Int), f_X0_adopt_65s h pg l k (φ id) v5 v6 v7 (j : Int) = if j = ei then f_X0_adopt_135 h pg l k (φ id) (j : Int) v6 v7 (j : Int) (φ ((tS T).getD j 0)) else if zI 0 < zI v5 then (if zI v6 = zI 0 then (if isBlk (sNm T j) then f_X0_adopt_135 h pg l k (φ id) v5 (j : Int) v7 (j : Int) (φ ((tS T).getD j 0)) else f_X0_adopt_135 h pg l k (φ id) v5 v6 v7 (j : Int) (φ ((tS T).getD j 0))) else f_X0_adopt_135 h pg l k (φ id) v5 v6 v7 (j : Int) (φ ((tS T).getD j 0))) else f_X0_adopt_135 h pg l k (φ id) v5 v6 v7 (j : Int) (φ ((tS T).getD j 0)) := fun v5 v6 v7 => by
      have hje : (some (φ ((tS T).getD j 0)) = some (φ id)) = (j = ei) := by
        refine propext ⟨fun z => ?_, fun z => by rw [z, hat]⟩
        have := H.2.2.1.2.2 _ _ hs.1 hi.1 (Option.some.inj z)
        rw [← hei]
        exact (idx_iff hW.2.2.1.2.1 hid j2).mp this
      unfold f_X0_adopt_65s lLen lGet
      rw [gd_c hb.1.1, hb.1.2.2.2.2.1, obind_some, gd_c (by rw [hb.2.1.2.2.1]; decide), obind_some, hst, List.length_map, if_ltp (by omega) (by omega) (by omega), gd_c hE.1, hflag, if_eqn (by omega) (by omega) (by omega) (by omega) (by omega), gd_c hb.1.1, obind_some, gd_c (by rw [hb.2.1.2.2.1]; decide), hst, gd_zin (by omega) (by rw [List.length_map]; omega) (by rw [List.length_map]; omega), zix_nat (by omega), getD_map j2, obind_some, gd_c hEj.1]
      simp only [hje]
      rw [gd_c hEj.1, H.blk hW hs.1 hs.2, obind_some]
      have hsn : tM T ((tS T).getD j 0) = sNm T j := rfl
      rw [hsn]
      cases isBlk (sNm T j) with
      | true => rw [zb_t, if_eqn (a := 1) (b := 0) (by omega) (by omega) (by omega) (by omega) (by omega)]; rfl
      | false => rw [zb_f, if_eqp (a := 0) (b := 0) rfl]; rfl
    have h135 : ∀ (v5 v6 v7 : Int), 0 ≤ v5 → v5 < 100 → (v7 = 0 ∨ v7 = 1) → f_X0_adopt_135 h pg l k (φ id) v5 v6 v7 (j : Int) (φ ((tS T).getD j 0)) = some (.inl (v5, v6, (if v7 = 1 ∨ (0 < v5 ∧ sNm T j = 116) then 1 else 0), ((j + 1 : Nat) : Int))) := fun v5 v6 v7 a1 a2 a3 => by
      unfold f_X0_adopt_135 f_X0_adopt_159 f_X0_adopt_155 f_X0_adopt_160
      have hsn : tM T ((tS T).getD j 0) = sNm T j := rfl
      rcases a3 with a3 | a3
      · rw [a3, if_eqp rfl]
        by_cases z : 0 < v5
        · rw [if_ltp z (by omega) (by omega), gd_c hEj.1, H.is hW hs.1 hs.2 (x := 116) (by unfold nmOK; omega), obind_some, hsn]
          by_cases y : sNm T j = 116
          · rw [decide_eq_true y, zb_t, if_eqn (by omega) (by omega) (by omega) (by omega) (by omega), if_pos (Or.inr ⟨z, y⟩)]; rfl
          · rw [decide_eq_false y, zb_f, if_eqp rfl, if_neg (fun q => by rcases q with q | q; omega; exact y q.2)]; rfl
        · rw [if_ltn (by omega) (by omega) (by omega), if_neg (fun q => by rcases q with q | q; omega; exact z q.1)]; rfl
      · rw [a3, if_eqn (by omega) (by omega) (by omega) (by omega) (by omega), if_pos (Or.inl rfl)]; rfl
    simp only []
    rw [hpre]
    have hlS : lastB (fun j => decide (ei < j) && decide (sNm T j = 116)) (j + 1) = if ei < j ∧ sNm T j = 116 then j else lastB (fun j => decide (ei < j) && decide (sNm T j = 116)) j := by
      rw [lastB_s]
      simp only [Bool.and_eq_true, decide_eq_true_eq]
    rw [hdF_s _ hg0, hlS]
    have hb01 : (if lastB (fun j => decide (ei < j) && decide (sNm T j = 116)) j ≠ 0 then (1 : Int) else 0) = 0 ∨ (if lastB (fun j => decide (ei < j) && decide (sNm T j = 116)) j ≠ 0 then (1 : Int) else 0) = 1 := by split <;> simp
    by_cases c1 : j = ei
    · have z0 : hdF (fun j => decide (ei < j) && isBlk (sNm T j)) j = 0 := by
        unfold hdF
        have : (List.range j).filter (fun j => decide (ei < j) && isBlk (sNm T j)) = [] := by
          rw [List.filter_eq_nil_iff]
          intro m hm
          have := List.mem_range.mp hm
          rw [decide_eq_false (by omega)]; simp
        rw [this]; rfl
      have z1 : lastB (fun j => decide (ei < j) && decide (sNm T j = 116)) j = 0 := by
        rw [lastB_cg _ (fun _ => false) j (fun m hm => by rw [decide_eq_false (by omega)]; rfl)]
        have : ∀ n, lastB (fun _ => false) n = 0 := fun n => by
          induction n with
          | zero => rfl
          | succ n ih => rw [lastB_s]; simpa using ih
        exact this j
      have z2 : ¬ sNm T j = 116 := by
        show ¬ tM T ((tS T).getD j 0) = 116
        rw [c1, hat]; omega
      rw [if_pos c1, h135 _ _ _ (by omega) (by omega) hb01, z0, z1, if_pos (show ei < j + 1 by omega)]
      simp only [ne_eq, not_true_eq_false, if_false, decide_eq_false (show ¬ ei < j by omega), Bool.false_and, Bool.false_eq_true, show ¬ (ei < j ∧ sNm T j = 116) from fun q => z2 q.2, show ¬ ((0 : Int) = 1 ∨ 0 < (j : Int) ∧ sNm T j = 116) from fun q => by rcases q with q | q; omega; exact z2 q.2]
      rw [c1]
    · rw [if_neg c1]
      by_cases c2 : ei < j
      · rw [if_pos c2, if_pos (show ei < j + 1 by omega), if_ltp (by omega) (by omega) (by omega)]
        have fin : ∀ (v6 : Int), f_X0_adopt_135 h pg l k (φ id) (ei : Int) v6 (if lastB (fun j => decide (ei < j) && decide (sNm T j = 116)) j ≠ 0 then (1 : Int) else 0) (j : Int) (φ ((tS T).getD j 0)) = some (.inl ((ei : Int), v6, (if (if ei < j ∧ sNm T j = 116 then j else lastB (fun j => decide (ei < j) && decide (sNm T j = 116)) j) ≠ 0 then (1 : Int) else 0), ((j + 1 : Nat) : Int))) := fun v6 => by
          rw [h135 _ _ _ (by omega) (by omega) hb01]
          congr 5
          by_cases y : sNm T j = 116
          · rw [if_pos (Or.inr ⟨by omega, y⟩), if_pos (⟨c2, y⟩ : ei < j ∧ sNm T j = 116), if_pos (by omega)]
          · rw [if_neg (show ¬ (ei < j ∧ sNm T j = 116) from fun q => y q.2)]
            by_cases yy : lastB (fun j => decide (ei < j) && decide (sNm T j = 116)) j ≠ 0
            · rw [if_pos yy, if_pos (Or.inl rfl)]
            · rw [if_neg yy, if_neg (fun q => by rcases q with q | q; omega; exact y q.2)]
        rw [fin, fin]
        by_cases c3 : hdF (fun j => decide (ei < j) && isBlk (sNm T j)) j = 0
        · rw [if_eqp (by omega), c3, if_neg (show ¬ ((0 : Nat) ≠ 0) by simp)]
          rw [decide_eq_true c2, Bool.true_and]
          cases isBlk (sNm T j) with
          | true => simp only [if_true]
          | false => simp only [Bool.false_eq_true, if_false]
        · rw [if_eqn (by omega) (by omega) (by omega) (by omega) (by omega), if_pos c3]
      · have z0 : hdF (fun j => decide (ei < j) && isBlk (sNm T j)) j = 0 := by
          unfold hdF
          have : (List.range j).filter (fun j => decide (ei < j) && isBlk (sNm T j)) = [] := by
            rw [List.filter_eq_nil_iff]
            intro m hm
            have := List.mem_range.mp hm
            rw [decide_eq_false (by omega)]; simp
          rw [this]; rfl
        rw [if_neg c2, if_neg (show ¬ ei < j + 1 by omega), if_ltn (by omega) (by omega) (by omega), h135 _ _ _ (by omega) (by omega) hb01, z0, decide_eq_false c2, if_neg (show ¬ (ei < j ∧ sNm T j = 116) from fun q => c2 q.1)]
        simp only [Bool.false_and, Bool.false_eq_true, if_false, ne_eq, not_true_eq_false]
        congr 5
        by_cases yy : lastB (fun j => decide (ei < j) && decide (sNm T j = 116)) j = 0
        · rw [if_neg (fun q => by rcases q with q | q; · rw [if_neg (by simpa using yy)] at q; omega
                                  · omega), if_neg (by simpa using yy)]
        · rw [if_pos (Or.inl (if_pos yy)), if_pos yy]
  · simp only []
    unfold f_X0_adopt_65s lLen
    rw [gd_c hb.1.1, hb.1.2.2.2.2.1, obind_some, gd_c (by rw [hb.2.1.2.2.1]; decide), obind_some, hst, List.length_map, if_ltn (by omega) (by omega) (by omega), if_pos hlt]
end PB
