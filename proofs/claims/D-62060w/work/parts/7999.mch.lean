/-! the reference: its characters, and what a layout leaves alone -/
set_option maxRecDepth 100000
theorem loopX {S R : Type} {f : S → Option (S ⊕ R)} (I : Nat → S → Prop) {a b : Nat} {s0 : S} (hab : a ≤ b) (h0 : I a s0) (h : ∀ k s, a ≤ k → k < b → I k s → ∃ s', f s = some (.inl s') ∧ I (k + 1) s') : ∃ s, I b s ∧ iter f s0 = iter f s := by
  obtain ⟨n, hn⟩ : ∃ n, b - a = n := ⟨_, rfl⟩
  induction n generalizing a s0 with
  | zero =>
    have : a = b := by omega
    subst this
    exact ⟨s0, h0, rfl⟩
  | succ n ih =>
    obtain ⟨s', e1, e2⟩ := h a s0 (Nat.le_refl _) (by omega) h0
    obtain ⟨r, r1, r2⟩ := ih (by omega) e2 (fun k s h1 h2 => h k s (by omega) h2) (by omega)
    exact ⟨r, r1, by rw [iter_in e1]; exact r2⟩
/-- the characters of a text, as their numbers -/
def csC (C : List (Int × Nat)) (i : Nat) : List Nat := (List.range C.length).filter (fun c => decide ((C.getD c (0, 0)).2 = i))
def ChM (M : MS) (T : TS) (C : List (Int × Nat)) : Prop := M.1 17 = (C.length : Int) ∧ C.length ≤ 160 ∧ (∀ k, k < C.length → M.2 18 k = (C.getD k (0, 0)).1 ∧ M.2 19 k = ((C.getD k (0, 0)).2 : Nat)) ∧ (∀ e ∈ C, e.2 < tN T) ∧ ∀ i, (C.filter (fun e => decide (e.2 = i))).map Prod.fst = tX T i
def cIx (T : TS) (C : List (Int × Nat)) (p k : Nat) : Nat := (csC C (ioP T p)).getD k 0
section MC
variable {M M' M1 : MS} {T : TS} {rs : List RL} {C : List (Int × Nat)} {n p k q : Nat} {x y : Int}
theorem ch_ex (hR : RepM M T) (hK : tK T ≤ 160) : ∃ C, ChM M T C := by
  obtain ⟨C, c1, c2, c3, c4, c5⟩ := hR.2.2.2.2.2.2.2.2.2.2
  exact ⟨C, c1, by omega, c3, c4, c5⟩
theorem range_gD {α : Type} (l : List α) (d : α) : (List.range l.length).map (fun c => l.getD c d) = l := by
  apply List.ext_getElem (by simp)
  intro i h1 h2
  simp only [List.getElem_map, List.getElem_range]
  exact gD h2
theorem cs_map (C : List (Int × Nat)) (i : Nat) : (csC C i).map (fun c => (C.getD c (0, 0)).1) = (C.filter (fun e => decide (e.2 = i))).map Prod.fst := by
  have h : C.filter (fun e => decide (e.2 = i)) = (csC C i).map (fun c => C.getD c (0, 0)) := by
    have : ∀ l : List (Int × Nat), l = (List.range C.length).map (fun c => C.getD c (0, 0)) → l.filter (fun e => decide (e.2 = i)) = (csC C i).map (fun c => C.getD c (0, 0)) := fun l e => by
      rw [e, List.filter_map]; rfl
    exact this C (range_gD C (0, 0)).symm
  rw [h, List.map_map]; rfl
theorem cIx_len (hC : ChM M T C) (p : Nat) : (csC C (ioP T p)).length = (txP T p).length := by
  have := congrArg List.length (cs_map C (ioP T p))
  rw [hC.2.2.2.2, List.length_map] at this
  exact this
theorem cIx_d (hC : ChM M T C) (hk : k < (txP T p).length) : cIx T C p k < C.length ∧ (C.getD (cIx T C p k) (0, 0)).2 = ioP T p ∧ (C.getD (cIx T C p k) (0, 0)).1 = (txP T p).getD k 0 := by
  have hl := cIx_len hC p
  have hk' : k < (csC C (ioP T p)).length := by omega
  have hm : cIx T C p k ∈ csC C (ioP T p) := by unfold cIx; rw [gD hk']; exact List.getElem_mem _
  have hm2 := hm
  unfold csC at hm2
  rw [List.mem_filter, List.mem_range] at hm2
  refine ⟨hm2.1, by simpa using hm2.2, ?_⟩
  have h1 := cs_map C (ioP T p)
  rw [hC.2.2.2.2] at h1
  have h2 : ((csC C (ioP T p)).map (fun c => (C.getD c (0, 0)).1)).getD k 0 = (C.getD (cIx T C p k) (0, 0)).1 := by
    rw [gD (by rw [List.length_map]; exact hk'), List.getElem_map]
    unfold cIx
    rw [gD hk']
  rw [h1] at h2
  exact h2.symm
theorem cs_nd (i : Nat) : (csC C i).Nodup := List.Pairwise.sublist List.filter_sublist List.nodup_range
theorem cIx_inj (hC : ChM M T C) (hW : WF T) {p' k' : Nat} (hp : p < tN T) (hp' : p' < tN T) (hk : k < (txP T p).length) (hk' : k' < (txP T p').length) (e : cIx T C p k = cIx T C p' k') : p = p' ∧ k = k' := by
  have h1 := (cIx_d hC hk).2.1
  have h2 := (cIx_d hC hk').2.1
  rw [e, h2] at h1
  have hpp : p = p' := by rw [← seat_io hW hp, ← seat_io hW hp', h1]
  subst hpp
  refine ⟨rfl, ?_⟩
  unfold cIx at e
  rw [gD (by rw [cIx_len hC]; exact hk), gD (by rw [cIx_len hC]; exact hk')] at e
  have hp := List.pairwise_iff_getElem.mp (cs_nd (C := C) (ioP T p))
  rcases Nat.lt_trichotomy k k' with z | z | z
  · exact (hp k k' _ _ z e).elim
  · exact z
  · exact (hp k' k _ _ z e.symm).elim
theorem cIx_surj (hC : ChM M T C) (hW : WF T) {c : Nat} (hc : c < C.length) : ∃ p k, p < tN T ∧ k < (txP T p).length ∧ cIx T C p k = c := by
  have hi : (C.getD c (0, 0)).2 < tN T := by rw [gD hc]; exact hC.2.2.2.1 _ (List.getElem_mem _)
  obtain ⟨s1, s2⟩ := io_seat hW hi
  have hm : c ∈ csC C (ioP T (seat T (C.getD c (0, 0)).2)) := by
    unfold csC
    rw [List.mem_filter, List.mem_range, s1]
    exact ⟨hc, by simp⟩
  obtain ⟨k, hk, e⟩ := List.getElem_of_mem hm
  refine ⟨_, k, s2, by rw [← cIx_len hC]; exact hk, ?_⟩
  unfold cIx
  rw [gD hk, e]
/-- how many of those before come before -/
theorem filt_at (P : Nat → Bool) : ∀ (N k : Nat) (hk : k < ((List.range N).filter P).length), ((List.range (((List.range N).filter P)[k])).filter P).length = k
  | 0, k, hk => by simp at hk
  | N + 1, k, hk => by
    have e : (List.range (N + 1)).filter P = (List.range N).filter P ++ [N].filter P := by rw [List.range_succ, List.filter_append]
    by_cases h : k < ((List.range N).filter P).length
    · have : ((List.range (N + 1)).filter P)[k] = ((List.range N).filter P)[k] := by
        simp only [e]
        rw [List.getElem_append_left h]
      rw [this]
      exact filt_at P N k h
    · have hk2 := hk
      rw [e, List.length_append] at hk2
      have hP : P N = true := by
        cases z : P N with
        | true => rfl
        | false =>
          rw [List.filter_cons_of_neg (by simp [z])] at hk2
          simp at hk2
          omega
      have h1 : [N].filter P = [N] := by rw [List.filter_cons_of_pos hP]; rfl
      rw [h1] at hk2
      have hkk : k = ((List.range N).filter P).length := by simp at hk2; omega
      have : ((List.range (N + 1)).filter P)[k] = N := by
        simp only [e, h1]
        rw [List.getElem_append_right (by omega)]
        simp
      rw [this, hkk]
def cnC (C : List (Int × Nat)) (i q : Nat) : Nat := ((List.range q).filter (fun c => decide ((C.getD c (0, 0)).2 = i))).length
theorem cnC_s (i q : Nat) : cnC C i (q + 1) = cnC C i q + (if (C.getD q (0, 0)).2 = i then 1 else 0) := by
  unfold cnC
  rw [List.range_succ, List.filter_append, List.length_append]
  congr 1
  by_cases z : (C.getD q (0, 0)).2 = i
  · rw [if_pos z, List.filter_cons_of_pos (by simpa using z)]; rfl
  · rw [if_neg z, List.filter_cons_of_neg (by simpa using z)]; rfl
theorem cnC_le {i a b : Nat} (h : a ≤ b) : cnC C i a ≤ cnC C i b := by
  obtain ⟨d, rfl⟩ : ∃ d, b = a + d := ⟨b - a, by omega⟩
  clear h
  induction d with
  | zero => exact Nat.le_refl _
  | succ d ih => rw [show a + (d + 1) = (a + d) + 1 by omega, cnC_s]; omega
theorem cnC_at (hC : ChM M T C) (hk : k < (txP T p).length) : cnC C (ioP T p) (cIx T C p k) = k := by
  have hk' : k < (csC C (ioP T p)).length := by rw [cIx_len hC]; exact hk
  unfold cIx
  rw [gD hk']
  exact filt_at _ _ _ hk'
theorem cnC_all (hC : ChM M T C) (p : Nat) : cnC C (ioP T p) C.length = (txP T p).length := cIx_len hC p
/-- character k of a text -/
theorem mfind_in (hR : RepM M T) (hC : ChM M T C) (hW : WF T) (hn : n < tN T) (hm : nmQ T n = 1) (hy1 : 0 ≤ y) (hy2 : y < 2147483648) : m_find M (n : Int) y = some (if y.toNat < (txP T n).length then ((cIx T C n y.toNat : Nat) : Int) else -1) := by
  have h24 := hW.1.2.1
  have hl := hW.1.2.2.1
  have hin := io_lt hW hn
  have h17 := hC.1
  have h160 := hC.2.1
  have h6 : M.2 6 n = ((ioP T n : Nat) : Int) := hR.2.2.2.2.1 n (by omega)
  unfold m_find
  rw [mnone_in hR hW hn, obind_some, if_eqp rfl, (m6 hR hW hn).1, (m6 (α := Int) (k := none) hR hW hn).2, hR.2.2.2.2.2.1 _ (by exact hin), if_eqp (by exact hm), if_ltn (by omega) (by omega) (by omega)]
  have hst : ∀ q, q < C.length → (C.getD q (0, 0)).2 = ioP T n → cnC C (ioP T n) q < y.toNat → m_find_34s M (n : Int) (y - (cnC C (ioP T n) q : Int)) (q : Int) = some (.inl (y - (cnC C (ioP T n) (q + 1) : Int), ((q + 1 : Nat) : Int))) := fun q h1 h2 h3 => by
    unfold m_find_34s
    rw [h17, if_ltp (by omega) (by omega) (by omega), gd_zin (by omega) (by omega) (by omega), gd_zin (by omega) (by omega) (by omega), zix_nat (by omega), zix_nat (by omega), (hC.2.2.1 q h1).2, h6, h2, if_eqp rfl, if_eqn (by omega) (by omega) (by omega) (by omega) (by omega), cnC_s, if_pos h2]
    unfold m_find_69
    have e1 : y - (cnC C (ioP T n) q : Int) + (-1) = y - ((cnC C (ioP T n) q + 1 : Nat) : Int) := by omega
    rw [e1]; rfl
  have hst2 : ∀ q, q < C.length → (C.getD q (0, 0)).2 ≠ ioP T n → m_find_34s M (n : Int) (y - (cnC C (ioP T n) q : Int)) (q : Int) = some (.inl (y - (cnC C (ioP T n) (q + 1) : Int), ((q + 1 : Nat) : Int))) := fun q h1 h2 => by
    have hlt : (C.getD q (0, 0)).2 < tN T := by rw [gD h1]; exact hC.2.2.2.1 _ (List.getElem_mem _)
    unfold m_find_34s
    rw [h17, if_ltp (by omega) (by omega) (by omega), gd_zin (by omega) (by omega) (by omega), gd_zin (by omega) (by omega) (by omega), zix_nat (by omega), zix_nat (by omega), (hC.2.2.1 q h1).2, h6, if_eqn (by omega) (by omega) (by omega) (by omega) (by omega), cnC_s, if_neg h2]
    rfl
  have h0 : ((y, (0 : Int)) : Int × Int) = (y - (cnC C (ioP T n) 0 : Int), ((0 : Nat) : Int)) := by
    have : cnC C (ioP T n) 0 = 0 := rfl
    rw [this]; simp
  unfold m_find_34
  by_cases hk : y.toNat < (txP T n).length
  · rw [if_pos hk]
    obtain ⟨d1, d2, d3⟩ := cIx_d hC hk
    have d4 := cnC_at hC hk
    refine loopUs (fun q => (y - (cnC C (ioP T n) q : Int), ((q : Nat) : Int))) 0 (cIx T C n y.toNat) h0 (by omega) (fun q _ h2 => ?_) ?_
    · by_cases z : (C.getD q (0, 0)).2 = ioP T n
      · have h3 := cnC_le (C := C) (i := ioP T n) (a := q + 1) (b := cIx T C n y.toNat) (by omega)
        rw [cnC_s, if_pos z] at h3
        exact hst q (by omega) z (by omega)
      · exact hst2 q (by omega) z
    · show m_find_34s M (n : Int) (y - (cnC C (ioP T n) (cIx T C n y.toNat) : Int)) ((cIx T C n y.toNat : Nat) : Int) = _
      unfold m_find_34s
      rw [h17, if_ltp (by omega) (by omega) (by omega), gd_zin (by omega) (by omega) (by omega), gd_zin (by omega) (by omega) (by omega), zix_nat (by omega), zix_nat (by omega), (hC.2.2.1 _ d1).2, h6, d2, if_eqp rfl, if_eqp (by omega)]
  · rw [if_neg hk]
    refine loopUs (fun q => (y - (cnC C (ioP T n) q : Int), ((q : Nat) : Int))) 0 C.length h0 (by omega) (fun q _ h2 => ?_) ?_
    · by_cases z : (C.getD q (0, 0)).2 = ioP T n
      · have h3 := cnC_le (C := C) (i := ioP T n) (a := q + 1) (b := C.length) (by omega)
        rw [cnC_s, if_pos z, cnC_all hC] at h3
        exact hst q h2 z (by omega)
      · exact hst2 q h2 z
    · show m_find_34s M (n : Int) (y - (cnC C (ioP T n) C.length : Int)) ((C.length : Nat) : Int) = _
      unfold m_find_34s
      rw [h17, if_ltn (by omega) (by omega) (by omega)]
theorem mfind_neg (hR : RepM M T) (hW : WF T) (hn : n < tN T) (h : nmQ T n ≠ 1 ∨ y < 0) (hy1 : -2147483648 ≤ y) (hy2 : y < 2147483648) : m_find M (n : Int) y = some (-1) := by
  have hin := io_lt hW hn
  have hnm := hW.nm hin
  unfold m_find
  rw [mnone_in hR hW hn, obind_some, if_eqp rfl, (m6 hR hW hn).1, (m6 (α := Int) (k := none) hR hW hn).2, hR.2.2.2.2.2.1 _ (by exact hin)]
  by_cases z : nmQ T n = 1
  · rw [if_eqp (by exact z), if_ltp (by omega) (by omega) (by omega)]
  · have hn2 : tM T ((tO T).getD n 0) = nmQ T n := rfl
    have hnm : 0 ≤ nmQ T n ∧ nmQ T n < 128 := hnm
    rw [hn2, if_eqn z (by omega) (by omega) (by omega) (by omega)]
theorem mletter_in (hR : RepM M T) (hC : ChM M T C) (hW : WF T) (hn : n < tN T) (hm : nmQ T n = 1) (hy1 : 0 ≤ y) (hy2 : y < 2147483648) : m_letter M (n : Int) y = some (if y.toNat < (txP T n).length then (txP T n).getD y.toNat 0 else -1) := by
  have h160 := hC.2.1
  unfold m_letter
  rw [mfind_in hR hC hW hn hm hy1 hy2, obind_some]
  by_cases z : y.toNat < (txP T n).length
  · obtain ⟨d1, d2, d3⟩ := cIx_d hC z
    rw [if_pos z, if_pos z, if_ltn (by omega) (by omega) (by omega), gd_zin (by omega) (by omega) (by omega), zix_nat (by omega), (hC.2.2.1 _ d1).1, d3]
  · rw [if_neg z, if_neg z, if_ltp (by omega) (by omega) (by omega)]
theorem mletter_neg (hf : m_find M x y = some (-1)) : m_letter M x y = some (-1) := by
  unfold m_letter
  rw [hf, obind_some, if_ltp (by omega) (by omega) (by omega)]
/-- what a layout changes in the reference -/
def FLm (M M' : MS) : Prop := (∀ k, k ∉ [37, 38, 39, 52, 53, 54, 55, 56, 57] → M'.1 k = M.1 k) ∧ ∀ k, k < 40 ∨ 51 < k → M'.2 k = M.2 k
theorem FLm.refl (M : MS) : FLm M M := ⟨fun _ _ => rfl, fun _ _ => rfl⟩
theorem FLm.trans (A : FLm M M1) (B : FLm M1 M') : FLm M M' := ⟨fun k hk => (B.1 k hk).trans (A.1 k hk), fun k hk => (B.2 k hk).trans (A.2 k hk)⟩
theorem FLm.wsI (A : FLm M M1) {k : Nat} (hk : k ∈ [37, 38, 39, 52, 53, 54, 55, 56, 57]) (v : Int) : FLm M (sI M1 k v) := ⟨fun j hj => by rw [sI_n _ _ _ _ (fun e => hj (by rw [e]; exact hk))]; exact A.1 j hj, A.2⟩
theorem FLm.wsA (A : FLm M M1) {k : Nat} (hk : 40 ≤ k ∧ k ≤ 51) (i : Nat) (v : Int) : FLm M (sA M1 k i v) := ⟨A.1, fun j hj => by rw [sA_f _ _ _ _ _ (by omega)]; exact A.2 j hj⟩
theorem FLn.m (A : FLn M M') : FLm M M' := ⟨fun k hk => A.1 k (fun z => hk (by simp at z ⊢; omega)), fun k hk => A.2 k (fun z => by simp at z; omega)⟩
theorem RepM.fl (h : RepM M T) (A : FLm M M') : RepM M' T := by
  unfold RepM at h ⊢
  rw [A.1 4 (by simp), A.1 5 (by simp), A.1 7 (by simp), A.1 13 (by simp), A.1 16 (by simp), A.1 17 (by simp), A.2 6 (by omega), A.2 8 (by omega), A.2 9 (by omega), A.2 10 (by omega), A.2 12 (by omega), A.2 14 (by omega), A.2 15 (by omega), A.2 18 (by omega), A.2 19 (by omega)]
  exact h
theorem ChM.fl (h : ChM M T C) (A : FLm M M') : ChM M' T C := by
  unfold ChM at h ⊢
  rw [A.1 17 (by simp), A.2 18 (by omega), A.2 19 (by omega)]
  exact h
theorem UpM.fl (h : UpM M T) (A : FLm M M') : UpM M' T := by
  unfold UpM at h ⊢
  rw [A.2 33 (by omega)]
  exact h
theorem VM.fl (h : VM M T rs) (A : FLm M M') : VM M' T rs := by
  unfold VM at h ⊢
  rw [A.2 36 (by omega)]
  exact h
/-- tree, parents, values and characters stand in the reference -/
def LM (M : MS) (T : TS) (rs : List RL) (C : List (Int × Nat)) : Prop := RepM M T ∧ UpM M T ∧ VM M T rs ∧ ChM M T C
theorem LM.fl (h : LM M T rs C) (A : FLm M M') : LM M' T rs C := ⟨h.1.fl A, h.2.1.fl A, h.2.2.1.fl A, h.2.2.2.fl A⟩
theorem LM.up (h : LM M T rs C) (hW : WF T) (hn : n < tN T) (h0 : 0 < n) : M.2 33 n = ((upP T n : Nat) : Int) := by
  rw [h.2.1 n (by rw [hW.1.2.2.1]; exact hn), if_neg (by omega)]; rfl
theorem LM.v (h : LM M T rs C) (hW : WF T) (hn : n < tN T) (hk : k < 7) : M.2 36 (40 * k + n) = vlP T rs k n := h.2.2.1 k hk n (by rw [hW.1.2.2.1]; exact hn)
theorem LM.o (h : LM M T rs C) (hW : WF T) (hn : n < tN T) : M.2 6 n = ((ioP T n : Nat) : Int) := h.1.2.2.2.2.1 n (by rw [hW.1.2.2.1]; exact hn)
theorem LM.nm (h : LM M T rs C) (hW : WF T) (hn : n < tN T) : M.2 8 (ioP T n) = nmQ T n := h.1.2.2.2.2.2.1 _ (io_lt hW hn)
theorem nm_rng (hW : WF T) (hn : n < tN T) : 0 ≤ nmQ T n ∧ nmQ T n < 128 := hW.nm (io_lt hW hn)
theorem m_border_eq (h : LM M T rs C) (hW : WF T) (hok : ∀ r ∈ rs, okR2 r) (hn : n < tN T) : m_border M (n : Int) 5 = some (vlP T rs 5 n) := by
  have h24 := hW.1.2.1
  unfold m_border
  by_cases h0 : n = 0
  · subst h0
    rw [if_eqp (a := ((0 : Nat) : Int)) (b := 0) rfl]
    unfold vlP
    rw [io_0 hW, val_root hW hok]
    rfl
  · rw [if_eqn (by omega) (by omega) (by omega) (by omega) (by omega), gd_zin (by omega) (by omega) (by omega)]
    have : (40 * 5 + (n : Int)) = ((40 * 5 + n : Nat) : Int) := by omega
    rw [this, zix_nat (by omega), h.v hW hn (by omega)]
end MC
