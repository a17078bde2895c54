/-! what holds of every tree that the tags make -/
set_option maxRecDepth 100000
theorem tN_mkT (T : TS) (x c : Int) (q : Nat × Nat × Nat) : tN (mkT T x c q) = tN T + 1 := rfl
theorem tO_mkT (T : TS) (x c : Int) (q : Nat × Nat × Nat) : tO (mkT T x c q) = insN (tO T) q.1 (tN T) := rfl
theorem tP_mkT (T : TS) (x c : Int) (q : Nat × Nat × Nat) : tP (mkT T x c q) = va_up (tP T) (tN T) q.2.2 := rfl
theorem tD_mkT (T : TS) (x c : Int) (q : Nat × Nat × Nat) : tD (mkT T x c q) = va_up (tD T) (tN T) q.2.1 := rfl
theorem tM_mkT (T : TS) (x c : Int) (q : Nat × Nat × Nat) : tM (mkT T x c q) = va_up (tM T) (tN T) x := rfl
theorem tC_mkT (T : TS) (x c : Int) (q : Nat × Nat × Nat) : tC (mkT T x c q) = va_up (tC T) (tN T) c := rfl
theorem tS_mkT (T : TS) (x c : Int) (q : Nat × Nat × Nat) : tS (mkT T x c q) = tS T := rfl
theorem tL_mkT (T : TS) (x c : Int) (q : Nat × Nat × Nat) : tL (mkT T x c q) = va_up (tL T) (tN T) [] := rfl
theorem tX_mkT (T : TS) (x c : Int) (q : Nat × Nat × Nat) : tX (mkT T x c q) = va_up (tX T) (tN T) [] := rfl
theorem tK_mkT (T : TS) (x c : Int) (q : Nat × Nat × Nat) : tK (mkT T x c q) = tK T := rfl
theorem tN_setS (T : TS) (s : List Nat) : tN (setS T s) = tN T := rfl
theorem tO_setS (T : TS) (s : List Nat) : tO (setS T s) = tO T := rfl
theorem tP_setS (T : TS) (s : List Nat) : tP (setS T s) = tP T := rfl
theorem tD_setS (T : TS) (s : List Nat) : tD (setS T s) = tD T := rfl
theorem tM_setS (T : TS) (s : List Nat) : tM (setS T s) = tM T := rfl
theorem tC_setS (T : TS) (s : List Nat) : tC (setS T s) = tC T := rfl
theorem tS_setS (T : TS) (s : List Nat) : tS (setS T s) = s := rfl
theorem tL_setS (T : TS) (s : List Nat) : tL (setS T s) = tL T := rfl
theorem tX_setS (T : TS) (s : List Nat) : tX (setS T s) = tX T := rfl
theorem tK_setS (T : TS) (s : List Nat) : tK (setS T s) = tK T := rfl
theorem tN_setL (T : TS) (l : Nat → List Nat) : tN (setL T l) = tN T := rfl
theorem tO_setL (T : TS) (l : Nat → List Nat) : tO (setL T l) = tO T := rfl
theorem tP_setL (T : TS) (l : Nat → List Nat) : tP (setL T l) = tP T := rfl
theorem tD_setL (T : TS) (l : Nat → List Nat) : tD (setL T l) = tD T := rfl
theorem tM_setL (T : TS) (l : Nat → List Nat) : tM (setL T l) = tM T := rfl
theorem tC_setL (T : TS) (l : Nat → List Nat) : tC (setL T l) = tC T := rfl
theorem tS_setL (T : TS) (l : Nat → List Nat) : tS (setL T l) = tS T := rfl
theorem tL_setL (T : TS) (l : Nat → List Nat) : tL (setL T l) = l := rfl
theorem tX_setL (T : TS) (l : Nat → List Nat) : tX (setL T l) = tX T := rfl
theorem tK_setL (T : TS) (l : Nat → List Nat) : tK (setL T l) = tK T := rfl
theorem tN_setO (T : TS) (o : List Nat) (p d : Nat → Nat) : tN (setO T o p d) = tN T := rfl
theorem tO_setO (T : TS) (o : List Nat) (p d : Nat → Nat) : tO (setO T o p d) = o := rfl
theorem tP_setO (T : TS) (o : List Nat) (p d : Nat → Nat) : tP (setO T o p d) = p := rfl
theorem tD_setO (T : TS) (o : List Nat) (p d : Nat → Nat) : tD (setO T o p d) = d := rfl
theorem tM_setO (T : TS) (o : List Nat) (p d : Nat → Nat) : tM (setO T o p d) = tM T := rfl
theorem tC_setO (T : TS) (o : List Nat) (p d : Nat → Nat) : tC (setO T o p d) = tC T := rfl
theorem tS_setO (T : TS) (o : List Nat) (p d : Nat → Nat) : tS (setO T o p d) = tS T := rfl
theorem tL_setO (T : TS) (o : List Nat) (p d : Nat → Nat) : tL (setO T o p d) = tL T := rfl
theorem tX_setO (T : TS) (o : List Nat) (p d : Nat → Nat) : tX (setO T o p d) = tX T := rfl
theorem tK_setO (T : TS) (o : List Nat) (p d : Nat → Nat) : tK (setO T o p d) = tK T := rfl
theorem tN_addC (T : TS) (i : Nat) (c : Int) : tN (addC T i c) = tN T := rfl
theorem tO_addC (T : TS) (i : Nat) (c : Int) : tO (addC T i c) = tO T := rfl
theorem tP_addC (T : TS) (i : Nat) (c : Int) : tP (addC T i c) = tP T := rfl
theorem tD_addC (T : TS) (i : Nat) (c : Int) : tD (addC T i c) = tD T := rfl
theorem tM_addC (T : TS) (i : Nat) (c : Int) : tM (addC T i c) = tM T := rfl
theorem tC_addC (T : TS) (i : Nat) (c : Int) : tC (addC T i c) = tC T := rfl
theorem tS_addC (T : TS) (i : Nat) (c : Int) : tS (addC T i c) = tS T := rfl
theorem tL_addC (T : TS) (i : Nat) (c : Int) : tL (addC T i c) = tL T := rfl
theorem tX_addC (T : TS) (i : Nat) (c : Int) : tX (addC T i c) = va_up (tX T) i (tX T i ++ [c]) := rfl
theorem tK_addC (T : TS) (i : Nat) (c : Int) : tK (addC T i c) = tK T + 1 := rfl
theorem tN_psh (T : TS) (i : Nat) : tN (psh T i) = tN T := rfl
theorem tO_psh (T : TS) (i : Nat) : tO (psh T i) = tO T := rfl
theorem tP_psh (T : TS) (i : Nat) : tP (psh T i) = tP T := rfl
theorem tD_psh (T : TS) (i : Nat) : tD (psh T i) = tD T := rfl
theorem tM_psh (T : TS) (i : Nat) : tM (psh T i) = tM T := rfl
theorem tC_psh (T : TS) (i : Nat) : tC (psh T i) = tC T := rfl
theorem tS_psh (T : TS) (i : Nat) : tS (psh T i) = tS T ++ [i] := rfl
theorem tL_psh (T : TS) (i : Nat) : tL (psh T i) = tL T := rfl
theorem tX_psh (T : TS) (i : Nat) : tX (psh T i) = tX T := rfl
theorem tK_psh (T : TS) (i : Nat) : tK (psh T i) = tK T := rfl
def itP (p : Nat → Nat) : Nat → Nat → Nat
  | 0, j => j
  | k + 1, j => p (itP p k j)
/-- j stands in i -/
def anc (p : Nat → Nat) (i j : Nat) : Prop := ∃ k, itP p k j = i
theorem itP_s' (p : Nat → Nat) : ∀ k j, itP p (k + 1) j = itP p k (p j)
  | 0, _ => rfl
  | k + 1, j => by rw [itP, itP_s' p k j]; rfl
theorem anc_refl (p : Nat → Nat) (i : Nat) : anc p i i := ⟨0, rfl⟩
theorem anc_step {p : Nat → Nat} {i j : Nat} (h : anc p i (p j)) : anc p i j := by
  obtain ⟨k, hk⟩ := h
  exact ⟨k + 1, by rw [itP_s']; exact hk⟩
theorem anc_cases {p : Nat → Nat} {i j : Nat} (h : anc p i j) : j = i ∨ anc p i (p j) := by
  obtain ⟨k, hk⟩ := h
  cases k with
  | zero => exact Or.inl hk
  | succ k => exact Or.inr ⟨k, by rw [itP_s'] at hk; exact hk⟩
def noKid (x : Int) : Prop := x = 1 ∨ x = 104 ∨ x = 107
/-- the child's name under a parent of this name -/
def kidOK (w x : Int) : Prop := ¬ noKid w ∧ (w = 116 → x = 114) ∧ (w = 114 → x = 99)
def nmI (x : Int) : Prop := x = 1 ∨ (97 ≤ x ∧ x ≤ 122)
def WF (T : TS) : Prop :=
  (1 ≤ tN T ∧ tN T ≤ 24 ∧ (tO T).length = tN T ∧ (∀ i ∈ tO T, i < tN T) ∧ WFo (tO T) (tP T) (tD T) ∧ tP T 0 = 0) ∧
  (tM T 0 = 0 ∧ (∀ i, i < tN T → i ≠ 0 → nmI (tM T i) ∧ kidOK (tM T (tP T i)) (tM T i))) ∧
  ((∃ r, tS T = 0 :: r) ∧ (tS T).Nodup ∧ (∀ i ∈ tS T, i < tN T ∧ ¬ noKid (tM T i)) ∧ (∀ A i B, tS T = A ++ i :: B → tM T i = 114 → ∃ A1 t, A = A1 ++ [t] ∧ tM T t = 116) ∧ ∀ A i B j C, tS T = A ++ i :: (B ++ j :: C) → ¬ anc (tP T) j i) ∧
  (∀ o i, i ∈ tL T o → i < tN T ∧ isFmt (tM T i) = true) ∧ (∀ o, (tL T o).length ≤ 4) ∧ ∀ i, tN T ≤ i → tL T i = [] ∧ tX T i = []
theorem WFo.depth {o : List Nat} {p d : Nat → Nat} (h : WFo o p d) : ∀ n A i B, A.length = n → o = A ++ i :: B → d i ≤ n := by
  intro n
  induction n using Nat.strongRecOn with
  | ind n ih =>
    intro A i B hn e
    by_cases ha : A = []
    · subst ha
      obtain ⟨-, ⟨r, hr⟩, h3, -⟩ := h
      rw [hr] at e
      cases e
      omega
    · obtain ⟨A1, A2, e1, e2, e3⟩ := h.2.2.2 A i B e ha
      have hl : A1.length < n := by rw [← hn, e1]; simp
      have := ih A1.length hl A1 (p i) (A2 ++ i :: B) rfl (by rw [e, e1]; simp)
      omega
theorem nodup_full : ∀ (n : Nat) (l : List Nat), l.Nodup → (∀ i ∈ l, i < n) → l.length = n → ∀ i, i < n → i ∈ l
  | 0, _, _, _, _, i, h => by omega
  | n + 1, l, hn, hl, hlen, i, hi => by
    by_cases hm : n ∈ l
    · by_cases e : i = n
      · rw [e]; exact hm
      · have h1 : (l.erase n).Nodup := hn.erase n
        have h2 : ∀ j ∈ l.erase n, j < n := fun j hj => by
          have a := hl j (List.mem_of_mem_erase hj)
          have b : j ≠ n := fun q => by rw [q] at hj; exact (List.Nodup.not_mem_erase hn) hj
          omega
        have h3 : (l.erase n).length = n := by rw [List.length_erase_of_mem hm]; omega
        exact List.mem_of_mem_erase (nodup_full n _ h1 h2 h3 i (by omega))
    · exfalso
      have h2 : ∀ j ∈ l, j < n := fun j hj => by
        have a := hl j hj
        have b : j ≠ n := fun q => hm (q ▸ hj)
        omega
      cases l with
      | nil => simp at hlen
      | cons a l =>
        have h1 : l.Nodup := (List.nodup_cons.mp hn).2
        have := nodup_full n l h1 (fun j hj => h2 j (by simp [hj])) (by simpa using hlen) a (h2 a (by simp))
        exact (List.nodup_cons.mp hn).1 this
theorem nodup_len : ∀ (n : Nat) (l : List Nat), l.Nodup → (∀ i ∈ l, i < n) → l.length ≤ n
  | 0, l, _, h => by
    cases l with
    | nil => simp
    | cons a l => have := h a (by simp); omega
  | n + 1, l, hn, hl => by
    by_cases hm : n ∈ l
    · have h1 : (l.erase n).Nodup := hn.erase n
      have h2 : ∀ j ∈ l.erase n, j < n := fun j hj => by
        have a := hl j (List.mem_of_mem_erase hj)
        have b : j ≠ n := fun q => by rw [q] at hj; exact (List.Nodup.not_mem_erase hn) hj
        omega
      have := nodup_len n _ h1 h2
      rw [List.length_erase_of_mem hm] at this
      omega
    · have := nodup_len n l hn (fun j hj => by
        have a := hl j hj
        have b : j ≠ n := fun q => hm (q ▸ hj)
        omega)
      omega
theorem mem_tw {α : Type} (f : α → Bool) : ∀ (l : List α) {x : α}, x ∈ l.takeWhile f → f x = true
  | [], x, h => by simp at h
  | y :: l, x, h => by
    rw [List.takeWhile_cons] at h
    by_cases e : f y = true
    · rw [if_pos e] at h
      rcases List.mem_cons.mp h with q | q
      · rw [q]; exact e
      · exact mem_tw f l q
    · rw [if_neg e] at h; simp at h
section WFS
variable {T : TS}
theorem WF.full (h : WF T) {i : Nat} (hi : i < tN T) : i ∈ tO T := nodup_full (tN T) (tO T) h.1.2.2.2.2.1.1 h.1.2.2.2.1 h.1.2.2.1 i hi
theorem WF.nm (h : WF T) {i : Nat} (hi : i < tN T) : nmOK (tM T i) := by
  by_cases e : i = 0
  · rw [e, h.2.1.1]; unfold nmOK; omega
  · have := (h.2.1.2 i hi e).1
    unfold nmI at this
    unfold nmOK
    omega
theorem WF.b (h : WF T) : WFb T := by
  have h' := h
  obtain ⟨⟨a1, a2, a3, a4, a5, a6⟩, ⟨b1, b2⟩, ⟨⟨r, c1⟩, c2, c3, c4, c5⟩, d1, d2, d3⟩ := h
  have hlen : (tS T).length ≤ tN T := nodup_len _ _ c2 (fun i hi => (c3 i hi).1)
  refine ⟨a2, a3, a4, by rw [c1]; simp, hlen, fun i hi => (c3 i hi).1, fun i hi => h'.nm hi, fun i hi => ?_, a5.1, fun i hi => h'.full hi, c2, by rw [c1]; rfl, ?_⟩
  · obtain ⟨A, B, e⟩ := List.append_of_mem (h'.full hi)
    have hd := a5.depth A.length A i B rfl e
    have : A.length < tN T := by rw [← a3, e]; simp
    omega
  · obtain ⟨r', hr⟩ := a5.2.1
    rw [hr]; rfl
theorem WF.par (h : WF T) {i : Nat} (hi : i < tN T) : tP T i < tN T := by
  by_cases e : i = 0
  · rw [e, h.1.2.2.2.2.2]; have := h.1.1; omega
  · exact h.1.2.2.2.1 _ (h.1.2.2.2.2.1.dpos (h.full hi) e).2.1
theorem seat_at' (hn : (tO T).Nodup) {i : Nat} (hi : i ∈ tO T) : seat T i < (tO T).length ∧ (tO T).getD (seat T i) 0 = i := by
  have := List.idxOf_lt_length_of_mem hi
  exact ⟨this, (idx_iff hn hi this).mpr rfl⟩
/-- the block of a node, cut out of the order -/
theorem cutT (hn : (tO T).Nodup) {i : Nat} (hi : i ∈ tO T) : ∃ A S C, tO T = A ++ i :: (S ++ C) ∧ A.length = seat T i ∧ behindA T (seat T i) = A.length + 1 + S.length ∧ (∀ x ∈ S, tD T i < tD T x) ∧ hdLe (tD T) (tD T i) C := by
  obtain ⟨hs, hat⟩ := seat_at' hn hi
  refine ⟨(tO T).take (seat T i), ((tO T).drop (seat T i + 1)).takeWhile (fun q => decide (tD T i < tD T q)), ((tO T).drop (seat T i + 1)).dropWhile (fun q => decide (tD T i < tD T q)), ?_, by rw [List.length_take]; omega, ?_, fun x hx => ?_, ?_⟩
  · rw [List.takeWhile_append_dropWhile]
    conv => lhs; rw [← List.take_append_drop (seat T i) (tO T)]
    rw [List.drop_eq_getElem_cons (by omega), ← gD (d := 0) (by omega), hat]
  · unfold behindA
    rw [hat, List.length_take, Nat.min_eq_left (by omega)]
  · have := mem_tw _ _ hx
    simpa using this
  · intro c C' e
    have : ((tO T).drop (seat T i + 1)).dropWhile (fun q => decide (tD T i < tD T q)) ≠ [] := by rw [e]; simp
    have h2 := List.head_dropWhile_not (fun q => decide (tD T i < tD T q)) this
    simp only [e, List.head_cons] at h2
    simpa using h2
/-- a place where a leaf can stand -/
def Place (T : TS) (q : Nat × Nat × Nat) : Prop := ∃ A C, tO T = A ++ C ∧ A.length = q.1 ∧ A ≠ [] ∧ q.2.2 ∈ tO T ∧ hdLe (tD T) q.2.1 C ∧ ∀ n, n ∉ tO T → WFo (A ++ n :: C) (va_up (tP T) n q.2.2) (va_up (tD T) n q.2.1)
theorem place_in (h : WFo (tO T) (tP T) (tD T)) {w : Nat} (hw : w ∈ tO T) : Place T (plcIn T w) := by
  obtain ⟨A, S, C, e, ha, hb, hS, hC⟩ := cutT h.1 hw
  refine ⟨A ++ w :: S, C, by rw [e]; simp, ?_, by simp, hw, fun c C' ec => Nat.le_succ_of_le (hC c C' ec), fun n hn => ?_⟩
  · show _ = behindA T (seat T w)
    rw [hb]; simp; omega
  · have e2 : A ++ w :: S ++ n :: C = A ++ w :: (S ++ n :: C) := by simp
    rw [e2]
    rw [e] at h hn
    exact h.insLast hS hC hn
theorem place_bf (h : WFo (tO T) (tP T) (tD T)) {t : Nat} (ht : t ∈ tO T) (h0 : t ≠ 0) : Place T (seat T t, tD T t, tP T t) := by
  obtain ⟨A, S, C, e, ha, hb, hS, hC⟩ := cutT h.1 ht
  have hA : A ≠ [] := fun q => by
    obtain ⟨r, hr⟩ := h.2.1
    rw [q, hr] at e
    cases e
    exact h0 rfl
  refine ⟨A, t :: (S ++ C), e, ha, hA, (h.dpos ht h0).2.1, fun c C' ec => by cases ec; exact Nat.le_refl _, fun n hn => ?_⟩
  rw [e] at h hn
  exact h.insBefore hA hn
theorem Place.ins {q : Nat × Nat × Nat} (h : Place T q) {n : Nat} (hn : n ∉ tO T) : WFo (insN (tO T) q.1 n) (va_up (tP T) n q.2.2) (va_up (tD T) n q.2.1) := by
  obtain ⟨A, C, e, ha, -, -, -, h2⟩ := h
  have : insN (tO T) q.1 n = A ++ n :: C := by unfold insN; rw [e, ← ha]; simp
  rw [this]
  exact h2 n hn
theorem itP_old {p : Nat → Nat} {n w : Nat} (hp : ∀ j, j < n → p j < n) : ∀ k j, j < n → itP (va_up p n w) k j = itP p k j ∧ itP p k j < n
  | 0, j, h => ⟨rfl, h⟩
  | k + 1, j, h => by
    have := itP_old (w := w) hp k j h
    rw [itP, itP, this.1, va_up_n _ _ _ _ (by omega)]
    exact ⟨rfl, hp _ this.2⟩
theorem anc_old {p : Nat → Nat} {n w i j : Nat} (hp : ∀ j, j < n → p j < n) (hj : j < n) : anc (va_up p n w) i j ↔ anc p i j ∧ i < n := by
  constructor
  · intro ⟨k, hk⟩
    have := itP_old (w := w) hp k j hj
    rw [this.1] at hk
    exact ⟨⟨k, hk⟩, hk ▸ this.2⟩
  · intro ⟨⟨k, hk⟩, _⟩
    exact ⟨k, by rw [(itP_old (w := w) hp k j hj).1]; exact hk⟩
theorem mem_insN {l : List Nat} {k x i : Nat} : i ∈ insN l k x ↔ i = x ∨ i ∈ l := by
  unfold insN
  have : i ∈ l ↔ i ∈ l.take k ∨ i ∈ l.drop k := by
    conv => lhs; rw [← List.take_append_drop k l]
    exact List.mem_append
  rw [this, List.mem_append, List.mem_cons]
  constructor <;> intro h <;> rcases h with h | h | h <;> simp [h]
theorem WF.mk (h : WF T) (hn : tN T ≠ 24) {x c : Int} {q : Nat × Nat × Nat} (hq : Place T q) (hx : nmI x) (hk : kidOK (tM T q.2.2) x) : WF (mkT T x c q) := by
  have hpar : ∀ j, j < tN T → tP T j < tN T := fun j hj => h.par hj
  obtain ⟨⟨a1, a2, a3, a4, a5, a6⟩, ⟨b1, b2⟩, ⟨⟨r, c1⟩, c2, c3, c4, c5⟩, d1, d2, d3⟩ := h
  have hnO : tN T ∉ tO T := fun z => by have := a4 _ z; omega
  have hwf := hq.ins hnO
  have hw : q.2.2 < tN T := by obtain ⟨-, -, -, -, -, hw, -, -⟩ := hq; exact a4 _ hw
  have hlen : (insN (tO T) q.1 (tN T)).length = tN T + 1 := by
    obtain ⟨A, C, e, ha, -, -, -, h2⟩ := hq
    rw [len_insN (by rw [e, ← ha]; simp), a3]
  refine ⟨⟨?_, ?_, hlen, fun i hi => ?_, hwf, ?_⟩, ⟨?_, fun i hi h0 => ?_⟩, ⟨⟨r, c1⟩, c2, fun i hi => ?_, fun A i B e hr => ?_, fun A i B j C e => ?_⟩, fun o i hi => ?_, fun o => ?_, fun i hi => ?_⟩
  · rw [tN_mkT]; omega
  · rw [tN_mkT]; omega
  · rw [tN_mkT]
    rcases mem_insN.mp hi with z | z
    · omega
    · have := a4 i z; omega
  · rw [tP_mkT, va_up_n _ _ _ _ (by omega)]; exact a6
  · rw [tM_mkT, va_up_n _ _ _ _ (by omega)]; exact b1
  · rw [tN_mkT] at hi
    rw [tM_mkT, tP_mkT]
    by_cases e : i = tN T
    · rw [e, va_up_s, va_up_s, va_up_n _ _ _ _ (by omega)]
      exact ⟨hx, hk⟩
    · rw [va_up_n _ _ _ _ e, va_up_n _ _ _ _ e, va_up_n _ _ _ _ (by have := hpar i (by omega); omega)]
      exact b2 i (by omega) h0
  · have := c3 i hi
    rw [tN_mkT, tM_mkT, va_up_n _ _ _ _ (by omega)]
    exact ⟨by omega, this.2⟩
  · have hi : i ∈ tS T := by rw [show tS T = A ++ i :: B from e]; simp
    have := c3 i hi
    rw [tM_mkT, va_up_n _ _ _ _ (by omega)] at hr
    obtain ⟨A1, t, t1, t2⟩ := c4 A i B e hr
    refine ⟨A1, t, t1, ?_⟩
    have ht := c3 t (by rw [show tS T = A ++ i :: B from e, t1]; simp)
    rw [tM_mkT, va_up_n _ _ _ _ (by omega)]
    exact t2
  · have hi := c3 i (by rw [show tS T = _ from e]; simp)
    rw [tP_mkT, anc_old hpar hi.1]
    exact fun z => c5 A i B j C e z.1
  · rw [tL_mkT] at hi
    by_cases e : o = tN T
    · rw [e, va_up_s] at hi; cases hi
    · rw [va_up_n _ _ _ _ e] at hi
      have := d1 o i hi
      rw [tN_mkT, tM_mkT, va_up_n _ _ _ _ (by omega)]
      exact ⟨by omega, this.2⟩
  · rw [tL_mkT]
    by_cases e : o = tN T
    · rw [e, va_up_s]; simp
    · rw [va_up_n _ _ _ _ e]; exact d2 o
  · rw [tN_mkT] at hi
    rw [tL_mkT, tX_mkT, va_up_n _ _ _ _ (by omega), va_up_n _ _ _ _ (by omega)]
    exact d3 i (by omega)
theorem WF.wpsh (h : WF T) {i : Nat} (hi : i < tN T) (hs : i ∉ tS T) (hk : ¬ noKid (tM T i)) (hr : tM T i = 114 → tM T ((tS T).getD ((tS T).length - 1) 0) = 116) (ha : ∀ j ∈ tS T, ¬ anc (tP T) i j) : WF (psh T i) := by
  obtain ⟨a, b, ⟨⟨r, c1⟩, c2, c3, c4, c5⟩, d⟩ := h
  refine ⟨a, b, ⟨⟨r ++ [i], by rw [tS_psh, c1]; rfl⟩, ?_, fun j hj => ?_, fun A j B e hr' => ?_, fun A j B k C e => ?_⟩, d⟩
  · rw [tS_psh, List.nodup_append]
    exact ⟨c2, by simp, fun a ha b hb => by simp at hb; rw [hb]; exact fun z => hs (z ▸ ha)⟩
  · rw [tS_psh] at hj
    rcases List.mem_append.mp hj with z | z
    · exact c3 j z
    · simp at z
      rw [z]; exact ⟨hi, hk⟩
  · rw [tS_psh] at e
    rcases split_app e with ⟨Z, z1, z2⟩ | ⟨Z, z1, z2⟩
    · exact c4 A j Z z1 hr'
    · cases Z with
      | nil =>
        cases z2
        rw [List.append_nil] at z1
        have h1 := hr hr'
        rcases List.eq_nil_or_concat (tS T) with z | ⟨L, t, z⟩
        · rw [z] at c1; cases c1
        · rw [z] at h1
          refine ⟨L, t, by rw [z1, z]; simp, ?_⟩
          rw [tM_psh]
          simpa using h1
      | cons y Z => simp at z2
  · rw [tS_psh] at e
    have e' : tS T ++ [i] = (A ++ j :: B) ++ k :: C := by rw [e]; simp
    rcases split_app e' with ⟨Z, z1, z2⟩ | ⟨Z, z1, z2⟩
    · exact c5 A j B k Z (by rw [z1]; simp)
    · cases Z with
      | nil =>
        cases z2
        rw [List.append_nil] at z1
        exact ha j (by rw [← z1]; simp)
      | cons y Z => simp at z2
theorem WF.take (h : WF T) {n : Nat} (hn : 1 ≤ n) : WF (setS T ((tS T).take n)) := by
  obtain ⟨a, b, ⟨⟨r, c1⟩, c2, c3, c4, c5⟩, d⟩ := h
  have hsp := List.take_append_drop n (tS T)
  refine ⟨a, b, ⟨⟨r.take (n - 1), ?_⟩, ?_, fun j hj => ?_, fun A j B e hr' => ?_, fun A j B k C e => ?_⟩, d⟩
  · rw [tS_setS, c1]
    obtain ⟨m, rfl⟩ : ∃ m, n = m + 1 := ⟨n - 1, by omega⟩
    rfl
  · exact c2.sublist (List.take_sublist _ _)
  · exact c3 j (List.mem_of_mem_take hj)
  · rw [tS_setS] at e
    exact c4 A j (B ++ (tS T).drop n) (by conv => lhs; rw [← hsp, e]
                                          simp) hr'
  · rw [tS_setS] at e
    exact c5 A j B k (C ++ (tS T).drop n) (by conv => lhs; rw [← hsp, e]
                                              simp)
theorem WF.wsetL (h : WF T) {l : Nat → List Nat} (h1 : ∀ o i, i ∈ l o → i < tN T ∧ isFmt (tM T i) = true) (h2 : ∀ o, (l o).length ≤ 4) (h3 : ∀ i, tN T ≤ i → l i = []) : WF (setL T l) :=
  ⟨h.1, h.2.1, h.2.2.1, h1, h2, fun i hi => ⟨h3 i hi, (h.2.2.2.2.2 i hi).2⟩⟩
theorem WF.waddC (h : WF T) {i : Nat} {c : Int} (hi : i < tN T) : WF (addC T i c) :=
  ⟨h.1, h.2.1, h.2.2.1, h.2.2.2.1, h.2.2.2.2.1, fun j hj => ⟨(h.2.2.2.2.2 j hj).1, by
    rw [tX_addC, va_up_n _ _ _ _ (by have : tN T ≤ j := hj; omega)]
    exact (h.2.2.2.2.2 j hj).2⟩⟩
theorem WF_t0 : WF t0 := by
  refine ⟨⟨by decide, by decide, rfl, by decide, ⟨by decide, ⟨[], rfl⟩, rfl, fun A i B e ha => ?_⟩, rfl⟩, ⟨rfl, fun i hi h0 => ?_⟩, ⟨⟨[], rfl⟩, by decide, fun i hi => ?_, fun A i B e h => ?_, fun A i B j C e => ?_⟩, ⟨fun o i hi => (by cases hi), fun o => (by show ([] : List Nat).length ≤ 4; decide), fun i hi => ⟨rfl, rfl⟩⟩⟩
  · cases A with
    | nil => exact (ha rfl).elim
    | cons a A =>
      have := congrArg List.length e
      simp [tO, t0] at this
  · have : i < 1 := hi
    omega
  · have : i = 0 := by simpa [tS, t0] using hi
    rw [this]
    exact ⟨by decide, by unfold noKid; decide⟩
  · exact absurd h (by show (0 : Int) ≠ 114; decide)
  · have := congrArg List.length e
    simp [tS, t0] at this
    omega
/-- the top of the stack, and places -/
theorem WF.top (h : WF T) {n : Nat} (h1 : 1 ≤ n) (h2 : n ≤ (tS T).length) : (tS T).getD (n - 1) 0 ∈ tS T ∧ (tS T).getD (n - 1) 0 < tN T ∧ ¬ noKid (tM T ((tS T).getD (n - 1) 0)) := by
  have hm : (tS T).getD (n - 1) 0 ∈ tS T := by rw [gD (by omega)]; exact List.getElem_mem _
  exact ⟨hm, h.2.2.1.2.2.1 _ hm⟩
/-- below an r of the stack stands a t -/
theorem WF.tbl (h : WF T) {n : Nat} (h1 : 1 ≤ n) (h2 : n ≤ (tS T).length) (ht : isTR (tM T ((tS T).getD (n - 1) 0)) = true) : lastB (fun k => decide (1 ≤ k) && decide (sNm T k = 116)) n ≠ 0 := by
  intro e0
  have hm := lastB_max (fun k => decide (1 ≤ k) && decide (sNm T k = 116)) n
  rw [e0] at hm
  have hno : ∀ k, 1 ≤ k → k < n → sNm T k ≠ 116 := fun k k1 k2 => by
    have := hm k (by omega) k2
    simp at this
    exact this k1
  have h0 : sNm T 0 = 0 := by
    obtain ⟨r, hr⟩ := h.2.2.1.1
    show tM T ((tS T).getD 0 0) = 0
    rw [hr]
    exact h.2.1.1
  have hx : tM T ((tS T).getD (n - 1) 0) = sNm T (n - 1) := rfl
  unfold isTR at ht
  simp only [Bool.or_eq_true, decide_eq_true_eq] at ht
  rw [hx] at ht
  have hn1 : n - 1 ≠ 0 := fun q => by rw [q, h0] at ht; omega
  rcases ht with q | q
  · exact hno (n - 1) (by omega) (by omega) q
  · have hsp : tS T = (tS T).take (n - 1) ++ (tS T).getD (n - 1) 0 :: (tS T).drop n := by
      conv => lhs; rw [← List.take_append_drop (n - 1) (tS T)]
      rw [List.drop_eq_getElem_cons (by omega), gD (by omega), show n - 1 + 1 = n by omega]
    obtain ⟨A1, t, e1, e2⟩ := h.2.2.1.2.2.2.1 _ _ _ hsp q
    have hl := congrArg List.length e1
    rw [List.length_take, Nat.min_eq_left (by omega)] at hl
    simp at hl
    have ht2 : sNm T (n - 2) = 116 := by
      show tM T ((tS T).getD (n - 2) 0) = 116
      have : (tS T).getD (n - 2) 0 = ((tS T).take (n - 1)).getD (n - 2) 0 := by simp [List.getD, List.getElem?_take, show n - 2 < n - 1 by omega]
      rw [this, e1, show n - 2 = A1.length by omega]
      simpa using e2
    by_cases z : n - 2 = 0
    · rw [z, h0] at ht2; omega
    · exact hno (n - 2) (by omega) (by omega) ht2
end WFS
