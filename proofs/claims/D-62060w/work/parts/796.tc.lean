/-! texts have no classes, letters are small -/
set_option maxRecDepth 100000
def TC (T : TS) : Prop := (∀ i, tM T i = 1 → tC T i = 0) ∧ ∀ i, ∀ c ∈ tX T i, 32 ≤ c ∧ c ≤ 126
section TC
variable {T T' : TS} {x c : Int} {q : Nat × Nat × Nat}
theorem TC_t0 : TC t0 := by
  refine ⟨fun i e => ?_, fun i c hc => ?_⟩
  · have e' : (0 : Int) = 1 := e
    omega
  · have h' : c ∈ ([] : List Int) := hc
    cases h'
theorem TC.mk (h : TC T) (hx : x = 1 → c = 0) (e : mkN T x c q = some T') : TC T' := by
  unfold mkN at e
  split at e
  · cases e
  · cases e
    refine ⟨fun i => ?_, fun i c hc => ?_⟩
    · show va_up (tM T) (tN T) x i = 1 → va_up (tC T) (tN T) c i = 0
      by_cases z : i = tN T
      · rw [z, va_up_s, va_up_s]; exact hx
      · rw [va_up_n _ _ _ _ z, va_up_n _ _ _ _ z]; exact h.1 i
    · have hc' : c ∈ va_up (tX T) (tN T) [] i := hc
      by_cases z : i = tN T
      · rw [z, va_up_s] at hc'; cases hc'
      · rw [va_up_n _ _ _ _ z] at hc'; exact h.2 i c hc'
theorem TC.wsetS (h : TC T) (s : List Nat) : TC (setS T s) := h
theorem TC.wsetL (h : TC T) (s : Nat → List Nat) : TC (setL T s) := h
theorem TC.wsetO (h : TC T) (o : List Nat) (p d : Nat → Nat) : TC (setO T o p d) := h
theorem TC.wpsh (h : TC T) (i : Nat) : TC (psh T i) := h
theorem TC.waddL (h : TC T) (o i : Nat) : TC (addL T o i) := h
theorem TC.wcls (h : TC T) (i : Nat) : TC (cls T i) := by unfold cls; split <;> exact h
theorem TC.waddC (h : TC T) (i : Nat) (hc : 32 ≤ c ∧ c ≤ 126) : TC (addC T i c) := by
  refine ⟨h.1, fun j d hd => ?_⟩
  have hd' : d ∈ va_up (tX T) i (tX T i ++ [c]) j := hd
  by_cases z : j = i
  · rw [z, va_up_s] at hd'
    rcases List.mem_append.mp hd' with y | y
    · exact h.2 i d y
    · rw [List.mem_singleton.mp y]; exact hc
  · rw [va_up_n _ _ _ _ z] at hd'; exact h.2 j d hd'
theorem TC.copy (h : TC T) (j : Nat) : tM T j = 1 → tC T j = 0 := h.1 j
theorem TC.wrenewF (o : Nat) : ∀ (d k : Nat) (T : TS), TC T → ∀ T', renewF o d k T = some T' → TC T'
  | 0, _, T, h, T', e => by cases e; exact h
  | d + 1, k, T, h, T', e => by
    unfold renewF at e
    split at e
    · split at e
      · cases e
      · next T1 e1 => exact TC.wrenewF o d (k + 1) _ (((h.mk (h.copy _) e1).wpsh _).wsetL _) T' e
    · cases e; exact h
theorem TC.renew (h : TC T) (e : tRenew T = some T') : TC T' := TC.wrenewF _ _ _ T h T' e
theorem TC.put (h : TC T) (hx : x ≠ 1) (e : tPut T x c q = some T') : TC T' := by
  unfold tPut at e
  split at e
  · cases e
  · next T1 e1 =>
    have h1 := h.mk (fun z => (hx z).elim) e1
    split at e
    · cases e; exact h1
    · split at e
      · cases e; exact (h1.wpsh _).waddL _ _
      · cases e; exact h1.wpsh _
theorem TC.start (h : TC T) (hx : x ≠ 1) (e : tStart x c T = some T') : TC T' := by
  unfold tStart at e
  split at e
  · split at e
    · cases e; exact h
    · split at e
      · exact TC.put (h.wcls _) hx e
      · split at e
        · exact TC.put (h.wcls _) hx e
        · simp only [] at e
          split at e
          · cases e
          · next T2 e2 => exact TC.put (((h.wcls _).mk (fun z => by omega) e2).wpsh _) hx e
  · split at e
    · refine TC.put ?_ hx e
      split
      · exact (h.wcls _).wcls _
      · exact h.wcls _
    · split at e
      · cases e
      · next T1 e1 => exact TC.put (h.renew e1) hx e
theorem TC.adopt (h : TC T) {a b id : Nat} (e : tAdopt T a b id = some T') : TC T' := by
  unfold tAdopt at e
  simp only [] at e
  split at e
  · cases e
  · next T4 e4 =>
    cases e
    have hT3 : TC T4 := by
      refine TC.mk ?_ (h.copy id) e4
      exact h
    exact hT3
theorem TC.fmt (h : TC T) {k : Nat} (e : tFmt T k = some T') : TC T' := by
  unfold tFmt at e
  simp only [] at e
  split at e
  · split at e
    · cases e; exact h
    · split at e
      · cases e; exact TC.wcls (h.wsetL _) _
      · exact TC.adopt (h.wsetL _) e
  · cases e; exact h
theorem TC.tend (h : TC T) (e : tEnd x T = some T') : TC T' := by
  unfold tEnd at e
  simp only [] at e
  repeat' split at e
  all_goals first
    | exact h.mk (fun z => rfl) e
    | exact h.fmt e
    | (cases e; exact h.wcls _)
    | (cases e; exact h)
theorem TC.char (h : TC T) (hc : 32 ≤ c ∧ c ≤ 126) (e : tChar c T = some T') : TC T' := by
  unfold tChar at e
  split at e
  · cases e; exact h
  · split at e
    · cases e
    · next T1 e1 =>
      have h1 := h.renew e1
      have key : ∀ {q : Nat × Nat × Nat}, (match mkN T1 1 0 q with | none => none | some T2 => some (addC T2 (tN T1) c)) = some T' → TC T' := fun {q} e => by
        split at e
        · cases e
        · next T2 e2 => cases e; exact (h1.mk (fun _ => rfl) e2).waddC _ hc
      simp only [] at e
      split at e
      · split at e
        · cases e; exact h1.waddC _ hc
        · exact key e
      · exact key e
theorem TC.charB {o : Option TS} (h : ∀ T, o = some T → TC T) (hc : 32 ≤ c ∧ c ≤ 126) : ∀ T, o.bind (tChar c) = some T → TC T := fun T' e => by
  cases o with
  | none => cases e
  | some T => exact (h T rfl).char hc e
theorem TC.wlxP {o : Option TS} (h : ∀ T, o = some T → TC T) (hc : 32 ≤ c ∧ c ≤ 126) (tag cl : Int) : ∀ T, (lxP c tag cl o).2.2.2 = some T → TC T := fun T' e => by
  unfold lxP at e
  split at e
  · exact h T' e
  · split at e
    · exact h T' e
    · exact TC.charB h hc T' e
theorem entC_ok2 (d : Int) : 32 ≤ entC d ∧ entC d ≤ 126 := by
  unfold entC
  repeat' split
  all_goals omega
theorem TC.wlx {s : LX} {n : Nat} (hL : LI s n) (h : ∀ T, s.2.2.2 = some T → TC T) (hc : 32 ≤ c ∧ c ≤ 126) : ∀ T, (lx s c).2.2.2 = some T → TC T := fun T' e => by
  obtain ⟨st, tag, cl, o⟩ := s
  unfold lx at e
  simp only [] at e h
  split at e
  · exact TC.wlxP h hc _ _ T' e
  split at e
  · repeat' split at e
    all_goals first
      | exact h T' e
      | exact TC.wlxP (TC.charB h (by omega)) hc _ _ T' e
  split at e
  · repeat' split at e
    all_goals exact h T' e
  split at e
  · next hst =>
    split at e
    · split at e
      · next h4 =>
        cases o with
        | none => cases e
        | some T => exact (h T rfl).tend e
      · cases o with
        | none => cases e
        | some T => exact (h T rfl).start (by have := hL.2.1 hst; intro z; simp only [] at this; omega) e
    · exact h T' e
  split at e
  · split at e
    · exact h T' e
    · exact h T' e
  split at e
  · split at e
    · exact h T' e
    · exact TC.wlxP (TC.charB h (by omega)) hc _ _ T' e
  · next h0 h1 h2 h34 h5 h6 =>
    have h7 : st = 7 := by have := hL.1; simp only [] at this; omega
    have htag : 32 ≤ tag ∧ tag ≤ 126 := by
      have := hL.2.2.1 h7
      simp only [] at this
      unfold isLga at this
      simp at this
      omega
    split at e
    · exact TC.charB h (entC_ok2 _) T' e
    · exact TC.wlxP (TC.charB (TC.charB h (by omega)) htag) hc _ _ T' e
/-- after any letters -/
theorem TC.all : ∀ (w : List Int), (∀ c ∈ w, 32 ≤ c ∧ c ≤ 126) → LI (w.foldl lx lx0) w.length ∧ ∀ T, (w.foldl lx lx0).2.2.2 = some T → TC T := by
  have gen : ∀ (l : List Int) (s : LX) (n : Nat), LI s n → (∀ T, s.2.2.2 = some T → TC T) → (∀ c ∈ l, 32 ≤ c ∧ c ≤ 126) → LI (l.foldl lx s) (n + l.length) ∧ ∀ T, (l.foldl lx s).2.2.2 = some T → TC T := by
    intro l
    induction l with
    | nil => intro s n h1 h2 _; exact ⟨h1, h2⟩
    | cons c l ih =>
      intro s n h1 h2 h3
      have := ih (lx s c) (n + 1) (h1.step (h3 c (by simp))) (TC.wlx h1 h2 (h3 c (by simp))) (fun d hd => h3 d (by simp [hd]))
      rw [List.length_cons, show n + (l.length + 1) = n + 1 + l.length by omega]
      exact this
  intro w hw
  have := gen w lx0 0 LI_0 (fun T e => by cases e; exact TC_t0) hw
  rw [Nat.zero_add] at this
  exact this
end TC
