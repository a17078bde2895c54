/-! nodes in document order with parents and depths -/
set_option maxRecDepth 100000
def WFo (o : List Nat) (p d : Nat → Nat) : Prop := o.Nodup ∧ (∃ r, o = 0 :: r) ∧ d 0 = 0 ∧ ∀ A i B, o = A ++ i :: B → A ≠ [] → ∃ A1 A2, A = A1 ++ p i :: A2 ∧ d (p i) + 1 = d i ∧ ∀ x ∈ A2, d i ≤ d x
/-- a split of a list at a member that lies in one of two parts -/
theorem split2 {A B A1 A2 : List Nat} {x i : Nat} (h : A ++ i :: B = A1 ++ x :: A2) : (∃ Z, A = A1 ++ x :: Z ∧ A2 = Z ++ i :: B) ∨ (A = A1 ∧ i = x ∧ B = A2) ∨ ∃ Z, A1 = A ++ i :: Z ∧ B = Z ++ x :: A2 := by
  rcases List.append_eq_append_iff.mp h with ⟨a, h1, h2⟩ | ⟨c, h1, h2⟩
  · cases a with
    | nil =>
      rw [List.nil_append] at h2
      cases h2
      exact Or.inr (Or.inl ⟨by rw [h1, List.append_nil], rfl, rfl⟩)
    | cons z a =>
      cases h2
      exact Or.inr (Or.inr ⟨a, h1, rfl⟩)
  · cases c with
    | nil =>
      rw [List.nil_append] at h2
      cases h2
      exact Or.inr (Or.inl ⟨by rw [h1, List.append_nil], rfl, rfl⟩)
    | cons z c =>
      cases h2
      exact Or.inl ⟨c, h1, rfl⟩
theorem split_app {A B A1 A2 : List Nat} {x : Nat} (h : A ++ B = A1 ++ x :: A2) : (∃ Z, A = A1 ++ x :: Z ∧ A2 = Z ++ B) ∨ ∃ Z, A1 = A ++ Z ∧ B = Z ++ x :: A2 := by
  rcases List.append_eq_append_iff.mp h with ⟨a, h1, h2⟩ | ⟨c, h1, h2⟩
  · exact Or.inr ⟨a, h1, h2⟩
  · cases c with
    | nil => exact Or.inr ⟨[], by rw [List.append_nil] at *; exact h1.symm, by rw [List.nil_append] at *; exact h2.symm⟩
    | cons z c =>
      cases h2
      exact Or.inl ⟨c, h1, rfl⟩
def hdLe (d : Nat → Nat) (n : Nat) (C : List Nat) : Prop := ∀ c C', C = c :: C' → d c ≤ n
section DL
variable {o A S C : List Nat} {p d : Nat → Nat} {i : Nat}
theorem WFo.tail0 (h : WFo o p d) {A B : List Nat} {i : Nat} (e : o = A ++ i :: B) (ha : A ≠ []) : i ≠ 0 := by
  obtain ⟨hn, ⟨r, hr⟩, -, -⟩ := h
  intro e0
  subst e0
  rw [hr] at e hn
  cases A with
  | nil => exact ha rfl
  | cons z A =>
    cases e
    simp at hn
theorem WFo.dpos (h : WFo o p d) {i : Nat} (hi : i ∈ o) (h0 : i ≠ 0) : 1 ≤ d i ∧ p i ∈ o ∧ d (p i) + 1 = d i := by
  obtain ⟨A, B, e⟩ := List.append_of_mem hi
  have ha : A ≠ [] := by
    intro q
    subst q
    obtain ⟨-, ⟨r, hr⟩, -, -⟩ := h
    rw [hr] at e
    cases e
    exact h0 rfl
  obtain ⟨A1, A2, e1, e2, e3⟩ := h.2.2.2 A i B e ha
  refine ⟨by omega, ?_, e2⟩
  rw [e, e1]
  simp
theorem WFo.in_block (h : WFo (A ++ i :: (S ++ C)) p d) (hS : ∀ x ∈ S, d i < d x) {S1 S2 : List Nat} {x : Nat} (e : S = S1 ++ x :: S2) : (p x = i ∧ d x = d i + 1 ∧ ∀ y ∈ S1, d x ≤ d y) ∨ ∃ G1 G2, S1 = G1 ++ p x :: G2 ∧ d (p x) + 1 = d x ∧ ∀ y ∈ G2, d x ≤ d y := by
  obtain ⟨A1, A2, e1, e2, e3⟩ := h.2.2.2 (A ++ i :: S1) x (S2 ++ C) (by rw [e]; simp) (by simp)
  have hx : d i < d x := hS x (by rw [e]; simp)
  rcases split2 e1 with ⟨Z, z1, z2⟩ | ⟨z1, z2, z3⟩ | ⟨Z, z1, z2⟩
  · have := e3 i (by rw [z2]; simp)
    omega
  · left
    rw [← z2] at e2
    exact ⟨z2.symm, by omega, by rw [z3]; exact e3⟩
  · exact Or.inr ⟨Z, A2, z2, e2, e3⟩
theorem WFo.in_mem (h : WFo (A ++ i :: (S ++ C)) p d) (hS : ∀ x ∈ S, d i < d x) {x : Nat} (hx : x ∈ S) : p x ∈ i :: S := by
  obtain ⟨S1, S2, e⟩ := List.append_of_mem hx
  rcases h.in_block hS e with q | ⟨G1, G2, g1, -⟩
  · rw [q.1]; simp
  · rw [e, g1]; simp
theorem WFo.out_block (h : WFo (A ++ i :: (S ++ C)) p d) (hS : ∀ x ∈ S, d i < d x) (hC : hdLe d (d i) C) {C1 C2 : List Nat} {x : Nat} (e : C = C1 ++ x :: C2) : (∃ A1 A2, A = A1 ++ p x :: A2 ∧ d (p x) + 1 = d x ∧ (∀ y ∈ A2, d x ≤ d y) ∧ d x ≤ d i ∧ ∀ y ∈ C1, d x ≤ d y) ∨ ∃ G1 G2, C1 = G1 ++ p x :: G2 ∧ d (p x) + 1 = d x ∧ ∀ y ∈ G2, d x ≤ d y := by
  obtain ⟨A1, A2, e1, e2, e3⟩ := h.2.2.2 (A ++ i :: (S ++ C1)) x C2 (by rw [e]; simp) (by simp)
  have hno : ∀ y, y ∈ i :: S → p x = y → (∀ z ∈ C1, z ∈ A2) → False := by
    intro y hy e4 hz
    have h1 : d i ≤ d y := by
      rcases List.mem_cons.mp hy with q | q
      · rw [q]; exact Nat.le_refl _
      · exact Nat.le_of_lt (hS y q)
    rw [e4] at e2
    cases C1 with
    | nil =>
      have := hC x C2 (by rw [e]; rfl)
      omega
    | cons c C1 =>
      have h2 := hC c (C1 ++ x :: C2) (by rw [e]; rfl)
      have h3 := e3 c (hz c (by simp))
      omega
  rcases split2 e1 with ⟨Z, z1, z2⟩ | ⟨z1, z2, z3⟩ | ⟨Z, z1, z2⟩
  · left
    refine ⟨A1, Z, z1, e2, fun y hy => e3 y (by rw [z2]; simp [hy]), e3 i (by rw [z2]; simp), fun y hy => e3 y (by rw [z2]; simp [hy])⟩
  · exact (hno i (by simp) z2.symm (fun z hz => by rw [← z3]; simp [hz])).elim
  · rcases split_app z2 with ⟨Y, y1, y2⟩ | ⟨Y, y1, y2⟩
    · exact (hno (p x) (by rw [y1]; simp) rfl (fun z hz => by rw [y2]; simp [hz])).elim
    · exact Or.inr ⟨Y, A2, y2, e2, e3⟩
theorem nodup_mid {A B : List Nat} {i : Nat} (h : (A ++ i :: B).Nodup) : i ∉ A ∧ i ∉ B := by
  rw [List.nodup_append] at h
  refine ⟨fun q => h.2.2 i q i (by simp) rfl, ?_⟩
  have := h.2.1
  rw [List.nodup_cons] at this
  exact this.1
theorem WFo.out_mem (h : WFo (A ++ i :: (S ++ C)) p d) (hS : ∀ x ∈ S, d i < d x) (hC : hdLe d (d i) C) {x : Nat} (hx : x ∈ A ∨ x ∈ C) (h0 : x ≠ 0) : p x ∉ i :: S := by
  have hn := h.1
  have hdis : ∀ y ∈ A, y ∉ i :: S := fun y hy q => by
    rw [List.nodup_append] at hn
    exact hn.2.2 y hy y (by rcases List.mem_cons.mp q with z | z <;> simp [z]) rfl
  rcases hx with hx | hx
  · obtain ⟨A1, A2, e⟩ := List.append_of_mem hx
    have ha : A1 ≠ [] := by
      intro q
      subst q
      obtain ⟨-, ⟨r, hr⟩, -, -⟩ := h
      rw [e] at hr
      cases hr
      exact h0 rfl
    obtain ⟨B1, B2, b1, -⟩ := h.2.2.2 A1 x (A2 ++ i :: (S ++ C)) (by rw [e]; simp) ha
    exact hdis _ (by rw [e, b1]; simp)
  · obtain ⟨C1, C2, e⟩ := List.append_of_mem hx
    rcases h.out_block hS hC e with ⟨A1, A2, a1, -⟩ | ⟨G1, G2, g1, -⟩
    · exact hdis _ (by rw [a1]; simp)
    · intro q
      have hn2 : ((A ++ i :: S) ++ C).Nodup := by simpa using hn
      rw [List.nodup_append] at hn2
      exact hn2.2.2 (p x) (by rcases List.mem_cons.mp q with z | z <;> simp [z]) (p x) (by rw [e, g1]; simp) rfl
/-- a new leaf between two parts -/
theorem WFo.ins {n w : Nat} (h : WFo (A ++ C) p d) (hn : n ∉ A ++ C) {A1 A2 : List Nat} (hA : A = A1 ++ w :: A2) (hA2 : ∀ y ∈ A2, d w + 1 ≤ d y) (hC : ∀ C1 x C2 B1 B2, C = C1 ++ x :: C2 → A = B1 ++ p x :: B2 → (∀ y ∈ B2, d x ≤ d y) → (∀ y ∈ C1, d x ≤ d y) → d (p x) + 1 = d x → d x ≤ d w + 1) : WFo (A ++ n :: C) (va_up p n w) (va_up d n (d w + 1)) := by
  have hw : w ≠ n := fun e => hn (by rw [hA, e]; simp)
  have hd : ∀ y, y ∈ A ++ C → va_up d n (d w + 1) y = d y ∧ va_up p n w y = p y := fun y hy => by
    have : y ≠ n := fun e => hn (e ▸ hy)
    simp [va_up, this]
  have hA0 : A ≠ [] := by rw [hA]; simp
  obtain ⟨h1, ⟨r, hr⟩, h3, h4⟩ := h
  refine ⟨?_, ?_, ?_, ?_⟩
  · have h1' := h1
    rw [List.nodup_append] at h1 ⊢
    refine ⟨h1.1, ?_, fun a ha b hb => ?_⟩
    · rw [List.nodup_cons]
      exact ⟨fun q => hn (by simp [q]), h1.2.1⟩
    · rcases List.mem_cons.mp hb with q | q
      · rw [q]; exact fun e => hn (by rw [← e]; simp [ha])
      · exact h1.2.2 a ha b q
  · cases A with
    | nil => exact (hA0 rfl).elim
    | cons z A =>
      cases hr
      exact ⟨A ++ n :: C, rfl⟩
  · have h0 : (0 : Nat) ∈ A ++ C := by rw [hr]; simp
    rw [(hd 0 h0).1]
    exact h3
  · intro B i B' e hB
    rcases split_app e with ⟨Z, z1, z2⟩ | ⟨Z, z1, z2⟩
    · -- i in A
      obtain ⟨B1, B2, b1, b2, b3⟩ := h4 B i (Z ++ C) (by rw [z1]; simp) hB
      have hiv := hd i (by rw [z1]; simp)
      have hpi := hd (p i) (by rw [z1, b1]; simp)
      refine ⟨B1, B2, by rw [hiv.2]; exact b1, by rw [hiv.2, hpi.1, hiv.1]; exact b2, fun q hq => ?_⟩
      rw [hiv.1, (hd q (by rw [z1, b1]; simp [hq])).1]
      exact b3 q hq
    · cases Z with
      | nil =>
        cases z2
        rw [List.append_nil] at z1
        subst z1
        refine ⟨A1, A2, by simp only [va_up, if_pos]; exact hA, ?_, fun q hq => ?_⟩
        · simp only [va_up, if_pos, if_neg hw]
        · have hqn : q ≠ n := fun e => hn (by rw [hA, ← e]; simp [hq])
          simp only [va_up, if_pos, if_neg hqn]
          exact hA2 q hq
      | cons y Y =>
        have hy : n = y ∧ C = Y ++ i :: B' := by
          have := z2
          simp at this
          exact this
        obtain ⟨rfl, hCY⟩ := hy
        obtain ⟨B1, B2, b1, b2, b3⟩ := h4 (A ++ Y) i B' (by rw [hCY]; simp) (by simp [hA0])
        have hiv := hd i (by rw [hCY]; simp)
        have hpi := hd (p i) (by
          rw [hCY]
          have : p i ∈ A ++ Y := by rw [b1]; simp
          rcases List.mem_append.mp this with g | g <;> simp [g])
        rcases split_app b1 with ⟨X, x1, x2⟩ | ⟨X, x1, x2⟩
        · refine ⟨B1, X ++ n :: Y, by rw [z1, hiv.2]; conv => lhs; rw [x1]
                                      simp, by rw [hiv.2, hpi.1, hiv.1]; exact b2, fun q hq => ?_⟩
          rw [hiv.1]
          rcases List.mem_append.mp hq with g | g
          · rw [(hd q (by rw [x1]; simp [g])).1]
            exact b3 q (by rw [x2]; simp [g])
          · rcases List.mem_cons.mp g with g | g
            · rw [g]
              simp only [va_up, if_pos]
              exact hC Y i B' B1 X hCY x1 (fun q hq => b3 q (by rw [x2]; simp [hq])) (fun q hq => b3 q (by rw [x2]; simp [hq])) b2
            · rw [(hd q (by rw [hCY]; simp [g])).1]
              exact b3 q (by rw [x2]; simp [g])
        · refine ⟨A ++ n :: X, B2, by rw [z1, hiv.2, x2]; simp, by rw [hiv.2, hpi.1, hiv.1]; exact b2, fun q hq => ?_⟩
          rw [hiv.1, (hd q (by rw [hCY, x2]; simp [hq])).1]
          exact b3 q hq
/-- a new last child -/
theorem WFo.insLast {n w : Nat} (h : WFo (A ++ w :: (S ++ C)) p d) (hS : ∀ x ∈ S, d w < d x) (hC : hdLe d (d w) C) (hn : n ∉ A ++ w :: (S ++ C)) : WFo (A ++ w :: (S ++ n :: C)) (va_up p n w) (va_up d n (d w + 1)) := by
  have e1 : A ++ w :: (S ++ C) = (A ++ w :: S) ++ C := by simp
  have e2 : A ++ w :: (S ++ n :: C) = (A ++ w :: S) ++ n :: C := by simp
  rw [e2]
  have h' := h
  rw [e1] at h' hn
  refine h'.ins hn rfl (fun y hy => hS y hy) (fun C1 x C2 B1 B2 c1 c2 c3 c4 c5 => ?_)
  rcases h.out_block hS hC c1 with ⟨X1, X2, x1, -, -, x4, -⟩ | ⟨G1, G2, g1, g2, g3⟩
  · omega
  · exfalso
    have hnd := h.1
    rw [e1, List.nodup_append] at hnd
    exact hnd.2.2 (p x) (by rw [c2]; simp) (p x) (by rw [c1, g1]; simp) rfl
/-- a new node just before another -/
theorem WFo.insBefore {n t : Nat} (h : WFo (A ++ t :: C) p d) (hA0 : A ≠ []) (hn : n ∉ A ++ t :: C) : WFo (A ++ n :: t :: C) (va_up p n (p t)) (va_up d n (d t)) := by
  obtain ⟨A1, A2, a1, a2, a3⟩ := h.2.2.2 A t C rfl hA0
  rw [← a2]
  refine h.ins hn a1 (fun y hy => by rw [a2]; exact a3 y hy) (fun C1 x C2 B1 B2 c1 c2 c3 c4 c5 => ?_)
  rw [a2]
  cases C1 with
  | nil => cases c1; exact Nat.le_refl _
  | cons z C1 =>
    cases c1
    exact c4 t (by simp)
/-- a block taken out -/
theorem WFo.del (h : WFo (A ++ i :: (S ++ C)) p d) (hA0 : A ≠ []) (hS : ∀ x ∈ S, d i < d x) (hC : hdLe d (d i) C) : WFo (A ++ C) p d := by
  obtain ⟨h1, ⟨r, hr⟩, h3, h4⟩ := h
  refine ⟨?_, ?_, h3, ?_⟩
  · have e1 : A ++ i :: (S ++ C) = (A ++ i :: S) ++ C := by simp
    rw [e1] at h1
    rw [List.nodup_append] at h1 ⊢
    refine ⟨?_, h1.2.1, fun a ha b hb => h1.2.2 a (by simp [ha]) b hb⟩
    have := h1.1
    rw [List.nodup_append] at this
    exact this.1
  · cases A with
    | nil => exact (hA0 rfl).elim
    | cons z A => cases hr; exact ⟨A ++ C, rfl⟩
  · intro B x B' e hB
    rcases split_app e with ⟨Z, z1, z2⟩ | ⟨Z, z1, z2⟩
    · exact h4 B x (Z ++ i :: (S ++ C)) (by rw [z1]; simp) hB
    · rcases WFo.out_block ⟨h1, ⟨r, hr⟩, h3, h4⟩ hS hC z2 with ⟨X1, X2, x1, x2, x3, x4, x5⟩ | ⟨G1, G2, g1, g2, g3⟩
      · refine ⟨X1, X2 ++ Z, by rw [z1, x1]; simp, x2, fun y hy => ?_⟩
        rcases List.mem_append.mp hy with g | g
        · exact x3 y g
        · exact x5 y g
      · exact ⟨A ++ G1, G2, by rw [z1, g1]; simp, g2, g3⟩
/-- a forest put under a leaf -/
theorem WFo.forest {F : List Nat} {p' d' : Nat → Nat} (h : WFo (A ++ i :: C) p d) (hC : hdLe d (d i) C) (hnd : (A ++ i :: (F ++ C)).Nodup) (hF : ∀ F1 x F2, F = F1 ++ x :: F2 → (p' x = i ∧ d' x = d i + 1 ∧ ∀ y ∈ F1, d' x ≤ d' y) ∨ ∃ G1 G2, F1 = G1 ++ p' x :: G2 ∧ d' (p' x) + 1 = d' x ∧ ∀ y ∈ G2, d' x ≤ d' y) (hF2 : ∀ x ∈ F, d i < d' x) (he : ∀ x ∈ A ++ i :: C, p' x = p x ∧ d' x = d x) : WFo (A ++ i :: (F ++ C)) p' d' := by
  have hout := fun (C1 : List Nat) (x : Nat) (C2 : List Nat) (e : C = C1 ++ x :: C2) => WFo.out_block (S := []) h (fun _ q => by cases q) hC e
  have hi := he i (by simp)
  obtain ⟨h1, ⟨r, hr⟩, h3, h4⟩ := h
  refine ⟨hnd, ?_, ?_, ?_⟩
  · cases A with
    | nil => cases hr; exact ⟨F ++ C, rfl⟩
    | cons z A => cases hr; exact ⟨A ++ i :: (F ++ C), rfl⟩
  · rw [(he 0 (by rw [hr]; simp)).2]; exact h3
  · intro B x B' e hB
    have e' : (A ++ [i]) ++ (F ++ C) = B ++ x :: B' := by rw [← e]; simp
    rcases split_app e' with ⟨Z, z1, z2⟩ | ⟨Z, z1, z2⟩
    · obtain ⟨B1, B2, b1, b2, b3⟩ := h4 B x (Z ++ C) (by
        have : A ++ i :: C = (A ++ [i]) ++ C := by simp
        rw [this, z1]; simp) hB
      have hin : ∀ q, q ∈ B ++ x :: Z → q ∈ A ++ i :: C := fun q hq => by
        rw [← z1] at hq
        rcases List.mem_append.mp hq with g | g
        · simp [g]
        · simp at g; simp [g]
      have hx := he x (hin x (by simp))
      refine ⟨B1, B2, by rw [hx.1]; exact b1, by rw [hx.1, (he (p x) (hin _ (by rw [b1]; simp))).2, hx.2]; exact b2, fun q hq => ?_⟩
      rw [hx.2, (he q (hin q (by rw [b1]; simp [hq]))).2]
      exact b3 q hq
    · rcases split_app z2 with ⟨Y, y1, y2⟩ | ⟨Y, y1, y2⟩
      · rcases hF Z x Y y1 with ⟨f1, f2, f3⟩ | ⟨G1, G2, g1, g2, g3⟩
        · exact ⟨A, Z, by rw [z1, f1]; simp, by rw [f1, hi.2, f2], f3⟩
        · exact ⟨A ++ i :: G1, G2, by rw [z1, g1]; simp, g2, g3⟩
      · have hxC : x ∈ A ++ i :: C := by rw [y2]; simp
        have hx := he x hxC
        rcases hout Y x B' y2 with ⟨X1, X2, x1, x2, x3, x4, x5⟩ | ⟨G1, G2, g1, g2, g3⟩
        · have hp := he (p x) (by rw [x1]; simp)
          refine ⟨X1, X2 ++ i :: (F ++ Y), by rw [z1, y1, hx.1, x1]; simp, by rw [hx.1, hp.2, hx.2]; exact x2, fun q hq => ?_⟩
          rw [hx.2]
          rcases List.mem_append.mp hq with g | g
          · rw [(he q (by rw [x1]; simp [g])).2]; exact x3 q g
          · rcases List.mem_cons.mp g with g | g
            · rw [g, hi.2]; exact x4
            · rcases List.mem_append.mp g with g | g
              · exact Nat.le_trans x4 (Nat.le_of_lt (hF2 q g))
              · rw [(he q (by rw [y2]; simp [g])).2]; exact x5 q g
        · have hp := he (p x) (by rw [y2, g1]; simp)
          refine ⟨A ++ i :: (F ++ G1), G2, by rw [z1, y1, hx.1, g1]; simp, by rw [hx.1, hp.2, hx.2]; exact g2, fun q hq => ?_⟩
          rw [hx.2, (he q (by rw [y2, g1]; simp [hq])).2]
          exact g3 q hq
end DL
