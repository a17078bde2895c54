/-! the cascade, as a whole -/
set_option maxRecDepth 100000
theorem wt_c (t : List Int) : wt t = 8 * (cC t : Int) + (cS t : Int) := by
  have key : ∀ (l : List Int) (a : Int), l.foldl (fun w c => w + wtc c) a = a + 8 * (cC l : Int) + (cS l : Int) := by
    intro l
    induction l with
    | nil => intro a; simp [cC, cS]
    | cons c l ih =>
      intro a
      rw [List.foldl_cons, ih]
      unfold wtc cC cS
      rw [List.filter_cons, List.filter_cons]
      cases h1 : isCap c with
      | true =>
        have h2 := cap_not_sm c h1
        rw [h2]
        simp
        omega
      | false =>
        cases h2 : isSm c with
        | true => simp; omega
        | false => simp
  unfold wt
  rw [key]
  omega
theorem smN_le (l : List Int) : smN l ≤ 1 := by
  unfold smN
  split
  · omega
  · split <;> omega
theorem selR_cS : ∀ (n : Nat) (d : Int) (l : List Int) (ps : List PT), selR n d l = some ps → cS l ≤ n := by
  intro n
  induction n with
  | zero => intro d l ps h; cases h
  | succ n ih =>
    intro d l ps h
    have h1 := cS_pt l
    have h2 := cS_bl (ptE l)
    have h3 := smN_le l
    rw [selR] at h
    split at h
    · cases h
    · split at h
      · next hz =>
        have : bl (ptE l) = [] := List.eq_nil_of_length_eq_zero hz
        rw [this] at h2
        simp [cS] at h2 h1 ⊢
        omega
      · next hz =>
        split at h
        · next hh =>
          cases hs : selR n 1 (bl ((bl (ptE l)).tail)) with
          | none => rw [hs] at h; cases h
          | some q =>
            have := ih _ _ _ hs
            rw [cS_bl] at this
            cases hb : bl (ptE l) with
            | nil => rw [hb] at hz; simp at hz
            | cons c r =>
              rw [hb] at hh this h2
              have := (cC_cons (c := c) (l := r) hh).2
              simp only [List.tail_cons] at *
              omega
        · split at h
          · cases h
          · cases hs : selR n 0 (bl (ptE l)) with
            | none => rw [hs] at h; cases h
            | some q =>
              have := ih _ _ _ hs
              omega
theorem sel_cS {t : List Int} {ps : List PT} (h : sel t = some ps) : cS t ≤ 4 := by
  have := selR_cS 4 0 (bl t) ps h
  rw [cS_bl] at this
  exact this
theorem cC_len (t : List Int) : cC t ≤ t.length := List.length_filter_le _ _
/-- the reference's way for one node and one property -/
def mdS (w : List Int) (fit : List PT → Bool) (k : Nat) (s : KV) (e : RE) : KV := if fit e.1 then (bodyD (slc w e.2.2.1 e.2.2.2)).foldl (kst k (10 * (cC e.2.1 : Int) + (cS e.2.1 : Int))) s else s
def okE (e : RE) : Prop := cS e.2.1 ≤ 4 ∧ cC e.2.1 ≤ 200
/-- weights of both ways side by side -/
def wPair (a b : Int) : Prop := a = -1 ∧ b = -1 ∨ ∃ C S : Nat, S ≤ 4 ∧ C ≤ 200 ∧ a = 8 * (C : Int) + (S : Int) ∧ b = 10 * (C : Int) + (S : Int)
theorem wPair.le {a b : Int} (h : wPair a b) {C S : Nat} (hS : S ≤ 4) : a ≤ 8 * (C : Int) + (S : Int) ↔ b ≤ 10 * (C : Int) + (S : Int) := by
  rcases h with ⟨h1, h2⟩ | ⟨C', S', h1, h2, h3, h4⟩
  · rw [h1, h2]; constructor <;> intro _ <;> omega
  · rw [h3, h4]; constructor <;> intro _ <;> omega
theorem gst_up {fit : RL → Bool} {r : RL} (hf : fit r = true) (k : Nat) (s : GS) : gst fit k s r = upG s r.2.1 (r.2.2.1 k) (r.2.2.2 k) := by
  unfold gst upG
  rw [hf, Bool.and_true]
  by_cases xA : r.2.2.1 k ≠ -2 ∧ s.2.2.1 ≤ r.2.1
  · rw [decide_eq_true xA, Bool.true_or, if_pos rfl]
  · by_cases xB : r.2.2.2 k ≠ -2 ∧ s.2.2.2 ≤ r.2.1
    · rw [decide_eq_true xB, Bool.or_true, if_pos rfl]
    · rw [decide_eq_false xA, decide_eq_false xB, if_neg (by simp), if_neg xA, if_neg xB, if_neg xA, if_neg xB]
theorem upG_ok {s : GS} (hs : okG s) {R : Int} (hR : 0 ≤ R ∧ R < 100000) {p m : Int} (hp : p = -2 ∨ 0 ≤ p) (hm : m = -2 ∨ 0 ≤ m) : okG (upG s R p m) := by
  obtain ⟨h1, h2⟩ := hs
  unfold upG
  refine ⟨?_, ?_⟩
  · show (if p ≠ -2 ∧ s.2.2.1 ≤ R then R else s.2.2.1) = -1 ∧ (if p ≠ -2 ∧ s.2.2.1 ≤ R then p else s.1) = -2 ∨ 0 ≤ (if p ≠ -2 ∧ s.2.2.1 ≤ R then R else s.2.2.1) ∧ (if p ≠ -2 ∧ s.2.2.1 ≤ R then R else s.2.2.1) < 100000 ∧ 0 ≤ (if p ≠ -2 ∧ s.2.2.1 ≤ R then p else s.1)
    by_cases xA : p ≠ -2 ∧ s.2.2.1 ≤ R
    · rw [if_pos xA, if_pos xA]; omega
    · rw [if_neg xA, if_neg xA]; exact h1
  · show (if m ≠ -2 ∧ s.2.2.2 ≤ R then R else s.2.2.2) = -1 ∧ (if m ≠ -2 ∧ s.2.2.2 ≤ R then m else s.2.1) = -2 ∨ 0 ≤ (if m ≠ -2 ∧ s.2.2.2 ≤ R then R else s.2.2.2) ∧ (if m ≠ -2 ∧ s.2.2.2 ≤ R then R else s.2.2.2) < 100000 ∧ 0 ≤ (if m ≠ -2 ∧ s.2.2.2 ≤ R then m else s.2.1)
    by_cases xA : m ≠ -2 ∧ s.2.2.2 ≤ R
    · rw [if_pos xA, if_pos xA]; omega
    · rw [if_neg xA, if_neg xA]; exact h2
def GRel (s8 s10 : GS) : Prop := s8.1 = s10.1 ∧ s8.2.1 = s10.2.1 ∧ wPair s8.2.2.1 s10.2.2.1 ∧ wPair s8.2.2.2 s10.2.2.2 ∧ okG s10
theorem GRel.up {s8 s10 : GS} (G : GRel s8 s10) {C S : Nat} (hS : S ≤ 4) (hC : C ≤ 200) {p m : Int} (hp : p = -2 ∨ 0 ≤ p) (hm : m = -2 ∨ 0 ≤ m) : GRel (upG s8 (8 * (C : Int) + (S : Int)) p m) (upG s10 (10 * (C : Int) + (S : Int)) p m) := by
  obtain ⟨g1, g2, g3, g4, g5⟩ := G
  have e1 := g3.le (C := C) hS
  have e2 := g4.le (C := C) hS
  have hW : wPair (8 * (C : Int) + (S : Int)) (10 * (C : Int) + (S : Int)) := Or.inr ⟨C, S, hS, hC, rfl, rfl⟩
  refine ⟨?_, ?_, ?_, ?_, upG_ok g5 (by omega) hp hm⟩
  · show (if p ≠ -2 ∧ s8.2.2.1 ≤ _ then p else s8.1) = (if p ≠ -2 ∧ s10.2.2.1 ≤ _ then p else s10.1)
    by_cases xA : p ≠ -2 ∧ s8.2.2.1 ≤ 8 * (C : Int) + (S : Int)
    · rw [if_pos xA, if_pos ⟨xA.1, e1.mp xA.2⟩]
    · rw [if_neg xA, if_neg (fun z => xA ⟨z.1, e1.mpr z.2⟩)]; exact g1
  · show (if m ≠ -2 ∧ s8.2.2.2 ≤ _ then m else s8.2.1) = (if m ≠ -2 ∧ s10.2.2.2 ≤ _ then m else s10.2.1)
    by_cases xA : m ≠ -2 ∧ s8.2.2.2 ≤ 8 * (C : Int) + (S : Int)
    · rw [if_pos xA, if_pos ⟨xA.1, e2.mp xA.2⟩]
    · rw [if_neg xA, if_neg (fun z => xA ⟨z.1, e2.mpr z.2⟩)]; exact g2
  · show wPair (if p ≠ -2 ∧ s8.2.2.1 ≤ _ then _ else s8.2.2.1) (if p ≠ -2 ∧ s10.2.2.1 ≤ _ then _ else s10.2.2.1)
    by_cases xA : p ≠ -2 ∧ s8.2.2.1 ≤ 8 * (C : Int) + (S : Int)
    · rw [if_pos xA, if_pos ⟨xA.1, e1.mp xA.2⟩]; exact hW
    · rw [if_neg xA, if_neg (fun z => xA ⟨z.1, e1.mpr z.2⟩)]; exact g3
  · show wPair (if m ≠ -2 ∧ s8.2.2.2 ≤ _ then _ else s8.2.2.2) (if m ≠ -2 ∧ s10.2.2.2 ≤ _ then _ else s10.2.2.2)
    by_cases xA : m ≠ -2 ∧ s8.2.2.2 ≤ 8 * (C : Int) + (S : Int)
    · rw [if_pos xA, if_pos ⟨xA.1, e2.mp xA.2⟩]; exact hW
    · rw [if_neg xA, if_neg (fun z => xA ⟨z.1, e2.mpr z.2⟩)]; exact g4
theorem casc_step (w : List Int) (fit : List PT → Bool) (k : Nat) {s8 s10 : GS} (G : GRel s8 s10) {e : RE} (he : okE e) : ∃ t10 : GS, GRel (gst (fun r => fit r.1) k s8 (rlE w e)) t10 ∧ mdS w fit k (kvG s10) e = kvG t10 := by
  have hv : (rlE w e).2.2 = vfD (bodyD (slc w e.2.2.1 e.2.2.2)) := by rw [← body_vd]; rfl
  have hw8 : (rlE w e).2.1 = 8 * (cC e.2.1 : Int) + (cS e.2.1 : Int) := wt_c e.2.1
  have hD := bodyD_v (slc w e.2.2.1 e.2.2.2)
  have hR : 0 ≤ 10 * (cC e.2.1 : Int) + (cS e.2.1 : Int) ∧ 10 * (cC e.2.1 : Int) + (cS e.2.1 : Int) < 100000 := by
    obtain ⟨a, b⟩ := he
    omega
  obtain ⟨k1, k2, k3⟩ := kst_D G.2.2.2.2 hR k (bodyD (slc w e.2.2.1 e.2.2.2)) (fun d hd => (hD d hd).1) vf0 (Or.inl rfl) (Or.inl rfl)
  have h0 : upG s10 (10 * (cC e.2.1 : Int) + (cS e.2.1 : Int)) (vf0.1 k) (vf0.2 k) = s10 := by
    unfold upG
    have a1 : ¬ (vf0.1 k ≠ -2 ∧ s10.2.2.1 ≤ 10 * (cC e.2.1 : Int) + (cS e.2.1 : Int)) := fun z => z.1 rfl
    have a2 : ¬ (vf0.2 k ≠ -2 ∧ s10.2.2.2 ≤ 10 * (cC e.2.1 : Int) + (cS e.2.1 : Int)) := fun z => z.1 rfl
    rw [if_neg a1, if_neg a1, if_neg a2, if_neg a2]
  rw [h0] at k1
  unfold mdS
  cases hf : fit e.1 with
  | false =>
    refine ⟨s10, ?_, by simp⟩
    have : gst (fun r => fit r.1) k s8 (rlE w e) = s8 := by
      unfold gst
      rw [show (fun r : RL => fit r.1) (rlE w e) = false from hf, Bool.and_false, if_neg (by simp)]
    rw [this]; exact G
  | true =>
    rw [gst_up (fit := fun r => fit r.1) (by exact hf), hv, hw8, if_pos rfl]
    exact ⟨_, G.up he.1 he.2 k2 k3, k1⟩
theorem casc_rel (w : List Int) (fit : List PT → Bool) (k : Nat) : ∀ (E : List RE), (∀ e ∈ E, okE e) → ∀ (s8 s10 : GS), GRel s8 s10 → ∃ t10 : GS, GRel ((E.map (rlE w)).foldl (gst (fun r => fit r.1) k) s8) t10 ∧ E.foldl (mdS w fit k) (kvG s10) = kvG t10
  | [], _, s8, s10, G => ⟨s10, G, rfl⟩
  | e :: E, h, s8, s10, G => by
    obtain ⟨t, t1, t2⟩ := casc_step w fit k G (h e (by simp))
    rw [List.map_cons, List.foldl_cons, List.foldl_cons, t2]
    exact casc_rel w fit k E (fun y hy => h y (by simp [hy])) _ _ t1
/-- the start's value does not matter -/
theorem kst_x (k : Nat) (R : Int) (hR : 0 ≤ R) (s t : KV) (h : s.1 = t.1 ∧ (0 ≤ s.1 → s.2 = t.2)) (d : Nat × Int × Bool) : (kst k R s d).1 = (kst k R t d).1 ∧ (0 ≤ (kst k R s d).1 → (kst k R s d).2 = (kst k R t d).2) := by
  unfold kst
  rw [h.1]
  by_cases z : d.1 = k ∧ t.1 ≤ (if d.2.2 = true then 100000 else 0) + R
  · rw [if_pos z, if_pos z]; exact ⟨rfl, fun _ => rfl⟩
  · rw [if_neg z, if_neg z]; exact h
theorem mdS_x (w : List Int) (fit : List PT → Bool) (k : Nat) (s t : KV) (h : s.1 = t.1 ∧ (0 ≤ s.1 → s.2 = t.2)) (e : RE) : (mdS w fit k s e).1 = (mdS w fit k t e).1 ∧ (0 ≤ (mdS w fit k s e).1 → (mdS w fit k s e).2 = (mdS w fit k t e).2) := by
  unfold mdS
  split
  · have key : ∀ (D : List (Nat × Int × Bool)) (s t : KV), s.1 = t.1 ∧ (0 ≤ s.1 → s.2 = t.2) → (D.foldl (kst k (10 * (cC e.2.1 : Int) + (cS e.2.1 : Int))) s).1 = (D.foldl (kst k (10 * (cC e.2.1 : Int) + (cS e.2.1 : Int))) t).1 ∧ (0 ≤ (D.foldl (kst k (10 * (cC e.2.1 : Int) + (cS e.2.1 : Int))) s).1 → (D.foldl (kst k (10 * (cC e.2.1 : Int) + (cS e.2.1 : Int))) s).2 = (D.foldl (kst k (10 * (cC e.2.1 : Int) + (cS e.2.1 : Int))) t).2) := by
      intro D
      induction D with
      | nil => intro s t h; exact h
      | cons d D ih => intro s t h; exact ih _ _ (kst_x k _ (by omega) s t h d)
    exact key _ s t h
  · exact h
/-- both ways give the same value -/
theorem casc (w : List Int) (fit : List PT → Bool) (k : Nat) (E : List RE) (hE : ∀ e ∈ E, okE e) (x : Int) : giv (fun r => fit r.1) k (E.map (rlE w)) = (if (E.foldl (mdS w fit k) (-1, x)).1 < 0 then -2 else (E.foldl (mdS w fit k) (-1, x)).2) ∧ ((E.foldl (mdS w fit k) (-1, x)).1 = -1 ∨ 0 ≤ (E.foldl (mdS w fit k) (-1, x)).1 ∧ 0 ≤ (E.foldl (mdS w fit k) (-1, x)).2) := by
  have G0 : GRel (-2, -2, -1, -1) (-2, -2, -1, -1) := ⟨rfl, rfl, Or.inl ⟨rfl, rfl⟩, Or.inl ⟨rfl, rfl⟩, Or.inl ⟨rfl, rfl⟩, Or.inl ⟨rfl, rfl⟩⟩
  obtain ⟨t, ⟨t1, t2, t3, t4, t5⟩, t6⟩ := casc_rel w fit k E hE _ _ G0
  have key : ∀ (L : List RE) (s t : KV), s.1 = t.1 ∧ (0 ≤ s.1 → s.2 = t.2) → (L.foldl (mdS w fit k) s).1 = (L.foldl (mdS w fit k) t).1 ∧ (0 ≤ (L.foldl (mdS w fit k) s).1 → (L.foldl (mdS w fit k) s).2 = (L.foldl (mdS w fit k) t).2) := by
    intro L
    induction L with
    | nil => intro s t h; exact h
    | cons e L ih => intro s t h; exact ih _ _ (mdS_x w fit k s t h e)
  have hk := key E (-1, x) (kvG (-2, -2, -1, -1)) ⟨rfl, fun z => by simp at z⟩
  rw [t6] at hk
  unfold giv
  rw [t1, t2]
  obtain ⟨o1, o2⟩ := t5
  unfold kvG at hk
  generalize E.foldl (mdS w fit k) (-1, x) = q at *
  by_cases h4 : 0 ≤ t.2.2.2
  · rw [if_pos h4] at hk
    simp only [] at hk
    have hq := hk.2 (by rw [hk.1]; omega)
    rw [if_pos (by omega), if_neg (by rw [hk.1]; omega), hq]
    exact ⟨rfl, Or.inr ⟨by rw [hk.1]; omega, by omega⟩⟩
  · rw [if_neg h4] at hk
    simp only [] at hk
    rw [if_neg (by omega)]
    by_cases h3 : 0 ≤ t.2.2.1
    · have hq := hk.2 (by rw [hk.1]; omega)
      rw [if_neg (by rw [hk.1]; omega), hq]
      exact ⟨rfl, Or.inr ⟨by rw [hk.1]; omega, by omega⟩⟩
    · rw [if_pos (by rw [hk.1]; omega)]
      exact ⟨by omega, Or.inl (by rw [hk.1]; omega)⟩
