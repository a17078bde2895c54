/-! reading tags: at once, and character by character -/
set_option maxRecDepth 100000
def isSm (c : Int) : Bool := decide (97 ≤ c) && decide (c ≤ 122)
def isCap (c : Int) : Bool := decide (65 ≤ c) && decide (c ≤ 90)
def isLga (c : Int) : Bool := decide (c = 108) || (decide (c = 103) || decide (c = 97))
def capB (a c : Int) : Int := if isCap c then zor a (zshl 1 (c - 65)) else a
def entC (c : Int) : Int := if c = 108 then 60 else if c = 103 then 62 else 38
abbrev LX : Type := Nat × Int × Int × Option TS
def lxP (c tag cl : Int) (o : Option TS) : LX := if c = 60 then (1, tag, cl, o) else if c = 38 then (6, tag, cl, o) else (0, tag, cl, o.bind (tChar c))
def lx (s : LX) (c : Int) : LX :=
  if s.1 = 0 then lxP c s.2.1 s.2.2.1 s.2.2.2
  else if s.1 = 1 then (if isSm c then (3, c, 0, s.2.2.2) else if c = 33 then (5, c, 0, s.2.2.2) else if c = 47 then (2, c, 0, s.2.2.2) else lxP c c 0 (s.2.2.2.bind (tChar 60)))
  else if s.1 = 2 then (if isSm c then (4, c, 0, s.2.2.2) else if c = 62 then (0, c, 0, s.2.2.2) else (5, c, 0, s.2.2.2))
  else if s.1 = 3 ∨ s.1 = 4 then (if c = 62 then (0, s.2.1, capB s.2.2.1 c, if s.1 = 4 then s.2.2.2.bind (tEnd s.2.1) else s.2.2.2.bind (tStart s.2.1 (capB s.2.2.1 c))) else (s.1, s.2.1, capB s.2.2.1 c, s.2.2.2))
  else if s.1 = 5 then (if c = 62 then (0, s.2) else s)
  else if s.1 = 6 then (if isLga c then (7, c, s.2.2) else lxP c s.2.1 s.2.2.1 (s.2.2.2.bind (tChar 38)))
  else (if c = 59 then (0, s.2.1, s.2.2.1, s.2.2.2.bind (tChar (entC s.2.1))) else lxP c s.2.1 s.2.2.1 ((s.2.2.2.bind (tChar 38)).bind (tChar s.2.1)))
def lx0 : LX := (0, 0, 0, some t0)
def notGt (c : Int) : Bool := decide (c ≠ 62)
/-- the batch reading of a rest of the text -/
def rd : Nat → List Int → TS → Option TS
  | 0, _, T => some T
  | _ + 1, [], T => some T
  | n + 1, c :: r, T =>
    if c = 60 then
      match r with
      | [] => some T
      | d :: r2 =>
        if isSm d then (if (r2.takeWhile notGt).length = r2.length then some T else (tStart d ((r2.takeWhile notGt).foldl capB 0) T).bind (rd n (r2.drop ((r2.takeWhile notGt).length + 1))))
        else if d = 33 then (if (r2.takeWhile notGt).length = r2.length then some T else rd n (r2.drop ((r2.takeWhile notGt).length + 1)) T)
        else if d = 47 then
          match r2 with
          | [] => some T
          | e :: _ => if (r2.takeWhile notGt).length = r2.length then some T else if isSm e then (tEnd e T).bind (rd n (r2.drop ((r2.takeWhile notGt).length + 1))) else rd n (r2.drop ((r2.takeWhile notGt).length + 1)) T
        else (tChar 60 T).bind (rd n r)
    else if c = 38 then
      match r with
      | [] => some T
      | d :: r2 =>
        if isLga d then
          match r2 with
          | [] => some T
          | e :: r3 => if e = 59 then (tChar (entC d) T).bind (rd n r3) else ((tChar 38 T).bind (tChar d)).bind (rd n r2)
        else (tChar 38 T).bind (rd n r)
    else (tChar c T).bind (rd n r)
theorem lx_none : ∀ (l : List Int) (s : LX), s.2.2.2 = none → (l.foldl lx s).2.2.2 = none
  | [], s, h => h
  | c :: l, s, h => by
    refine lx_none l _ ?_
    obtain ⟨a, b, d, o⟩ := s
    simp only [] at h
    subst h
    unfold lx lxP
    simp only [Option.bind_none]
    repeat' split
    all_goals first | rfl | (simp only []; done) | skip
/-- a stretch with no sign > keeps in a tag -/
theorem lx_tag (st : Nat) (hst : st = 3 ∨ st = 4) (tag : Int) (o : Option TS) : ∀ (l : List Int) (cl : Int), (∀ c ∈ l, c ≠ 62) → l.foldl lx (st, tag, cl, o) = (st, tag, l.foldl capB cl, o)
  | [], cl, _ => rfl
  | c :: l, cl, h => by
    have hc := h c (by simp)
    have : lx (st, tag, cl, o) c = (st, tag, capB cl c, o) := by
      unfold lx
      rw [if_neg (by omega), if_neg (by omega), if_neg (by omega), if_pos hst, if_neg hc]
    rw [List.foldl_cons, List.foldl_cons, this]
    exact lx_tag st hst tag o l _ (fun c hc => h c (by simp [hc]))
theorem lx_com (tag cl : Int) (o : Option TS) : ∀ (l : List Int), (∀ c ∈ l, c ≠ 62) → l.foldl lx (5, tag, cl, o) = (5, tag, cl, o)
  | [], _ => rfl
  | c :: l, h => by
    have hc := h c (by simp)
    have : lx (5, tag, cl, o) c = (5, tag, cl, o) := by
      unfold lx
      simp [hc]
    rw [List.foldl_cons, this]
    exact lx_com tag cl o l (fun c hc => h c (by simp [hc]))
theorem tw_gt (l : List Int) : ∀ c ∈ l.takeWhile notGt, c ≠ 62 := fun c hc => by
  have := mem_tw notGt l hc
  unfold notGt at this
  simpa using this
theorem take_tw {α : Type} (f : α → Bool) : ∀ l : List α, l.take (l.takeWhile f).length = l.takeWhile f
  | [] => rfl
  | a :: l => by
    rw [List.takeWhile_cons]
    by_cases h : f a = true
    · rw [if_pos h, List.length_cons, List.take_succ_cons, take_tw f l]
    · rw [if_neg h]; rfl
theorem tw_all {l : List Int} (h : (l.takeWhile notGt).length = l.length) : l.takeWhile notGt = l := by
  have e := List.takeWhile_append_dropWhile (p := notGt) (l := l)
  have hl := congrArg List.length e
  rw [List.length_append] at hl
  have hd : l.dropWhile notGt = [] := List.length_eq_zero_iff.mp (by omega)
  rw [hd, List.append_nil] at e
  exact e
theorem tw_cut {l : List Int} (h : (l.takeWhile notGt).length ≠ l.length) : l = l.takeWhile notGt ++ 62 :: l.drop ((l.takeWhile notGt).length + 1) := by
  have hle := tw_le notGt l
  have hat := tw_at notGt l 0 (by omega)
  unfold notGt at hat
  simp only [decide_eq_false_iff_not, Decidable.not_not] at hat
  have e := split_at (d := 0) (l := l) (k := (l.takeWhile notGt).length) (by omega)
  have hat' : l.getD (l.takeWhile notGt).length 0 = 62 := hat
  rw [hat'] at e
  rw [take_tw] at e
  exact e
theorem lx_rd : ∀ (n : Nat) (l : List Int), l.length ≤ n → ∀ (T : TS) (tag cl : Int), (l.foldl lx (0, tag, cl, some T)).2.2.2 = rd n l T := by
  intro n
  induction n with
  | zero =>
    intro l hl T tag cl
    have : l = [] := List.length_eq_zero_iff.mp (by omega)
    subst this
    rfl
  | succ n ih =>
    have ih2 : ∀ (l : List Int), l.length ≤ n → ∀ (o : Option TS) (tag cl : Int), (l.foldl lx (0, tag, cl, o)).2.2.2 = o.bind (rd n l) := by
      intro l hl o tag cl
      cases o with
      | none => exact lx_none l _ rfl
      | some T => exact ih l hl T tag cl
    intro l hl T tag cl
    cases l with
    | nil => rfl
    | cons c r =>
      have hr : r.length ≤ n := by simpa using hl
      unfold rd
      by_cases h60 : c = 60
      · rw [if_pos h60]
        have s1 : lx (0, tag, cl, some T) c = (1, tag, cl, some T) := by unfold lx lxP; simp [h60]
        rw [List.foldl_cons, s1]
        cases r with
        | nil => rfl
        | cons d r2 =>
          have hr2 : r2.length ≤ n := by simp at hr; omega
          simp only []
          rw [List.foldl_cons]
          have hdr : (r2.drop ((r2.takeWhile notGt).length + 1)).length ≤ n := by rw [List.length_drop]; omega
          cases hs : isSm d with
          | true =>
            have s2 : lx (1, tag, cl, some T) d = (3, d, 0, some T) := by unfold lx; simp [hs]
            rw [s2]
            simp only [if_true]
            by_cases ha : (r2.takeWhile notGt).length = r2.length
            · rw [if_pos ha]
              have := tw_gt r2
              rw [tw_all ha] at this
              rw [lx_tag 3 (Or.inl rfl) d _ r2 0 this]
            · rw [if_neg ha]
              conv => lhs; rw [tw_cut ha]
              rw [List.foldl_append, lx_tag 3 (Or.inl rfl) d _ _ 0 (tw_gt r2), List.foldl_cons]
              have s3 : lx (3, d, (r2.takeWhile notGt).foldl capB 0, some T) 62 = (0, d, (r2.takeWhile notGt).foldl capB 0, tStart d ((r2.takeWhile notGt).foldl capB 0) T) := by
                unfold lx
                simp [capB, isCap]
              rw [s3]
              exact ih2 _ hdr _ _ _
          | false =>
            simp only [Bool.false_eq_true, if_false]
            have hcom : ∀ (t : Int), (r2.foldl lx (5, t, 0, some T)).2.2.2 = if (r2.takeWhile notGt).length = r2.length then some T else rd n (r2.drop ((r2.takeWhile notGt).length + 1)) T := by
              intro t
              by_cases ha : (r2.takeWhile notGt).length = r2.length
              · rw [if_pos ha]
                have := tw_gt r2
                rw [tw_all ha] at this
                rw [lx_com t 0 _ r2 this]
              · rw [if_neg ha]
                conv => lhs; rw [tw_cut ha]
                rw [List.foldl_append, lx_com t 0 _ _ (tw_gt r2), List.foldl_cons]
                have s3 : lx (5, t, 0, some T) 62 = (0, t, 0, some T) := by unfold lx; simp
                rw [s3]
                exact ih _ hdr _ _ _
            by_cases h33 : d = 33
            · rw [if_pos h33]
              have s2 : lx (1, tag, cl, some T) d = (5, d, 0, some T) := by unfold lx; rw [h33] at hs ⊢; simp [hs]
              rw [s2]
              exact hcom d
            · rw [if_neg h33]
              by_cases h47 : d = 47
              · rw [if_pos h47]
                have s2 : lx (1, tag, cl, some T) d = (2, d, 0, some T) := by unfold lx; rw [h47] at hs ⊢; simp [hs]
                rw [s2]
                cases r2 with
                | nil => rfl
                | cons e r3 =>
                  simp only []
                  rw [List.foldl_cons]
                  have hr3 : r3.length ≤ n := by simp at hr2; omega
                  cases he : isSm e with
                  | true =>
                    have s4 : lx (2, d, 0, some T) e = (4, e, 0, some T) := by unfold lx; simp [he]
                    rw [s4]
                    simp only [if_true]
                    have he62 : notGt e = true := by
                      unfold isSm at he
                      unfold notGt
                      simp at he ⊢
                      omega
                    have htk : (e :: r3).takeWhile notGt = e :: r3.takeWhile notGt := by rw [List.takeWhile_cons, if_pos he62]
                    rw [htk]
                    simp only [List.length_cons, Nat.add_right_cancel_iff, List.drop_succ_cons]
                    by_cases ha : (r3.takeWhile notGt).length = r3.length
                    · rw [if_pos ha]
                      have := tw_gt r3
                      rw [tw_all ha] at this
                      rw [lx_tag 4 (Or.inr rfl) e _ r3 0 this]
                    · rw [if_neg ha]
                      conv => lhs; rw [tw_cut ha]
                      rw [List.foldl_append, lx_tag 4 (Or.inr rfl) e _ _ 0 (tw_gt r3), List.foldl_cons]
                      have s3 : lx (4, e, (r3.takeWhile notGt).foldl capB 0, some T) 62 = (0, e, (r3.takeWhile notGt).foldl capB 0, tEnd e T) := by
                        unfold lx
                        simp [capB, isCap]
                      rw [s3]
                      exact ih2 _ (by rw [List.length_drop]; omega) _ _ _
                  | false =>
                    simp only [Bool.false_eq_true, if_false]
                    by_cases h62 : e = 62
                    · have s4 : lx (2, d, 0, some T) e = (0, e, 0, some T) := by unfold lx; rw [h62] at he ⊢; simp [he]
                      rw [s4]
                      have htk : (e :: r3).takeWhile notGt = [] := by rw [List.takeWhile_cons, if_neg (by unfold notGt; simp [h62])]
                      rw [htk]
                      simp only [List.length_nil, List.length_cons, List.drop_succ_cons, List.drop_zero]
                      rw [if_neg (by omega)]
                      exact ih _ hr3 _ _ _
                    · have s4 : lx (2, d, 0, some T) e = (5, e, 0, some T) := by unfold lx; simp [he, h62]
                      rw [s4]
                      have he62 : notGt e = true := by unfold notGt; simp [h62]
                      have htk : (e :: r3).takeWhile notGt = e :: r3.takeWhile notGt := by rw [List.takeWhile_cons, if_pos he62]
                      rw [htk]
                      simp only [List.length_cons, Nat.add_right_cancel_iff, List.drop_succ_cons]
                      by_cases ha : (r3.takeWhile notGt).length = r3.length
                      · rw [if_pos ha]
                        have := tw_gt r3
                        rw [tw_all ha] at this
                        rw [lx_com e 0 _ r3 this]
                      · rw [if_neg ha]
                        conv => lhs; rw [tw_cut ha]
                        rw [List.foldl_append, lx_com e 0 _ _ (tw_gt r3), List.foldl_cons]
                        have s3 : lx (5, e, 0, some T) 62 = (0, e, 0, some T) := by unfold lx; simp
                        rw [s3]
                        exact ih _ (by rw [List.length_drop]; omega) _ _ _
              · rw [if_neg h47]
                have s2 : lx (1, tag, cl, some T) d = lx (0, d, 0, tChar 60 T) d := by
                  unfold lx
                  simp [hs, h33, h47]
                rw [s2, ← List.foldl_cons]
                exact ih2 (d :: r2) hr _ _ _
      · rw [if_neg h60]
        by_cases h38 : c = 38
        · rw [if_pos h38]
          have s1 : lx (0, tag, cl, some T) c = (6, tag, cl, some T) := by unfold lx lxP; simp [h38]
          rw [List.foldl_cons, s1]
          cases r with
          | nil => rfl
          | cons d r2 =>
            simp only []
            rw [List.foldl_cons]
            have hr2 : r2.length ≤ n := by simp at hr; omega
            cases hs : isLga d with
            | true =>
              have s2 : lx (6, tag, cl, some T) d = (7, d, cl, some T) := by unfold lx; simp [hs]
              rw [s2]
              simp only [if_true]
              cases r2 with
              | nil => rfl
              | cons e r3 =>
                simp only []
                rw [List.foldl_cons]
                have hr3 : r3.length ≤ n := by simp at hr2; omega
                by_cases h59 : e = 59
                · rw [if_pos h59]
                  have s3 : lx (7, d, cl, some T) e = (0, d, cl, tChar (entC d) T) := by unfold lx; simp [h59]
                  rw [s3]
                  exact ih2 _ hr3 _ _ _
                · rw [if_neg h59]
                  have s3 : lx (7, d, cl, some T) e = lx (0, d, cl, (tChar 38 T).bind (tChar d)) e := by unfold lx; simp [h59]
                  rw [s3, ← List.foldl_cons]
                  exact ih2 (e :: r3) hr2 _ _ _
            | false =>
              simp only [Bool.false_eq_true, if_false]
              have s2 : lx (6, tag, cl, some T) d = lx (0, tag, cl, tChar 38 T) d := by unfold lx; simp [hs]
              rw [s2, ← List.foldl_cons]
              exact ih2 (d :: r2) hr _ _ _
        · rw [if_neg h38]
          have s1 : lx (0, tag, cl, some T) c = (0, tag, cl, tChar c T) := by unfold lx lxP; simp [h60, h38]
          rw [List.foldl_cons, s1]
          exact ih2 r hr _ _ _
