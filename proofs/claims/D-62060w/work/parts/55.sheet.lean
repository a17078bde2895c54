/-! the style sheet as a plain thing -/
set_option maxRecDepth 100000
abbrev PT : Type := Int × Int × Int
def isB (c : Int) : Bool := decide (c = 32)
def bl (l : List Int) : List Int := l.dropWhile isB
/-- a part's letter: itself, or 0; and what is behind it -/
def ptL (l : List Int) : Int := match l with
  | [] => 0
  | c :: _ => if isSm c || decide (c = 42) then c else 0
def ptR (l : List Int) : List Int := match l with
  | [] => []
  | c :: r => if isSm c || decide (c = 42) then r else l
def ptC (l : List Int) : Int := ((ptR l).takeWhile isCap).foldl capB 0
def ptE (l : List Int) : List Int := (ptR l).dropWhile isCap
/-- the parts of a selector, at most so many -/
def selR : Nat → Int → List Int → Option (List PT)
  | 0, _, _ => none
  | n + 1, d, l =>
    if (ptE l).length = l.length then none
    else if (bl (ptE l)).length = 0 then some [(ptL l, ptC l, d)]
    else if (bl (ptE l)).headD 0 = 62 then (selR n 1 (bl ((bl (ptE l)).tail))).map (fun r => (ptL l, ptC l, d) :: r)
    else if (bl (ptE l)).length = (ptE l).length then none
    else (selR n 0 (bl (ptE l))).map (fun r => (ptL l, ptC l, d) :: r)
def sel (t : List Int) : Option (List PT) := selR 4 0 (bl t)
def wtc (c : Int) : Int := if isCap c then 8 else if isSm c then 1 else 0
def wt (t : List Int) : Int := t.foldl (fun w c => w + wtc c) 0
/-- the value of property k in a declaration without its mark -/
def decV (k : Int) (v : List Int) : Option Int :=
  if k = 3 then (match v with
    | [c] => if c = 98 ∨ c = 105 ∨ c = 110 then some c else none
    | _ => none)
  else (match v with
    | [c] => if 48 ≤ c ∧ c ≤ 57 ∧ ¬ (k = 2 ∧ c = 48) then some (c - 48) else none
    | [c, d] => if 4 ≤ k ∧ (48 ≤ c ∧ c ≤ 57) ∧ 48 ≤ d ∧ d ≤ 57 then some (10 * (c - 48) + (d - 48)) else none
    | _ => none)
/-- a declaration without blanks and mark: property, value -/
def decE (e : List Int) : Option (Nat × Int) := match e with
  | p :: q :: v => if q ≠ 58 ∨ ixT 7 p < 0 then none else (decV (ixT 7 p) v).map (fun y => ((ixT 7 p).toNat, y))
  | _ => none
/-- a declaration without blanks: property, value, whether it has the mark -/
def dec (d : List Int) : Option (Nat × Int × Bool) := if d.getLastD 0 = 33 then (decE d.dropLast).map (fun q => (q.1, q.2, true)) else (decE d).map (fun q => (q.1, q.2, false))
/-- a rule's values: without and with the mark -/
abbrev VF : Type := (Nat → Int) × (Nat → Int)
def vf0 : VF := (fun _ => -2, fun _ => -2)
def vfS (f : VF) (o : Option (Nat × Int × Bool)) : VF := match o with
  | none => f
  | some (k, v, s) => if s then (f.1, va_up f.2 k v) else (va_up f.1 k v, f.2)
def bst (s : List Int × VF) (c : Int) : List Int × VF := if c = 59 then ([], vfS s.2 (dec s.1)) else if c = 32 then s else (s.1 ++ [c], s.2)
def bodyV (b : List Int) : VF := ((b ++ [59]).foldl bst ([], vf0)).2
/-- a rule: parts, weight, values -/
abbrev RL : Type := List PT × Int × VF
def mkR (ps : List PT) (t b : List Int) : RL := (ps, wt t, bodyV b)
/-- the sheet while it is typed: rules, selector, body, whether in a body -/
abbrev CX : Type := List RL × List Int × List Int × Bool
def addR (rs : List RL) (t b : List Int) : List RL := match sel t with
  | none => rs
  | some ps => if rs.length = 12 then rs else rs ++ [mkR ps t b]
def cx (s : CX) (c : Int) : CX :=
  if s.2.2.2 = false ∧ c = 123 then (s.1, s.2.1, s.2.2.1, true)
  else if s.2.2.2 = true ∧ c = 125 then (addR s.1 s.2.1 s.2.2.1, [], [], false)
  else if s.2.2.2 = true then (s.1, s.2.1, s.2.2.1 ++ [c], true)
  else (s.1, s.2.1 ++ [c], s.2.2.1, false)
def cx0 : CX := ([], [], [], false)
theorem drop_tw {α : Type} (f : α → Bool) : ∀ l : List α, l.drop (l.takeWhile f).length = l.dropWhile f
  | [] => rfl
  | a :: l => by
    rw [List.takeWhile_cons, List.dropWhile_cons]
    split
    · simpa using drop_tw f l
    · rfl
theorem drop_tw' {α : Type} (f : α → Bool) (t : List α) (i : Nat) : t.drop (i + ((t.drop i).takeWhile f).length) = (t.drop i).dropWhile f := by
  rw [← drop_tw, List.drop_drop]
theorem len_dw {α : Type} (f : α → Bool) (l : List α) : (l.dropWhile f).length = l.length - (l.takeWhile f).length := by rw [← drop_tw, List.length_drop]
theorem ptR_len (l : List Int) : (ptR l).length ≤ l.length ∧ l.length ≤ (ptR l).length + 1 := by
  unfold ptR
  cases l with
  | nil => exact ⟨by simp, by simp⟩
  | cons c r => simp only []; split <;> simp
theorem ptE_len (l : List Int) : (ptE l).length ≤ l.length := by
  have := ptR_len l
  unfold ptE
  rw [len_dw]
  omega
/-- a text of the sheet -/
def okT (t : List Int) : Prop := t.length ≤ 130 ∧ ∀ c ∈ t, 32 ≤ c ∧ c ≤ 126
theorem okT.at {t : List Int} (h : okT t) {k : Nat} (hk : k < t.length) : 32 ≤ t.getD k 0 ∧ t.getD k 0 ≤ 126 := h.2 _ (by rw [gD hk]; exact List.getElem_mem _)
theorem getD_dr (t : List Int) (i k : Nat) : (t.drop i).getD k 0 = t.getD (i + k) 0 := by simp [List.getD]
theorem drop_c {t : List Int} {i : Nat} (hi : i < t.length) : t.drop i = t.getD i 0 :: t.drop (i + 1) := by rw [List.drop_eq_getElem_cons hi, gD hi]
/-- a chain of parts, the last one first -/
def PartR (h : HP) : List PT → Option Nat → Prop
  | [], o => o = none
  | p :: r, o => ∃ a, o = some a ∧ pK h a = 6 ∧ a < pX h ∧ pI h a 0 = p.1 ∧ pI h a 1 = p.2.1 ∧ pI h a 2 = p.2.2 ∧ PartR h r (pP h a 3)
theorem PartR.agr {h h' : HP} (A : Agr h h') : ∀ (l : List PT) (o : Option Nat), PartR h l o → PartR h' l o
  | [], _, q => q
  | p :: r, o, ⟨a, a1, a2, a3, a4, a5, a6, a7⟩ => by
    have w := A.2.2 a a3
    refine ⟨a, a1, by rw [w.1]; exact a2, Nat.lt_of_lt_of_le a3 A.1, by rw [w.2.2.1]; exact a4, by rw [w.2.2.1]; exact a5, by rw [w.2.2.1]; exact a6, ?_⟩
    rw [w.2.2.2.1]
    exact PartR.agr A r _ a7
/-! the page: looking into a text -/
section PS
variable {h h' : HP} {x u : Nat} {t : List Int}
theorem ab_eq (hk : isS (pK h x)) (ht : pB h x = t) (hT : okT t) {i : Nat} (hi : i ≤ t.length) : f_X0_afterBlanks h x (i : Int) = some ((i + ((t.drop i).takeWhile isB).length : Nat) : Int) := by
  have hl := hT.1
  have hle := tw_le isB (t.drop i)
  rw [List.length_drop] at hle
  unfold f_X0_afterBlanks f_X0_afterBlanks_2
  refine loopUs (fun k => ((k : Nat) : Int)) i (i + ((t.drop i).takeWhile isB).length) rfl (by omega) (fun k k1 k2 => ?_) ?_
  · have h1 := tw_lt isB (t.drop i) (k - i) 0 (by omega)
    rw [getD_dr, show i + (k - i) = k by omega] at h1
    unfold isB at h1
    simp only [decide_eq_true_eq] at h1
    simp only [f_X0_afterBlanks_2s]
    unfold sLen sAt
    rw [gd_c hk, obind_some, ht, if_ltp (by omega) (by omega) (by omega), gd_c hk, gd_zin (by omega) (by omega) (by omega), zix_nat (by omega), h1, obind_some, if_eqp rfl]
    rfl
  · simp only [f_X0_afterBlanks_2s]
    unfold sLen sAt
    rw [gd_c hk, obind_some, ht]
    by_cases e : i + ((t.drop i).takeWhile isB).length = t.length
    · rw [if_ltn (by omega) (by omega) (by omega)]
    · have h1 := tw_at isB (t.drop i) 0 (by rw [List.length_drop]; omega)
      rw [getD_dr] at h1
      unfold isB at h1
      simp only [decide_eq_false_iff_not] at h1
      have hr := hT.at (k := i + ((t.drop i).takeWhile (fun c => decide (c = 32))).length) (by have := tw_le isB (t.drop i); unfold isB at e hle; omega)
      unfold isB at e hle ⊢
      rw [if_ltp (by omega) (by omega) (by omega), gd_c hk, gd_zin (by omega) (by omega) (by omega), zix_nat (by omega), obind_some, if_eqn h1 (by omega) (by omega) (by omega) (by omega)]
theorem rd67 (hk : isS (pK h x)) (ht : pB h x = t) (hT : okT t) {i : Nat} (hi : i ≤ t.length) (x1 : Option Nat) (x2 x4 x5 x6 x7 : Int) : f_X0_read_67 h x x1 x2 (i : Int) x4 x5 x6 x7 = f_X0_read_107 h x x1 x2 ((i + ((t.drop i).takeWhile isCap).length : Nat) : Int) x4 x5 x6 (((t.drop i).takeWhile isCap).foldl capB x7) := by
  have hl := hT.1
  have hle := tw_le isCap (t.drop i)
  rw [List.length_drop] at hle
  unfold f_X0_read_67
  refine loopU (fun k => (((k : Nat) : Int), ((((t.drop i).takeWhile isCap).take (k - i)).foldl capB x7))) i (i + ((t.drop i).takeWhile isCap).length) (by rw [Nat.sub_self]; rfl) (by omega) (fun k k1 k2 => ?_) ?_
  · have h1 := tw_lt isCap (t.drop i) (k - i) 0 (by omega)
    rw [getD_dr, show i + (k - i) = k by omega] at h1
    have hr := hT.at (k := k) (by omega)
    simp only [f_X0_read_67s]
    unfold sLen sAt
    rw [gd_c hk, obind_some, ht, if_ltp (by omega) (by omega) (by omega), gd_c hk, gd_zin (by omega) (by omega) (by omega), zix_nat (by omega), obind_some, cap_eq _ (by omega) (by omega), obind_some, h1, zb_t, if_eqn (by omega) (by omega) (by omega) (by omega) (by omega), obind_some, bnd_eq]
    have hstep : ((t.drop i).takeWhile isCap).take (k + 1 - i) = ((t.drop i).takeWhile isCap).take (k - i) ++ [t.getD k 0] := by
      rw [show k + 1 - i = (k - i) + 1 by omega, List.take_succ, List.getElem?_eq_getElem (by omega)]
      congr 1
      have : ((t.drop i).takeWhile isCap)[k - i] = t.getD k 0 := by
        have e1 := List.takeWhile_append_dropWhile (p := isCap) (l := t.drop i)
        have e2 : (t.drop i).getD (k - i) 0 = ((t.drop i).takeWhile isCap)[k - i] := by
          conv => lhs; rw [← e1]
          rw [gD (by rw [List.length_append]; omega), List.getElem_append_left (by omega)]
        rw [← e2, getD_dr, show i + (k - i) = k by omega]
      rw [this]; rfl
    rw [hstep, List.foldl_append]
    simp only [List.foldl_cons, List.foldl_nil]
    have : ∀ a, capB a (t.getD k 0) = zor a (zshl 1 (t.getD k 0 - 65)) := fun a => by unfold capB; rw [if_pos h1]
    rw [this]
    rfl
  · simp only [f_X0_read_67s]
    rw [show i + ((t.drop i).takeWhile isCap).length - i = ((t.drop i).takeWhile isCap).length by omega, List.take_of_length_le (Nat.le_refl _)]
    unfold sLen sAt
    rw [gd_c hk, obind_some, ht]
    by_cases e : i + ((t.drop i).takeWhile isCap).length = t.length
    · rw [if_ltn (by omega) (by omega) (by omega)]
    · have h1 := tw_at isCap (t.drop i) 0 (by rw [List.length_drop]; omega)
      rw [getD_dr] at h1
      have hr := hT.at (k := i + ((t.drop i).takeWhile isCap).length) (by omega)
      rw [if_ltp (by omega) (by omega) (by omega), gd_c hk, gd_zin (by omega) (by omega) (by omega), zix_nat (by omega), obind_some, cap_eq _ (by omega) (by omega), obind_some, h1, zb_f, if_eqp rfl]
theorem ptL_rng {t : List Int} (hT : okT t) (i : Nat) : 0 ≤ ptL (t.drop i) ∧ ptL (t.drop i) < 128 := by
  unfold ptL
  cases hd : t.drop i with
  | nil => simp
  | cons c r =>
    simp only []
    have := hT.2 c (List.mem_of_mem_drop (i := i) (by rw [hd]; simp))
    split <;> omega
/-- the position behind a part -/
def ptP (t : List Int) (i : Nat) : Nat := i + ((t.drop i).length - (ptE (t.drop i)).length)
theorem ptP_drop (t : List Int) (i : Nat) : t.drop (ptP t i) = ptE (t.drop i) := by
  unfold ptP
  have key : ∀ l : List Int, l.drop (l.length - (ptE l).length) = ptE l := fun l => by
    unfold ptE
    rw [len_dw]
    have hR := ptR_len l
    have hle := tw_le isCap (ptR l)
    cases l with
    | nil => rfl
    | cons c r =>
      unfold ptR at hR hle ⊢
      simp only [] at hR hle ⊢
      split
      · next e =>
        rw [if_pos e] at hle
        rw [show (c :: r).length - (r.length - (r.takeWhile isCap).length) = (r.takeWhile isCap).length + 1 by simp; omega, List.drop_succ_cons, drop_tw]
      · next e =>
        rw [if_neg e] at hle
        rw [show (c :: r).length - ((c :: r).length - ((c :: r).takeWhile isCap).length) = ((c :: r).takeWhile isCap).length by omega, drop_tw]
  rw [← List.drop_drop, key]
theorem rd13 (hk : isS (pK h x)) (ht : pB h x = t) (hT : okT t) {i n : Nat} (hi : i ≤ t.length) (hn : n < 4) (x1 : Option Nat) (x2 : Int) : f_X0_read_13s h x x1 x2 (i : Int) (n : Int) = f_X0_read_107 h x x1 x2 ((ptP t i : Nat) : Int) (n : Int) (i : Int) (ptL (t.drop i)) (ptC (t.drop i)) := by
  have hl := hT.1
  unfold f_X0_read_13s f_X0_read_54 f_X0_read_64 sLen sAt
  rw [if_ltp (by omega) (by omega) (by omega), gd_c hk, obind_some, ht]
  unfold ptP ptL ptC ptE ptR
  by_cases e : i = t.length
  · rw [if_ltn (by omega) (by omega) (by omega), rd67 hk ht hT hi]
    have hd : t.drop i = [] := List.drop_eq_nil_of_le (by omega)
    rw [hd]
    rfl
  · have hr := hT.at (k := i) (by omega)
    have hd := drop_c (t := t) (i := i) (by omega)
    have hr1 : i + 1 + ((t.drop (i + 1)).takeWhile isCap).length = i + ((t.drop i).length - ((t.drop (i + 1)).dropWhile isCap).length) := by
      have := tw_le isCap (t.drop (i + 1))
      rw [len_dw, hd]
      simp only [List.length_cons]
      rw [List.length_drop] at this ⊢
      omega
    have take1 : (isSm (t.getD i 0) || decide (t.getD i 0 = 42)) = true → f_X0_read_67 h x x1 x2 ((i : Int) + 1) (n : Int) (i : Int) (t.getD i 0) 0 = f_X0_read_107 h x x1 x2 ((i + ((t.drop i).length - ((t.drop (i + 1)).dropWhile isCap).length) : Nat) : Int) (n : Int) (i : Int) (t.getD i 0) (((t.drop (i + 1)).takeWhile isCap).foldl capB 0) := fun _ => by
      rw [show (i : Int) + 1 = ((i + 1 : Nat) : Int) by omega, rd67 hk ht hT (by omega), hr1]
    rw [if_ltp (by omega) (by omega) (by omega), gd_c hk, gd_zin (by omega) (by omega) (by omega), zix_nat (by omega), obind_some, small_eq _ (by omega) (by omega), obind_some]
    conv => rhs; rw [hd]
    simp only []
    rw [← hd]
    cases hs : isSm (t.getD i 0) with
    | true =>
      rw [zb_t, if_eqn (by omega) (by omega) (by omega) (by omega) (by omega), obind_some]
      simp only [Bool.true_or, if_true]
      exact take1 (by rw [hs]; rfl)
    | false =>
      rw [zb_f, if_eqp rfl, obind_some]
      simp only [Bool.false_or, decide_eq_true_eq]
      by_cases e42 : t.getD i 0 = 42
      · rw [if_eqp e42, if_pos e42, if_pos e42, obind_some]
        exact take1 (by rw [e42]; rfl)
      · rw [if_eqn e42 (by omega) (by omega) (by omega) (by omega), if_neg e42, if_neg e42, rd67 hk ht hT hi]
        have hle := tw_le isCap (t.drop i)
        rw [len_dw, show (t.drop i).length - ((t.drop i).length - ((t.drop i).takeWhile isCap).length) = ((t.drop i).takeWhile isCap).length by omega]
end PS
