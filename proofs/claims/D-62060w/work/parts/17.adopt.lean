/-! adoption keeps it -/
set_option maxRecDepth 100000
theorem WFo.anc_in {A S C : List Nat} {p d : Nat → Nat} {i : Nat} (h : WFo (A ++ i :: (S ++ C)) p d) (hS : ∀ x ∈ S, d i < d x) : ∀ n x, d x = n → x ∈ i :: S → anc p i x := by
  intro n
  induction n using Nat.strongRecOn with
  | ind n ih =>
    intro x hn hx
    rcases List.mem_cons.mp hx with e | e
    · rw [e]; exact anc_refl p i
    · have hm := h.in_mem hS e
      have hx0 : x ≠ 0 := fun q => by
        have := hS x e
        rw [q, h.2.2.1] at this
        omega
      have hd := (h.dpos (i := x) (by simp [e]) hx0).2.2
      exact anc_step (ih (d (p x)) (by omega) (p x) rfl hm)
theorem sub_pair {X Y Z A B C : List Nat} {i j : Nat} (h : X ++ Z = A ++ i :: (B ++ j :: C)) : ∃ A' B' C', X ++ Y ++ Z = A' ++ i :: (B' ++ j :: C') ∧ (i ∈ X ∨ (∃ Z1 Z2 Z3, Z = Z1 ++ i :: (Z2 ++ j :: Z3))) := by
  rcases split_app h with ⟨W, w1, w2⟩ | ⟨W, w1, w2⟩
  · rcases split_app w2.symm with ⟨V, v1, v2⟩ | ⟨V, v1, v2⟩
    · exact ⟨A, B, V ++ Y ++ Z, by rw [w1, v1]; simp, Or.inl (by rw [w1]; simp)⟩
    · exact ⟨A, W ++ Y ++ V, C, by rw [w1, v2]; simp, Or.inl (by rw [w1]; simp)⟩
  · exact ⟨X ++ Y ++ W, B, C, by rw [w2]; simp, Or.inr ⟨W, B, C, w2⟩⟩
theorem take_drop_eq {l : List Nat} {e b : Nat} (h : e ≤ b) : l.take e ++ (l.drop e).take (b - e) ++ l.drop b = l := by
  have h1 : (l.drop e).take (b - e) ++ l.drop b = l.drop e := by
    have : l.drop b = (l.drop e).drop (b - e) := by rw [List.drop_drop, show e + (b - e) = b by omega]
    rw [this, List.take_append_drop]
  rw [List.append_assoc, h1, List.take_append_drop]
theorem getD_split {l : List Nat} {k : Nat} (h : k < l.length) : l = l.take k ++ l.getD k 0 :: l.drop (k + 1) := by
  conv => lhs; rw [← List.take_append_drop k l]
  rw [List.drop_eq_getElem_cons h, gD h]
theorem insN_app (X Y : List Nat) (n : Nat) : insN (X ++ Y) X.length n = X ++ n :: Y := by simp [insN]
section AD
variable {T : TS} {e b id : Nat}
/-- what stands when a formatting element is closed within a block -/
def AdOK (T : TS) (e b id : Nat) : Prop := 1 ≤ e ∧ e < b ∧ b < (tS T).length ∧ (tS T).getD e 0 = id ∧ isFmt (tM T id) = true ∧ (∀ k, e < k → k < (tS T).length → sNm T k ≠ 116) ∧ isBlk (sNm T b) = true
theorem blk_nm (h : WF T) (ha : AdOK T e b id) : ¬ noKid (sNm T b) ∧ sNm T b ≠ 116 ∧ sNm T b ≠ 114 ∧ sNm T b ≠ 0 := by
  obtain ⟨h1, h2, h3, h4, h5, h6, h7⟩ := ha
  have hk := (h.top (n := b + 1) (by omega) (by omega)).2.2
  have h8 := h6 b h2 h3
  rw [show b + 1 - 1 = b from rfl] at hk
  refine ⟨hk, h8, ?_, ?_⟩ <;> (intro q; rw [q] at h7; revert h7; decide)
theorem not_below (h : WF T) {i j : Nat} (hij : i < j) (hj : j < (tS T).length) : ¬ anc (tP T) ((tS T).getD j 0) ((tS T).getD i 0) := by
  have e1 := getD_split (l := tS T) (k := i) (by omega)
  have e2 := getD_split (l := (tS T).drop (i + 1)) (k := j - (i + 1)) (by rw [List.length_drop]; omega)
  rw [getD_drop, show i + 1 + (j - (i + 1)) = j by omega] at e2
  rw [e2] at e1
  exact h.2.2.1.2.2.2.2 _ _ _ _ _ e1
/-- the order without the block, and its place there -/
theorem ad_place (h : WF T) (ha : AdOK T e b id) {A S C : List Nat} (hO : tO T = A ++ (tS T).getD b 0 :: (S ++ C)) (hS : ∀ x ∈ S, tD T ((tS T).getD b 0) < tD T x) (hC : hdLe (tD T) (tD T ((tS T).getD b 0)) C) :
    (∀ i, i < b → (tS T).getD i 0 ∉ (tS T).getD b 0 :: S) ∧ A ≠ [] ∧ Place (setO T (A ++ C) (tP T) (tD T)) (plc (setO T (A ++ C) (tP T) (tD T)) e) ∧ ¬ noKid (tM T (plc (setO T (A ++ C) (tP T) (tD T)) e).2.2) ∧ tM T (plc (setO T (A ++ C) (tP T) (tD T)) e).2.2 ≠ 116 ∧ tM T (plc (setO T (A ++ C) (tP T) (tD T)) e).2.2 ≠ 114 ∧ ((plc (setO T (A ++ C) (tP T) (tD T)) e).2.2 = (tS T).getD (e - 1) 0 ∨ ∃ t, t < e ∧ (plc (setO T (A ++ C) (tP T) (tD T)) e).2.2 = tP T ((tS T).getD t 0)) := by
  have ha' := ha
  obtain ⟨h1, h2, h3, h4, h5, h6, h7⟩ := ha
  have hwo := h.1.2.2.2.2.1
  have hwo' := hwo
  rw [hO] at hwo'
  have hno : ∀ i, i < b → (tS T).getD i 0 ∉ (tS T).getD b 0 :: S := fun i hi q => not_below h hi h3 (hwo'.anc_in hS _ _ rfl q)
  have hA : A ≠ [] := fun q => by
    obtain ⟨r, hr⟩ := hwo.2.1
    rw [q, hr] at hO
    have : (tS T).getD b 0 = 0 := by injection hO with z; exact z.symm
    have h8 := (blk_nm h ha').2.2.2
    apply h8
    show tM T ((tS T).getD b 0) = 0
    rw [this]; exact h.2.1.1
  have hwd := hwo'.del hA hS hC
  have hin : ∀ i, i < b → (tS T).getD i 0 ∈ A ++ C := fun i hi => by
    have hm := h.full (getD_lt h.b.2.2.2.2.2.1 (show i < (tS T).length by omega))
    rw [hO] at hm
    have := hno i hi
    simp only [List.mem_append, List.mem_cons] at hm this ⊢
    rcases hm with z | z | z | z
    · exact Or.inl z
    · exact (this (Or.inl z)).elim
    · exact (this (Or.inr z)).elim
    · exact Or.inr z
  obtain ⟨ht1, ht2, ht3⟩ := h.top h1 (show e ≤ (tS T).length by omega)
  refine ⟨hno, hA, ?_⟩
  have hpl : plc (setO T (A ++ C) (tP T) (tD T)) e = if isTR (tM T ((tS T).getD (e - 1) 0)) && decide (lastB (fun k => decide (1 ≤ k) && decide (sNm T k = 116)) e ≠ 0) then (seat (setO T (A ++ C) (tP T) (tD T)) ((tS T).getD (lastB (fun k => decide (1 ≤ k) && decide (sNm T k = 116)) e) 0), tD T ((tS T).getD (lastB (fun k => decide (1 ≤ k) && decide (sNm T k = 116)) e) 0), tP T ((tS T).getD (lastB (fun k => decide (1 ≤ k) && decide (sNm T k = 116)) e) 0)) else plcIn (setO T (A ++ C) (tP T) (tD T)) ((tS T).getD (e - 1) 0) := rfl
  rw [hpl]
  split
  · next hc =>
    simp only [Bool.and_eq_true, decide_eq_true_eq] at hc
    have hlt := lastB_lt (fun k => decide (1 ≤ k) && decide (sNm T k = 116)) e (by omega)
    obtain ⟨m1, m2, m3⟩ := h.mem_t h1 (show e ≤ (tS T).length by omega) hc.2
    have hk := (h.2.1.2 _ m1 m3).2
    rw [m2] at hk
    refine ⟨place_bf (T := setO T (A ++ C) (tP T) (tD T)) hwd (hin _ (by omega)) m3, hk.1, fun q => absurd (hk.2.1 q) (by decide), fun q => absurd (hk.2.2 q) (by decide), Or.inr ⟨_, hlt, rfl⟩⟩
  · next hc =>
    have hn : isTR (tM T ((tS T).getD (e - 1) 0)) = false := by
      cases hb : isTR (tM T ((tS T).getD (e - 1) 0)) with
      | false => rfl
      | true =>
        have := h.tbl h1 (show e ≤ (tS T).length by omega) hb
        rw [hb] at hc
        simp [this] at hc
    unfold isTR at hn
    simp at hn
    refine ⟨place_in (T := setO T (A ++ C) (tP T) (tD T)) hwd (hin _ (by omega)), ht3, ?_, ?_, Or.inl rfl⟩
    · show tM T ((tS T).getD (e - 1) 0) ≠ 116
      simpa using hn.1
    · show tM T ((tS T).getD (e - 1) 0) ≠ 114
      simpa using hn.2
def adP (T : TS) (bl w : Nat) (mv : List Nat) (i : Nat) : Nat := if i ≠ tN T ∧ i ∈ mv ∧ tP T i = bl then tN T else va_up (va_up (tP T) bl w) (tN T) bl i
def adD (T : TS) (bl dq : Nat) (mv : List Nat) (i : Nat) : Nat := va_up (fun i => if i = bl then dq else if i ∈ mv then tD T i + dq + 1 - tD T bl else tD T i) (tN T) (dq + 1) i
theorem tAdopt_eq {A S C A' C' : List Nat} (hn : tN T ≠ 24) (hO : tO T = A ++ (tS T).getD b 0 :: (S ++ C)) (hA : A.length = seat T ((tS T).getD b 0)) (hB : behindA T (seat T ((tS T).getD b 0)) = A.length + 1 + S.length) (hAC : A ++ C = A' ++ C') (hq : A'.length = (plc (setO T (A ++ C) (tP T) (tD T)) e).1) :
    tAdopt T e b id = some (tN T + 1, A' ++ (tS T).getD b 0 :: tN T :: (S ++ C'), adP T ((tS T).getD b 0) (plc (setO T (A ++ C) (tP T) (tD T)) e).2.2 ((tS T).getD b 0 :: S), adD T ((tS T).getD b 0) (plc (setO T (A ++ C) (tP T) (tD T)) e).2.1 ((tS T).getD b 0 :: S), va_up (tM T) (tN T) (tM T id), va_up (tC T) (tN T) (tC T id), (tS T).take e ++ (tS T).drop b, va_up (tL T) (tN T) [], va_up (tX T) (tN T) [], tK T) := by
  have hmv : ((tO T).drop A.length).take (A.length + 1 + S.length - A.length) = (tS T).getD b 0 :: S := by
    rw [hO, show A.length + 1 + S.length - A.length = S.length + 1 by omega]
    simp
  have hrest : (tO T).take A.length ++ (tO T).drop (A.length + (A.length + 1 + S.length - A.length)) = A ++ C := by
    rw [hO, show A.length + (A.length + 1 + S.length - A.length) = A.length + (S.length + 1) by omega]
    simp
  unfold tAdopt
  simp only []
  rw [hB, ← hA, hmv, hrest]
  have hn' : tN (setS (setO (setO T (A ++ C) (tP T) (tD T)) ((tO (setO T (A ++ C) (tP T) (tD T))).take (plc (setO T (A ++ C) (tP T) (tD T)) e).1 ++ ((tS T).getD b 0 :: S) ++ (tO (setO T (A ++ C) (tP T) (tD T))).drop (plc (setO T (A ++ C) (tP T) (tD T)) e).1) (va_up (tP T) ((tS T).getD b 0) (plc (setO T (A ++ C) (tP T) (tD T)) e).2.2) (fun i => if i = (tS T).getD b 0 then (plc (setO T (A ++ C) (tP T) (tD T)) e).2.1 else if i ∈ (tS T).getD b 0 :: S then tD T i + (plc (setO T (A ++ C) (tP T) (tD T)) e).2.1 + 1 - tD T ((tS T).getD b 0) else tD T i)) ((tS T).take e ++ (tS T).drop b)) ≠ 24 := hn
  rw [mkN_some hn']
  have ho : insN ((A ++ C).take (plc (setO T (A ++ C) (tP T) (tD T)) e).1 ++ ((tS T).getD b 0 :: S) ++ (A ++ C).drop (plc (setO T (A ++ C) (tP T) (tD T)) e).1) ((plc (setO T (A ++ C) (tP T) (tD T)) e).1 + 1) (tN T) = A' ++ (tS T).getD b 0 :: tN T :: (S ++ C') := by
    rw [← hq, hAC]
    have e9 : (A' ++ C').take A'.length ++ ((tS T).getD b 0 :: S) ++ (A' ++ C').drop A'.length = (A' ++ [(tS T).getD b 0]) ++ (S ++ C') := by simp
    have e10 : A'.length + 1 = (A' ++ [(tS T).getD b 0]).length := by simp
    rw [e9, e10, insN_app]
    simp
  simp only [tO_setO]
  have : ∀ o, o = A' ++ (tS T).getD b 0 :: tN T :: (S ++ C') → some (setO (mkT (setS (setO (setO T (A ++ C) (tP T) (tD T)) ((A ++ C).take (plc (setO T (A ++ C) (tP T) (tD T)) e).1 ++ ((tS T).getD b 0 :: S) ++ (A ++ C).drop (plc (setO T (A ++ C) (tP T) (tD T)) e).1) (va_up (tP T) ((tS T).getD b 0) (plc (setO T (A ++ C) (tP T) (tD T)) e).2.2) (fun i => if i = (tS T).getD b 0 then (plc (setO T (A ++ C) (tP T) (tD T)) e).2.1 else if i ∈ (tS T).getD b 0 :: S then tD T i + (plc (setO T (A ++ C) (tP T) (tD T)) e).2.1 + 1 - tD T ((tS T).getD b 0) else tD T i)) ((tS T).take e ++ (tS T).drop b)) (tM T id) (tC T id) ((plc (setO T (A ++ C) (tP T) (tD T)) e).1 + 1, (plc (setO T (A ++ C) (tP T) (tD T)) e).2.1 + 1, (tS T).getD b 0)) o (adP T ((tS T).getD b 0) (plc (setO T (A ++ C) (tP T) (tD T)) e).2.2 ((tS T).getD b 0 :: S)) (adD T ((tS T).getD b 0) (plc (setO T (A ++ C) (tP T) (tD T)) e).2.1 ((tS T).getD b 0 :: S))) = some (tN T + 1, A' ++ (tS T).getD b 0 :: tN T :: (S ++ C'), adP T ((tS T).getD b 0) (plc (setO T (A ++ C) (tP T) (tD T)) e).2.2 ((tS T).getD b 0 :: S), adD T ((tS T).getD b 0) (plc (setO T (A ++ C) (tP T) (tD T)) e).2.1 ((tS T).getD b 0 :: S), va_up (tM T) (tN T) (tM T id), va_up (tC T) (tN T) (tC T id), (tS T).take e ++ (tS T).drop b, va_up (tL T) (tN T) [], va_up (tX T) (tN T) [], tK T) := fun o he => by rw [he]; rfl
  exact this _ ho
theorem adP_out {bl w x : Nat} {mv : List Nat} (h1 : x ∉ mv) (h2 : x ≠ bl) (h3 : x ≠ tN T) : adP T bl w mv x = tP T x := by
  unfold adP
  rw [if_neg (fun q => h1 q.2.1), va_up_n _ _ _ _ h3, va_up_n _ _ _ _ h2]
theorem adP_n (bl w : Nat) (mv : List Nat) : adP T bl w mv (tN T) = bl := by
  unfold adP
  rw [if_neg (fun q => q.1 rfl), va_up_s]
theorem WF.adopt (h : WF T) (ha : AdOK T e b id) {T' : TS} (he : tAdopt T e b id = some T') : WF T' := by
  have hblt : (tS T).getD b 0 < tN T := getD_lt h.b.2.2.2.2.2.1 ha.2.2.1
  by_cases hn : tN T = 24
  · unfold tAdopt at he
    simp only [] at he
    rw [mkN_none (by exact hn)] at he
    cases he
  obtain ⟨A, S, C, hO, hA, hB, hS, hC⟩ := cutT h.1.2.2.2.2.1.1 (h.full hblt)
  obtain ⟨hno, hA0, hpl, k1, k2, k3, hw⟩ := ad_place h ha hO hS hC
  obtain ⟨A', C', e1, e2, e3, e4, e5, e6⟩ := hpl
  rw [tAdopt_eq hn hO hA hB e1 e2] at he
  have hbn := blk_nm h ha
  obtain ⟨g1, g2, g3, g4, g5, g6, g7⟩ := ha
  generalize hq : plc (setO T (A ++ C) (tP T) (tD T)) e = q at *
  obtain ⟨q1, dq, w⟩ := q
  simp only [tO_setO, tP_setO, tD_setO] at e1 e4 e5 e6 he k1 k2 k3 hw
  have hsn : sNm T b = tM T ((tS T).getD b 0) := rfl
  rw [hsn] at hbn
  generalize hbl : (tS T).getD b 0 = bl at *
  have hwo := h.1.2.2.2.2.1
  have hwo' := hwo
  rw [hO] at hwo'
  have hnd := hwo'.1
  have hnO : tN T ∉ tO T := fun z => by have := h.1.2.2.2.1 _ z; omega
  have hbl0 : bl ≠ 0 := fun q => hbn.2.2.2 (by rw [q]; exact h.2.1.1)
  -- the parts do not meet
  have hblAC : bl ∉ A ++ C := by
    have := nodup_mid hnd
    intro z
    rcases List.mem_append.mp z with z | z
    · exact this.1 z
    · exact this.2 (by simp [z])
  have hSAC : ∀ x ∈ S, x ∉ A ++ C := by
    intro x hx z
    have e0 : A ++ bl :: (S ++ C) = A ++ (bl :: S) ++ C := by simp
    rw [e0] at hnd
    rw [List.nodup_append] at hnd
    rcases List.mem_append.mp z with z | z
    · have := hnd.1
      rw [List.nodup_append] at this
      exact this.2.2 x z x (by simp [hx]) rfl
    · exact hnd.2.2 x (by simp [hx]) x z rfl
  have hSbl : bl ∉ S := fun z => (nodup_mid hnd).2 (by simp [z])
  have hSnd : S.Nodup := by
    rw [List.nodup_append, List.nodup_cons, List.nodup_append] at hnd
    exact hnd.2.1.2.1
  have hwAC : w ∈ A ++ C := e4
  have hwn : w < tN T := h.1.2.2.2.1 w (by rw [hO]; rcases List.mem_append.mp hwAC with z | z <;> simp [z])
  have hwbl : w ≠ bl := fun q => hblAC (q ▸ hwAC)
  have hwS : w ∉ S := fun q => hSAC w q hwAC
  -- the block's head, then its heir, then the rest
  have hlf := e6 bl hblAC
  have hAC' : A' ++ C' = A ++ C := e1.symm
  have hdb : ∀ x, x ∈ A ++ C → va_up (tD T) bl dq x = tD T x := fun x hx => va_up_n _ _ _ _ (fun q => hblAC (q ▸ hx))
  have hnAC : tN T ∉ A ++ C := fun z => hnO (by rw [hO]; rcases List.mem_append.mp z with z | z <;> simp [z])
  have hhd : hdLe (va_up (tD T) bl dq) (va_up (tD T) bl dq bl) C' := by
    intro c C'' ec
    rw [va_up_s, hdb c (by rw [← hAC', ec]; simp)]
    exact e5 c C'' ec
  have hheir : WFo (A' ++ bl :: tN T :: C') (va_up (va_up (tP T) bl w) (tN T) bl) (va_up (va_up (tD T) bl dq) (tN T) (dq + 1)) := by
    have h1 := WFo.insLast (S := []) (n := tN T) hlf (fun _ z => by cases z) hhd (fun z => by
      rcases List.mem_append.mp z with z | z
      · exact hnAC (by rw [← hAC']; simp [z])
      · rcases List.mem_cons.mp z with z | z
        · omega
        · exact hnAC (by rw [← hAC']; simp at z; simp [z]))
    rw [va_up_s] at h1
    exact h1
  have hDS : ∀ x ∈ S, adD T bl dq (bl :: S) x = tD T x + dq + 1 - tD T bl := fun x hx => by
    have hxn : x ≠ tN T := fun q => hnO (by rw [hO, ← q]; simp [hx])
    unfold adD
    have hxb : ¬ x = bl := fun q => hSbl (q ▸ hx)
    rw [va_up_n _ _ _ _ hxn, if_neg hxb, if_pos (by simp [hx])]
  have hDo : ∀ x, x ∈ A ++ C → adD T bl dq (bl :: S) x = tD T x := fun x hx => by
    have hxn : x ≠ tN T := fun q => hnAC (q ▸ hx)
    unfold adD
    have hxb : ¬ x = bl := fun q => hblAC (q ▸ hx)
    have hxm : ¬ x ∈ bl :: S := fun q => by
      rcases List.mem_cons.mp q with z | z
      · exact hblAC (z ▸ hx)
      · exact hSAC x z hx
    rw [va_up_n _ _ _ _ hxn, if_neg hxb, if_neg hxm]
  have hDb : adD T bl dq (bl :: S) bl = dq := by
    unfold adD
    rw [va_up_n _ _ _ _ (by omega), if_pos rfl]
  have hDn : adD T bl dq (bl :: S) (tN T) = dq + 1 := by unfold adD; rw [va_up_s]
  have hPo : ∀ x, x ∈ A ++ C → adP T bl w (bl :: S) x = tP T x := fun x hx => adP_out (fun q => by
      rcases List.mem_cons.mp q with z | z
      · exact hblAC (z ▸ hx)
      · exact hSAC x z hx) (fun q => hblAC (q ▸ hx)) (fun q => hnAC (q ▸ hx))
  have hPb : adP T bl w (bl :: S) bl = w := by
    unfold adP
    have hpb : tP T bl ≠ bl := fun q => by
      have := (hwo.dpos (h.full hblt) hbl0).2.2
      rw [q] at this
      omega
    rw [if_neg (fun q => hpb q.2.2), va_up_n _ _ _ _ (by omega), va_up_s]
  have hPn := adP_n (T := T) bl w (bl :: S)
  have hPS : ∀ x ∈ S, adP T bl w (bl :: S) x = if tP T x = bl then tN T else tP T x := fun x hx => by
    have hxn : x ≠ tN T := fun q => hnO (by rw [hO, ← q]; simp [hx])
    unfold adP
    by_cases z : tP T x = bl
    · rw [if_pos ⟨hxn, by simp [hx], z⟩, if_pos z]
    · rw [if_neg (fun q => z q.2.2), if_neg z, va_up_n _ _ _ _ hxn, va_up_n _ _ _ _ (show x ≠ bl from fun q => hSbl (q ▸ hx))]
  have hnd2 : (A' ++ bl :: tN T :: (S ++ C')).Nodup := by
    have hx := hheir.1
    have e7 : A' ++ bl :: tN T :: C' = (A' ++ [bl, tN T]) ++ C' := by simp
    have e8 : A' ++ bl :: tN T :: (S ++ C') = (A' ++ [bl, tN T]) ++ (S ++ C') := by simp
    rw [e7] at hx
    rw [e8]
    rw [List.nodup_append] at hx ⊢
    refine ⟨hx.1, ?_, fun x hx1 y hy => ?_⟩
    · rw [List.nodup_append]
      exact ⟨hSnd, hx.2.1, fun x hx1 y hy e => hSAC x hx1 (by rw [e, ← hAC']; simp [hy])⟩
    · rcases List.mem_append.mp hy with z | z
      · intro e9
        rw [e9] at hx1
        rcases List.mem_append.mp hx1 with z2 | z2
        · exact hSAC y z (by rw [← hAC']; simp [z2])
        · simp at z2
          rcases z2 with z2 | z2
          · exact hSbl (z2 ▸ z)
          · exact hnO (by rw [hO, ← z2]; simp [z])
      · exact hx.2.2 x hx1 y z
  have hfor : WFo (A' ++ bl :: tN T :: (S ++ C')) (adP T bl w (bl :: S)) (adD T bl dq (bl :: S)) := by
    have e7 : A' ++ bl :: tN T :: C' = (A' ++ [bl]) ++ tN T :: C' := by simp
    have e8 : A' ++ bl :: tN T :: (S ++ C') = (A' ++ [bl]) ++ tN T :: (S ++ C') := by simp
    rw [e7] at hheir
    rw [e8]
    refine hheir.forest ?_ (by rw [← e8]; exact hnd2) ?_ ?_ ?_
    · intro c C'' ec
      rw [va_up_s, va_up_n _ _ _ _ (fun q => hnAC (by rw [← q, ← hAC', ec]; simp)), hdb c (by rw [← hAC', ec]; simp)]
      exact Nat.le_succ_of_le (e5 c C'' ec)
    · intro F1 x F2 ef
      rw [va_up_s]
      have hxS : x ∈ S := by rw [ef]; simp
      have hxd := hS x hxS
      rcases hwo'.in_block hS ef with ⟨i1, i2, i3⟩ | ⟨G1, G2, i1, i2, i3⟩
      · left
        refine ⟨by rw [hPS x hxS, if_pos i1], by rw [hDS x hxS]; omega, fun y hy => ?_⟩
        have hyS : y ∈ S := by rw [ef]; simp [hy]
        rw [hDS x hxS, hDS y hyS]
        have := i3 y hy
        omega
      · right
        have hpS : tP T x ∈ S := by rw [ef, i1]; simp
        have hpx : tP T x ≠ bl := fun q => hSbl (q ▸ hpS)
        have hpd := hS _ hpS
        refine ⟨G1, G2, by rw [hPS x hxS, if_neg hpx]; exact i1, ?_, fun y hy => ?_⟩
        · rw [hPS x hxS, if_neg hpx, hDS _ hpS, hDS x hxS]
          omega
        · have hyS : y ∈ S := by rw [ef, i1]; simp [hy]
          rw [hDS x hxS, hDS y hyS]
          have := i3 y hy
          omega
    · intro x hx
      rw [va_up_s, hDS x hx]
      have := hS x hx
      omega
    · intro x hx
      have hx' : x ∈ A ++ C ∨ x = bl ∨ x = tN T := by
        rw [← hAC']
        simp only [List.mem_append, List.mem_cons, List.not_mem_nil, or_false] at hx ⊢
        rcases hx with (z | z) | z | z
        · exact Or.inl (Or.inl z)
        · exact Or.inr (Or.inl z)
        · exact Or.inr (Or.inr z)
        · exact Or.inl (Or.inr z)
      rcases hx' with z | z | z
      · have zn : x ≠ tN T := fun q => hnAC (q ▸ z)
        have zb : x ≠ bl := fun q => hblAC (q ▸ z)
        rw [hPo x z, hDo x z, va_up_n _ _ _ _ zn, va_up_n _ _ _ _ zb, va_up_n _ _ _ _ zn, hdb x z]
        exact ⟨rfl, rfl⟩
      · rw [z, hPb, hDb, va_up_n _ _ _ _ (by omega), va_up_s, va_up_n _ _ _ _ (by omega), va_up_s]
        exact ⟨rfl, rfl⟩
      · rw [z, hPn, hDn, va_up_s, va_up_s]
        exact ⟨rfl, rfl⟩
  have hmem : ∀ x, x ∈ tO T ↔ x ∈ A ++ C ∨ x = bl ∨ x ∈ S := fun x => by
    rw [hO]
    simp only [List.mem_append, List.mem_cons]
    constructor
    · rintro (z | z | z | z) <;> simp [z]
    · rintro ((z | z) | z | z) <;> simp [z]
  -- paths to the root
  have hpar : ∀ x, x ∈ A ++ C → tP T x ∈ A ++ C := fun x hx => by
    by_cases x0 : x = 0
    · rw [x0, h.1.2.2.2.2.2]
      rw [x0] at hx; exact hx
    · have h1 := hwo'.out_mem hS hC (List.mem_append.mp hx) x0
      have h2 := (hmem (tP T x)).mp ((hwo.dpos ((hmem x).mpr (Or.inl hx)) x0).2.1)
      rcases h2 with z | z | z
      · exact z
      · exact (h1 (by simp [z])).elim
      · exact (h1 (by simp [z])).elim
  have hit : ∀ k x, x ∈ A ++ C → itP (adP T bl w (bl :: S)) k x = itP (tP T) k x ∧ itP (tP T) k x ∈ A ++ C := by
    intro k
    induction k with
    | zero => intro x hx; exact ⟨rfl, hx⟩
    | succ k ih =>
      intro x hx
      obtain ⟨i1, i2⟩ := ih x hx
      rw [itP, itP, i1, hPo _ i2]
      exact ⟨rfl, hpar _ i2⟩
  have hanc1 : ∀ j x, x ∈ A ++ C → anc (adP T bl w (bl :: S)) j x → anc (tP T) j x := fun j x hx ⟨k, hk⟩ => ⟨k, by rw [← (hit k x hx).1]; exact hk⟩
  have hanc2 : ∀ k j x, (x = bl ∨ x ∈ S) → itP (adP T bl w (bl :: S)) k x = j → anc (tP T) j x ∨ j = tN T ∨ anc (tP T) j w := by
    intro k
    induction k using Nat.strongRecOn with
    | ind k ih =>
      intro j x hx hk
      cases k with
      | zero => exact Or.inl ⟨0, hk⟩
      | succ k =>
        rw [itP_s'] at hk
        rcases hx with z | z
        · rw [z, hPb] at hk
          exact Or.inr (Or.inr (hanc1 j w hwAC ⟨k, hk⟩))
        · rw [hPS x z] at hk
          have hpm := hwo'.in_mem hS z
          by_cases pz : tP T x = bl
          · rw [if_pos pz] at hk
            cases k with
            | zero => exact Or.inr (Or.inl hk.symm)
            | succ k =>
              rw [itP_s', hPn] at hk
              cases k with
              | zero => exact Or.inl ⟨1, by show tP T x = j; rw [pz]; exact hk⟩
              | succ k =>
                rw [itP_s', hPb] at hk
                exact Or.inr (Or.inr (hanc1 j w hwAC ⟨k, hk⟩))
          · rw [if_neg pz] at hk
            have hpS : tP T x ∈ S := by
              rcases List.mem_cons.mp hpm with q | q
              · exact (pz q).elim
              · exact q
            rcases ih k (by omega) j (tP T x) (Or.inr hpS) hk with q | q
            · exact Or.inl (anc_step q)
            · exact Or.inr q
  have hstk := take_drop_eq (l := tS T) (e := e) (b := b) (by omega)
  have hsub : ∀ x, x ∈ (tS T).take e ++ (tS T).drop b → x ∈ tS T := fun x hx => by
    rcases List.mem_append.mp hx with z | z
    · exact List.mem_of_mem_take z
    · exact List.mem_of_mem_drop z
  have hup : ∀ x ∈ (tS T).drop b, tM T x ≠ 116 ∧ ∃ k, e < k ∧ k < (tS T).length ∧ (tS T).getD k 0 = x := fun x hx => by
    obtain ⟨k, hk, ek⟩ := List.getElem_of_mem hx
    rw [List.length_drop] at hk
    have : (tS T).getD (b + k) 0 = x := by rw [← getD_drop, gD (by rw [List.length_drop]; exact hk)]; exact ek
    refine ⟨?_, b + k, by omega, by omega, this⟩
    have h6 := g6 (b + k) (by omega) (by omega)
    unfold sNm at h6
    rw [this] at h6
    exact h6
  have hlow : ∀ x ∈ (tS T).take e, x ∈ A ++ C := fun x hx => by
    obtain ⟨k, hk, ek⟩ := List.getElem_of_mem hx
    rw [List.length_take] at hk
    have hx2 : (tS T).getD k 0 = x := by rw [← getD_take' (show k < e by omega), gD (by rw [List.length_take]; exact hk)]; exact ek
    have h1 := hno k (by omega)
    rw [hx2] at h1
    have h2 := (hmem x).mp (h.full (by rw [← hx2]; exact getD_lt h.b.2.2.2.2.2.1 (by omega)))
    rcases h2 with z | z | z
    · exact z
    · exact (h1 (by simp [z])).elim
    · exact (h1 (by simp [z])).elim
  have hidn : id < tN T := by rw [← g4]; exact getD_lt h.b.2.2.2.2.2.1 (by omega)
  have hfm := fmt_nm g5
  have hTe : T' = (tN T + 1, A' ++ bl :: tN T :: (S ++ C'), adP T bl w (bl :: S), adD T bl dq (bl :: S), va_up (tM T) (tN T) (tM T id), va_up (tC T) (tN T) (tC T id), (tS T).take e ++ (tS T).drop b, va_up (tL T) (tN T) [], va_up (tX T) (tN T) [], tK T) := (Option.some.inj he).symm
  subst hTe
  have hM : ∀ i, i < tN T → va_up (tM T) (tN T) (tM T id) i = tM T i := fun i hi => va_up_n _ _ _ _ (by omega)
  refine ⟨⟨?_, ?_, ?_, fun i hi => ?_, hfor, ?_⟩, ⟨?_, fun i hi h0 => ?_⟩, ⟨?_, ?_, fun i hi => ?_, fun X i Y ex hr => ?_, fun X i Y j Z ex => ?_⟩, fun o i hi => ?_, fun o => ?_, fun i hi => ?_⟩
  · show 1 ≤ tN T + 1; omega
  · exact Nat.lt_of_le_of_ne h.1.2.1 hn
  · show (A' ++ bl :: tN T :: (S ++ C')).length = tN T + 1
    have l1 := h.1.2.2.1
    have l2 := congrArg List.length hAC'
    rw [hO] at l1
    simp at l1 l2 ⊢
    omega
  · show i < tN T + 1
    have hi' : i ∈ A' ++ bl :: tN T :: (S ++ C') := hi
    have : i ∈ A ++ C ∨ i = bl ∨ i ∈ S ∨ i = tN T := by
      rw [← hAC']
      simp only [List.mem_append, List.mem_cons] at hi' ⊢
      rcases hi' with z | z | z | z | z <;> simp [z]
    rcases this with z | z | z | z
    · have := h.1.2.2.2.1 i ((hmem i).mpr (Or.inl z)); omega
    · omega
    · have := h.1.2.2.2.1 i ((hmem i).mpr (Or.inr (Or.inr z))); omega
    · omega
  · show adP T bl w (bl :: S) 0 = 0
    have h0 : (0 : Nat) ∈ A ++ C := by
      rcases (hmem 0).mp (h.full (by have := h.1.1; omega)) with z | z | z
      · exact z
      · omega
      · have := hS 0 z
        rw [hwo.2.2.1] at this
        omega
    rw [hPo 0 h0]; exact h.1.2.2.2.2.2
  · show va_up (tM T) (tN T) (tM T id) 0 = 0
    rw [hM 0 (by have := h.1.1; omega)]; exact h.2.1.1
  · show nmI (va_up (tM T) (tN T) (tM T id) i) ∧ kidOK (va_up (tM T) (tN T) (tM T id) (adP T bl w (bl :: S) i)) (va_up (tM T) (tN T) (tM T id) i)
    have hi' : i < tN T + 1 := hi
    by_cases z : i = tN T
    · rw [z, va_up_s, hPn, hM bl hblt]
      refine ⟨Or.inr (by omega), hbn.1, fun q => absurd q hbn.2.1, fun q => absurd q hbn.2.2.1⟩
    · rw [hM i (by omega)]
      have hb2 := h.2.1.2 i (by omega) h0
      refine ⟨hb2.1, ?_⟩
      rcases (hmem i).mp (h.full (by omega)) with y | y | y
      · rw [hPo i y, hM _ (h.par (by omega))]; exact hb2.2
      · rw [y, hPb, hM w hwn]
        exact ⟨k1, fun q => absurd q k2, fun q => absurd q k3⟩
      · rw [hPS i y]
        by_cases pz : tP T i = bl
        · rw [if_pos pz, va_up_s]
          exact ⟨by unfold noKid; omega, fun q => by omega, fun q => by omega⟩
        · rw [if_neg pz, hM _ (h.par (by omega))]; exact hb2.2
  · obtain ⟨r, hr⟩ := h.2.2.1.1
    show ∃ r, (tS T).take e ++ (tS T).drop b = 0 :: r
    rw [hr]
    obtain ⟨m, rfl⟩ : ∃ m, e = m + 1 := ⟨e - 1, by omega⟩
    exact ⟨_, rfl⟩
  · show ((tS T).take e ++ (tS T).drop b).Nodup
    refine List.Nodup.sublist ?_ h.2.2.1.2.1
    conv => rhs; rw [← hstk]
    exact List.Sublist.append (List.sublist_append_left _ _) (List.Sublist.refl _)
  · show i < tN T + 1 ∧ ¬ noKid (va_up (tM T) (tN T) (tM T id) i)
    have := h.2.2.1.2.2.1 i (hsub i hi)
    rw [hM i this.1]
    exact ⟨by omega, this.2⟩
  · show ∃ A1 t, X = A1 ++ [t] ∧ va_up (tM T) (tN T) (tM T id) t = 116
    have ex' : (tS T).take e ++ (tS T).drop b = X ++ i :: Y := ex
    have hiS := h.2.2.1.2.2.1 i (hsub i (by rw [ex']; simp))
    have hr' : tM T i = 114 := by rw [← hM i hiS.1]; exact hr
    rcases split_app ex' with ⟨W, w1, w2⟩ | ⟨W, w1, w2⟩
    · obtain ⟨A1, t, t1, t2⟩ := h.2.2.1.2.2.2.1 X i (W ++ (tS T).drop e) (by
        conv => lhs; rw [← List.take_append_drop e (tS T), w1]
        simp) hr'
      have htS := h.2.2.1.2.2.1 t (List.mem_of_mem_take (by rw [w1, t1]; simp))
      exact ⟨A1, t, t1, by rw [hM t htS.1]; exact t2⟩
    · exfalso
      obtain ⟨k, hk1, hk2, hk3⟩ := (hup i (by rw [w2]; simp)).2
      have hsp := getD_split (l := tS T) hk2
      rw [hk3] at hsp
      obtain ⟨A1, t, t1, t2⟩ := h.2.2.1.2.2.2.1 _ i _ hsp hr'
      have hl := congrArg List.length t1
      rw [List.length_take, Nat.min_eq_left (by omega)] at hl
      simp at hl
      have ht : (tS T).getD (k - 1) 0 = t := by
        rw [← getD_take' (show k - 1 < k by omega), t1, show k - 1 = A1.length by omega]
        simp
      by_cases ke : k - 1 = e
      · rw [ke, g4] at ht
        rw [← ht] at t2
        omega
      · have h6 := g6 (k - 1) (by omega) (by omega)
        unfold sNm at h6
        rw [ht] at h6
        exact h6 t2
  · show ¬ anc (adP T bl w (bl :: S)) j i
    have ex' : (tS T).take e ++ (tS T).drop b = X ++ i :: (Y ++ j :: Z) := ex
    obtain ⟨A1, B1, C1, p1, p2⟩ := sub_pair (Y := ((tS T).drop e).take (b - e)) ex'
    rw [hstk] at p1
    have hold := h.2.2.1.2.2.2.2 _ _ _ _ _ p1
    have hjS := h.2.2.1.2.2.1 j (hsub j (by rw [ex']; simp))
    have hiS := h.2.2.1.2.2.1 i (hsub i (by rw [ex']; simp))
    intro hanc
    rcases (hmem i).mp (h.full hiS.1) with y | y
    · exact hold (hanc1 j i y hanc)
    · obtain ⟨k, hk⟩ := hanc
      rcases hanc2 k j i y hk with z | z | z
      · exact hold z
      · omega
      · have hjd : ∃ k, e < k ∧ k < (tS T).length ∧ (tS T).getD k 0 = j := by
          rcases p2 with u | ⟨Z1, Z2, Z3, u⟩
          · exfalso
            rcases y with y | y
            · exact hblAC (y ▸ hlow i u)
            · exact hSAC i y (hlow i u)
          · exact (hup j (by rw [u]; simp)).2
        obtain ⟨m, m1, m2, m3⟩ := hjd
        rcases hw with u | ⟨t, u1, u2⟩
        · rw [u, ← m3] at z
          exact not_below h (show e - 1 < m by omega) m2 z
        · rw [u2, ← m3] at z
          exact not_below h (show t < m by omega) m2 (anc_step z)
  · show i < tN T + 1 ∧ isFmt (va_up (tM T) (tN T) (tM T id) i) = true
    have hi' : i ∈ va_up (tL T) (tN T) [] o := hi
    by_cases z : o = tN T
    · rw [z, va_up_s] at hi'; cases hi'
    · rw [va_up_n _ _ _ _ z] at hi'
      have := h.2.2.2.1 o i hi'
      rw [hM i this.1]
      exact ⟨by omega, this.2⟩
  · show (va_up (tL T) (tN T) [] o).length ≤ 4
    by_cases z : o = tN T
    · rw [z, va_up_s]; simp
    · rw [va_up_n _ _ _ _ z]; exact h.2.2.2.2.1 o
  · have hi' : tN T + 1 ≤ i := hi
    show va_up (tL T) (tN T) [] i = [] ∧ va_up (tX T) (tN T) [] i = []
    rw [va_up_n _ _ _ _ (by omega), va_up_n _ _ _ _ (by omega)]
    exact h.2.2.2.2.2 i (by omega)
end AD
