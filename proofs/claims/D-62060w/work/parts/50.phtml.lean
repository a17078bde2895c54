/-! the page reads a character -/
set_option maxRecDepth 100000
/-- what typing leaves as it is -/
def FH (pg : Nat) (h h' : HP) : Prop :=
  pX h ≤ pX h' ∧ pO h' = pO h ∧ (∀ a, a < pX h → pK h' a = pK h a) ∧
  (∀ a, a < pX h → ¬ treeK (pK h a) → pN h' a = pN h a ∧ (∀ k, pI h' a k = pI h a k) ∧ (∀ k, pP h' a k = pP h a k) ∧ pL h' a = pL h a ∧ pB h' a = pB h a ∧ pC h' a = pC h a) ∧
  (∀ k, k ∉ [3, 4, 7, 8, 10, 11, 13] → pI h' pg k = pI h pg k) ∧ (∀ k, k ≠ 12 → pP h' pg k = pP h pg k)
def pend (s : Nat) : Nat := if s = 1 ∨ s = 6 then 1 else if s = 7 then 2 else 0
def LI (s : LX) (n : Nat) : Prop := s.1 ≤ 7 ∧ (s.1 = 3 ∨ s.1 = 4 → 97 ≤ s.2.1 ∧ s.2.1 ≤ 122) ∧ (s.1 = 7 → isLga s.2.1 = true) ∧ ∀ T, s.2.2.2 = some T → WF T ∧ tK T + pend s.1 ≤ n
def CS (pg : Nat) (h0 : HP) (u : Nat) (o : Option TS) (tag cl : Int) (h : HP) : Prop := SHp h pg ∧ FH pg h0 h ∧ RU h u ∧ match o with
  | none => Brk h pg
  | some T => RP h pg T ∧ pI h pg 10 = tag ∧ pI h pg 11 = cl
def LOut (pg : Nat) (h0 : HP) (u : Nat) (s : LX) (h : HP) : Prop := SHp h pg ∧ FH pg h0 h ∧ RU h u ∧ match s.2.2.2 with
  | none => Brk h pg
  | some T => RP h pg T ∧ pI h pg 8 = s.1 ∧ pI h pg 10 = s.2.1 ∧ pI h pg 11 = s.2.2.1
section PH
variable {h h0 h1 h' : HP} {pg u n : Nat} {T : TS} {o : Option TS} {c tag cl : Int} {s : LX}
theorem FP.fh (F : FP pg h h') : FH pg h h' := ⟨F.1, F.2.1, F.2.2.1, F.2.2.2.1, fun k hk => F.2.2.2.2.1 k (fun z => hk (by simp [z])) (fun z => hk (by simp [z])) (fun z => hk (by simp [z])) (fun z => hk (by simp [z])), F.2.2.2.2.2.1⟩
theorem FH.trans (A : FH pg h h1) (B : FH pg h1 h') : FH pg h h' := by
  obtain ⟨a1, a2, a3, a4, a5, a6⟩ := A
  obtain ⟨b1, b2, b3, b4, b5, b6⟩ := B
  refine ⟨Nat.le_trans a1 b1, b2.trans a2, fun a ha => (b3 a (by omega)).trans (a3 a ha), fun a ha hk => ?_, fun k hk => (b5 k hk).trans (a5 k hk), fun k hk => (b6 k hk).trans (a6 k hk)⟩
  obtain ⟨x1, x2, x3, x4, x5, x6⟩ := a4 a ha hk
  obtain ⟨y1, y2, y3, y4, y5, y6⟩ := b4 a (by omega) (by rw [a3 a ha]; exact hk)
  exact ⟨y1.trans x1, fun k => (y2 k).trans (x2 k), fun k => (y3 k).trans (x3 k), y4.trans x4, y5.trans x5, y6.trans x6⟩
theorem FH.wi (A : FH pg h h1) (hk : pK h1 pg = 1) {k : Nat} (hm : k ∈ [3, 4, 7, 8, 10, 11, 13]) (v : Int) : FH pg h (wI h1 pg k v) := by
  refine A.trans ⟨Nat.le_refl _, rfl, fun _ _ => rfl, fun b _ q => ⟨rfl, fun j => ?_, fun _ => rfl, rfl, rfl, rfl⟩, fun j hj => ?_, fun _ _ => rfl⟩
  · rw [pI_wI, if_neg (fun z => q (by rw [z.1, hk]; unfold treeK; omega))]
  · rw [pI_wI, if_neg (fun z => hj (by rw [z.2]; exact hm))]
theorem FP.i10 (F : FP pg h h') : pI h' pg 10 = pI h pg 10 ∧ pI h' pg 11 = pI h pg 11 ∧ pI h' pg 8 = pI h pg 8 ∧ pI h' pg 9 = pI h pg 9 := ⟨F.2.2.2.2.1 10 (by omega) (by omega) (by omega) (by omega), F.2.2.2.2.1 11 (by omega) (by omega) (by omega) (by omega), F.2.2.2.2.1 8 (by omega) (by omega) (by omega) (by omega), F.2.2.2.2.1 9 (by omega) (by omega) (by omega) (by omega)⟩
theorem RP.wi (R : RP h pg T) {k : Nat} (v : Int) (h3 : k ≠ 3) (h4 : k ≠ 4) (h7 : k ≠ 7) : RP (wI h pg k v) pg T := by
  obtain ⟨φ, H, C⟩ := R
  refine ⟨φ, (H.c.wi v (fun i hi hm z => by have := (H.elc hi hm).1; rw [z, H.1.1.1] at this; omega) (fun _ => h7)).b (H.l.wi _ _ _), C.mono ⟨?_, ?_, rfl, rfl⟩ rfl rfl⟩
  · rw [pI_wI, if_neg (fun z => h3 z.2.symm)]
  · rw [pI_wI, if_neg (fun z => h4 z.2.symm)]
theorem Brk.wi (R : Brk h pg) {k : Nat} (v : Int) (h7 : k ≠ 7) : Brk (wI h pg k v) pg := ⟨by rw [pI_wI, if_neg (fun z => h7 z.2.symm)]; exact R.1, R.2⟩
theorem pI_pg {k j : Nat} (v : Int) (hj : j ≠ k) : pI (wI h pg k v) pg j = pI h pg j := by rw [pI_wI, if_neg (fun z => hj z.2)]
theorem pI_self (k : Nat) (v : Int) : pI (wI h pg k v) pg k = v := by rw [pI_wI, if_pos ⟨rfl, rfl⟩]
theorem OutP.cs {φ : Nat → Nat} (O : OutP pg h u o h') (F : FH pg h0 h) (h10 : pI h pg 10 = tag) (h11 : pI h pg 11 = cl) : CS pg h0 u o tag cl h' := by
  refine ⟨O.1, F.trans O.2.1.fh, O.2.2.1, ?_⟩
  have hO := O.2.2.2
  cases o with
  | none => exact hO
  | some T => exact ⟨hO, by rw [O.2.1.i10.1]; exact h10, by rw [O.2.1.i10.2.1]; exact h11⟩
theorem ch_brk (R : Brk h pg) (hk : pK h pg = 1) (c : Int) : f_X0_character h pg c = some h := by
  obtain ⟨r1, ⟨a, r2, -⟩, r3⟩ := R
  unfold f_X0_character
  rw [gd_c hk, r2, obind_some, gd_c hk, r1, if_eqn (by omega) (by omega) (by omega) (by omega) (by omega)]
theorem CS.chr (S : CS pg h0 (u + 49) o tag cl h) (hT : ∀ T, o = some T → WF T ∧ XK T ∧ tK T ≤ 159) (hc : 0 ≤ c ∧ c < 128) : ∃ h', f_X0_character h pg c = some h' ∧ CS pg h0 u (o.bind (tChar c)) tag cl h' := by
  obtain ⟨s1, s2, s3, s4⟩ := S
  cases o with
  | none => exact ⟨h, ch_brk s4 s1.1.1 c, s1, s2, s3.mono (by omega), s4⟩
  | some T =>
    obtain ⟨⟨φ, H, C⟩, t10, t11⟩ := s4
    obtain ⟨w1, w2, w3⟩ := hT T rfl
    obtain ⟨h', r1, r2⟩ := H.character (u := u) C w1 w2 w3 hc s3
    exact ⟨h', r1, OutP.cs (φ := φ) r2 s2 t10 t11⟩
theorem CS.pln (S : CS pg h0 (u + 49) o tag cl h) (hT : ∀ T, o = some T → WF T ∧ XK T ∧ tK T ≤ 159) (hc : 0 ≤ c ∧ c < 128) : ∃ h', f_X0_plain h pg c = some h' ∧ LOut pg h0 u (lxP c tag cl o) h' := by
  have hS := S
  obtain ⟨s1, s2, s3, s4⟩ := S
  have hk := s1.1.1
  have set : ∀ v : Int, CS pg h0 (u + 49) o tag cl (wI h pg 8 v) := fun v => by
    refine ⟨s1.aI _ _ _, s2.wi hk (by simp) v, s3, ?_⟩
    cases o with
    | none => exact s4.wi v (by omega)
    | some T => exact ⟨s4.1.wi v (by omega) (by omega) (by omega), by rw [pI_pg v (by omega)]; exact s4.2.1, by rw [pI_pg v (by omega)]; exact s4.2.2⟩
  have lo : ∀ (t : Nat), LOut pg h0 u (t, tag, cl, o) (wI h pg 8 ((t : Nat) : Int)) := fun t => by
    have q := set ((t : Nat) : Int)
    refine ⟨q.1, q.2.1, q.2.2.1.mono (by omega), ?_⟩
    have q4 := q.2.2.2
    cases o with
    | none => exact q4
    | some T => exact ⟨q4.1, pI_self _ _, q4.2⟩
  unfold f_X0_plain f_X0_plain_28 lxP
  by_cases e1 : c = 60
  · rw [if_eqp e1, if_pos e1, gd_c hk, gd_c (by decide), bnd_eq, gd_c (by exact hk), pI_self, gd_c (by decide), gd_c (by decide), if_neg (by decide)]
    exact ⟨_, rfl, lo 1⟩
  · rw [if_eqn e1 (by omega) (by omega) (by omega) (by omega), if_neg e1]
    by_cases e2 : c = 38
    · rw [if_eqp e2, if_pos e2, gd_c hk, gd_c (by decide), bnd_eq, gd_c (by exact hk), pI_self, gd_c (by decide), gd_c (by decide), if_neg (by decide)]
      exact ⟨_, rfl, lo 6⟩
    · rw [if_eqn e2 (by omega) (by omega) (by omega) (by omega), if_neg e2, gd_c hk, gd_c (by decide), bnd_eq, gd_c (by exact hk), pI_self, gd_c (by decide), gd_c (by decide), if_pos rfl, gd_c (by exact hk)]
      obtain ⟨h', r1, r2⟩ := (set 0).chr hT hc
      refine ⟨h', by rw [r1, obind_some], r2.1, r2.2.1, r2.2.2.1, ?_⟩
      have q4 := r2.2.2.2
      show match o.bind (tChar c) with
        | none => Brk h' pg
        | some T => RP h' pg T ∧ pI h' pg 8 = 0 ∧ pI h' pg 10 = tag ∧ pI h' pg 11 = cl
      cases hb : o.bind (tChar c) with
      | none => rw [hb] at q4; exact q4
      | some T' =>
        rw [hb] at q4
        refine ⟨q4.1, ?_, q4.2⟩
        cases o with
        | none => cases hb
        | some T =>
          obtain ⟨φ, H, C⟩ := (set 0).2.2.2.1
          obtain ⟨w1, w2, w3⟩ := hT T rfl
          obtain ⟨h'', t1, t2⟩ := H.character (u := u) C w1 w2 w3 hc s3
          rw [r1] at t1
          cases t1
          rw [t2.2.1.i10.2.2.1]
          exact pI_self _ _
theorem XK.char {T' : TS} (hX : XK T) (hh : tChar c T = some T') : XK T' := by
  have mk : ∀ T1 : TS, XK T1 → ∀ q, XK (addC (mkT T1 1 0 q) (tN T1) c) := fun T1 h1 q i => by
    rw [tX_addC, tK_addC, tX_mkT, tK_mkT]
    by_cases z : i = tN T1
    · rw [z, va_up_s, va_up_s]; simp
    · rw [va_up_n _ _ _ _ z, va_up_n _ _ _ _ z]; have := h1 i; omega
  have ad : ∀ T1 : TS, XK T1 → ∀ j, XK (addC T1 j c) := fun T1 h1 j i => by
    rw [tX_addC, tK_addC]
    by_cases z : i = j
    · rw [z, va_up_s, List.length_append]; have := h1 j; simp; omega
    · rw [va_up_n _ _ _ _ z]; have := h1 i; omega
  rw [tChar_eq] at hh
  split at hh
  · cases hh; exact hX
  · cases hr : tRenew T with
    | none => rw [hr] at hh; cases hh
    | some T1 =>
      rw [hr] at hh
      have h1 := tX_renewF _ _ _ _ _ hX hr
      simp only [] at hh
      unfold tTx at hh
      have hmk : (match mkN T1 1 0 (plc T1 (tS T1).length) with
          | none => none
          | some T2 => some (addC T2 (tN T1) c)) = some T' → XK T' := fun e2 => by
        by_cases hn : tN T1 = 24
        · rw [mkN_none hn] at e2; cases e2
        · rw [mkN_some hn] at e2
          cases e2
          exact mk T1 h1 _
      cases hp : prevSib T1 (plc T1 (tS T1).length) with
      | none => rw [hp] at hh; exact hmk hh
      | some i =>
        rw [hp] at hh
        simp only [] at hh
        split at hh
        · cases hh; exact ad T1 h1 i
        · exact hmk hh
end PH
