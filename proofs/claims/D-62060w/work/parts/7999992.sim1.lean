/-! page and reference side by side: what stands between two calls -/
set_option maxRecDepth 100000
/-- two states of the reading that come to the same -/
def SE (s s' : LX) : Prop := s.1 = s'.1 ∧ s.2.2.2 = s'.2.2.2 ∧ (s.1 = 3 ∨ s.1 = 4 ∨ 7 ≤ s.1 → s.2.1 = s'.2.1) ∧ (s.1 = 3 ∨ s.1 = 4 → s.2.2.1 = s'.2.2.1)
theorem SE.refl (s : LX) : SE s s := ⟨rfl, rfl, fun _ => rfl, fun _ => rfl⟩
theorem SE_of {n : Nat} (hn : n ≠ 3 ∧ n ≠ 4 ∧ n < 7) (b d b' d' : Int) (o : Option TS) : SE (n, b, d, o) (n, b', d', o) := ⟨rfl, rfl, fun z => by have z : n = 3 ∨ n = 4 ∨ 7 ≤ n := z; omega, fun z => by have z : n = 3 ∨ n = 4 := z; omega⟩
theorem lxP_se (c b d b' d' : Int) (o : Option TS) : SE (lxP c b d o) (lxP c b' d' o) := by
  unfold lxP
  split
  · exact SE_of (by omega) _ _ _ _ _
  · split
    · exact SE_of (by omega) _ _ _ _ _
    · exact SE_of (by omega) _ _ _ _ _
theorem lx_se {s s' : LX} (h : SE s s') (c : Int) : SE (lx s c) (lx s' c) := by
  obtain ⟨a, b, d, o⟩ := s
  obtain ⟨a', b', d', o'⟩ := s'
  obtain ⟨h1, h2, h3, h4⟩ := h
  have h1 : a = a' := h1
  have h2 : o = o' := h2
  subst h1 h2
  have h3 : a = 3 ∨ a = 4 ∨ 7 ≤ a → b = b' := h3
  have h4 : a = 3 ∨ a = 4 → d = d' := h4
  by_cases e34 : a = 3 ∨ a = 4
  · rw [h3 (by omega), h4 e34]; exact SE.refl _
  · unfold lx
    simp only []
    by_cases e0 : a = 0
    · rw [if_pos e0, if_pos e0]; exact lxP_se _ _ _ _ _ _
    · rw [if_neg e0, if_neg e0]
      by_cases e1 : a = 1
      · rw [if_pos e1, if_pos e1]; exact SE.refl _
      · rw [if_neg e1, if_neg e1]
        by_cases e2 : a = 2
        · rw [if_pos e2, if_pos e2]; exact SE.refl _
        · rw [if_neg e2, if_neg e2, if_neg e34, if_neg e34]
          by_cases e5 : a = 5
          · rw [if_pos e5, if_pos e5]
            split
            · exact SE_of (by omega) _ _ _ _ _
            · exact SE_of (by omega) _ _ _ _ _
          · rw [if_neg e5, if_neg e5]
            by_cases e6 : a = 6
            · rw [if_pos e6, if_pos e6]
              split
              · exact ⟨rfl, rfl, fun _ => rfl, fun z => by have z : 7 = 3 ∨ 7 = 4 := z; omega⟩
              · exact lxP_se _ _ _ _ _ _
            · rw [if_neg e6, if_neg e6, h3 (by omega)]
              split
              · exact SE_of (by omega) _ _ _ _ _
              · exact lxP_se _ _ _ _ _ _
/-- the layout of both sides -/
def LdS (M : MS) (h : HP) (pg : Nat) (φ : Nat → Nat) (T : TS) (rs : List RL) : Prop := (pI h pg 16 = 0 ∧ M.1 37 = 0 ∧ pI h pg 17 = 0) ∨ (pI h pg 16 = 1 ∧ VS h pg φ T rs (tN T) ∧ ((M.1 37 = 0 ∧ pI h pg 17 = 0) ∨ ∃ C Wd Lf tl tp vw, (1 ≤ vw ∧ vw ≤ 64) ∧ LQ T rs vw Wd Lf tl tp ∧ LaidM M T rs C Wd Lf tl tp vw ∧ LaidP h pg φ T rs Wd Lf tl tp (mPX M T C) (mPY M T C) vw))
/-- the page's part -/
def SPg (h : HP) (pg : Nat) (w v : List Int) : Prop := SHp h pg ∧ OrdC h pg ∧ RcP h pg ∧ ShR h pg (v.foldl cx cx0) ∧ CK (v.foldl cx cx0) v.length ∧ pI h (pg + 8) 5 = (v.length : Int) ∧ pI h pg 9 = (w.length : Int)
/-- a broken page -/
def SBr (M : MS) (h : HP) (pg : Nat) : Prop := M.1 4 = 1 ∧ Brk h pg ∧ M.1 37 = 0 ∧ pI h pg 17 = 0 ∧ (pI h pg 16 = 0 ∨ (pI h pg 16 = 1 ∧ pL h (pg + 16) = []))
/-- a page with a tree -/
def STr (M : MS) (h : HP) (pg : Nat) (s : LX) (T : TS) (rs : List RL) : Prop := (pI h pg 8 = (s.1 : Int) ∧ SE s (s.1, pI h pg 10, pI h pg 11, some T)) ∧ RepM M T ∧ ∃ φ, RepB h pg φ T ∧ CntP h pg φ T ∧ LdS M h pg φ T rs
def SIM (M : MS) (h : HP) (pg : Nat) (w v : List Int) : Prop := (TxtM M w ∧ StyM M v) ∧ SPg h pg w v ∧ match (w.foldl lx lx0).2.2.2 with
  | none => SBr M h pg
  | some T => STr M h pg (w.foldl lx lx0) T ((rulE v).map (rlE v))
/-- cells that are none of the tree stay -/
def FTy (pg : Nat) (h h' : HP) : Prop := pX h ≤ pX h' ∧ pO h' = pO h ∧ (∀ a, a < pX h → pK h' a = pK h a) ∧ (∀ a, a < pX h → ¬ treeK (pK h a) → pN h' a = pN h a ∧ (∀ k, pI h' a k = pI h a k) ∧ (∀ k, pP h' a k = pP h a k) ∧ pL h' a = pL h a ∧ pB h' a = pB h a ∧ pC h' a = pC h a) ∧ ∀ k, k ≠ 12 → pP h' pg k = pP h pg k
section SM
variable {M M' : MS} {h h' h1 : HP} {pg u n : Nat} {φ : Nat → Nat} {T : TS} {rs : List RL} {w v : List Int} {c : Int} {s : LX}
theorem FH.ft (F : FH pg h h') : FTy pg h h' := ⟨F.1, F.2.1, F.2.2.1, F.2.2.2.1, F.2.2.2.2.2⟩
theorem FTy.trans (A : FTy pg h h1) (B : FTy pg h1 h') : FTy pg h h' := by
  obtain ⟨a1, a2, a3, a4, a5⟩ := A
  obtain ⟨b1, b2, b3, b4, b5⟩ := B
  refine ⟨Nat.le_trans a1 b1, b2.trans a2, fun a ha => (b3 a (Nat.lt_of_lt_of_le ha a1)).trans (a3 a ha), fun a ha ht => ?_, fun k hk => (b5 k hk).trans (a5 k hk)⟩
  obtain ⟨x1, x2, x3, x4, x5, x6⟩ := a4 a ha ht
  obtain ⟨y1, y2, y3, y4, y5, y6⟩ := b4 a (Nat.lt_of_lt_of_le ha a1) (by rw [a3 a ha]; exact ht)
  exact ⟨y1.trans x1, fun k => (y2 k).trans (x2 k), fun k => (y3 k).trans (x3 k), y4.trans x4, y5.trans x5, y6.trans x6⟩
theorem FTy.refl (pg : Nat) (h : HP) : FTy pg h h := ⟨Nat.le_refl _, rfl, fun _ _ => rfl, fun _ _ _ => ⟨rfl, fun _ => rfl, fun _ => rfl, rfl, rfl, rfl⟩, fun _ _ => rfl⟩
theorem FTy.wpg (A : FTy pg h h1) (hk : pK h pg = 1) (j : Nat) (v : Int) : FTy pg h (wI h1 pg j v) := by
  obtain ⟨a1, a2, a3, a4, a5⟩ := A
  refine ⟨a1, a2, a3, fun a ha ht => ?_, a5⟩
  obtain ⟨x1, x2, x3, x4, x5, x6⟩ := a4 a ha ht
  refine ⟨x1, fun k => ?_, x3, x4, x5, x6⟩
  rw [pI_wI, if_neg (fun z => ht (by rw [z.1, hk]; exact tK1))]
  exact x2 k
theorem ntK {k : Nat} (hk : k = 4 ∨ k = 5 ∨ k = 6 ∨ k = 7 ∨ k = 26 ∨ k = 27 ∨ k = 31 ∨ k = 32 ∨ k = 33 ∨ k = 42 ∨ k = 43 ∨ k = 44 ∨ k = 45 ∨ k = 46) : ¬ treeK k := fun z => by unfold treeK at z; omega
theorem FTy.at (A : FTy pg h h') {a k : Nat} (ha : a < pX h) (hk : pK h a = k) (hn : ¬ treeK k) : pK h' a = k ∧ pN h' a = pN h a ∧ (∀ k, pI h' a k = pI h a k) ∧ (∀ k, pP h' a k = pP h a k) ∧ pL h' a = pL h a ∧ pB h' a = pB h a ∧ pC h' a = pC h a := ⟨(A.2.2.1 a ha).trans hk, A.2.2.2.1 a ha (by rw [hk]; exact hn)⟩
theorem OrdC.ft (O : OrdC h pg) (A : FTy pg h h') (hp : pg + 21 ≤ pX h) : OrdC h' pg := by
  obtain ⟨o1, o2, o3, o4⟩ := O
  obtain ⟨x1, x2, x3, x4, x5, x6, x7⟩ := A.at (a := pg + 16) (by omega) o2 (ntK (by omega))
  exact ⟨by rw [A.2.2.2.2 15 (by omega)]; exact o1, x1, by rw [x7]; exact o3, by rw [x5]; exact o4⟩
theorem RcP.ft (R : RcP h pg) (A : FTy pg h h') (hp : pg + 21 ≤ pX h) : RcP h' pg := by
  obtain ⟨⟨a1, a2, a3, a4⟩, ⟨b1, b2, b3, b4, b5, b6, b7⟩, c⟩ := R
  obtain ⟨x1, x2, x3, x4, x5, x6, x7⟩ := A.at (a := pg + 17) (by omega) b1 (ntK (by omega))
  obtain ⟨y1, y2, y3, y4, y5, y6, y7⟩ := A.at (a := pg + 18) (by omega) b3 (ntK (by omega))
  obtain ⟨z1, z2, z3, z4, z5, z6, z7⟩ := A.at (a := pg + 19) (by omega) b6 (ntK (by omega))
  obtain ⟨w1, w2, w3, w4, w5, w6, w7⟩ := A.at (a := pg + 20) (by omega) a3 (ntK (by omega))
  refine ⟨⟨by rw [A.2.2.2.2 18 (by omega)]; exact a1, by rw [A.2.2.2.2 19 (by omega)]; exact a2, w1, by rw [w2]; exact a4⟩, ⟨x1, by rw [x4]; exact b2, y1, by rw [y2]; exact b4, by rw [x4]; exact b5, z1, by rw [z2]; exact b7⟩, by rw [x3]; exact c⟩
theorem PartR.ft (A : FTy pg h h') : ∀ (l : List PT) (o : Option Nat), PartR h l o → PartR h' l o
  | [], _, q => q
  | p :: r, o, ⟨a, a1, a2, a3, a4, a5, a6, a7⟩ => by
    obtain ⟨x1, x2, x3, x4, x5, x6, x7⟩ := A.at a3 a2 (ntK (by omega))
    refine ⟨a, a1, x1, Nat.lt_of_lt_of_le a3 A.1, by rw [x3]; exact a4, by rw [x3]; exact a5, by rw [x3]; exact a6, ?_⟩
    rw [x4]
    exact PartR.ft A r _ a7
theorem ShR.ft {s : CX} (S : ShR h pg s) (A : FTy pg h h') : ShR h' pg s := by
  obtain ⟨⟨⟨s1, s2, s3, s4, s5, s6⟩, ⟨t1, t2, t3, t4⟩, ⟨u1, u2, u3, u4⟩, vv⟩, sR, sl, sb, sb2, si⟩ := S
  obtain ⟨x1, x2, x3, x4, x5, x6, x7⟩ := A.at (a := pg + 8) (by omega) s2 (ntK (by omega))
  obtain ⟨y1, y2, y3, y4, y5, y6, y7⟩ := A.at (a := pg + 9) (by omega) t1 (ntK (by omega))
  obtain ⟨z1, z2, z3, z4, z5, z6, z7⟩ := A.at (a := pg + 10) (by omega) t2 (ntK (by omega))
  obtain ⟨w1, w2, w3, w4, w5, w6, w7⟩ := A.at (a := pg + 12) (by omega) t3 (ntK (by omega))
  obtain ⟨q1, q2, q3, q4, q5, q6, q7⟩ := A.at (a := pg + 14) (by omega) t4 (ntK (by omega))
  refine ⟨⟨⟨by rw [A.2.2.2.2 14 (by omega)]; exact s1, x1, by rw [x4]; exact s3, by rw [x4]; exact s4, by rw [x4]; exact s5, by rw [x4]; exact s6⟩, ⟨y1, z1, w1, q1⟩, ⟨by rw [y7]; exact u1, by rw [z7]; exact u2, by rw [w7]; exact u3, by rw [q7]; exact u4⟩, Nat.le_trans vv A.1⟩, ?_, sl, by rw [z6]; exact sb, by rw [w6]; exact sb2, by rw [x3]; exact si⟩
  rw [y5]
  refine ⟨sR.1, fun k hk => ?_⟩
  obtain ⟨r1, r2, r3, r4, r5, r6, r7, r8, r9, r10, l, r11, r12⟩ := sR.2 k hk
  obtain ⟨a1, a2, a3, a4, a5, a6, a7⟩ := A.at (a := (pL h (pg + 9)).getD k 0) (by omega) r1 (ntK (by omega))
  obtain ⟨b1, b2, b3, b4, b5, b6, b7⟩ := A.at (a := (pL h (pg + 9)).getD k 0 + 1) (by omega) r5 (ntK (by omega))
  obtain ⟨c1, c2, c3, c4, c5, c6, c7⟩ := A.at (a := (pL h (pg + 9)).getD k 0 + 2) (by omega) r6 (ntK (by omega))
  refine ⟨a1, Nat.le_trans r2 A.1, by rw [a4]; exact r3, by rw [a4]; exact r4, b1, c1, by rw [b2]; exact r7, by rw [c2]; exact r8, by rw [a3]; exact r9, fun q hq => by rw [b3, c3]; exact r10 q hq, l, by rw [a4]; exact r11, PartR.ft A _ _ r12⟩
theorem fold_snoc {α : Type} (f : α → Int → α) (a : α) (w : List Int) (c : Int) : (w ++ [c]).foldl f a = f (w.foldl f a) c := by rw [List.foldl_append]; rfl
theorem gD_app {w : List Int} {c : Int} {k : Nat} (hk : k < w.length + 1) : (w ++ [c]).getD k 0 = if k = w.length then c else w.getD k 0 := by
  by_cases z : k = w.length
  · rw [if_pos z, z]; simp [List.getD]
  · rw [if_neg z, gD (by simp; omega), gD (by omega), List.getElem_append_left (by omega)]
theorem TxtM.fz (H : TxtM M w) (A : FZ M M') : TxtM M' w := by
  unfold TxtM at H ⊢
  rw [A.1 0 (by simp), A.2 1 (by omega)]; exact H
theorem StyM.fz (H : StyM M v) (A : FZ M M') : StyM M' v := by
  unfold StyM at H ⊢
  rw [A.1 2 (by simp), A.2 3 (by omega)]; exact H
/-- a sign is typed into the page -/
theorem op_html (S : SIM M h pg w v) (hc : 0 ≤ c ∧ c < 65536) (hR : RU h (u + 147)) : ∃ M' h' w' r, m_html M c = some (M', r) ∧ f_X0_html h pg c = some (h', r) ∧ SIM M' h' pg w' v ∧ RU h' u := by
  have S0 := S
  obtain ⟨⟨hT, hY⟩, ⟨p1, p2, p3, p4, p5, p6, p7⟩, hs⟩ := S
  have hk1 := p1.1.1
  have hlt := p1.lt
  have h21 := p1.2.1.2.2.2.2
  have hw := hT.2.2.1
  have h7 : pI h pg 7 = 0 ∨ pI h pg 7 = 1 := by
    cases ho : (w.foldl lx lx0).2.2.2 with
    | none => rw [ho] at hs; exact Or.inr hs.2.1.1
    | some T =>
      rw [ho] at hs
      obtain ⟨-, -, φ, H, -, -⟩ := hs
      exact Or.inl H.2.2.2.2.2.2.2.2
  by_cases hno : c < 32 ∨ 126 < c ∨ w.length = 160 ∨ pI h pg 7 = 1
  · refine ⟨M, h, w, 0, ?_, html_no hk1 h7 p7 hw hc hno, S0, hR.mono (by omega)⟩
    unfold m_html
    by_cases z1 : c < 32
    · rw [if_ltp z1 (by omega) (by omega)]
    · rw [if_ltn (by omega) (by omega) (by omega)]
      by_cases z2 : 126 < c
      · rw [if_ltp z2 (by omega) (by omega)]
      · rw [if_ltn (by omega) (by omega) (by omega), hT.1]
        by_cases z3 : w.length = 160
        · rw [if_eqp (by omega)]
        · rw [if_eqn (by omega) (by omega) (by omega) (by omega) (by omega)]
          have hb : M.1 4 = 1 := by
            cases ho : (w.foldl lx lx0).2.2.2 with
            | none => rw [ho] at hs; exact hs.1
            | some T =>
              rw [ho] at hs
              obtain ⟨-, -, φ, H, -, -⟩ := hs
              have := H.2.2.2.2.2.2.2.2
              omega
          rw [hb, if_eqn (by omega) (by omega) (by omega) (by omega) (by omega)]
  · have c1 : 32 ≤ c ∧ c ≤ 126 := by omega
    have c2 : w.length ≤ 159 := by omega
    have c3 : pI h pg 7 = 0 := by omega
    have hfold := fold_snoc lx lx0 w c
    cases ho : (w.foldl lx lx0).2.2.2 with
    | none => rw [ho] at hs; have := hs.2.1.1; omega
    | some T =>
      rw [ho] at hs
      obtain ⟨⟨e8, eS⟩, hRep, φ, HB, HC, HL⟩ := hs
      obtain ⟨LI1, TC1⟩ := TC.all w hT.2.2.2
      have hLI : LI ((w.foldl lx lx0).1, pI h pg 10, pI h pg 11, some T) w.length := by
        obtain ⟨i1, i2, i3, i4⟩ := LI1
        refine ⟨i1, fun z => ?_, fun z => ?_, fun T' e => i4 T' (by rw [ho]; exact e)⟩
        · have ht : (w.foldl lx lx0).2.1 = pI h pg 10 := eS.2.2.1 (by rcases z with z | z; exact Or.inl z; exact Or.inr (Or.inl z))
          show 97 ≤ pI h pg 10 ∧ pI h pg 10 ≤ 122
          rw [← ht]; exact i2 z
        · have z : (w.foldl lx lx0).1 = 7 := z
          have ht : (w.foldl lx lx0).2.1 = pI h pg 10 := eS.2.2.1 (Or.inr (Or.inr (by omega)))
          show isLga (pI h pg 10) = true
          rw [← ht]; exact i3 z
      obtain ⟨h', f1, f2⟩ := html_ok p1 ⟨φ, HB, HC⟩ hLI e8 rfl rfl p7 (XK_rep hRep) c2 c1 hR
      have hse := lx_se eS c
      rw [← hfold] at hse
      -- the reference
      have hM3 : TxtM (sI (sI (sA M 1 w.length c) 0 ((w.length : Int) + 1)) 37 0) (w ++ [c]) := by
        refine ⟨?_, fun k hk => ?_, by simp; omega, fun d hd => ?_⟩
        · rw [sI_n _ _ _ _ (by omega), sI_s]; simp
        · rw [List.length_append] at hk
          rw [sI_2, sI_2, gD_app (by simpa using hk)]
          by_cases z : k = w.length
          · rw [if_pos z, z, sA_s]
          · rw [if_neg z, sA_i _ _ _ _ _ z]; exact hT.2.1 k (by simp at hk; omega)
        · rcases List.mem_append.mp hd with z | z
          · exact hT.2.2.2 d z
          · rw [List.mem_singleton.mp z]; exact c1
      obtain ⟨M', m1, m2, m3⟩ := m_read_eq hM3
      have hgo : m_html M c = some (M', if zI (M'.1 4) = zI 0 then 1 else 0) := by
        unfold m_html
        rw [if_ltn (by omega) (by omega) (by omega), if_ltn (by omega) (by omega) (by omega), hT.1, if_eqn (by omega) (by omega) (by omega) (by omega) (by omega), hRep.1, if_eqp rfl, gd_zin (by omega) (by omega) (by omega), zix_nat (by omega), bnd_eq, bnd_eq, sA_1, hT.1, bnd_eq, m1, obind_some]
        by_cases z : zI (M'.1 4) = zI 0
        · rw [if_pos z, if_pos z]
        · rw [if_neg z, if_neg z]
      have hTx : TxtM M' (w ++ [c]) := by
        unfold TxtM at hM3 ⊢
        rw [m2.1 0 (by simp), m2.2 1 (by simp)]; exact hM3
      have hSt : StyM M' v := by
        unfold StyM at hY ⊢
        rw [m2.1 2 (by simp), m2.2 3 (by simp)]
        have a1 : (sI (sI (sA M 1 w.length c) 0 ((w.length : Int) + 1)) 37 0).1 2 = M.1 2 := by rw [sI_n _ _ _ _ (by omega), sI_n _ _ _ _ (by omega)]; rfl
        have a2 : (sI (sI (sA M 1 w.length c) 0 ((w.length : Int) + 1)) 37 0).2 3 = M.2 3 := by rw [sI_2, sI_2, sA_f _ _ _ _ _ (by omega)]
        rw [a1, a2]; exact hY
      have h37 : M'.1 37 = 0 := by rw [m2.1 37 (by simp), sI_s]
      -- the page
      obtain ⟨l1, l2, l3, l4⟩ := f2
      have FTy0 : FTy pg h (wI (wI (wI h pg 9 (((w.length : Nat) : Int) + 1)) pg 16 0) pg 17 0) := (((FTy.refl pg h).wpg hk1 _ _).wpg hk1 _ _).wpg hk1 _ _
      have FTy1 := FTy0.trans l2.ft
      have g9 : pI h' pg 9 = ((w.length : Int) + 1) := by rw [l2.2.2.2.2.1 9 (by simp), pI_wI, if_neg (fun z => by omega), pI_wI, if_neg (fun z => by omega), pI_wI, if_pos ⟨rfl, rfl⟩]
      have g16 : pI h' pg 16 = 0 := by rw [l2.2.2.2.2.1 16 (by simp), pI_wI, if_neg (fun z => by omega), pI_wI, if_pos ⟨rfl, rfl⟩]
      have g17 : pI h' pg 17 = 0 := by rw [l2.2.2.2.2.1 17 (by simp), pI_wI, if_pos ⟨rfl, rfl⟩]
      have hSP : SPg h' pg (w ++ [c]) v := by
        refine ⟨l1, p2.ft FTy1 h21, p3.ft FTy1 h21, p4.ft FTy1, p5, ?_, by rw [g9]; simp⟩
        rw [(FTy1.at (a := pg + 8) (by omega) p4.1.1.2.1 (ntK (by omega))).2.2.1]; exact p6
      refine ⟨M', h', w ++ [c], if zI (M'.1 4) = zI 0 then 1 else 0, hgo, ?_, ⟨⟨hTx, hSt⟩, hSP, ?_⟩, l3⟩
      · rw [f1]
        congr 2
        have hq : (lx ((w.foldl lx lx0).1, pI h pg 10, pI h pg 11, some T) c).2.2.2 = ((w ++ [c]).foldl lx lx0).2.2.2 := hse.2.1.symm
        rw [hq]
        cases hz : ((w ++ [c]).foldl lx lx0).2.2.2 with
        | none =>
          rw [hz] at m3
          have m3 : M'.1 4 = 1 := m3
          rw [if_pos rfl, m3, if_eqn (by omega) (by omega) (by omega) (by omega) (by omega)]
        | some T' =>
          rw [hz] at m3
          have m3 : RepM M' T' := m3
          rw [if_neg (by simp), m3.1, if_eqp rfl]
      · have hq : (lx ((w.foldl lx lx0).1, pI h pg 10, pI h pg 11, some T) c).2.2.2 = ((w ++ [c]).foldl lx lx0).2.2.2 := hse.2.1.symm
        rw [hq] at l4
        cases hz : ((w ++ [c]).foldl lx lx0).2.2.2 with
        | none =>
          rw [hz] at m3 l4
          exact ⟨m3, l4, h37, g17, Or.inl g16⟩
        | some T' =>
          rw [hz] at m3 l4
          obtain ⟨⟨φ', R1, R2⟩, x8, x10, x11⟩ := l4
          refine ⟨⟨?_, ?_⟩, m3, φ', R1, R2, Or.inl ⟨g16, h37, g17⟩⟩
          · rw [x8, hse.1]
          · refine ⟨rfl, hz, fun z => ?_, fun z => ?_⟩
            · rw [hse.2.2.1 z]; exact x10.symm
            · rw [hse.2.2.2 z]; exact x11.symm
end SM
