/-! the page's tree: insert, THE LIST, renew -/
set_option maxRecDepth 100000
def RP (h : HP) (pg : Nat) (T : TS) : Prop := ∃ φ, RepB h pg φ T ∧ CntP h pg φ T
/-- what a doing leaves: the tree, or a broken page -/
def OutP (pg : Nat) (h : HP) (u : Nat) (o : Option TS) (h' : HP) : Prop := SHp h' pg ∧ FP pg h h' ∧ RU h' u ∧ match o with
  | none => Brk h' pg
  | some T => RP h' pg T
section PB
variable {h h' h1 : HP} {pg u a : Nat} {φ : Nat → Nat} {T : TS} {x c : Int} {X : List Int} {q : Nat × Nat × Nat}
theorem OutP.of (H : RepB h' pg φ T) (C : CntP h' pg φ T) (F : FP pg h h') (R : RU h' u) : OutP pg h u (some T) h' := ⟨H.1, F, R, φ, H, C⟩
theorem OutP.pre {o : Option TS} (F : FP pg h h1) (O : OutP pg h1 u o h') : OutP pg h u o h' := ⟨O.1, F.trans O.2.1, O.2.2⟩
theorem DetN.loc (D : DetN h pg φ T a x c X) (hp : pg ≠ a) (v : Option Nat) (k : Int) : DetN (wI (wP h pg 12 v) pg 13 k) pg φ T a x c X := by
  obtain ⟨d1, d2, d3, d4⟩ := D
  refine ⟨d1, fun e => ?_, d3, d4.mono ⟨?_, ?_, rfl, rfl⟩ rfl rfl⟩
  · obtain ⟨f1, f2, f3, f4, f5⟩ := d2 e
    refine ⟨f1, ?_, ?_, ?_, f5⟩
    · rw [pI_wI, if_neg (fun z => hp z.1.symm)]; exact f2
    · rw [pI_wI, if_neg (fun z => hp z.1.symm)]; exact f3
    · rw [pI_wI, if_neg (fun z => hp z.1.symm)]; exact f4
  · rw [pI_wI, if_neg (fun z => by omega)]; rfl
  · rw [pI_wI, if_neg (fun z => by omega)]; rfl
theorem DetN.pa (D : DetN h pg φ T a x c X) (H : SHp h pg) : pg ≠ a := by
  by_cases e : x = 1
  · have := H.2.2.2.1.2.2.1 a (D.2.2.1 e).1
    exact kne h (by rw [H.1.1, this.1]; omega)
  · have := H.2.2.2.1.2.1 a (D.2.1 e).1
    exact kne h (by rw [H.1.1, this.1]; omega)
theorem RepB.loc (H : RepB h pg φ T) (v : Option Nat) (k : Int) : RepB (wI (wP h pg 12 v) pg 13 k) pg φ T := ((H.c.wp12 v).wi k (fun i hi hm z => by have := (H.elc hi hm).1; rw [z, H.1.1.1] at this; omega) (fun _ => by omega)).b ((H.l.wp v (by omega)).wi _ _ _)
theorem FP.loc (hk : pK h pg = 1) (v : Option Nat) (k : Int) : FP pg h (wI (wP h pg 12 v) pg 13 k) := FP.xI (FP.xP (FP.refl _ _) (tk2 hk (by unfold treeK; omega)) (fun _ => rfl) (fun z => by omega)) (by exact tk2 hk (by unfold treeK; omega)) (fun _ => by omega)
theorem RepB.insert (H : RepB h pg φ T) (hW : WF T) (D : DetN h pg φ T a x c X) (K : Nat) (hR : RU h (u + 1)) : ∃ h', f_X0_insert h pg a = some h' ∧ RepB h' pg (va_up φ (tN T) a) (setX (mkT T x c (plc T (tS T).length)) (va_up (tX T) (tN T) X) K) ∧ CntP h' pg (va_up φ (tN T) a) (setX (mkT T x c (plc T (tS T).length)) (va_up (tX T) (tN T) X) K) ∧ FP pg h h' ∧ RU h' u := by
  have hb := H.1
  obtain ⟨p1, p2, -⟩ := hW.place hW.len (Nat.le_refl _)
  have hw : (plc T (tS T).length).2.2 < tN T := by
    obtain ⟨-, -, -, -, -, z, -⟩ := p1
    exact hW.1.2.2.2.1 _ z
  have Hl := H.loc (some (φ (plc T (tS T).length).2.2)) ((kx T (plc T (tS T).length) : Nat) : Int)
  obtain ⟨h', r1, r2, r3, r4, r5⟩ := Hl.putG hW hw (nk1 p2) (D.loc (D.pa hb) _ _) K (u := u) hR
  refine ⟨h', ?_, r2, r3, (FP.loc hb.1.1 _ _).trans r4, r5⟩
  have s12 : pP (wI (wP h pg 12 (some (φ (plc T (tS T).length).2.2))) pg 13 ((kx T (plc T (tS T).length) : Nat) : Int)) pg 12 = some (φ (plc T (tS T).length).2.2) := by rw [pP_wI, pP_wP, if_pos ⟨rfl, rfl⟩]
  have s13 : pI (wI (wP h pg 12 (some (φ (plc T (tS T).length).2.2))) pg 13 ((kx T (plc T (tS T).length) : Nat) : Int)) pg 13 = ((kx T (plc T (tS T).length) : Nat) : Int) := by rw [pI_wI, if_pos ⟨rfl, rfl⟩]
  unfold f_X0_insert
  rw [gd_c hb.1.1, H.locate hW, obind_some, gd_c (by exact hb.1.1), gd_c (by exact hb.1.1), s12, obind_some, s13, gd_c (by exact (H.elc hw (nk1 p2)).1), r1]
  rfl
/-! THE LIST -/
theorem WF.own (hW : WF T) : ownr T ∈ tS T ∧ (tM T (ownr T) = 99 ∨ ownr T = 0) := by
  have hlt := topm_lt hW.b 99
  refine ⟨by unfold ownr; rw [gD hlt]; exact List.getElem_mem _, ?_⟩
  by_cases e : topm T 99 = 0
  · right
    unfold ownr
    rw [e]
    obtain ⟨r, hr⟩ := hW.2.2.1.1
    rw [hr]; rfl
  · exact Or.inl (topm_at e)
theorem RepB.list (H : RepB h pg φ T) (hW : WF T) : ∃ l, f_X0_list h pg = some (some l) ∧ pP h (φ (ownr T)) 5 = some l ∧ pL h l = (tL T (ownr T)).map φ ∧ pC h l ≤ 60 ∧ pK h l = 21 := by
  have hb := H.1
  obtain ⟨o1, o2⟩ := hW.own
  obtain ⟨l, l1, l2, l3⟩ := H.l _ o1 o2
  have hs := hW.stk _ o1
  have hlt := topm_lt hW.b 99
  have hE := H.elc hs.1 hs.2
  have hreach := H.reach hW (x := 99) (by unfold nmOK; omega) (n := 0) (by omega)
  rw [show sT 0 = [] from rfl, rch_nil] at hreach
  have h24 := hW.b.2.2.2.2.1
  have hn := hW.1.2.1
  refine ⟨l, ?_, l1, l2, l3, (H.c.lls hs.1 hs.2 l1).1⟩
  unfold f_X0_list lGet
  rw [gd_c hb.1.1, gd_c hb.1.1, hreach, obind_some, hb.1.2.2.2.2.1, obind_some, gd_c (by rw [hb.2.1.2.2.1]; decide), H.2.2.2.2.2.2.1, gd_zin (by omega) (by rw [List.length_map]; omega) (by rw [List.length_map]; omega), zix_nat (by omega), getD_map hlt, obind_some, gd_c (by exact hE.1), gd_c (by exact hE.1)]
  exact congrArg some l1
theorem RepB.lset (H : RepB h pg φ T) (hS : ∀ i ∈ tS T, i < tN T ∧ tM T i ≠ 1) {o l : Nat} (ho : o ∈ tS T) (hl : pP h (φ o) 5 = some l) (hc : pC h l ≤ 60) (v : List Nat) : RepB (wL h l (v.map φ)) pg φ (setL T (va_up (tL T) o v)) := by
  have hk := (H.c.lls (hS o ho).1 (hS o ho).2 hl).1
  have HC : RepC (wL h l (v.map φ)) pg φ T := H.c.wl _ (Or.inl hk)
  refine RepC.b HC (fun j hj hm => ?_)
  rw [tL_setL]
  by_cases e : j = o
  · rw [e, va_up_s]
    exact ⟨l, hl, by rw [pL_wL, if_pos rfl], hc⟩
  · rw [va_up_n _ _ _ _ e]
    obtain ⟨m, m1, m2, m3⟩ := H.l j hj hm
    refine ⟨m, m1, ?_, m3⟩
    rw [pL_ne _ ?_]
    · exact m2
    · intro z
      have hjS := hS j hj
      have hoS := hS o ho
      exact e (H.2.2.1.2.2 j o hjS.1 hoS.1 (H.1.2.2.2.2.1 _ (H.c.mem5 hjS.1 hjS.2) _ (H.c.mem5 hoS.1 hoS.2) l (by rw [← z]; exact m1) hl))
/-! the closed formatting elements are made again -/
theorem RepB.rn1 (H : RepB h pg φ T) (C : CntP h pg φ T) (hW : WF T) {o l k : Nat} (ho : o ∈ tS T) (hom : tM T o = 99 ∨ o = 0) (hl : pP h (φ o) 5 = some l) (hk : k < (tL T o).length) (hR : RU h (u + 7)) :
    (tN T = 24 → ∃ h', f_X0_renew_38s h pg l (k : Int) = some (.inl (h', (k : Int) + 1)) ∧ Brk h' pg ∧ SHp h' pg ∧ FP pg h h' ∧ RU h' u) ∧
    (tN T ≠ 24 → ∃ h', f_X0_renew_38s h pg l (k : Int) = some (.inl (h', (k : Int) + 1)) ∧ ∃ φ', φ' o = φ o ∧ RepB h' pg φ' (setL (psh (mkT T (tM T ((tL T o).getD k 0)) (tC T ((tL T o).getD k 0)) (plc T (tS T).length)) (tN T)) (va_up (va_up (tL T) (tN T) []) o ((va_up (tL T) (tN T) [] o).set k (tN T)))) ∧ CntP h' pg φ' (setL (psh (mkT T (tM T ((tL T o).getD k 0)) (tC T ((tL T o).getD k 0)) (plc T (tS T).length)) (tN T)) (va_up (va_up (tL T) (tN T) []) o ((va_up (tL T) (tN T) [] o).set k (tN T)))) ∧ FP pg h h' ∧ RU h' u) := by
  have hb := H.1
  have hs := hW.stk _ ho
  obtain ⟨l', l1, l2, l3⟩ := H.l _ ho hom
  rw [hl] at l1
  cases l1
  have hlk := (H.c.lls hs.1 hs.2 hl)
  have hmem : (tL T o).getD k 0 ∈ tL T o := by rw [gD hk]; exact List.getElem_mem _
  obtain ⟨i1, i2⟩ := hW.2.2.2.1 o _ hmem
  have hnm := fmt_nm i2
  have hE := H.elc i1 (by omega)
  have hel := H.2.2.2.1 _ i1 (by omega)
  have h4 := hW.2.2.2.2.1 o
  have hx : nmOK (tM T ((tL T o).getD k 0)) := by unfold nmOK; omega
  have hx1 : tM T ((tL T o).getD k 0) ≠ 1 := by omega
  obtain ⟨p1, p2⟩ := H.element (c := tC T ((tL T o).getD k 0)) (u := u + 3) C hW hx hx1 hR
  have pre : ∀ r, f_X0_element h pg (tM T ((tL T o).getD k 0)) (tC T ((tL T o).getD k 0)) = some r → f_X0_renew_38s h pg l (k : Int) = nl r.2 (f_X0_renew_104 r.1 pg l (k : Int)) (fun a4 => gd (pK r.1 pg = 1) (Option.bind (f_X0_insert r.1 pg a4) (fun y5 => gd (pK y5 pg = 1) (Option.bind (f_X0_enter y5 pg a4) (fun y6 => Option.bind (lSet y6 l (k : Int) a4) (fun y7 => f_X0_renew_104 y7.1 pg l (k : Int))))))) := fun r hr => by
    unfold f_X0_renew_38s lLen lGet
    rw [gd_c (by rw [hlk.1]; decide), obind_some, l2, List.length_map, if_ltp (by omega) (by omega) (by omega), gd_c hb.1.1, H.2.2.2.2.2.2.2.2, if_eqp rfl, gd_c (by rw [hlk.1]; decide), gd_zin (by omega) (by omega) (by omega), zix_nat (by omega), getD_map hk, obind_some, gd_c hE.1, gd_c hE.1, gd_c hE.1, gd_c hb.1.1, hel.1, hel.2.1, hr, obind_some]
  constructor
  · intro e
    obtain ⟨h', r1, r2, r3, r4, r5⟩ := p1 e
    refine ⟨h', ?_, r2, r3, r4, r5.mono (by omega)⟩
    rw [pre _ r1, nl_none]
    rfl
  · intro e
    obtain ⟨h1, a, r1, r2, r3, r4, r5⟩ := p2 e
    obtain ⟨h2, s1, s2, s3, s4, s5⟩ := r2.insert (u := u + 2) hW (r3.n hx1) (tK T) r5
    have hpl := hW.place hW.len (Nat.le_refl _)
    have hW1 : WF (mkT T (tM T ((tL T o).getD k 0)) (tC T ((tL T o).getD k 0)) (plc T (tS T).length)) := hW.mk e hpl.1 (Or.inr (by rcases hnm with z | z | z <;> rw [z] <;> decide)) (hW.kid hW.len (Nat.le_refl _) _)
    change RepB h2 pg (va_up φ (tN T) a) (mkT T (tM T ((tL T o).getD k 0)) (tC T ((tL T o).getD k 0)) (plc T (tS T).length)) at s2
    change CntP h2 pg (va_up φ (tN T) a) (mkT T (tM T ((tL T o).getD k 0)) (tC T ((tL T o).getD k 0)) (plc T (tS T).length)) at s3
    have hN := hW.1.1
    have hlenS := hW.b.2.2.2.2.1
    have h24 := hW.1.2.1
    have hnS : tN T ∉ tS T := fun y => by have := (hW.stk _ y).1; omega
    obtain ⟨h3, t1, t2, t3, t4, t5⟩ := s2.enter (u := u) hW1.stk (by rw [tS_mkT]; omega) (i := tN T) (by rw [tN_mkT]; omega) (by rw [tM_mkT, va_up_s]; exact hx1) hnS (by rw [tL_mkT, va_up_s]) (by rw [tM_mkT, va_up_s]; exact hx) (fun z => by omega) s5
    rw [va_up_s] at t1
    have hup : va_up φ (tN T) a o = φ o := va_up_n _ _ _ _ (by omega)
    have FF := (r4.trans s4).trans t3
    have hol : pP h3 (va_up φ (tN T) a o) 5 = some l := by
      rw [hup]
      exact FF.2.2.2.2.2.2 _ _ (by have := (H.c.kd hs.1).2; omega) (H.elc hs.1 hs.2).1 hl
    have hS3 : ∀ i ∈ tS (psh (mkT T (tM T ((tL T o).getD k 0)) (tC T ((tL T o).getD k 0)) (plc T (tS T).length)) (tN T)), i < tN (psh (mkT T (tM T ((tL T o).getD k 0)) (tC T ((tL T o).getD k 0)) (plc T (tS T).length)) (tN T)) ∧ tM (psh (mkT T (tM T ((tL T o).getD k 0)) (tC T ((tL T o).getD k 0)) (plc T (tS T).length)) (tN T)) i ≠ 1 := fun i hi => by
      rw [tS_psh] at hi
      rcases List.mem_append.mp hi with z | z
      · exact hW1.stk i z
      · simp at z
        rw [z, tN_psh, tM_psh, tN_mkT, tM_mkT, va_up_s]
        exact ⟨by omega, hx1⟩
    have hoS : o ∈ tS (psh (mkT T (tM T ((tL T o).getD k 0)) (tC T ((tL T o).getD k 0)) (plc T (tS T).length)) (tN T)) := by rw [tS_psh, tS_mkT]; exact List.mem_append_left _ ho
    have hom3 : tM (psh (mkT T (tM T ((tL T o).getD k 0)) (tC T ((tL T o).getD k 0)) (plc T (tS T).length)) (tN T)) o = 99 ∨ o = 0 := by rw [tM_psh, tM_mkT, va_up_n _ _ _ _ (by omega)]; exact hom
    obtain ⟨l3', m1, m2, m3⟩ := t2.l o hoS hom3
    rw [hol] at m1
    cases m1
    have t2' := t2.lset hS3 hoS hol m3 ((va_up (tL T) (tN T) [] o).set k (tN T))
    have m2' : pL h3 l = (va_up (tL T) (tN T) [] o).map (va_up φ (tN T) a) := m2
    have hva : va_up (tL T) (tN T) [] o = tL T o := va_up_n _ _ _ _ (by omega)
    have hk3 : pK h3 l = 21 := by rw [FF.2.2.1 l hlk.2.1]; exact hlk.1
    have hka : pK h3 a = 2 := by
      have := (t2.elc (i := tN T) (by rw [tN_psh, tN_mkT]; omega) (by rw [tM_psh, tM_mkT, va_up_s]; exact hx1)).1
      rw [va_up_s] at this; exact this
    refine ⟨wL h3 l (((va_up (tL T) (tN T) [] o).set k (tN T)).map (va_up φ (tN T) a)), ?_, va_up φ (tN T) a, hup, t2', ?_, ?_, t5⟩
    · rw [pre _ r1, nl_some, gd_c (by exact r2.1.1.1), s1, obind_some, gd_c (by exact s2.1.1.1), t1, obind_some]
      unfold lSet
      rw [gd_c ⟨by rw [hk3]; decide, by rw [hka]; decide⟩, m2', gd_zin (by omega) (by rw [List.length_map, hva]; omega) (by rw [List.length_map, hva]; omega), zix_nat (by omega), obind_some]
      have : ((va_up (tL T) (tN T) [] o).map (va_up φ (tN T) a)).set k a = ((va_up (tL T) (tN T) [] o).set k (tN T)).map (va_up φ (tN T) a) := by
        rw [List.map_set, va_up_s]
      rw [this]
      rfl
    · exact (s3.mono (T' := psh (mkT T (tM T ((tL T o).getD k 0)) (tC T ((tL T o).getD k 0)) (plc T (tS T).length)) (tN T)) t4 rfl rfl).mono ⟨rfl, rfl, pL_ne _ (kne h3 (by have := t2.1.2.1; rw [hk3]; omega)), pL_ne _ (kne h3 (by have := t2.1.2.1; rw [hk3]; omega))⟩ rfl rfl
    · exact FF.trans (FP.aL (tk2 hk3 (by unfold treeK; omega)) _)
end PB
