/-! the page reads a selector -/
set_option maxRecDepth 100000
section PS
variable {h h' : HP} {x u : Nat} {t : List Int}
/-- the heap with a new part -/
def nP (h : HP) (p : PT) (o : Option Nat) : HP := wP (wI (wI (wI (wNew h 6 4) (pX h) 0 p.1) (pX h) 1 p.2.1) (pX h) 2 p.2.2) (pX h) 3 o
theorem nP_ag (h : HP) (p : PT) (o : Option Nat) : Agr h (nP h p o) := (((((Agr.refl h).new 6 4).wi (Nat.le_refl _) 0 _).wi (Nat.le_refl _) 1 _).wi (Nat.le_refl _) 2 _).wp (Nat.le_refl _) 3 _
theorem nP_part {p : PT} {o : Option Nat} {acc : List PT} (H : PartR h acc o) : PartR (nP h p o) (p :: acc) (some (pX h)) := by
  refine ⟨pX h, rfl, ?_, Nat.lt_succ_self _, ?_, ?_, ?_, ?_⟩
  · show pK (wNew h 6 4) (pX h) = 6
    rw [pK_wNew, if_pos rfl]
  · show pI (wI (wI (wI (wNew h 6 4) (pX h) 0 p.1) (pX h) 1 p.2.1) (pX h) 2 p.2.2) (pX h) 0 = p.1
    rw [pI_wI, if_neg (fun z => by omega), pI_wI, if_neg (fun z => by omega), pI_wI, if_pos ⟨rfl, rfl⟩]
  · show pI (wI (wI (wI (wNew h 6 4) (pX h) 0 p.1) (pX h) 1 p.2.1) (pX h) 2 p.2.2) (pX h) 1 = p.2.1
    rw [pI_wI, if_neg (fun z => by omega), pI_wI, if_pos ⟨rfl, rfl⟩]
  · show pI (wI (wI (wI (wNew h 6 4) (pX h) 0 p.1) (pX h) 1 p.2.1) (pX h) 2 p.2.2) (pX h) 2 = p.2.2
    rw [pI_wI, if_pos ⟨rfl, rfl⟩]
  · have : pP (nP h p o) (pX h) 3 = o := by unfold nP; rw [pP_wP, if_pos ⟨rfl, rfl⟩]
    rw [this]
    exact PartR.agr (nP_ag h p o) acc o H
theorem nP_init {p : PT} {o : Option Nat} (hp : 0 ≤ p.1 ∧ p.1 < 128) (hd : p.2.2 = 0 ∨ p.2.2 = 1) : f_X7_init (wNew h 6 4) (pX h) p.1 p.2.1 p.2.2 o = some (nP h p o) := by
  have hk : pK (wNew h 6 4) (pX h) = 6 := by rw [pK_wNew, if_pos rfl]
  unfold f_X7_init f_J15_init
  rw [obind_some, gd_c hk, gd_c (zisC_r (by omega) (by omega)), bnd_eq, gd_c (by exact hk), bnd_eq, gd_c (by exact hk), gd_c (by rcases hd with z | z <;> rw [z] <;> decide), bnd_eq, gd_c (by exact hk), bnd_eq]
  rfl
/-- the chain that the reading of a selector makes -/
theorem rdL (hlt : x < pX h) (hk : isS (pK h x)) (ht : pB h x = t) (hT : okT t) : ∀ (m n i : Nat) (d : Int) (o : Option Nat) (acc : List PT) (g : HP), m + n = 4 → i ≤ t.length → Agr h g → PartR g acc o → (d = 0 ∨ d = 1) → RU g (u + m) → ∃ g' r, f_X0_read_13 g x o d (i : Int) (n : Int) = some (g', r) ∧ Agr h g' ∧ RU g' u ∧ (match selR m d (t.drop i) with
    | none => r = none
    | some ps => r ≠ none ∧ PartR g' (ps.reverse ++ acc) r) := by
  have hl := hT.1
  intro m
  induction m with
  | zero =>
    intro n i d o acc g hmn hi A P hd hR
    refine ⟨g, none, iter_out ?_, A, hR, rfl⟩
    simp only [f_X0_read_13s]
    rw [if_ltn (by omega) (by omega) (by omega)]
  | succ m ih =>
    intro n i d o acc g hmn hi A P hd hR
    have hkg : isS (pK g x) := by rw [(A.2.2 x hlt).1]; exact hk
    have htg : pB g x = t := by rw [(A.2.2 x hlt).2.2.2.2.2.1]; exact ht
    have hE := ptE_len (t.drop i)
    have hPd := ptP_drop t i
    have hPl : (t.drop (ptP t i)).length = (ptE (t.drop i)).length := by rw [hPd]
    have hrest : (t.drop i).length = t.length - i := List.length_drop
    have hPle : ptP t i ≤ t.length := by unfold ptP; omega
    have hPge : i ≤ ptP t i := by unfold ptP; omega
    have hst := rd13 (h := g) (x := x) hkg htg hT (n := n) hi (by omega) o d
    rw [selR]
    by_cases e1 : (ptE (t.drop i)).length = (t.drop i).length
    · rw [if_pos e1]
      have : ptP t i = i := by unfold ptP; omega
      refine ⟨g, none, iter_out ?_, A, hR.mono (by omega), rfl⟩
      show f_X0_read_13s g x o d (i : Int) (n : Int) = _
      rw [hst]
      unfold f_X0_read_107
      rw [this, if_eqp rfl]
    · rw [if_neg e1]
      have hne : ptP t i ≠ i := by unfold ptP; omega
      have hrg := ptL_rng hT i
      have A2 : Agr h (nP g (ptL (t.drop i), ptC (t.drop i), d) o) := by
        have B := nP_ag g (ptL (t.drop i), ptC (t.drop i), d) o
        exact ⟨Nat.le_trans A.1 B.1, B.2.1.trans A.2.1, fun b hb => by
          obtain ⟨x1, x2, x3, x4, x5, x6, x7⟩ := A.2.2 b hb
          obtain ⟨y1, y2, y3, y4, y5, y6, y7⟩ := B.2.2 b (Nat.lt_of_lt_of_le hb A.1)
          exact ⟨y1.trans x1, y2.trans x2, fun j => (y3 j).trans (x3 j), fun j => (y4 j).trans (x4 j), y5.trans x5, y6.trans x6, y7.trans x7⟩⟩
      have hk2 : isS (pK (nP g (ptL (t.drop i), ptC (t.drop i), d) o) x) := by rw [(A2.2.2 x hlt).1]; exact hk
      have ht2 : pB (nP g (ptL (t.drop i), ptC (t.drop i), d) o) x = t := by rw [(A2.2.2 x hlt).2.2.2.2.2.1]; exact ht
      have P2 := nP_part (p := (ptL (t.drop i), ptC (t.drop i), d)) P
      have hab := ab_eq hk2 ht2 hT hPle
      have hR2 : RU (nP g (ptL (t.drop i), ptC (t.drop i), d) o) (u + m) := ⟨by have := hR.1; show pX g + 1 + (u + m) ≤ pO g + 600000; omega, by have := hR.2; show pS g + 4 + 100 * (u + m) ≤ 7302250; omega⟩
      have hbl : bl (ptE (t.drop i)) = t.drop (ptP t i + ((t.drop (ptP t i)).takeWhile isB).length) := by rw [drop_tw', hPd]; rfl
      have hjle : ptP t i + ((t.drop (ptP t i)).takeWhile isB).length ≤ t.length := by
        have := tw_le isB (t.drop (ptP t i))
        rw [List.length_drop] at this
        omega
      rw [hbl]
      have hpre : f_X0_read_13s g x o d (i : Int) (n : Int) = (if zI (((ptP t i + ((t.drop (ptP t i)).takeWhile isB).length : Nat)) : Int) = zI ((t.length : Nat) : Int) then some (.inr (nP g (ptL (t.drop i), ptC (t.drop i), d) o, some (pX g))) else Option.bind (sAt (nP g (ptL (t.drop i), ptC (t.drop i), d) o) x ((ptP t i + ((t.drop (ptP t i)).takeWhile isB).length : Nat) : Int)) (fun y6 => if zI y6 = zI 62 then f_X0_read_163 (nP g (ptL (t.drop i), ptC (t.drop i), d) o) x (pX g) ((ptP t i : Nat) : Int) (n : Int) ((ptP t i + ((t.drop (ptP t i)).takeWhile isB).length : Nat) : Int) 1 else f_X0_read_163 (nP g (ptL (t.drop i), ptC (t.drop i), d) o) x (pX g) ((ptP t i : Nat) : Int) (n : Int) ((ptP t i + ((t.drop (ptP t i)).takeWhile isB).length : Nat) : Int) 0)) := by
        rw [hst]
        unfold f_X0_read_107
        rw [if_eqn (by omega) (by omega) (by omega) (by omega) (by omega), bnd_eq, gd_c (show rm1 g 4 from ⟨by have := hR.1; omega, by have := hR.2; omega⟩), bnd_eq]
        have hin := nP_init (h := g) (p := (ptL (t.drop i), ptC (t.drop i), d)) (o := o) hrg hd
        have hin' : f_X7_init (wNew g 6 4) (pX g) (ptL (t.drop i)) (ptC (t.drop i)) d o = some (nP g (ptL (t.drop i), ptC (t.drop i), d) o) := hin
        rw [hin', obind_some, hab, obind_some]
        unfold sLen
        rw [gd_c hk2, obind_some, ht2]
      generalize hj : ptP t i + ((t.drop (ptP t i)).takeWhile isB).length = j at *
      by_cases e2 : j = t.length
      · have hlz : (t.drop j).length = 0 := by rw [List.length_drop]; omega
        rw [if_pos hlz]
        rw [if_eqp (by omega)] at hpre
        refine ⟨_, _, iter_out hpre, A2, hR2.mono (by omega), by simp, ?_⟩
        simpa using P2
      · have hjl : j < t.length := by omega
        have hc := hT.at hjl
        have hhead : (t.drop j).headD 0 = t.getD j 0 := by rw [drop_c hjl]; rfl
        rw [if_neg (by rw [List.length_drop]; omega), hhead]
        rw [if_eqn (by omega) (by omega) (by omega) (by omega) (by omega)] at hpre
        unfold sAt at hpre
        rw [gd_c hk2, ht2, gd_zin (by omega) (by omega) (by omega), zix_nat (by omega), obind_some] at hpre
        by_cases e3 : t.getD j 0 = 62
        · rw [if_pos e3]
          rw [if_eqp e3] at hpre
          have hab2 := ab_eq hk2 ht2 hT (i := j + 1) (by omega)
          unfold f_X0_read_163 f_X0_read_176 f_X0_read_193 at hpre
          rw [if_eqn (by omega) (by omega) (by omega) (by omega) (by omega), if_eqn (by omega) (by omega) (by omega) (by omega) (by omega), show (j : Int) + 1 = ((j + 1 : Nat) : Int) by omega, hab2, obind_some] at hpre
          have htail : bl ((t.drop j).tail) = t.drop (j + 1 + ((t.drop (j + 1)).takeWhile isB).length) := by rw [drop_tw', drop_c hjl]; rfl
          have hle2 : j + 1 + ((t.drop (j + 1)).takeWhile isB).length ≤ t.length := by
            have := tw_le isB (t.drop (j + 1))
            rw [List.length_drop] at this
            omega
          obtain ⟨g', r, s1, s2, s3, s4⟩ := ih (n + 1) (j + 1 + ((t.drop (j + 1)).takeWhile isB).length) 1 (some (pX g)) _ _ (by omega) hle2 A2 P2 (Or.inr rfl) hR2
          rw [htail]
          refine ⟨g', r, ?_, s2, s3, ?_⟩
          · show iter _ _ = _
            rw [iter_in hpre]
            exact s1
          · cases hsel : selR m 1 (t.drop (j + 1 + ((t.drop (j + 1)).takeWhile isB).length)) with
            | none => rw [hsel] at s4; exact s4
            | some ps =>
              rw [hsel] at s4
              show r ≠ none ∧ PartR g' (((ptL (t.drop i), ptC (t.drop i), d) :: ps).reverse ++ acc) r
              rw [List.reverse_cons, List.append_assoc]
              exact s4
        · rw [if_neg e3]
          rw [if_eqn e3 (by omega) (by omega) (by omega) (by omega)] at hpre
          unfold f_X0_read_163 f_X0_read_176 f_X0_read_193 at hpre
          rw [if_eqp (show (0 : Int) = 0 from rfl)] at hpre
          have hlj : (t.drop j).length = (ptE (t.drop i)).length ↔ j = ptP t i := by rw [← hPl, List.length_drop, List.length_drop]; omega
          by_cases e4 : j = ptP t i
          · rw [if_pos (hlj.mpr e4)]
            rw [if_eqp (by omega)] at hpre
            exact ⟨_, _, iter_out hpre, A2, hR2.mono (by omega), rfl⟩
          · rw [if_neg (fun z => e4 (hlj.mp z))]
            rw [if_eqn (by omega) (by omega) (by omega) (by omega) (by omega), if_eqp (show (0 : Int) = 0 from rfl)] at hpre
            obtain ⟨g', r, s1, s2, s3, s4⟩ := ih (n + 1) j 0 (some (pX g)) _ _ (by omega) hjle A2 P2 (Or.inl rfl) hR2
            refine ⟨g', r, ?_, s2, s3, ?_⟩
            · show iter _ _ = _
              rw [iter_in hpre]
              exact s1
            · cases hsel : selR m 0 (t.drop j) with
              | none => rw [hsel] at s4; exact s4
              | some ps =>
                rw [hsel] at s4
                show r ≠ none ∧ PartR g' (((ptL (t.drop i), ptC (t.drop i), d) :: ps).reverse ++ acc) r
                rw [List.reverse_cons, List.append_assoc]
                exact s4
theorem read_p (hlt : x < pX h) (hk : isS (pK h x)) (ht : pB h x = t) (hT : okT t) (hR : RU h (u + 4)) : ∃ g r, f_X0_read h x = some (g, r) ∧ Agr h g ∧ RU g u ∧ (match sel t with
    | none => r = none
    | some ps => r ≠ none ∧ PartR g ps.reverse r) := by
  have hab := ab_eq hk ht hT (i := 0) (Nat.zero_le _)
  have hle : 0 + ((t.drop 0).takeWhile isB).length ≤ t.length := by
    have := tw_le isB (t.drop 0)
    rw [List.length_drop] at this
    omega
  obtain ⟨g, r, s1, s2, s3, s4⟩ := rdL (u := u) hlt hk ht hT 4 0 (0 + ((t.drop 0).takeWhile isB).length) 0 none [] h rfl hle (Agr.refl h) rfl (Or.inl rfl) hR
  rw [drop_tw'] at s4
  refine ⟨g, r, ?_, s2, s3, ?_⟩
  · unfold f_X0_read
    have hab' : f_X0_afterBlanks h x 0 = some ((0 + ((t.drop 0).takeWhile isB).length : Nat) : Int) := hab
    rw [hab', obind_some]
    exact s1
  · unfold sel bl
    rw [List.drop_zero] at s4
    cases hsel : selR 4 0 (t.dropWhile isB) with
    | none => rw [hsel] at s4; exact s4
    | some ps => rw [hsel] at s4; simpa using s4
end PS
