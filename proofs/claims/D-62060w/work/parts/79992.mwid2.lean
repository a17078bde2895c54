/-! the reference: widths -/
set_option maxRecDepth 100000
section MW
variable {M M' M1 : MS} {T : TS} {rs : List RL} {C : List (Int × Nat)} {n p k q h : Nat} {Wd Lf tl tp : Nat → Int} {v : Int}
def zb2 (b : Bool) : Int := if b then 1 else 0
theorem zb2_0 (b : Bool) : (zb2 b = 0 ↔ b = false) ∧ (0 ≤ zb2 b ∧ zb2 b ≤ 1) := by cases b <;> simp [zb2]
theorem gd_zb {α : Type} (b : Bool) {i : Decidable (zisB (zb2 b))} {x : Option α} : (@gd α (zisB (zb2 b)) i x) = x := by
  cases b
  · exact gd_of zisB_0
  · exact gd_of zisB_1
theorem widths_20 (hL : LM M T rs C) (hW : WF T) (hok : ∀ r ∈ rs, okR2 r) (hrs : ∀ r ∈ rs, okRV r) (hn : n < tN T) (H : HM M T rs Wd Lf n) : m_widths M (n : Int) v = m_widths_67 M (n : Int) v (zb2 (decide (nmQ T n ≠ 1))) (zb2 (hdP T rs n)) (n : Int) := by
  have h24 := hW.1.2.1
  have hin := io_lt hW hn
  have hnr := nm_rng hW hn
  have hv := (vl_rng hW hrs hn).2.2.2.2.2.2
  have e120 : (120 : Int) + (n : Int) = ((40 * 3 + n : Nat) : Int) := by omega
  have e1 : m_widths M (n : Int) v = m_widths_20 M (n : Int) v (zb2 (decide (nmQ T n ≠ 1))) := by
    unfold m_widths
    rw [gd_zin (by omega) (by omega) (by omega), zix_nat (by omega), hL.o hW hn, gd_zin (by omega) (by omega) (by omega), zix_nat (by omega), hL.nm hW hn]
    by_cases z : nmQ T n = 1
    · rw [if_eqp z]; simp [z, zb2]
    · rw [if_eqn z (by omega) (by omega) (by omega) (by omega)]; simp [z, zb2]
  rw [e1]
  unfold m_widths_20 m_widths_66 m_widths_62
  by_cases h0 : n = 0
  · subst h0
    rw [if_ltn (by omega) (by omega) (by omega), hd_0 hW hok]; rfl
  · have hu := (up_d hW hn (by omega)).1
    have hH := (H (upP T n) hu).1
    rw [if_ltp (by omega) (by omega) (by omega), gd_zin (by omega) (by omega) (by omega), zix_nat (by omega), hL.up hW hn (by omega), gd_zin (by omega) (by omega) (by omega), zix_nat (by omega), hH, hd_up hW hn (by omega)]
    cases hd : hdP T rs (upP T n) with
    | true => rw [if_pos rfl, if_eqn (by omega) (by omega) (by omega) (by omega) (by omega)]; rfl
    | false =>
      rw [if_neg (show ¬ (false = true) by simp), if_eqp rfl]
      by_cases z : nmQ T n = 1
      · have : zb2 (decide (nmQ T n ≠ 1)) = 0 := by simp [z, zb2]
        rw [this, if_eqp rfl]
        simp [z, zb2]
      · have : zb2 (decide (nmQ T n ≠ 1)) = 1 := by simp [z, zb2]
        rw [this, if_eqn (by omega) (by omega) (by omega) (by omega) (by omega), e120, gd_zin (by omega) (by omega) (by omega), zix_nat (by omega), hL.v hW hn (by omega)]
        by_cases y : vlP T rs 3 n = 110
        · rw [if_eqp y]
          simp [z, y, zb2]
        · rw [if_eqn y (by omega) (by omega) (by omega) (by omega)]
          simp [z, y, zb2]
theorem widths_67 (hL : LM M T rs C) (hW : WF T) (hrs : ∀ r ∈ rs, okRV r) (hn : n < tN T) : m_widths_67 M (n : Int) v (zb2 (decide (nmQ T n ≠ 1))) (zb2 (hdP T rs n)) (n : Int) = m_widths_105 (sA M 40 n (zb2 (hdP T rs n))) (n : Int) v (zb2 (bxP T rs n)) (n : Int) := by
  have h24 := hW.1.2.1
  have hv := (vl_rng hW hrs hn).2.2.2.2.2.2
  have hd := zb2_0 (hdP T rs n)
  have e120 : (120 : Int) + (n : Int) = ((40 * 3 + n : Nat) : Int) := by omega
  unfold m_widths_67 m_widths_104
  rw [gd_zin (by omega) (by omega) (by omega), zix_nat (by omega), gd_zb, bnd_eq, sA_s]
  by_cases z : nmQ T n = 1
  · have h1 : zb2 (decide (nmQ T n ≠ 1)) = 0 := by simp [z, zb2]
    have h2 : zb2 (bxP T rs n) = 0 := by unfold bxP; simp [z, zb2]
    rw [h1, h2, if_eqp rfl]
  · have h1 : zb2 (decide (nmQ T n ≠ 1)) = 1 := by simp [z, zb2]
    rw [h1, if_eqn (by omega) (by omega) (by omega) (by omega) (by omega), gd_zin (by omega) (by omega) (by omega)]
    cases hh : hdP T rs n with
    | true =>
      have h2 : zb2 (bxP T rs n) = 0 := by unfold bxP; simp [hh, zb2]
      have h3 : zb2 true = 1 := rfl
      rw [h2, h3, if_eqn (by omega) (by omega) (by omega) (by omega) (by omega)]
    | false =>
      have h3 : zb2 false = 0 := rfl
      rw [h3, if_eqp rfl, e120, gd_zin (by omega) (by omega) (by omega), zix_nat (by omega), sA_n _ _ _ _ _ _ (by omega), hL.v hW hn (by omega)]
      by_cases y : vlP T rs 3 n = 98
      · have h2 : zb2 (bxP T rs n) = 1 := by unfold bxP; simp [hh, z, y, zb2]
        rw [h2, if_eqp y]
      · have h2 : zb2 (bxP T rs n) = 0 := by unfold bxP; simp [y, zb2]
        rw [h2, if_eqn y (by omega) (by omega) (by omega) (by omega)]
theorem widths_105 (hL : LM M T rs C) (hW : WF T) (hok : ∀ r ∈ rs, okR2 r) (hn : n < tN T) (H : HM M T rs Wd Lf n) : m_widths_105 M (n : Int) v (zb2 (bxP T rs n)) (n : Int) = m_widths_153 (sA M 41 n (zb2 (bxP T rs n))) (n : Int) v (if n = 0 then -1 else ((hoP T rs n : Nat) : Int)) (n : Int) := by
  have h24 := hW.1.2.1
  unfold m_widths_105
  rw [gd_zin (by omega) (by omega) (by omega), zix_nat (by omega), gd_zb, bnd_eq]
  by_cases h0 : n = 0
  · subst h0
    rw [if_eqp (a := ((0 : Nat) : Int)) (b := 0) rfl, if_pos rfl]
  · have hu := (up_d hW hn (by omega)).1
    obtain ⟨h1, h2, h3, h4⟩ := H (upP T n) hu
    rw [if_eqn (by omega) (by omega) (by omega) (by omega) (by omega), if_neg h0, gd_zin (by omega) (by omega) (by omega), sA_n _ _ _ _ _ _ (by omega), hL.up hW hn (by omega), gd_zin (by omega) (by omega) (by omega), zix_nat (by omega), sA_i _ _ _ _ _ (by omega), sA_n _ _ _ _ _ _ (by omega), h2, gd_zin (by omega) (by omega) (by omega), gd_zin (by omega) (by omega) (by omega), gd_zin (by omega) (by omega) (by omega), ho_s hW hok hn (by omega)]
    cases hb : bxP T rs (upP T n) with
    | true => rw [if_pos rfl, if_pos rfl, if_eqn (by omega) (by omega) (by omega) (by omega) (by omega)]
    | false =>
      have hu0 : upP T n ≠ 0 := fun z => by rw [z, bx_0 hW hok] at hb; cases hb
      rw [if_neg (show ¬ (false = true) by simp), if_neg (show ¬ (false = true) by simp), if_eqp rfl, h3 (by omega)]
theorem m_widths_eq (hL : LM M T rs C) (hW : WF T) (hok : ∀ r ∈ rs, okR2 r) (hrs : ∀ r ∈ rs, okRV r) (Q : LQ T rs v Wd Lf tl tp) (hv : 1 ≤ v ∧ v ≤ 64) (hn : n < tN T) (H : HM M T rs Wd Lf n) : ∃ M', m_widths M (n : Int) v = some M' ∧ FW n M M' ∧ HM M' T rs Wd Lf (n + 1) := by
  have h24 := hW.1.2.1
  have A1 : FW n M (sA M 40 n (zb2 (hdP T rs n))) := (FW.refl n M).wsA (by omega) _
  have A2 : FW n M (sA (sA M 40 n (zb2 (hdP T rs n))) 41 n (zb2 (bxP T rs n))) := A1.wsA (by omega) _
  have A3 : FW n M (sA (sA (sA M 40 n (zb2 (hdP T rs n))) 41 n (zb2 (bxP T rs n))) 42 n (if n = 0 then -1 else ((hoP T rs n : Nat) : Int))) := A2.wsA (by omega) _
  rw [widths_20 hL hW hok hrs hn H, widths_67 hL hW hrs hn, widths_105 (hL.fl A1.m) hW hok hn (H.fw A1)]
  have hb2 := zb2_0 (bxP T rs n)
  have L3 := hL.fl A3.m
  have H3 := H.fw A3
  generalize hM3 : sA (sA (sA M 40 n (zb2 (hdP T rs n))) 41 n (zb2 (bxP T rs n))) 42 n (if n = 0 then -1 else ((hoP T rs n : Nat) : Int)) = M3 at A3 L3 H3
  have g40 : M3.2 40 n = zb2 (hdP T rs n) := by rw [← hM3, sA_n _ _ _ _ _ _ (by omega), sA_n _ _ _ _ _ _ (by omega), sA_s]
  have g41 : M3.2 41 n = zb2 (bxP T rs n) := by rw [← hM3, sA_n _ _ _ _ _ _ (by omega), sA_s]
  have g42 : M3.2 42 n = (if n = 0 then -1 else ((hoP T rs n : Nat) : Int)) := by rw [← hM3, sA_s]
  have fin : ∀ M', FW n M M' → M'.2 40 n = M3.2 40 n → M'.2 41 n = M3.2 41 n → M'.2 42 n = M3.2 42 n → (bxP T rs n = true → M'.2 43 n = Lf n ∧ M'.2 44 n = Wd n) → HM M' T rs Wd Lf (n + 1) := fun M' A e1 e2 e3 e4 m hm => by
    by_cases z : m = n
    · subst z
      refine ⟨by rw [e1, g40]; rfl, by rw [e2, g41]; rfl, fun h0 => by rw [e3, g42, if_neg (by omega)], e4⟩
    · exact (H.fw A) m (by omega)
  unfold m_widths_153
  rw [gd_zin (by omega) (by omega) (by omega), zix_nat (by omega), bnd_eq, hM3]
  by_cases h0 : n = 0
  · subst h0
    rw [if_eqp (a := ((0 : Nat) : Int)) (b := 0) rfl, gd_zin (by omega) (by omega) (by omega), bnd_eq, gd_zin (by omega) (by omega) (by omega), bnd_eq]
    have A5 : FW 0 M (sA (sA M3 43 (zix 0) 0) 44 (zix 0) v) := (A3.wsA (by omega) _).wsA (by omega) _
    have z0 : zix 0 = 0 := rfl
    refine ⟨_, rfl, A5, fin _ A5 ?_ ?_ ?_ (fun _ => ⟨?_, ?_⟩)⟩
    · rw [sA_n _ _ _ _ _ _ (by omega), sA_n _ _ _ _ _ _ (by omega)]
    · rw [sA_n _ _ _ _ _ _ (by omega), sA_n _ _ _ _ _ _ (by omega)]
    · rw [sA_n _ _ _ _ _ _ (by omega), sA_n _ _ _ _ _ _ (by omega)]
    · rw [sA_n _ _ _ _ _ _ (by omega), z0, sA_s, Q.1.2.1]
    · rw [z0, sA_s, Q.1.1]
  · rw [if_eqn (by omega) (by omega) (by omega) (by omega) (by omega), gd_zin (by omega) (by omega) (by omega), g41, g42, if_neg h0]
    cases hb : bxP T rs n with
    | false =>
      have e0 : zb2 false = 0 := rfl
      rw [e0, if_eqp rfl]
      exact ⟨_, rfl, A3, fin _ A3 rfl rfl rfl (fun z => by rw [hb] at z; cases z)⟩
    | true =>
      obtain ⟨o1, o2, o3⟩ := ho_in hW hok n hn (by omega)
      obtain ⟨q1, q2, q3⟩ := Q.2.1 n hn (by omega)
      have hw := (wd_b hW hok hrs Q hv (hoP T rs n) (by omega)).1
      have hh := (H3 (hoP T rs n) o1).2.2.2 o2
      have hin := io_lt hW (n := hoP T rs n) (by omega)
      have hnr := nm_rng hW (n := hoP T rs n) (by omega)
      have e1 : zb2 true = 1 := rfl
      have hd := div_b hw.1 (clP T rs (hoP T rs n) (tN T))
      have last : ∀ av fr, (0 ≤ av ∧ av ≤ 99) → av = avE T rs n (Wd (hoP T rs n)) → fr + vlP T rs 4 n = Lf n → ∃ M', m_widths_311 M3 (n : Int) fr av = some M' ∧ FW n M M' ∧ HM M' T rs Wd Lf (n + 1) := fun av fr h1 h2 h3 => by
        rw [widths_311 L3 hW hrs hn h1]
        have A5 := (A3.wsA (k := 43) (by omega) (fr + vlP T rs 4 n)).wsA (k := 44) (by omega) (if vlP T rs 6 n = -1 then max 0 (av - 2 * vlP T rs 4 n - 2 * vlP T rs 5 n) else vlP T rs 6 n)
        refine ⟨_, rfl, A5, fin _ A5 ?_ ?_ ?_ (fun _ => ⟨?_, ?_⟩)⟩
        · rw [sA_n _ _ _ _ _ _ (by omega), sA_n _ _ _ _ _ _ (by omega)]
        · rw [sA_n _ _ _ _ _ _ (by omega), sA_n _ _ _ _ _ _ (by omega)]
        · rw [sA_n _ _ _ _ _ _ (by omega), sA_n _ _ _ _ _ _ (by omega)]
        · rw [sA_n _ _ _ _ _ _ (by omega), sA_s, h3]
        · rw [sA_s, q1, h2]; rfl
      rw [e1, if_eqn (by omega) (by omega) (by omega) (by omega) (by omega), gd_zin (by omega) (by omega) (by omega), bnd_eq, gd_zin (by omega) (by omega) (by omega), zix_nat (by omega), m_border_eq L3 hW hok (by omega), obind_some, bnd_eq, hh.1, gd_zin (by omega) (by omega) (by omega), hh.2, bnd_eq, gd_zin (by omega) (by omega) (by omega), L3.o hW (by omega), gd_zin (by omega) (by omega) (by omega), zix_nat (by omega), L3.nm hW (by omega)]
      by_cases hr : nmQ T (hoP T rs n) = 114
      · have hrw : rwP T (hoP T rs n) = true := by unfold rwP; simp [hr]
        rw [if_eqp hr, bnd_eq, widths_247 L3 hW hok hrs hn (by omega) hb hr hw]
        refine last _ _ (by omega) ?_ ?_
        · unfold avE; rw [hrw, if_pos rfl]
        · rw [q2]; unfold lfE; rw [hrw, if_pos rfl]
      · have hrw : rwP T (hoP T rs n) = false := by unfold rwP; simp [hr]
        rw [if_eqn hr (by omega) (by omega) (by omega) (by omega)]
        refine last _ _ hw ?_ ?_
        · unfold avE; rw [hrw, if_neg (show ¬ (false = true) by simp)]
        · rw [q2]; unfold lfE; rw [hrw, if_neg (show ¬ (false = true) by simp), Int.add_zero]
end MW
