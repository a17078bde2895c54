/-! the page's sheet: a rule is made -/
set_option maxRecDepth 100000
section PS
variable {h h' h1 : HP} {pg x u a : Nat} {t e : List Int} {r : RL} {c : Int}
theorem dc27 (hk : isS (pK h x)) (s : Bool) (ht : pB h x = e ++ (if s then [33] else [])) (hT : okT (e ++ (if s then [33] else []))) (R : RlK h a) : f_X0_declare_27 h a x (zb s) = some (dcW h a ((decE e).map (fun q => (q.1, q.2, s)))) := by
  have hl := hT.1
  have hlen : (e ++ (if s then [33] else [])).length = e.length + (if s then 1 else 0) := by cases s <;> simp
  have hgd : ∀ j, j < e.length → (e ++ (if s then [33] else [])).getD j 0 = e.getD j 0 := fun j hj => by
    rw [gD (by rw [List.length_append]; omega), List.getElem_append_left hj, gD hj]
  have p43 : f_X0_declare_27 h a x (zb s) = f_X0_declare_43 h a x (zb s) (if s then 1 else 0) ((((e ++ (if s then [33] else [])).length : Nat) : Int) - 2) := by
    unfold f_X0_declare_27 sLen
    rw [gd_c hk, obind_some, ht]
    cases s with
    | false => rw [zb_f, if_eqp rfl]; rfl
    | true => rw [zb_t, if_eqn (by omega) (by omega) (by omega) (by omega) (by omega)]; rfl
  rw [p43, hlen]
  have hel : e.length ≤ 130 := by rw [List.length_append] at hl; omega
  unfold f_X0_declare_43
  rw [bnd_eq]
  have hn : (((e.length + (if s then 1 else 0) : Nat) : Int) - 2) - (if s then 1 else 0) = (e.length : Int) - 2 := by cases s <;> simp; omega
  rw [hn]
  have no : ∀ v : Int, f_X0_declare_65 h a x (zb s) v = some h := fun v => by
    unfold f_X0_declare_65 f_X0_declare_80
    rw [if_ltp (by omega) (by omega) (by omega)]
  match e, hgd, hel, hlen, ht, hT with
  | [], _, _, _, _, _ => rw [if_ltp (by simp) (by simp) (by simp), no]; rfl
  | [p], _, _, _, _, _ => rw [if_ltp (by simp) (by simp) (by simp), no]; rfl
  | p :: q :: v, hgd, hel, hlen, ht, hT =>
    have hel' : v.length ≤ 128 := by simp at hel; omega
    have hnv : (((p :: q :: v).length : Int) - 2) = ((v.length : Nat) : Int) := by simp; omega
    rw [hnv]
    have hTl : (p :: q :: v ++ (if s then [33] else [])).length ≥ 2 + v.length := by simp; omega
    have hp : 32 ≤ p ∧ p ≤ 126 := by
      have := hT.at (k := 0) (by omega)
      rw [hgd 0 (by simp)] at this
      exact this
    have hq : 32 ≤ q ∧ q ≤ 126 := by
      have := hT.at (k := 1) (by omega)
      rw [hgd 1 (by simp)] at this
      exact this
    have a0 : sAt h x 0 = some p := by
      unfold sAt
      rw [gd_c hk, ht, gd_zin (by omega) (by omega) (by have := hT.1; omega), show zix 0 = 0 by decide, hgd 0 (by simp)]; rfl
    have a1 : sAt h x 1 = some q := by
      unfold sAt
      rw [gd_c hk, ht, gd_zin (by omega) (by omega) (by have := hT.1; omega), show zix 1 = 1 by decide, hgd 1 (by simp)]; rfl
    unfold decE
    simp only []
    have hV : ∀ k : Int, v.length < 1 ∨ 2 < v.length → decV k v = none := fun k hv => by
      unfold decV
      match v, hv with
      | [], _ => split <;> rfl
      | [_], z => simp at z
      | [_, _], z => simp at z
      | _ :: _ :: _ :: _, _ => split <;> rfl
    by_cases e1 : v.length < 1
    · rw [if_ltp (by omega) (by omega) (by omega), no]
      split
      · rfl
      · rw [hV _ (Or.inl e1)]; rfl
    · rw [if_ltn (by omega) (by omega) (by omega)]
      by_cases e2 : 2 < v.length
      · rw [if_ltp (by omega) (by omega) (by omega), no]
        split
        · rfl
        · rw [hV _ (Or.inr e2)]; rfl
      · rw [if_ltn (by omega) (by omega) (by omega), a1, obind_some]
        by_cases e3 : q = 58
        · have hix := idxOf_eq (h := h) (n := 7) (by omega) (c := p) (by omega) (by omega)
          have hrg := ix7_rng p
          rw [if_eqp e3, a0, obind_some, gd_c (by omega), hix, obind_some]
          unfold f_X0_declare_80
          by_cases e4 : ixT 7 p < 0
          · rw [if_ltp e4 (by omega) (by omega), if_pos (Or.inr e4)]; rfl
          · rw [if_ltn (by omega) (by omega) (by omega), if_neg (show ¬ (q ≠ 58 ∨ ixT 7 p < 0) from fun z => by rcases z with z | z; exact z e3; exact e4 z)]
            have hvt : ∀ j, j < v.length → (p :: q :: v ++ (if s then [33] else [])).getD (2 + j) 0 = v.getD j 0 := fun j hj => by
              rw [hgd (2 + j) (by simp; omega), show 2 + j = j + 1 + 1 by omega]
              rfl
            have hkn : ((ixT 7 p).toNat : Int) = ixT 7 p := by omega
            have go : (v.length = 1 ∨ v.length = 2 ∧ 4 ≤ (ixT 7 p).toNat) → f_X0_declare_99 h a x (zb s) ((v.length : Nat) : Int) (ixT 7 p) = some (dcW h a (((decV (ixT 7 p) v).map (fun y => ((ixT 7 p).toNat, y))).map (fun q => (q.1, q.2, s)))) := fun hv => by
              have := dc105 hk ht hT R (k := (ixT 7 p).toNat) (by omega) s hv hvt (by omega)
              rw [hkn] at this
              rw [this]
              cases decV (ixT 7 p) v <;> rfl
            by_cases e5 : v.length = 2
            · rw [if_eqp (by omega)]
              by_cases e6 : ixT 7 p < 4
              · rw [if_ltp e6 (by omega) (by omega)]
                have : decV (ixT 7 p) v = none := by
                  unfold decV
                  match v, e5 with
                  | [c1, c2], _ =>
                    simp only []
                    split
                    · rfl
                    · rw [if_neg (fun z => by omega)]
                rw [this]; rfl
              · rw [if_ltn (by omega) (by omega) (by omega)]
                exact go (Or.inr ⟨e5, by omega⟩)
            · rw [if_eqn (by omega) (by omega) (by omega) (by omega) (by omega)]
              exact go (Or.inl (by omega))
        · rw [if_eqn e3 (by omega) (by omega) (by omega) (by omega), no, if_pos (Or.inl e3)]; rfl
theorem getLastD_eq (d : List Int) (h0 : d ≠ []) : d.getLastD 0 = d.getD (d.length - 1) 0 := by
  have : d.length ≠ 0 := fun z => h0 (List.eq_nil_of_length_eq_zero z)
  rw [gD (by omega), List.getLastD_eq_getLast?, List.getLast?_eq_getElem?, List.getElem?_eq_getElem (by omega)]
  rfl
theorem declare_p (hk : isS (pK h x)) {d : List Int} (ht : pB h x = d) (hT : okT d) (R : RlK h a) : f_X0_declare h a x = some (dcW h a (dec d)) := by
  have hl := hT.1
  unfold f_X0_declare f_X0_declare_26 sLen
  rw [gd_c hk, obind_some, ht]
  have off : d.getLastD 0 ≠ 33 → f_X0_declare_27 h a x 0 = some (dcW h a (dec d)) := fun hn => by
    have := dc27 (e := d) hk false (by rw [ht]; simp) (by simpa using hT) R
    unfold dec
    rw [if_neg hn]
    exact this
  by_cases e1 : d = []
  · rw [if_ltn (by rw [e1]; simp) (by omega) (by omega)]
    exact off (by rw [e1]; simp)
  · have hpos : d.length ≠ 0 := fun z => e1 (List.eq_nil_of_length_eq_zero z)
    have hlast := getLastD_eq d e1
    have hr := hT.at (k := d.length - 1) (by omega)
    rw [if_ltp (by omega) (by omega) (by omega), obind_some]
    unfold sAt
    rw [gd_c hk, ht, gd_zin (by omega) (by omega) (by omega), zix_toNat (by omega) (by omega), show (((d.length : Nat) : Int) - 1).toNat = d.length - 1 by omega, obind_some, ← hlast]
    rw [← hlast] at hr
    by_cases e2 : d.getLastD 0 = 33
    · rw [if_eqp e2]
      have hd : d = d.dropLast ++ [33] := by
        have := List.dropLast_concat_getLast e1
        have e3 : d.getLast e1 = 33 := by
          rw [← e2, hlast, List.getLast_eq_getElem, gD]
        rw [e3] at this
        exact this.symm
      have := dc27 (e := d.dropLast) hk true (by rw [ht]; exact hd) (by
        show okT (d.dropLast ++ [33])
        rw [← hd]; exact hT) R
      unfold dec
      rw [if_pos e2]
      exact this
    · rw [if_eqn e2 (by omega) (by omega) (by omega) (by omega)]
      exact off e2
end PS
