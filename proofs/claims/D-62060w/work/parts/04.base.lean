/-! numbers: an int of the machine is zI of a whole number; adding, taking away and multiplying go through with no premise -/
set_option maxRecDepth 100000
def zI (z : Int) : Int32 := Int32.ofInt z
theorem zI_add (a b : Int) : zI a + zI b = zI (a + b) := (Int32.ofInt_add a b).symm
theorem zI_sub (a b : Int) : zI a - zI b = zI (a - b) := (Int32.ofInt_sub a b).symm
theorem zI_mul (a b : Int) : zI a * zI b = zI (a * b) := (Int32.ofInt_mul a b).symm
theorem zI_of (x : Int32) : zI x.toInt = x := Int32.ofInt_toInt x
theorem zI_toInt {z : Int} (h1 : -2147483648 ≤ z) (h2 : z < 2147483648) : (zI z).toInt = z := Int32.toInt_ofInt_of_le (by omega) (by omega)
theorem zI_lt {a b : Int} (h1 : -2147483648 ≤ a) (h2 : a < 2147483648) (h3 : -2147483648 ≤ b) (h4 : b < 2147483648) : zI a < zI b ↔ a < b := by
  rw [Int32.lt_iff_toInt_lt, zI_toInt h1 h2, zI_toInt h3 h4]
theorem zI_le {a b : Int} (h1 : -2147483648 ≤ a) (h2 : a < 2147483648) (h3 : -2147483648 ≤ b) (h4 : b < 2147483648) : zI a ≤ zI b ↔ a ≤ b := by
  rw [Int32.le_iff_toInt_le, zI_toInt h1 h2, zI_toInt h3 h4]
theorem zI_eq {a b : Int} (h1 : -2147483648 ≤ a) (h2 : a < 2147483648) (h3 : -2147483648 ≤ b) (h4 : b < 2147483648) : zI a = zI b ↔ a = b := by
  rw [← Int32.toInt_inj, zI_toInt h1 h2, zI_toInt h3 h4]
theorem zI_0 : (0 : Int32) = zI 0 := rfl
def zix (i : Int) : Nat := (zI i).toNatClampNeg
theorem zix_of {i : Int} (h1 : 0 ≤ i) (h2 : i < 2147483648) : zix i = i.toNat := Int32.toNatClampNeg_ofInt_of_le (by omega) (by omega)
abbrev zin (i : Int) (n : Nat) : Prop := 0 ≤ (zI i).toInt ∧ (zI i).toInt < n
theorem zin_vp {i : Int} {n : Nat} : zin i n ↔ vp_in (zI i) n := vp_in_iff.symm
theorem zin_of {i : Int} {n : Nat} (h1 : 0 ≤ i) (h2 : i < n) (h3 : n < 2147483648) : zin i n := by
  have : (zI i).toInt = i := zI_toInt (by omega) (by omega)
  exact ⟨by omega, by omega⟩
def zand (a b : Int) : Int := (zI a &&& zI b).toInt
def zor (a b : Int) : Int := (zI a ||| zI b).toInt
def zxor (a b : Int) : Int := (zI a ^^^ zI b).toInt
def zshl (a b : Int) : Int := (zI a <<< (zI b &&& 31)).toInt
def zshr (a b : Int) : Int := (zI a >>> (zI b &&& 31)).toInt
def zdiv (a b : Int) : Int := (zI a / zI b).toInt
def zi2c (a : Int) : Int := ((zI a).toUInt32 % 65536).toInt32.toInt
def zi2b (a : Int) : Int := (zI a).toInt8.toInt32.toInt
abbrev zisB (a : Int) : Prop := zI a = 0 ∨ zI a = 1
abbrev zisC (a : Int) : Prop := 0 ≤ (zI a).toInt ∧ (zI a).toInt < 65536
/-! loops: a step that goes on (inl) or ends (inr); none: it fails, or never ends -/
def itN {S R : Type} (f : S → Option (S ⊕ R)) : Nat → S → Option R
  | 0, _ => none
  | n + 1, s => match f s with
    | none => none
    | some (.inr r) => some r
    | some (.inl s') => itN f n s'
theorem itN_one {S R : Type} {f : S → Option (S ⊕ R)} : ∀ (n : Nat) (m : Nat) (s : S) (r r' : R), itN f n s = some r → itN f m s = some r' → r = r' := by
  intro n
  induction n with
  | zero => intro m s r r' h; cases h
  | succ n ih =>
    intro m s r r' h h'
    cases m with
    | zero => cases h'
    | succ m =>
      simp only [itN] at h h'
      cases hf : f s with
      | none => rw [hf] at h; cases h
      | some x =>
        rw [hf] at h h'
        cases x with
        | inl s' => exact ih m s' r r' h h'
        | inr q => exact Option.some.inj (h.symm.trans h')
noncomputable def iter {S R : Type} (f : S → Option (S ⊕ R)) (s : S) : Option R := @dite (Option R) (∃ r n, itN f n s = some r) (Classical.propDecidable _) (fun h => some (Classical.choose h)) (fun _ => none)
theorem iter_iff {S R : Type} {f : S → Option (S ⊕ R)} {s : S} {r : R} : iter f s = some r ↔ ∃ n, itN f n s = some r := by
  constructor
  · intro h
    unfold iter at h
    split at h
    · next hx =>
      obtain ⟨n, hn⟩ := Classical.choose_spec hx
      exact ⟨n, by rw [hn]; exact h⟩
    · cases h
  · intro ⟨n, hn⟩
    unfold iter
    have hx : ∃ r n, itN f n s = some r := ⟨r, n, hn⟩
    rw [dif_pos hx]
    obtain ⟨k, hk⟩ := Classical.choose_spec hx
    rw [itN_one _ _ _ _ _ hk hn]
theorem iter_out {S R : Type} {f : S → Option (S ⊕ R)} {s : S} {r : R} (h : f s = some (.inr r)) : iter f s = some r := iter_iff.mpr ⟨1, by simp [itN, h]⟩
theorem iter_in {S R : Type} {f : S → Option (S ⊕ R)} {s s' : S} (h : f s = some (.inl s')) : iter f s = iter f s' := by
  apply Option.ext
  intro r
  rw [iter_iff, iter_iff]
  constructor
  · intro ⟨n, hn⟩
    cases n with
    | zero => cases hn
    | succ n => exact ⟨n, by simpa [itN, h] using hn⟩
  · intro ⟨n, hn⟩
    exact ⟨n + 1, by simpa [itN, h] using hn⟩
theorem iter_ind {S R : Type} {f : S → Option (S ⊕ R)} {P : S → R → Prop} (h1 : ∀ s r, f s = some (.inr r) → P s r) (h2 : ∀ s s' r, f s = some (.inl s') → P s' r → P s r) {s : S} {r : R} (h : iter f s = some r) : P s r := by
  obtain ⟨n, hn⟩ := iter_iff.mp h
  induction n generalizing s with
  | zero => cases hn
  | succ n ih =>
    simp only [itN] at hn
    cases hf : f s with
    | none => rw [hf] at hn; cases hn
    | some x =>
      rw [hf] at hn
      cases x with
      | inl s' => exact h2 s s' r hf (ih (iter_iff.mpr ⟨n, hn⟩) hn)
      | inr q =>
        obtain rfl := Option.some.inj hn
        exact h1 s q hf
def gd {α : Type} (c : Prop) [Decidable c] (x : Option α) : Option α := if c then x else none
def bnd {α β : Type} (x : α) (k : α → β) : β := k x
def mr {S R : Type} (o : Option R) : Option (S ⊕ R) := o.map .inr
theorem gd_inv {α : Type} {c : Prop} {i : Decidable c} {x : Option α} {r : α} (h : gd c x = some r) : c ∧ x = some r := by
  unfold gd at h
  split at h
  · exact ⟨by assumption, h⟩
  · cases h
theorem gd_of {α : Type} {c : Prop} {i : Decidable c} {x : Option α} (h : c) : gd c x = x := if_pos h
theorem bnd_inv {α β : Type} {x : α} {k : α → Option β} {r : β} (h : bnd x k = some r) : ∃ y, y = x ∧ k y = some r := ⟨x, rfl, h⟩
theorem mr_inv {S R : Type} {o : Option R} {x : S ⊕ R} (h : mr o = some x) : ∃ r, o = some r ∧ .inr r = x := by
  unfold mr at h
  obtain ⟨r, h1, h2⟩ := Option.map_eq_some_iff.mp h
  exact ⟨r, h1, h2⟩
theorem bd_inv {α β : Type} {o : Option α} {k : α → Option β} {r : β} (h : o.bind k = some r) : ∃ y, o = some y ∧ k y = some r := Option.bind_eq_some_iff.mp h
theorem zisB_n {a : Int} (h : zisB a) : narrow .boolean (.int (zI a)) = .int (zI a) := by
  rcases h with h | h <;> rw [h] <;> rfl
theorem zisB_f {a : Int} (h : zisB a) : fits .boolean (.int (zI a)) = true := by
  rcases h with h | h <;> rw [h] <;> rfl
theorem zisB_0 : zisB 0 := Or.inl rfl
theorem zisB_1 : zisB 1 := Or.inr rfl
/-! rows of instructions over zI -/
section ZL
variable {p : Program} {l : Launch} {e : Env} {R : Room} {s : State} {m : MethodId} {args : Array Value} {below : List Frame} {meth : Method} {c : Code} {H : Heap} {locs : List Loc} {cells slots : Nat} {Q : State → Prop}
variable {cc : ByteArray} {pc : Nat} {ls : Array Slot} {rest : List Value}
theorem zl_iconst (hx : p.tables.exec = Jvm.exec) (hb : c.code = cc) {n : Int} (hdg : decode cc pc = .ok (.iconst n, 1)) (k : W p l e R s m args below meth c H locs cells slots Q (F0 m (pc + 1) ls (.int (zI n) :: rest))) : W p l e R s m args below meth c H locs cells slots Q (F0 m pc ls rest) := lv_iconst hx hb hdg rfl k
theorem zl_bipush (hx : p.tables.exec = Jvm.exec) (hb : c.code = cc) {n : Int} (hdg : decode cc pc = .ok (.bipush n, 2)) (hv : (Int8.ofInt n).toInt32 = zI n) (k : W p l e R s m args below meth c H locs cells slots Q (F0 m (pc + 2) ls (.int (zI n) :: rest))) : W p l e R s m args below meth c H locs cells slots Q (F0 m pc ls rest) := lv_bipush hx hb hdg hv k
theorem zl_sipush (hx : p.tables.exec = Jvm.exec) (hb : c.code = cc) {n : Int} (hdg : decode cc pc = .ok (.sipush n, 3)) (hv : (Int16.ofInt n).toInt32 = zI n) (k : W p l e R s m args below meth c H locs cells slots Q (F0 m (pc + 3) ls (.int (zI n) :: rest))) : W p l e R s m args below meth c H locs cells slots Q (F0 m pc ls rest) := lv_sipush hx hb hdg hv k
theorem zl_iadd (hx : p.tables.exec = Jvm.exec) (hb : c.code = cc) {x y : Int} (hdg : decode cc pc = .ok (.iadd, 1)) (k : W p l e R s m args below meth c H locs cells slots Q (F0 m (pc + 1) ls (.int (zI (x + y)) :: rest))) : W p l e R s m args below meth c H locs cells slots Q (F0 m pc ls (.int (zI y) :: .int (zI x) :: rest)) := lv_iadd hx hb hdg (by rw [zI_add]; exact k)
theorem zl_isub (hx : p.tables.exec = Jvm.exec) (hb : c.code = cc) {x y : Int} (hdg : decode cc pc = .ok (.isub, 1)) (k : W p l e R s m args below meth c H locs cells slots Q (F0 m (pc + 1) ls (.int (zI (x - y)) :: rest))) : W p l e R s m args below meth c H locs cells slots Q (F0 m pc ls (.int (zI y) :: .int (zI x) :: rest)) := lv_isub hx hb hdg (by rw [zI_sub]; exact k)
theorem zl_imul (hx : p.tables.exec = Jvm.exec) (hb : c.code = cc) {x y : Int} (hdg : decode cc pc = .ok (.imul, 1)) (k : W p l e R s m args below meth c H locs cells slots Q (F0 m (pc + 1) ls (.int (zI (x * y)) :: rest))) : W p l e R s m args below meth c H locs cells slots Q (F0 m pc ls (.int (zI y) :: .int (zI x) :: rest)) := lv_imul hx hb hdg (by rw [zI_mul]; exact k)
theorem zl_iand (hx : p.tables.exec = Jvm.exec) (hb : c.code = cc) {x y : Int} (hdg : decode cc pc = .ok (.iand, 1)) (k : W p l e R s m args below meth c H locs cells slots Q (F0 m (pc + 1) ls (.int (zI (zand x y)) :: rest))) : W p l e R s m args below meth c H locs cells slots Q (F0 m pc ls (.int (zI y) :: .int (zI x) :: rest)) := lv_iand hx hb hdg (by rw [zand, zI_of] at k; exact k)
theorem zl_ior (hx : p.tables.exec = Jvm.exec) (hb : c.code = cc) {x y : Int} (hdg : decode cc pc = .ok (.ior, 1)) (k : W p l e R s m args below meth c H locs cells slots Q (F0 m (pc + 1) ls (.int (zI (zor x y)) :: rest))) : W p l e R s m args below meth c H locs cells slots Q (F0 m pc ls (.int (zI y) :: .int (zI x) :: rest)) := lv_ior hx hb hdg (by rw [zor, zI_of] at k; exact k)
theorem zl_ixor (hx : p.tables.exec = Jvm.exec) (hb : c.code = cc) {x y : Int} (hdg : decode cc pc = .ok (.ixor, 1)) (k : W p l e R s m args below meth c H locs cells slots Q (F0 m (pc + 1) ls (.int (zI (zxor x y)) :: rest))) : W p l e R s m args below meth c H locs cells slots Q (F0 m pc ls (.int (zI y) :: .int (zI x) :: rest)) := lv_ixor hx hb hdg (by rw [zxor, zI_of] at k; exact k)
theorem zl_ishl (hx : p.tables.exec = Jvm.exec) (hb : c.code = cc) {x y : Int} (hdg : decode cc pc = .ok (.ishl, 1)) (k : W p l e R s m args below meth c H locs cells slots Q (F0 m (pc + 1) ls (.int (zI (zshl x y)) :: rest))) : W p l e R s m args below meth c H locs cells slots Q (F0 m pc ls (.int (zI y) :: .int (zI x) :: rest)) := lv_ishl hx hb hdg (by rw [zshl, zI_of] at k; exact k)
theorem zl_ishr (hx : p.tables.exec = Jvm.exec) (hb : c.code = cc) {x y : Int} (hdg : decode cc pc = .ok (.ishr, 1)) (k : W p l e R s m args below meth c H locs cells slots Q (F0 m (pc + 1) ls (.int (zI (zshr x y)) :: rest))) : W p l e R s m args below meth c H locs cells slots Q (F0 m pc ls (.int (zI y) :: .int (zI x) :: rest)) := lv_ishr hx hb hdg (by rw [zshr, zI_of] at k; exact k)
theorem zl_idiv (hx : p.tables.exec = Jvm.exec) (hb : c.code = cc) {x y : Int} (hne : ¬ zI y = 0) (hdg : decode cc pc = .ok (.idiv, 1)) (k : W p l e R s m args below meth c H locs cells slots Q (F0 m (pc + 1) ls (.int (zI (zdiv x y)) :: rest))) : W p l e R s m args below meth c H locs cells slots Q (F0 m pc ls (.int (zI y) :: .int (zI x) :: rest)) := lv_idiv hx hb hdg hne (by rw [zdiv, zI_of] at k; exact k)
theorem zl_i2c (hx : p.tables.exec = Jvm.exec) (hb : c.code = cc) {x : Int} (hdg : decode cc pc = .ok (.i2c, 1)) (k : W p l e R s m args below meth c H locs cells slots Q (F0 m (pc + 1) ls (.int (zI (zi2c x)) :: rest))) : W p l e R s m args below meth c H locs cells slots Q (F0 m pc ls (.int (zI x) :: rest)) := lv_i2c hx hb hdg (zI_of _).symm k
theorem zl_i2b (hx : p.tables.exec = Jvm.exec) (hb : c.code = cc) {x : Int} (hdg : decode cc pc = .ok (.i2b, 1)) (k : W p l e R s m args below meth c H locs cells slots Q (F0 m (pc + 1) ls (.int (zI (zi2b x)) :: rest))) : W p l e R s m args below meth c H locs cells slots Q (F0 m pc ls (.int (zI x) :: rest)) := lv_i2b hx hb hdg (zI_of _).symm k
theorem zl_iinc (hx : p.tables.exec = Jvm.exec) (hb : c.code = cc) {i nL k : Nat} {n x : Int} {lv lv' : List (Nat × Value)} (hdg : decode cc pc = .ok (.iinc i n, 3)) (h : lv_has ls nL lv) (hk : lv[k]? = some (i, .int (zI x))) (hn : i < nL) (hl : (i, Value.int (zI (x + n))) :: lv.filter (fun q => !(q.1 == i) && !(q.1 + 1 == i && q.2.category == 2)) = lv')
    (kk : ∀ ls' : Array Slot, lv_has ls' nL lv' → W p l e R s m args below meth c H locs cells slots Q (F0 m (pc + 3) ls' rest)) : W p l e R s m args below meth c H locs cells slots Q (F0 m pc ls rest) := lv_iinc hx hb hdg h hk (zI_add x n) hn hl kk
theorem zl_ldc (hx : p.tables.exec = Jvm.exec) (hb : c.code = cc) {own : String} {index : Nat} {v : Int} (hown : s.vm.findClass own = some m.cls) (hconst : (Jvm.Cond.constant own index (zI v)).before args s = true) (hdg : decode cc pc = .ok (.ldc index, 2)) (k : W p l e R s m args below meth c H locs cells slots Q (F0 m (pc + 2) ls (.int (zI v) :: rest))) : W p l e R s m args below meth c H locs cells slots Q (F0 m pc ls rest) := lv_ldc hx hb hown hconst hdg k
theorem zl_ldcw (hx : p.tables.exec = Jvm.exec) (hb : c.code = cc) {own : String} {index : Nat} {v : Int} (hown : s.vm.findClass own = some m.cls) (hconst : (Jvm.Cond.constant own index (zI v)).before args s = true) (hdg : decode cc pc = .ok (.ldc_w index, 3)) (k : W p l e R s m args below meth c H locs cells slots Q (F0 m (pc + 3) ls (.int (zI v) :: rest))) : W p l e R s m args below meth c H locs cells slots Q (F0 m pc ls rest) := lv_ldcw hx hb hown hconst hdg k
theorem zl_icmp_lt (hx : p.tables.exec = Jvm.exec) (hb : c.code = cc) {x y : Int} {off : Int} {tgt : Nat} (hdg : decode cc pc = .ok (.if_icmp .lt off, 3)) (ht : (pc : Int) + off = (tgt : Int)) (k1 : zI x < zI y → W p l e R s m args below meth c H locs cells slots Q (F0 m tgt ls rest)) (k2 : ¬ zI x < zI y → W p l e R s m args below meth c H locs cells slots Q (F0 m (pc + 3) ls rest)) : W p l e R s m args below meth c H locs cells slots Q (F0 m pc ls (.int (zI y) :: .int (zI x) :: rest)) := lv_icmp_lt hx hb hdg ht k1 k2
theorem zl_icmp_ge (hx : p.tables.exec = Jvm.exec) (hb : c.code = cc) {x y : Int} {off : Int} {tgt : Nat} (hdg : decode cc pc = .ok (.if_icmp .ge off, 3)) (ht : (pc : Int) + off = (tgt : Int)) (k1 : zI x < zI y → W p l e R s m args below meth c H locs cells slots Q (F0 m (pc + 3) ls rest)) (k2 : ¬ zI x < zI y → W p l e R s m args below meth c H locs cells slots Q (F0 m tgt ls rest)) : W p l e R s m args below meth c H locs cells slots Q (F0 m pc ls (.int (zI y) :: .int (zI x) :: rest)) := lv_icmp_ge hx hb hdg ht (fun h => k2 (Int32.not_lt.mpr h)) (fun h => k1 (Int32.not_le.mp h))
theorem zl_icmp_gt (hx : p.tables.exec = Jvm.exec) (hb : c.code = cc) {x y : Int} {off : Int} {tgt : Nat} (hdg : decode cc pc = .ok (.if_icmp .gt off, 3)) (ht : (pc : Int) + off = (tgt : Int)) (k1 : zI y < zI x → W p l e R s m args below meth c H locs cells slots Q (F0 m tgt ls rest)) (k2 : ¬ zI y < zI x → W p l e R s m args below meth c H locs cells slots Q (F0 m (pc + 3) ls rest)) : W p l e R s m args below meth c H locs cells slots Q (F0 m pc ls (.int (zI y) :: .int (zI x) :: rest)) := lv_icmp_gt hx hb hdg ht k1 k2
theorem zl_icmp_le (hx : p.tables.exec = Jvm.exec) (hb : c.code = cc) {x y : Int} {off : Int} {tgt : Nat} (hdg : decode cc pc = .ok (.if_icmp .le off, 3)) (ht : (pc : Int) + off = (tgt : Int)) (k1 : zI y < zI x → W p l e R s m args below meth c H locs cells slots Q (F0 m (pc + 3) ls rest)) (k2 : ¬ zI y < zI x → W p l e R s m args below meth c H locs cells slots Q (F0 m tgt ls rest)) : W p l e R s m args below meth c H locs cells slots Q (F0 m pc ls (.int (zI y) :: .int (zI x) :: rest)) := lv_icmp_le hx hb hdg ht (fun h => k2 (Int32.not_lt.mpr h)) (fun h => k1 (Int32.not_le.mp h))
theorem zl_icmp_eq (hx : p.tables.exec = Jvm.exec) (hb : c.code = cc) {x y : Int} {off : Int} {tgt : Nat} (hdg : decode cc pc = .ok (.if_icmp .eq off, 3)) (ht : (pc : Int) + off = (tgt : Int)) (k1 : zI x = zI y → W p l e R s m args below meth c H locs cells slots Q (F0 m tgt ls rest)) (k2 : ¬ zI x = zI y → W p l e R s m args below meth c H locs cells slots Q (F0 m (pc + 3) ls rest)) : W p l e R s m args below meth c H locs cells slots Q (F0 m pc ls (.int (zI y) :: .int (zI x) :: rest)) := lv_icmp_eq hx hb hdg ht k1 k2
theorem zl_icmp_ne (hx : p.tables.exec = Jvm.exec) (hb : c.code = cc) {x y : Int} {off : Int} {tgt : Nat} (hdg : decode cc pc = .ok (.if_icmp .ne off, 3)) (ht : (pc : Int) + off = (tgt : Int)) (k1 : zI x = zI y → W p l e R s m args below meth c H locs cells slots Q (F0 m (pc + 3) ls rest)) (k2 : ¬ zI x = zI y → W p l e R s m args below meth c H locs cells slots Q (F0 m tgt ls rest)) : W p l e R s m args below meth c H locs cells slots Q (F0 m pc ls (.int (zI y) :: .int (zI x) :: rest)) := lv_icmp_ne hx hb hdg ht k2 k1
theorem zl_if_lt (hx : p.tables.exec = Jvm.exec) (hb : c.code = cc) {x : Int} {off : Int} {tgt : Nat} (hdg : decode cc pc = .ok (.ifCond .lt off, 3)) (ht : (pc : Int) + off = (tgt : Int)) (k1 : zI x < zI 0 → W p l e R s m args below meth c H locs cells slots Q (F0 m tgt ls rest)) (k2 : ¬ zI x < zI 0 → W p l e R s m args below meth c H locs cells slots Q (F0 m (pc + 3) ls rest)) : W p l e R s m args below meth c H locs cells slots Q (F0 m pc ls (.int (zI x) :: rest)) := lv_if_lt hx hb hdg ht k1 k2
theorem zl_if_ge (hx : p.tables.exec = Jvm.exec) (hb : c.code = cc) {x : Int} {off : Int} {tgt : Nat} (hdg : decode cc pc = .ok (.ifCond .ge off, 3)) (ht : (pc : Int) + off = (tgt : Int)) (k1 : zI x < zI 0 → W p l e R s m args below meth c H locs cells slots Q (F0 m (pc + 3) ls rest)) (k2 : ¬ zI x < zI 0 → W p l e R s m args below meth c H locs cells slots Q (F0 m tgt ls rest)) : W p l e R s m args below meth c H locs cells slots Q (F0 m pc ls (.int (zI x) :: rest)) := lv_if_ge hx hb hdg ht (fun h => k2 (Int32.not_lt.mpr h)) (fun h => k1 (Int32.not_le.mp h))
theorem zl_if_gt (hx : p.tables.exec = Jvm.exec) (hb : c.code = cc) {x : Int} {off : Int} {tgt : Nat} (hdg : decode cc pc = .ok (.ifCond .gt off, 3)) (ht : (pc : Int) + off = (tgt : Int)) (k1 : zI 0 < zI x → W p l e R s m args below meth c H locs cells slots Q (F0 m tgt ls rest)) (k2 : ¬ zI 0 < zI x → W p l e R s m args below meth c H locs cells slots Q (F0 m (pc + 3) ls rest)) : W p l e R s m args below meth c H locs cells slots Q (F0 m pc ls (.int (zI x) :: rest)) := lv_if_gt hx hb hdg ht k1 k2
theorem zl_if_le (hx : p.tables.exec = Jvm.exec) (hb : c.code = cc) {x : Int} {off : Int} {tgt : Nat} (hdg : decode cc pc = .ok (.ifCond .le off, 3)) (ht : (pc : Int) + off = (tgt : Int)) (k1 : zI 0 < zI x → W p l e R s m args below meth c H locs cells slots Q (F0 m (pc + 3) ls rest)) (k2 : ¬ zI 0 < zI x → W p l e R s m args below meth c H locs cells slots Q (F0 m tgt ls rest)) : W p l e R s m args below meth c H locs cells slots Q (F0 m pc ls (.int (zI x) :: rest)) := lv_if_le hx hb hdg ht (fun h => k2 (Int32.not_lt.mpr h)) (fun h => k1 (Int32.not_le.mp h))
theorem zl_if_eq (hx : p.tables.exec = Jvm.exec) (hb : c.code = cc) {x : Int} {off : Int} {tgt : Nat} (hdg : decode cc pc = .ok (.ifCond .eq off, 3)) (ht : (pc : Int) + off = (tgt : Int)) (k1 : zI x = zI 0 → W p l e R s m args below meth c H locs cells slots Q (F0 m tgt ls rest)) (k2 : ¬ zI x = zI 0 → W p l e R s m args below meth c H locs cells slots Q (F0 m (pc + 3) ls rest)) : W p l e R s m args below meth c H locs cells slots Q (F0 m pc ls (.int (zI x) :: rest)) := lv_if_eq hx hb hdg ht k1 k2
theorem zl_if_ne (hx : p.tables.exec = Jvm.exec) (hb : c.code = cc) {x : Int} {off : Int} {tgt : Nat} (hdg : decode cc pc = .ok (.ifCond .ne off, 3)) (ht : (pc : Int) + off = (tgt : Int)) (k1 : zI x = zI 0 → W p l e R s m args below meth c H locs cells slots Q (F0 m (pc + 3) ls rest)) (k2 : ¬ zI x = zI 0 → W p l e R s m args below meth c H locs cells slots Q (F0 m tgt ls rest)) : W p l e R s m args below meth c H locs cells slots Q (F0 m pc ls (.int (zI x) :: rest)) := lv_if_ne hx hb hdg ht k2 k1
theorem zl_top {x y : Int} (h : y = x) (k : W p l e R s m args below meth c H locs cells slots Q (F0 m pc ls (.int (zI y) :: rest))) : W p l e R s m args below meth c H locs cells slots Q (F0 m pc ls (.int (zI x) :: rest)) := by subst h; exact k
end ZL
/-! the reference's world: scalars by field, arrays by field -/
abbrev MS : Type := (Nat → Int) × (Nat → Nat → Int)
def sI (M : MS) (k : Nat) (v : Int) : MS := (va_up M.1 k v, M.2)
def sA (M : MS) (k i : Nat) (v : Int) : MS := (M.1, va_up M.2 k (va_up (M.2 k) i v))
def mAr : List Nat := [0, 1, 0, 1, 0, 0, 1, 0, 1, 1, 1, 1, 1, 0, 1, 1, 0, 0, 1, 1, 0, 0, 0, 1, 1, 2, 1, 1, 1, 1, 1, 1, 0, 1, 2, 1, 1, 0, 0, 0, 2, 2, 1, 1, 1, 1, 1, 2, 1, 1, 1, 1, 0, 0, 0, 0, 0, 0]
def mBo : List Nat := [0, 0, 0, 0, 1, 0, 0, 0, 0, 0, 0, 0, 0, 0, 0, 0, 0, 0, 0, 0, 0, 0, 0, 0, 0, 0, 0, 0, 0, 0, 0, 0, 0, 0, 0, 0, 0, 1, 0, 0, 0, 0, 0, 0, 0, 0, 0, 0, 0, 0, 0, 0, 0, 0, 0, 0, 0, 1]
def mLn : List Nat := [0, 160, 0, 120, 0, 0, 40, 0, 40, 40, 40, 40, 40, 0, 40, 40, 0, 0, 160, 160, 0, 0, 0, 48, 48, 48, 12, 12, 12, 12, 12, 120, 0, 40, 200, 280, 280, 0, 0, 0, 40, 40, 40, 40, 40, 40, 40, 160, 160, 160, 160, 200, 0, 0, 0, 0, 0, 0]
