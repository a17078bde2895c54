/-! the page: a place is two numbers in one -/
set_option maxRecDepth 100000
theorem zI_bv (A : Nat) : (zI (A : Int)).toBitVec = BitVec.ofNat 32 A := by
  unfold zI
  rw [Int32.toBitVec_ofInt, BitVec.ofInt_natCast]
theorem zand_16 {X Y : Nat} (hX : X < 65536) (hY : Y < 32768) : zand ((X : Int) + 65536 * (Y : Int)) 65535 = X := by
  have e0 : (X : Int) + 65536 * (Y : Int) = ((X + 65536 * Y : Nat) : Int) := by omega
  have e9 : (65535 : Int) = ((65535 : Nat) : Int) := rfl
  rw [e0, e9]
  unfold zand
  show ((zI ((X + 65536 * Y : Nat) : Int)).toBitVec &&& (zI ((65535 : Nat) : Int)).toBitVec).toInt = _
  rw [zI_bv, zI_bv, BitVec.toInt_eq_toNat_cond, BitVec.toNat_and, BitVec.toNat_ofNat, BitVec.toNat_ofNat]
  have e1 : (X + 65536 * Y) % 2 ^ 32 = X + 65536 * Y := Nat.mod_eq_of_lt (by omega)
  have e2 : 65535 % 2 ^ 32 = 2 ^ 16 - 1 := by decide
  rw [e1, e2, Nat.and_two_pow_sub_one_eq_mod]
  have e3 : (X + 65536 * Y) % 2 ^ 16 = X := by omega
  rw [e3, if_pos (by omega)]
theorem zshr_16 {X Y : Nat} (hX : X < 65536) (hY : Y < 32768) : zshr ((X : Int) + 65536 * (Y : Int)) 16 = Y := by
  have e0 : (X : Int) + 65536 * (Y : Int) = ((X + 65536 * Y : Nat) : Int) := by omega
  have e9 : (zI 16 &&& 31) = 16 := by decide
  rw [e0]
  unfold zshr
  rw [e9]
  show ((zI ((X + 65536 * Y : Nat) : Int)) >>> 16).toBitVec.toInt = _
  rw [Int32.toBitVec_shiftRight, zI_bv]
  have e8 : (16 : Int32).toBitVec.smod 32 = 16#32 := by decide
  rw [e8]
  show (BitVec.sshiftRight (BitVec.ofNat 32 (X + 65536 * Y)) (16#32).toNat).toInt = _
  rw [BitVec.toInt_sshiftRight, BitVec.toInt_eq_toNat_cond, BitVec.toNat_ofNat]
  have e1 : (X + 65536 * Y) % 2 ^ 32 = X + 65536 * Y := Nat.mod_eq_of_lt (by omega)
  rw [e1, if_pos (by omega)]
  have e2 : (16#32).toNat = 16 := rfl
  rw [e2, Int.shiftRight_eq_div_pow]
  omega
theorem zi2b_s {c : Int} (h1 : 0 ≤ c) (h2 : c < 128) : zi2b c = c := by
  have := zi2b_n c.toNat (by omega)
  rw [if_pos (by omega), show ((c.toNat : Nat) : Int) = c by omega] at this
  exact this
