theorem bl_shl8 (v : Nat) (hv : v < 2 ^ 55) : am_lshl (v : Int) 8 = ((v * 256 : Nat) : Int) := by
  unfold am_lshl
  have e : ((Int32.ofInt 8).toInt64 &&& 63) = (8 : Int64) := by decide
  rw [e]
  have e2 : (Int64.ofInt (v : Int) <<< (8 : Int64)).toBitVec = BitVec.ofNat 64 v <<< 8 := by
    rw [Int64.toBitVec_shiftLeft]
    rfl
  show (Int64.ofInt (v : Int) <<< (8 : Int64)).toBitVec.toInt = _
  rw [e2, BitVec.toInt_eq_toNat_of_lt]
  · rw [BitVec.toNat_shiftLeft, BitVec.toNat_ofNat, Nat.mod_eq_of_lt (show v < 2 ^ 64 by omega), Nat.shiftLeft_eq, Nat.mod_eq_of_lt (by omega)]
  · rw [BitVec.toNat_shiftLeft, BitVec.toNat_ofNat, Nat.mod_eq_of_lt (show v < 2 ^ 64 by omega), Nat.shiftLeft_eq, Nat.mod_eq_of_lt (by omega)]
    omega
theorem bl_or (v x : Nat) (hv : v < 2 ^ 55) (hx : x < 256) : am_lorL ((v * 256 : Nat) : Int) (x : Int) = ((v * 256 + x : Nat) : Int) := by
  unfold am_lorL
  have e2 : (Int64.ofInt ((v * 256 : Nat) : Int) ||| Int64.ofInt (x : Int)).toBitVec = BitVec.ofNat 64 (v * 256) ||| BitVec.ofNat 64 x := by
    rw [Int64.toBitVec_or]
    rfl
  show (Int64.ofInt ((v * 256 : Nat) : Int) ||| Int64.ofInt (x : Int)).toBitVec.toInt = _
  have e3 : (BitVec.ofNat 64 (v * 256) ||| BitVec.ofNat 64 x).toNat = v * 256 + x := by
    rw [BitVec.toNat_or, BitVec.toNat_ofNat, BitVec.toNat_ofNat, Nat.mod_eq_of_lt (by omega), Nat.mod_eq_of_lt (by omega)]
    have := Nat.two_pow_add_eq_or_of_lt (i := 8) (b := x) hx v
    rw [show v * 256 = 2 ^ 8 * v by omega]
    exact this.symm
  rw [e2, BitVec.toInt_eq_toNat_of_lt]
  · rw [e3]
  · rw [e3]
    omega
theorem bl_and (y : Int) : 0 ≤ am_l2i (am_landL y 255) ∧ am_l2i (am_landL y 255) ≤ 255 := by
  have e2 : ∀ y : Int, am_landL y 255 = (((BitVec.ofInt 64 y &&& 255#64).toNat : Nat) : Int) := by
    intro y
    show (Int64.ofInt y &&& Int64.ofInt 255).toBitVec.toInt = _
    rw [Int64.toBitVec_and]
    have e3 : (Int64.ofInt y).toBitVec &&& (Int64.ofInt 255).toBitVec = BitVec.ofInt 64 y &&& 255#64 := rfl
    rw [e3, BitVec.toInt_eq_toNat_of_lt]
    rw [BitVec.toNat_and]
    have := Nat.and_le_right (n := (BitVec.ofInt 64 y).toNat) (m := (255#64).toNat)
    have h255 : (255#64).toNat = 255 := rfl
    rw [h255] at this ⊢
    omega
  have hn : (BitVec.ofInt 64 y &&& 255#64).toNat ≤ 255 := by
    rw [BitVec.toNat_and]
    exact Nat.and_le_right
  rw [e2]
  generalize (BitVec.ofInt 64 y &&& 255#64).toNat = k at hn
  unfold am_l2i
  have e4 : (Int64.ofInt (k : Int)).toInt32.toInt = (k : Int) := by
    rw [Int64.toInt_toInt32, am_ti64 ⟨by omega, by omega⟩]
    exact Int.bmod_eq_of_le (by omega) (by omega)
  rw [e4]
  omega
