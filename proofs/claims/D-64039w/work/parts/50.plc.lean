/-! deps: none -/
/-! ===== PLACE: a cell and a key in one long ===== -/
def plc (c k : Int32) : Int64 := (c.toInt64 <<< ((32 : Int32).toInt64 &&& 63)) ||| (k.toInt64 + 2147483648)
theorem bv_nn {n : Nat} (x : BitVec n) : (x.toNat : Int) = x.toInt ∨ (x.toNat : Int) = x.toInt + 2 ^ n := by
  rw [BitVec.toInt_eq_toNat_cond]
  split
  · exact Or.inl rfl
  · right; push_cast; omega
theorem plc_toInt (c k : Int32) : (plc c k).toInt = c.toInt * 4294967296 + (k.toInt + 2147483648) := by
  have hk1 := k.minValue_le_toInt
  have hk2 := k.toInt_lt
  have hc1 := c.minValue_le_toInt
  have hc2 := c.toInt_lt
  have hmv : Int32.minValue.toInt = -2147483648 := by decide
  rw [hmv] at hk1 hc1
  have h1 : ((32 : Int32).toInt64 &&& 63) = 32 := by decide
  have hy : (k.toInt64 + 2147483648).toInt = k.toInt + 2147483648 := by
    rw [Int64.toInt_add, Int32.toInt_toInt64, show (2147483648 : Int64).toInt = 2147483648 from by decide]
    rw [Int.bmod_eq_of_le] <;> omega
  have hX : c.toInt64.toBitVec.toInt = c.toInt := Int32.toInt_toInt64 c
  have hY : (k.toInt64 + 2147483648).toBitVec.toInt = k.toInt + 2147483648 := hy
  have nX := bv_nn c.toInt64.toBitVec
  have nY := bv_nn (k.toInt64 + 2147483648).toBitVec
  have lY := (k.toInt64 + 2147483648).toBitVec.isLt
  have lX := c.toInt64.toBitVec.isLt
  rw [hX] at nX
  rw [hY] at nY
  have hYn : ((k.toInt64 + 2147483648).toBitVec.toNat : Int) = k.toInt + 2147483648 := by omega
  have hlt : (k.toInt64 + 2147483648).toBitVec.toNat < 2 ^ 32 := by omega
  unfold plc
  rw [h1]
  show ((c.toInt64 <<< 32) ||| (k.toInt64 + 2147483648)).toBitVec.toInt = _
  rw [Int64.toBitVec_or, Int64.toBitVec_shiftLeft, show (32 : Int64).toBitVec.smod 64 = (32 : BitVec 64) from by decide]
  have e : (c.toInt64.toBitVec <<< (32 : BitVec 64) ||| (k.toInt64 + 2147483648).toBitVec).toNat = (c.toInt64.toBitVec.toNat % 2 ^ 32) * 2 ^ 32 + (k.toInt64 + 2147483648).toBitVec.toNat := by
    rw [BitVec.toNat_or, show c.toInt64.toBitVec <<< (32 : BitVec 64) = c.toInt64.toBitVec <<< 32 from rfl, BitVec.toNat_shiftLeft]
    have : c.toInt64.toBitVec.toNat <<< 32 % 2 ^ 64 = (c.toInt64.toBitVec.toNat % 2 ^ 32) <<< 32 := by
      rw [Nat.shiftLeft_eq, Nat.shiftLeft_eq]; omega
    rw [this, ← Nat.shiftLeft_add_eq_or_of_lt hlt, Nat.shiftLeft_eq]
  rw [BitVec.toInt_eq_toNat_cond, e]
  generalize c.toInt64.toBitVec.toNat = X at *
  generalize (k.toInt64 + 2147483648).toBitVec.toNat = Y at *
  split <;> omega
theorem plc_lt (c k c' k' : Int32) : plc c k < plc c' k' ↔ (c < c' ∨ c = c' ∧ k < k') := by
  rw [Int64.lt_iff_toInt_lt, plc_toInt, plc_toInt, Int32.lt_iff_toInt_lt, Int32.lt_iff_toInt_lt, ← Int32.toInt_inj]
  have hk1 := k.minValue_le_toInt
  have hk2 := k.toInt_lt
  have hc1 := k'.minValue_le_toInt
  have hc2 := k'.toInt_lt
  have hmv : Int32.minValue.toInt = -2147483648 := by decide
  rw [hmv] at hk1 hc1
  omega
theorem plc_inj {c k c' k' : Int32} (h : plc c k = plc c' k') : c = c' ∧ k = k' := by
  have := congrArg Int64.toInt h
  rw [plc_toInt, plc_toInt] at this
  have hk1 := k.minValue_le_toInt
  have hk2 := k.toInt_lt
  have hc1 := k'.minValue_le_toInt
  have hc2 := k'.toInt_lt
  have hmv : Int32.minValue.toInt = -2147483648 := by decide
  rw [hmv] at hk1 hc1
  exact ⟨Int32.toInt_inj.mp (by omega), Int32.toInt_inj.mp (by omega)⟩
