/-! bits of the pure machine as numbers -/
set_option maxRecDepth 100000
set_option maxHeartbeats 4000000
theorem b32_nat (x : Int) : (Int32.ofInt x).toBitVec.toNat = (x % 4294967296).toNat := by
  rw [Int32.toBitVec_ofInt, BitVec.toNat_ofInt]; rfl
theorem b64_nat (x : Int) : (Int64.ofInt x).toBitVec.toNat = (x % 18446744073709551616).toNat := by
  rw [Int64.toBitVec_ofInt, BitVec.toNat_ofInt]; rfl
theorem b32_small {v : Int32} (h : v.toBitVec.toNat < 2147483648) : v.toInt = (v.toBitVec.toNat : Int) := by
  rw [← Int32.toInt_toBitVec, BitVec.toInt_eq_toNat_of_lt (by omega)]
theorem b64_small {v : Int64} (h : v.toBitVec.toNat < 9223372036854775808) : v.toInt = (v.toBitVec.toNat : Int) := by
  rw [← Int64.toInt_toBitVec, BitVec.toInt_eq_toNat_of_lt (by omega)]
theorem pAnd_pow {x y : Int} (k : Nat) (hk : k < 32) (hy : y = ((2 ^ k - 1 : Nat) : Int)) : pAnd x y = x % ((2 ^ k : Nat) : Int) := by
  have hp : (2 : Nat) ^ k ≤ 2 ^ 31 := Nat.pow_le_pow_right (by decide) (by omega)
  have hp0 : 0 < (2 : Nat) ^ k := Nat.pow_pos (by decide)
  have e : (Int32.ofInt x &&& Int32.ofInt y).toBitVec.toNat = (x % 4294967296).toNat % 2 ^ k := by
    rw [Int32.toBitVec_and, BitVec.toNat_and, b32_nat, b32_nat]
    have : (y % 4294967296).toNat = 2 ^ k - 1 := by subst hy; omega
    rw [this, Nat.and_two_pow_sub_one_eq_mod]
  have hlt : (x % 4294967296).toNat % 2 ^ k < 2 ^ k := Nat.mod_lt _ hp0
  unfold pAnd
  rw [b32_small (by rw [e]; omega), e, Int.natCast_emod, Int.toNat_of_nonneg (by omega)]
  apply Int.emod_emod_of_dvd
  have : ((4294967296 : Int)) = ((2 ^ k : Nat) : Int) * ((2 ^ (32 - k) : Nat) : Int) := by
    rw [← Int.natCast_mul, ← Nat.pow_add, show k + (32 - k) = 32 by omega]; rfl
  rw [this]; exact Int.dvd_mul_right _ _
theorem pAnd_255 (x : Int) : pAnd x 255 = x % 256 := pAnd_pow 8 (by decide) rfl
theorem pAnd_127 (x : Int) : pAnd x 127 = x % 128 := pAnd_pow 7 (by decide) rfl
theorem pAnd_63 (x : Int) : pAnd x 63 = x % 64 := pAnd_pow 6 (by decide) rfl
theorem pAnd_31 (x : Int) : pAnd x 31 = x % 32 := pAnd_pow 5 (by decide) rfl
theorem pAnd_15 (x : Int) : pAnd x 15 = x % 16 := pAnd_pow 4 (by decide) rfl
theorem pAnd_1 (x : Int) : pAnd x 1 = x % 2 := pAnd_pow 1 (by decide) rfl
theorem qAnd_pow {x y : Int} (k : Nat) (hk : k < 64) (hy : y = ((2 ^ k - 1 : Nat) : Int)) : qAnd x y = x % ((2 ^ k : Nat) : Int) := by
  have hp : (2 : Nat) ^ k ≤ 2 ^ 63 := Nat.pow_le_pow_right (by decide) (by omega)
  have hp0 : 0 < (2 : Nat) ^ k := Nat.pow_pos (by decide)
  have e : (Int64.ofInt x &&& Int64.ofInt y).toBitVec.toNat = (x % 18446744073709551616).toNat % 2 ^ k := by
    rw [Int64.toBitVec_and, BitVec.toNat_and, b64_nat, b64_nat]
    have : (y % 18446744073709551616).toNat = 2 ^ k - 1 := by subst hy; omega
    rw [this, Nat.and_two_pow_sub_one_eq_mod]
  have hlt : (x % 18446744073709551616).toNat % 2 ^ k < 2 ^ k := Nat.mod_lt _ hp0
  unfold qAnd
  rw [b64_small (by rw [e]; omega), e, Int.natCast_emod, Int.toNat_of_nonneg (by omega)]
  apply Int.emod_emod_of_dvd
  have : ((18446744073709551616 : Int)) = ((2 ^ k : Nat) : Int) * ((2 ^ (64 - k) : Nat) : Int) := by
    rw [← Int.natCast_mul, ← Nat.pow_add, show k + (64 - k) = 64 by omega]; rfl
  rw [this]; exact Int.dvd_mul_right _ _
theorem qAnd_255 (x : Int) : qAnd x 255 = x % 256 := qAnd_pow 8 (by decide) rfl
theorem qAnd_127 (x : Int) : qAnd x 127 = x % 128 := qAnd_pow 7 (by decide) rfl
theorem qAnd_1 (x : Int) : qAnd x 1 = x % 2 := qAnd_pow 1 (by decide) rfl
theorem pOr_add {a b : Int} (k : Nat) (ha : 0 ≤ a) (hb : 0 ≤ b) (hb2 : b < ((2 ^ k : Nat) : Int)) (hs : a * ((2 ^ k : Nat) : Int) + b < 2147483648) : pOr (a * ((2 ^ k : Nat) : Int)) b = a * ((2 ^ k : Nat) : Int) + b := by
  obtain ⟨p, hp⟩ : ∃ p : Nat, 2 ^ k = p := ⟨_, rfl⟩
  obtain ⟨a', rfl⟩ := Int.eq_ofNat_of_zero_le ha
  obtain ⟨b', rfl⟩ := Int.eq_ofNat_of_zero_le hb
  have hm : 0 ≤ (a' : Int) * ((2 ^ k : Nat) : Int) := Int.mul_nonneg ha (by omega)
  have e : (Int32.ofInt ((a' : Int) * ((2 ^ k : Nat) : Int)) ||| Int32.ofInt (b' : Int)).toBitVec.toNat = a' * 2 ^ k + b' := by
    rw [Int32.toBitVec_or, BitVec.toNat_or, b32_nat, b32_nat, Int.emod_eq_of_lt hm (by omega), Int.emod_eq_of_lt hb (by omega), ← Int.natCast_mul, Int.toNat_natCast, Int.toNat_natCast, Nat.mul_comm, Nat.two_pow_add_eq_or_of_lt (by omega)]
  unfold pOr
  rw [b32_small (by rw [e]; rw [← Int.natCast_mul] at hs; omega), e]
  rw [Int.natCast_add, Int.natCast_mul]
theorem qOr_add {a b : Int} (k : Nat) (ha : 0 ≤ a) (hb : 0 ≤ b) (hb2 : b < ((2 ^ k : Nat) : Int)) (hs : a * ((2 ^ k : Nat) : Int) + b < 9223372036854775808) : qOr b (a * ((2 ^ k : Nat) : Int)) = a * ((2 ^ k : Nat) : Int) + b := by
  obtain ⟨a', rfl⟩ := Int.eq_ofNat_of_zero_le ha
  obtain ⟨b', rfl⟩ := Int.eq_ofNat_of_zero_le hb
  have hm : 0 ≤ (a' : Int) * ((2 ^ k : Nat) : Int) := Int.mul_nonneg ha (by omega)
  have e : (Int64.ofInt (b' : Int) ||| Int64.ofInt ((a' : Int) * ((2 ^ k : Nat) : Int))).toBitVec.toNat = a' * 2 ^ k + b' := by
    rw [Int64.toBitVec_or, BitVec.toNat_or, b64_nat, b64_nat, Int.emod_eq_of_lt hm (by omega), Int.emod_eq_of_lt hb (by omega), ← Int.natCast_mul, Int.toNat_natCast, Int.toNat_natCast, Nat.or_comm, Nat.mul_comm, Nat.two_pow_add_eq_or_of_lt (by omega)]
  unfold qOr
  rw [b64_small (by rw [e]; rw [← Int.natCast_mul] at hs; omega), e]
  rw [Int.natCast_add, Int.natCast_mul]
theorem sl32 : ∀ n : Nat, n < 32 → ((Int32.ofInt (n : Int) &&& 31).toBitVec.smod 32).toNat = n := by decide +kernel
theorem su32 : ∀ n : Nat, n < 32 → (((Int32.ofInt (n : Int)).toUInt32 &&& Int32.toUInt32 31).toBitVec % 32).toNat = n := by decide +kernel
theorem sl64 : ∀ n : Nat, n < 64 → (((Int32.ofInt (n : Int)).toInt64 &&& 63).toBitVec.smod 64).toNat = n := by decide +kernel
theorem su64 : ∀ n : Nat, n < 64 → (((Int32.ofInt (n : Int)).toInt64.toUInt64 &&& Int64.toUInt64 63).toBitVec % 64).toNat = n := by decide +kernel
theorem pShl_mul {x : Int} (k : Nat) (hk : k < 32) (hx : 0 ≤ x) (hs : x * ((2 ^ k : Nat) : Int) < 2147483648) : pShl x (k : Int) = x * ((2 ^ k : Nat) : Int) := by
  obtain ⟨a, rfl⟩ := Int.eq_ofNat_of_zero_le hx
  have hp0 : 0 < (2 : Nat) ^ k := Nat.pow_pos (by decide)
  have h1 : a * 2 ^ k < 2147483648 := by rw [← Int.natCast_mul] at hs; omega
  have h2 : a ≤ a * 2 ^ k := Nat.le_mul_of_pos_right _ hp0
  have e : (Int32.ofInt (a : Int) <<< (Int32.ofInt (k : Int) &&& 31)).toBitVec.toNat = a * 2 ^ k := by
    rw [Int32.toBitVec_shiftLeft]
    show ((Int32.ofInt (a : Int)).toBitVec <<< ((Int32.ofInt (k : Int) &&& 31).toBitVec.smod 32).toNat).toNat = _
    rw [sl32 k hk, BitVec.toNat_shiftLeft, b32_nat, Nat.shiftLeft_eq, Int.emod_eq_of_lt (by omega) (by omega), Int.toNat_natCast, Nat.mod_eq_of_lt (by omega)]
  unfold pShl
  rw [b32_small (by rw [e]; exact h1), e, Int.natCast_mul]
theorem qShl_mul {x : Int} (k : Nat) (hk : k < 64) (hx : 0 ≤ x) (hs : x * ((2 ^ k : Nat) : Int) < 9223372036854775808) : qShl x (k : Int) = x * ((2 ^ k : Nat) : Int) := by
  obtain ⟨a, rfl⟩ := Int.eq_ofNat_of_zero_le hx
  have hp0 : 0 < (2 : Nat) ^ k := Nat.pow_pos (by decide)
  have h1 : a * 2 ^ k < 9223372036854775808 := by rw [← Int.natCast_mul] at hs; omega
  have h2 : a ≤ a * 2 ^ k := Nat.le_mul_of_pos_right _ hp0
  have e : (Int64.ofInt (a : Int) <<< ((Int32.ofInt (k : Int)).toInt64 &&& 63)).toBitVec.toNat = a * 2 ^ k := by
    rw [Int64.toBitVec_shiftLeft]
    show ((Int64.ofInt (a : Int)).toBitVec <<< (((Int32.ofInt (k : Int)).toInt64 &&& 63).toBitVec.smod 64).toNat).toNat = _
    rw [sl64 k hk, BitVec.toNat_shiftLeft, b64_nat, Nat.shiftLeft_eq, Int.emod_eq_of_lt (by omega) (by omega), Int.toNat_natCast, Nat.mod_eq_of_lt (by omega)]
  unfold qShl
  rw [b64_small (by rw [e]; exact h1), e, Int.natCast_mul]
theorem pShr_div {x : Int} (k : Nat) (hk : k < 32) (hx : pin x (-2147483648) 2147483648) : pShr x (k : Int) = x / ((2 ^ k : Nat) : Int) := by
  unfold pShr
  rw [← Int32.toInt_toBitVec, Int32.toBitVec_shiftRight]
  show ((Int32.ofInt x).toBitVec.sshiftRight ((Int32.ofInt (k : Int) &&& 31).toBitVec.smod 32).toNat).toInt = _
  rw [sl32 k hk, BitVec.toInt_sshiftRight, Int32.toInt_toBitVec, i32_back hx, Int.shiftRight_eq_div_pow]
theorem qShr_div {x : Int} (k : Nat) (hk : k < 64) (hx : pin x (-9223372036854775808) 9223372036854775808) : qShr x (k : Int) = x / ((2 ^ k : Nat) : Int) := by
  unfold qShr
  rw [← Int64.toInt_toBitVec, Int64.toBitVec_shiftRight]
  show ((Int64.ofInt x).toBitVec.sshiftRight (((Int32.ofInt (k : Int)).toInt64 &&& 63).toBitVec.smod 64).toNat).toInt = _
  rw [sl64 k hk, BitVec.toInt_sshiftRight, Int64.toInt_toBitVec, i64_back hx, Int.shiftRight_eq_div_pow]
theorem pUshr_nat {x : Int} (k : Nat) (hk : k < 32) : ((Int32.ofInt x).toUInt32 >>> ((Int32.ofInt (k : Int)).toUInt32 &&& Int32.toUInt32 31)).toInt32.toBitVec.toNat = (x % 4294967296).toNat / 2 ^ k := by
  show ((Int32.ofInt x).toUInt32 >>> ((Int32.ofInt (k : Int)).toUInt32 &&& Int32.toUInt32 31)).toBitVec.toNat = _
  rw [UInt32.toBitVec_shiftRight]
  show ((Int32.ofInt x).toUInt32.toBitVec >>> (((Int32.ofInt (k : Int)).toUInt32 &&& Int32.toUInt32 31).toBitVec % 32).toNat).toNat = _
  rw [su32 k hk, BitVec.toNat_ushiftRight, Nat.shiftRight_eq_div_pow]
  show (Int32.ofInt x).toBitVec.toNat / 2 ^ k = _
  rw [b32_nat]
theorem qUshr_nat {x : Int} (k : Nat) (hk : k < 64) : ((Int64.ofInt x).toUInt64 >>> ((Int32.ofInt (k : Int)).toInt64.toUInt64 &&& Int64.toUInt64 63)).toInt64.toBitVec.toNat = (x % 18446744073709551616).toNat / 2 ^ k := by
  show ((Int64.ofInt x).toUInt64 >>> ((Int32.ofInt (k : Int)).toInt64.toUInt64 &&& Int64.toUInt64 63)).toBitVec.toNat = _
  rw [UInt64.toBitVec_shiftRight]
  show ((Int64.ofInt x).toUInt64.toBitVec >>> (((Int32.ofInt (k : Int)).toInt64.toUInt64 &&& Int64.toUInt64 63).toBitVec % 64).toNat).toNat = _
  rw [su64 k hk, BitVec.toNat_ushiftRight, Nat.shiftRight_eq_div_pow]
  show (Int64.ofInt x).toBitVec.toNat / 2 ^ k = _
  rw [b64_nat]
theorem qUshr_div {x : Int} (k : Nat) (hk : k < 64) (hx : 0 ≤ x) (hx2 : x < 9223372036854775808) : qUshr x (k : Int) = x / ((2 ^ k : Nat) : Int) := by
  obtain ⟨a, rfl⟩ := Int.eq_ofNat_of_zero_le hx
  have e := qUshr_nat (x := (a : Int)) k hk
  rw [Int.emod_eq_of_lt (by omega) (by omega), Int.toNat_natCast] at e
  have hle : a / 2 ^ k ≤ a := Nat.div_le_self _ _
  unfold qUshr
  rw [b64_small (by rw [e]; omega), e]
  simp
theorem qXor_zero (x : Int) (hx : pin x (-9223372036854775808) 9223372036854775808) : qXor x 0 = x := by
  unfold qXor
  rw [show Int64.ofInt 0 = 0 from rfl, Int64.xor_zero, i64_back hx]
theorem qXor_m1 (x : Int) (hx : pin x (-9223372036854775808) 9223372036854775808) : qXor x (-1) = -x - 1 := by
  unfold qXor
  have e : Int64.ofInt x ^^^ Int64.ofInt (-1) = ~~~ (Int64.ofInt x) := by
    rw [show Int64.ofInt (-1) = -1 from rfl, Int64.xor_neg_one]
  rw [e, Int64.toInt_not, i64_back hx]
  rw [Int.bmod_def]
  unfold pin at hx
  omega
theorem w32_of {z : Int} (h : -2147483648 ≤ z) (h' : z < 2147483648) : w32 z = z := w32_id ⟨h, h'⟩
theorem w64_of {z : Int} (h : -9223372036854775808 ≤ z) (h' : z < 9223372036854775808) : w64 z = z := w64_id ⟨h, h'⟩
theorem w8_of {z : Int} (h : -128 ≤ z) (h' : z < 128) : w8 z = z := by unfold w8; omega
theorem w8_w8 (z : Int) : w8 (w8 z) = w8 z := by unfold w8; omega
theorem two_eq (x y : Int) : pOr (pShl (pAnd x 255) 8) (pAnd y 255) = 256 * (x % 256) + y % 256 := by
  rw [pAnd_255, pAnd_255]
  have h1 : pShl (x % 256) 8 = (x % 256) * ((2 ^ 8 : Nat) : Int) := pShl_mul 8 (by decide) (by omega) (by simp; omega)
  rw [h1, pOr_add 8 (by omega) (by omega) (by simp; omega) (by simp; omega)]
  simp; omega
