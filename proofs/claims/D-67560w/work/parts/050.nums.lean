theorem w32_rng (z : Int) : pin (w32 z) (-2147483648) 2147483648 := by unfold w32 pin; omega
theorem w64_rng (z : Int) : pin (w64 z) (-9223372036854775808) 9223372036854775808 := by unfold w64 pin; omega
theorem w8_rng (z : Int) : pin (w8 z) (-128) 128 := by unfold w8 pin; omega
theorem i32_toInt (z : Int) : (Int32.ofInt z).toInt = w32 z := by
  rw [Int32.toInt_ofInt, Int.bmod_def]
  unfold w32
  simp only [Int32.size]
  omega
theorem i64_toInt (z : Int) : (Int64.ofInt z).toInt = w64 z := by
  rw [Int64.toInt_ofInt, Int.bmod_def]
  unfold w64
  simp only [Int64.size]
  omega
theorem i32_w32 (z : Int) : Int32.ofInt (w32 z) = Int32.ofInt z := by
  rw [← i32_toInt, Int32.ofInt_toInt]
theorem i64_w64 (z : Int) : Int64.ofInt (w64 z) = Int64.ofInt z := by
  rw [← i64_toInt, Int64.ofInt_toInt]
theorem w32_id {z : Int} (h : pin z (-2147483648) 2147483648) : w32 z = z := by unfold w32; unfold pin at h; omega
theorem w64_id {z : Int} (h : pin z (-9223372036854775808) 9223372036854775808) : w64 z = z := by unfold w64; unfold pin at h; omega
theorem i32_back {z : Int} (h : pin z (-2147483648) 2147483648) : (Int32.ofInt z).toInt = z := by rw [i32_toInt, w32_id h]
theorem i64_back {z : Int} (h : pin z (-9223372036854775808) 9223372036854775808) : (Int64.ofInt z).toInt = z := by rw [i64_toInt, w64_id h]
theorem i32_rng (v : Int32) : pin v.toInt (-2147483648) 2147483648 := by
  have h1 := Int32.le_toInt v
  have h2 := Int32.toInt_lt v
  unfold pin; omega
theorem i64_rng (v : Int64) : pin v.toInt (-9223372036854775808) 9223372036854775808 := by
  have h1 := Int64.le_toInt v
  have h2 := Int64.toInt_lt v
  unfold pin; omega
theorem i32_add (x y : Int) : Int32.ofInt (w32 (x + y)) = Int32.ofInt x + Int32.ofInt y := by rw [i32_w32, Int32.ofInt_add]
theorem i32_sub (x y : Int) : Int32.ofInt (w32 (x - y)) = Int32.ofInt x - Int32.ofInt y := by rw [i32_w32, Int32.ofInt_sub]
theorem i32_mul (x y : Int) : Int32.ofInt (w32 (x * y)) = Int32.ofInt x * Int32.ofInt y := by rw [i32_w32, Int32.ofInt_mul]
theorem i64_add (x y : Int) : Int64.ofInt (w64 (x + y)) = Int64.ofInt x + Int64.ofInt y := by rw [i64_w64, Int64.ofInt_add]
theorem i64_sub (x y : Int) : Int64.ofInt (w64 (x - y)) = Int64.ofInt x - Int64.ofInt y := by rw [i64_w64, Int64.ofInt_sub]
theorem i64_mul (x y : Int) : Int64.ofInt (w64 (x * y)) = Int64.ofInt x * Int64.ofInt y := by rw [i64_w64, Int64.ofInt_mul]
theorem i64_neg (x : Int) : Int64.ofInt (w64 (-x)) = - Int64.ofInt x := by rw [i64_w64, Int64.ofInt_neg]
theorem i32_div {x y : Int} (hx : pin x (-2147483648) 2147483648) (hy : pin y (-2147483648) 2147483648) : Int32.ofInt (w32 (x.tdiv y)) = Int32.ofInt x / Int32.ofInt y := by
  rw [i32_w32, ← Int32.toInt_inj, Int32.toInt_div, Int32.toInt_ofInt, i32_back hx, i32_back hy]
theorem i64_div {x y : Int} (hx : pin x (-9223372036854775808) 9223372036854775808) (hy : pin y (-9223372036854775808) 9223372036854775808) : Int64.ofInt (w64 (x.tdiv y)) = Int64.ofInt x / Int64.ofInt y := by
  rw [i64_w64, ← Int64.toInt_inj, Int64.toInt_div, Int64.toInt_ofInt, i64_back hx, i64_back hy]
theorem i32_ne0 {y : Int} (hy : pin y (-2147483648) 2147483648) (h : y ≠ 0) : ¬ Int32.ofInt y = 0 := by
  intro q
  apply h
  have := congrArg Int32.toInt q
  rw [i32_back hy] at this
  simpa using this
theorem i64_ne0 {y : Int} (hy : pin y (-9223372036854775808) 9223372036854775808) (h : y ≠ 0) : ¬ Int64.ofInt y = 0 := by
  intro q
  apply h
  have := congrArg Int64.toInt q
  rw [i64_back hy] at this
  simpa using this
theorem i32_lt {x y : Int} (hx : pin x (-2147483648) 2147483648) (hy : pin y (-2147483648) 2147483648) : Int32.ofInt x < Int32.ofInt y ↔ x < y := by
  rw [Int32.lt_iff_toInt_lt, i32_back hx, i32_back hy]
theorem i32_le {x y : Int} (hx : pin x (-2147483648) 2147483648) (hy : pin y (-2147483648) 2147483648) : Int32.ofInt x ≤ Int32.ofInt y ↔ x ≤ y := by
  rw [Int32.le_iff_toInt_le, i32_back hx, i32_back hy]
theorem i32_eq {x y : Int} (hx : pin x (-2147483648) 2147483648) (hy : pin y (-2147483648) 2147483648) : Int32.ofInt x = Int32.ofInt y ↔ x = y := by
  rw [← Int32.toInt_inj, i32_back hx, i32_back hy]
theorem i64_lcp {x y : Int} (hx : pin x (-9223372036854775808) 9223372036854775808) (hy : pin y (-9223372036854775808) 9223372036854775808) : Int32.ofInt (lcp x y) = lg_cmp (Int64.ofInt x) (Int64.ofInt y) := by
  unfold lcp lg_cmp
  simp only [gt_iff_lt, Int64.lt_iff_toInt_lt, ← Int64.toInt_inj, i64_back hx, i64_back hy]
  split
  · rfl
  · split <;> rfl
theorem i32_i2l {x : Int} (hx : pin x (-2147483648) 2147483648) : (Int32.ofInt x).toInt64 = Int64.ofInt x := by
  rw [← Int64.toInt_inj, Int32.toInt_toInt64, i32_back hx, i64_back (by unfold pin at *; omega)]
theorem i64_l2i (x : Int) : (Int64.ofInt x).toInt32 = Int32.ofInt (w32 x) := by
  rw [i32_w32, Int64.toInt32_ofInt]
theorem i32_i2b (x : Int) : (Int32.ofInt x).toInt8.toInt32 = Int32.ofInt (w8 x) := by
  rw [Int32.toInt8_ofInt, ← Int32.toInt_inj, Int8.toInt_toInt32, Int8.toInt_ofInt, Int.bmod_def, i32_back (by have := w8_rng x; unfold pin at *; omega)]
  unfold w8
  simp only [Int8.size]
  omega
theorem i32_i2c (x : Int) : ((Int32.ofInt x).toUInt32 % 65536).toInt32 = Int32.ofInt (x % 65536) := by
  rw [pk_char]
  unfold nI
  rw [← Int32.ofInt_eq_ofNat]
  congr 1
  have : ((Int32.ofInt x).toBitVec.toNat : Int) = x % 4294967296 := by
    show (((BitVec.ofInt 32 x).toNat : Nat) : Int) = _
    rw [BitVec.toNat_ofInt]
    exact Int.toNat_of_nonneg (Int.emod_nonneg _ (by decide))
  omega
