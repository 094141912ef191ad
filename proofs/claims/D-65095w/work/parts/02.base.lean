/-! Numbers: every value of the small machine is an Int; w8 .. w64 bring it back into its range. -/
def w8 (x : Int) : Int := (x + 128) % 256 - 128
def w16 (x : Int) : Int := (x + 32768) % 65536 - 32768
def w32 (x : Int) : Int := (x + 2147483648) % 4294967296 - 2147483648
def w64 (x : Int) : Int := (x + 9223372036854775808) % 18446744073709551616 - 9223372036854775808
def r32 (x : Int) : Prop := -2147483648 ≤ x ∧ x < 2147483648
def r64 (x : Int) : Prop := -9223372036854775808 ≤ x ∧ x < 9223372036854775808
theorem w32_r (x : Int) : r32 (w32 x) := by unfold r32 w32; omega
theorem w64_r (x : Int) : r64 (w64 x) := by unfold r64 w64; omega
theorem w32_of {x : Int} (h : r32 x) : w32 x = x := by unfold r32 at h; unfold w32; omega
theorem w64_of {x : Int} (h : r64 x) : w64 x = x := by unfold r64 at h; unfold w64; omega
theorem w32_bmod (x : Int) : w32 x = x.bmod 4294967296 := by unfold w32; rw [Int.bmod_def]; split <;> omega
theorem w64_bmod (x : Int) : w64 x = x.bmod 18446744073709551616 := by unfold w64; rw [Int.bmod_def]; split <;> omega
theorem w8_bmod (x : Int) : w8 x = x.bmod 256 := by unfold w8; rw [Int.bmod_def]; split <;> omega
theorem w16_bmod (x : Int) : w16 x = x.bmod 65536 := by unfold w16; rw [Int.bmod_def]; split <;> omega
def I32 (x : Int) : Int32 := Int32.ofInt x
def I64 (x : Int) : Int64 := Int64.ofInt x
theorem I32_toInt (x : Int) : (I32 x).toInt = w32 x := by rw [w32_bmod]; exact Int32.toInt_ofInt
theorem I64_toInt (x : Int) : (I64 x).toInt = w64 x := by rw [w64_bmod]; exact Int64.toInt_ofInt
theorem I32_at {x : Int} (h : r32 x) : (I32 x).toInt = x := by rw [I32_toInt, w32_of h]
theorem I64_at {x : Int} (h : r64 x) : (I64 x).toInt = x := by rw [I64_toInt, w64_of h]
theorem I32_of (x : Int32) : I32 x.toInt = x := Int32.ofInt_toInt x
theorem I64_of (x : Int64) : I64 x.toInt = x := Int64.ofInt_toInt x
theorem I32_eqr (x : Int32) : r32 x.toInt := by have := I32_toInt x.toInt; rw [I32_of] at this; rw [this]; exact w32_r _
theorem I64_eqr (x : Int64) : r64 x.toInt := by have := I64_toInt x.toInt; rw [I64_of] at this; rw [this]; exact w64_r _
theorem I32_w (x : Int) : I32 (w32 x) = I32 x := by rw [← I32_toInt, I32_of]
theorem I64_w (x : Int) : I64 (w64 x) = I64 x := by rw [← I64_toInt, I64_of]
theorem I32_inj {x y : Int} (hx : r32 x) (hy : r32 y) : I32 x = I32 y ↔ x = y := by
  constructor
  · intro h
    rw [← I32_at hx, ← I32_at hy, h]
  · intro h; rw [h]
theorem I64_inj {x y : Int} (hx : r64 x) (hy : r64 y) : I64 x = I64 y ↔ x = y := by
  constructor
  · intro h
    rw [← I64_at hx, ← I64_at hy, h]
  · intro h; rw [h]
theorem I32_lt {x y : Int} (hx : r32 x) (hy : r32 y) : I32 x < I32 y ↔ x < y := by rw [Int32.lt_iff_toInt_lt, I32_at hx, I32_at hy]
theorem I32_le {x y : Int} (hx : r32 x) (hy : r32 y) : I32 x ≤ I32 y ↔ x ≤ y := by rw [Int32.le_iff_toInt_le, I32_at hx, I32_at hy]
theorem I64_lt {x y : Int} (hx : r64 x) (hy : r64 y) : I64 x < I64 y ↔ x < y := by rw [Int64.lt_iff_toInt_lt, I64_at hx, I64_at hy]
theorem I64_le {x y : Int} (hx : r64 x) (hy : r64 y) : I64 x ≤ I64 y ↔ x ≤ y := by rw [Int64.le_iff_toInt_le, I64_at hx, I64_at hy]
theorem I32_add (a b : Int) : I32 a + I32 b = I32 (w32 (a + b)) := by rw [I32_w]; exact (Int32.ofInt_add a b).symm
theorem I32_sub (a b : Int) : I32 a - I32 b = I32 (w32 (a - b)) := by rw [I32_w]; exact (Int32.ofInt_sub a b).symm
theorem I32_mul (a b : Int) : I32 a * I32 b = I32 (w32 (a * b)) := by rw [I32_w]; exact (Int32.ofInt_mul a b).symm
theorem I64_add (a b : Int) : I64 a + I64 b = I64 (w64 (a + b)) := by rw [I64_w]; exact (Int64.ofInt_add a b).symm
theorem I64_sub (a b : Int) : I64 a - I64 b = I64 (w64 (a - b)) := by rw [I64_w]; exact (Int64.ofInt_sub a b).symm
theorem I64_mul (a b : Int) : I64 a * I64 b = I64 (w64 (a * b)) := by rw [I64_w]; exact (Int64.ofInt_mul a b).symm
theorem I32_neg (a : Int) : -I32 a = I32 (w32 (-a)) := by rw [I32_w]; exact (Int32.ofInt_neg a).symm
theorem I64_neg (a : Int) : -I64 a = I64 (w64 (-a)) := by rw [I64_w]; exact (Int64.ofInt_neg a).symm
theorem I32_div {a b : Int} (ha : r32 a) (hb : r32 b) : I32 a / I32 b = I32 (w32 (a.tdiv b)) := by
  rw [← I32_of (I32 a / I32 b), Int32.toInt_div, I32_at ha, I32_at hb, ← w32_bmod]
theorem I64_div {a b : Int} (ha : r64 a) (hb : r64 b) : I64 a / I64 b = I64 (w64 (a.tdiv b)) := by
  rw [← I64_of (I64 a / I64 b), Int64.toInt_div, I64_at ha, I64_at hb, ← w64_bmod]
theorem I32_rem {a b : Int} (ha : r32 a) (hb : r32 b) : I32 a - I32 a / I32 b * I32 b = I32 (a.tmod b) := by
  rw [I32_div ha hb, I32_w, I32_mul, I32_w, I32_sub, I32_w]
  congr 1
  have := Int.mul_tdiv_add_tmod a b
  have e : a.tdiv b * b = b * a.tdiv b := Int.mul_comm _ _
  omega
theorem I64_rem {a b : Int} (ha : r64 a) (hb : r64 b) : I64 a - I64 a / I64 b * I64 b = I64 (a.tmod b) := by
  rw [I64_div ha hb, I64_w, I64_mul, I64_w, I64_sub, I64_w]
  congr 1
  have := Int.mul_tdiv_add_tmod a b
  have e : a.tdiv b * b = b * a.tdiv b := Int.mul_comm _ _
  omega
theorem tmod_r32 {a b : Int} (ha : r32 a) : r32 (a.tmod b) := by
  have h := Int.natAbs_tmod a b
  have h1 := Nat.mod_le a.natAbs b.natAbs
  unfold r32 at *
  rcases Int.le_total 0 a with h0 | h0
  · have := Int.tmod_nonneg b h0
    omega
  · have := Int.tmod_nonneg b (show 0 ≤ -a by omega)
    rw [Int.neg_tmod] at this
    omega
theorem tmod_r64 {a b : Int} (ha : r64 a) : r64 (a.tmod b) := by
  have h := Int.natAbs_tmod a b
  have h1 := Nat.mod_le a.natAbs b.natAbs
  unfold r64 at *
  rcases Int.le_total 0 a with h0 | h0
  · have := Int.tmod_nonneg b h0
    omega
  · have := Int.tmod_nonneg b (show 0 ≤ -a by omega)
    rw [Int.neg_tmod] at this
    omega
/-! bit operations, by the machine's own words -/
def iand (a b : Int) : Int := (I32 a &&& I32 b).toInt
def ior (a b : Int) : Int := (I32 a ||| I32 b).toInt
def ixor (a b : Int) : Int := (I32 a ^^^ I32 b).toInt
def ishl (a b : Int) : Int := (I32 a <<< (I32 b &&& 31)).toInt
def ishr (a b : Int) : Int := (I32 a >>> (I32 b &&& 31)).toInt
def iushr (a b : Int) : Int := ((I32 a).toUInt32 >>> ((I32 b).toUInt32 &&& Int32.toUInt32 31)).toInt32.toInt
def land' (a b : Int) : Int := (I64 a &&& I64 b).toInt
def lor' (a b : Int) : Int := (I64 a ||| I64 b).toInt
def lxor' (a b : Int) : Int := (I64 a ^^^ I64 b).toInt
def lshl' (a b : Int) : Int := (I64 a <<< ((I32 b).toInt64 &&& 63)).toInt
def lshr' (a b : Int) : Int := (I64 a >>> ((I32 b).toInt64 &&& 63)).toInt
def lushr' (a b : Int) : Int := ((I64 a).toUInt64 >>> ((I32 b).toInt64.toUInt64 &&& Int64.toUInt64 63)).toInt64.toInt
def i2c (a : Int) : Int := ((I32 a).toUInt32 % 65536).toInt32.toInt
def lcmp (a b : Int) : Int := if b < a then 1 else if a < b then -1 else 0
theorem I32_wide {x : Int} (h : r32 x) : (I32 x).toInt64 = I64 x := by
  rw [← I64_of (I32 x).toInt64, Int32.toInt_toInt64, I32_at h]
theorem I64_cut (x : Int) : (I64 x).toInt32 = I32 (w32 x) := by
  rw [← I32_of (I64 x).toInt32, Int64.toInt_toInt32, I64_toInt, w64_bmod, ← w32_bmod]
  congr 1
  rw [← w64_bmod]
  unfold w32 w64
  omega
theorem I32_b (x : Int) : (I32 x).toInt8.toInt32 = I32 (w8 x) := by
  rw [← I32_of (I32 x).toInt8.toInt32, Int8.toInt_toInt32, Int32.toInt_toInt8, I32_toInt]
  congr 1
  rw [← w8_bmod]
  unfold w32 w8
  omega
theorem I32_s (x : Int) : (I32 x).toInt16.toInt32 = I32 (w16 x) := by
  rw [← I32_of (I32 x).toInt16.toInt32, Int16.toInt_toInt32, Int32.toInt_toInt16, I32_toInt]
  congr 1
  rw [← w16_bmod]
  unfold w32 w16
  omega
theorem I32_cmp {x y : Int} (hx : r64 x) (hy : r64 y) : lg_cmp (I64 x) (I64 y) = I32 (lcmp x y) := by
  unfold lg_cmp lcmp
  simp only [I64_lt hx hy, I64_lt hy hx, I64_inj hx hy]
  rcases Int.lt_trichotomy x y with h | h | h
  · rw [if_neg (by omega), if_neg (by omega), if_neg (by omega), if_pos h]; rfl
  · rw [if_neg (by omega), if_pos h, if_neg (by omega), if_neg (by omega)]; rfl
  · rw [if_pos h, if_pos h]; rfl
theorem w8_r (x : Int) : r32 (w8 x) := by unfold r32 w8; omega
theorem w16_r (x : Int) : r32 (w16 x) := by unfold r32 w16; omega
theorem lcmp_r (x y : Int) : r32 (lcmp x y) := by unfold r32 lcmp; split <;> (try split) <;> omega
theorem r32_r64 {x : Int} (h : r32 x) : r64 x := by unfold r32 at h; unfold r64; omega
