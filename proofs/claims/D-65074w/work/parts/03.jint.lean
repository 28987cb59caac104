/-! J-layer, part 1: Java's numbers as mathematical integers -/
def w32 (z : Int) : Int := (Int32.ofInt z).toInt
def w64 (z : Int) : Int := (Int64.ofInt z).toInt
def w8 (z : Int) : Int := (Int8.ofInt z).toInt
def c32 (z : Int) : Prop := -2147483648 ≤ z ∧ z ≤ 2147483647
def c64 (z : Int) : Prop := -9223372036854775808 ≤ z ∧ z ≤ 9223372036854775807
def i_and (a b : Int) : Int := (Int32.ofInt a &&& Int32.ofInt b).toInt
def i_or (a b : Int) : Int := (Int32.ofInt a ||| Int32.ofInt b).toInt
def i_xor (a b : Int) : Int := (Int32.ofInt a ^^^ Int32.ofInt b).toInt
def i_shl (a b : Int) : Int := (Int32.ofInt a <<< (Int32.ofInt b &&& 31)).toInt
def i_shr (a b : Int) : Int := (Int32.ofInt a >>> (Int32.ofInt b &&& 31)).toInt
def i_ushr (a b : Int) : Int := ((Int32.ofInt a).toUInt32 >>> ((Int32.ofInt b).toUInt32 &&& Int32.toUInt32 31)).toInt32.toInt
def i_div (a b : Int) : Int := (Int32.ofInt a / Int32.ofInt b).toInt
def i_rem (a b : Int) : Int := (Int32.ofInt a - Int32.ofInt a / Int32.ofInt b * Int32.ofInt b).toInt
def l_and (a b : Int) : Int := (Int64.ofInt a &&& Int64.ofInt b).toInt
def l_or (a b : Int) : Int := (Int64.ofInt a ||| Int64.ofInt b).toInt
def l_xor (a b : Int) : Int := (Int64.ofInt a ^^^ Int64.ofInt b).toInt
def l_shl (a b : Int) : Int := (Int64.ofInt a <<< ((Int32.ofInt b).toInt64 &&& 63)).toInt
def l_shr (a b : Int) : Int := (Int64.ofInt a >>> ((Int32.ofInt b).toInt64 &&& 63)).toInt
def l_ushr (a b : Int) : Int := ((Int64.ofInt a).toUInt64 >>> ((Int32.ofInt b).toInt64.toUInt64 &&& Int64.toUInt64 63)).toInt64.toInt
def l_div (a b : Int) : Int := (Int64.ofInt a / Int64.ofInt b).toInt
def l_rem (a b : Int) : Int := (Int64.ofInt a - Int64.ofInt a / Int64.ofInt b * Int64.ofInt b).toInt
def lc (a b : Int) : Int := if a < b then -1 else if a = b then 0 else 1
theorem c32_of (x : Int32) : c32 x.toInt := by
  have h1 := x.toInt_lt
  have h2 := x.le_toInt
  unfold c32
  omega
theorem c64_of (x : Int64) : c64 x.toInt := by
  have h1 := x.toInt_lt
  have h2 := x.le_toInt
  unfold c64
  omega
theorem w32_c (z : Int) : c32 (w32 z) := c32_of _
theorem w64_c (z : Int) : c64 (w64 z) := c64_of _
theorem w8_c (z : Int) : -128 ≤ w8 z ∧ w8 z ≤ 127 := by
  have h1 := (Int8.ofInt z).toInt_lt
  have h2 := (Int8.ofInt z).le_toInt
  unfold w8
  omega
theorem w32_id {z : Int} (h : c32 z) : w32 z = z := Int32.toInt_ofInt_of_le (by have := h.1; omega) (by have := h.2; omega)
theorem w64_id {z : Int} (h : c64 z) : w64 z = z := Int64.toInt_ofInt_of_le (by have := h.1; omega) (by have := h.2; omega)
theorem w8_id {z : Int} (h : -128 ≤ z ∧ z ≤ 127) : w8 z = z := Int8.toInt_ofInt_of_le (by have := h.1; omega) (by have := h.2; omega)
theorem o32 (z : Int) : Int32.ofInt (w32 z) = Int32.ofInt z := Int32.ofInt_toInt _
theorem o64 (z : Int) : Int64.ofInt (w64 z) = Int64.ofInt z := Int64.ofInt_toInt _
theorem x32 {a b : Int} (ha : c32 a) (hb : c32 b) : Int32.ofInt a = Int32.ofInt b ↔ a = b := by
  constructor
  · intro h
    rw [← w32_id ha, ← w32_id hb]
    unfold w32
    rw [h]
  · intro h
    rw [h]
theorem x64 {a b : Int} (ha : c64 a) (hb : c64 b) : Int64.ofInt a = Int64.ofInt b ↔ a = b := by
  constructor
  · intro h
    rw [← w64_id ha, ← w64_id hb]
    unfold w64
    rw [h]
  · intro h
    rw [h]
theorem lt32 {a b : Int} (ha : c32 a) (hb : c32 b) : Int32.ofInt a < Int32.ofInt b ↔ a < b := by
  rw [Int32.lt_iff_toInt_lt]
  show w32 a < w32 b ↔ _
  rw [w32_id ha, w32_id hb]
theorem le32 {a b : Int} (ha : c32 a) (hb : c32 b) : Int32.ofInt a ≤ Int32.ofInt b ↔ a ≤ b := by
  rw [Int32.le_iff_toInt_le]
  show w32 a ≤ w32 b ↔ _
  rw [w32_id ha, w32_id hb]
theorem lt64 {a b : Int} (ha : c64 a) (hb : c64 b) : Int64.ofInt a < Int64.ofInt b ↔ a < b := by
  rw [Int64.lt_iff_toInt_lt]
  show w64 a < w64 b ↔ _
  rw [w64_id ha, w64_id hb]
theorem c32_0 : c32 0 := by unfold c32; omega
theorem c32_c64 {z : Int} (h : c32 z) : c64 z := by unfold c32 at h; unfold c64; omega
theorem lc_c (a b : Int) : c32 (lc a b) := by
  unfold lc c32
  split
  · omega
  · split <;> omega
theorem lc_lt (a b : Int) : lc a b < 0 ↔ a < b := by
  unfold lc
  split
  · omega
  · split <;> omega
theorem lc_gt (a b : Int) : 0 < lc a b ↔ b < a := by
  unfold lc
  split
  · omega
  · split <;> omega
theorem lc_eq (a b : Int) : lc a b = 0 ↔ a = b := by
  unfold lc
  split
  · omega
  · split <;> omega
theorem lc_le (a b : Int) : lc a b ≤ 0 ↔ a ≤ b := by
  unfold lc
  split
  · omega
  · split <;> omega
theorem lc_ge (a b : Int) : 0 ≤ lc a b ↔ b ≤ a := by
  unfold lc
  split
  · omega
  · split <;> omega
theorem i2l_v {z : Int} (h : c32 z) : (Int32.ofInt z).toInt64 = Int64.ofInt z := by
  apply Int64.toInt_inj.mp
  rw [Int32.toInt_toInt64]
  show w32 z = w64 z
  rw [w32_id h, w64_id (c32_c64 h)]
theorem l2i_v (z : Int) : (Int64.ofInt z).toInt32 = Int32.ofInt (w32 z) := by
  rw [o32]
  apply Int32.toInt_inj.mp
  simp
theorem i2b_v (z : Int) : (Int32.ofInt z).toInt8.toInt32 = Int32.ofInt (w8 z) := by
  apply Int32.toInt_inj.mp
  rw [Int8.toInt_toInt32]
  show (Int32.ofInt z).toInt8.toInt = w32 (w8 z)
  rw [w32_id (by have := w8_c z; unfold c32; omega)]
  unfold w8
  congr 1
  apply Int8.toInt_inj.mp
  simp
theorem lcmp_v {a b : Int} (ha : c64 a) (hb : c64 b) : lg_cmp (Int64.ofInt a) (Int64.ofInt b) = Int32.ofInt (lc a b) := by
  unfold lg_cmp lc
  have h1 : Int64.ofInt a > Int64.ofInt b ↔ b < a := lt64 hb ha
  by_cases h : a < b
  · rw [if_pos h, if_neg (fun q => by have := h1.mp q; omega), if_neg (fun q => by have := (x64 ha hb).mp q; omega)]
    rfl
  · rw [if_neg h]
    by_cases h2 : a = b
    · rw [if_pos h2, if_neg (fun q => by have := h1.mp q; omega), if_pos ((x64 ha hb).mpr h2)]
      rfl
    · rw [if_neg h2, if_pos (h1.mpr (by omega))]
      rfl
