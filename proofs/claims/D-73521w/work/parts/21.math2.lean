set_option maxRecDepth 100000
/-! longs as integers, where nothing runs over -/
theorem i64_add {a b : Int64} (h1 : -2 ^ 63 ≤ a.toInt + b.toInt) (h2 : a.toInt + b.toInt < 2 ^ 63) : (a + b).toInt = a.toInt + b.toInt := by
  rw [Int64.toInt_add]
  exact Int.bmod_eq_of_le (by omega) (by omega)
theorem i64_sub {a b : Int64} (h1 : -2 ^ 63 ≤ a.toInt - b.toInt) (h2 : a.toInt - b.toInt < 2 ^ 63) : (a - b).toInt = a.toInt - b.toInt := by
  rw [Int64.toInt_sub]
  exact Int.bmod_eq_of_le (by omega) (by omega)
theorem i64_mul {a b : Int64} (h1 : -2 ^ 63 ≤ a.toInt * b.toInt) (h2 : a.toInt * b.toInt < 2 ^ 63) : (a * b).toInt = a.toInt * b.toInt := by
  rw [Int64.toInt_mul]
  exact Int.bmod_eq_of_le (by omega) (by omega)
theorem i64_div {a b : Int64} (ha : 0 ≤ a.toInt) (hb : 0 < b.toInt) : (a / b).toInt = a.toInt / b.toInt := by
  rw [Int64.toInt_div_of_ne_right]
  · exact Int.tdiv_eq_ediv_of_nonneg ha
  · intro h
    rw [h] at hb
    exact absurd hb (by decide)
theorem i64_le {a b : Int64} : a ≤ b ↔ a.toInt ≤ b.toInt := Int64.le_iff_toInt_le
theorem i64_lt {a b : Int64} : a < b ↔ a.toInt < b.toInt := Int64.lt_iff_toInt_lt
theorem i64_ext {a b : Int64} (h : a.toInt = b.toInt) : a = b := Int64.toInt_inj.mp h
theorem i64_of32 (a : Int32) : a.toInt64.toInt = a.toInt := Int32.toInt_toInt64 a
theorem i64_lo (a : Int64) : -2 ^ 63 ≤ a.toInt := Int64.le_toInt a
theorem i64_hi (a : Int64) : a.toInt < 2 ^ 63 := Int64.toInt_lt a
theorem i32_lo (a : Int32) : -2 ^ 31 ≤ a.toInt := Int32.le_toInt a
theorem i32_hi (a : Int32) : a.toInt < 2 ^ 31 := Int32.toInt_lt a
theorem i32_add {a b : Int32} (h1 : -2 ^ 31 ≤ a.toInt + b.toInt) (h2 : a.toInt + b.toInt < 2 ^ 31) : (a + b).toInt = a.toInt + b.toInt := by
  rw [Int32.toInt_add]
  exact Int.bmod_eq_of_le (by omega) (by omega)
theorem i32_sub {a b : Int32} (h1 : -2 ^ 31 ≤ a.toInt - b.toInt) (h2 : a.toInt - b.toInt < 2 ^ 31) : (a - b).toInt = a.toInt - b.toInt := by
  rw [Int32.toInt_sub]
  exact Int.bmod_eq_of_le (by omega) (by omega)
/-- what a layer may take yet, two ways of writing it -/
theorem i64_can {A B f : Int64} (hA : -2 ^ 62 ≤ A.toInt ∧ A.toInt < 2 ^ 62) (hB : -2 ^ 62 ≤ B.toInt ∧ B.toInt < 2 ^ 62) (hf : -2 ^ 61 ≤ f.toInt ∧ f.toInt < 2 ^ 61) : (if B < A then B else A) - f = if B - f < A - f then B - f else A - f := by
  have e1 : (A - f).toInt = A.toInt - f.toInt := i64_sub (by omega) (by omega)
  have e2 : (B - f).toInt = B.toInt - f.toInt := i64_sub (by omega) (by omega)
  by_cases h : B < A
  · rw [if_pos h, if_pos (i64_lt.mpr (by rw [e1, e2]; have := i64_lt.mp h; omega))]
  · rw [if_neg h, if_neg (fun q => h (i64_lt.mpr (by have := i64_lt.mp q; rw [e1, e2] at this; omega)))]
