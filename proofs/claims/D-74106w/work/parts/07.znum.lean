/-! Z 7: numbers of the machine and of the pure one -/
theorem i32_t {x : Int} (h : -2147483648 ≤ x ∧ x ≤ 2147483647) : (Int32.ofInt x).toInt = x := by
  rw [Int32.toInt_ofInt]
  exact w32_id h.1 h.2
theorem i64_t {x : Int} (h : -9223372036854775808 ≤ x ∧ x ≤ 9223372036854775807) : (Int64.ofInt x).toInt = x := by
  rw [Int64.toInt_ofInt]
  exact w64_id h.1 h.2
theorem i32_b (x : Int32) : -2147483648 ≤ x.toInt ∧ x.toInt ≤ 2147483647 := by
  have h1 := Int32.le_toInt x
  have h2 := Int32.toInt_lt x
  omega
theorem i64_b (x : Int64) : -9223372036854775808 ≤ x.toInt ∧ x.toInt ≤ 9223372036854775807 := by
  have h1 := Int64.le_toInt x
  have h2 := Int64.toInt_lt x
  omega
theorem i32_w (x : Int) : Int32.ofInt (w32 x) = Int32.ofInt x := by
  rw [← Int32.toInt_inj, Int32.toInt_ofInt, Int32.toInt_ofInt]
  show Int.bmod (Int.bmod x 4294967296) 4294967296 = Int.bmod x 4294967296
  exact Int.bmod_bmod
theorem i64_w (x : Int) : Int64.ofInt (w64 x) = Int64.ofInt x := by
  rw [← Int64.toInt_inj, Int64.toInt_ofInt, Int64.toInt_ofInt]
  show Int.bmod (Int.bmod x 18446744073709551616) 18446744073709551616 = Int.bmod x 18446744073709551616
  exact Int.bmod_bmod
theorem i32_add (a b : Int) : Int32.ofInt a + Int32.ofInt b = Int32.ofInt (w32 (a + b)) := by rw [i32_w, Int32.ofInt_add]
theorem i32_sub (a b : Int) : Int32.ofInt a - Int32.ofInt b = Int32.ofInt (w32 (a - b)) := by rw [i32_w, Int32.ofInt_sub]
theorem i32_mul (a b : Int) : Int32.ofInt a * Int32.ofInt b = Int32.ofInt (w32 (a * b)) := by rw [i32_w, Int32.ofInt_mul]
theorem i32_neg (a : Int) : -Int32.ofInt a = Int32.ofInt (w32 (-a)) := by rw [i32_w, Int32.ofInt_neg]
theorem i64_add (a b : Int) : Int64.ofInt a + Int64.ofInt b = Int64.ofInt (w64 (a + b)) := by rw [i64_w, Int64.ofInt_add]
theorem i64_sub (a b : Int) : Int64.ofInt a - Int64.ofInt b = Int64.ofInt (w64 (a - b)) := by rw [i64_w, Int64.ofInt_sub]
theorem i64_mul (a b : Int) : Int64.ofInt a * Int64.ofInt b = Int64.ofInt (w64 (a * b)) := by rw [i64_w, Int64.ofInt_mul]
theorem i32_div {a b : Int} (ha : -2147483648 ≤ a ∧ a ≤ 2147483647) (hb : -2147483648 ≤ b ∧ b ≤ 2147483647) : Int32.ofInt a / Int32.ofInt b = Int32.ofInt (w32 (Int.tdiv a b)) := by
  rw [i32_w, ← Int32.toInt_inj, Int32.toInt_div, i32_t ha, i32_t hb, Int32.toInt_ofInt]
theorem i32_lt {x y : Int} (hx : -2147483648 ≤ x ∧ x ≤ 2147483647) (hy : -2147483648 ≤ y ∧ y ≤ 2147483647) : Int32.ofInt x < Int32.ofInt y ↔ x < y := by rw [Int32.lt_iff_toInt_lt, i32_t hx, i32_t hy]
theorem i32_le {x y : Int} (hx : -2147483648 ≤ x ∧ x ≤ 2147483647) (hy : -2147483648 ≤ y ∧ y ≤ 2147483647) : Int32.ofInt x ≤ Int32.ofInt y ↔ x ≤ y := by rw [Int32.le_iff_toInt_le, i32_t hx, i32_t hy]
theorem i32_eq {x y : Int} (hx : -2147483648 ≤ x ∧ x ≤ 2147483647) (hy : -2147483648 ≤ y ∧ y ≤ 2147483647) : Int32.ofInt x = Int32.ofInt y ↔ x = y := by rw [← Int32.toInt_inj, i32_t hx, i32_t hy]
theorem i64_lt {x y : Int} (hx : -9223372036854775808 ≤ x ∧ x ≤ 9223372036854775807) (hy : -9223372036854775808 ≤ y ∧ y ≤ 9223372036854775807) : Int64.ofInt x < Int64.ofInt y ↔ x < y := by rw [Int64.lt_iff_toInt_lt, i64_t hx, i64_t hy]
theorem i64_eq {x y : Int} (hx : -9223372036854775808 ≤ x ∧ x ≤ 9223372036854775807) (hy : -9223372036854775808 ≤ y ∧ y ≤ 9223372036854775807) : Int64.ofInt x = Int64.ofInt y ↔ x = y := by rw [← Int64.toInt_inj, i64_t hx, i64_t hy]
theorem i32_o (x : Int32) : Int32.ofInt x.toInt = x := Int32.ofInt_toInt x
theorem i64_o (x : Int64) : Int64.ofInt x.toInt = x := Int64.ofInt_toInt x
theorem i32_zero : Int32.ofInt 0 = 0 := rfl
theorem i32_i2l {x : Int} (hx : -2147483648 ≤ x ∧ x ≤ 2147483647) : (Int32.ofInt x).toInt64 = Int64.ofInt x := by
  rw [← Int64.toInt_inj, Int32.toInt_toInt64, i32_t hx, i64_t (by omega)]
theorem i64_l2i (x : Int) : (Int64.ofInt x).toInt32 = Int32.ofInt (w32 x) := by
  rw [i32_w, ← Int32.toInt_inj, Int64.toInt_toInt32, Int64.toInt_ofInt, Int32.toInt_ofInt]
  show Int.bmod (Int.bmod x 18446744073709551616) 4294967296 = Int.bmod x 4294967296
  simp only [Int.bmod_def]
  omega
theorem zj_clamp {j : Int} (h0 : 0 ≤ j) (h1 : j ≤ 2147483647) : (Int32.ofInt j).toNatClampNeg = j.toNat := by
  rw [← Int32.toNat_toInt, i32_t ⟨by omega, h1⟩]
theorem zj_in {j : Int} {n k : Nat} (h0 : 0 ≤ j) (h1 : j < n) (hk : n ≤ k) (hn : n < 2147483648) : ¬ (Int32.ofInt j < 0 ∨ k ≤ (Int32.ofInt j).toNatClampNeg) := by
  rw [zj_clamp h0 (by omega)]
  rintro (h | h)
  · rw [← i32_zero, i32_lt ⟨by omega, by omega⟩ ⟨by omega, by omega⟩] at h; omega
  · omega
