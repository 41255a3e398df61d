/-! Model: its cells, small methods -/
/-- the Model's cells: object 21, its arrays 22 .. 42 -/
abbrev MK (h : PH) : Prop := (ph_K h 21 = (18, 0) ∧ ph_K h 22 = (1, 900) ∧ ph_K h 23 = (1, 985) ∧ ph_K h 24 = (1, 985) ∧ ph_K h 25 = (1, 985) ∧ ph_K h 26 = (1, 9850) ∧ ph_K h 27 = (4, 10) ∧ ph_K h 28 = (4, 8) ∧ ph_K h 29 = (1, 7) ∧ ph_K h 30 = (1, 120) ∧ ph_K h 31 = (1, 120) ∧ ph_K h 32 = (1, 120) ∧ ph_K h 33 = (1, 120) ∧ ph_K h 34 = (1, 120) ∧ ph_K h 35 = (1, 14400) ∧ ph_K h 36 = (1, 120) ∧ ph_K h 37 = (1, 120) ∧ ph_K h 38 = (1, 120) ∧ ph_K h 39 = (1, 120) ∧ ph_K h 40 = (1, 120) ∧ ph_K h 41 = (1, 120) ∧ ph_K h 42 = (1, 10)) ∧
  (ph_R h 21 4 = some 22 ∧ ph_R h 21 6 = some 23 ∧ ph_R h 21 7 = some 24 ∧ ph_R h 21 8 = some 25 ∧ ph_R h 21 9 = some 26 ∧ ph_R h 21 20 = some 27 ∧ ph_R h 21 21 = some 28 ∧ ph_R h 21 22 = some 29 ∧ ph_R h 21 23 = some 30 ∧ ph_R h 21 24 = some 31 ∧ ph_R h 21 25 = some 32 ∧ ph_R h 21 26 = some 33 ∧ ph_R h 21 27 = some 34 ∧ ph_R h 21 29 = some 35 ∧ ph_R h 21 30 = some 36 ∧ ph_R h 21 31 = some 37 ∧ ph_R h 21 33 = some 38 ∧ ph_R h 21 34 = some 39 ∧ ph_R h 21 35 = some 40 ∧ ph_R h 21 37 = some 41 ∧ ph_R h 21 39 = some 42)
/-- the row of the Model -/
def rw_ (h : PH) (k : Int) : Int := ph_I h 23 k
section
variable {h : PH}
theorem c_X4_in (v lo hi : Int) : mX4_in [zvi v, zvi lo, zvi hi] h = zrv (zvi (if lo ≤ v ∧ v ≤ hi then 1 else 0)) h := by
  rw [enX4_in]
  by_cases h1 : lo ≤ v <;> by_cases h2 : v ≤ hi <;> simp (disch := omega) [rX4_in, if_pos, if_neg, h1, h2]
theorem c_X4_at (d k : Int) (h1 : 0 ≤ d) (h2 : d ≤ 1000) (h3 : 0 ≤ k) (h4 : k ≤ 1000) : mX4_at [zvi d, zvi k] h = zrv (zvi (25 + 8 * d + k)) h := by
  rw [enX4_at]
  simp (disch := omega) only [rX4_at, w32_id]
theorem c_X4_isRefused (hm : MK h) (w : Int) : mX4_isRefused [zvr (some 21), zvi w] h = zrv (zvi (if w = 0 then 0 else 1)) (st_I (st_I (st_I h 21 0 0) 21 3 (-1)) 21 1 w) := by
  rw [enX4_isRefused]
  by_cases h1 : w = 0 <;> simp (disch := omega) [rX4_isRefused, hm, pK_I, h1]
theorem c_X4_unless (a : Int) (ha : a = 0 ∨ a = 1) : mX4_unless [zvi a] h = zrv (zvi (1 - a)) h := by
  rw [enX4_unless]
  rcases ha with rfl | rfl <;> simp [rX4_unless]
theorem c_X4_isSpot (hm : MK h) (s : Int) (hb : 0 ≤ rw_ h 1 ∧ rw_ h 1 ≤ 10) (ht : ph_I h 21 11 = 0 ∨ ph_I h 21 11 = 1) : mX4_isSpot [zvr (some 21), zvi s] h = zrv (zvi (if ph_I h 21 11 = 1 ∧ 0 ≤ s ∧ s < rw_ h 1 then 1 else 0)) h := by
  unfold rw_ at *
  rw [enX4_isSpot]
  rcases ht with ht | ht
  · simp [rX4_isSpot, hm, ht]
  · by_cases h1 : 0 ≤ s ∧ s < ph_I h 23 1
    · have h2 : s ≤ ph_I h 23 1 - 1 := by omega
      simp (disch := omega) [rX4_isSpot, hm, ht, c_X4_in, w32_id, zcat_0, zcat_I, zcat_R, zk_rv, h1, h2]
    · have h2 : ¬ (0 ≤ s ∧ s ≤ ph_I h 23 1 - 1) := by omega
      simp (disch := omega) [rX4_isSpot, hm, ht, c_X4_in, w32_id, zcat_0, zcat_I, zcat_R, zk_rv, h1, h2]
end
