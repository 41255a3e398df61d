/-! Model: copies -/
theorem zisL_I {a : Int} : zisL (zvi a) = false := rfl
theorem zisL_R {r : Option Nat} : zisL (zvr r) = false := rfl
theorem zisL_U : zisL zvu = false := rfl
theorem sa_st {h : PH} {b : Nat} {g : Int → Int} {k v : Int} : st_I (sa_I h b g) b k v = sa_I h b (fun j => if j = k then v else g j) := by
  refine ph_ext (fun a j => ?_) (fun _ _ => rfl) (fun _ _ => rfl) (fun _ => rfl) rfl rfl
  rw [pI_I, pI_aI, pI_aI]
  by_cases h1 : a = b
  · subst h1
    by_cases h2 : j = k <;> simp [h2]
  · simp [h1]
theorem sa_sa {h : PH} {b : Nat} {g g' : Int → Int} : sa_I (sa_I h b g) b g' = sa_I h b g' := by
  refine ph_ext (fun a j => ?_) (fun _ _ => rfl) (fun _ _ => rfl) (fun _ => rfl) rfl rfl
  rw [pI_aI, pI_aI, pI_aI]
  by_cases h1 : a = b <;> simp [h1]
theorem sa_self {h : PH} {b : Nat} {g : Int → Int} (hg : ∀ j, g j = ph_I h b j) : sa_I h b g = h := by
  refine ph_ext (fun a j => ?_) (fun _ _ => rfl) (fun _ _ => rfl) (fun _ => rfl) rfl rfl
  rw [pI_aI]
  by_cases h1 : a = b
  · subst h1; simp [hg]
  · simp [h1]
/-- 985 places copied -/
def cpf (h : PH) (a b : Nat) (f t k j : Int) : Int := if t ≤ j ∧ j < t + k then ph_I h a (f + (j - t)) else ph_I h b j
theorem l_X4_copies {h : PH} {a b na nb : Nat} {f t : Int} (hka : ph_K h a = (1, na)) (hkb : ph_K h b = (1, nb)) (hab : a ≠ b) (h1 : 0 ≤ f) (h2 : f + 985 ≤ na) (h3 : 0 ≤ t) (h4 : t + 985 ≤ nb) (h5 : na ≤ 100000) (h6 : nb ≤ 100000) : ∀ (n : Nat) (k : Int), 0 ≤ k → k + n = 985 → zev kX4_copies 3 [zvr (some a), zvi f, zvr (some b), zvi t, zvi k] [] (sa_I h b (cpf h a b f t k)) = zr0 (sa_I h b (cpf h a b f t 985)) := by
  intro n
  induction n with
  | zero =>
    intro k hk he
    obtain rfl : k = 985 := by omega
    rw [hdX4_copies_3]
    simp [rX4_copies]
  | succ n ih =>
    intro k hk he
    refine Eq.trans ?_ (ih (k + 1) (by omega) (by omega))
    rw [hdX4_copies_3]
    simp (disch := first | exact zisL_I | exact zisL_R | exact zisL_U | omega) only [rX4_copies, pK_aI, hka, hkb, w32_id, if_pos, if_neg, Nat.reduceMod, true_and]
    rw [sa_st]
    congr 2
    funext j
    rw [pI_aI, if_neg hab]
    unfold cpf
    by_cases hj : j = t + k
    · subst hj
      rw [if_pos rfl, if_pos (by omega)]
      congr 1
      omega
    · rw [if_neg hj]
      by_cases hj2 : t ≤ j ∧ j < t + k
      · rw [if_pos hj2, if_pos (by omega)]
      · rw [if_neg hj2, if_neg (by omega)]
theorem c_X4_copies {h : PH} {a b na nb : Nat} {f t : Int} (hka : ph_K h a = (1, na)) (hkb : ph_K h b = (1, nb)) (hab : a ≠ b) (h1 : 0 ≤ f) (h2 : f + 985 ≤ na) (h3 : 0 ≤ t) (h4 : t + 985 ≤ nb) (h5 : na ≤ 100000) (h6 : nb ≤ 100000) : mX4_copies [zvr (some a), zvi f, zvr (some b), zvi t] h = zr0 (sa_I h b (cpf h a b f t 985)) := by
  rw [enX4_copies, ← l_X4_copies hka hkb hab h1 h2 h3 h4 h5 h6 985 0 (by omega) (by omega)]
  simp (disch := first | exact zisL_I | exact zisL_R | exact zisL_U | omega) only [rX4_copies]
  rw [sa_self]
  intro j
  unfold cpf
  rw [if_neg (by omega)]
