/-! Z 29b: what may be stored into an Object[] -/
theorem zokO_can : zcan "java/lang/Object" zokO := fun kd h => by
  unfold zokO at h
  simp only [Bool.or_eq_true] at h
  rcases h with (((h | h) | h) | h) | h <;> obtain rfl := Nat.eq_of_beq_eq_true h
  · exact ⟨5, RX10, TX10, 3, rfl, rfl, Or.inr q2401⟩
  · exact ⟨6, RX11, TX11, 9, rfl, rfl, Or.inr q2388⟩
  · exact ⟨7, RX14, TX14, 3, rfl, rfl, Or.inr q2408⟩
  · exact ⟨18, RJ19, TJ19, 1, rfl, rfl, Or.inr q2402⟩
  · exact ⟨18, RJ19, TJ19, 1, rfl, rfl, Or.inr q2402⟩
