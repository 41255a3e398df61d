/-! Z 29: Math.max, min; casts -/
def zmax (a b : Int) : Int := if a < b then b else a
def zmin (a b : Int) : Int := if b < a then b else a
def zi_mm (f : Int → Int → Int) (n : Nat) : ZI := fun L st h => match st with
  | .inl b :: .inl a :: st' => if zcat st' ≤ 8 then zgo n L (zvi (f a b) :: st') h else none
  | _ => none
theorem e_mm {M : ZM} {pc n : Nat} {L st : List ZV} {h : PH} {a b : Int} {f : Int → Int → Int} (hl : zlk M.1 pc = some (zi_mm f n)) : zev M pc L (zvi b :: zvi a :: st) h = if zcat st ≤ 8 then zev M n L (zvi (f a b) :: st) h else none := by
  by_cases hc : zcat st ≤ 8
  · rw [if_pos hc]; exact ze_go hl (if_pos hc)
  · rw [if_neg hc]; exact ze_none hl (if_neg hc)
section
variable {y : MethodName} {cc : ByteArray} {nL : Nat} {ret : Option FieldType} {lv pc idx : Nat}
theorem zmax_i {a b : Int} (ha : zok (Sum.inl a)) (hb : zok (Sum.inl b)) : (if Int32.ofInt a < Int32.ofInt b then Int32.ofInt b else Int32.ofInt a) = Int32.ofInt (zmax a b) := by
  unfold zmax
  have e := i32_lt ha hb
  by_cases h : a < b
  · rw [if_pos h, if_pos (e.mpr h)]
  · rw [if_neg h, if_neg (fun z => h (e.mp z))]
theorem zmin_i {a b : Int} (ha : zok (Sum.inl a)) (hb : zok (Sum.inl b)) : (if Int32.ofInt b < Int32.ofInt a then Int32.ofInt b else Int32.ofInt a) = Int32.ofInt (zmin a b) := by
  unfold zmin
  have e := i32_lt hb ha
  by_cases h : b < a
  · rw [if_pos h, if_pos (e.mpr h)]
  · rw [if_neg h, if_neg (fun z => h (e.mp z))]
theorem zmax_ok {a b : Int} (ha : zok (Sum.inl a)) (hb : zok (Sum.inl b)) : zok (zvi (zmax a b)) := by
  unfold zmax; split
  · exact hb
  · exact ha
theorem zmin_ok {a b : Int} (ha : zok (Sum.inl a)) (hb : zok (Sum.inl b)) : zok (zvi (zmin a b)) := by
  unfold zmin; split
  · exact hb
  · exact ha
theorem k_mmax (d : decode cc pc = .ok (.invokestatic idx, 3)) (q1 : Cond.methodLink y.cls idx Lib.Math.max.name ∈ lw_all) (q2 : Cond.static Lib.Math.max.name ∈ lw_all) (q3 : Cond.initialized "java/lang/Math" ∈ lw_all) (q4 : Cond.code Lib.Math.max.name Lib.Math.max.code 2 (some .int) ∈ lw_all) (hlv : 1 ≤ lv) : IOk y cc nL ret lv pc (zi_mm zmax (pc + 3)) := by
  intro L st h o eo
  unfold zi_mm at eo
  split at eo
  · rename_i b a st'
    by_cases hz : zcat st' ≤ 8
    · rw [if_pos hz] at eo
      obtain rfl := Option.some.inj eo
      refine ⟨⟨Nat.le_refl _, Nat.le_refl _⟩, ?_⟩
      intro G p l e R s m args below meth c h0 NF SF Q hC b1 b2 hk H locs ls hr hS hl hst h1 h2
      obtain ⟨c1, c2, c3, c4, c5, c6, c7, c8, c9, d1, d2, d3, d4, d5, d6⟩ := hC
      have ha := zst_hd (zst_tl hst)
      have hb := zst_hd hst
      have k9 := hk H locs ls hr hS hl (zst_cons (zmax_ok ha hb) (zst_tl (zst_tl hst))) h1 h2
      refine va_mmax c1 c2 (by rw [c3, hl.1]) c7 (c8 _ q1) (c8 _ q2) (c8 _ q3) (c8 _ q4) (by omega) (by rw [zcat_sum]; omega) (by omega) (by omega) d ?_
      rw [zmax_i ha hb]
      exact k9
    · rw [if_neg hz] at eo; cases eo
  · cases eo
theorem k_mmin (d : decode cc pc = .ok (.invokestatic idx, 3)) (q1 : Cond.methodLink y.cls idx Lib.Math.min.name ∈ lw_all) (q2 : Cond.static Lib.Math.min.name ∈ lw_all) (q3 : Cond.initialized "java/lang/Math" ∈ lw_all) (q4 : Cond.code Lib.Math.min.name Lib.Math.min.code 2 (some .int) ∈ lw_all) (hlv : 1 ≤ lv) : IOk y cc nL ret lv pc (zi_mm zmin (pc + 3)) := by
  intro L st h o eo
  unfold zi_mm at eo
  split at eo
  · rename_i b a st'
    by_cases hz : zcat st' ≤ 8
    · rw [if_pos hz] at eo
      obtain rfl := Option.some.inj eo
      refine ⟨⟨Nat.le_refl _, Nat.le_refl _⟩, ?_⟩
      intro G p l e R s m args below meth c h0 NF SF Q hC b1 b2 hk H locs ls hr hS hl hst h1 h2
      obtain ⟨c1, c2, c3, c4, c5, c6, c7, c8, c9, d1, d2, d3, d4, d5, d6⟩ := hC
      have ha := zst_hd (zst_tl hst)
      have hb := zst_hd hst
      have k9 := hk H locs ls hr hS hl (zst_cons (zmin_ok ha hb) (zst_tl (zst_tl hst))) h1 h2
      refine va_mmin c1 c2 (by rw [c3, hl.1]) c7 (c8 _ q1) (c8 _ q2) (c8 _ q3) (c8 _ q4) (by omega) (by rw [zcat_sum]; omega) (by omega) (by omega) d ?_
      rw [zmin_i ha hb]
      exact k9
    · rw [if_neg hz] at eo; cases eo
  · cases eo
end
theorem zokSpot_can : zcan "LinkTimes$Spot" zokSpot := fun kd h => by
  obtain rfl := Nat.eq_of_beq_eq_true h
  exact ⟨5, RX10, TX10, 3, rfl, rfl, Or.inl rfl⟩
theorem zokLong_can : zcan "java/lang/Long" zokLong := fun kd h => by
  rcases Bool.or_eq_true_iff.mp h with h | h <;> obtain rfl := Nat.eq_of_beq_eq_true h
  · exact ⟨18, RJ19, TJ19, 1, rfl, rfl, Or.inl rfl⟩
  · exact ⟨18, RJ19, TJ19, 1, rfl, rfl, Or.inl rfl⟩
def zokAct (k : Nat) : Bool := Nat.beq k 23
theorem zokAct_can : zcan "LinkTimes$Act" zokAct := fun kd h => by
  obtain rfl := Nat.eq_of_beq_eq_true h
  exact ⟨7, RX14, TX14, 3, rfl, rfl, Or.inl rfl⟩
def zokNoWay (k : Nat) : Bool := Nat.beq k 27
theorem zokNoWay_can : zcan "LinkTimes$NoWay" zokNoWay := fun kd h => by
  obtain rfl := Nat.eq_of_beq_eq_true h
  exact ⟨11, RX13, TX13, 7, rfl, rfl, Or.inl rfl⟩
