/-! Z 19: a method as a function of its arguments -/
noncomputable def zrunM (M : ZM) (nL : Nat) : ZF := fun as h => if Nat.ble (zsl as).length nL = true then zev M 0 (zent nL as) [] h else none
theorem zrunM_eq {M : ZM} {nL : Nat} {as L : List ZV} {h : PH} (h1 : Nat.ble (zsl as).length nL = true) (h2 : zent nL as = L) : zrunM M nL as h = zev M 0 L [] h := by
  unfold zrunM
  rw [if_pos h1, h2]
theorem msound_M {y : MethodName} {cc : ByteArray} {nL : Nat} {ret : Option FieldType} {lv : Nat} {M : ZM} (hy : plainName y.cls = true) (hM : zall y cc nL ret lv M.1) (hM2 : ∀ pc k, M.2 pc k = none) : MSound lv y (ws_ y cc nL ret) (zrunM M nL) :=
  msound_of hy (fun as h => by
    unfold zrunM
    by_cases hc : Nat.ble (zsl as).length nL = true
    · exact Or.inl (if_pos hc)
    · exact Or.inr (if_neg hc)) (fun as h r e => by
    unfold zrunM at e
    by_cases hc : Nat.ble (zsl as).length nL = true
    · exact Nat.le_of_ble_eq_true hc
    · rw [if_neg hc] at e; cases e) hM hM2
/-- an instruction that is never come to -/
def zi_stuck : ZI := fun _ _ _ => none
theorem k_stuck {y : MethodName} {cc : ByteArray} {nL : Nat} {ret : Option FieldType} {lv pc : Nat} : IOk y cc nL ret lv pc zi_stuck := fun _ _ _ _ e => by cases e
