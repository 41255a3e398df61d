/-! Z 27: String constants as receivers; kinds that may be cast or stored -/
def zisS (a : Nat) : Prop := 1000000010 ≤ a ∧ a < 1000000021
def zi_getSv (n : Nat) : ZI := fun L st h => match st with
  | .inr (.inr (.inl (some a))) :: st' => if 1000000010 ≤ a ∧ a < 1000000021 then zgo n L (zvr (some (a + 100)) :: st') h else none
  | _ => none
def zi_getSc (n : Nat) : ZI := fun L st h => match st with
  | .inr (.inr (.inl (some a))) :: st' => if 1000000010 ≤ a ∧ a < 1000000021 then zgo n L (zvi 0 :: st') h else none
  | _ => none
def zi_callVS (f : ZF) (na n : Nat) : ZI := fun L st h => match (st.take na).reverse with
  | .inr (.inr (.inl (some a))) :: as => if (1000000010 ≤ a ∧ a < 1000000021) ∧ as.length + 1 = na ∧ zcat (st.drop na) ≤ 8 then zafter n L (st.drop na) (f (zvr (some a) :: as) h) else none
  | _ => none
section
variable {M : ZM} {pc n p : Nat} {L st : List ZV} {h : PH} {F : ZF} {v0 : ZV}
theorem e_getSv (hl : zlk M.1 pc = some (zi_getSv n)) : zev M pc L (zvr (some p) :: st) h = if 1000000010 ≤ p ∧ p < 1000000021 then zev M n L (zvr (some (p + 100)) :: st) h else none := by
  by_cases hc : 1000000010 ≤ p ∧ p < 1000000021
  · rw [if_pos hc]; exact ze_go hl (if_pos hc)
  · rw [if_neg hc]; exact ze_none hl (if_neg hc)
theorem e_getSc (hl : zlk M.1 pc = some (zi_getSc n)) : zev M pc L (zvr (some p) :: st) h = if 1000000010 ≤ p ∧ p < 1000000021 then zev M n L (zvi 0 :: st) h else none := by
  by_cases hc : 1000000010 ≤ p ∧ p < 1000000021
  · rw [if_pos hc]; exact ze_go hl (if_pos hc)
  · rw [if_neg hc]; exact ze_none hl (if_neg hc)
theorem e_callVS1 (hl : zlk M.1 pc = some (zi_callVS F 1 n)) : zev M pc L (zvr (some p) :: st) h = if (1000000010 ≤ p ∧ p < 1000000021) ∧ zcat st ≤ 8 then zk M pc n L st (F [zvr (some p)] h) else none := by
  by_cases hc : (1000000010 ≤ p ∧ p < 1000000021) ∧ zcat st ≤ 8
  · rw [if_pos hc]; exact ze_after hl (if_pos ⟨hc.1, rfl, hc.2⟩)
  · rw [if_neg hc]; exact ze_none hl (if_neg (fun z => hc ⟨z.1, z.2.2⟩))
theorem e_callVS2 (hl : zlk M.1 pc = some (zi_callVS F 2 n)) : zev M pc L (v0 :: zvr (some p) :: st) h = if (1000000010 ≤ p ∧ p < 1000000021) ∧ zcat st ≤ 8 then zk M pc n L st (F [zvr (some p), v0] h) else none := by
  by_cases hc : (1000000010 ≤ p ∧ p < 1000000021) ∧ zcat st ≤ 8
  · rw [if_pos hc]; exact ze_after hl (if_pos ⟨hc.1, rfl, hc.2⟩)
  · rw [if_neg hc]; exact ze_none hl (if_neg (fun z => hc ⟨z.1, z.2.2⟩))
end
section
variable {y : MethodName} {cc : ByteArray} {nL : Nat} {ret : Option FieldType} {lv pc : Nat} {lv2 : Nat} {y2 : MethodName} {b2 : ByteArray} {L2 : Nat} {r2 : Option FieldType} {f : ZF} {idx na : Nat}
theorem k_getSv (d : decode cc pc = .ok (.getfield idx, 3)) (q : Cond.fieldLink y.cls idx "java/lang/String" "value" "[B" ∈ lw_all) : IOk y cc nL ret lv pc (zi_getSv (pc + 3)) := by
  intro L st h o eo
  unfold zi_getSv at eo
  split at eo
  · rename_i a st'
    by_cases hz : 1000000010 ≤ a ∧ a < 1000000021
    · rw [if_pos hz] at eo
      obtain rfl := Option.some.inj eo
      refine iok_stk fun G p l e R s m args below meth c H locs cells slots Q ls hx hb hown hts hG hr hS _ hst => ⟨zst_cons trivial (zst_tl hst), fun k => ?_⟩
      obtain ⟨adK, adV, h2, h3, -⟩ := hG.2.2.2.2.2.2.1
      obtain ⟨i, hi, rfl⟩ : ∃ i, i < 11 ∧ a = 1000000010 + i := ⟨a - 1000000010, by omega, by omega⟩
      have k9 : W p l e R s m args below meth c H locs cells slots Q (F0 m (pc + 3) ls (va_rf (G.2.2.1 (1000000010 + i + 100)) :: st'.map (zcv G))) := k
      rw [show 1000000010 + i + 100 = 1000000110 + i by omega, (h3 i hi).2] at k9
      show W p l e R s m args below meth c H locs cells slots Q (F0 m pc ls (va_rf (G.2.2.1 (1000000010 + i)) :: st'.map (zcv G)))
      rw [(h3 i hi).1]
      exact vk_getf hx hb (h2.1 i hi).2.2.1 hS hown (hts _ q) (fun _ h9 => h9) d k9
    · rw [if_neg hz] at eo; cases eo
  · cases eo
theorem k_getSc (d : decode cc pc = .ok (.getfield idx, 3)) (q : Cond.fieldLink y.cls idx "java/lang/String" "coder" "B" ∈ lw_all) : IOk y cc nL ret lv pc (zi_getSc (pc + 3)) := by
  intro L st h o eo
  unfold zi_getSc at eo
  split at eo
  · rename_i a st'
    by_cases hz : 1000000010 ≤ a ∧ a < 1000000021
    · rw [if_pos hz] at eo
      obtain rfl := Option.some.inj eo
      refine iok_stk fun G p l e R s m args below meth c H locs cells slots Q ls hx hb hown hts hG hr hS _ hst => ⟨zst_cons zk0 (zst_tl hst), fun k => ?_⟩
      obtain ⟨adK, adV, h2, h3, -⟩ := hG.2.2.2.2.2.2.1
      obtain ⟨i, hi, rfl⟩ : ∃ i, i < 11 ∧ a = 1000000010 + i := ⟨a - 1000000010, by omega, by omega⟩
      show W p l e R s m args below meth c H locs cells slots Q (F0 m pc ls (va_rf (G.2.2.1 (1000000010 + i)) :: st'.map (zcv G)))
      rw [(h3 i hi).1]
      exact vk_getf hx hb (h2.1 i hi).2.1 hS hown (hts _ q) (fun _ h9 => h9) d k
    · rw [if_neg hz] at eo; cases eo
  · cases eo
theorem k_callVS (d : decode cc pc = .ok (.invokevirtual idx, 3)) (hs : MSound lv2 y2 (ws_ y2 b2 L2 r2) f) (q1 : Cond.methodLink y.cls idx y2 ∈ lw_all) (q5 : Cond.instanceMethod y2 ∈ lw_all) (q6 : Cond.selects "java/lang/String" y2 y2 ∈ lw_all) (q3 : Cond.initialized y2.cls ∈ lw_all) (q4 : Cond.code y2 b2 L2 r2 ∈ lw_all) (hd : (parseMethodDescriptor y2.desc).map (fun d => d.parameters.length + 1) = some na) (hmh : (y2.cls ≠ "java/lang/invoke/MethodHandle" ∧ y2.cls ≠ "java/lang/invoke/VarHandle")) (hlv : lv2 + 1 ≤ lv) (hL : L2 ≤ 45) : IOk y cc nL ret lv pc (zi_callVS f na (pc + 3)) := by
  intro L st h o eo
  have eo' : ∃ (a : Nat) (as : List ZV) (r : ZR), (st.take na).reverse = zvr (some a) :: as ∧ (1000000010 ≤ a ∧ a < 1000000021) ∧ as.length + 1 = na ∧ zcat (st.drop na) ≤ 8 ∧ f (zvr (some a) :: as) h = some r ∧ zafter (pc + 3) L (st.drop na) (some r) = some o := by
    unfold zi_callVS at eo
    split at eo
    · rename_i a as hs9
      by_cases hc : (1000000010 ≤ a ∧ a < 1000000021) ∧ as.length + 1 = na ∧ zcat (st.drop na) ≤ 8
      · rw [if_pos hc] at eo
        cases hf : f (zvr (some a) :: as) h with
        | none => rw [hf] at eo; cases eo
        | some r => rw [hf] at eo; exact ⟨a, as, r, hs9, hc.1, hc.2.1, hc.2.2, hf, eo⟩
      · rw [if_neg hc] at eo; cases eo
    · cases eo
  obtain ⟨a, as, r, k0, k1, k2, k3, hf, ho⟩ := eo'
  refine z_call (as := zvr (some a) :: as) (rest := st.drop na) ho (hs _ h r hf).1 (fun v hv => List.mem_of_mem_drop hv) ?_
  intro G p l e R s m args below meth c h0 H locs cells slots ls hC hr hS hl hst f1 f2
  obtain ⟨c1, c2, c3, c4, c5, c6, c7, c8, c9, d1⟩ := id hC
  have has : ∀ v ∈ zvr (some a) :: as, zok v := fun v hv => hst v (List.mem_of_mem_take (List.mem_reverse.mp (by rw [k0]; exact hv)))
  obtain ⟨adK, adV, h2, h3, -⟩ := c9.2.2.2.2.2.2.1
  obtain ⟨i, hi, rfl⟩ : ∃ i, i < 11 ∧ a = 1000000010 + i := ⟨a - 1000000010, by omega, by omega⟩
  obtain ⟨cell, e2, e3, e4⟩ := vk_recv h2 hi hS
  have e1 := (h3 i hi).1
  have haA : (Value.ref (adK i) :: as.map (zcv G)).toArray = ((zvr (some (1000000010 + i)) :: as).map (zcv G)).toArray := by
    show _ = (va_rf (G.2.2.1 (1000000010 + i)) :: as.map (zcv G)).toArray
    rw [e1]; rfl
  have hstk : st.map (zcv G) = (as.map (zcv G)).reverse ++ .ref (adK i) :: (st.drop na).map (zcv G) := by
    rw [zst_split st na, k0]
    show (va_rf (G.2.2.1 (1000000010 + i)) :: as.map (zcv G)).reverse ++ _ = _
    rw [e1, List.reverse_cons, List.append_assoc]; rfl
  refine z_toCall (aA := (Value.ref (adK i) :: as.map (zcv G)).toArray) fun T hT X => ?_
  exact vx_callV (C := "java/lang/String") X c1 c7 (c8 _ q1) (c8 _ q5) (c8 _ q6) (c8 _ q4) hmh (z_bk hs hf hC has hlv hL q3 q4) (by rw [hT]; exact e2) e3 e4 (g := F0 m pc ls (st.map (zcv G))) rfl (by show ls.size = _; rw [hl.1, c3]) (argsL := as.map (zcv G)) (rest := (st.drop na).map (zcv G)) (zlenV_of hd (by simp; omega)) hstk (lv_room (by rw [zcat_sum]; exact k3)) (by rw [c2]; exact d) (fun vm₁ hW => z_pre c9 hr hS hT hW f1 f2 haA)
end
/-! kinds that may be cast to a class, stored into its arrays -/
def zokDep (k : Nat) : Bool := Nat.beq k 22
theorem zokDep_can : zcan "LinkTimes$Departure" zokDep := fun kd h => by
  obtain rfl := Nat.eq_of_beq_eq_true h
  exact ⟨6, RX11, TX11, 9, rfl, rfl, Or.inl rfl⟩
def zokSpot (k : Nat) : Bool := Nat.beq k 21
def zokLong (k : Nat) : Bool := Nat.beq k 34 || Nat.beq k 1034
def zokO (k : Nat) : Bool := Nat.beq k 21 || Nat.beq k 22 || Nat.beq k 23 || Nat.beq k 34 || Nat.beq k 1034
