/-! Z 21: Object[].class, getClass() of an Object[], System.arraycopy of references -/
def zcpR (h : PH) (a0 a : Nat) (sp dp n j : Int) : Option Nat := if dp ≤ j ∧ j < dp + n then ph_R h a0 (sp + (j - dp)) else ph_R h a j
def zallk (ok : Nat → Bool) (h : PH) (a0 : Nat) (sp n : Int) : Bool := (List.range n.toNat).all (fun i => match ph_R h a0 (sp + i) with
  | none => true
  | some b => ok (ph_K h b).1)
def zi_acopy (ok : Nat → Bool) (nx : Nat) : ZI := fun L st h => match st with
  | .inl n :: .inl dp :: .inr (.inr (.inl (some a))) :: .inl sp :: .inr (.inr (.inl (some a0))) :: st' => if ((ph_K h a).1 = 5 ∧ (ph_K h a0).1 = 5 ∧ a ≠ a0) ∧ (0 ≤ sp ∧ 0 ≤ dp ∧ 0 ≤ n ∧ sp + n ≤ (ph_K h a0).2 ∧ dp + n ≤ (ph_K h a).2) ∧ zallk ok h a0 sp n = true ∧ zcat st' ≤ 8 then zgo nx L st' (sa_R h a (zcpR h a0 a sp dp n)) else none
  | _ => none
def zi_getC (n : Nat) : ZI := fun L st h => match st with
  | .inr (.inr (.inl (some a))) :: st' => if (ph_K h a).1 = 5 ∧ zcat st' ≤ 8 then zgo n L (zvr (some 1000000007) :: st') h else none
  | _ => none
section
variable {M : ZM} {pc nx : Nat} {L st : List ZV} {h : PH}
theorem e_acopy {ok : Nat → Bool} {n dp sp : Int} {a a0 : Nat} (hl : zlk M.1 pc = some (zi_acopy ok nx)) : zev M pc L (zvi n :: zvi dp :: zvr (some a) :: zvi sp :: zvr (some a0) :: st) h = if ((ph_K h a).1 = 5 ∧ (ph_K h a0).1 = 5 ∧ a ≠ a0) ∧ (0 ≤ sp ∧ 0 ≤ dp ∧ 0 ≤ n ∧ sp + n ≤ (ph_K h a0).2 ∧ dp + n ≤ (ph_K h a).2) ∧ zallk ok h a0 sp n = true ∧ zcat st ≤ 8 then zev M nx L st (sa_R h a (zcpR h a0 a sp dp n)) else none := by
  by_cases hc : ((ph_K h a).1 = 5 ∧ (ph_K h a0).1 = 5 ∧ a ≠ a0) ∧ (0 ≤ sp ∧ 0 ≤ dp ∧ 0 ≤ n ∧ sp + n ≤ (ph_K h a0).2 ∧ dp + n ≤ (ph_K h a).2) ∧ zallk ok h a0 sp n = true ∧ zcat st ≤ 8
  · rw [if_pos hc]; exact ze_go hl (if_pos hc)
  · rw [if_neg hc]; exact ze_none hl (if_neg hc)
theorem e_getC {a : Nat} (hl : zlk M.1 pc = some (zi_getC nx)) : zev M pc L (zvr (some a) :: st) h = if (ph_K h a).1 = 5 ∧ zcat st ≤ 8 then zev M nx L (zvr (some 1000000007) :: st) h else none := by
  by_cases hc : (ph_K h a).1 = 5 ∧ zcat st ≤ 8
  · rw [if_pos hc]; exact ze_go hl (if_pos hc)
  · rw [if_neg hc]; exact ze_none hl (if_neg hc)
end
section
variable {y : MethodName} {cc : ByteArray} {nL : Nat} {ret : Option FieldType} {lv pc idx : Nat}
theorem k_ldcM (d : decode cc pc = .ok (.ldc idx, 2)) (q : Cond.classLink y.cls idx "[Ljava/lang/Object;" ∈ lw_all) : IOk y cc nL ret lv pc (zi_push (zvr (some 1000000007)) (pc + 2)) := by
  intro L st h o e
  obtain rfl := Option.some.inj e
  refine iok_stk fun G p l e R s m args below meth c H locs cells slots Q ls hx hb hown hts hG hr hS _ hst => ⟨zst_cons trivial hst, fun k => ?_⟩
  obtain ⟨mi, h5, h6⟩ := hG.2.2.2.2.2.2.2.1
  have k9 : W p l e R s m args below meth c H locs cells slots Q (F0 m (pc + 2) ls (va_rf (G.2.2.1 1000000007) :: st.map (zcv G))) := k
  rw [h5] at k9
  exact va_ldcM hx hb hown (hts _ q) h6 d k9
theorem z_oarr {G : ZG} {s : State} (hG : ZGlob G s) : s.vm.findClass "[Ljava/lang/Object;" = some (G.2.1 5) := va_nmO (ztys_at hG 5 (by decide) (by decide)).2 (by decide)
theorem k_getC (d : decode cc pc = .ok (.invokevirtual idx, 3)) (q1 : Cond.methodLink y.cls idx ⟨"java/lang/Object", "getClass", "()Ljava/lang/Class;"⟩ ∈ lw_all) (q2 : Cond.declares ⟨"java/lang/Object", "getClass", "()Ljava/lang/Class;"⟩ ∈ lw_tbl) (q3 : Cond.selects "[Ljava/lang/Object;" ⟨"java/lang/Object", "getClass", "()Ljava/lang/Class;"⟩ ⟨"java/lang/Object", "getClass", "()Ljava/lang/Class;"⟩ ∈ lw_all) (q4 : Cond.instanceMethod ⟨"java/lang/Object", "getClass", "()Ljava/lang/Class;"⟩ ∈ lw_all) (q5 : Cond.native ⟨"java/lang/Object", "getClass", "()Ljava/lang/Class;"⟩ ∈ lw_all) (hlv : 1 ≤ lv) : IOk y cc nL ret lv pc (zi_getC (pc + 3)) := by
  intro L st h o eo
  unfold zi_getC at eo
  split at eo
  · rename_i a st'
    by_cases hz : (ph_K h a).1 = 5 ∧ zcat st' ≤ 8
    · rw [if_pos hz] at eo
      obtain rfl := Option.some.inj eo
      refine ⟨⟨Nat.le_refl _, Nat.le_refl _⟩, ?_⟩
      intro G p l e R s m args below meth c h0 NF SF Q hC b1 b2 hk H locs ls hr hS hl hst h1 h2
      obtain ⟨c1, c2, c3, c4, c5, c6, c7, c8, c9, d1, d2, d3, d4, d5, d6⟩ := hC
      obtain ⟨hat, cell, g1, g2, g3, g4, g5, g6⟩ := z_acell c9 hr (a := a) (by omega) (by omega)
      obtain ⟨mi, h5, h6⟩ := c9.2.2.2.2.2.2.2.1
      have k9 := hk H locs ls hr hS hl (zst_cons trivial (zst_tl hst)) h1 h2
      have k8 : W p l e R s m args below meth c H locs (ph_N h - ph_N h0) (ph_S h - ph_S h0) Q (F0 m (pc + 3) ls (va_rf (G.2.2.1 1000000007) :: st'.map (zcv G))) := k9
      rw [h5] at k8
      show W p l e R s m args below meth c H locs (ph_N h - ph_N h0) (ph_S h - ph_S h0) Q (F0 m pc ls (va_rf (G.2.2.1 a) :: st'.map (zcv G)))
      rw [hat]
      exact va_getC c1 c2 (by rw [c3, hl.1]) c7 (c8 _ q1) (va_Nw.use rfl (c9.2.1 _ q2 rfl)) (c8 _ q3) (c8 _ q4) (c8 _ q5) h6 ⟨cell, g1, by rw [g3]; rfl, by rw [g4, hz.1]; exact z_oarr c9⟩ (by omega) (by rw [zcat_sum]; omega) d k8
    · rw [if_neg hz] at eo; cases eo
  · cases eo
theorem k_acopy {ok : Nat → Bool} (d : decode cc pc = .ok (.invokestatic idx, 3)) (q1 : Cond.methodLink y.cls idx arraycopyName ∈ lw_all) (q2 : Cond.native arraycopyName ∈ lw_all) (q3 : Cond.static arraycopyName ∈ lw_all) (q4 : Cond.initialized "java/lang/System" ∈ lw_all) (hok : zcan "java/lang/Object" ok) (hlv : 1 ≤ lv) : IOk y cc nL ret lv pc (zi_acopy ok (pc + 3)) := by
  intro L st h o eo
  unfold zi_acopy at eo
  split at eo
  · rename_i n dp a sp a0 st'
    by_cases hz : ((ph_K h a).1 = 5 ∧ (ph_K h a0).1 = 5 ∧ a ≠ a0) ∧ (0 ≤ sp ∧ 0 ≤ dp ∧ 0 ≤ n ∧ sp + n ≤ (ph_K h a0).2 ∧ dp + n ≤ (ph_K h a).2) ∧ zallk ok h a0 sp n = true ∧ zcat st' ≤ 8
    · rw [if_pos hz] at eo
      obtain rfl := Option.some.inj eo
      refine ⟨⟨Nat.le_refl _, Nat.le_refl _⟩, ?_⟩
      intro G p l e R s m args below meth c h0 NF SF Q hC b1 b2 hk H locs ls hr hS hl hst h1 h2
      obtain ⟨c1, c2, c3, c4, c5, c6, c7, c8, c9, d1, d2, d3, d4, d5, d6⟩ := hC
      obtain ⟨⟨z1, z2, z3⟩, ⟨z4, z5, z6, z7, z8⟩, z9, z10⟩ := hz
      obtain ⟨hat, cd, g1, g2, g3, g4, g5, g6⟩ := z_acell c9 hr (a := a) (by omega) (by omega)
      obtain ⟨hat0, cs, f1, f2, f3, f4, f5, f6⟩ := z_acell c9 hr (a := a0) (by omega) (by omega)
      have hok9 : ∀ i : Nat, i < n.toNat → ∀ b, ph_R h a0 (sp + i) = some b → ok (ph_K h b).1 = true := by
        intro i hi b hb
        have h9 := List.all_eq_true.mp z9 i (List.mem_range.mpr hi)
        rw [hb] at h9
        exact h9
      obtain ⟨-, hRA⟩ := ztys_at c9 5 (by decide) (by decide)
      obtain ⟨kA, comp, k1, k2, k3, -⟩ := hRA
      have i0 : (Int32.ofInt sp).toNatClampNeg = sp.toNat := zj_clamp z4 (by omega)
      have i1 : (Int32.ofInt dp).toNatClampNeg = dp.toNat := zj_clamp z5 (by omega)
      have i2 : (Int32.ofInt n).toNatClampNeg = n.toNat := zj_clamp z6 (by omega)
      have t0 : (Int32.ofInt sp).toInt = sp := i32_t (by omega)
      have t1 : (Int32.ofInt dp).toInt = dp := i32_t (by omega)
      have t2 : (Int32.ofInt n).toInt = n := i32_t (by omega)
      have nn : ∀ x : Int, 0 ≤ x → x ≤ 2147483647 → ¬ Int32.ofInt x < 0 := fun x hx1 hx2 hlt => by
        have h9 : (Int32.ofInt x).toInt < (0 : Int32).toInt := Int32.lt_iff_toInt_lt.mp hlt
        rw [i32_t (by omega)] at h9
        have h8 : (0 : Int32).toInt = 0 := rfl
        omega
      have hslot : ∀ j : Nat, j < (ph_K h a0).2 → cs.slots[j]? = some (va_rf ((ph_R h a0 j).bind G.2.2.1)) := by
        intro j hj
        obtain ⟨q, cell9, e1, e2, e3, e4, e5, e6, e7, e8, e9⟩ := hr.arr (a := a0) (by omega) (by omega)
        obtain rfl := Option.some.inj (e1.symm.trans hat0)
        obtain rfl := Option.some.inj (e2.symm.trans f1)
        rw [e8 j hj, z2]
        rfl
      have hslot1 : ∀ j : Nat, j < (ph_K h a).2 → cd.slots[j]? = some (va_rf ((ph_R h a j).bind G.2.2.1)) := by
        intro j hj
        obtain ⟨q, cell9, e1, e2, e3, e4, e5, e6, e7, e8, e9⟩ := hr.arr (a := a) (by omega) (by omega)
        obtain rfl := Option.some.inj (e1.symm.trans hat)
        obtain rfl := Option.some.inj (e2.symm.trans g1)
        rw [e8 j hj, z1]
        rfl
      intro T hT X
      obtain ⟨vm', X', step⟩ := X.arraycopy c1 c7 (c8 _ q1) (c8 _ q2) (c8 _ q3) (c8 _ q4) (src := G.2.2.2 + a0) (dst := G.2.2.2 + a) (cs := cs) (cd := cd) (srcPos := Int32.ofInt sp) (destPos := Int32.ofInt dp) (n := Int32.ofInt n) (ks := kA) (kd := kA) (by rw [hT]; exact f1) (by rw [hT]; exact g1) (fun k hh => by rw [f3] at hh; cases hh) (fun k hh => by rw [g3] at hh; cases hh) (fun hh => by rw [f3] at hh; cases hh) (fun hh => by rw [g3] at hh; cases hh)
        (by rw [f4, z2]; exact k1) (by rw [g4, z1]; exact k1) k2 k2 rfl (nn sp z4 (by omega)) (nn dp z5 (by omega)) (nn n z6 (by omega)) (by rw [t0, t2, f5]; omega) (by rw [t1, t2, g5]; omega)
        (fun vm₁ hal i hi => by
          rw [i2] at hi
          rw [i0, Array.getD_eq_getD_getElem?, hslot (sp.toNat + i) (by omega)]
          have e9 : ((sp.toNat + i : Nat) : Int) = sp + i := by omega
          rw [e9]
          cases hb : ph_R h a0 (sp + i) with
          | none => exact ⟨rfl, trivial⟩
          | some b =>
            obtain ⟨ci, C, T0, N, j1, j2, j3⟩ := hok _ (hok9 i hi b hb)
            obtain ⟨q9, r1, cellV, r2, r3, r4, r5, kV, r6⟩ := z_recv c9 hr j1 j2
            have asg : s.vm.assignable cellV.cls comp = true := by
              rcases j3 with j3 | j3
              · subst j3
                have hcl := (c9.1.1 ci _ j2).2
                have o1 := Option.some.inj (r4.symm.trans hcl.1)
                have o2 := Option.some.inj (k3.symm.trans hcl.1)
                rw [o1, o2]
                exact va_assign hcl
              · obtain ⟨cx, tx, w1, w2, w3⟩ := Cond.castable_spec (va_Nw.use (A := args) rfl (c9.2.1 _ j3 rfl))
                cases r4.symm.trans w1
                cases k3.symm.trans w2
                exact w3
            have e8 : (some b).bind G.2.2.1 = some q9 := r1
            rw [e8]
            obtain ⟨kE, hkE, -⟩ := Vm.findClass_spec k3
            obtain ⟨kC', hkC', -⟩ := hal.2.2 _ _ r6
            obtain ⟨kE', hkE', -⟩ := hal.2.2 _ _ hkE
            refine ⟨rfl, cellV, (show T.heap[q9]? = some cellV by rw [hT]; exact r2), (fun q hh => by rw [hh] at r3; cases r3), ⟨kC', hkC'⟩, ⟨kE', hkE'⟩, ?_⟩
            show vm₁.assignable _ _ = true
            rw [hal.assignable]
            exact asg)
        (g := F0 m pc ls (.int (Int32.ofInt n) :: .int (Int32.ofInt dp) :: .ref (G.2.2.2 + a) :: .int (Int32.ofInt sp) :: .ref (G.2.2.2 + a0) :: st'.map (zcv G))) rfl (by show ls.size = _; rw [hl.1, c3]) (rest := st'.map (zcv G)) rfl (by rw [c2]; exact d) (by omega) (by
          have hw : nativeFrameWords "java/lang/System" "arraycopy" 5 ≤ 20 := by decide
          show 2 * 0 + _ + _ ≤ _
          rw [zcat_sum]; omega)
      have hcp : copied cs cd (Int32.ofInt sp) (Int32.ofInt dp) (Int32.ofInt n) = cd.storeRun dp.toNat (cs.stretch sp.toNat n.toNat) := by
        show cd.storeRun (Int32.ofInt dp).toNatClampNeg (cs.stretch (Int32.ofInt sp).toNatClampNeg (Int32.ofInt n).toNatClampNeg) = _
        rw [i0, i1, i2]
      rw [hcp] at X' step
      rw [i0, i1, i2] at X'
      have hlt : G.2.2.2 + a < H.size := (Array.getElem?_eq_some_iff.mp g1).1
      obtain ⟨s1, s2, s3, s4, s5⟩ := Cell.storeRun_facts cd dp.toNat (cs.stretch sp.toNat n.toNat)
      have hget := fun j => Cell.storeRun_get cd dp.toNat (cs.stretch sp.toNat n.toNat) j (by rw [Cell.stretch_length, g5]; omega)
      obtain ⟨cell', hcell'⟩ : ∃ z, z = cd.storeRun dp.toNat (cs.stretch sp.toNat n.toNat) := ⟨_, rfl⟩
      rw [← hcell'] at X' step s1 s2 s3 hget
      have hheap : ((T.setVm vm').setCell (G.2.2.2 + a) cell').heap = H.setIfInBounds (G.2.2.2 + a) cell' := by rw [← hT]; rfl
      have oq : ∀ q : Nat, q ≠ G.2.2.2 + a → (H.setIfInBounds (G.2.2.2 + a) cell')[q]? = H[q]? := fun q hq => by simp [Array.getElem?_setIfInBounds, Ne.symm hq]
      have oa : (H.setIfInBounds (G.2.2.2 + a) cell')[G.2.2.2 + a]? = some cell' := by simp [Array.getElem?_setIfInBounds, hlt]
      have hrep : ZRep G s (sa_R h a (zcpR h a0 a sp dp n)) (H.setIfInBounds (G.2.2.2 + a) cell') := by
        refine hr.upd c9.2.2.2.2.1 (a := a) (by omega) (by omega) rfl rfl (fun b hb => ⟨rfl, rfl, funext fun j => by rw [pR_aR, if_neg hb]⟩) hr.2.2.2.1 (by simp) oq ?_
        unfold zat
        rw [pK_aR, if_neg (by omega), if_pos (by omega)]
        obtain ⟨q, cell9, e1, e2, e3, e4, e5, e6, e7, e8, e9⟩ := hr.arr (a := a) (by omega) (by omega)
        obtain rfl := Option.some.inj (e1.symm.trans hat)
        obtain rfl := Option.some.inj (e2.symm.trans g1)
        refine ⟨G.2.2.2 + a, cell', hat, oa, ⟨fun k => by rw [s2]; exact e3.1 k, by rw [s1]; exact e3.2⟩, by rw [s2]; exact e4, by rw [s3]; exact e5, by rw [s3]; exact e6, e7, fun j hj => ?_, fun _ => ⟨by rw [s1, pK_aR]; exact g4, by rw [s2]; exact g3, by rw [s3, pK_aR]; exact g5⟩⟩
        rw [pK_aR] at hj ⊢
        rw [hget j, Cell.stretch_length]
        have hm5 : (ph_K h a).1 % 1000 = 5 := by omega
        rw [hm5]
        show _ = some (va_rf ((ph_R (sa_R h a (zcpR h a0 a sp dp n)) a j).bind G.2.2.1))
        rw [pR_aR, if_pos rfl]
        unfold zcpR
        by_cases hj2 : dp.toNat ≤ j ∧ j < dp.toNat + n.toNat
        · rw [if_pos hj2, if_pos (by omega)]
          unfold Cell.stretch
          rw [List.getElem?_map, List.getElem?_range (by omega)]
          show some (cs.slots.getD (sp.toNat + (j - dp.toNat)) .null) = _
          rw [Array.getD_eq_getD_getElem?, hslot (sp.toNat + (j - dp.toNat)) (by omega)]
          have e9 : ((sp.toNat + (j - dp.toNat) : Nat) : Int) = sp + ((j : Int) - dp) := by omega
          rw [e9]
          rfl
        · rw [if_neg hj2, if_neg (by omega), hslot1 j hj]
      have hS' : va_S (zA G) s.heap (H.setIfInBounds (G.2.2.2 + a) cell') (locs ++ (cs.stretch sp.toNat n.toNat).zipIdx.map fun q => ⟨G.2.2.2 + a, dp.toNat + q.2⟩) := ⟨by simp; exact hS.1, fun q w1 w2 => by
          rw [oq q (fun e => w2 (by rw [e]; exact Nat.le_add_right _ _))]
          exact hS.2.1 q w1 w2, fun q hq => by
          rcases List.mem_append.mp hq with hh | hh
          · exact hS.2.2 q hh
          · obtain ⟨z, -, hz⟩ := List.mem_map.mp hh
            rw [← hz]
            exact Nat.le_add_right _ _⟩
      have hst' : ∀ v ∈ st', zok v := zst_tl (zst_tl (zst_tl (zst_tl (zst_tl hst))))
      obtain ⟨t, a1, b9⟩ := hk _ _ ls hrep hS' hl hst' h1 h2 _ hheap X'
      refine ⟨t, ?_, b9⟩
      have hst9 : (Sum.inl n :: Sum.inl dp :: Sum.inr (Sum.inr (Sum.inl (some a))) :: Sum.inl sp :: Sum.inr (Sum.inr (Sum.inl (some a0))) :: st' : List ZV).map (zcv G) = .int (Int32.ofInt n) :: .int (Int32.ofInt dp) :: .ref (G.2.2.2 + a) :: .int (Int32.ofInt sp) :: .ref (G.2.2.2 + a0) :: st'.map (zcv G) := by
        show (.int (Int32.ofInt n) :: .int (Int32.ofInt dp) :: va_rf (G.2.2.1 a) :: .int (Int32.ofInt sp) :: va_rf (G.2.2.1 a0) :: st'.map (zcv G)) = _
        rw [hat, hat0]; rfl
      rw [hst9]
      exact step t a1
    · rw [if_neg hz] at eo; cases eo
  · cases eo
end
