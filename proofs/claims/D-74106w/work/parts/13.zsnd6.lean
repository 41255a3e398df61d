/-! Z 13: soundness: stores into arrays, new cells, casts, statics, ends -/
section
variable {y : MethodName} {cc : ByteArray} {nL : Nat} {ret : Option FieldType} {lv pc n t : Nat} {L st st' : List ZV} {h h' : PH}
theorem zelt_stI {G : ZG} {a kd : Nat} {j x : Int} (hk : kd ≤ 3) (h0 : 0 ≤ j) : zelt G (st_I h a j x) a kd j.toNat = .int (Int32.ofInt x) := by
  rw [zelt_I hk, pI_I, if_pos ⟨rfl, zj_cast h0⟩]
theorem k_iast (d : decode cc pc = .ok (.iastore, 1)) : IOk y cc nL ret lv pc (zi_ast (pc + 1)) := by
  intro L st h o e
  unfold zi_ast at e
  split at e
  · rename_i x j a st'
    by_cases hz : (ph_K h a).1 = 1 ∧ 0 ≤ j ∧ j < (ph_K h a).2
    · rw [if_pos hz] at e
      obtain rfl := Option.some.inj e
      refine iok_put rfl rfl fun G p l e R s m args below meth c H locs cells slots Q ls hx hb _ hown hts hG hr hS hst => ⟨zst_tl (zst_tl (zst_tl hst)), fun kk => ?_⟩
      obtain ⟨hat, cell, q1, q2, q3, q4, q5, q6⟩ := z_acell hG hr (a := a) (by omega) (by omega)
      rw [hz.1] at q2
      show W p l e R s m args below meth c H locs cells slots Q (F0 m pc ls (.int (Int32.ofInt x) :: .int (Int32.ofInt j) :: va_rf (G.2.2.1 a) :: st'.map (zcv G)))
      rw [hat]
      refine W.iast hx hb q1 q2 (by rw [q3]; exact fun h => by cases h) (zj_in (k := cell.slots.size) hz.2.1 hz.2.2 (by omega) (by omega)) rfl rfl d fun H' w1 w2 w3 => ?_
      rw [zj_clamp hz.2.1 (by omega)] at w1 ⊢
      obtain ⟨z1, z2⟩ := z_ast (h' := st_I h a j x) (jn := j.toNat) hG hr hS (by omega) (by omega) rfl rfl st_I_ne (hr.2.2.2.1.st_I (zst_hd hst)) (by omega) (by rw [hz.1]; exact zelt_stI (by decide) hz.2.1) (fun i hi => by rw [hz.1, zelt_I (by decide), zelt_I (by decide), pI_I, if_neg (fun z => hi (by omega))]) q1 w1 w2 w3
      exact kk H' _ z1 z2
    · rw [if_neg hz] at e; cases e
  · cases e
theorem k_bast (d : decode cc pc = .ok (.bastore, 1)) : IOk y cc nL ret lv pc (zi_astB (pc + 1)) := by
  intro L st h o e
  unfold zi_astB at e
  split at e
  · rename_i x j a st'
    by_cases hz : (ph_K h a).1 = 2 ∧ 0 ≤ j ∧ j < (ph_K h a).2
    · rw [if_pos hz] at e
      obtain rfl := Option.some.inj e
      refine iok_put rfl rfl fun G p l e R s m args below meth c H locs cells slots Q ls hx hb _ hown hts hG hr hS hst => ⟨zst_tl (zst_tl (zst_tl hst)), fun kk => ?_⟩
      obtain ⟨hat, cell, q1, q2, q3, q4, q5, q6⟩ := z_acell hG hr (a := a) (by omega) (by omega)
      rw [hz.1] at q2
      show W p l e R s m args below meth c H locs cells slots Q (F0 m pc ls (.int (Int32.ofInt x) :: .int (Int32.ofInt j) :: va_rf (G.2.2.1 a) :: st'.map (zcv G)))
      rw [hat]
      refine W.bast hx hb q1 q2 (by rw [q3]; exact fun h => by cases h) (zj_in (k := cell.slots.size) hz.2.1 hz.2.2 (by omega) (by omega)) rfl rfl d fun H' w1 w2 w3 => ?_
      rw [zj_clamp hz.2.1 (by omega)] at w1 ⊢
      obtain ⟨z1, z2⟩ := z_ast (h' := st_I h a j (zi2b x)) (jn := j.toNat) hG hr hS (by omega) (by omega) rfl rfl st_I_ne (hr.2.2.2.1.st_I (i32_b _)) (by omega) (by rw [hz.1]; rw [zelt_stI (by decide) hz.2.1]; unfold zi2b; rw [i32_o]; rfl) (fun i hi => by rw [hz.1, zelt_I (by decide), zelt_I (by decide), pI_I, if_neg (fun z => hi (by omega))]) q1 w1 w2 w3
      exact kk H' _ z1 z2
    · rw [if_neg hz] at e; cases e
  · cases e
theorem k_zast (d : decode cc pc = .ok (.bastore, 1)) : IOk y cc nL ret lv pc (zi_astZ (pc + 1)) := by
  intro L st h o e
  unfold zi_astZ at e
  split at e
  · rename_i x j a st'
    by_cases hz : (ph_K h a).1 = 3 ∧ 0 ≤ j ∧ j < (ph_K h a).2 ∧ (x = 0 ∨ x = 1)
    · rw [if_pos hz] at e
      obtain rfl := Option.some.inj e
      refine iok_put rfl rfl fun G p l e R s m args below meth c H locs cells slots Q ls hx hb _ hown hts hG hr hS hst => ⟨zst_tl (zst_tl (zst_tl hst)), fun kk => ?_⟩
      obtain ⟨hat, cell, q1, q2, q3, q4, q5, q6⟩ := z_acell hG hr (a := a) (by omega) (by omega)
      rw [hz.1] at q2
      show W p l e R s m args below meth c H locs cells slots Q (F0 m pc ls (.int (Int32.ofInt x) :: .int (Int32.ofInt j) :: va_rf (G.2.2.1 a) :: st'.map (zcv G)))
      rw [hat]
      refine W.zast hx hb q1 q2 (by rw [q3]; exact fun h => by cases h) (zj_in (k := cell.slots.size) hz.2.1 hz.2.2.1 (by omega) (by omega)) rfl rfl d fun H' w1 w2 w3 => ?_
      rw [zj_clamp hz.2.1 (by omega)] at w1 ⊢
      obtain ⟨z1, z2⟩ := z_ast (h' := st_I h a j x) (jn := j.toNat) hG hr hS (by omega) (by omega) rfl rfl st_I_ne (hr.2.2.2.1.st_I (zst_hd hst)) (by omega) (by rw [hz.1]; rw [zelt_stI (by decide) hz.2.1]; rcases hz.2.2.2 with rfl | rfl <;> rfl) (fun i hi => by rw [hz.1, zelt_I (by decide), zelt_I (by decide), pI_I, if_neg (fun z => hi (by omega))]) q1 w1 w2 w3
      exact kk H' _ z1 z2
    · rw [if_neg hz] at e; cases e
  · cases e
theorem zelt_J {G : ZG} {a j : Nat} : zelt G h a 4 j = .long (Int64.ofInt (ph_J h a j)) := rfl
theorem k_last (d : decode cc pc = .ok (.lastore, 1)) : IOk y cc nL ret lv pc (zi_astJ (pc + 1)) := by
  intro L st h o e
  unfold zi_astJ at e
  split at e
  · rename_i x j a st'
    by_cases hz : (ph_K h a).1 = 4 ∧ 0 ≤ j ∧ j < (ph_K h a).2
    · rw [if_pos hz] at e
      obtain rfl := Option.some.inj e
      refine iok_put rfl rfl fun G p l e R s m args below meth c H locs cells slots Q ls hx hb _ hown hts hG hr hS hst => ⟨zst_tl (zst_tl (zst_tl hst)), fun kk => ?_⟩
      obtain ⟨hat, cell, q1, q2, q3, q4, q5, q6⟩ := z_acell hG hr (a := a) (by omega) (by omega)
      rw [hz.1] at q2
      show W p l e R s m args below meth c H locs cells slots Q (F0 m pc ls (.long (Int64.ofInt x) :: .int (Int32.ofInt j) :: va_rf (G.2.2.1 a) :: st'.map (zcv G)))
      rw [hat]
      refine W.last hx hb q1 q2 (by rw [q3]; exact fun h => by cases h) (zj_in (k := cell.slots.size) hz.2.1 hz.2.2 (by omega) (by omega)) rfl rfl d fun H' w1 w2 w3 => ?_
      rw [zj_clamp hz.2.1 (by omega)] at w1 ⊢
      obtain ⟨z1, z2⟩ := z_ast (h' := st_J h a j x) (jn := j.toNat) hG hr hS (by omega) (by omega) rfl rfl st_J_ne (hr.2.2.2.1.st_J (zst_hd hst)) (by omega) (by rw [hz.1, zelt_J, pJ_J, if_pos ⟨rfl, zj_cast hz.2.1⟩]) (fun i hi => by rw [hz.1, zelt_J, zelt_J, pJ_J, if_neg (fun z => hi (by omega))]) q1 w1 w2 w3
      exact kk H' _ z1 z2
    · rw [if_neg hz] at e; cases e
  · cases e
/-- an object of a class, as receiver, as what is cast or stored -/
theorem z_recv {G : ZG} {s : State} {H : Heap} {C : String} {T : u_T} {N ci a : Nat} (hG : ZGlob G s) (hr : ZRep G s h H) (hz : (ph_K h a).1 % 1000 = 16 + ci) (hc : zcl[ci]? = some (C, T, N)) : ∃ q, G.2.2.1 a = some q ∧ ∃ cell : Cell, H[q]? = some cell ∧ cell.vm.isStatics = false ∧ s.vm.findClass C = some cell.cls ∧ ((ph_K h a).1 < 1000 → cell.vm = .none) ∧ ∃ kC, s.vm.classes[cell.cls]? = some kC := by
  obtain ⟨q, r, e1, e2, ⟨cell, q1, q2, ⟨v1, v2, v3⟩, q4⟩, -⟩ := hr.obj (a := a) (by omega)
  rw [hz, Nat.add_sub_cancel_left] at e2 q2
  have hr' : r = (C, T, N) := Option.some.inj (e2.symm.trans hc)
  subst hr'
  obtain ⟨-, hfc, kC, hkC, -⟩ := hG.1.1 ci _ hc
  exact ⟨q, e1, cell, q1, v2, by rw [q2]; exact hfc, v3, kC, by rw [q2]; exact hkC⟩
/-- kinds whose objects may be cast to a class -/
def zcan (nm : String) (ok : Nat → Bool) : Prop := ∀ kd, ok kd = true → ∃ (ci : Nat) (C : String) (T : u_T) (N : Nat), kd % 1000 = 16 + ci ∧ zcl[ci]? = some (C, T, N) ∧ (C = nm ∨ Cond.castable C nm ∈ lw_tbl)
theorem k_cast {idx : Nat} {nm : String} {ok : Nat → Bool} (d : decode cc pc = .ok (.checkcast idx, 3)) (q : Cond.classLink y.cls idx nm ∈ lw_all) (hok : zcan nm ok) : IOk y cc nL ret lv pc (zi_cast ok (pc + 3)) := by
  intro L st h o e
  unfold zi_cast at e
  split at e
  · obtain rfl := Option.some.inj e
    exact iok_stk fun G p l e R s m args below meth c H locs cells slots Q ls hx hb _ _ _ _ _ _ hst => ⟨hst, fun k => lv_castN hx hb d k⟩
  · rename_i a st'
    cases ha : ok (ph_K h a).1 with
    | false => rw [ha] at e; cases e
    | true =>
      rw [ha] at e
      obtain rfl := Option.some.inj e
      obtain ⟨ci, C, T, N, h1, h2, h3⟩ := hok _ ha
      refine iok_stk fun G p l e R s m args below meth c H locs cells slots Q ls hx hb hown hts hG hr _ _ hst => ⟨hst, fun k => ?_⟩
      obtain ⟨q9, e1, cell, e2, e3, e4, -⟩ := z_recv hG hr h1 h2
      have k9 : W p l e R s m args below meth c H locs cells slots Q (F0 m (pc + 3) ls (va_rf (G.2.2.1 a) :: st'.map (zcv G))) := k
      show W p l e R s m args below meth c H locs cells slots Q (F0 m pc ls (va_rf (G.2.2.1 a) :: st'.map (zcv G)))
      rw [e1] at k9 ⊢
      rcases h3 with h3 | h3
      · subst h3
        exact va_castS hx hb hown (hts _ q) (hG.1.1 ci _ h2).2 ⟨cell, e2, e3, e4⟩ d k9
      · exact va_castY hx hb hown (hts _ q) (hG.2.1 _ h3 rfl) ⟨cell, e2, e3, e4⟩ d k9
  · cases e
theorem ztys_at {G : ZG} {s : State} (hG : ZGlob G s) (kd : Nat) (h1 : 1 ≤ kd) (h2 : kd ≤ 6) : ArrOfT s (G.2.1 kd) (ztyA kd) ∧ va_RA s (G.2.1 kd) (ztyA kd) := by
  rcases (show kd = 1 ∨ kd = 2 ∨ kd = 3 ∨ kd = 4 ∨ kd = 5 ∨ kd = 6 by omega) with rfl | rfl | rfl | rfl | rfl | rfl
  · exact hG.1.2 0 _ rfl
  · exact hG.1.2 1 _ rfl
  · exact hG.1.2 2 _ rfl
  · exact hG.1.2 3 _ rfl
  · exact hG.1.2 4 _ rfl
  · exact hG.1.2 5 _ rfl
theorem zelt_stR {G : ZG} {a kd : Nat} {j : Int} {r : Option Nat} (hk : 5 ≤ kd) (h0 : 0 ≤ j) : zelt G (st_R h a j r) a kd j.toNat = va_rf (r.bind G.2.2.1) := by
  rw [zelt_R hk, pR_R, if_pos ⟨rfl, zj_cast h0⟩]
theorem k_aast {kd : Nat} {nm : String} {ok : Nat → Bool} (d : decode cc pc = .ok (.aastore, 1)) (hkd : kd = 5 ∨ kd = 6) (hnm : ztyA kd = .object nm) (hok : zcan nm ok) : IOk y cc nL ret lv pc (zi_astR kd ok (pc + 1)) := by
  intro L st h o e
  unfold zi_astR at e
  split at e
  · rename_i r j a st'
    by_cases hz : (ph_K h a).1 = kd ∧ 0 ≤ j ∧ j < (ph_K h a).2 ∧ (∀ b, r = some b → ok (ph_K h b).1 = true)
    · rw [if_pos hz] at e
      obtain rfl := Option.some.inj e
      refine iok_put rfl rfl fun G p l e R s m args below meth c H locs cells slots Q ls hx hb _ hown hts hG hr hS hst => ⟨zst_tl (zst_tl (zst_tl hst)), fun kk => ?_⟩
      obtain ⟨hat, cell, q1, q2, q3, q4, q5, q6⟩ := z_acell hG hr (a := a) (by omega) (by omega)
      have K : ∀ H' : Heap, H'[G.2.2.2 + a]? = some (cell.setSlot (Int32.ofInt j).toNatClampNeg (va_rf (r.bind G.2.2.1))) → H'.size = H.size → (∀ q, q ≠ G.2.2.2 + a → H'[q]? = H[q]?) → W p l e R s m args below meth c H' (locs ++ [⟨G.2.2.2 + a, (Int32.ofInt j).toNatClampNeg⟩]) cells slots Q (F0 m (pc + 1) ls (st'.map (zcv G))) := by
        intro H' w1 w2 w3
        rw [zj_clamp hz.2.1 (by omega)] at w1 ⊢
        obtain ⟨z1, z2⟩ := z_ast (h' := st_R h a j r) (jn := j.toNat) hG hr hS (by omega) (by omega) rfl rfl st_R_ne hr.2.2.2.1.st_R (by omega) (by rw [hz.1]; exact zelt_stR (by omega) hz.2.1) (fun i hi => by rw [hz.1, zelt_R (by omega), zelt_R (by omega), pR_R, if_neg (fun z => hi (by omega))]) q1 w1 w2 w3
        exact kk H' _ z1 z2
      have hin := zj_in (k := cell.slots.size) hz.2.1 hz.2.2.1 (by omega) (by omega)
      show W p l e R s m args below meth c H locs cells slots Q (F0 m pc ls (va_rf (r.bind G.2.2.1) :: .int (Int32.ofInt j) :: va_rf (G.2.2.1 a) :: st'.map (zcv G)))
      rw [hat]
      cases r with
      | none =>
        rw [hz.1, hnm] at q2
        exact va_WaastN hx hb q1 q2 (by rw [q3]; exact fun h => by cases h) hin rfl rfl d K
      | some b =>
        obtain ⟨ci, C, T, N, h1, h2, h3⟩ := hok _ (hz.2.2.2 b rfl)
        obtain ⟨q9, e1, cellV, g1, g2, g3, g4, kV, g5⟩ := z_recv hG hr h1 h2
        obtain ⟨-, hRA⟩ := ztys_at hG kd (by omega) (by omega)
        rw [hnm] at hRA
        obtain ⟨kA, comp, k1, k2, k3, -⟩ := hRA
        have f3 : s.vm.assignable cellV.cls comp = true := by
          rcases h3 with h3 | h3
          · subst h3
            have hcl := (hG.1.1 ci _ h2).2
            have i1 := Option.some.inj (g3.symm.trans hcl.1)
            have i2 := Option.some.inj (k3.symm.trans hcl.1)
            rw [i1, i2]
            exact va_assign hcl
          · obtain ⟨c0, t0, f1, f2, f3⟩ := Cond.castable_spec (va_Nw.use (A := args) rfl (hG.2.1 _ h3 rfl))
            cases g3.symm.trans f1
            cases k3.symm.trans f2
            exact f3
        obtain ⟨kT, hkT, -⟩ := Vm.findClass_spec k3
        have e9 : (some b).bind G.2.2.1 = some q9 := e1
        rw [e9] at K ⊢
        exact W.aast hx hb q1 (fun z hh => by rw [q3] at hh; cases hh) (by rw [q3]; exact fun h => by cases h) (by rw [q4, hz.1]; exact k1) k2 rfl hkT ⟨fun z => hin (Or.inl z), Nat.not_le.mp fun z => hin (Or.inr z)⟩ g1 (fun z hh => by rw [hh] at g2; cases g2) g5 f3 rfl rfl d K
    · rw [if_neg hz] at e; cases e
  · cases e
end
