/-! Z 12: soundness: putfield by types, arrays -/
section
variable {y : MethodName} {cc : ByteArray} {nL : Nat} {ret : Option FieldType} {lv pc n t : Nat} {L st st' : List ZV} {h h' : PH}
theorem ZRng.st_I {a : Nat} {k x : Int} (hx : -2147483648 ≤ x ∧ x ≤ 2147483647) (hr : ZRng h) : ZRng (st_I h a k x) := fun b j => by
  rw [pI_I, pJ_I]
  refine ⟨?_, (hr b j).2⟩
  split
  · exact hx
  · exact (hr b j).1
theorem ZRng.st_J {a : Nat} {k x : Int} (hx : -9223372036854775808 ≤ x ∧ x ≤ 9223372036854775807) (hr : ZRng h) : ZRng (st_J h a k x) := fun b j => by
  rw [pI_J, pJ_J]
  refine ⟨(hr b j).1, ?_⟩
  split
  · exact hx
  · exact (hr b j).2
theorem ZRng.st_R {a : Nat} {k : Int} {r : Option Nat} (hr : ZRng h) : ZRng (st_R h a k r) := fun b j => by
  rw [pI_R, pJ_R]
  exact hr b j
theorem st_I_ne {a : Nat} {k x : Int} : ∀ b : Nat, b ≠ a → ph_I (st_I h a k x) b = ph_I h b ∧ ph_J (st_I h a k x) b = ph_J h b ∧ ph_R (st_I h a k x) b = ph_R h b := fun b hb => ⟨funext fun j => by rw [pI_I, if_neg (fun z => hb z.1)], rfl, rfl⟩
theorem st_J_ne {a : Nat} {k x : Int} : ∀ b : Nat, b ≠ a → ph_I (st_J h a k x) b = ph_I h b ∧ ph_J (st_J h a k x) b = ph_J h b ∧ ph_R (st_J h a k x) b = ph_R h b := fun b hb => ⟨rfl, funext fun j => by rw [pJ_J, if_neg (fun z => hb z.1)], rfl⟩
theorem st_R_ne {a : Nat} {k : Int} {r : Option Nat} : ∀ b : Nat, b ≠ a → ph_I (st_R h a k r) b = ph_I h b ∧ ph_J (st_R h a k r) b = ph_J h b ∧ ph_R (st_R h a k r) b = ph_R h b := fun b hb => ⟨rfl, rfl, funext fun j => by rw [pR_R, if_neg (fun z => hb z.1)]⟩
theorem zfv_I {G : ZG} {a k j : Nat} {x : Int} {ty : FieldType} (hj : j ≠ k) : zfv G (st_I h a k x) a ty j = zfv G h a ty j := by
  unfold zfv
  rw [pI_I, if_neg (fun z => hj (by omega)), pJ_I, pR_I]
theorem zfv_J {G : ZG} {a k j : Nat} {x : Int} {ty : FieldType} (hj : j ≠ k) : zfv G (st_J h a k x) a ty j = zfv G h a ty j := by
  unfold zfv
  rw [pJ_J, if_neg (fun z => hj (by omega)), pI_J, pR_J]
theorem zfv_R {G : ZG} {a k j : Nat} {r : Option Nat} {ty : FieldType} (hj : j ≠ k) : zfv G (st_R h a k r) a ty j = zfv G h a ty j := by
  unfold zfv
  rw [pR_R, if_neg (fun z => hj (by omega)), pI_R, pJ_R]
section
variable {C ref : String} {T : u_T} {N ci k idx kd : Nat} {kI : Int}
theorem k_putI (d : decode cc pc = .ok (.putfield idx, 3)) (hc : zcl[ci]? = some (C, T, N)) (hin : ∀ w ∈ u_ws C T N, w ∈ lw_all) (ty0 : Nat → FieldType) (hty0 : ∀ k, k < N → parseFieldDescriptor (T k).2.2.1 = some (ty0 k)) (hnm : ∀ a, a < N → ∀ b, b < N → a ≠ b → (T a).2.1 ≠ (T b).2.1) (hk : k < N) (q : Cond.fieldLink y.cls idx ref (T k).2.1 (T k).2.2.1 ∈ lw_all ∨ ∃ host, Cond.fieldLinkNest y.cls idx ref (T k).2.1 (T k).2.2.1 host ∈ lw_tbl) (hsame : (T k).1 = ref ∨ Cond.sameField ref (T k).1 (T k).2.1 (T k).2.2.1 ∈ lw_all) (hfin : (T k).2.2.2 = false ∨ ((T k).2.2.2 = true ∧ y.name = "<init>" ∧ (T k).1 = y.cls ∧ Cond.fieldLink y.cls idx ref (T k).2.1 (T k).2.2.1 ∈ lw_all)) (hd : parseFieldDescriptor (T k).2.2.1 = some .int) (hty : ∀ (G : ZG) (h : PH) (a : Nat), zfv G h a (zty ci k) k = .int (Int32.ofInt (ph_I h a k))) (hci : ci < 900 := by decide) (hkd : kd = 16 + ci := by rfl) (hkI : kI = (k : Int) := by rfl) : IOk y cc nL ret lv pc (zi_putI kd kI (pc + 3)) := by
  subst hkd; subst hkI
  intro L st h o e
  unfold zi_putI at e
  split at e
  · rename_i x a st'
    by_cases hz : (ph_K h a).1 = 16 + ci
    · rw [if_pos hz] at e
      obtain rfl := Option.some.inj e
      refine k_putW (w := zvi x) d hc hin ty0 hty0 hnm hci hk q hsame hfin hd hz (fun G => vp_nar_int _) (fun G => rfl) rfl rfl rfl st_I_ne (fun h1 h2 => h2.st_I h1) (fun G j hj => ?_)
      unfold updV
      by_cases hjk : j = k
      · subst hjk
        rw [if_pos rfl, hty, pI_I, if_pos ⟨rfl, rfl⟩]; rfl
      · rw [if_neg hjk, zfv_I hjk]
    · rw [if_neg hz] at e; cases e
  · cases e
theorem k_putZ (d : decode cc pc = .ok (.putfield idx, 3)) (hc : zcl[ci]? = some (C, T, N)) (hin : ∀ w ∈ u_ws C T N, w ∈ lw_all) (ty0 : Nat → FieldType) (hty0 : ∀ k, k < N → parseFieldDescriptor (T k).2.2.1 = some (ty0 k)) (hnm : ∀ a, a < N → ∀ b, b < N → a ≠ b → (T a).2.1 ≠ (T b).2.1) (hk : k < N) (q : Cond.fieldLink y.cls idx ref (T k).2.1 (T k).2.2.1 ∈ lw_all ∨ ∃ host, Cond.fieldLinkNest y.cls idx ref (T k).2.1 (T k).2.2.1 host ∈ lw_tbl) (hsame : (T k).1 = ref ∨ Cond.sameField ref (T k).1 (T k).2.1 (T k).2.2.1 ∈ lw_all) (hfin : (T k).2.2.2 = false ∨ ((T k).2.2.2 = true ∧ y.name = "<init>" ∧ (T k).1 = y.cls ∧ Cond.fieldLink y.cls idx ref (T k).2.1 (T k).2.2.1 ∈ lw_all)) (hd : parseFieldDescriptor (T k).2.2.1 = some .boolean) (hty : ∀ (G : ZG) (h : PH) (a : Nat), zfv G h a (zty ci k) k = .int (Int32.ofInt (ph_I h a k))) (hci : ci < 900 := by decide) (hkd : kd = 16 + ci := by rfl) (hkI : kI = (k : Int) := by rfl) : IOk y cc nL ret lv pc (zi_putZ kd kI (pc + 3)) := by
  subst hkd; subst hkI
  intro L st h o e
  unfold zi_putZ at e
  split at e
  · rename_i x a st'
    by_cases hz : (ph_K h a).1 = 16 + ci ∧ (x = 0 ∨ x = 1)
    · rw [if_pos hz] at e
      obtain rfl := Option.some.inj e
      refine k_putW (w := zvi x) d hc hin ty0 hty0 hnm hci hk q hsame hfin hd hz.1 (fun G => by rcases hz.2 with rfl | rfl <;> rfl) (fun G => by rcases hz.2 with rfl | rfl <;> rfl) rfl rfl rfl st_I_ne (fun h1 h2 => h2.st_I h1) (fun G j hj => ?_)
      unfold updV
      by_cases hjk : j = k
      · subst hjk
        rw [if_pos rfl, hty, pI_I, if_pos ⟨rfl, rfl⟩]; rfl
      · rw [if_neg hjk, zfv_I hjk]
    · rw [if_neg hz] at e; cases e
  · cases e
theorem k_putJ (d : decode cc pc = .ok (.putfield idx, 3)) (hc : zcl[ci]? = some (C, T, N)) (hin : ∀ w ∈ u_ws C T N, w ∈ lw_all) (ty0 : Nat → FieldType) (hty0 : ∀ k, k < N → parseFieldDescriptor (T k).2.2.1 = some (ty0 k)) (hnm : ∀ a, a < N → ∀ b, b < N → a ≠ b → (T a).2.1 ≠ (T b).2.1) (hk : k < N) (q : Cond.fieldLink y.cls idx ref (T k).2.1 (T k).2.2.1 ∈ lw_all ∨ ∃ host, Cond.fieldLinkNest y.cls idx ref (T k).2.1 (T k).2.2.1 host ∈ lw_tbl) (hsame : (T k).1 = ref ∨ Cond.sameField ref (T k).1 (T k).2.1 (T k).2.2.1 ∈ lw_all) (hfin : (T k).2.2.2 = false ∨ ((T k).2.2.2 = true ∧ y.name = "<init>" ∧ (T k).1 = y.cls ∧ Cond.fieldLink y.cls idx ref (T k).2.1 (T k).2.2.1 ∈ lw_all)) (hd : parseFieldDescriptor (T k).2.2.1 = some .long) (hty : ∀ (G : ZG) (h : PH) (a : Nat), zfv G h a (zty ci k) k = .long (Int64.ofInt (ph_J h a k))) (hci : ci < 900 := by decide) (hkd : kd = 16 + ci := by rfl) (hkI : kI = (k : Int) := by rfl) : IOk y cc nL ret lv pc (zi_putJ kd kI (pc + 3)) := by
  subst hkd; subst hkI
  intro L st h o e
  unfold zi_putJ at e
  split at e
  · rename_i x a st'
    by_cases hz : (ph_K h a).1 = 16 + ci
    · rw [if_pos hz] at e
      obtain rfl := Option.some.inj e
      refine k_putW (w := zvl x) d hc hin ty0 hty0 hnm hci hk q hsame hfin hd hz (fun G => rfl) (fun G => rfl) rfl rfl rfl st_J_ne (fun h1 h2 => h2.st_J h1) (fun G j hj => ?_)
      unfold updV
      by_cases hjk : j = k
      · subst hjk
        rw [if_pos rfl, hty, pJ_J, if_pos ⟨rfl, rfl⟩]; rfl
      · rw [if_neg hjk, zfv_J hjk]
    · rw [if_neg hz] at e; cases e
  · cases e
theorem zn_ref {ty : FieldType} (hr : (∃ n, ty = .object n) ∨ ∃ t, ty = .array t) (G : ZG) (r : Option Nat) : narrow ty (zcv G (zvr r)) = zcv G (zvr r) ∧ fits ty (zcv G (zvr r)) = true := by
  show narrow ty (va_rf (r.bind G.2.2.1)) = va_rf (r.bind G.2.2.1) ∧ fits ty (va_rf (r.bind G.2.2.1)) = true
  rcases hr with ⟨n, rfl⟩ | ⟨t, rfl⟩ <;> cases r.bind G.2.2.1 <;> exact ⟨rfl, rfl⟩
theorem k_putR {ty : FieldType} (d : decode cc pc = .ok (.putfield idx, 3)) (hc : zcl[ci]? = some (C, T, N)) (hin : ∀ w ∈ u_ws C T N, w ∈ lw_all) (ty0 : Nat → FieldType) (hty0 : ∀ k, k < N → parseFieldDescriptor (T k).2.2.1 = some (ty0 k)) (hnm : ∀ a, a < N → ∀ b, b < N → a ≠ b → (T a).2.1 ≠ (T b).2.1) (hk : k < N) (q : Cond.fieldLink y.cls idx ref (T k).2.1 (T k).2.2.1 ∈ lw_all ∨ ∃ host, Cond.fieldLinkNest y.cls idx ref (T k).2.1 (T k).2.2.1 host ∈ lw_tbl) (hsame : (T k).1 = ref ∨ Cond.sameField ref (T k).1 (T k).2.1 (T k).2.2.1 ∈ lw_all) (hfin : (T k).2.2.2 = false ∨ ((T k).2.2.2 = true ∧ y.name = "<init>" ∧ (T k).1 = y.cls ∧ Cond.fieldLink y.cls idx ref (T k).2.1 (T k).2.2.1 ∈ lw_all)) (hd : parseFieldDescriptor (T k).2.2.1 = some ty) (hrf : (∃ n, ty = .object n) ∨ ∃ t, ty = .array t) (hty : ∀ (G : ZG) (h : PH) (a : Nat), zfv G h a (zty ci k) k = va_rf ((ph_R h a k).bind G.2.2.1)) (hci : ci < 900 := by decide) (hkd : kd = 16 + ci := by rfl) (hkI : kI = (k : Int) := by rfl) : IOk y cc nL ret lv pc (zi_putR kd kI (pc + 3)) := by
  subst hkd; subst hkI
  intro L st h o e
  unfold zi_putR at e
  split at e
  · rename_i r a st'
    by_cases hz : (ph_K h a).1 = 16 + ci
    · rw [if_pos hz] at e
      obtain rfl := Option.some.inj e
      refine k_putW (w := zvr r) d hc hin ty0 hty0 hnm hci hk q hsame hfin hd hz (fun G => (zn_ref hrf G r).1) (fun G => (zn_ref hrf G r).2) rfl rfl rfl st_R_ne (fun _ h2 => h2.st_R) (fun G j hj => ?_)
      unfold updV
      by_cases hjk : j = k
      · subst hjk
        rw [if_pos rfl, hty, pR_R, if_pos ⟨rfl, rfl⟩]; rfl
      · rw [if_neg hjk, zfv_R hjk]
    · rw [if_neg hz] at e; cases e
  · cases e
end
/-! arrays -/
theorem i32_nat (n : Nat) : Int32.ofInt (n : Int) = Int32.ofNat n := Int32.ofInt_eq_ofNat
theorem k_alen (d : decode cc pc = .ok (.arraylength, 1)) : IOk y cc nL ret lv pc (zi_alen (pc + 1)) := by
  intro L st h o e
  unfold zi_alen at e
  split at e
  · rename_i a st'
    by_cases hz : 1 ≤ (ph_K h a).1 % 1000 ∧ (ph_K h a).1 % 1000 ≤ 7
    · rw [if_pos hz] at e
      obtain rfl := Option.some.inj e
      refine iok_stk fun G p l e R s m args below meth c H locs cells slots Q ls hx hb hown hts hG hr _ _ hst => ?_
      obtain ⟨q, cell, e1, e2, e3, e4, e5, e6, e7, e8, e9⟩ := hr.arr hz.1 hz.2
      refine ⟨zst_cons ⟨by omega, by omega⟩ (zst_tl hst), fun k => ?_⟩
      show W p l e R s m args below meth c H locs cells slots Q (F0 m pc ls (va_rf (G.2.2.1 a) :: st'.map (zcv G)))
      rw [e1]
      have k9 : W p l e R s m args below meth c H locs cells slots Q (F0 m (pc + 1) ls (.int (Int32.ofInt ((ph_K h a).2 : Int)) :: st'.map (zcv G))) := k
      rw [i32_nat] at k9
      exact W.alen hx hb e2 e3 e6 rfl rfl d k9
    · rw [if_neg hz] at e; cases e
  · cases e
theorem zelt_I {G : ZG} {a j : Nat} {kd : Nat} (hk : kd ≤ 3) : zelt G h a kd j = .int (Int32.ofInt (ph_I h a j)) := if_pos hk
theorem zj_cast {j : Int} (h0 : 0 ≤ j) : ((j.toNat : Nat) : Int) = j := Int.toNat_of_nonneg h0
theorem k_iald (d : decode cc pc = .ok (.iaload, 1)) : IOk y cc nL ret lv pc (zi_ald 1 (pc + 1)) := by
  intro L st h o e
  unfold zi_ald at e
  split at e
  · rename_i j a st'
    by_cases hz : (ph_K h a).1 % 1000 = 1 ∧ 0 ≤ j ∧ j < (ph_K h a).2
    · rw [if_pos hz] at e
      obtain rfl := Option.some.inj e
      refine iok_stk fun G p l e R s m args below meth c H locs cells slots Q ls hx hb hown hts hG hr _ _ hst => ⟨zst_cons (hr.2.2.2.1 a j).1 (zst_tl (zst_tl hst)), fun k => ?_⟩
      obtain ⟨q, cell, e1, e2, e3, e4, e5, e6, e7, e8, e9⟩ := hr.arr (a := a) (by omega) (by omega)
      show W p l e R s m args below meth c H locs cells slots Q (F0 m pc ls (.int (Int32.ofInt j) :: va_rf (G.2.2.1 a) :: st'.map (zcv G)))
      rw [e1]
      rw [hz.1] at e3 e8
      have h8 := e8 j.toNat (by omega)
      rw [zelt_I (by decide), zj_cast hz.2.1] at h8
      exact W.iald hx hb e2 e3 e4 (zj_in hz.2.1 hz.2.2 e5 e7) (by rw [zj_clamp hz.2.1 (by omega)]; exact h8) rfl rfl d k
    · rw [if_neg hz] at e; cases e
  · cases e
theorem k_bald (d : decode cc pc = .ok (.baload, 1)) : IOk y cc nL ret lv pc (zi_ald 2 (pc + 1)) := by
  intro L st h o e
  unfold zi_ald at e
  split at e
  · rename_i j a st'
    by_cases hz : (ph_K h a).1 % 1000 = 2 ∧ 0 ≤ j ∧ j < (ph_K h a).2
    · rw [if_pos hz] at e
      obtain rfl := Option.some.inj e
      refine iok_stk fun G p l e R s m args below meth c H locs cells slots Q ls hx hb hown hts hG hr _ _ hst => ⟨zst_cons (hr.2.2.2.1 a j).1 (zst_tl (zst_tl hst)), fun k => ?_⟩
      obtain ⟨q, cell, e1, e2, e3, e4, e5, e6, e7, e8, e9⟩ := hr.arr (a := a) (by omega) (by omega)
      show W p l e R s m args below meth c H locs cells slots Q (F0 m pc ls (.int (Int32.ofInt j) :: va_rf (G.2.2.1 a) :: st'.map (zcv G)))
      rw [e1]
      rw [hz.1] at e3 e8
      have h8 := e8 j.toNat (by omega)
      rw [zelt_I (by decide), zj_cast hz.2.1] at h8
      exact W.bald hx hb e2 e3 e4 (zj_in hz.2.1 hz.2.2 e5 e7) (by rw [zj_clamp hz.2.1 (by omega)]; exact h8) rfl rfl d k
    · rw [if_neg hz] at e; cases e
  · cases e
theorem k_zald (d : decode cc pc = .ok (.baload, 1)) : IOk y cc nL ret lv pc (zi_ald 3 (pc + 1)) := by
  intro L st h o e
  unfold zi_ald at e
  split at e
  · rename_i j a st'
    by_cases hz : (ph_K h a).1 % 1000 = 3 ∧ 0 ≤ j ∧ j < (ph_K h a).2
    · rw [if_pos hz] at e
      obtain rfl := Option.some.inj e
      refine iok_stk fun G p l e R s m args below meth c H locs cells slots Q ls hx hb hown hts hG hr _ _ hst => ⟨zst_cons (hr.2.2.2.1 a j).1 (zst_tl (zst_tl hst)), fun k => ?_⟩
      obtain ⟨q, cell, e1, e2, e3, e4, e5, e6, e7, e8, e9⟩ := hr.arr (a := a) (by omega) (by omega)
      show W p l e R s m args below meth c H locs cells slots Q (F0 m pc ls (.int (Int32.ofInt j) :: va_rf (G.2.2.1 a) :: st'.map (zcv G)))
      rw [e1]
      rw [hz.1] at e3 e8
      have h8 := e8 j.toNat (by omega)
      rw [zelt_I (by decide), zj_cast hz.2.1] at h8
      exact W.zald hx hb e2 e3 e4 (zj_in hz.2.1 hz.2.2 e5 e7) (by rw [zj_clamp hz.2.1 (by omega)]; exact h8) rfl rfl d k
    · rw [if_neg hz] at e; cases e
  · cases e
theorem k_lald (d : decode cc pc = .ok (.laload, 1)) : IOk y cc nL ret lv pc (zi_aldJ (pc + 1)) := by
  intro L st h o e
  unfold zi_aldJ at e
  split at e
  · rename_i j a st'
    by_cases hz : (ph_K h a).1 % 1000 = 4 ∧ 0 ≤ j ∧ j < (ph_K h a).2
    · rw [if_pos hz] at e
      obtain rfl := Option.some.inj e
      refine iok_stk fun G p l e R s m args below meth c H locs cells slots Q ls hx hb hown hts hG hr _ _ hst => ⟨zst_cons (hr.2.2.2.1 a j).2 (zst_tl (zst_tl hst)), fun k => ?_⟩
      obtain ⟨q, cell, e1, e2, e3, e4, e5, e6, e7, e8, e9⟩ := hr.arr (a := a) (by omega) (by omega)
      show W p l e R s m args below meth c H locs cells slots Q (F0 m pc ls (.int (Int32.ofInt j) :: va_rf (G.2.2.1 a) :: st'.map (zcv G)))
      rw [e1]
      rw [hz.1] at e3 e8
      have h8 : cell.slots[j.toNat]? = some (.long (Int64.ofInt (ph_J h a (j.toNat : Int)))) := e8 j.toNat (by omega)
      rw [zj_cast hz.2.1] at h8
      exact W.lald hx hb e2 e3 e4 (zj_in hz.2.1 hz.2.2 e5 e7) (by rw [zj_clamp hz.2.1 (by omega)]; exact h8) rfl rfl d k
    · rw [if_neg hz] at e; cases e
  · cases e
theorem zelt_R {G : ZG} {a j : Nat} {kd : Nat} (hk : 5 ≤ kd) : zelt G h a kd j = va_rf ((ph_R h a j).bind G.2.2.1) := by
  unfold zelt
  rw [if_neg (by omega), if_neg (by omega)]
theorem ztyA_ref {kd : Nat} (h1 : 5 ≤ kd) : (ztyA kd).isReference = true := by
  unfold ztyA
  split <;> first | omega | rfl
theorem k_aald (d : decode cc pc = .ok (.aaload, 1)) : IOk y cc nL ret lv pc (zi_aldR (pc + 1)) := by
  intro L st h o e
  unfold zi_aldR at e
  split at e
  · rename_i j a st'
    by_cases hz : 5 ≤ (ph_K h a).1 % 1000 ∧ (ph_K h a).1 % 1000 ≤ 7 ∧ 0 ≤ j ∧ j < (ph_K h a).2
    · rw [if_pos hz] at e
      obtain rfl := Option.some.inj e
      refine iok_stk fun G p l e R s m args below meth c H locs cells slots Q ls hx hb hown hts hG hr _ _ hst => ⟨zst_cons trivial (zst_tl (zst_tl hst)), fun k => ?_⟩
      obtain ⟨q, cell, e1, e2, e3, e4, e5, e6, e7, e8, e9⟩ := hr.arr (a := a) (by omega) hz.2.1
      show W p l e R s m args below meth c H locs cells slots Q (F0 m pc ls (.int (Int32.ofInt j) :: va_rf (G.2.2.1 a) :: st'.map (zcv G)))
      rw [e1]
      have h8 := e8 j.toNat (by omega)
      rw [zelt_R hz.1, zj_cast hz.2.2.1] at h8
      exact W.aald hx hb e2 e3 (ztyA_ref hz.1) e4 (zj_in hz.2.2.1 hz.2.2.2 e5 e7) (by rw [zj_clamp hz.2.2.1 (by omega)]; exact h8) rfl rfl d k
    · rw [if_neg hz] at e; cases e
  · cases e
/-- the world behind a store into an array -/
theorem z_ast {G : ZG} {s : State} {H H' : Heap} {locs : List Loc} {a jn : Nat} {v : Value} {cell : Cell} (hG : ZGlob G s) (hr : ZRep G s h H) (hS : va_S (zA G) s.heap H locs) (hk1 : 1 ≤ (ph_K h a).1) (hk2 : (ph_K h a).1 ≤ 7)
    (eK : ph_K h' = ph_K h) (eN : ph_N h' = ph_N h) (hI : ∀ b : Nat, b ≠ a → ph_I h' b = ph_I h b ∧ ph_J h' b = ph_J h b ∧ ph_R h' b = ph_R h b) (hrng : ZRng h') (hj : jn < (ph_K h a).2) (hv : zelt G h' a (ph_K h a).1 jn = v) (hv2 : ∀ i, i ≠ jn → zelt G h' a (ph_K h a).1 i = zelt G h a (ph_K h a).1 i)
    (q1 : H[G.2.2.2 + a]? = some cell) (w1 : H'[G.2.2.2 + a]? = some (cell.setSlot jn v)) (w2 : H'.size = H.size) (w3 : ∀ q, q ≠ G.2.2.2 + a → H'[q]? = H[q]?) : ZRep G s h' H' ∧ va_S (zA G) s.heap H' (locs ++ [⟨G.2.2.2 + a, jn⟩]) := by
  have hmod : (ph_K h a).1 % 1000 = (ph_K h a).1 := Nat.mod_eq_of_lt (by omega)
  have hat := hr.at hG.2.2.2.2.1 (a := a) (by omega) (by omega)
  refine ⟨hr.upd hG.2.2.2.2.1 (a := a) (by omega) (by omega) eK eN hI hrng w2 w3 ?_, hS.put w2 w3 (Nat.le_add_right _ _)⟩
  unfold zat
  rw [eK, if_neg (by omega), if_pos (by omega)]
  obtain ⟨q, cell9, e1, e2, e3, e4, e5, e6, e7, e8, e9⟩ := hr.arr (a := a) (by omega) (by omega)
  obtain rfl := Option.some.inj (e1.symm.trans hat.2)
  obtain rfl := Option.some.inj (e2.symm.trans q1)
  obtain ⟨c1, c2, c3⟩ := e9 (by omega)
  refine ⟨G.2.2.2 + a, cell9.setSlot jn v, hat.2, w1, by rw [eK]; exact e3, by show cell9.vm ≠ _; exact e4, by rw [k2_slotsz, eK]; exact e5, by rw [k2_slotsz, eK]; exact e6, by rw [eK]; exact e7, fun i hi => ?_, fun _ => ⟨by rw [eK]; exact c1, c2, by rw [k2_slotsz, eK]; exact c3⟩⟩
  rw [eK] at hi ⊢
  rw [hmod]
  by_cases hij : i = jn
  · subst hij
    rw [hv]
    simp [Cell.setSlot, Array.getElem?_setIfInBounds, c3, hi]
  · rw [hv2 i hij, ← hmod, ← e8 i hi]
    simp [Cell.setSlot, Array.getElem?_setIfInBounds, Ne.symm hij]
theorem z_acell {G : ZG} {s : State} {H : Heap} {a : Nat} (hG : ZGlob G s) (hr : ZRep G s h H) (hk1 : 1 ≤ (ph_K h a).1) (hk2 : (ph_K h a).1 ≤ 7) : G.2.2.1 a = some (G.2.2.2 + a) ∧ ∃ cell : Cell, H[G.2.2.2 + a]? = some cell ∧ s.isArrayOf cell (ztyA (ph_K h a).1) ∧ cell.vm = .none ∧ cell.cls = G.2.1 (ph_K h a).1 ∧ cell.slots.size = (ph_K h a).2 ∧ (ph_K h a).2 < 2147483648 := by
  have hmod : (ph_K h a).1 % 1000 = (ph_K h a).1 := Nat.mod_eq_of_lt (by omega)
  have hat := hr.at hG.2.2.2.2.1 (a := a) (by omega) (by omega)
  obtain ⟨q, cell9, e1, e2, e3, e4, e5, e6, e7, e8, e9⟩ := hr.arr (a := a) (by omega) (by omega)
  obtain rfl := Option.some.inj (e1.symm.trans hat.2)
  obtain ⟨c1, c2, c3⟩ := e9 (by omega)
  rw [hmod] at e3
  exact ⟨hat.2, cell9, e2, e3, c2, c1, c3, e7⟩
end
