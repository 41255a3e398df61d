/-! Z 14: soundness: new cells, statics, constants of text, ends -/
section
variable {y : MethodName} {cc : ByteArray} {nL : Nat} {ret : Option FieldType} {lv pc n t : Nat} {L st st' : List ZV} {h h' : PH}
theorem iok_new {kd len sl : Nat} (K : ∀ (G : ZG) (p : Program) (l : Launch) (e : Env) (R : Room) (s : State) (m : MethodId) (args : Array Value) (below : List Frame) (meth : Method) (c : Code) (H : Heap) (locs : List Loc) (cells slots : Nat) (Q : State → Prop) (ls : Array Slot), p.tables.exec = Jvm.exec → c.code = cc → s.vm.findClass y.cls = some m.cls → (∀ w ∈ lw_all, w.before args s = true) → ZGlob G s → ZRep G s h H → va_S (zA G) s.heap H locs → (∀ v ∈ st, zok v) → ph_N h + 1 ≤ 1000000 → cells + 1 ≤ R.cells → slots + sl ≤ R.slots → (∀ v ∈ st', zok v) ∧ ((∀ H' : Heap, ZRep G s (al_ h kd len sl) H' → va_S (zA G) s.heap H' locs → W p l e R s m args below meth c H' locs (cells + 1) (slots + sl) Q (F0 m n ls (st'.map (zcv G)))) → W p l e R s m args below meth c H locs cells slots Q (F0 m pc ls (st.map (zcv G))))) : IOo y cc nL ret lv pc L st h (.inl (n, L, st', al_ h kd len sl)) := by
  refine ⟨⟨Nat.le_succ _, Nat.le_add_right _ _⟩, ?_⟩
  intro G p l e R s m args below meth c h0 NF SF Q hC b1 b2 hk H locs ls hr hS hl hst h1 h2
  obtain ⟨hx, hb, -, -, -, hnm, hown, hts, hG, r1, r2, r3, -⟩ := hC
  rw [pN_al] at b1
  rw [pS_al] at b2
  obtain ⟨k1, k2⟩ := K G p l e R s m args below meth c H locs (ph_N h - ph_N h0) (ph_S h - ph_S h0) Q ls hx hb hown hts hG hr hS hst (by omega) (by omega) (by omega)
  refine k2 fun H' hr' hS' => ?_
  have h9 := hk H' locs ls hr' hS' hl k1 (by rw [pN_al]; omega) (by rw [pS_al]; omega)
  rw [pN_al, pS_al, show ph_N h + 1 - ph_N h0 = ph_N h - ph_N h0 + 1 by omega, show ph_S h + sl - ph_S h0 = ph_S h - ph_S h0 + sl by omega] at h9
  exact h9
theorem al_ne {kd len sl b : Nat} (hb : b ≠ ph_N h) : ph_I (al_ h kd len sl) b = ph_I h b ∧ ph_J (al_ h kd len sl) b = ph_J h b ∧ ph_R (al_ h kd len sl) b = ph_R h b ∧ ph_K (al_ h kd len sl) b = ph_K h b := ⟨funext fun j => by rw [pI_al, if_neg hb], funext fun j => by rw [pJ_al, if_neg hb], funext fun j => by rw [pR_al, if_neg hb], by rw [pK_al, if_neg hb]⟩
theorem ZRep.alloc {G : ZG} {s : State} {H H' : Heap} {kd len sl : Nat} (hr : ZRep G s h H) (hg : ZGok G) (h0 : kd ≠ 0) (h1 : kd < 1000) (hN : ph_N h + 1 ≤ 1000000) (hz : H'.size = H.size + 1) (ho : ∀ q, q < H.size → H'[q]? = H[q]?) (ha : zat G s (al_ h kd len sl) (ph_N h) H') : ZRep G s (al_ h kd len sl) H' := by
  obtain ⟨r1, r2, r3, r4, r5⟩ := id hr
  refine ⟨by rw [hz, r1, pN_al]; omega, by rw [pN_al]; exact hN, fun b hb => ?_, fun b j => ?_, fun b => ?_⟩
  · rw [pK_al] at hb ⊢
    by_cases hbN : b = ph_N h
    · rw [if_pos hbN] at hb ⊢
      exact ⟨by show kd % 1000 ≠ 0; omega, Or.inl ⟨h1, by rw [pN_al]; omega⟩⟩
    · rw [if_neg hbN] at hb ⊢
      obtain ⟨e1, e2⟩ := r3 b hb
      refine ⟨e1, ?_⟩
      rcases e2 with ⟨e2, e3⟩ | e2
      · exact Or.inl ⟨e2, by rw [pN_al]; omega⟩
      · exact Or.inr e2
  · rw [pI_al, pJ_al]
    by_cases hbN : b = ph_N h
    · rw [if_pos hbN, if_pos hbN]; decide
    · rw [if_neg hbN, if_neg hbN]; exact r4 b j
  · by_cases hbN : b = ph_N h
    · subst hbN; exact ha
    · obtain ⟨i1, i2, i3, i4⟩ := al_ne (kd := kd) (len := len) (sl := sl) hbN
      have hlt : ∀ q, (ph_K h b).1 ≠ 0 → G.2.2.1 b = some q → q < H.size := by
        intro q hk hq
        rcases (r3 b hk).2 with ⟨-, e3⟩ | ⟨-, e3⟩
        · rw [hg.1 b (by omega)] at hq
          have := Option.some.inj hq
          omega
        · have := hg.2 b q e3 hq
          omega
      have hzb := r5 b
      unfold zat at hzb ⊢
      rw [i4]
      by_cases c1 : (ph_K h b).1 % 1000 = 0
      · rw [if_pos c1]; trivial
      · rw [if_neg c1] at hzb ⊢
        have hk0 : (ph_K h b).1 ≠ 0 := fun z => c1 (by rw [z])
        by_cases c2 : (ph_K h b).1 % 1000 ≤ 7
        · rw [if_pos c2] at hzb ⊢
          obtain ⟨q, cell, e1, e2, e3, e4, e5, e6, e7, e8, e9⟩ := hzb
          refine ⟨q, cell, e1, by rw [ho q (hlt q hk0 e1)]; exact e2, by rw [i4]; exact e3, e4, by rw [i4]; exact e5, by rw [i4]; exact e6, by rw [i4]; exact e7, fun j hj => ?_, by rw [i4]; exact e9⟩
          rw [i4] at hj ⊢
          rw [e8 j hj]
          unfold zelt
          rw [i1, i2, i3]
        · rw [if_neg c2] at hzb ⊢
          by_cases c3 : (ph_K h b).1 % 1000 = 8
          · rw [if_pos c3] at hzb ⊢; exact hzb
          · rw [if_neg c3] at hzb ⊢
            obtain ⟨k1, q, r, e1, e2, e3, e9⟩ := hzb
            refine ⟨k1, q, r, e1, by rw [i4]; exact e2, ?_, by rw [i4]; exact fun h9 => (e9 h9).kept (ho q (hlt q hk0 e1))⟩
            rw [i4]
            have e4 := e3.kept (ho q (hlt q hk0 e1))
            exact e4.to (fun k _ => by unfold zfv; rw [i1, i2, i3])
theorem va_S.born {A : Nat → Prop} {H0 H H' : Heap} {locs : List Loc} (hS : va_S A H0 H locs) (hz : H'.size = H.size + 1) (ho : ∀ q, q < H.size → H'[q]? = H[q]?) : va_S A H0 H' locs := ⟨by have := hS.1; omega, fun x h1 h2 => (ho x (Nat.lt_of_lt_of_le h1 hS.1)).trans (hS.2.1 x h1 h2), hS.2.2⟩
def zfd (ty : FieldType) : Bool := match ty with
  | .float => true
  | .double => true
  | _ => false
theorem zfv_new {G : ZG} {kd len sl : Nat} {ty : FieldType} {j : Nat} (hf : zfd ty = false) : defaultValue ty = zfv G (al_ h kd len sl) (ph_N h) ty j := by
  unfold zfv
  rw [pI_al, pJ_al, pR_al, if_pos rfl, if_pos rfl, if_pos rfl]
  cases ty <;> first | rfl | cases hf
theorem k_new {C : String} {T : u_T} {N ci idx kd : Nat} (d : decode cc pc = .ok (.new idx, 3)) (hc : zcl[ci]? = some (C, T, N)) (hin : ∀ w ∈ u_ws C T N, w ∈ lw_all) (ty0 : Nat → FieldType) (hty0 : ∀ k, k < N → parseFieldDescriptor (T k).2.2.1 = some (ty0 k)) (hzt : zty ci = ty0) (hfd : ∀ k, k < N → zfd (ty0 k) = false) (q1 : Cond.classLink y.cls idx C ∈ lw_all) (q2 : Cond.instantiable C N ∈ lw_all) (q3 : Cond.initialized C ∈ lw_all) (hci : ci < 900 := by decide) (hkd : kd = 16 + ci := by rfl) : IOk y cc nL ret lv pc (zi_new kd N (pc + 3)) := by
  subst hkd
  intro L st h o e
  obtain rfl := Option.some.inj e
  refine iok_new fun G p l e R s m args below meth c H locs cells slots Q ls hx hb hown hts hG hr hS hst hN hcl hsl => ⟨zst_cons trivial hst, fun kk => ?_⟩
  have hKn := hG.1.1 ci _ hc
  have hψ : G.2.2.1 (ph_N h) = some H.size := by rw [hr.1]; exact hG.2.2.2.2.1.1 _ (by omega)
  refine W.newcK hx hb hown (hts _ q1) (hts _ q2) (hts _ q3) rfl d hcl hsl hKn.2.1 rfl fun H1 kC hkC e1 z1 o1 => ?_
  have hmod : (16 + ci) % 1000 = 16 + ci := Nat.mod_eq_of_lt (by omega)
  have k9 := kk H1 (hr.alloc hG.2.2.2.2.1 (by omega) (by omega) hN z1 o1 (by
    unfold zat
    rw [pK_al, if_pos rfl]
    show if (16 + ci) % 1000 = 0 then True else if (16 + ci) % 1000 ≤ 7 then zarr G s (al_ h (16 + ci) 0 N) (ph_N h) H1 else if (16 + ci) % 1000 = 8 then (∃ q : Nat, G.2.2.1 (ph_N h) = some q) else 16 ≤ (16 + ci) % 1000 ∧ zobj G (al_ h (16 + ci) 0 N) (ph_N h) H1
    rw [if_neg (by omega), if_neg (by omega), if_neg (by omega)]
    refine ⟨by omega, H.size, (C, T, N), hψ, ?_, ?_, fun _ => ⟨_, e1, rfl⟩⟩
    · rw [pK_al, if_pos rfl]; show zcl[(16 + ci) % 1000 - 16]? = _; rw [hmod, Nat.add_sub_cancel_left]; exact hc
    · rw [pK_al, if_pos rfl]
      show zOB ((16 + ci) < 1000) H.size (G.1.1 ((16 + ci) % 1000 - 16)) N (G.1.2 ((16 + ci) % 1000 - 16)) H1 (fun k => zfv G (al_ h (16 + ci) 0 N) (ph_N h) (zty ((16 + ci) % 1000 - 16) k) k)
      rw [hmod, Nat.add_sub_cancel_left, hzt]
      exact zOB.of ((u_born ty0 hts hin hKn hkC e1 hty0).to (fun j hj => zfv_new (hfd j hj))))) (hS.born z1 o1)
  have k8 : W p l e R s m args below meth c H1 locs (cells + 1) (slots + N) Q (F0 m (pc + 3) ls (va_rf (G.2.2.1 (ph_N h)) :: st.map (zcv G))) := k9
  rw [hψ] at k8
  exact k8
/-- a new array -/
theorem z_newa {G : ZG} {s : State} {H H1 : Heap} {kd nn : Nat} {cA : ClassId} {dv : Value} (hG : ZGlob G s) (hr : ZRep G s h H) (h1 : 1 ≤ kd) (h2 : kd ≤ 6) (hN : ph_N h + 1 ≤ 1000000) (hn : nn < 2147483648) (hcA : cA = G.2.1 kd) (hAr : ArrOfT s cA (ztyA kd)) (e1 : H1[H.size]? = some (arrV cA nn (fun _ => dv))) (hdv : ∀ j, zelt G (al_ h kd nn nn) (ph_N h) kd j = dv) (z1 : H1.size = H.size + 1) (o1 : ∀ q, q < H.size → H1[q]? = H[q]?) : ZRep G s (al_ h kd nn nn) H1 := by
  have hψ : G.2.2.1 (ph_N h) = some H.size := by rw [hr.1]; exact hG.2.2.2.2.1.1 _ (by omega)
  refine hr.alloc hG.2.2.2.2.1 (by omega) (by omega) hN z1 o1 ?_
  have hmod : kd % 1000 = kd := Nat.mod_eq_of_lt (by omega)
  have hK : ph_K (al_ h kd nn nn) (ph_N h) = (kd, nn) := by rw [pK_al, if_pos rfl]
  unfold zat
  rw [hK]
  show if kd % 1000 = 0 then True else if kd % 1000 ≤ 7 then zarr G s (al_ h kd nn nn) (ph_N h) H1 else _
  rw [if_neg (by omega), if_pos (by omega)]
  refine ⟨H.size, arrV cA nn (fun _ => dv), hψ, e1, ?_, fun z => (by cases z), ?_, ?_, ?_, fun j hj => ?_, fun _ => ⟨?_, rfl, ?_⟩⟩
  · rw [hK]; show s.isArrayOf _ (ztyA (kd % 1000)); rw [hmod]; exact hAr nn _
  · rw [hK, arrV_size]; exact Nat.le_refl _
  · rw [hK, arrV_size]
  · rw [hK]; exact hn
  · rw [hK] at hj ⊢
    show _ = some (zelt G (al_ h kd nn nn) (ph_N h) (kd % 1000) j)
    rw [hmod, hdv, arrV_read _ _ hj]
  · rw [hK]; exact hcA
  · rw [hK, arrV_size]
theorem zelt_new {G : ZG} {kd nn j : Nat} : zelt G (al_ h kd nn nn) (ph_N h) kd j = if kd ≤ 3 then .int 0 else if kd = 4 then .long 0 else .null := by
  unfold zelt
  rw [pI_al, pJ_al, pR_al, if_pos rfl, if_pos rfl, if_pos rfl]
  rfl
theorem k_newa {atype : ArrayType} {kd : Nat} (d : decode cc pc = .ok (.newarray atype, 2)) (hk : kd = 1 ∨ kd = 2 ∨ kd = 3 ∨ kd = 4) (hty : newarray.typeOf atype = ztyA kd) (q : Cond.arrayClass (ztyA kd) ∈ lw_all) : IOk y cc nL ret lv pc (zi_newa kd (pc + 2)) := by
  intro L st h o e
  unfold zi_newa at e
  split at e
  · rename_i x st'
    by_cases hz : 0 ≤ x ∧ x ≤ 100000
    · rw [if_pos hz] at e
      obtain rfl := Option.some.inj e
      refine iok_new fun G p l e R s m args below meth c H locs cells slots Q ls hx hb hown hts hG hr hS hst hN hcl hsl => ⟨zst_cons trivial (zst_tl hst), fun kk => ?_⟩
      have hψ : G.2.2.1 (ph_N h) = some H.size := by rw [hr.1]; exact hG.2.2.2.2.1.1 _ (by omega)
      have hneg : ¬ Int32.ofInt x < 0 := fun z => by rw [← i32_zero, i32_lt ⟨by omega, by omega⟩ zk0] at z; omega
      obtain ⟨hA1, hA2⟩ := ztys_at hG kd (by omega) (by omega)
      refine va_newaK (N := x.toNat) hx hb (by rw [hty]; exact hts _ q) rfl d rfl hneg (zj_clamp hz.1 (by omega)) ?_ hcl hsl rfl fun H1 cA e1 z1 o1 hAr hNm => ?_
      · rw [hty]
        have hcb : componentBytes (ztyA kd) ≤ 8 := by rcases hk with rfl | rfl | rfl | rfl <;> decide
        exact Nat.le_trans (Nat.mul_le_mul (show x.toNat ≤ 100000 by omega) hcb) (Nat.le_of_ble_eq_true rfl)
      · have hcA : cA = G.2.1 kd := by
          rw [hty] at hNm
          rcases hk with rfl | rfl | rfl | rfl <;> exact Option.some.inj (hNm.symm.trans hA2)
        have k9 := kk H1 (z_newa (kd := kd) (nn := x.toNat) hG hr (by omega) (by omega) hN (by omega) hcA (by rw [← hty]; exact hAr) e1 (fun j => by rw [zelt_new, hty]; rcases hk with rfl | rfl | rfl | rfl <;> rfl) z1 o1) (hS.born z1 o1)
        have k8 : W p l e R s m args below meth c H1 locs (cells + 1) (slots + x.toNat) Q (F0 m (pc + 2) ls (va_rf (G.2.2.1 (ph_N h)) :: st'.map (zcv G))) := k9
        rw [hψ] at k8
        exact k8
    · rw [if_neg hz] at e; cases e
  · cases e
theorem k_anew {C : String} {idx kd : Nat} (d : decode cc pc = .ok (.anewarray idx, 3)) (hk : kd = 5 ∨ kd = 6) (hty : ztyA kd = .object C) (q1 : Cond.classLink y.cls idx C ∈ lw_all) (q2 : Cond.arrayOver (.object C) ∈ lw_tbl) : IOk y cc nL ret lv pc (zi_newa kd (pc + 3)) := by
  intro L st h o e
  unfold zi_newa at e
  split at e
  · rename_i x st'
    by_cases hz : 0 ≤ x ∧ x ≤ 100000
    · rw [if_pos hz] at e
      obtain rfl := Option.some.inj e
      refine iok_new fun G p l e R s m args below meth c H locs cells slots Q ls hx hb hown hts hG hr hS hst hN hcl hsl => ⟨zst_cons trivial (zst_tl hst), fun kk => ?_⟩
      have hψ : G.2.2.1 (ph_N h) = some H.size := by rw [hr.1]; exact hG.2.2.2.2.1.1 _ (by omega)
      have hneg : ¬ Int32.ofInt x < 0 := fun z => by rw [← i32_zero, i32_lt ⟨by omega, by omega⟩ zk0] at z; omega
      have hcl9 := zj_clamp hz.1 (show x ≤ 2147483647 by omega)
      obtain ⟨hA1, hA2⟩ := ztys_at hG kd (by omega) (by omega)
      rw [hty] at hA2
      obtain ⟨kA9, comp9, -, -, -, hA3⟩ := hA2
      refine W.anew hx hb hown (hts _ q1) (va_AO.use (hG.2.1 _ q2 rfl)) rfl d rfl hneg (by rw [hcl9]; omega) hcl (by rw [hcl9]; exact hsl) fun cA kA comp f1 f2 f3 f4 => ?_
      rw [hcl9]
      generalize hH1 : H.push ({ cls := cA, slots := Array.replicate x.toNat .null, vm := .none } : Cell) = H1
      have z1 : H1.size = H.size + 1 := by rw [← hH1, Array.size_push]
      have e1 : H1[H.size]? = some (arrV cA x.toNat (fun _ => .null)) := by rw [← hH1, Array.getElem?_push_size, ← arrV_new]
      have o1 : ∀ q : Nat, q < H.size → H1[q]? = H[q]? := fun q hq => by rw [← hH1, Array.getElem?_push, if_neg (Nat.ne_of_lt hq)]
      have hAr : ArrOfT s cA (.object C) := fun N z => ⟨(fun k h => by cases h), kA, f2, comp, f3⟩
      have k9 := kk H1 (z_newa (kd := kd) (nn := x.toNat) hG hr (by omega) (by omega) hN (by omega) (Option.some.inj (f1.symm.trans hA3)) (by rw [hty]; exact hAr) e1 (fun j => by rw [zelt_new]; rcases hk with rfl | rfl <;> rfl) z1 o1) (hS.born z1 o1)
      have k8 : W p l e R s m args below meth c H1 locs (cells + 1) (slots + x.toNat) Q (F0 m (pc + 3) ls (va_rf (G.2.2.1 (ph_N h)) :: st'.map (zcv G))) := k9
      rw [hψ] at k8
      exact k8
    · rw [if_neg hz] at e; cases e
  · cases e
/-! statics and texts -/
theorem k_gets {C nm ds ref : String} {idx : Nat} {v : ZV} (d : decode cc pc = .ok (.getstatic idx, 3)) (hq : (C, nm, ds, v) ∈ zstats) (q : Cond.fieldLink y.cls idx ref nm ds ∈ lw_all) (hsame : C = ref) (hv : zok v) : IOk y cc nL ret lv pc (zi_push v (pc + 3)) := by
  intro L st h o e
  obtain rfl := Option.some.inj e
  exact iok_stk fun G p l e R s m args below meth c H locs cells slots Q ls hx hb hown hts hG hr hS _ hst => ⟨zst_cons hv hst, fun k => va_gets hx hb (hG.2.2.2.2.2.1 _ hq) hS hown (hts _ q) (fun _ h9 => by rw [← hsame]; exact h9) d k⟩
theorem k_ldcS {tx : String} {idx i : Nat} (d : decode cc pc = .ok (.ldc idx, 2)) (hq : (y.cls, idx, tx, i) ∈ zstrs) (hi : i < 11) : IOk y cc nL ret lv pc (zi_push (zvr (some (1000000010 + i))) (pc + 2)) := by
  intro L st h o e
  obtain rfl := Option.some.inj e
  refine iok_stk fun G p l e R s m args below meth c H locs cells slots Q ls hx hb hown hts hG hr hS _ hst => ⟨zst_cons trivial hst, fun k => ?_⟩
  obtain ⟨adK, adV, h2, h3, h4⟩ := hG.2.2.2.2.2.2.1
  have k9 : W p l e R s m args below meth c H locs cells slots Q (F0 m (pc + 2) ls (va_rf (G.2.2.1 (1000000010 + i)) :: st.map (zcv G))) := k
  rw [(h3 i hi).1] at k9
  exact va_ldcS hx hb hown (h4 _ hq) d k9
/-! ends -/
theorem k_ret (d : decode cc pc = .ok (.return_, 1)) (hr : ret = none := by rfl) : IOk y cc nL ret lv pc zi_ret := by
  intro L st h o e
  unfold zi_ret at e
  split at e
  · obtain rfl := Option.some.inj e
    exact ⟨⟨Nat.le_refl _, Nat.le_refl _⟩, fun _ _ _ _ _ _ _ _ _ _ _ _ _ _ _ _ => ⟨rfl, rfl, d, hr⟩⟩
  · cases e
theorem zi_retv_o {ty : Nat} {L st : List ZV} {h : PH} {o : ZS ⊕ ZR} (e : zi_retv ty L st h = some o) : ∃ v, st = [v] ∧ ztag v = ty ∧ o = .inr (.inl (some v), h) := by
  unfold zi_retv at e
  split at e
  · rename_i v
    cases ht : Nat.beq (ztag v) ty with
    | false => rw [ht] at e; cases e
    | true => rw [ht] at e; exact ⟨v, rfl, Nat.eq_of_beq_eq_true ht, (Option.some.inj e).symm⟩
  · cases e
theorem k_iret (d : decode cc pc = .ok (.ireturn, 1)) (hr : ret = some .int := by rfl) : IOk y cc nL ret lv pc (zi_retv 0) := by
  intro L st h o e
  obtain ⟨v, rfl, ht, rfl⟩ := zi_retv_o e
  obtain ⟨x, rfl⟩ := ztag_I ht
  exact ⟨⟨Nat.le_refl _, Nat.le_refl _⟩, fun _ _ _ _ _ _ _ _ _ _ _ _ _ _ _ _ => ⟨rfl, rfl, d, Or.inl hr⟩⟩
theorem k_lret (d : decode cc pc = .ok (.lreturn, 1)) (hr : ret = some .long := by rfl) : IOk y cc nL ret lv pc (zi_retv 2) := by
  intro L st h o e
  obtain ⟨v, rfl, ht, rfl⟩ := zi_retv_o e
  obtain ⟨x, rfl⟩ := ztag_J ht
  exact ⟨⟨Nat.le_refl _, Nat.le_refl _⟩, fun _ _ _ _ _ _ _ _ _ _ _ _ _ _ _ _ => ⟨rfl, rfl, d, hr⟩⟩
theorem k_aret {rt : FieldType} (d : decode cc pc = .ok (.areturn, 1)) (hr : ret = some rt) (hrt : (∃ n, rt = .object n) ∨ ∃ t, rt = .array t) : IOk y cc nL ret lv pc (zi_retv 1) := by
  intro L st h o e
  obtain ⟨v, rfl, ht, rfl⟩ := zi_retv_o e
  obtain ⟨x, rfl⟩ := ztag_R ht
  exact ⟨⟨Nat.le_refl _, Nat.le_refl _⟩, fun _ _ _ _ _ _ _ _ _ _ _ _ _ _ _ _ => ⟨rfl, rfl, d, rt, hr, hrt⟩⟩
theorem k_zret (d : decode cc pc = .ok (.ireturn, 1)) (hr : ret = some .boolean := by rfl) : IOk y cc nL ret lv pc zi_retz := by
  intro L st h o e
  unfold zi_retz at e
  split at e
  · rename_i x
    by_cases hz : x = 0 ∨ x = 1
    · rw [if_pos hz] at e
      obtain rfl := Option.some.inj e
      exact ⟨⟨Nat.le_refl _, Nat.le_refl _⟩, fun _ _ _ _ _ _ _ _ _ _ _ _ _ _ _ _ => ⟨rfl, rfl, d, Or.inr ⟨.boolean, hr, by rcases hz with rfl | rfl <;> rfl⟩⟩⟩
    · rw [if_neg hz] at e; cases e
  · cases e
/-- a char's or a byte's end, of a small number -/
def zi_retn (hi : Int) : ZI := fun _ st h => match st with
  | [.inl x] => if 0 ≤ x ∧ x ≤ hi then some (.inr (.inl (some (zvi x)), h)) else none
  | _ => none
theorem k_retn {hi : Int} {ty : FieldType} (d : decode cc pc = .ok (.ireturn, 1)) (hr : ret = some ty) (hn : ∀ x : Int, 0 ≤ x → x ≤ hi → narrow ty (.int (Int32.ofInt x)) = .int (Int32.ofInt x)) : IOk y cc nL ret lv pc (zi_retn hi) := by
  intro L st h o e
  unfold zi_retn at e
  split at e
  · rename_i x
    by_cases hz : 0 ≤ x ∧ x ≤ hi
    · rw [if_pos hz] at e
      obtain rfl := Option.some.inj e
      exact ⟨⟨Nat.le_refl _, Nat.le_refl _⟩, fun _ _ _ _ _ _ _ _ _ _ _ _ _ _ _ _ => ⟨rfl, rfl, d, Or.inr ⟨ty, hr, hn x hz.1 hz.2⟩⟩⟩
    · rw [if_neg hz] at e; cases e
  · cases e
theorem e_retn {M : ZM} {pc : Nat} {L : List ZV} {h : PH} {hi a : Int} (hl : zlk M.1 pc = some (zi_retn hi)) : zev M pc L [zvi a] h = if 0 ≤ a ∧ a ≤ hi then zrv (zvi a) h else none := by
  by_cases hc : 0 ≤ a ∧ a ≤ hi
  · rw [if_pos hc]; exact ze_ret hl (if_pos hc)
  · rw [if_neg hc]; exact ze_none hl (if_neg hc)
theorem zn_char (x : Int) (h0 : 0 ≤ x) (h1 : x ≤ 127) : narrow .char (.int (Int32.ofInt x)) = .int (Int32.ofInt x) := by
  obtain ⟨q, rfl⟩ := Int.eq_ofNat_of_zero_le h0
  rw [i32_nat]
  exact (pk_charN (q := q) (by omega)).1
theorem zn_byte (x : Int) (h0 : 0 ≤ x) (h1 : x ≤ 1) : narrow .byte (.int (Int32.ofInt x)) = .int (Int32.ofInt x) := by
  rcases (show x = 0 ∨ x = 1 by omega) with rfl | rfl <;> rfl
theorem k_throw (d : decode cc pc = .ok (.athrow, 1)) : IOk y cc nL ret lv pc zi_throw := by
  intro L st h o e
  unfold zi_throw at e
  split at e
  · rename_i a st'
    by_cases hz : (ph_K h a).1 ≠ 0
    · rw [if_pos hz] at e
      obtain rfl := Option.some.inj e
      refine ⟨⟨Nat.le_refl _, Nat.le_refl _⟩, fun G p l e R s m args below meth c h0 NF SF Q hC _ _ kt H locs ls hr hS hl hst h1 h2 => ?_⟩
      obtain ⟨hx, hb, -, -, -, hnm, hown, hts, hG, -⟩ := hC
      obtain ⟨q, hq, -⟩ := hr.ref hG hz
      show W p l e R s m args below meth c H locs _ _ Q (F0 m pc ls (va_rf (G.2.2.1 a) :: st'.map (zcv G)))
      rw [hq]
      exact vx_athrow hx hb d (kt H locs ls (st'.map (zcv G)) q hr hS hl h1 h2 hq hz)
    · rw [if_neg hz] at e; cases e
  · cases e
end
