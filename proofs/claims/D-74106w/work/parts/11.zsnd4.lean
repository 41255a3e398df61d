/-! Z 11: soundness: fields -/
section
variable {y : MethodName} {cc : ByteArray} {nL : Nat} {ret : Option FieldType} {lv pc n t : Nat} {L st st' : List ZV} {h h' : PH}
/-- the heap changes, no cell is new -/
theorem iok_put (eN : ph_N h' = ph_N h) (eS : ph_S h' = ph_S h) (K : ∀ (G : ZG) (p : Program) (l : Launch) (e : Env) (R : Room) (s : State) (m : MethodId) (args : Array Value) (below : List Frame) (meth : Method) (c : Code) (H : Heap) (locs : List Loc) (cells slots : Nat) (Q : State → Prop) (ls : Array Slot), p.tables.exec = Jvm.exec → c.code = cc → meth.name = y.name → s.vm.findClass y.cls = some m.cls → (∀ w ∈ lw_all, w.before args s = true) → ZGlob G s → ZRep G s h H → va_S (zA G) s.heap H locs → (∀ v ∈ st, zok v) → (∀ v ∈ st', zok v) ∧ ((∀ (H' : Heap) (locs' : List Loc), ZRep G s h' H' → va_S (zA G) s.heap H' locs' → W p l e R s m args below meth c H' locs' cells slots Q (F0 m n ls (st'.map (zcv G)))) → W p l e R s m args below meth c H locs cells slots Q (F0 m pc ls (st.map (zcv G))))) : IOo y cc nL ret lv pc L st h (.inl (n, L, st', h')) := by
  refine ⟨⟨Nat.le_of_eq eN.symm, Nat.le_of_eq eS.symm⟩, ?_⟩
  intro G p l e R s m args below meth c h0 NF SF Q hC _ _ hk H locs ls hr hS hl hst h1 h2
  obtain ⟨hx, hb, -, -, -, hnm, hown, hts, hG, -⟩ := hC
  obtain ⟨k1, k2⟩ := K G p l e R s m args below meth c H locs (ph_N h - ph_N h0) (ph_S h - ph_S h0) Q ls hx hb hnm hown hts hG hr hS hst
  refine k2 fun H' locs' hr' hS' => ?_
  have h9 := hk H' locs' ls hr' hS' hl k1 (by rw [eN]; exact h1) (by rw [eS]; exact h2)
  rw [eN, eS] at h9
  exact h9
theorem z_fld {G : ZG} {s : State} {args : Array Value} {H : Heap} {C : String} {T : u_T} {N ci k a : Nat} (hts : ∀ w ∈ lw_all, w.before args s = true) (hin : ∀ w ∈ u_ws C T N, w ∈ lw_all) (hG : ZGlob G s) (hr : ZRep G s h H) (hz : (ph_K h a).1 % 1000 = 16 + ci) (hc : zcl[ci]? = some (C, T, N)) (hk : k < N) :
    ∃ (q : Nat) (cell : Cell) (cf : Nat) (kf : Class) (fi : Nat) (f : Field), G.2.2.1 a = some q ∧ H[q]? = some cell ∧ cell.vm ≠ .unknown ∧ s.fieldFound? (T k).1 (T k).2.1 (T k).2.2.1 = some (cf, kf, fi, f) ∧ f.isStatic = false ∧ cell.slots[f.slot]? = some (zfv G h a (zty ci k) k) := by
  obtain ⟨q, r, e1, e2, ⟨cell, q1, q2, ⟨v1, v2, v3⟩, q4⟩, -⟩ := hr.obj (a := a) (by omega)
  rw [hz, Nat.add_sub_cancel_left] at e2 q2 q4
  have hr' : r = (C, T, N) := Option.some.inj (e2.symm.trans hc)
  subst hr'
  obtain ⟨hS, hfc, kC, hkC, hkind⟩ := hG.1.1 ci _ hc
  obtain ⟨cf, kf, fi, f, hi, hsl⟩ := hS k hk
  exact ⟨q, cell, cf, kf, fi, f, e1, q1, v1, hi, (u_facts hfc hkC (u_lays hts hin hk) hi).1, by rw [hsl]; exact q4 k hk⟩
theorem z_same {s : State} {args : Array Value} {o ref nm ds : String} {x : Nat × Class × Nat × Field} (hts : ∀ w ∈ lw_all, w.before args s = true) (h : o = ref ∨ Cond.sameField ref o nm ds ∈ lw_all) (hi : s.fieldFound? o nm ds = some x) : s.fieldFound? ref nm ds = some x := by
  rcases h with rfl | h
  · exact hi
  · have h9 := hts _ h
    cases hr : s.fieldFound? ref nm ds with
    | none => simp [Cond.before, Cond.holds, Cond.value, hr] at h9
    | some y =>
      obtain ⟨c, k, i, f⟩ := y
      rw [← Cond.sameField_spec hr h9, hi]
theorem k_getI {C ref : String} {T : u_T} {N ci k idx kd : Nat} {kI : Int} (d : decode cc pc = .ok (.getfield idx, 3)) (hc : zcl[ci]? = some (C, T, N)) (hin : ∀ w ∈ u_ws C T N, w ∈ lw_all) (hk : k < N) (q : Cond.fieldLink y.cls idx ref (T k).2.1 (T k).2.2.1 ∈ lw_all) (hsame : (T k).1 = ref ∨ Cond.sameField ref (T k).1 (T k).2.1 (T k).2.2.1 ∈ lw_all) (hty : ∀ (G : ZG) (h : PH) (a : Nat), zfv G h a (zty ci k) k = .int (Int32.ofInt (ph_I h a k))) (hkd : kd = 16 + ci := by rfl) (hkI : kI = (k : Int) := by rfl) : IOk y cc nL ret lv pc (zi_getI kd kI (pc + 3)) := by
  subst hkd; subst hkI
  intro L st h o e
  unfold zi_getI at e
  split at e
  · rename_i a st'
    by_cases hz : (ph_K h a).1 % 1000 = 16 + ci
    · rw [if_pos hz] at e
      obtain rfl := Option.some.inj e
      refine iok_stk fun G p l e R s m args below meth c H locs cells slots Q ls hx hb hown hts hG hr _ _ hst => ⟨zst_cons (hr.2.2.2.1 a k).1 (zst_tl hst), fun k9 => ?_⟩
      obtain ⟨q9, cell, cf, kf, fi, f, e1, e2, e3, e4, e5, e6⟩ := z_fld hts hin hG hr hz hc hk
      rw [hty] at e6
      show W p l e R s m args below meth c H locs cells slots Q (F0 m pc ls (va_rf (G.2.2.1 a) :: st'.map (zcv G)))
      rw [e1]
      exact W.getf hx hb hown (hts _ q) (z_same hts hsame e4) e5 e2 e3 e6 rfl rfl d k9
    · rw [if_neg hz] at e; cases e
  · cases e
theorem k_getIN {C ref host : String} {T : u_T} {N ci k idx kd : Nat} {kI : Int} (d : decode cc pc = .ok (.getfield idx, 3)) (hc : zcl[ci]? = some (C, T, N)) (hin : ∀ w ∈ u_ws C T N, w ∈ lw_all) (hk : k < N) (q : Cond.fieldLinkNest y.cls idx ref (T k).2.1 (T k).2.2.1 host ∈ lw_tbl) (hsame : (T k).1 = ref ∨ Cond.sameField ref (T k).1 (T k).2.1 (T k).2.2.1 ∈ lw_all) (hty : ∀ (G : ZG) (h : PH) (a : Nat), zfv G h a (zty ci k) k = .int (Int32.ofInt (ph_I h a k))) (hkd : kd = 16 + ci := by rfl) (hkI : kI = (k : Int) := by rfl) : IOk y cc nL ret lv pc (zi_getI kd kI (pc + 3)) := by
  subst hkd; subst hkI
  intro L st h o e
  unfold zi_getI at e
  split at e
  · rename_i a st'
    by_cases hz : (ph_K h a).1 % 1000 = 16 + ci
    · rw [if_pos hz] at e
      obtain rfl := Option.some.inj e
      refine iok_stk fun G p l e R s m args below meth c H locs cells slots Q ls hx hb hown hts hG hr _ _ hst => ⟨zst_cons (hr.2.2.2.1 a k).1 (zst_tl hst), fun k9 => ?_⟩
      obtain ⟨q9, cell, cf, kf, fi, f, e1, e2, e3, e4, e5, e6⟩ := z_fld hts hin hG hr hz hc hk
      rw [hty] at e6
      show W p l e R s m args below meth c H locs cells slots Q (F0 m pc ls (va_rf (G.2.2.1 a) :: st'.map (zcv G)))
      rw [e1]
      exact va_Wgetf hx hb hown (va_Nw.use rfl (hG.2.1 _ q rfl)) (z_same hts hsame e4) e5 e2 e3 e6 rfl rfl d k9
    · rw [if_neg hz] at e; cases e
  · cases e
theorem k_getJ {C ref : String} {T : u_T} {N ci k idx kd : Nat} {kI : Int} (d : decode cc pc = .ok (.getfield idx, 3)) (hc : zcl[ci]? = some (C, T, N)) (hin : ∀ w ∈ u_ws C T N, w ∈ lw_all) (hk : k < N) (q : Cond.fieldLink y.cls idx ref (T k).2.1 (T k).2.2.1 ∈ lw_all) (hsame : (T k).1 = ref ∨ Cond.sameField ref (T k).1 (T k).2.1 (T k).2.2.1 ∈ lw_all) (hty : ∀ (G : ZG) (h : PH) (a : Nat), zfv G h a (zty ci k) k = .long (Int64.ofInt (ph_J h a k))) (hkd : kd = 16 + ci := by rfl) (hkI : kI = (k : Int) := by rfl) : IOk y cc nL ret lv pc (zi_getJ kd kI (pc + 3)) := by
  subst hkd; subst hkI
  intro L st h o e
  unfold zi_getJ at e
  split at e
  · rename_i a st'
    by_cases hz : (ph_K h a).1 % 1000 = 16 + ci
    · rw [if_pos hz] at e
      obtain rfl := Option.some.inj e
      refine iok_stk fun G p l e R s m args below meth c H locs cells slots Q ls hx hb hown hts hG hr _ _ hst => ⟨zst_cons (hr.2.2.2.1 a k).2 (zst_tl hst), fun k9 => ?_⟩
      obtain ⟨q9, cell, cf, kf, fi, f, e1, e2, e3, e4, e5, e6⟩ := z_fld hts hin hG hr hz hc hk
      rw [hty] at e6
      show W p l e R s m args below meth c H locs cells slots Q (F0 m pc ls (va_rf (G.2.2.1 a) :: st'.map (zcv G)))
      rw [e1]
      exact W.getf hx hb hown (hts _ q) (z_same hts hsame e4) e5 e2 e3 e6 rfl rfl d k9
    · rw [if_neg hz] at e; cases e
  · cases e
theorem k_getJN {C ref host : String} {T : u_T} {N ci k idx kd : Nat} {kI : Int} (d : decode cc pc = .ok (.getfield idx, 3)) (hc : zcl[ci]? = some (C, T, N)) (hin : ∀ w ∈ u_ws C T N, w ∈ lw_all) (hk : k < N) (q : Cond.fieldLinkNest y.cls idx ref (T k).2.1 (T k).2.2.1 host ∈ lw_tbl) (hsame : (T k).1 = ref ∨ Cond.sameField ref (T k).1 (T k).2.1 (T k).2.2.1 ∈ lw_all) (hty : ∀ (G : ZG) (h : PH) (a : Nat), zfv G h a (zty ci k) k = .long (Int64.ofInt (ph_J h a k))) (hkd : kd = 16 + ci := by rfl) (hkI : kI = (k : Int) := by rfl) : IOk y cc nL ret lv pc (zi_getJ kd kI (pc + 3)) := by
  subst hkd; subst hkI
  intro L st h o e
  unfold zi_getJ at e
  split at e
  · rename_i a st'
    by_cases hz : (ph_K h a).1 % 1000 = 16 + ci
    · rw [if_pos hz] at e
      obtain rfl := Option.some.inj e
      refine iok_stk fun G p l e R s m args below meth c H locs cells slots Q ls hx hb hown hts hG hr _ _ hst => ⟨zst_cons (hr.2.2.2.1 a k).2 (zst_tl hst), fun k9 => ?_⟩
      obtain ⟨q9, cell, cf, kf, fi, f, e1, e2, e3, e4, e5, e6⟩ := z_fld hts hin hG hr hz hc hk
      rw [hty] at e6
      show W p l e R s m args below meth c H locs cells slots Q (F0 m pc ls (va_rf (G.2.2.1 a) :: st'.map (zcv G)))
      rw [e1]
      exact va_Wgetf hx hb hown (va_Nw.use rfl (hG.2.1 _ q rfl)) (z_same hts hsame e4) e5 e2 e3 e6 rfl rfl d k9
    · rw [if_neg hz] at e; cases e
  · cases e
theorem k_getR {C ref : String} {T : u_T} {N ci k idx kd : Nat} {kI : Int} (d : decode cc pc = .ok (.getfield idx, 3)) (hc : zcl[ci]? = some (C, T, N)) (hin : ∀ w ∈ u_ws C T N, w ∈ lw_all) (hk : k < N) (q : Cond.fieldLink y.cls idx ref (T k).2.1 (T k).2.2.1 ∈ lw_all) (hsame : (T k).1 = ref ∨ Cond.sameField ref (T k).1 (T k).2.1 (T k).2.2.1 ∈ lw_all) (hty : ∀ (G : ZG) (h : PH) (a : Nat), zfv G h a (zty ci k) k = va_rf ((ph_R h a k).bind G.2.2.1)) (hkd : kd = 16 + ci := by rfl) (hkI : kI = (k : Int) := by rfl) : IOk y cc nL ret lv pc (zi_getR kd kI (pc + 3)) := by
  subst hkd; subst hkI
  intro L st h o e
  unfold zi_getR at e
  split at e
  · rename_i a st'
    by_cases hz : (ph_K h a).1 % 1000 = 16 + ci
    · rw [if_pos hz] at e
      obtain rfl := Option.some.inj e
      refine iok_stk fun G p l e R s m args below meth c H locs cells slots Q ls hx hb hown hts hG hr _ _ hst => ⟨zst_cons trivial (zst_tl hst), fun k9 => ?_⟩
      obtain ⟨q9, cell, cf, kf, fi, f, e1, e2, e3, e4, e5, e6⟩ := z_fld hts hin hG hr hz hc hk
      rw [hty] at e6
      show W p l e R s m args below meth c H locs cells slots Q (F0 m pc ls (va_rf (G.2.2.1 a) :: st'.map (zcv G)))
      rw [e1]
      exact W.getf hx hb hown (hts _ q) (z_same hts hsame e4) e5 e2 e3 e6 rfl rfl d k9
    · rw [if_neg hz] at e; cases e
  · cases e
theorem k_getRN {C ref host : String} {T : u_T} {N ci k idx kd : Nat} {kI : Int} (d : decode cc pc = .ok (.getfield idx, 3)) (hc : zcl[ci]? = some (C, T, N)) (hin : ∀ w ∈ u_ws C T N, w ∈ lw_all) (hk : k < N) (q : Cond.fieldLinkNest y.cls idx ref (T k).2.1 (T k).2.2.1 host ∈ lw_tbl) (hsame : (T k).1 = ref ∨ Cond.sameField ref (T k).1 (T k).2.1 (T k).2.2.1 ∈ lw_all) (hty : ∀ (G : ZG) (h : PH) (a : Nat), zfv G h a (zty ci k) k = va_rf ((ph_R h a k).bind G.2.2.1)) (hkd : kd = 16 + ci := by rfl) (hkI : kI = (k : Int) := by rfl) : IOk y cc nL ret lv pc (zi_getR kd kI (pc + 3)) := by
  subst hkd; subst hkI
  intro L st h o e
  unfold zi_getR at e
  split at e
  · rename_i a st'
    by_cases hz : (ph_K h a).1 % 1000 = 16 + ci
    · rw [if_pos hz] at e
      obtain rfl := Option.some.inj e
      refine iok_stk fun G p l e R s m args below meth c H locs cells slots Q ls hx hb hown hts hG hr _ _ hst => ⟨zst_cons trivial (zst_tl hst), fun k9 => ?_⟩
      obtain ⟨q9, cell, cf, kf, fi, f, e1, e2, e3, e4, e5, e6⟩ := z_fld hts hin hG hr hz hc hk
      rw [hty] at e6
      show W p l e R s m args below meth c H locs cells slots Q (F0 m pc ls (va_rf (G.2.2.1 a) :: st'.map (zcv G)))
      rw [e1]
      exact va_Wgetf hx hb hown (va_Nw.use rfl (hG.2.1 _ q rfl)) (z_same hts hsame e4) e5 e2 e3 e6 rfl rfl d k9
    · rw [if_neg hz] at e; cases e
  · cases e
/-- the world behind a putfield -/
theorem z_put {G : ZG} {s : State} {args : Array Value} {H H' : Heap} {locs : List Loc} {C : String} {T : u_T} {N ci k a : Nat} {v : Value} {cell : Cell} (hts : ∀ w ∈ lw_all, w.before args s = true) (hin : ∀ w ∈ u_ws C T N, w ∈ lw_all) (ty0 : Nat → FieldType) (hty0 : ∀ k, k < N → parseFieldDescriptor (T k).2.2.1 = some (ty0 k)) (hnm : ∀ a, a < N → ∀ b, b < N → a ≠ b → (T a).2.1 ≠ (T b).2.1) (hG : ZGlob G s) (hr : ZRep G s h H) (hS : va_S (zA G) s.heap H locs) (hz : (ph_K h a).1 = 16 + ci) (hci : ci < 900) (hc : zcl[ci]? = some (C, T, N)) (hk : k < N)
    (eK : ph_K h' = ph_K h) (eN : ph_N h' = ph_N h) (hI : ∀ b : Nat, b ≠ a → ph_I h' b = ph_I h b ∧ ph_J h' b = ph_J h b ∧ ph_R h' b = ph_R h b) (hrng : ZRng h') (hv : ∀ j, j < N → updV (fun i => zfv G h a (zty ci i) i) k v j = zfv G h' a (zty ci j) j)
    (q1 : H[G.2.2.2 + a]? = some cell) (q2 : cell.cls = G.1.1 ci) (q3 : cell.vm = .none) (q4 : ∀ k, k < N → cell.slots[G.1.2 ci k]? = some (zfv G h a (zty ci k) k))
    (w1 : H'[G.2.2.2 + a]? = some (cell.setSlot (G.1.2 ci k) v)) (w2 : H'.size = H.size) (w3 : ∀ q, q ≠ G.2.2.2 + a → H'[q]? = H[q]?) : ZRep G s h' H' ∧ va_S (zA G) s.heap H' (locs ++ [⟨G.2.2.2 + a, G.1.2 ci k⟩]) := by
  have hap := va_apart (own := C) hts hin ty0 hty0 hnm hG.1 hc
  have hz2 : (ph_K h a).1 % 1000 = 16 + ci := by omega
  have hat := hr.at hG.2.2.2.2.1 (a := a) (by omega) (by omega)
  refine ⟨hr.upd hG.2.2.2.2.1 (a := a) (by omega) (by omega) eK eN hI hrng w2 w3 ?_, hS.put w2 w3 (Nat.le_add_right _ _)⟩
  unfold zat
  rw [eK, if_neg (by omega), if_neg (by omega), if_neg (by omega)]
  refine ⟨by omega, G.2.2.2 + a, (C, T, N), hat.2, by rw [eK, hz2, Nat.add_sub_cancel_left]; exact hc, ?_⟩
  rw [eK, hz2, Nat.add_sub_cancel_left]
  refine ⟨zOB.of (t_OB.to (V := updV (fun i => zfv G h a (zty ci i) i) k v) ⟨_, w1, q2, q3, t_set q4 hap hk v⟩ hv), fun h9 => ⟨_, w1, ?_⟩⟩
  obtain ⟨q, r, e1, e2, e3, e4⟩ := hr.obj (a := a) (by omega)
  obtain ⟨c9, m1, m2⟩ := e4 h9
  obtain rfl := Option.some.inj (e1.symm.trans hat.2)
  obtain rfl := Option.some.inj (m1.symm.trans q1)
  exact m2
/-- the cell of an object that may be written -/
theorem z_ocell {G : ZG} {s : State} {H : Heap} {C : String} {T : u_T} {N ci a : Nat} (hG : ZGlob G s) (hr : ZRep G s h H) (hz : (ph_K h a).1 = 16 + ci) (hci : ci < 900) (hc : zcl[ci]? = some (C, T, N)) : G.2.2.1 a = some (G.2.2.2 + a) ∧ ∃ cell : Cell, H[G.2.2.2 + a]? = some cell ∧ cell.cls = G.1.1 ci ∧ cell.vm = .none ∧ ∀ k, k < N → cell.slots[G.1.2 ci k]? = some (zfv G h a (zty ci k) k) := by
  have hz2 : (ph_K h a).1 % 1000 = 16 + ci := by omega
  have hat := hr.at hG.2.2.2.2.1 (a := a) (by omega) (by omega)
  refine ⟨hat.2, ?_⟩
  obtain ⟨q, r, e1, e2, ⟨cell, q1, q2, ⟨v1, v2, v3⟩, q4⟩, -⟩ := hr.obj (a := a) (by omega)
  rw [hz2, Nat.add_sub_cancel_left] at e2 q2 q4
  have hr' : r = (C, T, N) := Option.some.inj (e2.symm.trans hc)
  subst hr'
  obtain rfl := Option.some.inj (e1.symm.trans hat.2)
  exact ⟨cell, q1, q2, v3 (by omega), q4⟩
/-- putfield, any kind of value; a field of one's own class or of a super class, not final -/
theorem k_putW {C ref : String} {T : u_T} {N ci k idx : Nat} {ty : FieldType} (d : decode cc pc = .ok (.putfield idx, 3)) (hc : zcl[ci]? = some (C, T, N)) (hin : ∀ w ∈ u_ws C T N, w ∈ lw_all) (ty0 : Nat → FieldType) (hty0 : ∀ k, k < N → parseFieldDescriptor (T k).2.2.1 = some (ty0 k)) (hnm : ∀ a, a < N → ∀ b, b < N → a ≠ b → (T a).2.1 ≠ (T b).2.1) (hci : ci < 900) (hk : k < N) (q : Cond.fieldLink y.cls idx ref (T k).2.1 (T k).2.2.1 ∈ lw_all ∨ ∃ host, Cond.fieldLinkNest y.cls idx ref (T k).2.1 (T k).2.2.1 host ∈ lw_tbl) (hsame : (T k).1 = ref ∨ Cond.sameField ref (T k).1 (T k).2.1 (T k).2.2.1 ∈ lw_all) (hfin : (T k).2.2.2 = false ∨ ((T k).2.2.2 = true ∧ y.name = "<init>" ∧ (T k).1 = y.cls ∧ Cond.fieldLink y.cls idx ref (T k).2.1 (T k).2.2.1 ∈ lw_all)) (hd : parseFieldDescriptor (T k).2.2.1 = some ty)
    {a : Nat} {w : ZV} (hz : (ph_K h a).1 = 16 + ci) (hn : ∀ G : ZG, narrow ty (zcv G w) = zcv G w) (hfit : ∀ G : ZG, fits ty (zcv G w) = true) (eK : ph_K h' = ph_K h) (eN : ph_N h' = ph_N h) (eS : ph_S h' = ph_S h) (hI : ∀ b : Nat, b ≠ a → ph_I h' b = ph_I h b ∧ ph_J h' b = ph_J h b ∧ ph_R h' b = ph_R h b) (hrng : zok w → ZRng h → ZRng h') (hv : ∀ (G : ZG) (j : Nat), j < N → updV (fun i => zfv G h a (zty ci i) i) k (zcv G w) j = zfv G h' a (zty ci j) j) : IOo y cc nL ret lv pc L (w :: zvr (some a) :: st) h (.inl (pc + 3, L, st, h')) := by
  refine iok_put eN eS fun G p l e R s m args below meth c H locs cells slots Q ls hx hb hname hown hts hG hr hS hst => ⟨zst_tl (zst_tl hst), fun kk => ?_⟩
  obtain ⟨hat, cell, q1, q2, q3, q4⟩ := z_ocell hG hr hz hci hc
  obtain ⟨hSl, hfc, kC, hkC, hkind⟩ := hG.1.1 ci _ hc
  obtain ⟨cf, kf, fi, f, hi, hsl⟩ := hSl k hk
  have hst9 := (u_facts hfc hkC (u_lays hts hin hk) hi).1
  have hlay := hts _ (hin _ (u_in_lay hk))
  unfold u_lay at hlay
  have K : ∀ (H' : Heap), H'[G.2.2.2 + a]? = some (cell.setSlot f.slot (zcv G w)) → H'.size = H.size → (∀ q, q ≠ G.2.2.2 + a → H'[q]? = H[q]?) → W p l e R s m args below meth c H' (locs ++ [⟨G.2.2.2 + a, f.slot⟩]) cells slots Q (F0 m (pc + 3) ls (st.map (zcv G))) := by
    intro H' w1 w2 w3
    rw [hsl] at w1 ⊢
    obtain ⟨z1, z2⟩ := z_put (h' := h') hts hin ty0 hty0 hnm hG hr hS hz hci hc hk eK eN hI (hrng (zst_hd hst) hr.2.2.2.1) (hv G) q1 q2 q3 q4 w1 w2 w3
    exact kk H' _ z1 z2
  show W p l e R s m args below meth c H locs cells slots Q (F0 m pc ls (zcv G w :: va_rf (G.2.2.1 a) :: st.map (zcv G)))
  rw [hat]
  have hlt : f.slot < cell.slots.size := by rw [hsl]; exact k2_hasslot (q4 k hk)
  have hi' : s.fieldFound? ref (T k).2.1 (T k).2.2.1 = some (cf, kf, fi, f) := z_same hts hsame hi
  rcases hfin with hfin | ⟨hfin, hinit, hdecl, ql⟩
  · rw [if_neg (by rw [hfin]; decide)] at hlay
    have h6 := u_store hfc hkC hkind hlay hi hd (hn G) (hfit G)
    rcases q with q | ⟨host, q⟩
    · exact W.putK hx hb (f := f) ⟨hown, hts _ q, ⟨_, _, _, hi'⟩, hst9⟩ (by rw [q2]; exact h6) q1 q3 hlt rfl rfl d K
    · exact va_WputK hx hb (f := f) hown (va_Nw.use rfl (hG.2.1 _ q rfl)) hi' hst9 (by rw [q2]; exact h6) q1 q3 hlt rfl rfl d K
  · rw [if_pos hfin] at hlay
    have hcf : m.cls = cf := by
      obtain ⟨_, _, c', _, _, _, -, -, hf', -, -, -, hown2, -⟩ := Cond.laysFinal_spec hlay
      have e1 : c' = cf := by have := hi.symm.trans hf'; simp at this; exact this.1.symm
      rw [hdecl] at hown2
      rw [← e1]; exact Option.some.inj (hown.symm.trans hown2)
    have h6 := u_fits hfc hkC hkind (Or.inr hlay) hi hd (hn G) (hfit G)
    exact W.putFinK hx hb hown (hts _ ql) hi' hst9 hcf (by rw [hname]; exact hinit) (by rw [q2]; exact h6) q1 q3 hlt rfl rfl d K
end
