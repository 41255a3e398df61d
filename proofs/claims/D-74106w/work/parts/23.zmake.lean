/-! Z 23: calls of getCause; a field of one of two classes; a new NoSuchElementException -/
section
variable {p : Program} {l : Launch} {e : Env} {R : Room} {s : State} {m : MethodId} {args : Array Value} {below : List Frame} {meth : Method} {c : Code} {T : State} {locs : List Loc} {cells slots : Nat}
theorem zs_callVU (X : Stand p l e R s m args below meth c T locs cells slots) (hexec : p.tables.exec = Jvm.exec) {own C owner : String} {index : Nat} {x y : MethodName} (hown : s.vm.findClass own = some m.cls) (hlink : (Cond.methodLink own index x).before args s = true) (hsame : (Cond.sameMethod x.cls owner x.name x.desc).before args s = true) (hdecl : (Cond.declares ⟨owner, x.name, x.desc⟩).before args s = true) (howner : owner ≠ "java/lang/invoke/MethodHandle" ∧ owner ≠ "java/lang/invoke/VarHandle") (hsel : (Cond.selects C x y).before args s = true) (hinst : (Cond.instanceMethod y).before args s = true)
    {W : Nat} {Pre : Pt → Array Value → Prop} {Post : Pt → Array Value → Option Value → Pt → Prop} {PostX : Pt → Array Value → Addr → Pt → Prop} (hK : vx_Back l R p e below s args y 3 W Pre Post PostX)
    {b : Addr} {cellB : Cell} (hcell : T.heap[b]? = some cellB) (hobj : cellB.vm.isStatics = false) (hcls : s.vm.findClass C = some cellB.cls) {g : JFrame} (hg : g.method = m) (hsize : g.locals.size = c.maxLocals) {argsL rest : List Value} (hlen : ∀ sig, parseMethodDescriptor x.desc = some sig → argsL.length = sig.parameters.length)
    (hstack : g.stack = argsL.reverse ++ .ref b :: rest) (hW : 2 * g.monitorRoom + (rest.map fun v => v.category).sum ≤ W) (hdg : decode c.code g.pc = .ok (.invokevirtual index, 3)) (hpre : ∀ vm₁, s.WarmedH vm₁ → Pre ⟨T.setVm vm₁, locs, cells, slots⟩ (Value.ref b :: argsL).toArray) :
    (∃ (v : Option Value) (vm₁ : Vm) (B : Pt), s.WarmedH vm₁ ∧ Stand p l e R s m args below meth c B.U B.locs B.cells B.slots ∧ Post ⟨T.setVm vm₁, locs, cells, slots⟩ (Value.ref b :: argsL).toArray v B ∧
      ∀ target, Steps p.tables e below (B.U.setTop { g with pc := g.pc + 3, stack := v.toList ++ rest }) target → Steps p.tables e below (T.setTop g) target) ∨
    (∃ (q : Addr) (vm₁ : Vm) (B : Pt), s.WarmedH vm₁ ∧ Stand p l e R s m args below meth c B.U B.locs B.cells B.slots ∧ PostX ⟨T.setVm vm₁, locs, cells, slots⟩ (Value.ref b :: argsL).toArray q B ∧
      Steps p.tables e below (T.setTop g) ((B.U.setTop { g with stack := rest }).pushFrame (.throwing q))) := by
  obtain ⟨r0, r, hn, hrm, hstR, hsigR⟩ := Cond.declares_spec hdecl
  obtain ⟨cn, ck, r1, hcn, hck, hni, hf, hn1⟩ := Cond.sameMethod_found hsame
  cases hn.symm.trans hn1
  obtain ⟨mk, methM, hnamed, hmethM, -, habM⟩ := Cond.instanceMethod_spec hinst
  obtain ⟨c2, r2, m2, q1, q2, q3, q4, kP, hkP, hkPi⟩ := Cond.selects_spec hsel
  cases hcls.symm.trans q1
  cases hf.symm.trans q2
  cases hnamed.symm.trans q3
  have hselP : selectMethod e.platform s.vm cellB.cls r0 = .method mk := by rw [Launch.admits_selectMethod X.admits]; exact q4
  obtain ⟨vm₁, X₁, hstep₁⟩ := X.invokevirtualUp hexec hown hlink hsame howner hn hrm hstR (a := b) (cell := cellB) hcell
    (fun z h => by rw [h] at hobj; cases hobj) hselP hmethM habM hkP hkPi (g := g) hg (argsL := argsL) (rest := rest) (hlen _ hsigR) hstack hdg
  rcases hK m meth c ⟨T.setVm vm₁, locs, cells, slots⟩ { g with stack := rest } (.invokevirtual index) mk (Value.ref b :: argsL).toArray X₁ hg hsize hdg hW (X₁.named hnamed) (hpre vm₁ X₁.warmed) with ⟨v, B, X', hpost, hsteps⟩ | ⟨q, B, X', hpost, hsteps⟩
  · exact Or.inl ⟨v, vm₁, B, X₁.warmed, X', hpost, fun target h => hstep₁ _ fun acts => by rw [doInvoke_state]; exact hsteps.trans h⟩
  · exact Or.inr ⟨q, vm₁, B, X₁.warmed, X', hpost, hstep₁ _ fun acts => by rw [doInvoke_state]; exact hsteps⟩
end
theorem lw_methS {y : MethodName} {b : ByteArray} {L : Nat} {r : Option FieldType} (h : Cond.codeSync y b L r ∈ lw_all) : GoodIn lw_all (Cond.codeSync y b L r :: lw_all) := by
  intro w hw
  rcases List.mem_cons.mp hw with e | e
  · rw [e]
    exact lw_self _ h
  · exact lw_self _ e
section
variable {y : MethodName} {cc : ByteArray} {nL : Nat} {ret : Option FieldType} {lv pc idx ci kd : Nat} {x2 : MethodName} {C : String} {T0 : u_T} {N0 : Nat}
theorem k_callGC (d : decode cc pc = .ok (.invokevirtual idx, 3)) (hc : zcl[ci]? = some (C, T0, N0)) (q1 : Cond.methodLink y.cls idx x2 ∈ lw_all) (q2 : Cond.sameMethod x2.cls "java/lang/Throwable" x2.name x2.desc ∈ lw_all) (q6 : Cond.selects C x2 yGC ∈ lw_all) (hn : x2.name = "getCause") (hd : x2.desc = "()Ljava/lang/Throwable;") (hlv : 2 ≤ lv) (hkd : kd = 16 + ci := by rfl) : IOk y cc nL ret lv pc (zi_callV mGC kd 1 (pc + 3)) := by
  subst hkd
  intro L st h o eo
  obtain ⟨a, as, r, k0, k1, k2, k3, hf, ho⟩ := zi_callV_o eo
  refine z_call (as := zvr (some a) :: as) (rest := st.drop 1) ho (sndGC _ h r hf).1 (fun v hv => List.mem_of_mem_drop hv) ?_
  intro G p l e R s m args below meth c h0 H locs cells slots ls hC hr hS hl hst f1 f2
  obtain ⟨c1, c2, c3, c4, c5, c6, c7, c8, c9, d1, d2, d3, d4, d5, d6⟩ := id hC
  have has : ∀ v ∈ zvr (some a) :: as, zok v := fun v hv => hst v (List.mem_of_mem_take (List.mem_reverse.mp (by rw [k0]; exact hv)))
  obtain ⟨q9, e1, cell, e2, e3, e4, e5, kC, e6⟩ := z_recv c9 hr k1 hc
  have haA : (Value.ref q9 :: as.map (zcv G)).toArray = ((zvr (some a) :: as).map (zcv G)).toArray := by
    show _ = (va_rf (G.2.2.1 a) :: as.map (zcv G)).toArray
    rw [e1]; rfl
  have hstk : st.map (zcv G) = (as.map (zcv G)).reverse ++ .ref q9 :: (st.drop 1).map (zcv G) := by
    rw [zst_split st 1, k0]
    show (va_rf (G.2.2.1 a) :: as.map (zcv G)).reverse ++ _ = _
    rw [e1, List.reverse_cons, List.append_assoc]; rfl
  have hbk : vx_Back l R p e below s args yGC 3 8 (PreOf R (ph_N r.2 - ph_N h) (ph_S r.2 - ph_S h) (zPc G (zvr (some a) :: as) h)) (PostOf (zQc G r) (ph_N r.2 - ph_N h) (ph_S r.2 - ph_S h) (zA G)) (zx_Post (zXC G r) (ph_N r.2 - ph_N h) (ph_S r.2 - ph_S h) (zA G)) :=
    zs_back (bytes := cGC) (maxL := 1) (ret := some (.object "java/lang/Throwable")) ((sndGC _ h r hf).2 l G d6 has d3) zPc_blind rfl rfl (by show 1 + 1 ≤ R.frames; omega) (by show 8 + (1 + 11) + 64 * 1 ≤ R.locals; omega) (pay_in c8 (lw_methS q915)) List.mem_cons_self (fun a' U hW => word_at hW (Or.inl (by first | rfl | simp [Cond.onTables, Cond.keeps, Cond.steady])) (c8 _ q146))
  refine z_toCall (aA := (Value.ref q9 :: as.map (zcv G)).toArray) fun T hT X => ?_
  exact zs_callVU (C := C) (owner := "java/lang/Throwable") (x := x2) X c1 c7 (c8 _ q1) (c8 _ q2) (by rw [hn, hd]; exact va_Nw.use rfl (c9.2.1 _ q912 rfl)) ⟨by decide, by decide⟩ (c8 _ q6) (c8 _ q914) hbk (by rw [hT]; exact e2) e3 e4 (g := F0 m pc ls (st.map (zcv G))) rfl (by show ls.size = _; rw [hl.1, c3]) (argsL := as.map (zcv G)) (rest := (st.drop 1).map (zcv G)) (by rw [hd]; exact zlenV_of (y2 := yGC) (na := 1) (by decide +kernel) (by rw [List.length_map]; exact k2)) hstk (lv_room (by rw [zcat_sum]; exact k3)) (by rw [c2]; exact d) (fun vm₁ hW => z_pre c9 hr hS hT hW f1 f2 haA)
end
/-! a field of Trouble, of a Flaw or a Full -/
def zi_getI2 (k : Int) (n : Nat) : ZI := fun L st h => match st with
  | .inr (.inr (.inl (some a))) :: st' => if (ph_K h a).1 = 24 ∨ (ph_K h a).1 = 25 then zgo n L (zvi (ph_I h a k) :: st') h else none
  | _ => none
theorem e_getI2 {M : ZM} {pc n p : Nat} {L st : List ZV} {h : PH} {k : Int} (hl : zlk M.1 pc = some (zi_getI2 k n)) : zev M pc L (zvr (some p) :: st) h = if (ph_K h p).1 = 24 ∨ (ph_K h p).1 = 25 then zev M n L (zvi (ph_I h p k) :: st) h else none := by
  by_cases hc : (ph_K h p).1 = 24 ∨ (ph_K h p).1 = 25
  · rw [if_pos hc]; exact ze_go hl (if_pos hc)
  · rw [if_neg hc]; exact ze_none hl (if_neg hc)
def zokTrb (k : Nat) : Bool := Nat.beq k 24 || Nat.beq k 25
theorem zokTrb_can : zcan "LinkTimes$Trouble" zokTrb := fun kd h => by
  rcases Bool.or_eq_true_iff.mp h with h | h <;> obtain rfl := Nat.eq_of_beq_eq_true h
  · exact ⟨8, RX8, TX8, 8, rfl, rfl, Or.inr q2386⟩
  · exact ⟨9, RX9, TX9, 8, rfl, rfl, Or.inr q2387⟩
section
variable {y : MethodName} {cc : ByteArray} {nL : Nat} {ret : Option FieldType} {lv pc idx : Nat}
theorem k_getTrb {k : Nat} {host : String} {kI : Int} {nm : String} (d : decode cc pc = .ok (.getfield idx, 3)) (hk : k < 2) (hnm : (TX8 k).2.1 = nm ∧ (TX9 k).2.1 = nm) (q : Cond.fieldLinkNest y.cls idx "LinkTimes$Trouble" nm "I" host ∈ lw_tbl) (hkI : kI = (k : Int) := by rfl) : IOk y cc nL ret lv pc (zi_getI2 kI (pc + 3)) := by
  subst hkI
  intro L st h o e
  unfold zi_getI2 at e
  split at e
  · rename_i a st'
    by_cases hz : (ph_K h a).1 = 24 ∨ (ph_K h a).1 = 25
    · rw [if_pos hz] at e
      obtain rfl := Option.some.inj e
      refine iok_stk fun G p l e R s m args below meth c H locs cells slots Q ls hx hb hown hts hG hr _ _ hst => ⟨zst_cons (hr.2.2.2.1 a k).1 (zst_tl hst), fun k9 => ?_⟩
      have hkk : k = 0 ∨ k = 1 := by omega
      have K : ∃ (q9 : Nat) (cell : Cell) (cf : Nat) (kf : Class) (fi : Nat) (f : Field), G.2.2.1 a = some q9 ∧ H[q9]? = some cell ∧ cell.vm ≠ .unknown ∧ s.fieldFound? "LinkTimes$Trouble" nm "I" = some (cf, kf, fi, f) ∧ f.isStatic = false ∧ cell.slots[f.slot]? = some (.int (Int32.ofInt (ph_I h a k))) := by
        rcases hz with hz | hz
        · obtain ⟨q9, cell, cf, kf, fi, f, e1, e2, e3, e4, e5, e6⟩ := z_fld (C := RX8) (T := TX8) (N := 8) (ci := 8) (k := k) (a := a) hts in_X8 hG hr (by omega) rfl (by omega)
          refine ⟨q9, cell, cf, kf, fi, f, e1, e2, e3, ?_, e5, ?_⟩
          · rcases hkk with rfl | rfl <;> rw [← hnm.1] <;> exact e4
          · rcases hkk with rfl | rfl <;> exact e6
        · obtain ⟨q9, cell, cf, kf, fi, f, e1, e2, e3, e4, e5, e6⟩ := z_fld (C := RX9) (T := TX9) (N := 8) (ci := 9) (k := k) (a := a) hts in_X9 hG hr (by omega) rfl (by omega)
          refine ⟨q9, cell, cf, kf, fi, f, e1, e2, e3, ?_, e5, ?_⟩
          · rcases hkk with rfl | rfl <;> rw [← hnm.2] <;> exact e4
          · rcases hkk with rfl | rfl <;> exact e6
      obtain ⟨q9, cell, cf, kf, fi, f, e1, e2, e3, e4, e5, e6⟩ := K
      show W p l e R s m args below meth c H locs cells slots Q (F0 m pc ls (va_rf (G.2.2.1 a) :: st'.map (zcv G)))
      rw [e1]
      exact va_Wgetf hx hb hown (va_Nw.use rfl (hG.2.1 _ q rfl)) e4 e5 e2 e3 e6 rfl rfl d k9
    · rw [if_neg hz] at e; cases e
  · cases e
end
