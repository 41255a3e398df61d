/-! Z 20: a call through an interface that inherits the method: the access is told by the link itself -/
theorem zu_plain {vm : Vm} {flags : Nat} {c : ClassId} {ck : Class} {t d : ClassId} {dk : Class} (h : plainAccess vm flags c ck t d dk = true) : vm.Plain flags c ck t d dk := by
  unfold plainAccess at h
  simp only [Bool.or_eq_true, Bool.and_eq_true, Bool.not_eq_true', beq_iff_eq] at h
  rcases h with ((h | h) | h) | ⟨⟨⟨h1, h2⟩, h3⟩, h4⟩
  · exact Or.inl h
  · exact Or.inr (Or.inl h)
  · exact Or.inr (Or.inr (Or.inl h))
  · refine Or.inr (Or.inr (Or.inr ⟨h1, h2, h3, ?_⟩))
    rcases h4 with (h4 | h4) | h4
    · exact Or.inl h4
    · exact Or.inr (Or.inl h4)
    · exact Or.inr (Or.inr h4)
theorem zu_spec {s : State} {A : Array Value} {cls : String} {x : MethodName} {index d c : Nat} {ck ok : Class} {meth : Method} {mf : MethodId} (hd : s.vm.findClass cls = some d) (hc : s.vm.findClass x.cls = some c) (hck : s.vm.classes[c]? = some ck) (hvi : ck.isInterface = true) (hpoly : ∀ y, signaturePolymorphic ck y = false) (hnone : ck.findMethod x.name x.desc = none) (hf : s.methodFound? x.cls x.name x.desc = some mf) (hff : s.vm.faceFind c x.name x.desc = some mf) (hok : s.vm.classes[mf.cls]? = some ok) (hm : ok.methods[mf.idx]? = some meth) (hcn : x.name ≠ "clone")
    (h : (Cond.methodLink cls index x).before A s = true) (pl : Platform) (hpl : pl.magicAccessors = ({} : Platform).magicAccessors) : ∃ ci, s.vm.MethodLinksFF pl d index ci c mf ∧ s.rightAt d index (.method mf) = true := by
  have hmeth : s.vm.method? mf = some meth := by simp [Vm.method?, hok, hm]
  simp only [Cond.before, Cond.holds, Cond.value, hd, hc] at h
  cases hme : s.memberEntry? cls index with
  | none => simp [hme] at h
  | some me =>
    obtain ⟨ci, via⟩ := me
    cases hcl : s.classLinks cls ci x.cls with
    | none => simp [hme, hcl, hf] at h
    | some linked =>
      cases hdk : s.vm.classes[d]? with
      | none => simp [hme, hcl, hdk, hf] at h
      | some dk =>
        simp only [hme, hcl, hdk, hck, hok, hmeth, hf, Option.bind_eq_bind, Option.bind_some, Option.pure_def, beq_iff_eq, bne_iff_ne, ne_eq, Option.some.injEq, Bool.and_eq_true, Option.isNone_iff_eq_none] at h
        obtain ⟨⟨⟨⟨⟨⟨⟨rfl, hnm⟩, hopen⟩, hvia⟩, -⟩, -⟩, hml⟩, hacc⟩ := h
        have hpl2 : s.vm.Plain meth.accessFlags mf.cls ok c d dk := by
          rcases (Bool.or_eq_true _ _).mp hacc with h1 | h1
          · exact zu_plain h1
          · simp [hcn] at h1
        rw [hvi] at hvia
        subst hvia
        obtain ⟨cr, hcr, hlinks⟩ := State.classLinks_spec hd hcl pl hpl
        cases hc.symm.trans hcr
        obtain ⟨cp, hcp, hnames⟩ := State.names_spec hnm
        obtain ⟨dk', cf, hdk', hcf, rfl⟩ := State.poolOf?_spec hd hcp
        cases hdk.symm.trans hdk'
        obtain ⟨ci', nt, hent, hnt, -⟩ := namesOf?_method hnames
        have hent' : ci' = ci ∧ cf.constantPool[index]? = some (.interfaceMethodref ci nt) := by
          rcases hent with hent | hent
          · simp only [State.memberEntry?, hcp, Option.bind_eq_bind, Option.bind_some, hent, Option.some.injEq, Prod.mk.injEq] at hme
            exact absurd hme.2 (by simp)
          · simp only [State.memberEntry?, hcp, Option.bind_eq_bind, Option.bind_some, hent, Option.some.injEq, Prod.mk.injEq] at hme
            obtain ⟨rfl, -⟩ := hme
            exact ⟨rfl, hent⟩
        obtain ⟨rfl, he2⟩ := hent'
        have hne : ci' ≠ index := by
          intro he
          obtain ⟨_, cf', name', _, hd', hcf', _, hname', _⟩ := hlinks.here
          cases hdk.symm.trans hd'
          cases hcf.symm.trans hcf'
          subst he
          simp [ConstantPool.className?, he2] at hname'
        have hdl : dk.loader = none := by
          obtain ⟨dk', _, _, _, hd', _, hl', _⟩ := hlinks.here
          cases hdk.symm.trans hd'; exact hl'
        refine ⟨ci', ⟨dk, cf, nt, x.name, x.desc, ck, ok, meth, hdk, hcf, he2, hnt, hlinks, hne, hck, hvi, hpoly, hnone, hff, hok, hm, hdl.trans hml.symm, hpl2, State.openOr_spec hd hdk hopen⟩, ?_⟩
        simp [State.rightAt, hdk, hcf, hnames, hf]
section
variable {p : Program} {l : Launch} {e : Env} {R : Room} {s : State} {m : MethodId} {args : Array Value} {below : List Frame} {meth : Method} {c : Code} {T : State} {locs : List Loc} {cells slots : Nat}
theorem zu_step (X : Stand p l e R s m args below meth c T locs cells slots) (hexec : p.tables.exec = Jvm.exec) {own J : String} {index count : Nat} {x : MethodName} (hown : s.vm.findClass own = some m.cls) (hlink : (Cond.methodLink own index x).before args s = true) (hface : (Cond.interfaceMethod x.cls J x.name x.desc).before args s = true) (hdecl : (Cond.declares ⟨J, x.name, x.desc⟩).before args s = true) (hcn : x.name ≠ "clone") (hxo : x.cls ≠ J) (hx : x.cls ≠ "java/lang/invoke/MethodHandle" ∧ x.cls ≠ "java/lang/invoke/VarHandle")
    {a : Addr} {cell : Cell} {kcell : Class} {cI : ClassId} (hcI : s.vm.findClass x.cls = some cI) (hcell : T.heap[a]? = some cell) (hobj : ∀ c, cell.vm ≠ .statics c) (hkcell : s.vm.classes[cell.cls]? = some kcell) (hinst : s.vm.assignable cell.cls cI = true)
    {r0 m' : MethodId} {r meth' : Method} (hn : s.methodNamed? ⟨J, x.name, x.desc⟩ = some r0) (hrm : s.vm.method? r0 = some r) (hsel : selectMethod e.platform s.vm cell.cls r0 = .method m') (hm' : s.vm.method? m' = some meth') (hway : ((cell.cls :: s.vm.superclasses cell.cls).any fun k => (declaredIn s.vm r.name r.desc k).any fun (_, y) => y.isPrivate || y.isStatic) = false)
    (hpub : hasFlag meth'.accessFlags Acc.public_ = true) (habs : meth'.isAbstract = false) {g : JFrame} (hg : g.method = m) {argsL rest : List Value} (hlen : argsL.length = r.sig.parameters.length) (hstack : g.stack = argsL.reverse ++ .ref a :: rest) (hdg : decode c.code g.pc = .ok (.invokeinterface index count, 5)) :
    ∃ vm', Stand p l e R s m args below meth c (T.setVm vm') locs cells slots ∧ ∀ target, (∀ acts, Steps p.tables e below (doInvoke e ((T.setVm vm').setTop { g with stack := rest }) acts m' (.ref a :: argsL).toArray).1 target) → Steps p.tables e below (T.setTop g) target := by
  have hpl : e.platform.magicAccessors = ({} : Platform).magicAccessors := by rw [X.admits.platform]
  obtain ⟨r0', r', hn', hrm', hstR, -⟩ := Cond.declares_spec hdecl
  cases hn.symm.trans hn'
  cases hrm.symm.trans hrm'
  obtain ⟨cL, kL, ok, r1, b1, b2, b3, b4, b5, b6, b7, b8, b9⟩ := zu_none hx hxo hface
  cases hcI.symm.trans b1
  cases hn.symm.trans b7
  have hmO : ok.methods[r0.idx]? = some r := by simpa [Vm.method?, b8] using hrm
  obtain ⟨ci, hl, hright⟩ := zu_spec hown b1 b2 b3 b4 b5 b6 b9 b8 hmO hcn hlink e.platform hpl
  have hE : s.MethodEntryUp e T.vm m.cls index cI r0 ci := State.methodEntryFF X.warmed hl hright
  obtain ⟨dk, cfile, nt, _, _, ck, _, _, hd, hcf, hcp, -, -, -, hck, hvia, -⟩ := hl.here
  cases b2.symm.trans hck
  have alike := hE.warmed.alike
  obtain ⟨dk₂, hdk₂, hres⟩ := hE.classReady
  obtain ⟨dk₃, hdk₃, hed⟩ := alike.2.2 _ _ hd
  cases hdk₂.symm.trans hdk₃
  obtain ⟨ck₂, hck₂, hec⟩ := alike.2.2 _ _ hck
  obtain ⟨kcell₂, hkcell₂, -⟩ := alike.2.2 _ _ hkcell
  refine ⟨T.vm.calledUp m.cls ci index cI r0, X.noted hE.warmed, fun target hrest => ?_⟩
  subst hg
  jvm_step X.here [hexec, hdg, invokeinterface.wp_coldFace (e := e) (s := T) (s₀ := s) (f := g) (count := count) X.here.top X.warmed hE hd hcf (Or.inr hcp) hck hvia,
    invokeinterface.wp_ready (e := e) (s := T.setVm (T.vm.calledUp g.method.cls ci index cI r0)) (f := g) (count := count) (r := r) (meth := meth') (m := m') (args := argsL) (rest := rest) (cell := cell) (kcell := kcell₂) (ck := dk₂) (nk := ck₂) (cf := cfile) (ci := ci) (nt := nt) (named := cI)
      X.here.top hE.ready (by show (T.vm.calledUp g.method.cls ci index cI r0).method? r0 = some r; rw [alike.method?]; exact hrm) hstR hlen hstack hcell hobj hkcell₂ hdk₂ (by rw [hed]; exact hcf) hcp hres hck₂ (by rw [hec]; exact hvia)
      (by show (T.vm.calledUp g.method.cls ci index cI r0).assignable cell.cls cI = true; rw [alike.assignable]; exact hinst)
      (by show selectMethod e.platform (T.vm.calledUp g.method.cls ci index cI r0) cell.cls r0 = .method m'; rw [alike.selectMethod]; exact hsel)
      (by show (T.vm.calledUp g.method.cls ci index cI r0).method? m' = some meth'; rw [alike.method?]; exact hm')
      (Or.inr (Or.inr (by show ((cell.cls :: (T.vm.calledUp g.method.cls ci index cI r0).superclasses cell.cls).any fun k => (declaredIn (T.vm.calledUp g.method.cls ci index cI r0) r.name r.desc k).any fun (_, y) => y.isPrivate || y.isStatic) = false; simp only [alike.superclasses, alike.declaredIn]; exact hway)))
      (Or.inl hpub) habs]
  exact hrest
theorem zu_call (X : Stand p l e R s m args below meth c T locs cells slots) (hexec : p.tables.exec = Jvm.exec) {own C J : String} {index count : Nat} {x y : MethodName} (hown : s.vm.findClass own = some m.cls) (hlink : (Cond.methodLink own index x).before args s = true) (hdecl : (Cond.declares ⟨J, x.name, x.desc⟩).before args s = true) (hface : (Cond.interfaceMethod x.cls J x.name x.desc).before args s = true) (hcn : x.name ≠ "clone") (hxo : x.cls ≠ J)
    (hsel : (Cond.selects C ⟨J, x.name, x.desc⟩ y).before args s = true) (hJ : J ≠ "java/lang/invoke/MethodHandle" ∧ J ≠ "java/lang/invoke/VarHandle") (hinst : (Cond.instanceMethod y).before args s = true) (hpub : (Cond.publicMethod y).before args s = true) (hunh : (Cond.unhidden C x.name x.desc).before args s = true) (hcast : (Cond.castable C x.cls).before args s = true) (hx : x.cls ≠ "java/lang/invoke/MethodHandle" ∧ x.cls ≠ "java/lang/invoke/VarHandle")
    {W9 : Nat} {Pre : Pt → Array Value → Prop} {Post : Pt → Array Value → Option Value → Pt → Prop} {PostX : Pt → Array Value → Addr → Pt → Prop} (hK : vx_Back l R p e below s args y 5 W9 Pre Post PostX)
    {b : Addr} {cellB : Cell} {kB : Class} (hcell : T.heap[b]? = some cellB) (hobj : cellB.vm.isStatics = false) (hcls : s.vm.findClass C = some cellB.cls) (hkB : s.vm.classes[cellB.cls]? = some kB)
    {g : JFrame} (hg : g.method = m) (hsize : g.locals.size = c.maxLocals) {argsL rest : List Value} (hlen : ∀ sig, parseMethodDescriptor x.desc = some sig → argsL.length = sig.parameters.length) (hstack : g.stack = argsL.reverse ++ .ref b :: rest) (hW : 2 * g.monitorRoom + (rest.map fun v => v.category).sum ≤ W9) (hdg : decode c.code g.pc = .ok (.invokeinterface index count, 5)) (hpre : ∀ vm₁, s.WarmedH vm₁ → Pre ⟨T.setVm vm₁, locs, cells, slots⟩ (Value.ref b :: argsL).toArray) :
    (∃ (v : Option Value) (vm₁ : Vm) (B : Pt), s.WarmedH vm₁ ∧ Stand p l e R s m args below meth c B.U B.locs B.cells B.slots ∧ Post ⟨T.setVm vm₁, locs, cells, slots⟩ (Value.ref b :: argsL).toArray v B ∧
      ∀ target, Steps p.tables e below (B.U.setTop { g with pc := g.pc + 5, stack := v.toList ++ rest }) target → Steps p.tables e below (T.setTop g) target) ∨
    (∃ (q : Addr) (vm₁ : Vm) (B : Pt), s.WarmedH vm₁ ∧ Stand p l e R s m args below meth c B.U B.locs B.cells B.slots ∧ PostX ⟨T.setVm vm₁, locs, cells, slots⟩ (Value.ref b :: argsL).toArray q B ∧
      Steps p.tables e below (T.setTop g) ((B.U.setTop { g with stack := rest }).pushFrame (.throwing q))) := by
  obtain ⟨r0, r, hn, hrm, hstR, hsigR⟩ := Cond.declares_spec hdecl
  obtain ⟨cL, kL, ok, r1, b1, b2, b3, b4, b5, b6, b7, b8, b9⟩ := zu_none hx hxo hface
  cases hn.symm.trans b7
  obtain ⟨hnameR, hdescR⟩ := name_of_methodNamed hn hrm
  obtain ⟨mk, methM, hnamed, hmethM, -, habM⟩ := Cond.instanceMethod_spec hinst
  obtain ⟨c2, r2, m2, q1, q2, q3, q4, -⟩ := Cond.selects_spec hsel
  cases hcls.symm.trans q1
  cases (State.methodFound?_of_named hn hJ).symm.trans q2
  cases hnamed.symm.trans q3
  have hselP : selectMethod e.platform s.vm cellB.cls r0 = .method mk := by rw [Launch.admits_selectMethod X.admits]; exact q4
  have hpubM : hasFlag methM.accessFlags Acc.public_ = true := Cond.publicMethod_spec hnamed hmethM hpub
  have hway : ((cellB.cls :: s.vm.superclasses cellB.cls).any fun k => (declaredIn s.vm r.name r.desc k).any fun (_, z) => z.isPrivate || z.isStatic) = false := by
    rw [hnameR, hdescR]; exact Cond.unhidden_spec hcls hunh
  obtain ⟨c3, t3, w1, w2, w3⟩ := Cond.castable_spec hcast
  cases hcls.symm.trans w1
  cases b1.symm.trans w2
  obtain ⟨vm₁, X₁, hstep₁⟩ := zu_step X hexec hown hlink hface hdecl hcn hxo hx (a := b) (cell := cellB) (kcell := kB) b1 hcell (fun z h => by rw [h] at hobj; cases hobj) hkB w3 hn hrm hselP hmethM hway hpubM habM (g := g) hg (argsL := argsL) (rest := rest) (hlen _ hsigR) hstack hdg
  rcases hK m meth c ⟨T.setVm vm₁, locs, cells, slots⟩ { g with stack := rest } (.invokeinterface index count) mk (Value.ref b :: argsL).toArray X₁ hg hsize hdg hW (X₁.named hnamed) (hpre vm₁ X₁.warmed) with ⟨v, B, X', hpost, hsteps⟩ | ⟨q, B, X', hpost, hsteps⟩
  · exact Or.inl ⟨v, vm₁, B, X₁.warmed, X', hpost, fun target h => hstep₁ _ fun acts => by rw [doInvoke_state]; exact hsteps.trans h⟩
  · exact Or.inr ⟨q, vm₁, B, X₁.warmed, X', hpost, hstep₁ _ fun acts => by rw [doInvoke_state]; exact hsteps⟩
end
theorem zup_J : ∀ q ∈ zup, q.2.1 ≠ "java/lang/invoke/MethodHandle" ∧ q.2.1 ≠ "java/lang/invoke/VarHandle" := by decide +kernel
theorem zup_c : ∀ q ∈ zup, q.2.2.1 ≠ "clone" := by decide +kernel
section
variable {y : MethodName} {cc : ByteArray} {nL : Nat} {ret : Option FieldType} {lv pc : Nat} {lv2 : Nat} {b2 : ByteArray} {L2 : Nat} {r2 : Option FieldType} {f : ZF} {idx na na9 : Nat} {J nm ds : String}
theorem k_callIU (d : decode cc pc = .ok (.invokeinterface idx na9, 5)) (hy : y.cls = "java/util/TreeSet") (hq : (idx, J, nm, ds) ∈ zup) (hs : MSound lv2 ⟨"java/util/TreeMap", nm, ds⟩ (ws_ ⟨"java/util/TreeMap", nm, ds⟩ b2 L2 r2) f) (q5 : Cond.instanceMethod ⟨"java/util/TreeMap", nm, ds⟩ ∈ lw_all) (q6 : Cond.selects "java/util/TreeMap" ⟨J, nm, ds⟩ ⟨"java/util/TreeMap", nm, ds⟩ ∈ lw_all) (q3 : Cond.initialized "java/util/TreeMap" ∈ lw_all) (q4 : Cond.code ⟨"java/util/TreeMap", nm, ds⟩ b2 L2 r2 ∈ lw_all) (hd : (parseMethodDescriptor ds).map (fun d => d.parameters.length + 1) = some na) (hlv : lv2 + 1 ≤ lv) (hL : L2 ≤ 45) : IOk y cc nL ret lv pc (zi_callV f 32 na (pc + 5)) := by
  intro L st h o eo
  obtain ⟨a, as, r, k0, k1, k2, k3, hf, ho⟩ := zi_callV_o eo
  refine z_call (as := zvr (some a) :: as) (rest := st.drop na) ho (hs _ h r hf).1 (fun v hv => List.mem_of_mem_drop hv) ?_
  intro G p l e R s m args below meth c h0 H locs cells slots ls hC hr hS hl hst f1 f2
  obtain ⟨c1, c2, c3, c4, c5, c6, c7, c8, c9, d1⟩ := id hC
  have has : ∀ v ∈ zvr (some a) :: as, zok v := fun v hv => hst v (List.mem_of_mem_take (List.mem_reverse.mp (by rw [k0]; exact hv)))
  obtain ⟨q9, e1, cell, e2, e3, e4, e5, kC, e6⟩ := z_recv (C := RJ4) (T := TJ4) (N := 9) (ci := 16) c9 hr k1 rfl
  have haA : (Value.ref q9 :: as.map (zcv G)).toArray = ((zvr (some a) :: as).map (zcv G)).toArray := by
    show _ = (va_rf (G.2.2.1 a) :: as.map (zcv G)).toArray
    rw [e1]; rfl
  have hstk : st.map (zcv G) = (as.map (zcv G)).reverse ++ .ref q9 :: (st.drop na).map (zcv G) := by
    rw [zst_split st na, k0]
    show (va_rf (G.2.2.1 a) :: as.map (zcv G)).reverse ++ _ = _
    rw [e1, List.reverse_cons, List.append_assoc]; rfl
  obtain ⟨w1, w2, w3, w4, w5, w6⟩ := c9.2.2.2.2.2.2.2.2.1 _ hq
  rw [hy] at c7
  refine z_toCall (aA := (Value.ref q9 :: as.map (zcv G)).toArray) fun T hT X => ?_
  exact zu_call (C := "java/util/TreeMap") (J := J) (x := ⟨"java/util/NavigableMap", nm, ds⟩) X c1 c7 (va_Nw.use rfl w1) (va_Nw.use rfl w3) (va_Nw.use rfl w2) (zup_c _ hq) (zup_ne _ hq) (c8 _ q6) (zup_J _ hq) (c8 _ q5) (va_Nw.use rfl w4) (va_Nw.use rfl w5) (va_Nw.use rfl w6) ⟨show "java/util/NavigableMap" ≠ "java/lang/invoke/MethodHandle" by decide, show "java/util/NavigableMap" ≠ "java/lang/invoke/VarHandle" by decide⟩ (z_bk hs hf hC has hlv hL q3 q4) (by rw [hT]; exact e2) e3 e4 e6 (g := F0 m pc ls (st.map (zcv G))) rfl (by show ls.size = _; rw [hl.1, c3]) (argsL := as.map (zcv G)) (rest := (st.drop na).map (zcv G)) (zlenV_of (y2 := ⟨"java/util/NavigableMap", nm, ds⟩) hd (by simp; omega)) hstk (lv_room (by rw [zcat_sum]; exact k3)) (by rw [c2]; exact d) (fun vm₁ hW => z_pre c9 hr hS hT hW f1 f2 haA)
end
