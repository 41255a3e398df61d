/-! Z 22: synchronized methods (zs_back by gen/gen_zs.py), Throwable.getCause, a new NoSuchElementException -/
section
variable {l : Launch} {R : Room} {p : Program} {e : Env} {below : List Frame} {s : State} {sargs : Array Value} {y : MethodName} {len W9 : Nat}
theorem zs_back {ws : List Cond} {rm : Room} {Pc : Array Value → State → Prop} {Qc : Array Value → State → Outcome → State → Prop} {XC : Addr → State → State → Prop} {mc ms : Nat} {free : Addr → Prop} {bytes : ByteArray} {maxL : Nat} {ret : Option FieldType}
    (hM : zx_Met l y ws rm Pc Qc XC mc ms free) (hblind : FrameBlind Pc) (hrc : rm.cells = mc) (hrs : rm.slots = ms)
    (hframes : rm.frames + 1 ≤ R.frames) (hlocals : W9 + (maxL + 11) + rm.locals ≤ R.locals)
    (hws : ∀ w ∈ ws, ∀ a' U, s.WarmedH U.vm → w.before a' U = true) (hcode : Cond.codeSync y bytes maxL ret ∈ ws) (hinit : ∀ a' U, s.WarmedH U.vm → (Cond.initialized y.cls).before a' U = true) :
    vx_Back l R p e below s sargs y len W9 (PreOf R mc ms Pc) (PostOf Qc mc ms free) (zx_Post XC mc ms free) := by
  intro m meth c A g ig mk a X hg hsize hdg hW hn hp
  have h1 : (headSpec ws rm).pre.before a A.U = true := atoms_intro fun w hw => hws w hw _ _ X.warmed
  have h2 : (Cond.codeSync y bytes maxL ret).before a A.U = true := hws _ hcode _ _ X.warmed
  have h3 : (Cond.initialized y.cls).before a A.U = true := hinit _ _ X.warmed
  have h4 : A.cells + (headSpec ws rm).room.cells ≤ R.cells := by rw [show (headSpec ws rm).room.cells = mc from hrc]; exact hp.1
  have h5 : A.slots + (headSpec ws rm).room.slots ≤ R.slots := by rw [show (headSpec ws rm).room.slots = ms from hrs]; exact hp.2.1
  have hPc : Pc a (A.U.calling g mk a) := hblind _ _ _ _ hp.2.2
  obtain ⟨U, Ls, c0, s0⟩ := A
  dsimp only [Pt.U, Pt.locs, Pt.cells, Pt.slots] at h1 h2 h3 h4 h5 X hn hPc ⊢
  obtain ⟨methY, cY, hmY, hcY, -, hlY, -, -, -, -⟩ := Cond.codeSync_spec hn h2
  obtain ⟨kY, hkY, -⟩ := className_of_methodNamed hn
  have hinitY : kY.init = .initialized := Cond.initialized_spec (findClass_of_methodNamed hn) hkY h3
  have h : At U g.method c below := by rw [hg]; exact X.here
  have hlocals9 : W9 + (maxL + 11) + (headSpec ws rm).room.locals ≤ R.locals := hlocals
  have happ : (headSpec ws rm).appliesLoose y e.platform (U.calling g mk a) = true :=
    Spec.appliesLoose_calling (g := g) h hdg hn hkY hinitY
      (X.room_calling (g := g) (R' := (headSpec ws rm).room) hsize hmY hcY hframes (by rw [hlY]; omega) h4 h5) h1
  obtain ⟨mid, hmid⟩ := h.above
  have hfr : (U.setTop g).frames = (.java g :: mid) ++ below := by rw [State.frames_setTop' g h.top, hmid]; rfl
  obtain ⟨o, s₂, hsteps, -, hend, hq⟩ := Steps.callFree hM p X.admits X.cas X.clock (acts := []) hfr happ hPc trivial
  have hq' : zx_Q Qc XC mc ms free a (U.calling g mk a) o s₂ := hq
  rw [State.frames_setTop' g h.top] at hend
  obtain ⟨g₀, hg0⟩ := Option.isSome_iff_exists.mp h.top
  obtain ⟨r, hr⟩ := State.topJava?_eq_some.mp hg0
  have hr' : (({ U with heap := s₂.heap, slotsUsed := s₂.slotsUsed } : State).setVm s₂.vm).frames = .java g₀ :: r := hr
  rcases hq' with ⟨hqc, L, hfe, hL⟩ | ⟨q, rfl, L, hx, hW₂, hsm, hL⟩
  · obtain ⟨⟨v, rfl⟩, hW₂, e2, q2, q3, q4, q5, q6⟩ := id hfe
    have e3 : s₂ = ({ (U.calling g mk a).setFrames s₂.frames with heap := s₂.heap, slotsUsed := s₂.slotsUsed } : State).setVm s₂.vm := by
      have : s₂ = ({ s₂ with vm := (U.calling g mk a).vm } : State).setVm s₂.vm := rfl
      rw [e2] at this
      exact this
    obtain ⟨c₂, i₂, len₂, hc₂, hd₂, hf₂⟩ := hend
    have hW' : U.WarmedH s₂.vm := hW₂
    have hcc : c₂ = c := by
      have h1 : s₂.code? g.method = U.code? g.method := by
        rw [State.code?_eq, State.code?_eq, hW'.alike.method?]
      exact Option.some.inj (hc₂.symm.trans (h1.trans h.code))
    subst hcc
    have hlen : len₂ = len := by rw [hdg] at hd₂; cases hd₂; rfl
    subst hlen
    have hs₂ : s₂ = (({ U with heap := s₂.heap, slotsUsed := s₂.slotsUsed } : State).setVm s₂.vm).setTop { g with pc := g.pc + len₂, stack := v.toList ++ g.stack } := by
      refine e3.trans ?_
      rw [hf₂, State.calling_eq h.top, State.setFrames_setFrames, State.setTop_of_frames _ hr', hr]
      rfl
    have hsame : U.sameButNew ({ U with heap := s₂.heap, slotsUsed := s₂.slotsUsed } : State) L mc ms := by
      refine ⟨?_, q2, q3, q4, q5, q6⟩
      obtain ⟨t, ht, -⟩ := State.frames_cons hr
      show ({ U with heap := s₂.heap, slotsUsed := s₂.slotsUsed } : State) = { U.setFrames U.frames with heap := s₂.heap, slotsUsed := s₂.slotsUsed }
      rw [State.setFrames_self ht]
    subst hg
    refine Or.inl ⟨v, ⟨(({ U with heap := s₂.heap, slotsUsed := s₂.slotsUsed } : State).setVm s₂.vm), Ls ++ L, c0 + mc, s0 + ms⟩,
      ⟨X.admits, X.cas, X.clock, X.frames, X.room, X.hears, X.method, X.code, (X.here.setHeapUsed s₂.heap s₂.slotsUsed).setVm hW'.alike, X.tail, State.WarmedH.trans X.warmed hW', X.limits, X.bytes, X.same.trans (hsame.setVm s.vm)⟩,
      ⟨g, mk, s₂, L, rfl, rfl, hqc, rfl, hL, rfl, rfl⟩, ?_⟩
    show Steps p.tables e below _ ((({ U with heap := s₂.heap, slotsUsed := s₂.slotsUsed } : State).setVm s₂.vm).setTop { g with pc := g.pc + len₂, stack := v.toList ++ g.stack })
    rw [← hs₂]
    exact hsteps
  · obtain ⟨e2, q2, q3, q4, q5, q6⟩ := id hsm
    have e3 : s₂ = ({ (U.calling g mk a).setFrames s₂.frames with heap := s₂.heap, slotsUsed := s₂.slotsUsed } : State).setVm s₂.vm := by
      have : s₂ = ({ s₂ with vm := (U.calling g mk a).vm } : State).setVm s₂.vm := rfl
      rw [e2] at this
      exact this
    have hf₂ : s₂.frames = .throwing q :: .java g :: U.frames.tail := hend
    have hW' : U.WarmedH s₂.vm := hW₂
    have hs₂ : s₂ = ((({ U with heap := s₂.heap, slotsUsed := s₂.slotsUsed } : State).setVm s₂.vm).setTop g).pushFrame (.throwing q) := by
      refine e3.trans ?_
      rw [hf₂, State.calling_eq h.top, State.setFrames_setFrames, State.pushFrame, State.frames_setTop _ hr', State.setTop_of_frames _ hr', State.setFrames_setFrames, hr]
      rfl
    have hsame : U.sameButNew ({ U with heap := s₂.heap, slotsUsed := s₂.slotsUsed } : State) L mc ms := by
      refine ⟨?_, q2, q3, q4, q5, q6⟩
      obtain ⟨t, ht, -⟩ := State.frames_cons hr
      show ({ U with heap := s₂.heap, slotsUsed := s₂.slotsUsed } : State) = { U.setFrames U.frames with heap := s₂.heap, slotsUsed := s₂.slotsUsed }
      rw [State.setFrames_self ht]
    subst hg
    refine Or.inr ⟨q, ⟨(({ U with heap := s₂.heap, slotsUsed := s₂.slotsUsed } : State).setVm s₂.vm), Ls ++ L, c0 + mc, s0 + ms⟩,
      ⟨X.admits, X.cas, X.clock, X.frames, X.room, X.hears, X.method, X.code, (X.here.setHeapUsed s₂.heap s₂.slotsUsed).setVm hW'.alike, X.tail, State.WarmedH.trans X.warmed hW', X.limits, X.bytes, X.same.trans (hsame.setVm s.vm)⟩,
      ⟨g, mk, s₂, L, rfl, rfl, hx, rfl, hL, rfl, rfl⟩, ?_⟩
    show Steps p.tables e below _ (((({ U with heap := s₂.heap, slotsUsed := s₂.slotsUsed } : State).setVm s₂.vm).setTop g).pushFrame (.throwing q))
    rw [← hs₂]
    exact hsteps
end
theorem zs_met {l : Launch} {x : MethodName} {S : Spec} {P : Array Value → State → Prop} {Q : Array Value → State → Outcome → State → Prop} {code : ByteArray} {maxL : Nat} {ret : Option FieldType} (hx : plainName x.cls = true)
    (his : ∀ args (s : State) m, S.pre.before args s = true → s.methodNamed? x = some m → ∃ meth c, s.vm.method? m = some meth ∧ meth.code = some c ∧ c.code = code ∧ c.maxLocals = maxL ∧ meth.sig.returnType = ret ∧ meth.locks = true ∧ meth.isStatic = false)
    (hrecv : ∀ args (s : State), S.pre.before args s = true → P args s → ∃ a cell, args[0]? = some (.ref a) ∧ s.heap[a]? = some cell ∧ cell.enterable s.cur)
    (body : ∀ (p : Program) (e : Env) (s : State) (m : MethodId) (args : Array Value) (below : List Frame) (meth : Method) (c : Code) (a : Addr) (cell : Cell), p.tables.exec = Jvm.exec → s.methodNamed? x = some m → S.pre.before args s = true → meth.sig.returnType = ret → meth.locks = true → c.code = code → args[0]? = some (.ref a) → s.heap[a]? = some cell → cell.enterable s.cur → P args s →
      Stand p l e S.room (s.setCell a (cell.withEntry s.cur)) m args below meth c ((s.setCell a (cell.withEntry s.cur)).setFrames (.java (entryFrameSync m args maxL a) :: below)) [] 0 0 →
      ∃ s₂ o, Steps p.tables e below (((s.setCell a (cell.withEntry s.cur)).setFrames (.java (entryFrameSync m args maxL a) :: below)).setTop (entryFrameSync m args maxL a)) s₂ ∧ s₂.status = .running ∧ Ended s₂ below o ∧ Q args s o s₂) :
    MetFree l x S P (fun _ _ _ _ _ => True) Q := by
  intro p e ha hc hk s m args below hf happ hP _
  obtain ⟨hrun, hable, halone, hname, hhears, hinit, hroom, hpre⟩ := (Spec.appliesLoose_iff hf).mp happ
  obtain ⟨meth, c, hmeth, hcode, hbytes, hlocals, hret, hlocks, hst⟩ := his args s m hpre hname
  obtain ⟨a, cell, harg, hcell, hent⟩ := hrecv args s hpre hP
  have hcur := State.cur_lt_of_frames hf
  have hcur' : (s.setCell a (cell.withEntry s.cur)).cur < (s.setCell a (cell.withEntry s.cur)).threads.size := hcur
  have hf1 : ((s.setCell a (cell.withEntry s.cur)).setFrames (.java (entryFrameSync m args maxL a) :: below)).frames = .java (entryFrameSync m args maxL a) :: below := State.frames_setFrames _ hcur'
  have ht1 := State.topJava?_of_frames hf1
  have hplain : ((s.setCell a (cell.withEntry s.cur)).setFrames (.java (entryFrameSync m args maxL a) :: below)).plainMethod m := by
    refine State.plainMethod.of_name ?_
    intro k hk
    obtain ⟨k', hk', hn⟩ := className_of_methodNamed hname
    cases (show s.vm.classes[m.cls]? = some k from hk).symm.trans hk'
    rw [hn]; exact hx
  have hAt : At ((s.setCell a (cell.withEntry s.cur)).setFrames (.java (entryFrameSync m args maxL a) :: below)) m c below :=
    ⟨by rw [ht1]; rfl, ⟨[], by rw [hf1]; rfl⟩, hrun, by simpa using hable, by simpa using halone, by rw [State.code?_eq]; simp [State.setFrames, State.setCell, hmeth, hcode], hplain⟩
  have hS : Stand p l e S.room (s.setCell a (cell.withEntry s.cur)) m args below meth c ((s.setCell a (cell.withEntry s.cur)).setFrames (.java (entryFrameSync m args maxL a) :: below)) [] 0 0 := by
    obtain ⟨t, ht, -⟩ := State.frames_cons hf
    refine ⟨ha, hc, hk, hf, by rw [State.hasRoom_setCell (x := cell.withEntry s.cur) hcell rfl]; exact hroom, hhears, hmeth, hcode, hAt, by rw [hf1]; rfl, State.WarmedH.refl (s.setCell a (cell.withEntry s.cur)), by rw [State.stackLimits_setFrames], by rw [State.stackBytes_setFrames], ?_⟩
    exact (State.sameButNew.refl (s.setCell a (cell.withEntry s.cur)) (x := t) ht).setFrames (.java (entryFrameSync m args maxL a) :: below) hcur
  obtain ⟨s₂, o, hs, hr, he, hp⟩ := body p e s m args below meth c a cell (by cases p <;> rfl) hname hpre hret hlocks hbytes harg hcell hent hP hS
  have hstep : (stepThread p.tables e s).1 = ((s.setCell a (cell.withEntry s.cur)).setFrames (.java (entryFrameSync m args maxL a) :: below)).setTop (entryFrameSync m args maxL a) := by
    have hfull : e.platform.stackFull (s.setFrames below).me (s.setFrames below).frames (c.maxLocals + 2) = false := by
      obtain ⟨-, h1, -, h2⟩ := State.hasRoom_stack hroom
      rw [hf, List.length_cons] at h1
      rw [State.localsInUse_invoking hf hmeth hcode] at h2
      have hw := stackUse_le_stackWeight below
      rw [State.frames_setFrames _ hcur]
      simp only [vmFrameWords] at h2
      exact Platform.stackFull_eq_false (by rw [State.stackLimits_setFrames]; omega) (by rw [State.stackLimits_setFrames]; omega)
    rw [stepThread_invoking hf, (doInvoke_java_sync (s := s.setFrames below) (e := e) (meth := meth) (code := c) (a := a) (cell := cell) hmeth hcode hlocks hst harg hcell hent.either hfull).1, State.setTop_self ht1, hlocals]
    show (((s.setFrames below).setCell a (cell.withEntry s.cur)).setFrames (.java (entryFrameSync m args maxL a) :: ((s.setFrames below).setCell a (cell.withEntry s.cur)).frames)) = _
    rw [show ((s.setFrames below).setCell a (cell.withEntry s.cur)).frames = below from State.frames_setFrames _ hcur, State.setCell_setFrames, State.setFrames_setFrames]
  obtain ⟨n, hn, hw⟩ := Steps.head (tb := p.tables) (e := e) ⟨hrun, hable, halone⟩ ⟨[.invoking m args], hf, by simp, by simp⟩ (hstep ▸ hs)
  exact ⟨n, o, hw, hn ▸ hr, hn ▸ he, hn ▸ hp⟩
/-! Throwable.getCause -/
def yGC : MethodName := ⟨"java/lang/Throwable", "getCause", "()Ljava/lang/Throwable;"⟩
abbrev cGC : ByteArray := prog_33_method_8_code
theorem dGC_0 : decode cGC 0 = .ok (.aload_n 0, 1) := by decide +kernel
theorem dGC_1 : decode cGC 1 = .ok (.getfield 7, 3) := by decide +kernel
theorem dGC_4 : decode cGC 4 = .ok (.aload_n 0, 1) := by decide +kernel
theorem dGC_5 : decode cGC 5 = .ok (.if_acmp .ne 7, 3) := by decide +kernel
theorem dGC_8 : decode cGC 8 = .ok (.aconst_null, 1) := by decide +kernel
theorem dGC_9 : decode cGC 9 = .ok (.goto 7, 3) := by decide +kernel
theorem dGC_12 : decode cGC 12 = .ok (.aload_n 0, 1) := by decide +kernel
theorem dGC_13 : decode cGC 13 = .ok (.getfield 7, 3) := by decide +kernel
theorem dGC_16 : decode cGC 16 = .ok (.areturn, 1) := by decide +kernel
def zgc (h : PH) (a : Nat) : Option Nat := if ph_R h a 0 = some a then none else ph_R h a 0
def mGC : ZF := fun as h => match as with
  | [.inr (.inr (.inl (some a)))] => if ((ph_K h a).1 = 26 ∨ (ph_K h a).1 = 27) ∧ zcomp h (ph_R h a 0) (some a) = true then zrv (zvr (zgc h a)) h else none
  | _ => none
theorem mGC_eq {h : PH} {a : Nat} (h1 : (ph_K h a).1 = 26 ∨ (ph_K h a).1 = 27) (h2 : zcomp h (ph_R h a 0) (some a) = true) : mGC [zvr (some a)] h = zrv (zvr (zgc h a)) h := if_pos ⟨h1, h2⟩
abbrev wsGC : List Cond := Cond.codeSync yGC cGC 1 (some (.object "java/lang/Throwable")) :: lw_all
/-- the cause of an exception of ours, by its class -/
theorem z_cause {G : ZG} {s : State} {args : Array Value} {H : Heap} {h : PH} {a : Nat} (hts : ∀ w ∈ lw_all, w.before args s = true) (hG : ZGlob G s) (hr : ZRep G s h H) (hz : (ph_K h a).1 = 26 ∨ (ph_K h a).1 = 27) :
    ∃ (cell : Cell) (cf : Nat) (kf : Class) (fi : Nat) (f : Field), H[G.2.2.2 + a]? = some cell ∧ cell.vm ≠ .unknown ∧ s.fieldFound? "java/lang/Throwable" "cause" "Ljava/lang/Throwable;" = some (cf, kf, fi, f) ∧ f.isStatic = false ∧ cell.slots[f.slot]? = some (va_rf ((ph_R h a 0).bind G.2.2.1)) ∧ cell.monitor = {} := by
  have hat := hr.at hG.2.2.2.2.1 (a := a) (by omega) (by omega)
  obtain ⟨q0, r0, w1, w2, w3, w4⟩ := hr.obj (a := a) (by omega)
  obtain ⟨c0, m1, m2⟩ := w4 hz
  obtain rfl := Option.some.inj (w1.symm.trans hat.2)
  rcases hz with hz | hz
  · obtain ⟨q, cell, cf, kf, fi, f, e1, e2, e3, e4, e5, e6⟩ := z_fld (C := RX12) (T := TX12) (N := 6) (ci := 10) (k := 0) (a := a) hts in_X12 hG hr (by omega) rfl (by decide)
    obtain rfl := Option.some.inj (e1.symm.trans hat.2)
    obtain rfl := Option.some.inj (m1.symm.trans e2)
    exact ⟨c0, cf, kf, fi, f, e2, e3, e4, e5, e6, m2⟩
  · obtain ⟨q, cell, cf, kf, fi, f, e1, e2, e3, e4, e5, e6⟩ := z_fld (C := RX13) (T := TX13) (N := 7) (ci := 11) (k := 0) (a := a) hts in_X13 hG hr (by omega) rfl (by decide)
    obtain rfl := Option.some.inj (e1.symm.trans hat.2)
    obtain rfl := Option.some.inj (m1.symm.trans e2)
    exact ⟨c0, cf, kf, fi, f, e2, e3, e4, e5, e6, m2⟩
theorem sndGC : MSound 1 yGC wsGC mGC := by
  intro as h r hf
  obtain ⟨a, rfl, hk, hc, rfl⟩ : ∃ a, as = [zvr (some a)] ∧ ((ph_K h a).1 = 26 ∨ (ph_K h a).1 = 27) ∧ zcomp h (ph_R h a 0) (some a) = true ∧ r = (.inl (some (zvr (zgc h a))), h) := by
    unfold mGC at hf
    split at hf
    · rename_i a
      by_cases hz : ((ph_K h a).1 = 26 ∨ (ph_K h a).1 = 27) ∧ zcomp h (ph_R h a 0) (some a) = true
      · rw [if_pos hz] at hf
        exact ⟨a, rfl, hz.1, hz.2, (Option.some.inj hf).symm⟩
      · rw [if_neg hz] at hf; cases hf
    · cases hf
  refine ⟨⟨Nat.le_refl _, Nat.le_refl _⟩, fun l G hfl has hN => ?_⟩
  have hq5 : Cond.instanceMethod yGC ∈ lw_all := q914
  refine zs_met (code := cGC) (maxL := 1) (ret := some (.object "java/lang/Throwable")) (by decide) ?_ ?_ ?_
  · intro args s m hpre hname
    have hws := atoms_spec (ws := wsGC) hpre
    obtain ⟨meth, c, hmeth, hcode, hbytes, hlocals, hret, hlocks, -, -⟩ := Cond.codeSync_spec hname (hws _ List.mem_cons_self)
    obtain ⟨mk, methM, hnamed, hmethM, hstM, -⟩ := Cond.instanceMethod_spec (hws _ (List.mem_cons_of_mem _ hq5))
    cases hname.symm.trans hnamed
    cases hmeth.symm.trans hmethM
    exact ⟨meth, c, hmeth, hcode, hbytes, hlocals, hret, hlocks, hstM⟩
  · intro args s hpre hP
    obtain ⟨rfl, hrep, hG⟩ := hP
    have hts : ∀ w ∈ lw_all, w.before _ s = true := fun w hw => atoms_spec (ws := wsGC) hpre w (List.mem_cons_of_mem _ hw)
    obtain ⟨cell, cf, kf, fi, f, e1, e2, e3, e4, e5, e6⟩ := z_cause hts hG hrep hk
    have hat := hrep.at hG.2.2.2.2.1 (a := a) (by omega) (by omega)
    refine ⟨G.2.2.2 + a, cell, ?_, e1, Or.inl ⟨by rw [e6], by rw [e6]⟩⟩
    show some (va_rf (G.2.2.1 a)) = _
    rw [hat.2]; rfl
  · intro p e s m args below meth c a9 cell9 hexec hname hpre hret hlocks hbytes harg hcell hent hP X0
    obtain ⟨rfl, hrep, hG⟩ := hP
    have hts : ∀ w ∈ lw_all, w.before _ s = true := fun w hw => atoms_spec (ws := wsGC) hpre w (List.mem_cons_of_mem _ hw)
    obtain ⟨cell, cf, kf, fi, f, e1, e2, e3, e4, e5, e6⟩ := z_cause hts hG hrep hk
    have hat := hrep.at hG.2.2.2.2.1 (a := a) (by omega) (by omega)
    have ha9 : a9 = G.2.2.2 + a := by
      have h9 : some (va_rf (G.2.2.1 a)) = some (Value.ref a9) := harg
      rw [hat.2] at h9
      have h8 : Value.ref (G.2.2.2 + a) = Value.ref a9 := Option.some.inj h9
      injection h8 with h7
      exact h7.symm
    subst ha9
    obtain rfl := Option.some.inj (hcell.symm.trans e1)
    have hargs : ((([zvr (some a)] : List ZV).map (zcv G)).toArray) = #[.ref (G.2.2.2 + a)] := by
      show #[va_rf (G.2.2.1 a)] = _
      rw [hat.2]; rfl
    have d0 : decode c.code 0 = .ok (.aload_n 0, 1) := by rw [hbytes]; exact dGC_0
    have d1 : decode c.code 1 = .ok (.getfield 7, 3) := by rw [hbytes]; exact dGC_1
    have d4 : decode c.code 4 = .ok (.aload_n 0, 1) := by rw [hbytes]; exact dGC_4
    have d5 : decode c.code 5 = .ok (.if_acmp .ne 7, 3) := by rw [hbytes]; exact dGC_5
    have d8 : decode c.code 8 = .ok (.aconst_null, 1) := by rw [hbytes]; exact dGC_8
    have d9 : decode c.code 9 = .ok (.goto 7, 3) := by rw [hbytes]; exact dGC_9
    have d12 : decode c.code 12 = .ok (.aload_n 0, 1) := by rw [hbytes]; exact dGC_12
    have d13 : decode c.code 13 = .ok (.getfield 7, 3) := by rw [hbytes]; exact dGC_13
    have d16 : decode c.code 16 = .ok (.areturn, 1) := by rw [hbytes]; exact dGC_16
    have hown : (s.setCell (G.2.2.2 + a) (cell9.withEntry s.cur)).vm.findClass "java/lang/Throwable" = some m.cls := findClass_of_methodNamed hname
    have hlink : (Cond.fieldLink "java/lang/Throwable" 7 "java/lang/Throwable" "cause" "Ljava/lang/Throwable;").before (([zvr (some a)] : List ZV).map (zcv G)).toArray (s.setCell (G.2.2.2 + a) (cell9.withEntry s.cur)) = true := va_tabs rfl (u := s) rfl (hts _ q622)
    have hlt : G.2.2.2 + a < s.heap.size := (Array.getElem?_eq_some_iff.mp hcell).1
    have hcell1 : ((s.setCell (G.2.2.2 + a) (cell9.withEntry s.cur)).setFrames (.java (entryFrameSync m (([zvr (some a)] : List ZV).map (zcv G)).toArray 1 (G.2.2.2 + a)) :: below)).heap[G.2.2.2 + a]? = some (cell9.withEntry s.cur) := by
      show (s.heap.setIfInBounds (G.2.2.2 + a) (cell9.withEntry s.cur))[G.2.2.2 + a]? = _
      simp [hlt]
    obtain ⟨s1, hs1⟩ : ∃ z, z = ((s.setCell (G.2.2.2 + a) (cell9.withEntry s.cur)).setFrames (.java (entryFrameSync m (([zvr (some a)] : List ZV).map (zcv G)).toArray 1 (G.2.2.2 + a)) :: below)) := ⟨_, rfl⟩
    rw [← hs1] at X0 hcell1 ⊢
    have hfr : entryFrameSync m (([zvr (some a)] : List ZV).map (zcv G)).toArray 1 (G.2.2.2 + a) = { method := m, pc := 0, locals := #[.val (.ref (G.2.2.2 + a))], stack := [], locked := some (G.2.2.2 + a), monitorRoom := 1 } := by
      rw [hargs]; rfl
    obtain ⟨vm1, X1, st1⟩ := X0.getfield hexec hown hlink (cf := cf) (i := fi) (k := kf) (f := f) e3 e4 hcell1 (by show cell9.vm ≠ _; exact e2) (v := va_rf ((ph_R h a 0).bind G.2.2.1)) e5 (g := { method := m, pc := 1, locals := #[.val (.ref (G.2.2.2 + a))], stack := [.ref (G.2.2.2 + a)], locked := some (G.2.2.2 + a), monitorRoom := 1 }) rfl (rest := []) rfl d1
    obtain ⟨T1, hT1⟩ : ∃ z, z = s1.setVm vm1 := ⟨_, rfl⟩
    rw [← hT1] at X1 st1
    have hh1 : T1.heap = s1.heap := by rw [hT1]; rfl
    have hiff := zcomp_iff hrep hG hc
    have hfa : (some a).bind G.2.2.1 = some (G.2.2.2 + a) := hat.2
    rw [hfa] at hiff
    -- the end: the monitor is given back, the heap is as it was
    have hend : ∀ (T : State), Stand p l e (headSpec wsGC ({ frames := 1, cells := ph_N h - ph_N h, slots := ph_S h - ph_S h, locals := 64 * 1 } : Room)).room (s.setCell (G.2.2.2 + a) (cell9.withEntry s.cur)) m (([zvr (some a)] : List ZV).map (zcv G)).toArray below meth c T [] 0 0 → T.heap = (s.setCell (G.2.2.2 + a) (cell9.withEntry s.cur)).heap → ∀ (rr : Option Nat), rr = zgc h a → ∃ V : State, (∀ (f : JFrame) (acts : List Action), f.method = m → f.locked = some (G.2.2.2 + a) → f.entered = [] → (doReturn e (T.setTop f) acts (some (va_rf (rr.bind G.2.2.1)))).1 = V) ∧ V.status = .running ∧ Ended V below (.returned (some (va_rf (rr.bind G.2.2.1)))) ∧ zx_Q (zQc G (.inl (some (zvr (zgc h a))), h)) (zXC G (.inl (some (zvr (zgc h a))), h)) (ph_N h - ph_N h) (ph_S h - ph_S h) (zA G) (([zvr (some a)] : List ZV).map (zcv G)).toArray s (.returned (some (va_rf (rr.bind G.2.2.1)))) V := by
      intro T X hT rr hrr
      obtain ⟨fs, cT, hcT, hr9, hrun, hended, hW, hsame⟩ := X.leaveSync hcell hent hlocks (v := some (va_rf (rr.bind G.2.2.1))) (fun h => by rw [hret] at h; cases h)
      refine ⟨_, hr9, hrun, hended, Or.inl ⟨?_, [], ⟨⟨_, rfl⟩, hW, by rw [Nat.sub_self, Nat.sub_self]; exact hsame⟩, fun q hq => by cases hq⟩⟩
      have hc9 : cT = cell9.withEntry s.cur := by
        rw [hT] at hcT
        have h8 : (s.heap.setIfInBounds (G.2.2.2 + a) (cell9.withEntry s.cur))[G.2.2.2 + a]? = some cT := hcT
        simp [hlt] at h8
        exact h8.symm
      have hheap : ((T.setCell (G.2.2.2 + a) cT.left).setFrames fs).heap = s.heap := by
        show T.heap.setIfInBounds (G.2.2.2 + a) cT.left = s.heap
        rw [hc9, Cell.left_withEntry' hent, hT]
        show (s.heap.setIfInBounds (G.2.2.2 + a) (cell9.withEntry s.cur)).setIfInBounds (G.2.2.2 + a) cell9 = s.heap
        rw [Array.setIfInBounds_setIfInBounds]
        refine Array.ext_getElem? fun i => ?_
        by_cases hi : i = G.2.2.2 + a
        · subst hi; rw [hcell]; simp [hlt]
        · simp [Array.getElem?_setIfInBounds, Ne.symm hi]
      refine ⟨some (zvr (zgc h a)), rfl, by rw [hrr]; rfl, fun w hw => by rw [← Option.some.inj hw]; trivial, by rw [hheap]; exact hrep.move hW.alike, ?_⟩
      exact va_S.rf.F hheap
    rw [hfr]
    by_cases hq : ph_R h a 0 = some a
    · obtain ⟨V, hr9, hrun, hended, hQ⟩ := hend _ X1 (by rw [hh1, hs1]; rfl) none (by unfold zgc; rw [if_pos hq])
      refine ⟨V, _, ?_, hrun, hended, hQ⟩
      jvm_step X0.here [X0.here.top, hexec, d0, Value.isRef]
      refine st1 _ ?_
      rw [hq, hfa]
      jvm_step X1.here [X1.here.top, hexec, d4, Value.isRef, va_rf]
      jvm_step X1.here [X1.here.top, hexec, d5, Value.asRef?, Op.if_acmp.holds, va_rf]
      jvm_step X1.here [X1.here.top, hexec, d8]
      jvm_step X1.here [X1.here.top, hexec, d9]
      jvm_step X1.here [X1.here.top, hexec, d16, X1.method', hret, narrow, Value.isRef]
      refine ⟨rfl, fun acts => ?_⟩
      have h9 := hr9 { method := m, pc := 16, locals := #[Slot.val (Value.ref (G.2.2.2 + a))], stack := [], locked := some (G.2.2.2 + a), monitorRoom := 1 } acts rfl rfl rfl
      have h8 : (doReturn e (T1.setTop { method := m, pc := 16, locals := #[Slot.val (Value.ref (G.2.2.2 + a))], stack := [], locked := some (G.2.2.2 + a), monitorRoom := 1 }) acts (some Value.null)).1 = V := h9
      rw [h8]
      exact Steps.refl _
    · obtain ⟨vm2, X2, st2⟩ := X1.getfield hexec hown hlink (cf := cf) (i := fi) (k := kf) (f := f) (cell := cell9.withEntry s.cur) e3 e4 (by rw [hh1]; exact hcell1) (by show cell9.vm ≠ _; exact e2) (v := va_rf ((ph_R h a 0).bind G.2.2.1)) e5 (g := { method := m, pc := 13, locals := #[.val (.ref (G.2.2.2 + a))], stack := [.ref (G.2.2.2 + a)], locked := some (G.2.2.2 + a), monitorRoom := 1 }) rfl (rest := []) rfl d13
      obtain ⟨T2, hT2⟩ : ∃ z, z = T1.setVm vm2 := ⟨_, rfl⟩
      rw [← hT2] at X2 st2
      have hh2 : T2.heap = s1.heap := by rw [hT2, ← hh1]; rfl
      obtain ⟨V, hr9, hrun, hended, hQ⟩ := hend _ X2 (by rw [hh2, hs1]; rfl) (ph_R h a 0) (by unfold zgc; rw [if_neg hq])
      refine ⟨V, _, ?_, hrun, hended, hQ⟩
      have hne : ¬ (ph_R h a 0).bind G.2.2.1 = some (G.2.2.2 + a) := fun h9 => hq (hiff.mp h9)
      jvm_step X0.here [X0.here.top, hexec, d0, Value.isRef]
      refine st1 _ ?_
      generalize hv9 : (ph_R h a 0).bind G.2.2.1 = v9 at st2 hr9 hne ⊢
      cases v9 with
      | none =>
        jvm_step X1.here [X1.here.top, hexec, d4, Value.isRef, va_rf]
        jvm_step X1.here [X1.here.top, hexec, d5, Value.asRef?, Op.if_acmp.holds, va_rf]
        jvm_step X1.here [X1.here.top, hexec, d12, Value.isRef]
        refine st2 _ ?_
        jvm_step X2.here [X2.here.top, hexec, d16, X2.method', hret, narrow, Value.isRef, va_rf]
        refine ⟨rfl, fun acts => ?_⟩
        have h9 := hr9 { method := m, pc := 16, locals := #[Slot.val (Value.ref (G.2.2.2 + a))], stack := [], locked := some (G.2.2.2 + a), monitorRoom := 1 } acts rfl rfl rfl
        have h8 : (doReturn e (T2.setTop { method := m, pc := 16, locals := #[Slot.val (Value.ref (G.2.2.2 + a))], stack := [], locked := some (G.2.2.2 + a), monitorRoom := 1 }) acts (some Value.null)).1 = V := h9
        rw [h8]
        exact Steps.refl _
      | some x =>
        have hx9 : ¬ x = G.2.2.2 + a := fun h9 => hne (by rw [h9])
        jvm_step X1.here [X1.here.top, hexec, d4, Value.isRef, va_rf]
        jvm_step X1.here [X1.here.top, hexec, d5, Value.asRef?, Op.if_acmp.holds, va_rf, hx9]
        jvm_step X1.here [X1.here.top, hexec, d12, Value.isRef]
        refine st2 _ ?_
        jvm_step X2.here [X2.here.top, hexec, d16, X2.method', hret, narrow, Value.isRef, va_rf]
        refine ⟨rfl, fun acts => ?_⟩
        have h9 := hr9 { method := m, pc := 16, locals := #[Slot.val (Value.ref (G.2.2.2 + a))], stack := [], locked := some (G.2.2.2 + a), monitorRoom := 1 } acts rfl rfl rfl
        have h8 : (doReturn e (T2.setTop { method := m, pc := 16, locals := #[Slot.val (Value.ref (G.2.2.2 + a))], stack := [], locked := some (G.2.2.2 + a), monitorRoom := 1 }) acts (some (Value.ref x))).1 = V := h9
        rw [h8]
        exact Steps.refl _
