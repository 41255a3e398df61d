/-! Z 24: a new NoSuchElementException (zx_make0 turned from vx_make0 of kit/laws/EXCEPTIONS) -/
section
variable {p : Program} {l : Launch} {e : Env} {R : Room} {s : State} {m : MethodId} {args : Array Value} {below : List Frame} {meth : Method} {c : Code} {H : Heap} {locs : List Loc} {cells slots : Nat} {Q : State → Prop} {ls : Array Slot} {rest : List Value}
theorem zx_make0 {cc : ByteArray} {pc : Nat} (hexec : p.tables.exec = Jvm.exec) (hb : c.code = cc) (hl : l.stackTraces = false) {own cls : String} {names : List String} {ik ic : Nat} {A : Nat → Prop}
    (hown : s.vm.findClass own = some m.cls) (hcls : Bundle.fit cls = true) (hnames : ∀ n ∈ names, Bundle.fit n = true)
    (hk : (Cond.classLink own ik cls).before args s = true) (hini : (Cond.initialized cls).before args s = true) (hat : ∀ w ∈ vx_at0 own ic cls names, w.before args s = true)
    (hgood : ∀ w ∈ Cond.classLink own ik cls :: Cond.initialized cls :: vx_at0 own ic cls names, vx_ot w = true)
    (hU : vx_Zq Bundle.tN "UNASSIGNED_STACK" Bundle.steD A s s.heap) (hN : vx_Zq Bundle.tN "SUPPRESSED_SENTINEL" Bundle.listD A s s.heap) (hS : va_S A s.heap H locs) (hsize : ls.size = c.maxLocals)
    (d0 : decode cc pc = .ok (.new ik, 3)) (d3 : decode cc (pc + 3) = .ok (.dup, 1)) (d4 : decode cc (pc + 4) = .ok (.invokespecial ic, 3))
    (hRframes : names.length + 3 < R.frames) (hRlocals : (rest.map fun v => v.category).sum + (13 * (names.length + 1) + 42) ≤ R.locals) (hRcells : cells + 1 ≤ R.cells) (hRslots : slots + 6 ≤ R.slots)
    (kk : ∀ H1 : Heap, H1.size = H.size + 1 → (∀ q : Nat, q < H.size → H1[q]? = H[q]?) → (∃ ce : Cell, H1[H.size]? = some ce ∧ s.vm.findClass cls = some ce.cls ∧ ce.vm = .none) → W p l e R s m args below meth c H1 locs (cells + 1) (slots + 6) Q (F0 m (pc + 7) ls (.ref H.size :: rest))) :
    W p l e R s m args below meth c H locs cells slots Q (F0 m pc ls rest) := by
  intro T hT X
  subst hT
  have htr : e.platform.stackTraces = false := (show e.platform.stackTraces = l.stackTraces by rw [X.admits.platform]).trans hl
  have Y := vx_rebase X (R' := { frames := R.frames, locals := R.locals, cells := 1, slots := 6 }) (Nat.le_refl _) (Nat.le_refl _) hRcells hRslots
  obtain ⟨s', hA'⟩ : ∃ z, z = (T.setVm s.vm).setFrames (.invoking m args :: below) := ⟨_, rfl⟩
  rw [← hA'] at Y
  have hvm : s'.vm = s.vm := by rw [hA']; rfl
  have hhp : s'.heap = T.heap := by rw [hA']; rfl
  have hW0 : s.WarmedH s'.vm := by rw [hvm]; exact State.WarmedH.refl s
  have hat' : ∀ w ∈ vx_at0 own ic cls names, w.before args s' = true := fun w hw => vx_ot_at hW0 hvm.symm (hgood w (List.mem_cons_of_mem _ (List.mem_cons_of_mem _ hw))) (hat w hw)
  have hk' : (Cond.classLink own ik cls).before args s' = true := vx_ot_at hW0 hvm.symm (hgood _ List.mem_cons_self) hk
  have hini' : (Cond.initialized cls).before args s' = true := vx_ot_at hW0 hvm.symm (hgood _ (List.mem_cons_of_mem _ List.mem_cons_self)) hini
  have hU' : vx_Zq Bundle.tN "UNASSIGNED_STACK" Bundle.steD A s' s'.heap := by rw [hhp]; exact vx_Zq.moved hW0.alike (hU.kept hS.2.1)
  have hN' : vx_Zq Bundle.tN "SUPPRESSED_SENTINEL" Bundle.listD A s' s'.heap := by rw [hhp]; exact vx_Zq.moved hW0.alike (hN.kept hS.2.1)
  have h : ∀ w ∈ Bundle.ownAtoms0 own ic cls names, w.before args s' = true := vx_own hat' (vx_isRefq hU'.1) (vx_isRefq hN'.1) hU'.2.word hN'.2.word
  have hown' : s'.vm.findClass own = some m.cls := by rw [hvm]; exact hown
  have hins : (Cond.instantiable cls 6).before args s' = true := h _ (by simp [Bundle.ownAtoms0])
  obtain ⟨vm₁, cX, kX, hfX, hkX, -, -, X₁, st1⟩ := Y.newCold hexec (own := own) (C := cls) (index := ik) (n := 6) hown' hk' hins hini'
    (g := F0 m pc ls rest) rfl (by rw [hb]; exact d0) (Nat.le_refl _) (Nat.le_refl _)
  generalize hT1 : (T.setVm vm₁).pushCell { cls := cX, slots := kX.instanceTypes.map defaultValue, vm := .none } = T1 at X₁ st1
  have hcat : (Value.ref T.heap.size).category = 1 := rfl
  have hcellA : T1.heap[T.heap.size]? = some (freshCell cX kX) := by rw [← hT1]; exact State.heap_pushCell_size _ _
  have d3' : decode c.code (pc + 3) = .ok (.dup, 1) := by rw [hb]; exact d3
  obtain ⟨V, ce, L, Z, hL, hlt, hcl9, hvm9, st⟩ := vx_ctorMade0 X₁ hexec htr (own := own) (cls := cls) (names := names) (ic := ic) hown' hcls hnames h (fun x hx => nomatch hx) hfX hkX hcellA (by rw [hhp]; exact Nat.le_refl _)
    (g := { method := m, pc := pc + 4, locals := ls, stack := .ref T.heap.size :: .ref T.heap.size :: rest, locked := none }) rfl hsize (rest := rest) rfl
    (by rw [hb]; exact d4) hRframes (by simp only [List.map_cons, List.sum_cons, hcat]; omega)
  have Z0 := Stand.forget (locs := []) Z (fun y hy => by rw [hL y hy, hhp]; exact Nat.le_refl _)
  obtain ⟨f1, f2⟩ := vx_frame Z0.same
  have f3 : (V.setCell T.heap.size ce).heap.size ≤ s'.heap.size + (0 + 1) := Z0.same.2.2.1
  rw [hhp] at f1 f2 f3
  have hh : (V.setCell T.heap.size ce).heap[T.heap.size]? = some ce := heapAt_setCell_self (s := V) ce hlt
  have hlt2 : T.heap.size < (V.setCell T.heap.size ce).heap.size := (Array.getElem?_eq_some_iff.mp hh).1
  subst hA'
  have X5 := vx_back9 X Y Z0
  have X6 : Stand p l e R s m args below meth c (V.setCell T.heap.size ce) locs (cells + 1) (slots + 6) := { X5 with same := X5.same.mono (by omega) (by omega) }
  obtain ⟨t, a1, b1⟩ := kk (V.setCell T.heap.size ce).heap (by omega) (fun q hq => f2 q hq (fun z hz => nomatch hz)) ⟨ce, hh, by rw [hcl9]; rw [hvm] at hfX; exact hfX, hvm9⟩ _ rfl X6
  refine ⟨t, st1 _ ?_, b1⟩
  show Steps p.tables e below (T1.setTop { method := m, pc := pc + 3, locals := ls, stack := .ref T.heap.size :: rest, locked := none }) _
  jvm_step X₁.here [X₁.here.top, hexec, d3', Value.category]
  exact st _ a1
end
/-- the words that it asks, and where they stand -/
abbrev wsMk : List Cond := vx_at0 "LinkTimes" 404 "java/util/NoSuchElementException" ["java/lang/RuntimeException", "java/lang/Exception"]
set_option maxRecDepth 100000
def wsMkL : List Cond := [(Jvm.Cond.initialized "java/lang/Throwable"),
  (Jvm.Cond.superclass "java/lang/Throwable" "java/lang/Object"),
  (Jvm.Cond.instanceMethod ({ cls := "java/lang/Throwable", name := "fillInStackTrace", desc := "()Ljava/lang/Throwable;" } : Jvm.MethodName)),
  (Jvm.Cond.codeSync ({ cls := "java/lang/Throwable", name := "fillInStackTrace", desc := "()Ljava/lang/Throwable;" } : Jvm.MethodName) prog_33_method_18_code (1 : Nat) (Option.some (Jvm.ClassFile.FieldType.object "java/lang/Throwable"))),
  (Jvm.Cond.instanceMethod ({ cls := "java/lang/Throwable", name := "fillInStackTrace", desc := "(I)Ljava/lang/Throwable;" } : Jvm.MethodName)),
  (Jvm.Cond.native ({ cls := "java/lang/Throwable", name := "fillInStackTrace", desc := "(I)Ljava/lang/Throwable;" } : Jvm.MethodName)),
  (Jvm.Cond.instanceMethod ({ cls := "java/lang/Throwable", name := "<init>", desc := "()V" } : Jvm.MethodName)),
  (Jvm.Cond.code ({ cls := "java/lang/Throwable", name := "<init>", desc := "()V" } : Jvm.MethodName) prog_33_method_1_code (1 : Nat) (Option.none : Option Jvm.ClassFile.FieldType)),
  (Jvm.Cond.instanceMethod ({ cls := "java/lang/Object", name := "<init>", desc := "()V" } : Jvm.MethodName)),
  (Jvm.Cond.code ({ cls := "java/lang/Object", name := "<init>", desc := "()V" } : Jvm.MethodName) object_method_1_code (1 : Nat) (Option.none : Option Jvm.ClassFile.FieldType)),
  (Jvm.Cond.methodLink "java/lang/Throwable" (1 : Nat) ({ cls := "java/lang/Object", name := "<init>", desc := "()V" } : Jvm.MethodName)),
  (Jvm.Cond.methodLink "java/lang/Throwable" (27 : Nat) ({ cls := "java/lang/Throwable", name := "fillInStackTrace", desc := "()Ljava/lang/Throwable;" } : Jvm.MethodName)),
  (Jvm.Cond.methodLink "java/lang/Throwable" (202 : Nat) ({ cls := "java/lang/Throwable", name := "fillInStackTrace", desc := "(I)Ljava/lang/Throwable;" } : Jvm.MethodName)),
  (Jvm.Cond.fieldLink "java/lang/Throwable" (7 : Nat) "java/lang/Throwable" "cause" "Ljava/lang/Throwable;"),
  (Jvm.Cond.lays "java/lang/Throwable" "java/lang/Throwable" "cause" "Ljava/lang/Throwable;"),
  (Jvm.Cond.fieldLink "java/lang/Throwable" (17 : Nat) "java/lang/Throwable" "stackTrace" "[Ljava/lang/StackTraceElement;"),
  (Jvm.Cond.lays "java/lang/Throwable" "java/lang/Throwable" "stackTrace" "[Ljava/lang/StackTraceElement;"),
  (Jvm.Cond.fieldLink "java/lang/Throwable" (24 : Nat) "java/lang/Throwable" "suppressedExceptions" "Ljava/util/List;"),
  (Jvm.Cond.lays "java/lang/Throwable" "java/lang/Throwable" "suppressedExceptions" "Ljava/util/List;"),
  (Jvm.Cond.fieldLink "java/lang/Throwable" (13 : Nat) "java/lang/Throwable" "UNASSIGNED_STACK" "[Ljava/lang/StackTraceElement;"),
  (Jvm.Cond.fieldLink "java/lang/Throwable" (20 : Nat) "java/lang/Throwable" "SUPPRESSED_SENTINEL" "Ljava/util/List;"),
  (Jvm.Cond.lays "java/lang/Throwable" "java/lang/Throwable" "detailMessage" "Ljava/lang/String;"),
  (Jvm.Cond.instanceMethod ({ cls := "java/util/NoSuchElementException", name := "<init>", desc := "()V" } : Jvm.MethodName)),
  (Jvm.Cond.code ({ cls := "java/util/NoSuchElementException", name := "<init>", desc := "()V" } : Jvm.MethodName) prog_51_method_1_code (1 : Nat) (Option.none : Option Jvm.ClassFile.FieldType)),
  (Jvm.Cond.methodLink "java/util/NoSuchElementException" (1 : Nat) ({ cls := "java/lang/RuntimeException", name := "<init>", desc := "()V" } : Jvm.MethodName)),
  (Jvm.Cond.instanceMethod ({ cls := "java/lang/RuntimeException", name := "<init>", desc := "()V" } : Jvm.MethodName)),
  (Jvm.Cond.declares ({ cls := "java/lang/RuntimeException", name := "<init>", desc := "()V" } : Jvm.MethodName)),
  (Jvm.Cond.instanceMethod ({ cls := "java/lang/RuntimeException", name := "<init>", desc := "()V" } : Jvm.MethodName)),
  (Jvm.Cond.code ({ cls := "java/lang/RuntimeException", name := "<init>", desc := "()V" } : Jvm.MethodName) prog_28_method_1_code (1 : Nat) (Option.none : Option Jvm.ClassFile.FieldType)),
  (Jvm.Cond.methodLink "java/lang/RuntimeException" (1 : Nat) ({ cls := "java/lang/Exception", name := "<init>", desc := "()V" } : Jvm.MethodName)),
  (Jvm.Cond.instanceMethod ({ cls := "java/lang/Exception", name := "<init>", desc := "()V" } : Jvm.MethodName)),
  (Jvm.Cond.declares ({ cls := "java/lang/Exception", name := "<init>", desc := "()V" } : Jvm.MethodName)),
  (Jvm.Cond.instanceMethod ({ cls := "java/lang/Exception", name := "<init>", desc := "()V" } : Jvm.MethodName)),
  (Jvm.Cond.code ({ cls := "java/lang/Exception", name := "<init>", desc := "()V" } : Jvm.MethodName) prog_20_method_1_code (1 : Nat) (Option.none : Option Jvm.ClassFile.FieldType)),
  (Jvm.Cond.methodLink "java/lang/Exception" (1 : Nat) ({ cls := "java/lang/Throwable", name := "<init>", desc := "()V" } : Jvm.MethodName)),
  (Jvm.Cond.instanceMethod ({ cls := "java/lang/Throwable", name := "<init>", desc := "()V" } : Jvm.MethodName)),
  (Jvm.Cond.declares ({ cls := "java/lang/Throwable", name := "<init>", desc := "()V" } : Jvm.MethodName)),
  (Jvm.Cond.methodLink "LinkTimes" (404 : Nat) ({ cls := "java/util/NoSuchElementException", name := "<init>", desc := "()V" } : Jvm.MethodName)),
  (Jvm.Cond.instantiable "java/util/NoSuchElementException" (6 : Nat)),
  (Jvm.Cond.castable "java/util/NoSuchElementException" "java/util/NoSuchElementException"),
  (Jvm.Cond.selects "java/util/NoSuchElementException" ({ cls := "java/lang/Throwable", name := "fillInStackTrace", desc := "(I)Ljava/lang/Throwable;" } : Jvm.MethodName) ({ cls := "java/lang/Throwable", name := "fillInStackTrace", desc := "(I)Ljava/lang/Throwable;" } : Jvm.MethodName)),
  (Jvm.Cond.selects "java/util/NoSuchElementException" ({ cls := "java/lang/Throwable", name := "fillInStackTrace", desc := "()Ljava/lang/Throwable;" } : Jvm.MethodName) ({ cls := "java/lang/Throwable", name := "fillInStackTrace", desc := "()Ljava/lang/Throwable;" } : Jvm.MethodName)),
  (Jvm.Cond.lays "java/util/NoSuchElementException" "java/lang/Throwable" "cause" "Ljava/lang/Throwable;"),
  (Jvm.Cond.lays "java/util/NoSuchElementException" "java/lang/Throwable" "stackTrace" "[Ljava/lang/StackTraceElement;"),
  (Jvm.Cond.lays "java/util/NoSuchElementException" "java/lang/Throwable" "suppressedExceptions" "Ljava/util/List;"),
  (Jvm.Cond.lays "java/util/NoSuchElementException" "java/lang/Throwable" "detailMessage" "Ljava/lang/String;"),
  (Jvm.Cond.fieldLink "java/lang/Throwable" (198 : Nat) "java/lang/Throwable" "backtrace" "Ljava/lang/Object;"),
  (Jvm.Cond.lays "java/lang/Throwable" "java/lang/Throwable" "backtrace" "Ljava/lang/Object;"),
  (Jvm.Cond.lays "java/util/NoSuchElementException" "java/lang/Throwable" "backtrace" "Ljava/lang/Object;")]
theorem wsMk_eq : wsMk = wsMkL := by decide +kernel
theorem wsMk_ok : ∀ w ∈ wsMkL, w ∈ lw_all ∨ (w ∈ lw_tbl ∧ zmv w = true ∧ w.onTables = true) := List.forall_mem_cons.mpr ⟨Or.inl q146, List.forall_mem_cons.mpr ⟨Or.inl q583, List.forall_mem_cons.mpr ⟨Or.inl q592, List.forall_mem_cons.mpr ⟨Or.inl q598, List.forall_mem_cons.mpr ⟨Or.inl q601, List.forall_mem_cons.mpr ⟨Or.inl q603, List.forall_mem_cons.mpr ⟨Or.inl q584, List.forall_mem_cons.mpr ⟨Or.inl q585, List.forall_mem_cons.mpr ⟨Or.inl q177, List.forall_mem_cons.mpr ⟨Or.inl q178, List.forall_mem_cons.mpr ⟨Or.inl q586, List.forall_mem_cons.mpr ⟨Or.inl q591, List.forall_mem_cons.mpr ⟨Or.inl q599, List.forall_mem_cons.mpr ⟨Or.inl q622, List.forall_mem_cons.mpr ⟨Or.inl q573, List.forall_mem_cons.mpr ⟨Or.inl q623, List.forall_mem_cons.mpr ⟨Or.inl q575, List.forall_mem_cons.mpr ⟨Or.inl q624, List.forall_mem_cons.mpr ⟨Or.inl q577, List.forall_mem_cons.mpr ⟨Or.inl q587, List.forall_mem_cons.mpr ⟨Or.inl q589, List.forall_mem_cons.mpr ⟨Or.inl q579, List.forall_mem_cons.mpr ⟨Or.inl q1299, List.forall_mem_cons.mpr ⟨Or.inl q1300, List.forall_mem_cons.mpr ⟨Or.inl q1301, List.forall_mem_cons.mpr ⟨Or.inl q1302, List.forall_mem_cons.mpr ⟨Or.inr ⟨q1290, rfl, rfl⟩, List.forall_mem_cons.mpr ⟨Or.inl q1302, List.forall_mem_cons.mpr ⟨Or.inl q1303, List.forall_mem_cons.mpr ⟨Or.inl q1304, List.forall_mem_cons.mpr ⟨Or.inl q1305, List.forall_mem_cons.mpr ⟨Or.inr ⟨q566, rfl, rfl⟩, List.forall_mem_cons.mpr ⟨Or.inl q1305, List.forall_mem_cons.mpr ⟨Or.inl q1306, List.forall_mem_cons.mpr ⟨Or.inl q1307, List.forall_mem_cons.mpr ⟨Or.inl q584, List.forall_mem_cons.mpr ⟨Or.inr ⟨q568, rfl, rfl⟩, List.forall_mem_cons.mpr ⟨Or.inl q1792, List.forall_mem_cons.mpr ⟨Or.inl q1288, List.forall_mem_cons.mpr ⟨Or.inr ⟨q1289, rfl, rfl⟩, List.forall_mem_cons.mpr ⟨Or.inl q1292, List.forall_mem_cons.mpr ⟨Or.inl q597, List.forall_mem_cons.mpr ⟨Or.inl q1293, List.forall_mem_cons.mpr ⟨Or.inl q1294, List.forall_mem_cons.mpr ⟨Or.inl q1295, List.forall_mem_cons.mpr ⟨Or.inl q1296, List.forall_mem_cons.mpr ⟨Or.inl q582, List.forall_mem_cons.mpr ⟨Or.inl q581, List.forall_mem_cons.mpr ⟨Or.inl q1297, fun _ h => by cases h⟩⟩⟩⟩⟩⟩⟩⟩⟩⟩⟩⟩⟩⟩⟩⟩⟩⟩⟩⟩⟩⟩⟩⟩⟩⟩⟩⟩⟩⟩⟩⟩⟩⟩⟩⟩⟩⟩⟩⟩⟩⟩⟩⟩⟩⟩⟩⟩⟩
theorem wsMk_good : ∀ w ∈ Cond.classLink "LinkTimes" 402 "java/util/NoSuchElementException" :: Cond.initialized "java/util/NoSuchElementException" :: wsMk, vx_ot w = true := by decide +kernel
def zi_make0 (n : Nat) : ZI := fun L st h => if zcat st ≤ 8 then zgo n L (zvr (some (ph_N h)) :: st) (al_ h 35 0 6) else none
theorem e_make0 {M : ZM} {pc n : Nat} {L st : List ZV} {h : PH} (hl : zlk M.1 pc = some (zi_make0 n)) : zev M pc L st h = if zcat st ≤ 8 then zev M n L (zvr (some (ph_N h)) :: st) (al_ h 35 0 6) else none := by
  by_cases hc : zcat st ≤ 8
  · rw [if_pos hc]; exact ze_go hl (if_pos hc)
  · rw [if_neg hc]; exact ze_none hl (if_neg hc)
theorem k_make0 {y : MethodName} {cc : ByteArray} {nL : Nat} {ret : Option FieldType} {lv pc : Nat} (d0 : decode cc pc = .ok (.new 402, 3)) (d3 : decode cc (pc + 3) = .ok (.dup, 1)) (d4 : decode cc (pc + 4) = .ok (.invokespecial 404, 3)) (hy : y.cls = "LinkTimes") (hlv : 6 ≤ lv) : IOk y cc nL ret lv pc (zi_make0 (pc + 7)) := by
  intro L st h o e
  unfold zi_make0 at e
  by_cases hz : zcat st ≤ 8
  · rw [if_pos hz] at e
    obtain rfl := Option.some.inj e
    refine ⟨⟨Nat.le_succ _, Nat.le_add_right _ _⟩, ?_⟩
    intro G p l e R s m args below meth c h0 NF SF Q hC b1 b2 hk H locs ls hr hS hl hst h1 h2
    obtain ⟨c1, c2, c3, c4, c5, c6, c7, c8, c9, d1, d2, d5, d6, d7, d8⟩ := hC
    rw [pN_al] at b1
    rw [pS_al] at b2
    rw [hy] at c7
    have hψ : G.2.2.1 (ph_N h) = some H.size := by rw [hr.1]; exact c9.2.2.2.2.1.1 _ (by omega)
    obtain ⟨o1, o2, o3, o4, o5, o6⟩ := c9.2.2.2.2.2
    have hw : ∀ w ∈ wsMk, w.before args s = true := by
      rw [wsMk_eq]
      intro w hw
      rcases wsMk_ok w hw with h9 | ⟨h9, h8, h7⟩
      · exact c8 _ h9
      · exact va_Nw.use h7 (c9.2.1 _ h9 h8)
    refine zx_make0 (A := zA G) (own := "LinkTimes") (cls := "java/util/NoSuchElementException") (names := ["java/lang/RuntimeException", "java/lang/Exception"]) (ik := 402) (ic := 404) c1 c2 (by unfold Launch.stackTraces; rw [d8]; decide +kernel) c7 (by decide +kernel) (by decide +kernel) (c8 _ q1791) (c8 _ q167) hw wsMk_good o5 o6 hS (by rw [hl.1, c3]) d0 d3 d4 (by show 2 + 3 < R.frames; omega) (by rw [zcat_sum]; show zcat st + (13 * (2 + 1) + 42) ≤ R.locals; omega) (by omega) (by omega) ?_
    intro H1 z1 z2 ⟨ce, z3, z4, z5⟩
    have k9 := hk H1 locs ls (hr.alloc c9.2.2.2.2.1 (by decide) (by decide) (by omega) z1 z2 (by
      unfold zat
      rw [pK_al, if_pos rfl]
      refine ⟨by show 16 ≤ 35 % 1000; decide, H.size, (RJ24, TJ24, 0), hψ, by rw [pK_al, if_pos rfl]; rfl, ?_, by rw [pK_al, if_pos rfl]; intro h9; rcases h9 with h9 | h9 <;> cases h9⟩
      rw [pK_al, if_pos rfl]
      refine zOB.of ⟨ce, z3, ?_, z5, fun k hk => absurd hk (Nat.not_lt_zero k)⟩
      have hcl := (c9.1.1 19 (RJ24, TJ24, 0) rfl).2.1
      exact Option.some.inj (z4.symm.trans hcl))) (hS.born z1 z2) hl (zst_cons trivial hst) (by rw [pN_al]; omega) (by rw [pS_al]; omega)
    rw [pN_al, pS_al, show ph_N h + 1 - ph_N h0 = ph_N h - ph_N h0 + 1 by omega, show ph_S h + 6 - ph_S h0 = ph_S h - ph_S h0 + 6 by omega] at k9
    have k8 : W p l e R s m args below meth c H1 locs (ph_N h - ph_N h0 + 1) (ph_S h - ph_S h0 + 6) Q (F0 m (pc + 7) ls (va_rf (G.2.2.1 (ph_N h)) :: st.map (zcv G))) := k9
    rw [hψ] at k8
    exact k8
  · rw [if_neg hz] at e; cases e
