/-! Z 18: soundness: the kinds of calls (written by gen/gen_calls.py) -/
theorem zcat_sum {G : ZG} : ∀ (st : List ZV), ((st.map (zcv G)).map (fun v => v.category)).sum = zcat st
  | [] => rfl
  | v :: t => by
    have h9 := zcat_sum (G := G) t
    unfold zcat
    rw [List.map_cons, List.map_cons, List.sum_cons, h9]
    cases hv : zisL v with
    | true => rw [zcat2 hv]; rfl
    | false => rw [zcat1 hv]; rfl
theorem zst_split {G : ZG} (st : List ZV) (na : Nat) : st.map (zcv G) = (((st.take na).reverse).map (zcv G)).reverse ++ (st.drop na).map (zcv G) := by
  rw [List.map_reverse, List.reverse_reverse, ← List.map_append, List.take_append_drop]
section
variable {G : ZG} {p : Program} {l : Launch} {e : Env} {R : Room} {s : State} {m : MethodId} {args : Array Value} {below : List Frame} {meth : Method} {c : Code} {y : MethodName} {cc : ByteArray} {nL : Nat} {ret : Option FieldType} {lv : Nat} {h0 : PH} {as : List ZV} {h : PH} {r : ZR} {lv2 : Nat} {y2 : MethodName} {b2 : ByteArray} {L2 : Nat} {r2 : Option FieldType} {f : ZF}
theorem z_bk {len : Nat} (hs : MSound lv2 y2 (ws_ y2 b2 L2 r2) f) (hf : f as h = some r) (hC : ZCtx G p l R s m args meth c y cc nL ret lv h0 (ph_N r.2) (ph_S r.2)) (has : ∀ v ∈ as, zok v) (hlv : lv2 + 1 ≤ lv) (hL : L2 ≤ 45) (q3 : Cond.initialized y2.cls ∈ lw_all) (q4 : Cond.code y2 b2 L2 r2 ∈ lw_all) :
    vx_Back l R p e below s args y2 len 8 (PreOf R (ph_N r.2 - ph_N h) (ph_S r.2 - ph_S h) (zPc G as h)) (PostOf (zQc G r) (ph_N r.2 - ph_N h) (ph_S r.2 - ph_S h) (zA G)) (zx_Post (zXC G r) (ph_N r.2 - ph_N h) (ph_S r.2 - ph_S h) (zA G)) := by
  obtain ⟨c1, c2, c3, c4, c5, c6, c7, c8, c9, d1, d2, d3, d4, d5, d6⟩ := hC
  exact zx_back (bytes := b2) (maxL := L2) (ret := r2) ((hs as h r hf).2 l G d6 has d3) zPc_blind rfl rfl (by show lv2 + 1 ≤ R.frames; omega) (by show 8 + (L2 + 11) + 64 * lv2 ≤ R.locals; omega) (pay_in c8 (lw_meth q4)) List.mem_cons_self (fun a' U hW => word_at hW (Or.inl (by first | rfl | simp [Cond.onTables, Cond.keeps, Cond.steady])) (c8 _ q3))
theorem z_bkW {len : Nat} {hh : List (Nat × Nat × Nat × Nat)} (hs : MSound lv2 y2 (wsW_ y2 b2 L2 r2 hh) f) (hf : f as h = some r) (hC : ZCtx G p l R s m args meth c y cc nL ret lv h0 (ph_N r.2) (ph_S r.2)) (has : ∀ v ∈ as, zok v) (hlv : lv2 + 1 ≤ lv) (hL : L2 ≤ 45) (q3 : Cond.initialized y2.cls ∈ lw_all) (q4 : Cond.codeWith y2 b2 L2 r2 hh ∈ lw_all) :
    vx_Back l R p e below s args y2 len 8 (PreOf R (ph_N r.2 - ph_N h) (ph_S r.2 - ph_S h) (zPc G as h)) (PostOf (zQc G r) (ph_N r.2 - ph_N h) (ph_S r.2 - ph_S h) (zA G)) (zx_Post (zXC G r) (ph_N r.2 - ph_N h) (ph_S r.2 - ph_S h) (zA G)) := by
  obtain ⟨c1, c2, c3, c4, c5, c6, c7, c8, c9, d1, d2, d3, d4, d5, d6⟩ := hC
  exact zx_backW (hh := hh) (bytes := b2) (maxL := L2) (ret := r2) ((hs as h r hf).2 l G d6 has d3) zPc_blind rfl rfl (by show lv2 + 1 ≤ R.frames; omega) (by show 8 + (L2 + 11) + 64 * lv2 ≤ R.locals; omega) (pay_in c8 (lw_methW q4)) List.mem_cons_self (fun a' U hW => word_at hW (Or.inl (by first | rfl | simp [Cond.onTables, Cond.keeps, Cond.steady])) (c8 _ q3))
theorem z_pre {H : Heap} {T : State} {locs : List Loc} {cells slots mc ms : Nat} {vm₁ : Vm} {aA : Array Value} (hG : ZGlob G s) (hr : ZRep G s h H) (hS : va_S (zA G) s.heap H locs) (hT : T.heap = H) (hW : s.WarmedH vm₁) (f1 : cells + mc ≤ R.cells) (f2 : slots + ms ≤ R.slots) (ha : aA = (as.map (zcv G)).toArray) : PreOf R mc ms (zPc G as h) ⟨T.setVm vm₁, locs, cells, slots⟩ aA :=
  ⟨f1, f2, ha, by show ZRep G (T.setVm vm₁) h T.heap; rw [hT]; exact hr.move hW.alike, hG.move hW (fun a h1 h2 => by show T.heap[a]? = _; rw [hT]; exact hS.2.1 a h1 h2)⟩
theorem z_toCall {H : Heap} {locs : List Loc} {cells slots len : Nat} {g : JFrame} {rest : List Value} {aA : Array Value} (D : ∀ T : State, T.heap = H → Stand p l e R s m args below meth c T locs cells slots →
    (∃ (v : Option Value) (vm₁ : Vm) (B : Pt), s.WarmedH vm₁ ∧ Stand p l e R s m args below meth c B.U B.locs B.cells B.slots ∧ PostOf (zQc G r) (ph_N r.2 - ph_N h) (ph_S r.2 - ph_S h) (zA G) ⟨T.setVm vm₁, locs, cells, slots⟩ aA v B ∧
      ∀ target, Steps p.tables e below (B.U.setTop { g with pc := g.pc + len, stack := v.toList ++ rest }) target → Steps p.tables e below (T.setTop g) target) ∨
    (∃ (q : Addr) (vm₁ : Vm) (B : Pt), s.WarmedH vm₁ ∧ Stand p l e R s m args below meth c B.U B.locs B.cells B.slots ∧ zx_Post (zXC G r) (ph_N r.2 - ph_N h) (ph_S r.2 - ph_S h) (zA G) ⟨T.setVm vm₁, locs, cells, slots⟩ aA q B ∧
      Steps p.tables e below (T.setTop g) ((B.U.setTop { g with stack := rest }).pushFrame (.throwing q)))) : ZCall G p l e R s m args below meth c r h H locs cells slots g rest len := by
  intro T hT X
  rcases D T hT X with ⟨v, vm₁, ⟨U', l2, c2, s2⟩, hW₁, X', ⟨g', mk, t, Lc, e1, e2, hq, h1, hL, h2, h3⟩, st⟩ | ⟨q, vm₁, ⟨U', l2, c2, s2⟩, hW₁, X', ⟨g', mk, t, Lc, e1, e2, hq, h1, hL, h2, h3⟩, st⟩
  · dsimp only [Pt.U, Pt.locs, Pt.cells, Pt.slots] at X' e1 e2 h1 h2 h3 st
    subst h1; subst h2; subst h3
    exact Or.inl ⟨v, (T.setVm vm₁).calling g' mk aA, t, U', Lc, aA, hT, X', hL, e1, e2, hq, st⟩
  · dsimp only [Pt.U, Pt.locs, Pt.cells, Pt.slots] at X' e1 e2 h1 h2 h3 st
    subst h1; subst h2; subst h3
    exact Or.inr ⟨q, (T.setVm vm₁).calling g' mk aA, t, U', Lc, hT, X', hL, e1, e2, hq, st⟩
end
theorem zlen_of {y2 : MethodName} {na : Nat} (hd : (parseMethodDescriptor y2.desc).map (fun d => d.parameters.length) = some na) {as : List Value} (ha : as.length = na) : ∀ sig, parseMethodDescriptor y2.desc = some sig → as.length = sig.parameters.length := fun sig h => by
  rw [h] at hd
  rw [ha]; exact (Option.some.inj hd).symm
section
variable {y : MethodName} {cc : ByteArray} {nL : Nat} {ret : Option FieldType} {lv pc : Nat} {lv2 : Nat} {y2 : MethodName} {b2 : ByteArray} {L2 : Nat} {r2 : Option FieldType} {f : ZF} {idx na : Nat} {hh : List (Nat × Nat × Nat × Nat)}
theorem zi_callS_o {f : ZF} {na n : Nat} {L st : List ZV} {h : PH} {o : ZS ⊕ ZR} (e : zi_callS f na n L st h = some o) : na ≤ st.length ∧ zcat (st.drop na) ≤ 8 ∧ ∃ r, f (st.take na).reverse h = some r ∧ zafter n L (st.drop na) (some r) = some o := by
  unfold zi_callS at e
  by_cases hc : na ≤ st.length ∧ zcat (st.drop na) ≤ 8
  · rw [if_pos hc] at e
    refine ⟨hc.1, hc.2, ?_⟩
    cases hf : f (st.take na).reverse h with
    | none => rw [hf] at e; cases e
    | some r => rw [hf] at e; exact ⟨r, rfl, e⟩
  · rw [if_neg hc] at e; cases e
theorem zi_callV_o {f : ZF} {kd na n : Nat} {L st : List ZV} {h : PH} {o : ZS ⊕ ZR} (e : zi_callV f kd na n L st h = some o) : ∃ (a : Nat) (as : List ZV) (r : ZR), (st.take na).reverse = zvr (some a) :: as ∧ (ph_K h a).1 % 1000 = kd ∧ as.length + 1 = na ∧ zcat (st.drop na) ≤ 8 ∧ f (zvr (some a) :: as) h = some r ∧ zafter n L (st.drop na) (some r) = some o := by
  unfold zi_callV at e
  split at e
  · rename_i a as hs
    by_cases hc : (ph_K h a).1 % 1000 = kd ∧ as.length + 1 = na ∧ zcat (st.drop na) ≤ 8
    · rw [if_pos hc] at e
      cases hf : f (zvr (some a) :: as) h with
      | none => rw [hf] at e; cases e
      | some r => rw [hf] at e; exact ⟨a, as, r, hs, hc.1, hc.2.1, hc.2.2, hf, e⟩
    · rw [if_neg hc] at e; cases e
  · cases e
theorem k_callS (d : decode cc pc = .ok (.invokestatic idx, 3)) (hs : MSound lv2 y2 (ws_ y2 b2 L2 r2) f) (q1 : Cond.methodLink y.cls idx y2 ∈ lw_all) (q2 : Cond.static y2 ∈ lw_all) (q3 : Cond.initialized y2.cls ∈ lw_all) (q4 : Cond.code y2 b2 L2 r2 ∈ lw_all) (hd : (parseMethodDescriptor y2.desc).map (fun d => d.parameters.length) = some na) (hmh : (y2.cls ≠ "java/lang/invoke/MethodHandle" ∧ y2.cls ≠ "java/lang/invoke/VarHandle")) (hlv : lv2 + 1 ≤ lv) (hL : L2 ≤ 45) : IOk y cc nL ret lv pc (zi_callS f na (pc + 3)) := by
  intro L st h o eo
  obtain ⟨k1, k2, r, hf, ho⟩ := zi_callS_o eo
  refine z_call (as := (st.take na).reverse) (rest := st.drop na) ho (hs _ h r hf).1 (fun v hv => List.mem_of_mem_drop hv) ?_
  intro G p l e R s m args below meth c h0 H locs cells slots ls hC hr hS hl hst f1 f2
  obtain ⟨c1, c2, c3, c4, c5, c6, c7, c8, c9, d1⟩ := id hC
  have has : ∀ v ∈ (st.take na).reverse, zok v := fun v hv => hst v (List.mem_of_mem_take (List.mem_reverse.mp hv))
  refine z_toCall (aA := (((st.take na).reverse).map (zcv G)).toArray) fun T hT X => ?_
  exact vx_callS X c1 c7 (c8 _ q1) (c8 _ q2) (c8 _ q3) (c8 _ q4) hmh (z_bk hs hf hC has hlv hL q3 q4) (g := F0 m pc ls (st.map (zcv G))) rfl (by show ls.size = _; rw [hl.1, c3]) (argsL := ((st.take na).reverse).map (zcv G)) (rest := (st.drop na).map (zcv G)) (zlen_of hd (by simp; omega)) (zst_split st na) (lv_room (by rw [zcat_sum]; exact k2)) (by rw [c2]; exact d) (fun vm₁ hW => z_pre c9 hr hS hT hW f1 f2 rfl)
theorem k_callSX (d : decode cc pc = .ok (.invokestatic idx, 3)) (hs : MSound lv2 y2 (wsW_ y2 b2 L2 r2 hh) f) (q1 : Cond.methodLink y.cls idx y2 ∈ lw_all) (q2 : Cond.static y2 ∈ lw_all) (q3 : Cond.initialized y2.cls ∈ lw_all) (q4 : Cond.codeWith y2 b2 L2 r2 hh ∈ lw_all) (hd : (parseMethodDescriptor y2.desc).map (fun d => d.parameters.length) = some na) (hmh : (y2.cls ≠ "java/lang/invoke/MethodHandle" ∧ y2.cls ≠ "java/lang/invoke/VarHandle")) (hlv : lv2 + 1 ≤ lv) (hL : L2 ≤ 45) : IOk y cc nL ret lv pc (zi_callS f na (pc + 3)) := by
  intro L st h o eo
  obtain ⟨k1, k2, r, hf, ho⟩ := zi_callS_o eo
  refine z_call (as := (st.take na).reverse) (rest := st.drop na) ho (hs _ h r hf).1 (fun v hv => List.mem_of_mem_drop hv) ?_
  intro G p l e R s m args below meth c h0 H locs cells slots ls hC hr hS hl hst f1 f2
  obtain ⟨c1, c2, c3, c4, c5, c6, c7, c8, c9, d1⟩ := id hC
  have has : ∀ v ∈ (st.take na).reverse, zok v := fun v hv => hst v (List.mem_of_mem_take (List.mem_reverse.mp hv))
  refine z_toCall (aA := (((st.take na).reverse).map (zcv G)).toArray) fun T hT X => ?_
  exact vx_callSX (hh := hh) X c1 c7 (c8 _ q1) (c8 _ q2) (c8 _ q3) (c8 _ q4) hmh (z_bkW hs hf hC has hlv hL q3 q4) (g := F0 m pc ls (st.map (zcv G))) rfl (by show ls.size = _; rw [hl.1, c3]) (argsL := ((st.take na).reverse).map (zcv G)) (rest := (st.drop na).map (zcv G)) (zlen_of hd (by simp; omega)) (zst_split st na) (lv_room (by rw [zcat_sum]; exact k2)) (by rw [c2]; exact d) (fun vm₁ hW => z_pre c9 hr hS hT hW f1 f2 rfl)
variable {host : String}
theorem k_callSN (d : decode cc pc = .ok (.invokestatic idx, 3)) (hs : MSound lv2 y2 (ws_ y2 b2 L2 r2) f) (q1 : Cond.methodLinkNest y.cls idx y2 host ∈ lw_tbl) (q2 : Cond.static y2 ∈ lw_all) (q3 : Cond.initialized y2.cls ∈ lw_all) (q4 : Cond.code y2 b2 L2 r2 ∈ lw_all) (hd : (parseMethodDescriptor y2.desc).map (fun d => d.parameters.length) = some na) (hmh : (y2.cls ≠ "java/lang/invoke/MethodHandle" ∧ y2.cls ≠ "java/lang/invoke/VarHandle")) (hlv : lv2 + 1 ≤ lv) (hL : L2 ≤ 45) : IOk y cc nL ret lv pc (zi_callS f na (pc + 3)) := by
  intro L st h o eo
  obtain ⟨k1, k2, r, hf, ho⟩ := zi_callS_o eo
  refine z_call (as := (st.take na).reverse) (rest := st.drop na) ho (hs _ h r hf).1 (fun v hv => List.mem_of_mem_drop hv) ?_
  intro G p l e R s m args below meth c h0 H locs cells slots ls hC hr hS hl hst f1 f2
  obtain ⟨c1, c2, c3, c4, c5, c6, c7, c8, c9, d1⟩ := id hC
  have has : ∀ v ∈ (st.take na).reverse, zok v := fun v hv => hst v (List.mem_of_mem_take (List.mem_reverse.mp hv))
  refine z_toCall (aA := (((st.take na).reverse).map (zcv G)).toArray) fun T hT X => ?_
  exact vx_callSN X c1 c7 (va_Nw.use rfl (c9.2.1 _ q1 rfl)) (c8 _ q2) (c8 _ q3) (c8 _ q4) hmh (z_bk hs hf hC has hlv hL q3 q4) (g := F0 m pc ls (st.map (zcv G))) rfl (by show ls.size = _; rw [hl.1, c3]) (argsL := ((st.take na).reverse).map (zcv G)) (rest := (st.drop na).map (zcv G)) (zlen_of hd (by simp; omega)) (zst_split st na) (lv_room (by rw [zcat_sum]; exact k2)) (by rw [c2]; exact d) (fun vm₁ hW => z_pre c9 hr hS hT hW f1 f2 rfl)
variable {C : String} {T0 : u_T} {N0 ci kd : Nat}
theorem zlenV_of {y2 : MethodName} {na : Nat} (hd : (parseMethodDescriptor y2.desc).map (fun d => d.parameters.length + 1) = some na) {as : List Value} (ha : as.length + 1 = na) : ∀ sig, parseMethodDescriptor y2.desc = some sig → as.length = sig.parameters.length := fun sig h => by
  rw [h] at hd
  have h9 : sig.parameters.length + 1 = na := Option.some.inj hd
  omega
theorem k_callV (d : decode cc pc = .ok (.invokevirtual idx, 3)) (hs : MSound lv2 y2 (ws_ y2 b2 L2 r2) f) (hc : zcl[ci]? = some (C, T0, N0)) (q1 : Cond.methodLink y.cls idx y2 ∈ lw_all) (q5 : Cond.instanceMethod y2 ∈ lw_all) (q6 : Cond.selects C y2 y2 ∈ lw_all) (q3 : Cond.initialized y2.cls ∈ lw_all) (q4 : Cond.code y2 b2 L2 r2 ∈ lw_all) (hd : (parseMethodDescriptor y2.desc).map (fun d => d.parameters.length + 1) = some na) (hmh : (y2.cls ≠ "java/lang/invoke/MethodHandle" ∧ y2.cls ≠ "java/lang/invoke/VarHandle")) (hlv : lv2 + 1 ≤ lv) (hL : L2 ≤ 45) (hkd : kd = 16 + ci := by rfl) : IOk y cc nL ret lv pc (zi_callV f kd na (pc + 3)) := by
  subst hkd
  intro L st h o eo
  obtain ⟨a, as, r, k0, k1, k2, k3, hf, ho⟩ := zi_callV_o eo
  refine z_call (as := zvr (some a) :: as) (rest := st.drop na) ho (hs _ h r hf).1 (fun v hv => List.mem_of_mem_drop hv) ?_
  intro G p l e R s m args below meth c h0 H locs cells slots ls hC hr hS hl hst f1 f2
  obtain ⟨c1, c2, c3, c4, c5, c6, c7, c8, c9, d1⟩ := id hC
  have has : ∀ v ∈ zvr (some a) :: as, zok v := fun v hv => hst v (List.mem_of_mem_take (List.mem_reverse.mp (by rw [k0]; exact hv)))
  obtain ⟨q9, e1, cell, e2, e3, e4, e5, kC, e6⟩ := z_recv c9 hr k1 hc
  have haA : (Value.ref q9 :: as.map (zcv G)).toArray = ((zvr (some a) :: as).map (zcv G)).toArray := by
    show _ = (va_rf (G.2.2.1 a) :: as.map (zcv G)).toArray
    rw [e1]; rfl
  have hstk : st.map (zcv G) = (as.map (zcv G)).reverse ++ .ref q9 :: (st.drop na).map (zcv G) := by
    rw [zst_split st na, k0]
    show (va_rf (G.2.2.1 a) :: as.map (zcv G)).reverse ++ _ = _
    rw [e1, List.reverse_cons, List.append_assoc]; rfl
  refine z_toCall (aA := (Value.ref q9 :: as.map (zcv G)).toArray) fun T hT X => ?_
  exact vx_callV (C := C) X c1 c7 (c8 _ q1) (c8 _ q5) (c8 _ q6) (c8 _ q4) hmh (z_bk hs hf hC has hlv hL q3 q4) (by rw [hT]; exact e2) e3 e4 (g := F0 m pc ls (st.map (zcv G))) rfl (by show ls.size = _; rw [hl.1, c3]) (argsL := as.map (zcv G)) (rest := (st.drop na).map (zcv G)) (zlenV_of hd (by simp; omega)) hstk (lv_room (by rw [zcat_sum]; exact k3)) (by rw [c2]; exact d) (fun vm₁ hW => z_pre c9 hr hS hT hW f1 f2 haA)
theorem k_callVX (d : decode cc pc = .ok (.invokevirtual idx, 3)) (hs : MSound lv2 y2 (wsW_ y2 b2 L2 r2 hh) f) (hc : zcl[ci]? = some (C, T0, N0)) (q1 : Cond.methodLink y.cls idx y2 ∈ lw_all) (q5 : Cond.instanceMethod y2 ∈ lw_all) (q6 : Cond.selects C y2 y2 ∈ lw_all) (q3 : Cond.initialized y2.cls ∈ lw_all) (q4 : Cond.codeWith y2 b2 L2 r2 hh ∈ lw_all) (hd : (parseMethodDescriptor y2.desc).map (fun d => d.parameters.length + 1) = some na) (hmh : (y2.cls ≠ "java/lang/invoke/MethodHandle" ∧ y2.cls ≠ "java/lang/invoke/VarHandle")) (hlv : lv2 + 1 ≤ lv) (hL : L2 ≤ 45) (hkd : kd = 16 + ci := by rfl) : IOk y cc nL ret lv pc (zi_callV f kd na (pc + 3)) := by
  subst hkd
  intro L st h o eo
  obtain ⟨a, as, r, k0, k1, k2, k3, hf, ho⟩ := zi_callV_o eo
  refine z_call (as := zvr (some a) :: as) (rest := st.drop na) ho (hs _ h r hf).1 (fun v hv => List.mem_of_mem_drop hv) ?_
  intro G p l e R s m args below meth c h0 H locs cells slots ls hC hr hS hl hst f1 f2
  obtain ⟨c1, c2, c3, c4, c5, c6, c7, c8, c9, d1⟩ := id hC
  have has : ∀ v ∈ zvr (some a) :: as, zok v := fun v hv => hst v (List.mem_of_mem_take (List.mem_reverse.mp (by rw [k0]; exact hv)))
  obtain ⟨q9, e1, cell, e2, e3, e4, e5, kC, e6⟩ := z_recv c9 hr k1 hc
  have haA : (Value.ref q9 :: as.map (zcv G)).toArray = ((zvr (some a) :: as).map (zcv G)).toArray := by
    show _ = (va_rf (G.2.2.1 a) :: as.map (zcv G)).toArray
    rw [e1]; rfl
  have hstk : st.map (zcv G) = (as.map (zcv G)).reverse ++ .ref q9 :: (st.drop na).map (zcv G) := by
    rw [zst_split st na, k0]
    show (va_rf (G.2.2.1 a) :: as.map (zcv G)).reverse ++ _ = _
    rw [e1, List.reverse_cons, List.append_assoc]; rfl
  refine z_toCall (aA := (Value.ref q9 :: as.map (zcv G)).toArray) fun T hT X => ?_
  exact vx_callVX (hh := hh) (C := C) X c1 c7 (c8 _ q1) (c8 _ q5) (c8 _ q6) (c8 _ q4) hmh (z_bkW hs hf hC has hlv hL q3 q4) (by rw [hT]; exact e2) e3 e4 (g := F0 m pc ls (st.map (zcv G))) rfl (by show ls.size = _; rw [hl.1, c3]) (argsL := as.map (zcv G)) (rest := (st.drop na).map (zcv G)) (zlenV_of hd (by simp; omega)) hstk (lv_room (by rw [zcat_sum]; exact k3)) (by rw [c2]; exact d) (fun vm₁ hW => z_pre c9 hr hS hT hW f1 f2 haA)
theorem k_callVN (d : decode cc pc = .ok (.invokevirtual idx, 3)) (hs : MSound lv2 y2 (ws_ y2 b2 L2 r2) f) (hc : zcl[ci]? = some (C, T0, N0)) (q1 : Cond.methodLinkNest y.cls idx y2 host ∈ lw_tbl) (q5 : Cond.instanceMethod y2 ∈ lw_all) (q6 : Cond.selects C y2 y2 ∈ lw_all) (q3 : Cond.initialized y2.cls ∈ lw_all) (q4 : Cond.code y2 b2 L2 r2 ∈ lw_all) (hd : (parseMethodDescriptor y2.desc).map (fun d => d.parameters.length + 1) = some na) (hmh : (y2.cls ≠ "java/lang/invoke/MethodHandle" ∧ y2.cls ≠ "java/lang/invoke/VarHandle")) (hlv : lv2 + 1 ≤ lv) (hL : L2 ≤ 45) (hkd : kd = 16 + ci := by rfl) : IOk y cc nL ret lv pc (zi_callV f kd na (pc + 3)) := by
  subst hkd
  intro L st h o eo
  obtain ⟨a, as, r, k0, k1, k2, k3, hf, ho⟩ := zi_callV_o eo
  refine z_call (as := zvr (some a) :: as) (rest := st.drop na) ho (hs _ h r hf).1 (fun v hv => List.mem_of_mem_drop hv) ?_
  intro G p l e R s m args below meth c h0 H locs cells slots ls hC hr hS hl hst f1 f2
  obtain ⟨c1, c2, c3, c4, c5, c6, c7, c8, c9, d1⟩ := id hC
  have has : ∀ v ∈ zvr (some a) :: as, zok v := fun v hv => hst v (List.mem_of_mem_take (List.mem_reverse.mp (by rw [k0]; exact hv)))
  obtain ⟨q9, e1, cell, e2, e3, e4, e5, kC, e6⟩ := z_recv c9 hr k1 hc
  have haA : (Value.ref q9 :: as.map (zcv G)).toArray = ((zvr (some a) :: as).map (zcv G)).toArray := by
    show _ = (va_rf (G.2.2.1 a) :: as.map (zcv G)).toArray
    rw [e1]; rfl
  have hstk : st.map (zcv G) = (as.map (zcv G)).reverse ++ .ref q9 :: (st.drop na).map (zcv G) := by
    rw [zst_split st na, k0]
    show (va_rf (G.2.2.1 a) :: as.map (zcv G)).reverse ++ _ = _
    rw [e1, List.reverse_cons, List.append_assoc]; rfl
  refine z_toCall (aA := (Value.ref q9 :: as.map (zcv G)).toArray) fun T hT X => ?_
  exact vx_callVN (C := C) X c1 c7 (va_Nw.use rfl (c9.2.1 _ q1 rfl)) (c8 _ q5) (c8 _ q6) (c8 _ q4) hmh (z_bk hs hf hC has hlv hL q3 q4) (by rw [hT]; exact e2) e3 e4 (g := F0 m pc ls (st.map (zcv G))) rfl (by show ls.size = _; rw [hl.1, c3]) (argsL := as.map (zcv G)) (rest := (st.drop na).map (zcv G)) (zlenV_of hd (by simp; omega)) hstk (lv_room (by rw [zcat_sum]; exact k3)) (by rw [c2]; exact d) (fun vm₁ hW => z_pre c9 hr hS hT hW f1 f2 haA)
variable {x2 : MethodName} {owner : String} {na9 : Nat}
theorem k_callIF (d : decode cc pc = .ok (.invokeinterface idx na9, 5)) (hs : MSound lv2 y2 (ws_ y2 b2 L2 r2) f) (hc : zcl[ci]? = some (C, T0, N0)) (q1 : Cond.methodLink y.cls idx x2 ∈ lw_all) (hfw : (C, x2, y2) ∈ zfw) (q5 : Cond.instanceMethod y2 ∈ lw_all) (q6 : Cond.selects C x2 y2 ∈ lw_all) (q3 : Cond.initialized y2.cls ∈ lw_all) (q4 : Cond.code y2 b2 L2 r2 ∈ lw_all) (hd : (parseMethodDescriptor x2.desc).map (fun d => d.parameters.length + 1) = some na) (hmh : x2.cls ≠ "java/lang/invoke/MethodHandle" ∧ x2.cls ≠ "java/lang/invoke/VarHandle") (hlv : lv2 + 1 ≤ lv) (hL : L2 ≤ 45) (hkd : kd = 16 + ci := by rfl) : IOk y cc nL ret lv pc (zi_callV f kd na (pc + 5)) := by
  subst hkd
  intro L st h o eo
  obtain ⟨a, as, r, k0, k1, k2, k3, hf, ho⟩ := zi_callV_o eo
  refine z_call (as := zvr (some a) :: as) (rest := st.drop na) ho (hs _ h r hf).1 (fun v hv => List.mem_of_mem_drop hv) ?_
  intro G p l e R s m args below meth c h0 H locs cells slots ls hC hr hS hl hst f1 f2
  obtain ⟨c1, c2, c3, c4, c5, c6, c7, c8, c9, d1⟩ := id hC
  have has : ∀ v ∈ zvr (some a) :: as, zok v := fun v hv => hst v (List.mem_of_mem_take (List.mem_reverse.mp (by rw [k0]; exact hv)))
  obtain ⟨q9, e1, cell, e2, e3, e4, e5, kC, e6⟩ := z_recv c9 hr k1 hc
  have haA : (Value.ref q9 :: as.map (zcv G)).toArray = ((zvr (some a) :: as).map (zcv G)).toArray := by
    show _ = (va_rf (G.2.2.1 a) :: as.map (zcv G)).toArray
    rw [e1]; rfl
  have hstk : st.map (zcv G) = (as.map (zcv G)).reverse ++ .ref q9 :: (st.drop na).map (zcv G) := by
    rw [zst_split st na, k0]
    show (va_rf (G.2.2.1 a) :: as.map (zcv G)).reverse ++ _ = _
    rw [e1, List.reverse_cons, List.append_assoc]; rfl
  obtain ⟨w1, w2, w3, w4, w5⟩ := c9.2.2.1 _ hfw
  refine z_toCall (aA := (Value.ref q9 :: as.map (zcv G)).toArray) fun T hT X => ?_
  exact vx_callIF (C := C) X c1 c7 (c8 _ q1) (va_Nw.use rfl w1) (va_Nw.use rfl w2) (c8 _ q6) (c8 _ q5) (va_Nw.use rfl w3) (va_Nw.use rfl w4) (va_Nw.use rfl w5) (c8 _ q4) hmh (z_bk hs hf hC has hlv hL q3 q4) (by rw [hT]; exact e2) e3 e4 e6 (g := F0 m pc ls (st.map (zcv G))) rfl (by show ls.size = _; rw [hl.1, c3]) (argsL := as.map (zcv G)) (rest := (st.drop na).map (zcv G)) (zlenV_of hd (by simp; omega)) hstk (lv_room (by rw [zcat_sum]; exact k3)) (by rw [c2]; exact d) (fun vm₁ hW => z_pre c9 hr hS hT hW f1 f2 haA)
theorem k_callI (d : decode cc pc = .ok (.invokespecial idx, 3)) (hs : MSound lv2 y2 (ws_ y2 b2 L2 none) f) (hc : zcl[ci]? = some (C, T0, N0)) (q1 : Cond.methodLink y.cls idx y2 ∈ lw_all) (q5 : Cond.instanceMethod y2 ∈ lw_all) (q3 : Cond.initialized y2.cls ∈ lw_all) (q4 : Cond.code y2 b2 L2 none ∈ lw_all) (hy1 : y2.name = "<init>") (hd : (parseMethodDescriptor y2.desc).map (fun d => d.parameters.length + 1) = some na) (hmh : (y2.cls ≠ "java/lang/invoke/MethodHandle" ∧ y2.cls ≠ "java/lang/invoke/VarHandle")) (hlv : lv2 + 1 ≤ lv) (hL : L2 ≤ 45) (hkd : kd = 16 + ci := by rfl) : IOk y cc nL ret lv pc (zi_callV f kd na (pc + 3)) := by
  subst hkd
  intro L st h o eo
  obtain ⟨a, as, r, k0, k1, k2, k3, hf, ho⟩ := zi_callV_o eo
  refine z_call (as := zvr (some a) :: as) (rest := st.drop na) ho (hs _ h r hf).1 (fun v hv => List.mem_of_mem_drop hv) ?_
  intro G p l e R s m args below meth c h0 H locs cells slots ls hC hr hS hl hst f1 f2
  obtain ⟨c1, c2, c3, c4, c5, c6, c7, c8, c9, d1⟩ := id hC
  have has : ∀ v ∈ zvr (some a) :: as, zok v := fun v hv => hst v (List.mem_of_mem_take (List.mem_reverse.mp (by rw [k0]; exact hv)))
  obtain ⟨q9, e1, cell, e2, e3, e4, e5, kC, e6⟩ := z_recv c9 hr k1 hc
  have haA : (Value.ref q9 :: as.map (zcv G)).toArray = ((zvr (some a) :: as).map (zcv G)).toArray := by
    show _ = (va_rf (G.2.2.1 a) :: as.map (zcv G)).toArray
    rw [e1]; rfl
  have hstk : st.map (zcv G) = (as.map (zcv G)).reverse ++ .ref q9 :: (st.drop na).map (zcv G) := by
    rw [zst_split st na, k0]
    show (va_rf (G.2.2.1 a) :: as.map (zcv G)).reverse ++ _ = _
    rw [e1, List.reverse_cons, List.append_assoc]; rfl
  refine z_toCall (aA := (Value.ref q9 :: as.map (zcv G)).toArray) fun T hT X => ?_
  exact vx_callI X c1 c7 hy1 (c8 _ q1) (c8 _ q5) (c8 _ q4) hmh (z_bk hs hf hC has hlv hL q3 q4) (g := F0 m pc ls (st.map (zcv G))) rfl (by show ls.size = _; rw [hl.1, c3]) (argsL := as.map (zcv G)) (rest := (st.drop na).map (zcv G)) (zlenV_of hd (by simp; omega)) hstk (lv_room (by rw [zcat_sum]; exact k3)) (by rw [c2]; exact d) (fun vm₁ hW => z_pre c9 hr hS hT hW f1 f2 haA)
theorem k_callIN (d : decode cc pc = .ok (.invokespecial idx, 3)) (hs : MSound lv2 y2 (ws_ y2 b2 L2 none) f) (hc : zcl[ci]? = some (C, T0, N0)) (q1 : Cond.methodLinkNest y.cls idx y2 host ∈ lw_tbl) (q5 : Cond.instanceMethod y2 ∈ lw_all) (q3 : Cond.initialized y2.cls ∈ lw_all) (q4 : Cond.code y2 b2 L2 none ∈ lw_all) (hy1 : y2.name = "<init>") (hd : (parseMethodDescriptor y2.desc).map (fun d => d.parameters.length + 1) = some na) (hmh : (y2.cls ≠ "java/lang/invoke/MethodHandle" ∧ y2.cls ≠ "java/lang/invoke/VarHandle")) (hlv : lv2 + 1 ≤ lv) (hL : L2 ≤ 45) (hkd : kd = 16 + ci := by rfl) : IOk y cc nL ret lv pc (zi_callV f kd na (pc + 3)) := by
  subst hkd
  intro L st h o eo
  obtain ⟨a, as, r, k0, k1, k2, k3, hf, ho⟩ := zi_callV_o eo
  refine z_call (as := zvr (some a) :: as) (rest := st.drop na) ho (hs _ h r hf).1 (fun v hv => List.mem_of_mem_drop hv) ?_
  intro G p l e R s m args below meth c h0 H locs cells slots ls hC hr hS hl hst f1 f2
  obtain ⟨c1, c2, c3, c4, c5, c6, c7, c8, c9, d1⟩ := id hC
  have has : ∀ v ∈ zvr (some a) :: as, zok v := fun v hv => hst v (List.mem_of_mem_take (List.mem_reverse.mp (by rw [k0]; exact hv)))
  obtain ⟨q9, e1, cell, e2, e3, e4, e5, kC, e6⟩ := z_recv c9 hr k1 hc
  have haA : (Value.ref q9 :: as.map (zcv G)).toArray = ((zvr (some a) :: as).map (zcv G)).toArray := by
    show _ = (va_rf (G.2.2.1 a) :: as.map (zcv G)).toArray
    rw [e1]; rfl
  have hstk : st.map (zcv G) = (as.map (zcv G)).reverse ++ .ref q9 :: (st.drop na).map (zcv G) := by
    rw [zst_split st na, k0]
    show (va_rf (G.2.2.1 a) :: as.map (zcv G)).reverse ++ _ = _
    rw [e1, List.reverse_cons, List.append_assoc]; rfl
  refine z_toCall (aA := (Value.ref q9 :: as.map (zcv G)).toArray) fun T hT X => ?_
  exact vx_callIN X c1 c7 hy1 (va_Nw.use rfl (c9.2.1 _ q1 rfl)) (c8 _ q5) (c8 _ q4) hmh (z_bk hs hf hC has hlv hL q3 q4) (g := F0 m pc ls (st.map (zcv G))) rfl (by show ls.size = _; rw [hl.1, c3]) (argsL := as.map (zcv G)) (rest := (st.drop na).map (zcv G)) (zlenV_of hd (by simp; omega)) hstk (lv_room (by rw [zcat_sum]; exact k3)) (by rw [c2]; exact d) (fun vm₁ hW => z_pre c9 hr hS hT hW f1 f2 haA)
/-- Object.<init> -/
def zi_objI (kd n : Nat) : ZI := fun L st h => match st with
  | .inr (.inr (.inl (some a))) :: st' => if (ph_K h a).1 % 1000 = kd ∧ zcat st' ≤ 8 then zgo n L st' h else none
  | _ => none
theorem k_objI (d : decode cc pc = .ok (.invokespecial idx, 3)) (hc : zcl[ci]? = some (C, T0, N0)) (q1 : Cond.methodLink y.cls idx Lib.objectInit ∈ lw_all) (q2 : Cond.instanceMethod Lib.objectInit ∈ lw_all) (q3 : Cond.code Lib.objectInit ⟨#[0xb1]⟩ 1 none ∈ lw_all) (hlv : 1 ≤ lv) (hkd : kd = 16 + ci := by rfl) : IOk y cc nL ret lv pc (zi_objI kd (pc + 3)) := by
  subst hkd
  intro L st h o eo
  unfold zi_objI at eo
  split at eo
  · rename_i a st'
    by_cases hz : (ph_K h a).1 % 1000 = 16 + ci ∧ zcat st' ≤ 8
    · rw [if_pos hz] at eo
      obtain rfl := Option.some.inj eo
      refine ⟨⟨Nat.le_refl _, Nat.le_refl _⟩, ?_⟩
      intro G p l e R s m args below meth c h0 NF SF Q hC _ _ hk H locs ls hr hS hl hst h1 h2
      obtain ⟨c1, c2, c3, c4, c5, c6, c7, c8, c9, d1, d2, d3, d4, d5, d6⟩ := hC
      obtain ⟨q9, e1, cell, e2, -⟩ := z_recv c9 hr hz.1 hc
      show W p l e R s m args below meth c H locs _ _ Q (F0 m pc ls (va_rf (G.2.2.1 a) :: st'.map (zcv G)))
      rw [e1]
      have hroom := lv_room (m := m) (pc := pc) (ls := ls) (rest := (va_rf (some q9) :: st'.map (zcv G))) (st := st'.map (zcv G)) (by rw [zcat_sum]; exact hz.2)
      exact W.objInit c1 c2 c7 (c8 _ q1) (c8 _ q2) (c8 _ q3) rfl (by show ls.size = _; rw [hl.1, c3]) rfl d (by omega) (by have := hroom; omega) (hk H locs ls hr hS hl (zst_tl hst) h1 h2)
    · rw [if_neg hz] at eo; cases eo
  · cases eo
theorem e_objI {M : ZM} {pc n kd p : Nat} {L st : List ZV} {h : PH} (hl : zlk M.1 pc = some (zi_objI kd n)) : zev M pc L (zvr (some p) :: st) h = if (ph_K h p).1 % 1000 = kd ∧ zcat st ≤ 8 then zev M n L st h else none := by
  by_cases hc : (ph_K h p).1 % 1000 = kd ∧ zcat st ≤ 8
  · rw [if_pos hc]; exact ze_go hl (if_pos hc)
  · rw [if_neg hc]; exact ze_none hl (if_neg hc)
end
