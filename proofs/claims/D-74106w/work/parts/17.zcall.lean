/-! Z 17: soundness: calls -/
/-- what a call comes to: the callee's result r -/
def ZCall (G : ZG) (p : Program) (l : Launch) (e : Env) (R : Room) (s : State) (m : MethodId) (args : Array Value) (below : List Frame) (meth : Method) (c : Code) (r : ZR) (h : PH) (H : Heap) (locs : List Loc) (cells slots : Nat) (g : JFrame) (rest : List Value) (len : Nat) : Prop := ∀ T : State, T.heap = H → Stand p l e R s m args below meth c T locs cells slots →
    (∃ (v : Option Value) (st₀ t T' : State) (Lc : List Loc) (a : Array Value), st₀.heap = H ∧ Stand p l e R s m args below meth c T' (locs ++ Lc) (cells + (ph_N r.2 - ph_N h)) (slots + (ph_S r.2 - ph_S h)) ∧ (∀ q ∈ Lc, zA G q.base) ∧ T'.heap = t.heap ∧ T'.vm = t.vm ∧ zQc G r a st₀ (.returned v) t ∧
      ∀ target, Steps p.tables e below (T'.setTop { g with pc := g.pc + len, stack := v.toList ++ rest }) target → Steps p.tables e below (T.setTop g) target) ∨
    (∃ (q : Addr) (st₀ t T' : State) (Lc : List Loc), st₀.heap = H ∧ Stand p l e R s m args below meth c T' (locs ++ Lc) (cells + (ph_N r.2 - ph_N h)) (slots + (ph_S r.2 - ph_S h)) ∧ (∀ q ∈ Lc, zA G q.base) ∧ T'.heap = t.heap ∧ T'.vm = t.vm ∧ zXC G r q st₀ t ∧
      Steps p.tables e below (T.setTop g) ((T'.setTop { g with stack := rest }).pushFrame (.throwing q)))
section
variable {y : MethodName} {cc : ByteArray} {nL : Nat} {ret : Option FieldType} {lv pc n t : Nat} {L st st' : List ZV} {h h' : PH}
theorem z_call {as rest : List ZV} {r : ZR} {o : ZS ⊕ ZR} {len : Nat} (ho : zafter (pc + len) L rest (some r) = some o) (hmo : ph_N h ≤ ph_N r.2 ∧ ph_S h ≤ ph_S r.2) (hre : ∀ v ∈ rest, v ∈ st)
    (K : ∀ (G : ZG) (p : Program) (l : Launch) (e : Env) (R : Room) (s : State) (m : MethodId) (args : Array Value) (below : List Frame) (meth : Method) (c : Code) (h0 : PH) (H : Heap) (locs : List Loc) (cells slots : Nat) (ls : Array Slot), ZCtx G p l R s m args meth c y cc nL ret lv h0 (ph_N r.2) (ph_S r.2) → ZRep G s h H → va_S (zA G) s.heap H locs → zlv G ls nL L → (∀ v ∈ st, zok v) → cells + (ph_N r.2 - ph_N h) ≤ R.cells → slots + (ph_S r.2 - ph_S h) ≤ R.slots → ZCall G p l e R s m args below meth c r h H locs cells slots (F0 m pc ls (st.map (zcv G))) (rest.map (zcv G)) len) : IOo y cc nL ret lv pc L st h o := by
  have hmo' : IMo h o := by
    obtain ⟨r1, r2⟩ := r
    match r1, ho with
    | .inl none, ho => obtain rfl := Option.some.inj ho; exact hmo
    | .inl (some v), ho => obtain rfl := Option.some.inj ho; exact hmo
    | .inr a, ho => obtain rfl := Option.some.inj ho; exact hmo
  refine ⟨hmo', ?_⟩
  intro G p l e R s m args below meth c h0 NF SF Q hC
  have main : ph_N r.2 ≤ NF → ph_S r.2 ≤ SF → ∀ (H : Heap) (locs : List Loc) (ls : Array Slot), ZRep G s h H → va_S (zA G) s.heap H locs → zlv G ls nL L → (∀ v ∈ st, zok v) → ph_N h0 ≤ ph_N h → ph_S h0 ≤ ph_S h →
      (∀ v, r.1 = .inl v → ZW G p l e R s m args below meth c nL h0 Q (pc + len) L (v.toList ++ rest) r.2) → (∀ a, r.1 = .inr a → ZT G p l e R s m args below meth c nL h0 Q pc L a r.2) →
      W p l e R s m args below meth c H locs (ph_N h - ph_N h0) (ph_S h - ph_S h0) Q (F0 m pc ls (st.map (zcv G))) := by
    intro b1 b2 H locs ls hr hS hl hst h1 h2 kn kt T hT X
    obtain ⟨c1, c2, c3, c4, c5, c6, c7, c8, c9, d1, d2, d3, d4⟩ := id hC
    have hC2 : ZCtx G p l R s m args meth c y cc nL ret lv h0 (ph_N r.2) (ph_S r.2) := ⟨c1, c2, c3, c4, c5, c6, c7, c8, c9, by omega, by omega, by omega, d4⟩
    have e8 : ph_N h - ph_N h0 + (ph_N r.2 - ph_N h) = ph_N r.2 - ph_N h0 := by omega
    have e9 : ph_S h - ph_S h0 + (ph_S r.2 - ph_S h) = ph_S r.2 - ph_S h0 := by omega
    have hcall := K G p l e R s m args below meth c h0 H locs (ph_N h - ph_N h0) (ph_S h - ph_S h0) ls hC2 hr hS hl hst (by omega) (by omega) T hT X
    rw [e8, e9] at hcall
    rcases hcall with ⟨v, st₀, t, T', Lc, a, g1, X', g2, g3, g4, ⟨v', f1, f2, f3, f4, f5⟩, g6⟩ | ⟨q, st₀, t, T', Lc, g1, X', g2, g3, g4, ⟨a, f1, f2, f3, f4, f5⟩, g6⟩
    · obtain rfl : v = v'.map (zcv G) := by injection f2
      have hal : t.vm.Alike s.vm := by rw [← g4]; exact X'.warmed.alike.symm
      obtain ⟨-, -, hS'⟩ := vx_keep (T' := T') g1 g3 hS (fun q _ hq => hq) (fun q hq => hq) g2 f5
      have hk := kn v' f1 T'.heap (locs ++ Lc) ls (by rw [g3]; exact f4.move hal) hS' hl (fun w hw => by
        rcases List.mem_append.mp hw with hw | hw
        · exact f3 w (Option.mem_toList.mp hw)
        · exact hst w (hre w hw)) (by omega) (by omega) T' rfl X'
      obtain ⟨t2, a1, b3⟩ := hk
      refine ⟨t2, g6 t2 ?_, b3⟩
      have hmap : (v'.map (zcv G)).toList ++ rest.map (zcv G) = (v'.toList ++ rest).map (zcv G) := by cases v' <;> rfl
      show Steps p.tables e below (T'.setTop (F0 m (pc + len) ls ((v'.map (zcv G)).toList ++ rest.map (zcv G)))) t2
      rw [hmap]
      exact a1
    · have hal : t.vm.Alike s.vm := by rw [← g4]; exact X'.warmed.alike.symm
      obtain ⟨-, -, hS'⟩ := vx_keep (T' := T') g1 g3 hS (fun q _ hq => hq) (fun q hq => hq) g2 f5
      obtain ⟨t2, a1, b3⟩ := kt a f1 T'.heap (locs ++ Lc) ls (rest.map (zcv G)) q (by rw [g3]; exact f4.move hal) hS' hl (by omega) (by omega) f2 f3 T' rfl X'
      exact ⟨t2, g6.trans a1, b3⟩
  obtain ⟨r1, r2⟩ := r
  match r1, ho, main with
  | .inl none, ho, main =>
    obtain rfl := Option.some.inj ho
    exact fun b1 b2 hk H locs ls hr hS hl hst h1 h2 => main b1 b2 H locs ls hr hS hl hst h1 h2 (fun v hv => by cases hv; exact hk) (fun a ha => by cases ha)
  | .inl (some v), ho, main =>
    obtain rfl := Option.some.inj ho
    exact fun b1 b2 hk H locs ls hr hS hl hst h1 h2 => main b1 b2 H locs ls hr hS hl hst h1 h2 (fun v hv => by cases hv; exact hk) (fun a ha => by cases ha)
  | .inr a, ho, main =>
    obtain rfl := Option.some.inj ho
    exact fun b1 b2 hk H locs ls hr hS hl hst h1 h2 => main b1 b2 H locs ls hr hS hl hst h1 h2 (fun v hv => by cases hv) (fun a ha => by cases ha; exact hk)
end
