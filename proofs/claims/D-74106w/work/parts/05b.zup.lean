/-! Z 5b: an interface that inherits the method called: what the premises say of it, kept through a run -/
def zup : List (Nat × String × String × String) := [(77, "java/util/Map", "clear", "()V"), (69, "java/util/Map", "put", "(Ljava/lang/Object;Ljava/lang/Object;)Ljava/lang/Object;"), (53, "java/util/Map", "size", "()I"), (118, "java/util/SortedMap", "firstKey", "()Ljava/lang/Object;"), (73, "java/util/Map", "remove", "(Ljava/lang/Object;)Ljava/lang/Object;")]
def ZUp (U : State) (q : Nat × String × String × String) : Prop := va_Nw (.methodLink "java/util/TreeSet" q.1 ⟨"java/util/NavigableMap", q.2.2.1, q.2.2.2⟩) U ∧ va_Nw (.interfaceMethod "java/util/NavigableMap" q.2.1 q.2.2.1 q.2.2.2) U ∧ va_Nw (.declares ⟨q.2.1, q.2.2.1, q.2.2.2⟩) U ∧ va_Nw (.publicMethod ⟨"java/util/TreeMap", q.2.2.1, q.2.2.2⟩) U ∧ va_Nw (.unhidden "java/util/TreeMap" q.2.2.1 q.2.2.2) U ∧ va_Nw (.castable "java/util/TreeMap" "java/util/NavigableMap") U
theorem zup_ne : ∀ q ∈ zup, "java/util/NavigableMap" ≠ q.2.1 := by decide +kernel
/-- what the interface's own table hasn't -/
theorem zu_none {s : State} {A : Array Value} {I J nm ds : String} (hx : I ≠ "java/lang/invoke/MethodHandle" ∧ I ≠ "java/lang/invoke/VarHandle") (hne : I ≠ J) (h : (Cond.interfaceMethod I J nm ds).before A s = true) :
    ∃ (c : ClassId) (k ok : Class) (r : MethodId), s.vm.findClass I = some c ∧ s.vm.classes[c]? = some k ∧ k.isInterface = true ∧ (∀ y, signaturePolymorphic k y = false) ∧ k.findMethod nm ds = none ∧ s.methodFound? I nm ds = some r ∧ s.methodNamed? ⟨J, nm, ds⟩ = some r ∧ s.vm.classes[r.cls]? = some ok ∧ s.vm.faceFind c nm ds = some r := by
  obtain ⟨c, k, r, h1, h2, h3, h4, h5⟩ := Cond.interfaceMethod_spec h
  obtain ⟨k', h6, h7⟩ := Vm.findClass_spec h1
  cases h2.symm.trans h6
  obtain ⟨ok, h8, h9⟩ := className_of_methodNamed h5
  have hp : ∀ y, signaturePolymorphic k y = false := fun y => by simp [signaturePolymorphic, h7, hx.1, hx.2]
  have hn : k.findMethod nm ds = none := by
    cases hj : k.findMethod nm ds with
    | none => rfl
    | some j =>
      exfalso
      have hs : (k.methods[j]?).isSome := by
        obtain ⟨hlt, -, -⟩ := Array.findIdx?_eq_some_iff_getElem.mp hj
        simp [hlt]
      have e1 : r = ⟨c, j⟩ := Option.some.inj (h4.symm.trans (State.methodFound?_declared h1 h2 hp hj hs))
      have e2 : r.cls = c := by rw [e1]
      rw [e2] at h8
      cases h2.symm.trans h8
      exact hne (h7.symm.trans h9)
  exact ⟨c, k, ok, r, h1, h2, h3, hp, hn, h4, h5, h8, State.faceFind_of_found h1 h2 h3 hp hn h4⟩
theorem zu_face {s U : State} (hW : s.WarmedH U.vm) {I J nm ds : String} (hx : I ≠ "java/lang/invoke/MethodHandle" ∧ I ≠ "java/lang/invoke/VarHandle") (hne : I ≠ J) (h : va_Nw (.interfaceMethod I J nm ds) s) : va_Nw (.interfaceMethod I J nm ds) U := by
  have hal := hW.alike
  refine va_tabs rfl (rfl : (s.setVm U.vm).vm = U.vm) (A := #[]) ?_
  obtain ⟨c, k, ok, r, h1, h2, h3, h4, h5, h6, h7, h8, h9⟩ := zu_none hx hne h
  obtain ⟨k', hk', he⟩ := hal.2.2 _ _ h2
  obtain ⟨ok', hok', -⟩ := hal.2.2 _ _ h8
  have hf : (s.setVm U.vm).methodFound? I nm ds = some r := State.methodFound?_faceFind (s := s.setVm U.vm) (c := c) (k := k') (ok := ok') (by rw [State.vm_setVm, hal.findClass]; exact h1) (by rw [State.vm_setVm]; exact hk') (by rw [he]; exact h3) (fun y => by rw [he]; exact h4 y) (by rw [he]; exact h5) (by rw [State.vm_setVm, hal.faceFind]; exact h9) (by rw [State.vm_setVm]; exact hok')
  have h0 : (Cond.interfaceMethod I J nm ds).before #[] (s.setVm U.vm) = (Cond.interfaceMethod I J nm ds).before #[] s := by
    simp only [Cond.before, Cond.holds, Cond.value, State.vm_setVm, hal.findClass, hf, h6, State.methodNamed?_setVm hal, arm_isInterface_setVm hal]
  rw [h0]
  exact h
theorem ZUp.move {s U : State} (hW : s.WarmedH U.vm) {q : Nat × String × String × String} (hq : q ∈ zup) (h : ZUp s q) : ZUp U q := by
  obtain ⟨h1, h2, h3, h4, h5, h6⟩ := h
  have hal := hW.alike
  exact ⟨word_at hW (Or.inl (by first | rfl | simp [Cond.onTables, Cond.keeps, Cond.steady])) h1, zu_face hW ⟨by decide, by decide⟩ (zup_ne q hq) h2, va_Nw.warmD hW h3, va_tabs rfl (rfl : (s.setVm U.vm).vm = U.vm) (A := #[]) (by rw [Cond.publicMethod_setVm hal]; exact h4), va_tabs rfl (rfl : (s.setVm U.vm).vm = U.vm) (A := #[]) (by rw [Cond.unhidden_setVm hal]; exact h5), va_Nw.warmC hW h6⟩
