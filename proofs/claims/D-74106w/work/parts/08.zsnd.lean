/-! Z 8: soundness of an instruction -/
def ZCtx (G : ZG) (p : Program) (l : Launch) (R : Room) (s : State) (m : MethodId) (args : Array Value) (meth : Method) (c : Code) (y : MethodName) (cc : ByteArray) (nL : Nat) (ret : Option FieldType) (lv : Nat) (h0 : PH) (NF SF : Nat) : Prop :=
  p.tables.exec = Jvm.exec ∧ c.code = cc ∧ c.maxLocals = nL ∧ meth.sig.returnType = ret ∧ meth.locks = false ∧ meth.name = y.name ∧ s.vm.findClass y.cls = some m.cls ∧ (∀ w ∈ lw_all, w.before args s = true) ∧ ZGlob G s ∧ NF ≤ ph_N h0 + R.cells ∧ SF ≤ ph_S h0 + R.slots ∧ NF ≤ 1000000 ∧ lv ≤ R.frames ∧ 64 * lv ≤ R.locals ∧ l.flags = flags0
section
variable (G : ZG) (p : Program) (l : Launch) (e : Env) (R : Room) (s : State) (m : MethodId) (args : Array Value) (below : List Frame) (meth : Method) (c : Code) (nL : Nat) (h0 : PH) (Q : State → Prop)
def ZW (pc : Nat) (L st : List ZV) (h : PH) : Prop := ∀ (H : Heap) (locs : List Loc) (ls : Array Slot), ZRep G s h H → va_S (zA G) s.heap H locs → zlv G ls nL L → (∀ v ∈ st, zok v) → ph_N h0 ≤ ph_N h → ph_S h0 ≤ ph_S h → W p l e R s m args below meth c H locs (ph_N h - ph_N h0) (ph_S h - ph_S h0) Q (F0 m pc ls (st.map (zcv G)))
def ZT (pc : Nat) (L : List ZV) (a : Nat) (h : PH) : Prop := ∀ (H : Heap) (locs : List Loc) (ls : Array Slot) (rest : List Value) (q : Nat), ZRep G s h H → va_S (zA G) s.heap H locs → zlv G ls nL L → ph_N h0 ≤ ph_N h → ph_S h0 ≤ ph_S h → G.2.2.1 a = some q → (ph_K h a).1 ≠ 0 → vx_W p l e R s m args below meth c H locs (ph_N h - ph_N h0) (ph_S h - ph_S h0) Q (F0 m pc ls rest) q
def ZRetI (cc : ByteArray) (ret : Option FieldType) (pc : Nat) (v : Option ZV) : Prop := match v with
  | none => decode cc pc = .ok (.return_, 1) ∧ ret = none
  | some (.inl x) => decode cc pc = .ok (.ireturn, 1) ∧ (ret = some .int ∨ ∃ ty, ret = some ty ∧ narrow ty (.int (Int32.ofInt x)) = .int (Int32.ofInt x))
  | some (.inr (.inl _)) => decode cc pc = .ok (.lreturn, 1) ∧ ret = some .long
  | some (.inr (.inr (.inl _))) => decode cc pc = .ok (.areturn, 1) ∧ ∃ rt, ret = some rt ∧ ((∃ n, rt = .object n) ∨ ∃ t, rt = .array t)
  | some (.inr (.inr (.inr _))) => False
def ISo (cc : ByteArray) (ret : Option FieldType) (NF SF pc : Nat) (L st : List ZV) (h : PH) (o : ZS ⊕ ZR) : Prop := match o with
  | .inl (n, L', st', h') => ph_N h' ≤ NF → ph_S h' ≤ SF → ZW G p l e R s m args below meth c nL h0 Q n L' st' h' → ZW G p l e R s m args below meth c nL h0 Q pc L st h
  | .inr (.inl v, h') => h' = h ∧ st = v.toList ∧ ZRetI cc ret pc v
  | .inr (.inr a, h') => ph_N h' ≤ NF → ph_S h' ≤ SF → ZT G p l e R s m args below meth c nL h0 Q pc L a h' → ZW G p l e R s m args below meth c nL h0 Q pc L st h
end
def IMo (h : PH) (o : ZS ⊕ ZR) : Prop := match o with
  | .inl (_, _, _, h') => ph_N h ≤ ph_N h' ∧ ph_S h ≤ ph_S h'
  | .inr (_, h') => ph_N h ≤ ph_N h' ∧ ph_S h ≤ ph_S h'
def IOo (y : MethodName) (cc : ByteArray) (nL : Nat) (ret : Option FieldType) (lv pc : Nat) (L st : List ZV) (h : PH) (o : ZS ⊕ ZR) : Prop := IMo h o ∧ ∀ (G : ZG) (p : Program) (l : Launch) (e : Env) (R : Room) (s : State) (m : MethodId) (args : Array Value) (below : List Frame) (meth : Method) (c : Code) (h0 : PH) (NF SF : Nat) (Q : State → Prop), ZCtx G p l R s m args meth c y cc nL ret lv h0 NF SF → ISo G p l e R s m args below meth c nL h0 Q cc ret NF SF pc L st h o
def IOk (y : MethodName) (cc : ByteArray) (nL : Nat) (ret : Option FieldType) (lv pc : Nat) (i : ZI) : Prop := ∀ (L st : List ZV) (h : PH) (o : ZS ⊕ ZR), i L st h = some o → IOo y cc nL ret lv pc L st h o
theorem zst_cons {v : ZV} {st : List ZV} (h1 : zok v) (h2 : ∀ w ∈ st, zok w) : ∀ w ∈ v :: st, zok w := fun w hw => by
  rcases List.mem_cons.mp hw with h | h
  · subst h; exact h1
  · exact h2 w h
theorem zst_tl {v : ZV} {st : List ZV} (h : ∀ w ∈ v :: st, zok w) : ∀ w ∈ st, zok w := fun w hw => h w (List.mem_cons_of_mem _ hw)
theorem zst_hd {v : ZV} {st : List ZV} (h : ∀ w ∈ v :: st, zok w) : zok v := h v List.mem_cons_self
section
variable {y : MethodName} {cc : ByteArray} {nL : Nat} {ret : Option FieldType} {lv pc n t : Nat} {L st st' : List ZV} {h : PH}
/-- only the stack changes -/
theorem iok_stk (K : ∀ (G : ZG) (p : Program) (l : Launch) (e : Env) (R : Room) (s : State) (m : MethodId) (args : Array Value) (below : List Frame) (meth : Method) (c : Code) (H : Heap) (locs : List Loc) (cells slots : Nat) (Q : State → Prop) (ls : Array Slot), p.tables.exec = Jvm.exec → c.code = cc → s.vm.findClass y.cls = some m.cls → (∀ w ∈ lw_all, w.before args s = true) → ZGlob G s → ZRep G s h H → va_S (zA G) s.heap H locs → zlv G ls nL L → (∀ v ∈ st, zok v) → (∀ v ∈ st', zok v) ∧ (W p l e R s m args below meth c H locs cells slots Q (F0 m n ls (st'.map (zcv G))) → W p l e R s m args below meth c H locs cells slots Q (F0 m pc ls (st.map (zcv G))))) : IOo y cc nL ret lv pc L st h (.inl (n, L, st', h)) := by
  refine ⟨⟨Nat.le_refl _, Nat.le_refl _⟩, ?_⟩
  intro G p l e R s m args below meth c h0 NF SF Q hC _ _ hk H locs ls hr hS hl hst h1 h2
  obtain ⟨hx, hb, -, -, -, -, hown, hts, hG, -⟩ := hC
  obtain ⟨k1, k2⟩ := K G p l e R s m args below meth c H locs (ph_N h - ph_N h0) (ph_S h - ph_S h0) Q ls hx hb hown hts hG hr hS hl hst
  exact k2 (hk H locs ls hr hS hl k1 h1 h2)
/-- only the locals and the stack change -/
theorem iok_loc {L' : List ZV} (K : ∀ (G : ZG) (p : Program) (l : Launch) (e : Env) (R : Room) (s : State) (m : MethodId) (args : Array Value) (below : List Frame) (meth : Method) (c : Code) (H : Heap) (locs : List Loc) (cells slots : Nat) (Q : State → Prop) (ls : Array Slot), p.tables.exec = Jvm.exec → c.code = cc → zlv G ls nL L → (∀ v ∈ st, zok v) → (∀ v ∈ st', zok v) ∧ ((∀ ls' : Array Slot, zlv G ls' nL L' → W p l e R s m args below meth c H locs cells slots Q (F0 m n ls' (st'.map (zcv G)))) → W p l e R s m args below meth c H locs cells slots Q (F0 m pc ls (st.map (zcv G))))) : IOo y cc nL ret lv pc L st h (.inl (n, L', st', h)) := by
  refine ⟨⟨Nat.le_refl _, Nat.le_refl _⟩, ?_⟩
  intro G p l e R s m args below meth c h0 NF SF Q hC _ _ hk H locs ls hr hS hl hst h1 h2
  obtain ⟨hx, hb, -⟩ := hC
  obtain ⟨k1, k2⟩ := K G p l e R s m args below meth c H locs (ph_N h - ph_N h0) (ph_S h - ph_S h0) Q ls hx hb hl hst
  exact k2 (fun ls' hl' => hk H locs ls' hr hS hl' k1 h1 h2)
/-! constants -/
theorem k_iconst {x : Int} (d : decode cc pc = .ok (.iconst x, 1)) (hx1 : -2147483648 ≤ x ∧ x ≤ 2147483647 := by decide) : IOk y cc nL ret lv pc (zi_push (zvi x) (pc + 1)) := by
  intro L st h o e
  obtain rfl := Option.some.inj e
  exact iok_stk fun G p l e R s m args below meth c H locs cells slots Q ls hx hb _ _ _ _ _ _ hst => ⟨zst_cons hx1 hst, fun k => lv_iconst hx hb d rfl k⟩
theorem k_bipush {x : Int} (d : decode cc pc = .ok (.bipush x, 2)) (hx1 : (Int8.ofInt x).toInt32 = Int32.ofInt x := by decide) (hx2 : -2147483648 ≤ x ∧ x ≤ 2147483647 := by decide) : IOk y cc nL ret lv pc (zi_push (zvi x) (pc + 2)) := by
  intro L st h o e
  obtain rfl := Option.some.inj e
  exact iok_stk fun G p l e R s m args below meth c H locs cells slots Q ls hx hb _ _ _ _ _ _ hst => ⟨zst_cons hx2 hst, fun k => lv_bipush hx hb d hx1 k⟩
theorem k_sipush {x : Int} (d : decode cc pc = .ok (.sipush x, 3)) (hx1 : (Int16.ofInt x).toInt32 = Int32.ofInt x := by decide) (hx2 : -2147483648 ≤ x ∧ x ≤ 2147483647 := by decide) : IOk y cc nL ret lv pc (zi_push (zvi x) (pc + 3)) := by
  intro L st h o e
  obtain rfl := Option.some.inj e
  exact iok_stk fun G p l e R s m args below meth c H locs cells slots Q ls hx hb _ _ _ _ _ _ hst => ⟨zst_cons hx2 hst, fun k => lv_sipush hx hb d hx1 k⟩
theorem k_ldc {x : Int} {idx : Nat} (d : decode cc pc = .ok (.ldc idx, 2)) (q : Cond.constant y.cls idx (Int32.ofInt x) ∈ lw_all) (hx2 : -2147483648 ≤ x ∧ x ≤ 2147483647 := by decide) : IOk y cc nL ret lv pc (zi_push (zvi x) (pc + 2)) := by
  intro L st h o e
  obtain rfl := Option.some.inj e
  exact iok_stk fun G p l e R s m args below meth c H locs cells slots Q ls hx hb hown hts _ _ _ _ hst => ⟨zst_cons hx2 hst, fun k => lv_ldc hx hb hown (hts _ q) d k⟩
theorem k_ldcw {x : Int} {idx : Nat} (d : decode cc pc = .ok (.ldc_w idx, 3)) (q : Cond.constant y.cls idx (Int32.ofInt x) ∈ lw_all) (hx2 : -2147483648 ≤ x ∧ x ≤ 2147483647 := by decide) : IOk y cc nL ret lv pc (zi_push (zvi x) (pc + 3)) := by
  intro L st h o e
  obtain rfl := Option.some.inj e
  exact iok_stk fun G p l e R s m args below meth c H locs cells slots Q ls hx hb hown hts _ _ _ _ hst => ⟨zst_cons hx2 hst, fun k => lv_ldcw hx hb hown (hts _ q) d k⟩
theorem k_ldc2 {x : Int} {idx : Nat} (d : decode cc pc = .ok (.ldc2_w idx, 3)) (q : Cond.constantLong y.cls idx (Int64.ofInt x) ∈ lw_all) (hx2 : -9223372036854775808 ≤ x ∧ x ≤ 9223372036854775807 := by decide) : IOk y cc nL ret lv pc (zi_push (zvl x) (pc + 3)) := by
  intro L st h o e
  obtain rfl := Option.some.inj e
  exact iok_stk fun G p l e R s m args below meth c H locs cells slots Q ls hx hb hown hts _ _ _ _ hst => ⟨zst_cons hx2 hst, fun k => lv_ldc2 hx hb hown (hts _ q) d k⟩
theorem k_lconst {j : Fin 2} (d : decode cc pc = .ok (.lconst j, 1)) {x : Int} (hj : Int64.ofNat (j : Nat) = Int64.ofInt x := by decide) (hx2 : -9223372036854775808 ≤ x ∧ x ≤ 9223372036854775807 := by decide) : IOk y cc nL ret lv pc (zi_push (zvl x) (pc + 1)) := by
  intro L st h o e
  obtain rfl := Option.some.inj e
  exact iok_stk fun G p l e R s m args below meth c H locs cells slots Q ls hx hb _ _ _ _ _ _ hst => ⟨zst_cons hx2 hst, fun k => lv_lconst hx hb d hj k⟩
theorem k_anull (d : decode cc pc = .ok (.aconst_null, 1)) : IOk y cc nL ret lv pc (zi_push (zvr none) (pc + 1)) := by
  intro L st h o e
  obtain rfl := Option.some.inj e
  exact iok_stk fun G p l e R s m args below meth c H locs cells slots Q ls hx hb _ _ _ _ _ _ hst => ⟨zst_cons trivial hst, fun k => lv_null hx hb d k⟩
/-! arithmetic -/
theorem k_bin {f : Int → Int → Int} (hf : ∀ a b, -2147483648 ≤ f a b ∧ f a b ≤ 2147483647) (K : ∀ (p : Program) (l : Launch) (e : Env) (R : Room) (s : State) (m : MethodId) (args : Array Value) (below : List Frame) (meth : Method) (c : Code) (H : Heap) (locs : List Loc) (cells slots : Nat) (Q : State → Prop) (ls : Array Slot) (rest : List Value) (a b : Int), p.tables.exec = Jvm.exec → c.code = cc → -2147483648 ≤ a ∧ a ≤ 2147483647 → -2147483648 ≤ b ∧ b ≤ 2147483647 → W p l e R s m args below meth c H locs cells slots Q (F0 m n ls (.int (Int32.ofInt (f a b)) :: rest)) → W p l e R s m args below meth c H locs cells slots Q (F0 m pc ls (.int (Int32.ofInt b) :: .int (Int32.ofInt a) :: rest))) : IOk y cc nL ret lv pc (zi_bin f n) := by
  intro L st h o e
  unfold zi_bin at e
  split at e
  · obtain rfl := Option.some.inj e
    exact iok_stk fun G p l e R s m args below meth c H locs cells slots Q ls hx hb _ _ _ _ _ _ hst => ⟨zst_cons (hf _ _) (zst_tl (zst_tl hst)), fun k => K _ _ _ _ _ _ _ _ _ _ _ _ _ _ _ _ _ _ _ hx hb (zst_hd (zst_tl hst)) (zst_hd hst) k⟩
  · cases e
theorem w32_b (x : Int) : -2147483648 ≤ w32 x ∧ w32 x ≤ 2147483647 := ⟨w32_lo x, w32_hi x⟩
theorem w64_b (x : Int) : -9223372036854775808 ≤ w64 x ∧ w64 x ≤ 9223372036854775807 := ⟨w64_lo x, w64_hi x⟩
theorem k_iadd (d : decode cc pc = .ok (.iadd, 1)) : IOk y cc nL ret lv pc (zi_bin (fun a b => w32 (a + b)) (pc + 1)) := k_bin (fun _ _ => w32_b _) fun p l e R s m args below meth c H locs cells slots Q ls rest a b hx hb _ _ k => lv_iadd hx hb d (by rw [i32_add]; exact k)
theorem k_isub (d : decode cc pc = .ok (.isub, 1)) : IOk y cc nL ret lv pc (zi_bin (fun a b => w32 (a - b)) (pc + 1)) := k_bin (fun _ _ => w32_b _) fun p l e R s m args below meth c H locs cells slots Q ls rest a b hx hb _ _ k => lv_isub hx hb d (by rw [i32_sub]; exact k)
theorem k_imul (d : decode cc pc = .ok (.imul, 1)) : IOk y cc nL ret lv pc (zi_bin (fun a b => w32 (a * b)) (pc + 1)) := k_bin (fun _ _ => w32_b _) fun p l e R s m args below meth c H locs cells slots Q ls rest a b hx hb _ _ k => lv_imul hx hb d (by rw [i32_mul]; exact k)
theorem k_iand (d : decode cc pc = .ok (.iand, 1)) : IOk y cc nL ret lv pc (zi_bin zand (pc + 1)) := k_bin (fun _ _ => i32_b _) fun p l e R s m args below meth c H locs cells slots Q ls rest a b hx hb _ _ k => lv_iand hx hb d (by unfold zand at k; rw [i32_o] at k; exact k)
theorem k_ior (d : decode cc pc = .ok (.ior, 1)) : IOk y cc nL ret lv pc (zi_bin zor (pc + 1)) := k_bin (fun _ _ => i32_b _) fun p l e R s m args below meth c H locs cells slots Q ls rest a b hx hb _ _ k => lv_ior hx hb d (by unfold zor at k; rw [i32_o] at k; exact k)
theorem k_ixor (d : decode cc pc = .ok (.ixor, 1)) : IOk y cc nL ret lv pc (zi_bin zxor (pc + 1)) := k_bin (fun _ _ => i32_b _) fun p l e R s m args below meth c H locs cells slots Q ls rest a b hx hb _ _ k => lv_ixor hx hb d (by unfold zxor at k; rw [i32_o] at k; exact k)
theorem k_ishl (d : decode cc pc = .ok (.ishl, 1)) : IOk y cc nL ret lv pc (zi_bin zshl (pc + 1)) := k_bin (fun _ _ => i32_b _) fun p l e R s m args below meth c H locs cells slots Q ls rest a b hx hb _ _ k => lv_ishl hx hb d (by unfold zshl at k; rw [i32_o] at k; exact k)
theorem k_ishr (d : decode cc pc = .ok (.ishr, 1)) : IOk y cc nL ret lv pc (zi_bin zshr (pc + 1)) := k_bin (fun _ _ => i32_b _) fun p l e R s m args below meth c H locs cells slots Q ls rest a b hx hb _ _ k => lv_ishr hx hb d (by unfold zshr at k; rw [i32_o] at k; exact k)
theorem k_iushr (d : decode cc pc = .ok (.iushr, 1)) : IOk y cc nL ret lv pc (zi_bin zushr (pc + 1)) := k_bin (fun _ _ => i32_b _) fun p l e R s m args below meth c H locs cells slots Q ls rest a b hx hb _ _ k => lv_iushr hx hb d rfl (by unfold zushr at k; rw [i32_o] at k; exact k)
theorem k_idiv (d : decode cc pc = .ok (.idiv, 1)) : IOk y cc nL ret lv pc (zi_div (pc + 1)) := by
  intro L st h o e
  unfold zi_div at e
  split at e
  · rename_i b a st'
    by_cases hz : b = 0
    · rw [if_pos hz] at e; cases e
    · rw [if_neg hz] at e
      obtain rfl := Option.some.inj e
      exact iok_stk fun G p l e R s m args below meth c H locs cells slots Q ls hx hb _ _ _ _ _ _ hst => ⟨zst_cons (w32_b _) (zst_tl (zst_tl hst)), fun k => lv_idiv hx hb d (fun h9 => hz ((i32_eq (zst_hd hst) ⟨by decide, by decide⟩).mp (h9.trans i32_zero.symm))) (by rw [i32_div (zst_hd (zst_tl hst)) (zst_hd hst)]; exact k)⟩
  · cases e
theorem k_un {f : Int → Int} (hf : ∀ a, -2147483648 ≤ f a ∧ f a ≤ 2147483647) (K : ∀ (p : Program) (l : Launch) (e : Env) (R : Room) (s : State) (m : MethodId) (args : Array Value) (below : List Frame) (meth : Method) (c : Code) (H : Heap) (locs : List Loc) (cells slots : Nat) (Q : State → Prop) (ls : Array Slot) (rest : List Value) (a : Int), p.tables.exec = Jvm.exec → c.code = cc → W p l e R s m args below meth c H locs cells slots Q (F0 m n ls (.int (Int32.ofInt (f a)) :: rest)) → W p l e R s m args below meth c H locs cells slots Q (F0 m pc ls (.int (Int32.ofInt a) :: rest))) : IOk y cc nL ret lv pc (zi_un f n) := by
  intro L st h o e
  unfold zi_un at e
  split at e
  · obtain rfl := Option.some.inj e
    exact iok_stk fun G p l e R s m args below meth c H locs cells slots Q ls hx hb _ _ _ _ _ _ hst => ⟨zst_cons (hf _) (zst_tl hst), fun k => K _ _ _ _ _ _ _ _ _ _ _ _ _ _ _ _ _ _ hx hb k⟩
  · cases e
theorem k_ineg (d : decode cc pc = .ok (.ineg, 1)) : IOk y cc nL ret lv pc (zi_un (fun a => w32 (-a)) (pc + 1)) := k_un (fun _ => w32_b _) fun p l e R s m args below meth c H locs cells slots Q ls rest a hx hb k => lv_ineg hx hb d (by rw [i32_neg]; exact k)
theorem k_i2b (d : decode cc pc = .ok (.i2b, 1)) : IOk y cc nL ret lv pc (zi_un zi2b (pc + 1)) := k_un (fun _ => i32_b _) fun p l e R s m args below meth c H locs cells slots Q ls rest a hx hb k => lv_i2b hx hb d rfl (by unfold zi2b at k; rw [i32_o] at k; exact k)
theorem k_i2c (d : decode cc pc = .ok (.i2c, 1)) : IOk y cc nL ret lv pc (zi_un zi2c (pc + 1)) := k_un (fun _ => i32_b _) fun p l e R s m args below meth c H locs cells slots Q ls rest a hx hb k => lv_i2c hx hb d rfl (by unfold zi2c at k; rw [i32_o] at k; exact k)
theorem k_binL {f : Int → Int → Int} (hf : ∀ a b, -9223372036854775808 ≤ f a b ∧ f a b ≤ 9223372036854775807) (K : ∀ (p : Program) (l : Launch) (e : Env) (R : Room) (s : State) (m : MethodId) (args : Array Value) (below : List Frame) (meth : Method) (c : Code) (H : Heap) (locs : List Loc) (cells slots : Nat) (Q : State → Prop) (ls : Array Slot) (rest : List Value) (a b : Int), p.tables.exec = Jvm.exec → c.code = cc → W p l e R s m args below meth c H locs cells slots Q (F0 m n ls (.long (Int64.ofInt (f a b)) :: rest)) → W p l e R s m args below meth c H locs cells slots Q (F0 m pc ls (.long (Int64.ofInt b) :: .long (Int64.ofInt a) :: rest))) : IOk y cc nL ret lv pc (zi_binL f n) := by
  intro L st h o e
  unfold zi_binL at e
  split at e
  · obtain rfl := Option.some.inj e
    exact iok_stk fun G p l e R s m args below meth c H locs cells slots Q ls hx hb _ _ _ _ _ _ hst => ⟨zst_cons (hf _ _) (zst_tl (zst_tl hst)), fun k => K _ _ _ _ _ _ _ _ _ _ _ _ _ _ _ _ _ _ _ hx hb k⟩
  · cases e
theorem k_ladd (d : decode cc pc = .ok (.ladd, 1)) : IOk y cc nL ret lv pc (zi_binL (fun a b => w64 (a + b)) (pc + 1)) := k_binL (fun _ _ => w64_b _) fun p l e R s m args below meth c H locs cells slots Q ls rest a b hx hb k => lv_ladd hx hb d (by rw [i64_add]; exact k)
theorem k_lsub (d : decode cc pc = .ok (.lsub, 1)) : IOk y cc nL ret lv pc (zi_binL (fun a b => w64 (a - b)) (pc + 1)) := k_binL (fun _ _ => w64_b _) fun p l e R s m args below meth c H locs cells slots Q ls rest a b hx hb k => lv_lsub hx hb d (by rw [i64_sub]; exact k)
theorem k_lmul (d : decode cc pc = .ok (.lmul, 1)) : IOk y cc nL ret lv pc (zi_binL (fun a b => w64 (a * b)) (pc + 1)) := k_binL (fun _ _ => w64_b _) fun p l e R s m args below meth c H locs cells slots Q ls rest a b hx hb k => lv_lmul hx hb d (by rw [i64_mul]; exact k)
theorem k_lor (d : decode cc pc = .ok (.lor, 1)) : IOk y cc nL ret lv pc (zi_binL zlor (pc + 1)) := k_binL (fun _ _ => i64_b _) fun p l e R s m args below meth c H locs cells slots Q ls rest a b hx hb k => lv_lor hx hb d (by unfold zlor at k; rw [i64_o] at k; exact k)
theorem k_land (d : decode cc pc = .ok (.land, 1)) : IOk y cc nL ret lv pc (zi_binL zland (pc + 1)) := k_binL (fun _ _ => i64_b _) fun p l e R s m args below meth c H locs cells slots Q ls rest a b hx hb k => lv_land hx hb d (by unfold zland at k; rw [i64_o] at k; exact k)
theorem k_lshl (d : decode cc pc = .ok (.lshl, 1)) : IOk y cc nL ret lv pc (zi_shL zlshl (pc + 1)) := by
  intro L st h o e
  unfold zi_shL at e
  split at e
  · obtain rfl := Option.some.inj e
    exact iok_stk fun G p l e R s m args below meth c H locs cells slots Q ls hx hb _ _ _ _ _ _ hst => ⟨zst_cons (i64_b _) (zst_tl (zst_tl hst)), fun k => lv_lshl hx hb d (i64_o _).symm k⟩
  · cases e
theorem zlcmp_b (a b : Int) : -2147483648 ≤ zlcmp a b ∧ zlcmp a b ≤ 2147483647 := by
  unfold zlcmp; split
  · decide
  · split <;> decide
theorem zok_i2l {a : Int} (h : zok (Sum.inl a)) : zok (zvl a) := by
  have h9 : -2147483648 ≤ a ∧ a ≤ 2147483647 := h
  exact ⟨by omega, by omega⟩
theorem k_i2l (d : decode cc pc = .ok (.i2l, 1)) : IOk y cc nL ret lv pc (zi_i2l (pc + 1)) := by
  intro L st h o e
  unfold zi_i2l at e
  split at e
  · obtain rfl := Option.some.inj e
    exact iok_stk fun G p l e R s m args below meth c H locs cells slots Q ls hx hb _ _ _ _ _ _ hst => ⟨zst_cons (zok_i2l (zst_hd hst)) (zst_tl hst), fun k => lv_i2l hx hb d (i32_i2l (zst_hd hst)) k⟩
  · cases e
theorem k_l2i (d : decode cc pc = .ok (.l2i, 1)) : IOk y cc nL ret lv pc (zi_l2i (pc + 1)) := by
  intro L st h o e
  unfold zi_l2i at e
  split at e
  · obtain rfl := Option.some.inj e
    exact iok_stk fun G p l e R s m args below meth c H locs cells slots Q ls hx hb _ _ _ _ _ _ hst => ⟨zst_cons (w32_b _) (zst_tl hst), fun k => lv_l2i hx hb d (i64_l2i _) k⟩
  · cases e
end
