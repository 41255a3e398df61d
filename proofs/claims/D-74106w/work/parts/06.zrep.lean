/-! Z 6: what the pure heap says of the machine's -/
/-- class numbers and slots; array classes by kind; where an address lies (null: nothing is known of it but that it is old or null); the heap's size at the law's start -/
abbrev ZG : Type := va_G × (Nat → ClassId) × (Nat → Option Nat) × Nat
def zcv (G : ZG) (v : ZV) : Value := match v with
  | .inl x => .int (Int32.ofInt x)
  | .inr (.inl x) => .long (Int64.ofInt x)
  | .inr (.inr (.inl r)) => va_rf (r.bind G.2.2.1)
  | .inr (.inr (.inr _)) => .null
def zok (v : ZV) : Prop := match v with
  | .inl x => -2147483648 ≤ x ∧ x ≤ 2147483647
  | .inr (.inl x) => -9223372036854775808 ≤ x ∧ x ≤ 9223372036854775807
  | .inr (.inr (.inl _)) => True
  | .inr (.inr (.inr _)) => False
theorem zok_not_u {v : ZV} (h : zok v) : zisU v = false := by
  match v, h with
  | .inl _, _ => rfl
  | .inr (.inl _), _ => rfl
  | .inr (.inr (.inl _)), _ => rfl
def zlv (G : ZG) (ls : Array Slot) (nL : Nat) (L : List ZV) : Prop := ls.size = nL ∧ L.length = nL ∧ lv_wf ls ∧ ∀ (i : Nat) (v : ZV), L[i]? = some v → zisU v = false → zok v ∧ ls[i]? = some (.val (zcv G v))
def ztyA (kd : Nat) : FieldType := match kd with
  | 1 => .int
  | 2 => .byte
  | 3 => .boolean
  | 4 => .long
  | 5 => .object "java/lang/Object"
  | 6 => .object "LinkTimes$Departure"
  | _ => .object "java/lang/Long"
def zelt (G : ZG) (h : PH) (a kd j : Nat) : Value := if kd ≤ 3 then .int (Int32.ofInt (ph_I h a j)) else if kd = 4 then .long (Int64.ofInt (ph_J h a j)) else va_rf ((ph_R h a j).bind G.2.2.1)
/-- an array; of a new one also class and length -/
def zarr (G : ZG) (U : State) (h : PH) (a : Nat) (H : Heap) : Prop := ∃ (q : Nat) (cell : Cell), G.2.2.1 a = some q ∧ H[q]? = some cell ∧ U.isArrayOf cell (ztyA ((ph_K h a).1 % 1000)) ∧ cell.vm ≠ .unknown ∧ (ph_K h a).2 ≤ cell.slots.size ∧ cell.slots.size.toInt32 = Int32.ofNat (ph_K h a).2 ∧ (ph_K h a).2 < 2147483648 ∧ (∀ j : Nat, j < (ph_K h a).2 → cell.slots[j]? = some (zelt G h a ((ph_K h a).1 % 1000) j)) ∧ ((ph_K h a).1 < 1000 → cell.cls = G.2.1 (ph_K h a).1 ∧ cell.vm = .none ∧ cell.slots.size = (ph_K h a).2)
def zfv (G : ZG) (h : PH) (a : Nat) (ty : FieldType) (k : Nat) : Value := match ty with
  | .long => .long (Int64.ofInt (ph_J h a k))
  | .object _ => va_rf ((ph_R h a k).bind G.2.2.1)
  | .array _ => va_rf ((ph_R h a k).bind G.2.2.1)
  | _ => .int (Int32.ofInt (ph_I h a k))
/-- nobody holds the object's monitor -/
def zfree (H : Heap) (q : Nat) : Prop := ∃ cell : Cell, H[q]? = some cell ∧ cell.monitor = {}
theorem zfree.kept {H H1 : Heap} {q : Nat} (h : zfree H q) (h1 : H1[q]? = H[q]?) : zfree H1 q := by
  obtain ⟨cell, q1, q2⟩ := h
  exact ⟨cell, by rw [h1]; exact q1, q2⟩
/-- an object's cell; of a new one also that the machine keeps nothing in it -/
def zOB (new : Prop) (o : Nat) (cC : ClassId) (N : Nat) (iS : Nat → Nat) (H : Heap) (V : Nat → Value) : Prop := ∃ cell : Cell, H[o]? = some cell ∧ cell.cls = cC ∧ (cell.vm ≠ .unknown ∧ cell.vm.isStatics = false ∧ (new → cell.vm = .none)) ∧ ∀ k, k < N → cell.slots[iS k]? = some (V k)
theorem zOB.of {new : Prop} {o : Nat} {cC : ClassId} {N : Nat} {iS : Nat → Nat} {H : Heap} {V : Nat → Value} (h : t_OB o cC N iS H V) : zOB new o cC N iS H V := by
  obtain ⟨cell, h1, h2, h3, h4⟩ := h
  exact ⟨cell, h1, h2, ⟨by rw [h3]; exact (fun z => nomatch z), by rw [h3]; rfl, fun _ => h3⟩, h4⟩
theorem zOB.kept {new : Prop} {o : Nat} {cC : ClassId} {N : Nat} {iS : Nat → Nat} {H H1 : Heap} {V : Nat → Value} (h : zOB new o cC N iS H V) (h1 : H1[o]? = H[o]?) : zOB new o cC N iS H1 V := by
  obtain ⟨cell, q, r⟩ := h
  exact ⟨cell, by rw [h1]; exact q, r⟩
theorem zOB.to {new : Prop} {o : Nat} {cC : ClassId} {N : Nat} {iS : Nat → Nat} {H : Heap} {V V' : Nat → Value} (h : zOB new o cC N iS H V) (hv : ∀ k, k < N → V k = V' k) : zOB new o cC N iS H V' := by
  obtain ⟨cell, h1, h2, h3, h4⟩ := h
  exact ⟨cell, h1, h2, h3, fun k hk => by rw [← hv k hk]; exact h4 k hk⟩
def zobj (G : ZG) (h : PH) (a : Nat) (H : Heap) : Prop := ∃ (q : Nat) (r : vw_C), G.2.2.1 a = some q ∧ zcl[(ph_K h a).1 % 1000 - 16]? = some r ∧ zOB ((ph_K h a).1 < 1000) q (G.1.1 ((ph_K h a).1 % 1000 - 16)) r.2.2 (G.1.2 ((ph_K h a).1 % 1000 - 16)) H (fun k => zfv G h a (zty ((ph_K h a).1 % 1000 - 16) k) k) ∧ ((ph_K h a).1 = 26 ∨ (ph_K h a).1 = 27 → zfree H q)
def zat (G : ZG) (U : State) (h : PH) (a : Nat) (H : Heap) : Prop := if (ph_K h a).1 % 1000 = 0 then True else if (ph_K h a).1 % 1000 ≤ 7 then zarr G U h a H else if (ph_K h a).1 % 1000 = 8 then (∃ q : Nat, G.2.2.1 a = some q) else 16 ≤ (ph_K h a).1 % 1000 ∧ zobj G h a H
def ZRng (h : PH) : Prop := ∀ (a : Nat) (k : Int), (-2147483648 ≤ ph_I h a k ∧ ph_I h a k ≤ 2147483647) ∧ (-9223372036854775808 ≤ ph_J h a k ∧ ph_J h a k ≤ 9223372036854775807)
/-- an address of an old cell of which something is known -/
def zold (a : Nat) : Prop := 1000000000 ≤ a ∧ (a < 1000000004 ∨ 1000000007 < a)
def ZKnd (h : PH) : Prop := ∀ a : Nat, (ph_K h a).1 ≠ 0 → (ph_K h a).1 % 1000 ≠ 0 ∧ (((ph_K h a).1 < 1000 ∧ a < ph_N h) ∨ (1000 ≤ (ph_K h a).1 ∧ zold a))
def ZRep (G : ZG) (U : State) (h : PH) (H : Heap) : Prop := H.size = G.2.2.2 + ph_N h ∧ ph_N h ≤ 1000000 ∧ ZKnd h ∧ ZRng h ∧ ∀ a : Nat, zat G U h a H
def ZGok (G : ZG) : Prop := (∀ a : Nat, a < 1000000000 → G.2.2.1 a = some (G.2.2.2 + a)) ∧ ∀ a q : Nat, zold a → G.2.2.1 a = some q → q < G.2.2.2
def zmv (w : Cond) : Bool := match w with
  | .fieldLinkNest _ _ _ _ _ _ => true
  | .methodLinkNest _ _ _ _ => true
  | .castable _ _ => true
  | .declares _ => true
  | .arrayOver (.object _) => true
  | _ => false
theorem zmv_warm {w : Cond} (hm : zmv w = true) {s U : State} (hW : s.WarmedH U.vm) (h : va_Nw w s) : va_Nw w U := by
  unfold zmv at hm
  split at hm
  · exact va_Nw.warmF hW h
  · exact va_Nw.warmM hW h
  · exact va_Nw.warmC hW h
  · exact va_Nw.warmD hW h
  · exact va_AO.moved hW.alike h
  · cases hm
/-- interface calls: receiver's class, the interface's method, what runs -/
def zfw : List (String × MethodName × MethodName) := [("java/util/TreeMap", ⟨"java/util/NavigableMap", "higherKey", "(Ljava/lang/Object;)Ljava/lang/Object;"⟩, ⟨"java/util/TreeMap", "higherKey", "(Ljava/lang/Object;)Ljava/lang/Object;"⟩), ("LinkTimes$ByLeaves", ⟨"java/util/Comparator", "compare", "(Ljava/lang/Object;Ljava/lang/Object;)I"⟩, ⟨"LinkTimes$ByLeaves", "compare", "(Ljava/lang/Object;Ljava/lang/Object;)I"⟩)]
def znc : List (String × String) := [("LinkTimes$Full", "LinkTimes$Flaw"), ("LinkTimes$Flaw", "LinkTimes$Full")]
def zA (G : ZG) : Nat → Prop := fun q => G.2.2.2 ≤ q
/-- old cells: statics, String constants, the Class of Object[] -/
def ZOld (G : ZG) (U : State) : Prop := (∀ q ∈ zstats, va_Z q.1 q.2.1 q.2.2.1 (zcv G q.2.2.2) (zA G) U U.heap) ∧
  (∃ adK adV : Nat → Nat, vk_S 11 zslen zsbyt adK adV (zA G) U U.heap ∧ (∀ i : Nat, i < 11 → G.2.2.1 (1000000010 + i) = some (adK i) ∧ G.2.2.1 (1000000110 + i) = some (adV i)) ∧ ∀ q ∈ zstrs, vk_R q.1 q.2.1 q.2.2.1 (adK q.2.2.2) U) ∧
  (∃ mi : Nat, G.2.2.1 1000000007 = some mi ∧ va_Mi "[Ljava/lang/Object;" mi U) ∧ (∀ q ∈ zup, ZUp U q) ∧ vx_Zq Bundle.tN "UNASSIGNED_STACK" Bundle.steD (zA G) U U.heap ∧ vx_Zq Bundle.tN "SUPPRESSED_SENTINEL" Bundle.listD (zA G) U U.heap
def ztys (G : ZG) : List (ClassId × FieldType) := [(G.2.1 1, .int), (G.2.1 2, .byte), (G.2.1 3, .boolean), (G.2.1 4, .long), (G.2.1 5, .object "java/lang/Object"), (G.2.1 6, .object "LinkTimes$Departure")]
def ZGlob (G : ZG) (U : State) : Prop := va_K G.1 zcl (ztys G) U ∧ (∀ w ∈ lw_tbl, zmv w = true → va_Nw w U) ∧ (∀ q ∈ zfw, va_Fw q.1 q.2.1 q.2.2 U) ∧ (∀ q ∈ znc, va_Nc q.1 q.2 U) ∧ ZGok G ∧ ZOld G U
theorem zfw_no : ∀ q ∈ zfw, q.2.1.cls ≠ "java/lang/invoke/MethodHandle" ∧ q.2.1.cls ≠ "java/lang/invoke/VarHandle" := by decide +kernel
theorem ZOld.move {G : ZG} {s U : State} (hW : s.WarmedH U.vm) (hH : ∀ a : Nat, a < s.heap.size → ¬ zA G a → U.heap[a]? = s.heap[a]?) (h : ZOld G s) : ZOld G U := by
  obtain ⟨h1, ⟨adK, adV, h2, h3, h4⟩, ⟨mi, h5, h6⟩, h7, h8, h9⟩ := h
  exact ⟨fun q hq => ((h1 q hq).kept hH).moved hW.alike, ⟨adK, adV, (h2.kept hH).moved hW.alike, h3, fun q hq => (h4 q hq).warm hW⟩, ⟨mi, h5, h6.moved hW.alike⟩, fun q hq => (h7 q hq).move hW hq, (h8.kept hH).moved hW.alike, (h9.kept hH).moved hW.alike⟩
theorem ZGlob.move {G : ZG} {s U : State} (hW : s.WarmedH U.vm) (hH : ∀ a : Nat, a < s.heap.size → ¬ zA G a → U.heap[a]? = s.heap[a]?) (h : ZGlob G s) : ZGlob G U := by
  obtain ⟨h1, h2, h3, h4, h5, h6⟩ := h
  exact ⟨va_K.moved hW.alike h1, fun w hw hm => zmv_warm hm hW (h2 w hw hm), fun q hq => (h3 q hq).moved (zfw_no q hq) hW.alike, fun q hq => (h4 q hq).moved hW.alike, h5, h6.move hW hH⟩
theorem zat.move {G : ZG} {u U : State} (hvm : u.vm.Alike U.vm) {h : PH} {a : Nat} {H : Heap} (hz : zat G u h a H) : zat G U h a H := by
  unfold zat at hz ⊢
  by_cases c1 : (ph_K h a).1 % 1000 = 0
  · rw [if_pos c1]; trivial
  · rw [if_neg c1] at hz ⊢
    by_cases c2 : (ph_K h a).1 % 1000 ≤ 7
    · rw [if_pos c2] at hz ⊢
      obtain ⟨q, cell, e1, e2, e3, e4⟩ := hz
      exact ⟨q, cell, e1, e2, State.isArrayOf_alike hvm e3, e4⟩
    · rw [if_neg c2] at hz ⊢
      exact hz
theorem ZRep.move {G : ZG} {u U : State} (hvm : u.vm.Alike U.vm) {h : PH} {H : Heap} (hr : ZRep G u h H) : ZRep G U h H := ⟨hr.1, hr.2.1, hr.2.2.1, hr.2.2.2.1, fun a => (hr.2.2.2.2 a).move hvm⟩
theorem ZRep.arr {G : ZG} {U : State} {h : PH} {H : Heap} (hr : ZRep G U h H) {a : Nat} (h1 : 1 ≤ (ph_K h a).1 % 1000) (h2 : (ph_K h a).1 % 1000 ≤ 7) : zarr G U h a H := by
  have hz := hr.2.2.2.2 a
  unfold zat at hz
  rw [if_neg (by omega), if_pos h2] at hz
  exact hz
theorem ZRep.obj {G : ZG} {U : State} {h : PH} {H : Heap} (hr : ZRep G U h H) {a : Nat} (h1 : 16 ≤ (ph_K h a).1 % 1000) : zobj G h a H := by
  have hz := hr.2.2.2.2 a
  unfold zat at hz
  rw [if_neg (by omega), if_neg (by omega), if_neg (by omega)] at hz
  exact hz.2
/-- a new cell lies at its place -/
theorem ZRep.at {G : ZG} {U : State} {h : PH} {H : Heap} (hr : ZRep G U h H) (hg : ZGok G) {a : Nat} (h1 : (ph_K h a).1 ≠ 0) (h2 : (ph_K h a).1 < 1000) : a < ph_N h ∧ G.2.2.1 a = some (G.2.2.2 + a) := by
  rcases (hr.2.2.1 a h1).2 with ⟨-, h3⟩ | ⟨h3, -⟩
  · exact ⟨h3, hg.1 a (by have := hr.2.1; omega)⟩
  · omega
/-- one cell changes: what must hold of it, the rest stays -/
theorem ZRep.upd {G : ZG} {U : State} {h h' : PH} {H H' : Heap} {a : Nat} (hr : ZRep G U h H) (hg : ZGok G) (ka : (ph_K h a).1 ≠ 0) (ka2 : (ph_K h a).1 < 1000) (eK : ph_K h' = ph_K h) (eN : ph_N h' = ph_N h) (hI : ∀ b : Nat, b ≠ a → ph_I h' b = ph_I h b ∧ ph_J h' b = ph_J h b ∧ ph_R h' b = ph_R h b) (hrng : ZRng h') (hz : H'.size = H.size) (hq : ∀ q : Nat, q ≠ G.2.2.2 + a → H'[q]? = H[q]?) (ha : zat G U h' a H') : ZRep G U h' H' := by
  obtain ⟨r1, r2, r3, r4, r5⟩ := id hr
  refine ⟨by rw [hz, eN]; exact r1, by rw [eN]; exact r2, by unfold ZKnd; rw [eK, eN]; exact r3, hrng, fun b => ?_⟩
  by_cases hb : b = a
  · subst hb; exact ha
  · obtain ⟨i1, i2, i3⟩ := hI b hb
    have hne : (ph_K h b).1 ≠ 0 → ∀ q, G.2.2.1 b = some q → q ≠ G.2.2.2 + a := by
      intro hk0 q hbq hqa
      have ha9 := hr.at hg ka ka2
      by_cases hb9 : b < 1000000000
      · rw [hg.1 b hb9] at hbq
        have := Option.some.inj hbq
        omega
      · have hzo : zold b := by
          rcases (r3 b hk0).2 with ⟨-, h9⟩ | ⟨-, h9⟩
          · omega
          · exact h9
        have := hg.2 b q hzo hbq
        omega
    have hzb := r5 b
    unfold zat at hzb ⊢
    rw [eK]
    by_cases c1 : (ph_K h b).1 % 1000 = 0
    · rw [if_pos c1]; trivial
    · rw [if_neg c1] at hzb ⊢
      by_cases c2 : (ph_K h b).1 % 1000 ≤ 7
      · rw [if_pos c2] at hzb ⊢
        obtain ⟨q, cell, e1, e2, e3, e4, e5, e6, e7, e8, e9⟩ := hzb
        refine ⟨q, cell, e1, by rw [hq q (hne (fun z => c1 (by rw [z])) q e1)]; exact e2, by rw [eK]; exact e3, e4, by rw [eK]; exact e5, by rw [eK]; exact e6, by rw [eK]; exact e7, fun j hj => ?_, by rw [eK]; exact e9⟩
        rw [eK] at hj ⊢
        rw [e8 j hj]
        unfold zelt
        rw [i1, i2, i3]
      · rw [if_neg c2] at hzb ⊢
        by_cases c3 : (ph_K h b).1 % 1000 = 8
        · rw [if_pos c3] at hzb ⊢; exact hzb
        · rw [if_neg c3] at hzb ⊢
          obtain ⟨k1, q, r, e1, e2, e3, e9⟩ := hzb
          refine ⟨k1, q, r, e1, by rw [eK]; exact e2, ?_, by rw [eK]; exact fun h9 => (e9 h9).kept (hq q (hne (fun z => c1 (by rw [z])) q e1))⟩
          rw [eK]
          have e4 := e3.kept (hq q (hne (fun z => c1 (by rw [z])) q e1))
          exact e4.to (fun k _ => by unfold zfv; rw [i1, i2, i3])
