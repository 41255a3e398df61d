/-! Z 16: soundness of a method -/
theorem zlk_mem : ∀ {l : List (Nat × ZI)} {pc : Nat} {i : ZI}, zlk l pc = some i → (pc, i) ∈ l
  | [], _, _, e => by cases e
  | q :: t, pc, i, e => by
    unfold zlk at e
    cases hb : Nat.beq q.1 pc with
    | true =>
      rw [hb] at e
      obtain rfl := Option.some.inj e
      rw [← Nat.eq_of_beq_eq_true hb]
      exact List.mem_cons_self
    | false =>
      rw [hb] at e
      exact List.mem_cons_of_mem _ (zlk_mem e)
/-- all instructions of a method are sound -/
def zall (y : MethodName) (cc : ByteArray) (nL : Nat) (ret : Option FieldType) (lv : Nat) : List (Nat × ZI) → Prop
  | [] => True
  | q :: t => IOk y cc nL ret lv q.1 q.2 ∧ zall y cc nL ret lv t
theorem zall_mem {y : MethodName} {cc : ByteArray} {nL : Nat} {ret : Option FieldType} {lv : Nat} : ∀ {l : List (Nat × ZI)}, zall y cc nL ret lv l → ∀ q ∈ l, IOk y cc nL ret lv q.1 q.2
  | [], _, q, hq => by cases hq
  | p :: t, h, q, hq => by
    rcases List.mem_cons.mp hq with rfl | hq
    · exact h.1
    · exact zall_mem h.2 q hq
theorem zrun_lk {M : ZM} {n pc : Nat} {L st : List ZV} {h : PH} {r : ZR} (e : zrun M n pc L st h = some r) : (zlk M.1 pc).isSome = true := by
  cases n with
  | zero => simp [zrun] at e
  | succ n =>
    rw [zrun] at e
    unfold zstep at e
    cases hl : zlk M.1 pc with
    | none => rw [hl] at e; cases e
    | some i => rfl
theorem z_mono {y : MethodName} {cc : ByteArray} {nL : Nat} {ret : Option FieldType} {lv : Nat} {M : ZM} (hM : ∀ q ∈ M.1, IOk y cc nL ret lv q.1 q.2) : ∀ (n : Nat) {pc : Nat} {L st : List ZV} {h : PH} {r : ZR}, zrun M n pc L st h = some r → ph_N h ≤ ph_N r.2 ∧ ph_S h ≤ ph_S r.2
  | 0, _, _, _, _, _, e => by simp [zrun] at e
  | n + 1, pc, L, st, h, r, e => by
    rw [zrun] at e
    unfold zstep at e
    cases hl : zlk M.1 pc with
    | none => rw [hl] at e; cases e
    | some i =>
      rw [hl] at e
      dsimp only at e
      cases ho : i L st h with
      | none => rw [ho] at e; cases e
      | some o =>
        have hio := hM _ (zlk_mem hl) L st h o ho
        rw [ho] at e
        match o, hio, e with
        | .inl s, hio, e =>
          have h1 := hio.1
          have h2 := z_mono hM n e
          exact ⟨Nat.le_trans h1.1 h2.1, Nat.le_trans h1.2 h2.2⟩
        | .inr (.inl v, h'), hio, e =>
          obtain rfl := Option.some.inj e
          exact hio.1
        | .inr (.inr a, h'), hio, e =>
          dsimp only at e
          cases ht : M.2 pc (ph_K h' a).1 with
          | none =>
            rw [ht] at e
            obtain rfl := Option.some.inj e
            exact hio.1
          | some t =>
            rw [ht] at e
            have h2 := z_mono hM n e
            exact ⟨Nat.le_trans hio.1.1 h2.1, Nat.le_trans hio.1.2 h2.2⟩
section
variable {y : MethodName} {cc : ByteArray} {nL : Nat} {ret : Option FieldType} {lv : Nat} {M : ZM}
variable {G : ZG} {p : Program} {l : Launch} {e : Env} {R : Room} {s : State} {m : MethodId} {args : Array Value} {below : List Frame} {meth : Method} {c : Code} {h0 : PH} {Q : State → Prop}
theorem z_run (hM : ∀ q ∈ M.1, IOk y cc nL ret lv q.1 q.2) {r : ZR} (hC : ZCtx G p l R s m args meth c y cc nL ret lv h0 (ph_N r.2) (ph_S r.2))
    (hret : ∀ (pc : Nat) (v : Option ZV) (L : List ZV), r.1 = .inl v → ZRetI cc ret pc v → ZW G p l e R s m args below meth c nL h0 Q pc L v.toList r.2)
    (hthr : ∀ (pc a : Nat) (L : List ZV), r.1 = .inr a → M.2 pc (ph_K r.2 a).1 = none → ZT G p l e R s m args below meth c nL h0 Q pc L a r.2)
    (hcat : ∀ (pc a t : Nat) (L : List ZV) (h' : PH), M.2 pc (ph_K h' a).1 = some t → (zlk M.1 t).isSome = true → ZW G p l e R s m args below meth c nL h0 Q t L [zvr (some a)] h' → ZT G p l e R s m args below meth c nL h0 Q pc L a h') :
    ∀ (n : Nat) {pc : Nat} {L st : List ZV} {h : PH}, zrun M n pc L st h = some r → ZW G p l e R s m args below meth c nL h0 Q pc L st h
  | 0, _, _, _, _, e0 => by simp [zrun] at e0
  | n + 1, pc, L, st, h, e0 => by
    rw [zrun] at e0
    unfold zstep at e0
    cases hl : zlk M.1 pc with
    | none => rw [hl] at e0; cases e0
    | some i =>
      rw [hl] at e0
      dsimp only at e0
      cases ho : i L st h with
      | none => rw [ho] at e0; cases e0
      | some o =>
        have hio := (hM _ (zlk_mem hl) L st h o ho).2 G p l e R s m args below meth c h0 (ph_N r.2) (ph_S r.2) Q hC
        rw [ho] at e0
        match o, hio, e0 with
        | .inl (n', L', st', h'), hio, e0 =>
          have h2 := z_mono hM n e0
          exact hio h2.1 h2.2 (z_run hM hC hret hthr hcat n e0)
        | .inr (.inl v, h'), hio, e0 =>
          obtain rfl := Option.some.inj e0
          obtain ⟨rfl, rfl, hri⟩ := hio
          exact hret pc v L rfl hri
        | .inr (.inr a, h'), hio, e0 =>
          dsimp only at e0
          cases ht : M.2 pc (ph_K h' a).1 with
          | none =>
            rw [ht] at e0
            obtain rfl := Option.some.inj e0
            exact hio (Nat.le_refl _) (Nat.le_refl _) (hthr pc a L rfl ht)
          | some t =>
            rw [ht] at e0
            have h2 := z_mono hM n e0
            exact hio h2.1 h2.2 (hcat pc a t L h' ht (zrun_lk e0) (z_run hM hC hret hthr hcat n e0))
end
/-! contracts -/
def zPc (G : ZG) (as : List ZV) (h : PH) : Array Value → State → Prop := va_Pc (as.map (zcv G)) (fun U => ZRep G U h U.heap ∧ ZGlob G U)
def zQc (G : ZG) (r : ZR) : Array Value → State → Outcome → State → Prop := fun _ st o t => ∃ v, r.1 = .inl v ∧ o = .returned (v.map (zcv G)) ∧ (∀ w, v = some w → zok w) ∧ ZRep G t r.2 t.heap ∧ va_F (zA G) st t
def zXC (G : ZG) (r : ZR) : Addr → State → State → Prop := fun q st t => ∃ a, r.1 = .inr a ∧ G.2.2.1 a = some q ∧ (ph_K r.2 a).1 ≠ 0 ∧ ZRep G t r.2 t.heap ∧ va_F (zA G) st t
def MSound (lv : Nat) (y : MethodName) (ws : List Cond) (f : ZF) : Prop := ∀ (as : List ZV) (h : PH) (r : ZR), f as h = some r → (ph_N h ≤ ph_N r.2 ∧ ph_S h ≤ ph_S r.2) ∧ ∀ (l : Launch) (G : ZG), l.flags = flags0 → (∀ v ∈ as, zok v) → ph_N r.2 ≤ 1000000 → zx_Met l y ws ({ frames := lv, cells := ph_N r.2 - ph_N h, slots := ph_S r.2 - ph_S h, locals := 64 * lv } : Room) (zPc G as h) (zQc G r) (zXC G r) (ph_N r.2 - ph_N h) (ph_S r.2 - ph_S h) (zA G)
/-- the locals at the entry -/
def zsl (as : List ZV) : List ZV := match as with
  | [] => []
  | v :: t => bif zisL v then v :: zvu :: zsl t else v :: zsl t
def zent (nL : Nat) (as : List ZV) : List ZV := zsl as ++ List.replicate (nL - (zsl as).length) zvu
theorem zsl_args {G : ZG} : ∀ (as : List ZV) (k i : Nat) (v : ZV), (zsl as)[i]? = some v → zisU v = false → (k + i, zcv G v) ∈ lv_args k (as.map (zcv G))
  | [], k, i, v, h, _ => by simp [zsl] at h
  | w :: t, k, i, v, h, hu => by
    unfold zsl at h
    show (k + i, zcv G v) ∈ (k, zcv G w) :: lv_args (if (zcv G w).category = 2 then k + 2 else k + 1) (t.map (zcv G))
    cases hw : zisL w with
    | true =>
      rw [hw] at h
      rw [if_pos (zcat2 hw)]
      match i, h with
      | 0, h => obtain rfl := Option.some.inj h; exact List.mem_cons_self
      | 1, h => obtain rfl := Option.some.inj h; cases hu
      | i + 2, h =>
        have h9 := zsl_args (G := G) t (k + 2) i v h hu
        rw [show k + (i + 2) = k + 2 + i by omega]
        exact List.mem_cons_of_mem _ h9
    | false =>
      rw [hw] at h
      rw [if_neg (by rw [zcat1 hw]; decide)]
      match i, h with
      | 0, h => obtain rfl := Option.some.inj h; exact List.mem_cons_self
      | i + 1, h =>
        have h9 := zsl_args (G := G) t (k + 1) i v h hu
        rw [show k + (i + 1) = k + 1 + i by omega]
        exact List.mem_cons_of_mem _ h9
theorem zsl_len {G : ZG} : ∀ (as : List ZV), (lg_sl (as.map (zcv G))).length = (zsl as).length
  | [] => rfl
  | w :: t => by
    unfold zsl
    have h9 := zsl_len (G := G) t
    unfold lg_sl at h9 ⊢
    rw [List.map_cons, List.flatMap_cons, List.length_append, h9]
    cases hw : zisL w with
    | true => rw [if_pos (zcat2 hw)]; simp; omega
    | false => rw [if_neg (by rw [zcat1 hw]; decide)]; simp; omega
theorem zsl_ok : ∀ (as : List ZV), (∀ v ∈ as, zok v) → ∀ v ∈ zsl as, zisU v = false → zok v
  | [], _, v, h, _ => by cases h
  | w :: t, ha, v, h, hu => by
    unfold zsl at h
    have h9 := zsl_ok t (fun x hx => ha x (List.mem_cons_of_mem _ hx)) v
    cases hw : zisL w with
    | true =>
      rw [hw] at h
      rcases List.mem_cons.mp h with rfl | h
      · exact ha _ List.mem_cons_self
      · rcases List.mem_cons.mp h with rfl | h
        · cases hu
        · exact h9 h hu
    | false =>
      rw [hw] at h
      rcases List.mem_cons.mp h with rfl | h
      · exact ha _ List.mem_cons_self
      · exact h9 h hu
theorem zent_lv {G : ZG} {as : List ZV} {nL : Nat} (ha : ∀ v ∈ as, zok v) (hn : (zsl as).length ≤ nL) : zlv G ((lg_sl (as.map (zcv G)) ++ List.replicate (nL - (lg_sl (as.map (zcv G))).length) Slot.unset).toArray) nL (zent nL as) := by
  have hl := lv_entry (as.map (zcv G)) (n := nL) (by rw [zsl_len]; exact hn)
  refine ⟨hl.1, by unfold zent; rw [List.length_append, List.length_replicate]; omega, hl.2.1, fun i v hv hu => ?_⟩
  unfold zent at hv
  by_cases hi : i < (zsl as).length
  · rw [List.getElem?_append_left hi] at hv
    refine ⟨zsl_ok as ha v (List.mem_of_getElem? hv) hu, ?_⟩
    have h9 := hl.2.2 _ (zsl_args (G := G) as 0 i v hv hu)
    rw [Nat.zero_add] at h9
    exact h9
  · rw [List.getElem?_append_right (by omega)] at hv
    have h9 := List.mem_replicate.mp (List.mem_of_getElem? hv)
    rw [h9.2] at hu
    cases hu
theorem zPc_blind {G : ZG} {as : List ZV} {h : PH} : FrameBlind (zPc G as h) := fun a U g mk q => by
  obtain ⟨q0, q1, q2⟩ := q
  exact ⟨q0, q1.move (u := U) (U := U.calling g mk a) (Vm.Alike.refl U.vm), q2.move (s := U) (U := U.calling g mk a) (State.WarmedH.refl U) (fun _ _ _ => rfl)⟩
section
variable {y : MethodName} {cc : ByteArray} {nL : Nat} {ret : Option FieldType} {lv : Nat} {M : ZM}
/-- the end of a method by its return -/
theorem z_ret {G : ZG} {p : Program} {l : Launch} {e : Env} {R : Room} {s : State} {m : MethodId} {args : Array Value} {below : List Frame} {meth : Method} {c : Code} {h0 : PH} {r : ZR} {XC : Addr → State → State → Prop} {pc : Nat} {v : Option ZV} {L : List ZV} (hx : p.tables.exec = Jvm.exec) (hb : c.code = cc) (hr : meth.sig.returnType = ret) (hlocks : meth.locks = false) (hv : r.1 = .inl v) (hri : ZRetI cc ret pc v) :
    ZW G p l e R s m args below meth c nL h0 (zx_MQ below (zQc G r) XC args s (ph_N r.2 - ph_N h0) (ph_S r.2 - ph_S h0) (zA G)) pc L v.toList r.2 := by
  intro H locs ls hrep hS hl hst h1 h2
  refine zx_ret ?_
  have hq : ∀ t : State, t.heap = H → s.WarmedH t.vm → ∀ w : Option Value, w = v.map (zcv G) → zQc G r args s (.returned w) t := fun t ht hW w hw => ⟨v, hv, by rw [hw], fun w hw => hst w (by rw [hw]; exact List.mem_singleton.mpr rfl), by rw [ht]; exact hrep.move hW.alike, hS.F ht⟩
  match v, hri, hst, hq with
  | none, hri, hst, hq => exact W.vret hx hb (by rw [hr]; exact hri.2) (fun t ht hW => hq t ht hW _ rfl) hS.2.2 hri.1
  | some (.inl x), hri, hst, hq =>
    rcases hri.2 with h9 | ⟨ty9, h9, hx9⟩
    · exact W.iret hx hb (by rw [hr]; exact h9) (fun t ht hW => hq t ht hW _ rfl) hS.2.2 hri.1
    · exact W.zret hx hb (by rw [hr]; exact h9) hx9 (fun t ht hW => hq t ht hW _ rfl) hS.2.2 hri.1
  | some (.inr (.inl x)), hri, hst, hq => exact W.lret hx hb (by rw [hr]; exact hri.2) (fun t ht hW => hq t ht hW _ rfl) hS.2.2 hri.1
  | some (.inr (.inr (.inl x))), hri, hst, hq =>
    obtain ⟨hd, rt, h8, h9⟩ := hri
    refine W.aret (v := va_rf (x.bind G.2.2.1)) hx hb (by rw [hr]; exact h8) h9 ?_ (fun t ht hW => hq t ht hW _ rfl) hS.2.2 hd
    cases x.bind G.2.2.1 with
    | none => exact Or.inl rfl
    | some q => exact Or.inr ⟨q, rfl⟩
/-- a method without handlers -/
theorem msound_of {f : ZF} (hy : plainName y.cls = true) (hf : ∀ as h, f as h = zev M 0 (zent nL as) [] h ∨ f as h = none) (hfl : ∀ as h r, f as h = some r → (zsl as).length ≤ nL) (hM : zall y cc nL ret lv M.1) (hM2 : ∀ pc k, M.2 pc k = none) : MSound lv y (ws_ y cc nL ret) f := by
  have hM' := zall_mem hM
  intro as h r hfr
  have hev : zev M 0 (zent nL as) [] h = some r := by
    rcases hf as h with h9 | h9
    · rw [← h9]; exact hfr
    · rw [h9] at hfr; cases hfr
  obtain ⟨n, hn⟩ := zev_some hev
  have hmo := z_mono hM' n hn
  refine ⟨hmo, fun l G hfl2 has hN => ?_⟩
  refine zx_ofW (cc := cc) (maxL := nL) (ret := ret) hy rfl ?_
  intro p e s m args below meth c s₁ B hml hta hv
  obtain ⟨rfl, hrep, hG⟩ := hv
  have hts := atoms_spec (ws := ws_ y cc nL ret) B.pre
  have hts : ∀ w ∈ lw_all, w.before _ s = true := fun w h => hts w (List.mem_cons_of_mem _ h)
  have hown : s.vm.findClass y.cls = some m.cls := findClass_of_methodNamed B.named
  have hnm : meth.name = y.name := (name_of_methodNamed B.named B.method).1
  rw [lg_entry_eq]
  have hC : ZCtx G p l (headSpec (ws_ y cc nL ret) ({ frames := lv, cells := ph_N r.2 - ph_N h, slots := ph_S r.2 - ph_S h, locals := 64 * lv } : Room)).room s m (as.map (zcv G)).toArray meth c y cc nL ret lv h (ph_N r.2) (ph_S r.2) := ⟨B.exec, B.bytes, hml, B.returns, B.notSynchronized, hnm, hown, hts, hG, by show ph_N r.2 ≤ ph_N h + (ph_N r.2 - ph_N h); omega, by show ph_S r.2 ≤ ph_S h + (ph_S r.2 - ph_S h); omega, hN, Nat.le_refl lv, Nat.le_refl (64 * lv), hfl2⟩
  have K := z_run (Q := zx_MQ below (zQc G r) (zXC G r) (as.map (zcv G)).toArray s (ph_N r.2 - ph_N h) (ph_S r.2 - ph_S h) (zA G)) (e := e) (below := below) hM' hC (fun pc v L hv hri => z_ret B.exec B.bytes B.returns B.notSynchronized hv hri)
    (fun pc a L ha hn9 H locs ls rest q hr9 hS9 hl9 h1 h2 hq9 hk9 => zx_out (fun x hx => (hta x hx).elim) B.notSynchronized (fun t ht hW => ⟨a, ha, hq9, hk9, by rw [ht]; exact hr9.move hW.alike, hS9.F ht⟩) hS9.2.2 (Nat.le_refl _) (Nat.le_refl _))
    (fun pc a t L h' ht => by rw [hM2] at ht; cases ht) n hn
  have K2 := K s.heap [] _ hrep va_S.rf (zent_lv has (hfl as h r hfr)) (fun v hv => by cases hv) (Nat.le_refl _) (Nat.le_refl _)
  rw [Nat.sub_self, Nat.sub_self] at K2
  exact K2
end
