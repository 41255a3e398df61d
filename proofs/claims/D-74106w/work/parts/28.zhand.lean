/-! Z 28: methods with handlers -/
/-- a thrown object of kind kd at pc goes to the handler t -/
def ZHok (y : MethodName) (hh : List (Nat × Nat × Nat × Nat)) (pc kd t : Nat) : Prop := ∃ (pre : List ExceptionTableEntry) (x : ExceptionTableEntry) (suf : List ExceptionTableEntry) (ci : Nat) (C : String) (T : u_T) (N : Nat) (nm : String), tableOf hh = pre ++ x :: suf ∧ covers x pc = true ∧ x.catchType ≠ 0 ∧ x.handlerPc = t ∧ (kd % 1000 = 16 + ci ∧ kd < 1000) ∧ zcl[ci]? = some (C, T, N) ∧ Cond.classLink y.cls x.catchType nm ∈ lw_all ∧ Cond.castable C nm ∈ lw_tbl ∧ ∀ z ∈ pre, covers z pc = false ∨ (z.catchType ≠ 0 ∧ ∃ nm' : String, Cond.classLink y.cls z.catchType nm' ∈ lw_all ∧ (C, nm') ∈ znc)
theorem msound_H {y : MethodName} {cc : ByteArray} {nL : Nat} {ret : Option FieldType} {lv : Nat} {M : ZM} {hh : List (Nat × Nat × Nat × Nat)} (hy : plainName y.cls = true) (hM : zall y cc nL ret lv M.1) (hH : ∀ pc kd t, M.2 pc kd = some t → (zlk M.1 t).isSome = true → ZHok y hh pc kd t) (hN : ∀ pc kd, M.2 pc kd = none → ∀ x ∈ tableOf hh, covers x pc = false) : MSound lv y (wsW_ y cc nL ret hh) (zrunM M nL) := by
  have hM' := zall_mem hM
  intro as h r hfr
  have hsl : (zsl as).length ≤ nL := by
    unfold zrunM at hfr
    by_cases hc : Nat.ble (zsl as).length nL = true
    · exact Nat.le_of_ble_eq_true hc
    · rw [if_neg hc] at hfr; cases hfr
  have hev : zev M 0 (zent nL as) [] h = some r := by
    rw [← hfr]; exact (zrunM_eq (Nat.ble_eq.mpr hsl) rfl).symm
  obtain ⟨n, hn⟩ := zev_some hev
  have hmo := z_mono hM' n hn
  refine ⟨hmo, fun l G hfl2 has hNN => ?_⟩
  refine zx_ofWH (cc := cc) (maxL := nL) (ret := ret) (hh := hh) hy rfl ?_
  intro p e s m args below meth c s₁ B hml hv
  obtain ⟨rfl, hrep, hG⟩ := hv
  have hts0 := atoms_spec (ws := wsW_ y cc nL ret hh) B.pre
  have hts : ∀ w ∈ lw_all, w.before _ s = true := fun w h => hts0 w (List.mem_cons_of_mem _ h)
  have htab : c.exceptionTable.toList = tableOf hh := vx_table (x := y) B (hts0 _ List.mem_cons_self)
  have hown : s.vm.findClass y.cls = some m.cls := findClass_of_methodNamed B.named
  have hnm : meth.name = y.name := (name_of_methodNamed B.named B.method).1
  rw [lg_entry_eq]
  have hC : ZCtx G p l (headSpec (wsW_ y cc nL ret hh) ({ frames := lv, cells := ph_N r.2 - ph_N h, slots := ph_S r.2 - ph_S h, locals := 64 * lv } : Room)).room s m (as.map (zcv G)).toArray meth c y cc nL ret lv h (ph_N r.2) (ph_S r.2) := ⟨B.exec, B.bytes, hml, B.returns, B.notSynchronized, hnm, hown, hts, hG, by show ph_N r.2 ≤ ph_N h + (ph_N r.2 - ph_N h); omega, by show ph_S r.2 ≤ ph_S h + (ph_S r.2 - ph_S h); omega, hNN, Nat.le_refl lv, Nat.le_refl (64 * lv), hfl2⟩
  have K := z_run (Q := zx_MQ below (zQc G r) (zXC G r) (as.map (zcv G)).toArray s (ph_N r.2 - ph_N h) (ph_S r.2 - ph_S h) (zA G)) (e := e) (below := below) hM' hC (fun pc v L hv hri => z_ret B.exec B.bytes B.returns B.notSynchronized hv hri)
    (fun pc a L ha hn9 H locs ls rest q hr9 hS9 hl9 h1 h2 hq9 hk9 => zx_out (fun x hx => hN pc _ hn9 x (by rw [← htab]; exact hx)) B.notSynchronized (fun t ht hW => ⟨a, ha, hq9, hk9, by rw [ht]; exact hr9.move hW.alike, hS9.F ht⟩) hS9.2.2 (Nat.le_refl _) (Nat.le_refl _))
    (fun pc a t L h' ht hlk hk H locs ls rest q hr9 hS9 hl9 h1 h2 hq9 hk9 => by
      obtain ⟨pre, x, suf, ci, C, T, N, nm, g1, g2, g3, g4, g5, g6, g7, g8, g9⟩ := hH pc _ t ht hlk
      obtain ⟨q8, e1, cell, e2, e3, e4, e5, kC, e6⟩ := z_recv hG hr9 g5.1 g6
      obtain rfl := Option.some.inj (e1.symm.trans hq9)
      refine vx_catch (E := C) (name := nm) hown pre x suf (by rw [htab]; exact g1) (fun z hz => ?_) g2 g3 (hts _ g7) (va_Nw.use rfl (hG.2.1 _ g8 rfl)) e2 (e5 g5.2) e4 ?_
      · rcases g9 z hz with h9 | ⟨h9, nm', h8, h7⟩
        · exact Or.inl h9
        · exact Or.inr ⟨h9, nm', hts _ h8, hG.2.2.2.1 _ h7⟩
      · rw [g4]
        have k9 := hk H locs ls hr9 hS9 hl9 (fun v hv => by rw [List.mem_singleton.mp hv]; trivial) h1 h2
        have k8 : W p l e (headSpec (wsW_ y cc nL ret hh) ({ frames := lv, cells := ph_N r.2 - ph_N h, slots := ph_S r.2 - ph_S h, locals := 64 * lv } : Room)).room s m (as.map (zcv G)).toArray below meth c H locs (ph_N h' - ph_N h) (ph_S h' - ph_S h) (zx_MQ below (zQc G r) (zXC G r) (as.map (zcv G)).toArray s (ph_N r.2 - ph_N h) (ph_S r.2 - ph_S h) (zA G)) (F0 m t ls [va_rf (G.2.2.1 a)]) := k9
        rw [e1] at k8
        exact k8) n hn
  have K2 := K s.heap [] _ hrep va_S.rf (zent_lv has hsl) (fun v hv => by cases hv) (Nat.le_refl _) (Nat.le_refl _)
  rw [Nat.sub_self, Nat.sub_self] at K2
  exact K2
