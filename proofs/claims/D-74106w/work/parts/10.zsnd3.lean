/-! Z 10: soundness: locals -/
section
variable {y : MethodName} {cc : ByteArray} {nL : Nat} {ret : Option FieldType} {lv pc n t : Nat} {L st st' : List ZV} {h : PH}
theorem zi_ld_o {ty k n : Nat} {L st : List ZV} {h : PH} {o : ZS ⊕ ZR} (e : zi_ld ty k n L st h = some o) : ∃ v, L[k]? = some v ∧ ztag v = ty ∧ o = .inl (n, L, v :: st, h) := by
  unfold zi_ld at e
  split at e
  · rename_i v hv
    cases ht : Nat.beq (ztag v) ty with
    | false => rw [ht] at e; cases e
    | true => rw [ht] at e; exact ⟨v, hv, Nat.eq_of_beq_eq_true ht, (Option.some.inj e).symm⟩
  · cases e
theorem ztag_I {v : ZV} (h : ztag v = 0) : ∃ x, v = .inl x := by
  match v, h with
  | .inl x, _ => exact ⟨x, rfl⟩
theorem ztag_R {v : ZV} (h : ztag v = 1) : ∃ x, v = .inr (.inr (.inl x)) := by
  match v, h with
  | .inr (.inr (.inl x)), _ => exact ⟨x, rfl⟩
theorem ztag_J {v : ZV} (h : ztag v = 2) : ∃ x, v = .inr (.inl x) := by
  match v, h with
  | .inr (.inl x), _ => exact ⟨x, rfl⟩
theorem k_iload_n {k : Fin 4} {i : Nat} (d : decode cc pc = .ok (.iload_n k, 1)) (hi : (k : Nat) = i := by rfl) : IOk y cc nL ret lv pc (zi_ld 0 i (pc + 1)) := by
  intro L st h o e
  obtain ⟨v, hv, ht, rfl⟩ := zi_ld_o e
  obtain ⟨x, rfl⟩ := ztag_I ht
  exact iok_stk fun G p l e R s m args below meth c H locs cells slots Q ls hx hb _ _ _ _ _ hl hst => ⟨zst_cons (hl.2.2.2 _ _ hv rfl).1 hst, fun k => lv_iload_n hx hb d hi (hl.2.2.2 _ _ hv rfl).2 k⟩
theorem k_iload {i : Nat} (d : decode cc pc = .ok (.iload i, 2)) : IOk y cc nL ret lv pc (zi_ld 0 i (pc + 2)) := by
  intro L st h o e
  obtain ⟨v, hv, ht, rfl⟩ := zi_ld_o e
  obtain ⟨x, rfl⟩ := ztag_I ht
  exact iok_stk fun G p l e R s m args below meth c H locs cells slots Q ls hx hb _ _ _ _ _ hl hst => ⟨zst_cons (hl.2.2.2 _ _ hv rfl).1 hst, fun k => lv_iload hx hb d (hl.2.2.2 _ _ hv rfl).2 k⟩
theorem k_lload_n {k : Fin 4} {i : Nat} (d : decode cc pc = .ok (.lload_n k, 1)) (hi : (k : Nat) = i := by rfl) : IOk y cc nL ret lv pc (zi_ld 2 i (pc + 1)) := by
  intro L st h o e
  obtain ⟨v, hv, ht, rfl⟩ := zi_ld_o e
  obtain ⟨x, rfl⟩ := ztag_J ht
  exact iok_stk fun G p l e R s m args below meth c H locs cells slots Q ls hx hb _ _ _ _ _ hl hst => ⟨zst_cons (hl.2.2.2 _ _ hv rfl).1 hst, fun k => lv_lload_n hx hb d hi (hl.2.2.2 _ _ hv rfl).2 k⟩
theorem k_lload {i : Nat} (d : decode cc pc = .ok (.lload i, 2)) : IOk y cc nL ret lv pc (zi_ld 2 i (pc + 2)) := by
  intro L st h o e
  obtain ⟨v, hv, ht, rfl⟩ := zi_ld_o e
  obtain ⟨x, rfl⟩ := ztag_J ht
  exact iok_stk fun G p l e R s m args below meth c H locs cells slots Q ls hx hb _ _ _ _ _ hl hst => ⟨zst_cons (hl.2.2.2 _ _ hv rfl).1 hst, fun k => lv_lload hx hb d (hl.2.2.2 _ _ hv rfl).2 k⟩
theorem k_aload_n {k : Fin 4} {i : Nat} (d : decode cc pc = .ok (.aload_n k, 1)) (hi : (k : Nat) = i := by rfl) : IOk y cc nL ret lv pc (zi_ld 1 i (pc + 1)) := by
  intro L st h o e
  obtain ⟨v, hv, ht, rfl⟩ := zi_ld_o e
  obtain ⟨x, rfl⟩ := ztag_R ht
  refine iok_stk fun G p l e R s m args below meth c H locs cells slots Q ls hx hb _ _ _ _ _ hl hst => ⟨zst_cons trivial hst, fun k => ?_⟩
  have h9 : ls[i]? = some (.val (va_rf (x.bind G.2.2.1))) := (hl.2.2.2 _ _ hv rfl).2
  have k9 : W p l e R s m args below meth c H locs cells slots Q (F0 m (pc + 1) ls (va_rf (x.bind G.2.2.1) :: st.map (zcv G))) := k
  cases hq : x.bind G.2.2.1 with
  | none => rw [hq] at h9 k9; exact lv_aload_nN hx hb d hi h9 k9
  | some q => rw [hq] at h9 k9; exact lv_aload_n hx hb d hi h9 k9
theorem k_aload {i : Nat} (d : decode cc pc = .ok (.aload i, 2)) : IOk y cc nL ret lv pc (zi_ld 1 i (pc + 2)) := by
  intro L st h o e
  obtain ⟨v, hv, ht, rfl⟩ := zi_ld_o e
  obtain ⟨x, rfl⟩ := ztag_R ht
  refine iok_stk fun G p l e R s m args below meth c H locs cells slots Q ls hx hb _ _ _ _ _ hl hst => ⟨zst_cons trivial hst, fun k => ?_⟩
  have h9 : ls[i]? = some (.val (va_rf (x.bind G.2.2.1))) := (hl.2.2.2 _ _ hv rfl).2
  have k9 : W p l e R s m args below meth c H locs cells slots Q (F0 m (pc + 2) ls (va_rf (x.bind G.2.2.1) :: st.map (zcv G))) := k
  cases hq : x.bind G.2.2.1 with
  | none => rw [hq] at h9 k9; exact lv_aloadN hx hb d h9 k9
  | some q => rw [hq] at h9 k9; exact lv_aload hx hb d h9 k9
/-! stores: all that is known of the locals, as the kit's list -/
def zlist (G : ZG) (L : List ZV) : List (Nat × Value) := (List.range L.length).filterMap (fun i => match L[i]? with
  | some v => bif zisU v then none else some (i, zcv G v)
  | none => none)
theorem zlist_mem {G : ZG} {L : List ZV} {q : Nat × Value} : q ∈ zlist G L ↔ ∃ v, L[q.1]? = some v ∧ zisU v = false ∧ q.2 = zcv G v := by
  unfold zlist
  rw [List.mem_filterMap]
  constructor
  · rintro ⟨i, -, hi⟩
    split at hi
    · rename_i v hv
      cases hu : zisU v with
      | true => rw [hu] at hi; cases hi
      | false => rw [hu] at hi; obtain rfl := Option.some.inj hi; exact ⟨v, hv, hu, rfl⟩
    · cases hi
  · rintro ⟨v, hv, hu, he⟩
    refine ⟨q.1, List.mem_range.mpr (List.getElem?_eq_some_iff.mp hv).1, ?_⟩
    rw [hv]
    show (bif zisU v then none else some (q.1, zcv G v)) = some q
    rw [hu, ← he]; rfl
theorem zlv.has {G : ZG} {ls : Array Slot} {nL : Nat} {L : List ZV} (h : zlv G ls nL L) : lv_has ls nL (zlist G L) := ⟨h.1, h.2.2.1, fun q hq => by
  obtain ⟨v, h1, h2, h3⟩ := zlist_mem.mp hq
  rw [h3]; exact (h.2.2.2 _ _ h1 h2).2⟩
theorem zcat_L {G : ZG} {v : ZV} (h : zisU v = false) : ((zcv G v).category == 2) = zisL v := by
  cases hv : zisL v with
  | true => rw [zcat2 hv]; rfl
  | false => rw [zcat1 hv]; rfl
theorem zclr_get {L : List ZV} {k j : Nat} {v : ZV} (h : (zclr L k)[j]? = some v) (hu : zisU v = false) : L[j]? = some v ∧ (j + 1 = k → zisL v = false) := by
  unfold zclr at h
  split at h
  · exact ⟨h, fun z => by omega⟩
  · rename_i i
    split at h
    · rename_i w hw
      cases hl : zisL w with
      | true =>
        rw [hl] at h
        have h : (L.set i zvu)[j]? = some v := h
        by_cases hij : i = j
        · subst hij
          rw [List.getElem?_set_self (List.getElem?_eq_some_iff.mp hw).1] at h
          obtain rfl := Option.some.inj h
          cases hu
        · rw [List.getElem?_set_ne hij] at h
          exact ⟨h, fun z => by omega⟩
      | false =>
        rw [hl] at h
        have h8 : L[j]? = some v := h
        refine ⟨h8, fun z => ?_⟩
        have : j = i := by omega
        subst this
        rw [hw] at h8
        obtain rfl := Option.some.inj h8
        exact hl
    · rename_i hw
      refine ⟨h, fun z => ?_⟩
      have : j = i := by omega
      subst this
      rw [hw] at h; cases h
theorem zclr_len (L : List ZV) (k : Nat) : (zclr L k).length = L.length := by
  unfold zclr
  split
  · rfl
  · split
    · rename_i v _
      cases zisL v <;> simp
    · rfl
theorem zlv.set1 {G : ZG} {ls ls' : Array Slot} {nL k : Nat} {L : List ZV} {v : ZV} (h : zlv G ls nL L) (hv : zok v) (hk : k < nL) (h' : lv_has ls' nL ((k, zcv G v) :: (zlist G L).filter (fun q => !(q.1 == k) && !(q.1 + 1 == k && q.2.category == 2)))) : zlv G ls' nL ((zclr L k).set k v) := by
  refine ⟨h'.1, by rw [List.length_set, zclr_len]; exact h.2.1, h'.2.1, fun j w hj hu => ?_⟩
  by_cases hjk : k = j
  · subst hjk
    rw [List.getElem?_set_self (by rw [zclr_len, h.2.1]; exact hk)] at hj
    obtain rfl := Option.some.inj hj
    exact ⟨hv, h'.2.2 (k, zcv G v) List.mem_cons_self⟩
  · rw [List.getElem?_set_ne hjk] at hj
    obtain ⟨h1, h2⟩ := zclr_get hj hu
    refine ⟨(h.2.2.2 j w h1 hu).1, h'.2.2 (j, zcv G w) (List.mem_cons_of_mem _ (List.mem_filter.mpr ⟨zlist_mem.mpr ⟨w, h1, hu, rfl⟩, ?_⟩))⟩
    show (!(j == k) && !(j + 1 == k && (zcv G w).category == 2)) = true
    rw [zcat_L hu]
    have e1 : (j == k) = false := by simp; omega
    rw [e1]
    by_cases hjk2 : j + 1 = k
    · rw [h2 hjk2]; simp
    · have e2 : (j + 1 == k) = false := by simp; omega
      rw [e2]; rfl
theorem zlv.set2 {G : ZG} {ls ls' : Array Slot} {nL k : Nat} {L : List ZV} {v : ZV} (h : zlv G ls nL L) (hv : zok v) (hk : k + 1 < nL) (h' : lv_has ls' nL ((k, zcv G v) :: (zlist G L).filter (fun q => !(q.1 == k) && (!(q.1 == k + 1) && !(q.1 + 1 == k && q.2.category == 2))))) : zlv G ls' nL (((zclr L k).set k v).set (k + 1) zvu) := by
  refine ⟨h'.1, by rw [List.length_set, List.length_set, zclr_len]; exact h.2.1, h'.2.1, fun j w hj hu => ?_⟩
  by_cases hj1 : k + 1 = j
  · subst hj1
    rw [List.getElem?_set_self (by rw [List.length_set, zclr_len, h.2.1]; exact hk)] at hj
    obtain rfl := Option.some.inj hj
    cases hu
  · rw [List.getElem?_set_ne hj1] at hj
    by_cases hjk : k = j
    · subst hjk
      rw [List.getElem?_set_self (by rw [zclr_len, h.2.1]; omega)] at hj
      obtain rfl := Option.some.inj hj
      exact ⟨hv, h'.2.2 (k, zcv G v) List.mem_cons_self⟩
    · rw [List.getElem?_set_ne hjk] at hj
      obtain ⟨h1, h2⟩ := zclr_get hj hu
      refine ⟨(h.2.2.2 j w h1 hu).1, h'.2.2 (j, zcv G w) (List.mem_cons_of_mem _ (List.mem_filter.mpr ⟨zlist_mem.mpr ⟨w, h1, hu, rfl⟩, ?_⟩))⟩
      show (!(j == k) && (!(j == k + 1) && !(j + 1 == k && (zcv G w).category == 2))) = true
      rw [zcat_L hu]
      have e1 : (j == k) = false := by simp; omega
      have e3 : (j == k + 1) = false := by simp; omega
      rw [e1, e3]
      by_cases hjk2 : j + 1 = k
      · rw [h2 hjk2]; simp
      · have e2 : (j + 1 == k) = false := by simp; omega
        rw [e2]; rfl
theorem zi_st_o {ty k n : Nat} {L st : List ZV} {h : PH} {o : ZS ⊕ ZR} (e : zi_st ty k n L st h = some o) : ∃ v st', st = v :: st' ∧ ztag v = ty ∧ k < L.length ∧ o = .inl (n, (zclr L k).set k v, st', h) := by
  unfold zi_st at e
  split at e
  · rename_i v st'
    by_cases hc : ztag v = ty ∧ k < L.length
    · rw [if_pos hc] at e; exact ⟨v, st', rfl, hc.1, hc.2, (Option.some.inj e).symm⟩
    · rw [if_neg hc] at e; cases e
  · cases e
theorem k_istore_n {k : Fin 4} {i : Nat} (d : decode cc pc = .ok (.istore_n k, 1)) (hi : (k : Nat) = i := by rfl) : IOk y cc nL ret lv pc (zi_st 0 i (pc + 1)) := by
  intro L st h o e
  obtain ⟨v, st', rfl, ht, hk, rfl⟩ := zi_st_o e
  obtain ⟨x, rfl⟩ := ztag_I ht
  exact iok_loc fun G p l e R s m args below meth c H locs cells slots Q ls hx hb hl hst => ⟨zst_tl hst, fun k => lv_istore_n hx hb d hi hl.has (by rw [← hl.2.1]; exact hk) rfl (fun ls' h' => k ls' (hl.set1 (zst_hd hst) (by rw [← hl.2.1]; exact hk) h'))⟩
theorem k_istore {i : Nat} (d : decode cc pc = .ok (.istore i, 2)) : IOk y cc nL ret lv pc (zi_st 0 i (pc + 2)) := by
  intro L st h o e
  obtain ⟨v, st', rfl, ht, hk, rfl⟩ := zi_st_o e
  obtain ⟨x, rfl⟩ := ztag_I ht
  exact iok_loc fun G p l e R s m args below meth c H locs cells slots Q ls hx hb hl hst => ⟨zst_tl hst, fun k => lv_istore hx hb d hl.has (by rw [← hl.2.1]; exact hk) rfl (fun ls' h' => k ls' (hl.set1 (zst_hd hst) (by rw [← hl.2.1]; exact hk) h'))⟩
theorem k_astore_n {k : Fin 4} {i : Nat} (d : decode cc pc = .ok (.astore_n k, 1)) (hi : (k : Nat) = i := by rfl) : IOk y cc nL ret lv pc (zi_st 1 i (pc + 1)) := by
  intro L st h o e
  obtain ⟨v, st', rfl, ht, hk, rfl⟩ := zi_st_o e
  obtain ⟨x, rfl⟩ := ztag_R ht
  refine iok_loc fun G p l e R s m args below meth c H locs cells slots Q ls hx hb hl hst => ⟨zst_tl hst, fun k => ?_⟩
  have k9 : ∀ ls' : Array Slot, lv_has ls' nL ((i, va_rf (x.bind G.2.2.1)) :: (zlist G L).filter (fun q => !(q.1 == i) && !(q.1 + 1 == i && q.2.category == 2))) → W p l e R s m args below meth c H locs cells slots Q (F0 m (pc + 1) ls' (st'.map (zcv G))) := fun ls' h' => k ls' (hl.set1 (zst_hd hst) (by rw [← hl.2.1]; exact hk) h')
  show W p l e R s m args below meth c H locs cells slots Q (F0 m pc ls (va_rf (x.bind G.2.2.1) :: st'.map (zcv G)))
  cases hq : x.bind G.2.2.1 with
  | none => rw [hq] at k9; exact lv_astore_nN hx hb d hi hl.has (by rw [← hl.2.1]; exact hk) rfl k9
  | some q => rw [hq] at k9; exact lv_astore_n hx hb d hi hl.has (by rw [← hl.2.1]; exact hk) rfl k9
theorem k_astore {i : Nat} (d : decode cc pc = .ok (.astore i, 2)) : IOk y cc nL ret lv pc (zi_st 1 i (pc + 2)) := by
  intro L st h o e
  obtain ⟨v, st', rfl, ht, hk, rfl⟩ := zi_st_o e
  obtain ⟨x, rfl⟩ := ztag_R ht
  refine iok_loc fun G p l e R s m args below meth c H locs cells slots Q ls hx hb hl hst => ⟨zst_tl hst, fun k => ?_⟩
  have k9 : ∀ ls' : Array Slot, lv_has ls' nL ((i, va_rf (x.bind G.2.2.1)) :: (zlist G L).filter (fun q => !(q.1 == i) && !(q.1 + 1 == i && q.2.category == 2))) → W p l e R s m args below meth c H locs cells slots Q (F0 m (pc + 2) ls' (st'.map (zcv G))) := fun ls' h' => k ls' (hl.set1 (zst_hd hst) (by rw [← hl.2.1]; exact hk) h')
  show W p l e R s m args below meth c H locs cells slots Q (F0 m pc ls (va_rf (x.bind G.2.2.1) :: st'.map (zcv G)))
  cases hq : x.bind G.2.2.1 with
  | none => rw [hq] at k9; exact lv_astoreN hx hb d hl.has (by rw [← hl.2.1]; exact hk) rfl k9
  | some q => rw [hq] at k9; exact lv_astore hx hb d hl.has (by rw [← hl.2.1]; exact hk) rfl k9
theorem zi_stL_o {k n : Nat} {L st : List ZV} {h : PH} {o : ZS ⊕ ZR} (e : zi_stL k n L st h = some o) : ∃ x st', st = .inr (.inl x) :: st' ∧ k + 1 < L.length ∧ o = .inl (n, ((zclr L k).set k (.inr (.inl x))).set (k + 1) zvu, st', h) := by
  unfold zi_stL at e
  split at e
  · rename_i v st'
    by_cases hc : zisL v = true ∧ k + 1 < L.length
    · rw [if_pos hc] at e
      match v, hc.1 with
      | .inr (.inl x), _ => exact ⟨x, st', rfl, hc.2, (Option.some.inj e).symm⟩
    · rw [if_neg hc] at e; cases e
  · cases e
theorem k_lstore_n {k : Fin 4} {i : Nat} (d : decode cc pc = .ok (.lstore_n k, 1)) (hi : (k : Nat) = i := by rfl) : IOk y cc nL ret lv pc (zi_stL i (pc + 1)) := by
  intro L st h o e
  obtain ⟨x, st', rfl, hk, rfl⟩ := zi_stL_o e
  exact iok_loc fun G p l e R s m args below meth c H locs cells slots Q ls hx hb hl hst => ⟨zst_tl hst, fun k => lv_lstore_n hx hb d hi hl.has (by rw [← hl.2.1]; exact hk) rfl (fun ls' h' => k ls' (hl.set2 (zst_hd hst) (by rw [← hl.2.1]; exact hk) h'))⟩
theorem k_lstore {i : Nat} (d : decode cc pc = .ok (.lstore i, 2)) : IOk y cc nL ret lv pc (zi_stL i (pc + 2)) := by
  intro L st h o e
  obtain ⟨x, st', rfl, hk, rfl⟩ := zi_stL_o e
  exact iok_loc fun G p l e R s m args below meth c H locs cells slots Q ls hx hb hl hst => ⟨zst_tl hst, fun k => lv_lstore hx hb d hl.has (by rw [← hl.2.1]; exact hk) rfl (fun ls' h' => k ls' (hl.set2 (zst_hd hst) (by rw [← hl.2.1]; exact hk) h'))⟩
theorem k_iinc {i : Nat} {dd : Int} (d : decode cc pc = .ok (.iinc i dd, 3)) : IOk y cc nL ret lv pc (zi_iinc i dd (pc + 3)) := by
  intro L st h o e
  unfold zi_iinc at e
  split at e
  · rename_i x hv
    obtain rfl := Option.some.inj e
    refine iok_loc fun G p l e R s m args below meth c H locs cells slots Q ls hx hb hl hst => ⟨hst, fun k => ?_⟩
    have hk : i < nL := by rw [← hl.2.1]; exact (List.getElem?_eq_some_iff.mp hv).1
    obtain ⟨j, hj⟩ := List.getElem?_of_mem (zlist_mem (G := G) (q := (i, .int (Int32.ofInt x))).mpr ⟨_, hv, rfl, rfl⟩)
    exact lv_iinc (v := Int32.ofInt (w32 (x + dd))) hx hb d hl.has hj (by rw [i32_add]) hk rfl (fun ls' h' => k ls' (hl.set1 (v := zvi (w32 (x + dd))) (w32_b _) hk h'))
  · cases e
end
