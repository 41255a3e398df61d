/-! Z 9: soundness: stack, branches, locals (partly written by a program) -/
section
variable {y : MethodName} {cc : ByteArray} {nL : Nat} {ret : Option FieldType} {lv pc n t : Nat} {L st st' : List ZV} {h : PH}
theorem zcat1 {G : ZG} {v : ZV} (h : zisL v = false) : (zcv G v).category = 1 := by
  match v, h with
  | .inl _, _ => rfl
  | .inr (.inr (.inl none)), _ => rfl
  | .inr (.inr (.inl (some a))), _ =>
    show (va_rf (G.2.2.1 a)).category = 1
    cases G.2.2.1 a <;> rfl
  | .inr (.inr (.inr _)), _ => rfl
theorem zcat2 {G : ZG} {v : ZV} (h : zisL v = true) : (zcv G v).category = 2 := by
  match v, h with
  | .inr (.inl _), _ => rfl
theorem zlcmp_i {a b : Int} (ha : zok (Sum.inr (Sum.inl a))) (hb : zok (Sum.inr (Sum.inl b))) : lg_cmp (Int64.ofInt a) (Int64.ofInt b) = Int32.ofInt (zlcmp a b) := by
  have ha' : -9223372036854775808 ≤ a ∧ a ≤ 9223372036854775807 := ha
  have hb' : -9223372036854775808 ≤ b ∧ b ≤ 9223372036854775807 := hb
  unfold lg_cmp zlcmp
  have e1 := i64_lt hb' ha'
  have e2 := i64_eq ha' hb'
  by_cases h1 : a < b
  · have h4 : ¬ Int64.ofInt b < Int64.ofInt a := fun z => absurd (e1.mp z) (by omega)
    have h5 : ¬ Int64.ofInt a = Int64.ofInt b := fun z => absurd (e2.mp z) (by omega)
    rw [if_pos h1, if_neg h4, if_neg h5]; rfl
  · by_cases h2 : a = b
    · have h4 : ¬ Int64.ofInt b < Int64.ofInt a := fun z => absurd (e1.mp z) (by omega)
      rw [if_neg h1, if_pos h2, if_neg h4, if_pos (e2.mpr h2)]; rfl
    · rw [if_neg h1, if_neg h2, if_pos (e1.mpr (by omega))]; rfl
theorem k_lcmp (d : decode cc pc = .ok (.lcmp, 1)) : IOk y cc nL ret lv pc (zi_lcmp (pc + 1)) := by
  intro L st h o e
  unfold zi_lcmp at e
  split at e
  · obtain rfl := Option.some.inj e
    exact iok_stk fun G p l e R s m args below meth c H locs cells slots Q ls hx hb _ _ _ _ _ _ hst => ⟨zst_cons (zlcmp_b _ _) (zst_tl (zst_tl hst)), fun k => W.lcmp hx hb d (by rw [zlcmp_i (zst_hd (zst_tl hst)) (zst_hd hst)]; exact k)⟩
  · cases e
theorem k_dup (d : decode cc pc = .ok (.dup, 1)) : IOk y cc nL ret lv pc (zi_dup (pc + 1)) := by
  intro L st h o e
  unfold zi_dup at e
  split at e
  · rename_i v st'
    cases hv : zisL v with
    | true => rw [hv] at e; cases e
    | false =>
      rw [hv] at e
      obtain rfl := Option.some.inj e
      exact iok_stk fun G p l e R s m args below meth c H locs cells slots Q ls hx hb _ _ _ _ _ _ hst => ⟨zst_cons (zst_hd hst) hst, fun k => lv_dup hx hb d (zcat1 hv) k⟩
  · cases e
theorem k_pop (d : decode cc pc = .ok (.pop, 1)) : IOk y cc nL ret lv pc (zi_pop (pc + 1)) := by
  intro L st h o e
  unfold zi_pop at e
  split at e
  · rename_i v st'
    cases hv : zisL v with
    | true => rw [hv] at e; cases e
    | false =>
      rw [hv] at e
      obtain rfl := Option.some.inj e
      exact iok_stk fun G p l e R s m args below meth c H locs cells slots Q ls hx hb _ _ _ _ _ _ hst => ⟨zst_tl hst, fun k => lv_pop hx hb d (zcat1 hv) k⟩
  · cases e
theorem k_dupx1 (d : decode cc pc = .ok (.dup_x1, 1)) : IOk y cc nL ret lv pc (zi_dupx1 (pc + 1)) := by
  intro L st h o e
  unfold zi_dupx1 at e
  split at e
  · rename_i v w st'
    cases hv : zisL v with
    | true => rw [hv] at e; cases e
    | false =>
      cases hw : zisL w with
      | true => rw [hv, hw] at e; cases e
      | false =>
        rw [hv, hw] at e
        obtain rfl := Option.some.inj e
        exact iok_stk fun G p l e R s m args below meth c H locs cells slots Q ls hx hb _ _ _ _ _ _ hst => ⟨zst_cons (zst_hd hst) (zst_cons (zst_hd (zst_tl hst)) (zst_cons (zst_hd hst) (zst_tl (zst_tl hst)))), fun k => lv_dup_x1 hx hb d (zcat1 hv) (zcat1 hw) k⟩
  · cases e
theorem k_dup2 (d : decode cc pc = .ok (.dup2, 1)) : IOk y cc nL ret lv pc (zi_dup2 (pc + 1)) := by
  intro L st h o e
  unfold zi_dup2 at e
  split at e
  · rename_i v w st'
    cases hv : zisL v with
    | true => rw [hv] at e; cases e
    | false =>
      cases hw : zisL w with
      | true => rw [hv, hw] at e; cases e
      | false =>
        rw [hv, hw] at e
        obtain rfl := Option.some.inj e
        exact iok_stk fun G p l e R s m args below meth c H locs cells slots Q ls hx hb _ _ _ _ _ _ hst => ⟨zst_cons (zst_hd hst) (zst_cons (zst_hd (zst_tl hst)) hst), fun k => lv_dup2_11 hx hb d (zcat1 hv) (zcat1 hw) k⟩
  · cases e
theorem k_dup2L (d : decode cc pc = .ok (.dup2, 1)) : IOk y cc nL ret lv pc (zi_dup2L (pc + 1)) := by
  intro L st h o e
  unfold zi_dup2L at e
  split at e
  · rename_i v st'
    cases hv : zisL v with
    | false => rw [hv] at e; cases e
    | true =>
      rw [hv] at e
      obtain rfl := Option.some.inj e
      exact iok_stk fun G p l e R s m args below meth c H locs cells slots Q ls hx hb _ _ _ _ _ _ hst => ⟨zst_cons (zst_hd hst) hst, fun k => lv_dup2_2 hx hb d (zcat2 hv) k⟩
  · cases e
theorem zk0 : -2147483648 ≤ (0 : Int) ∧ (0 : Int) ≤ 2147483647 := ⟨by decide, by decide⟩
theorem k_ifeq {off : Int} (d : decode cc pc = .ok (.ifCond .eq off, 3)) (ht : (pc : Int) + off = (t : Int)) : IOk y cc nL ret lv pc (zi_if (fun a => zc_eq a 0) t (pc + 3)) := by
  intro L st h o e
  unfold zi_if at e
  split at e
  · rename_i a st'
    dsimp only at e
    cases hv : zc_eq a 0 with
    | true =>
      rw [hv] at e
      obtain rfl := Option.some.inj e
      have hp := of_decide_eq_true hv
      exact iok_stk fun G p l e R s m args below meth c H locs cells slots Q ls hx hb _ _ _ _ _ _ hst => ⟨zst_tl hst, fun k => lv_if_eq hx hb d ht (fun _ => k) (fun h9 => absurd ((i32_eq (zst_hd hst) zk0).mpr hp) h9)⟩
    | false =>
      rw [hv] at e
      obtain rfl := Option.some.inj e
      have hp := of_decide_eq_false hv
      exact iok_stk fun G p l e R s m args below meth c H locs cells slots Q ls hx hb _ _ _ _ _ _ hst => ⟨zst_tl hst, fun k => lv_if_eq hx hb d ht (fun h9 => absurd ((i32_eq (zst_hd hst) zk0).mp h9) hp) (fun _ => k)⟩
  · cases e
theorem k_cmpeq {off : Int} (d : decode cc pc = .ok (.if_icmp .eq off, 3)) (ht : (pc : Int) + off = (t : Int)) : IOk y cc nL ret lv pc (zi_cmp zc_eq t (pc + 3)) := by
  intro L st h o e
  unfold zi_cmp at e
  split at e
  · rename_i b a st'
    cases hv : zc_eq a b with
    | true =>
      rw [hv] at e
      obtain rfl := Option.some.inj e
      have hp := of_decide_eq_true hv
      exact iok_stk fun G p l e R s m args below meth c H locs cells slots Q ls hx hb _ _ _ _ _ _ hst => ⟨zst_tl (zst_tl hst), fun k => lv_icmp_eq hx hb d ht (fun _ => k) (fun h9 => absurd ((i32_eq (zst_hd (zst_tl hst)) (zst_hd hst)).mpr hp) h9)⟩
    | false =>
      rw [hv] at e
      obtain rfl := Option.some.inj e
      have hp := of_decide_eq_false hv
      exact iok_stk fun G p l e R s m args below meth c H locs cells slots Q ls hx hb _ _ _ _ _ _ hst => ⟨zst_tl (zst_tl hst), fun k => lv_icmp_eq hx hb d ht (fun h9 => absurd ((i32_eq (zst_hd (zst_tl hst)) (zst_hd hst)).mp h9) hp) (fun _ => k)⟩
  · cases e
theorem k_ifne {off : Int} (d : decode cc pc = .ok (.ifCond .ne off, 3)) (ht : (pc : Int) + off = (t : Int)) : IOk y cc nL ret lv pc (zi_if (fun a => zc_ne a 0) t (pc + 3)) := by
  intro L st h o e
  unfold zi_if at e
  split at e
  · rename_i a st'
    dsimp only at e
    cases hv : zc_ne a 0 with
    | true =>
      rw [hv] at e
      obtain rfl := Option.some.inj e
      have hp := of_decide_eq_true hv
      exact iok_stk fun G p l e R s m args below meth c H locs cells slots Q ls hx hb _ _ _ _ _ _ hst => ⟨zst_tl hst, fun k => lv_if_ne hx hb d ht (fun _ => k) (fun h9 => absurd h9 ((not_congr (i32_eq (zst_hd hst) zk0)).mpr hp))⟩
    | false =>
      rw [hv] at e
      obtain rfl := Option.some.inj e
      have hp := of_decide_eq_false hv
      exact iok_stk fun G p l e R s m args below meth c H locs cells slots Q ls hx hb _ _ _ _ _ _ hst => ⟨zst_tl hst, fun k => lv_if_ne hx hb d ht (fun h9 => absurd ((not_congr (i32_eq (zst_hd hst) zk0)).mp h9) hp) (fun _ => k)⟩
  · cases e
theorem k_cmpne {off : Int} (d : decode cc pc = .ok (.if_icmp .ne off, 3)) (ht : (pc : Int) + off = (t : Int)) : IOk y cc nL ret lv pc (zi_cmp zc_ne t (pc + 3)) := by
  intro L st h o e
  unfold zi_cmp at e
  split at e
  · rename_i b a st'
    cases hv : zc_ne a b with
    | true =>
      rw [hv] at e
      obtain rfl := Option.some.inj e
      have hp := of_decide_eq_true hv
      exact iok_stk fun G p l e R s m args below meth c H locs cells slots Q ls hx hb _ _ _ _ _ _ hst => ⟨zst_tl (zst_tl hst), fun k => lv_icmp_ne hx hb d ht (fun _ => k) (fun h9 => absurd h9 ((not_congr (i32_eq (zst_hd (zst_tl hst)) (zst_hd hst))).mpr hp))⟩
    | false =>
      rw [hv] at e
      obtain rfl := Option.some.inj e
      have hp := of_decide_eq_false hv
      exact iok_stk fun G p l e R s m args below meth c H locs cells slots Q ls hx hb _ _ _ _ _ _ hst => ⟨zst_tl (zst_tl hst), fun k => lv_icmp_ne hx hb d ht (fun h9 => absurd ((not_congr (i32_eq (zst_hd (zst_tl hst)) (zst_hd hst))).mp h9) hp) (fun _ => k)⟩
  · cases e
theorem k_iflt {off : Int} (d : decode cc pc = .ok (.ifCond .lt off, 3)) (ht : (pc : Int) + off = (t : Int)) : IOk y cc nL ret lv pc (zi_if (fun a => zc_lt a 0) t (pc + 3)) := by
  intro L st h o e
  unfold zi_if at e
  split at e
  · rename_i a st'
    dsimp only at e
    cases hv : zc_lt a 0 with
    | true =>
      rw [hv] at e
      obtain rfl := Option.some.inj e
      have hp := of_decide_eq_true hv
      exact iok_stk fun G p l e R s m args below meth c H locs cells slots Q ls hx hb _ _ _ _ _ _ hst => ⟨zst_tl hst, fun k => lv_if_lt hx hb d ht (fun _ => k) (fun h9 => absurd ((i32_lt (zst_hd hst) zk0).mpr hp) h9)⟩
    | false =>
      rw [hv] at e
      obtain rfl := Option.some.inj e
      have hp := of_decide_eq_false hv
      exact iok_stk fun G p l e R s m args below meth c H locs cells slots Q ls hx hb _ _ _ _ _ _ hst => ⟨zst_tl hst, fun k => lv_if_lt hx hb d ht (fun h9 => absurd ((i32_lt (zst_hd hst) zk0).mp h9) hp) (fun _ => k)⟩
  · cases e
theorem k_cmplt {off : Int} (d : decode cc pc = .ok (.if_icmp .lt off, 3)) (ht : (pc : Int) + off = (t : Int)) : IOk y cc nL ret lv pc (zi_cmp zc_lt t (pc + 3)) := by
  intro L st h o e
  unfold zi_cmp at e
  split at e
  · rename_i b a st'
    cases hv : zc_lt a b with
    | true =>
      rw [hv] at e
      obtain rfl := Option.some.inj e
      have hp := of_decide_eq_true hv
      exact iok_stk fun G p l e R s m args below meth c H locs cells slots Q ls hx hb _ _ _ _ _ _ hst => ⟨zst_tl (zst_tl hst), fun k => lv_icmp_lt hx hb d ht (fun _ => k) (fun h9 => absurd ((i32_lt (zst_hd (zst_tl hst)) (zst_hd hst)).mpr hp) h9)⟩
    | false =>
      rw [hv] at e
      obtain rfl := Option.some.inj e
      have hp := of_decide_eq_false hv
      exact iok_stk fun G p l e R s m args below meth c H locs cells slots Q ls hx hb _ _ _ _ _ _ hst => ⟨zst_tl (zst_tl hst), fun k => lv_icmp_lt hx hb d ht (fun h9 => absurd ((i32_lt (zst_hd (zst_tl hst)) (zst_hd hst)).mp h9) hp) (fun _ => k)⟩
  · cases e
theorem k_ifge {off : Int} (d : decode cc pc = .ok (.ifCond .ge off, 3)) (ht : (pc : Int) + off = (t : Int)) : IOk y cc nL ret lv pc (zi_if (fun a => zc_ge a 0) t (pc + 3)) := by
  intro L st h o e
  unfold zi_if at e
  split at e
  · rename_i a st'
    dsimp only at e
    cases hv : zc_ge a 0 with
    | true =>
      rw [hv] at e
      obtain rfl := Option.some.inj e
      have hp := of_decide_eq_true hv
      exact iok_stk fun G p l e R s m args below meth c H locs cells slots Q ls hx hb _ _ _ _ _ _ hst => ⟨zst_tl hst, fun k => lv_if_ge hx hb d ht (fun _ => k) (fun h9 => absurd ((i32_le zk0 (zst_hd hst)).mpr hp) h9)⟩
    | false =>
      rw [hv] at e
      obtain rfl := Option.some.inj e
      have hp := of_decide_eq_false hv
      exact iok_stk fun G p l e R s m args below meth c H locs cells slots Q ls hx hb _ _ _ _ _ _ hst => ⟨zst_tl hst, fun k => lv_if_ge hx hb d ht (fun h9 => absurd ((i32_le zk0 (zst_hd hst)).mp h9) hp) (fun _ => k)⟩
  · cases e
theorem k_cmpge {off : Int} (d : decode cc pc = .ok (.if_icmp .ge off, 3)) (ht : (pc : Int) + off = (t : Int)) : IOk y cc nL ret lv pc (zi_cmp zc_ge t (pc + 3)) := by
  intro L st h o e
  unfold zi_cmp at e
  split at e
  · rename_i b a st'
    cases hv : zc_ge a b with
    | true =>
      rw [hv] at e
      obtain rfl := Option.some.inj e
      have hp := of_decide_eq_true hv
      exact iok_stk fun G p l e R s m args below meth c H locs cells slots Q ls hx hb _ _ _ _ _ _ hst => ⟨zst_tl (zst_tl hst), fun k => lv_icmp_ge hx hb d ht (fun _ => k) (fun h9 => absurd ((i32_le (zst_hd hst) (zst_hd (zst_tl hst))).mpr hp) h9)⟩
    | false =>
      rw [hv] at e
      obtain rfl := Option.some.inj e
      have hp := of_decide_eq_false hv
      exact iok_stk fun G p l e R s m args below meth c H locs cells slots Q ls hx hb _ _ _ _ _ _ hst => ⟨zst_tl (zst_tl hst), fun k => lv_icmp_ge hx hb d ht (fun h9 => absurd ((i32_le (zst_hd hst) (zst_hd (zst_tl hst))).mp h9) hp) (fun _ => k)⟩
  · cases e
theorem k_ifgt {off : Int} (d : decode cc pc = .ok (.ifCond .gt off, 3)) (ht : (pc : Int) + off = (t : Int)) : IOk y cc nL ret lv pc (zi_if (fun a => zc_gt a 0) t (pc + 3)) := by
  intro L st h o e
  unfold zi_if at e
  split at e
  · rename_i a st'
    dsimp only at e
    cases hv : zc_gt a 0 with
    | true =>
      rw [hv] at e
      obtain rfl := Option.some.inj e
      have hp := of_decide_eq_true hv
      exact iok_stk fun G p l e R s m args below meth c H locs cells slots Q ls hx hb _ _ _ _ _ _ hst => ⟨zst_tl hst, fun k => lv_if_gt hx hb d ht (fun _ => k) (fun h9 => absurd ((i32_lt zk0 (zst_hd hst)).mpr hp) h9)⟩
    | false =>
      rw [hv] at e
      obtain rfl := Option.some.inj e
      have hp := of_decide_eq_false hv
      exact iok_stk fun G p l e R s m args below meth c H locs cells slots Q ls hx hb _ _ _ _ _ _ hst => ⟨zst_tl hst, fun k => lv_if_gt hx hb d ht (fun h9 => absurd ((i32_lt zk0 (zst_hd hst)).mp h9) hp) (fun _ => k)⟩
  · cases e
theorem k_cmpgt {off : Int} (d : decode cc pc = .ok (.if_icmp .gt off, 3)) (ht : (pc : Int) + off = (t : Int)) : IOk y cc nL ret lv pc (zi_cmp zc_gt t (pc + 3)) := by
  intro L st h o e
  unfold zi_cmp at e
  split at e
  · rename_i b a st'
    cases hv : zc_gt a b with
    | true =>
      rw [hv] at e
      obtain rfl := Option.some.inj e
      have hp := of_decide_eq_true hv
      exact iok_stk fun G p l e R s m args below meth c H locs cells slots Q ls hx hb _ _ _ _ _ _ hst => ⟨zst_tl (zst_tl hst), fun k => lv_icmp_gt hx hb d ht (fun _ => k) (fun h9 => absurd ((i32_lt (zst_hd hst) (zst_hd (zst_tl hst))).mpr hp) h9)⟩
    | false =>
      rw [hv] at e
      obtain rfl := Option.some.inj e
      have hp := of_decide_eq_false hv
      exact iok_stk fun G p l e R s m args below meth c H locs cells slots Q ls hx hb _ _ _ _ _ _ hst => ⟨zst_tl (zst_tl hst), fun k => lv_icmp_gt hx hb d ht (fun h9 => absurd ((i32_lt (zst_hd hst) (zst_hd (zst_tl hst))).mp h9) hp) (fun _ => k)⟩
  · cases e
theorem k_ifle {off : Int} (d : decode cc pc = .ok (.ifCond .le off, 3)) (ht : (pc : Int) + off = (t : Int)) : IOk y cc nL ret lv pc (zi_if (fun a => zc_le a 0) t (pc + 3)) := by
  intro L st h o e
  unfold zi_if at e
  split at e
  · rename_i a st'
    dsimp only at e
    cases hv : zc_le a 0 with
    | true =>
      rw [hv] at e
      obtain rfl := Option.some.inj e
      have hp := of_decide_eq_true hv
      exact iok_stk fun G p l e R s m args below meth c H locs cells slots Q ls hx hb _ _ _ _ _ _ hst => ⟨zst_tl hst, fun k => lv_if_le hx hb d ht (fun _ => k) (fun h9 => absurd ((i32_le (zst_hd hst) zk0).mpr hp) h9)⟩
    | false =>
      rw [hv] at e
      obtain rfl := Option.some.inj e
      have hp := of_decide_eq_false hv
      exact iok_stk fun G p l e R s m args below meth c H locs cells slots Q ls hx hb _ _ _ _ _ _ hst => ⟨zst_tl hst, fun k => lv_if_le hx hb d ht (fun h9 => absurd ((i32_le (zst_hd hst) zk0).mp h9) hp) (fun _ => k)⟩
  · cases e
theorem k_cmple {off : Int} (d : decode cc pc = .ok (.if_icmp .le off, 3)) (ht : (pc : Int) + off = (t : Int)) : IOk y cc nL ret lv pc (zi_cmp zc_le t (pc + 3)) := by
  intro L st h o e
  unfold zi_cmp at e
  split at e
  · rename_i b a st'
    cases hv : zc_le a b with
    | true =>
      rw [hv] at e
      obtain rfl := Option.some.inj e
      have hp := of_decide_eq_true hv
      exact iok_stk fun G p l e R s m args below meth c H locs cells slots Q ls hx hb _ _ _ _ _ _ hst => ⟨zst_tl (zst_tl hst), fun k => lv_icmp_le hx hb d ht (fun _ => k) (fun h9 => absurd ((i32_le (zst_hd (zst_tl hst)) (zst_hd hst)).mpr hp) h9)⟩
    | false =>
      rw [hv] at e
      obtain rfl := Option.some.inj e
      have hp := of_decide_eq_false hv
      exact iok_stk fun G p l e R s m args below meth c H locs cells slots Q ls hx hb _ _ _ _ _ _ hst => ⟨zst_tl (zst_tl hst), fun k => lv_icmp_le hx hb d ht (fun h9 => absurd ((i32_le (zst_hd (zst_tl hst)) (zst_hd hst)).mp h9) hp) (fun _ => k)⟩
  · cases e
theorem k_goto {off : Int} (d : decode cc pc = .ok (.goto off, 3)) (ht : (pc : Int) + off = (t : Int)) : IOk y cc nL ret lv pc (zi_goto t) := by
  intro L st h o e
  obtain rfl := Option.some.inj e
  exact iok_stk fun G p l e R s m args below meth c H locs cells slots Q ls hx hb _ _ _ _ _ _ hst => ⟨hst, fun k => lv_goto hx hb d ht k⟩
/-- an address with a kind isn't null -/
theorem ZRep.ref {G : ZG} {U : State} {h : PH} {H : Heap} (hr : ZRep G U h H) (hG : ZGlob G U) {a : Nat} (h1 : (ph_K h a).1 ≠ 0) : ∃ q, G.2.2.1 a = .some q ∧ ((ph_K h a).1 < 1000 → q = G.2.2.2 + a) ∧ (1000 ≤ (ph_K h a).1 → zold a) := by
  obtain ⟨h2, h3⟩ := hr.2.2.1 a h1
  by_cases c1 : (ph_K h a).1 % 1000 ≤ 7
  · obtain ⟨q, cell, e1, -⟩ := hr.arr (by omega) c1
    refine ⟨q, e1, fun h4 => ?_, fun h4 => ?_⟩
    · have h5 := (hr.at hG.2.2.2.2.1 h1 h4).2
      exact Option.some.inj (e1.symm.trans h5)
    · rcases h3 with ⟨h5, -⟩ | ⟨-, h5⟩ <;> first | omega | exact h5
  · by_cases c2 : (ph_K h a).1 % 1000 = 8
    · have hz := hr.2.2.2.2 a
      unfold zat at hz
      rw [if_neg h2, if_neg c1, if_pos c2] at hz
      obtain ⟨q, e1⟩ := hz
      refine ⟨q, e1, fun h4 => ?_, fun h4 => ?_⟩
      · have h5 := (hr.at hG.2.2.2.2.1 h1 h4).2
        exact Option.some.inj (e1.symm.trans h5)
      · rcases h3 with ⟨h5, -⟩ | ⟨-, h5⟩ <;> first | omega | exact h5
    · have hz := hr.2.2.2.2 a
      unfold zat at hz
      rw [if_neg h2, if_neg c1, if_neg c2] at hz
      obtain ⟨k1, q, r, e1, -⟩ := hz
      refine ⟨q, e1, fun h4 => ?_, fun h4 => ?_⟩
      · have h5 := (hr.at hG.2.2.2.2.1 h1 h4).2
        exact Option.some.inj (e1.symm.trans h5)
      · rcases h3 with ⟨h5, -⟩ | ⟨-, h5⟩ <;> first | omega | exact h5
theorem k_null {off : Int} (d : decode cc pc = .ok (.ifnull off, 3)) (ht : (pc : Int) + off = (t : Int)) : IOk y cc nL ret lv pc (zi_null t (pc + 3)) := by
  intro L st h o e
  unfold zi_null at e
  split at e
  · obtain rfl := Option.some.inj e
    exact iok_stk fun G p l e R s m args below meth c H locs cells slots Q ls hx hb _ _ _ _ _ _ hst => ⟨zst_tl hst, fun k => lv_ifnullN hx hb d ht k⟩
  · rename_i a st'
    by_cases hz : (ph_K h a).1 ≠ 0
    · rw [if_pos hz] at e
      obtain rfl := Option.some.inj e
      refine iok_stk fun G p l e R s m args below meth c H locs cells slots Q ls hx hb _ _ hG hr _ _ hst => ⟨zst_tl hst, fun k => ?_⟩
      obtain ⟨q, hq, -⟩ := hr.ref hG hz
      show W p l e R s m args below meth c H locs cells slots Q (F0 m pc ls (va_rf (G.2.2.1 a) :: st'.map (zcv G)))
      rw [hq]
      exact lv_ifnull hx hb d k
    · rw [if_neg hz] at e; cases e
  · cases e
theorem k_nonnull {off : Int} (d : decode cc pc = .ok (.ifnonnull off, 3)) (ht : (pc : Int) + off = (t : Int)) : IOk y cc nL ret lv pc (zi_nonnull t (pc + 3)) := by
  intro L st h o e
  unfold zi_nonnull at e
  split at e
  · obtain rfl := Option.some.inj e
    exact iok_stk fun G p l e R s m args below meth c H locs cells slots Q ls hx hb _ _ _ _ _ _ hst => ⟨zst_tl hst, fun k => lv_ifnonnullN hx hb d k⟩
  · rename_i a st'
    by_cases hz : (ph_K h a).1 ≠ 0
    · rw [if_pos hz] at e
      obtain rfl := Option.some.inj e
      refine iok_stk fun G p l e R s m args below meth c H locs cells slots Q ls hx hb _ _ hG hr _ _ hst => ⟨zst_tl hst, fun k => ?_⟩
      obtain ⟨q, hq, -⟩ := hr.ref hG hz
      show W p l e R s m args below meth c H locs cells slots Q (F0 m pc ls (va_rf (G.2.2.1 a) :: st'.map (zcv G)))
      rw [hq]
      exact lv_ifnonnull hx hb d ht k
    · rw [if_neg hz] at e; cases e
  · cases e
theorem zcomp_iff {G : ZG} {U : State} {h : PH} {H : Heap} (hr : ZRep G U h H) (hG : ZGlob G U) {x y : Option Nat} (hc : zcomp h x y = true) : x.bind G.2.2.1 = y.bind G.2.2.1 ↔ x = y := by
  constructor
  · intro e
    match x, y, hc, e with
    | none, none, _, _ => rfl
    | some a, none, hc, e =>
      obtain ⟨q, hq, -⟩ := hr.ref hG (of_decide_eq_true hc)
      have e' : G.2.2.1 a = none := e
      rw [hq] at e'; cases e'
    | none, some b, hc, e =>
      obtain ⟨q, hq, -⟩ := hr.ref hG (of_decide_eq_true hc)
      have e' : none = G.2.2.1 b := e
      rw [hq] at e'; cases e'
    | some a, some b, hc, e =>
      have e' : G.2.2.1 a = G.2.2.1 b := e
      simp only [zcomp, Bool.or_eq_true, Bool.and_eq_true, decide_eq_true_eq] at hc
      rcases hc with hc | ⟨h1, h2, h3⟩
      · rw [hc]
      · obtain ⟨q1, hq1, n1, o1⟩ := hr.ref hG h1
        obtain ⟨q2, hq2, n2, o2⟩ := hr.ref hG h2
        rw [hq1, hq2] at e'
        have e9 := Option.some.inj e'
        by_cases c1 : (ph_K h a).1 < 1000
        · by_cases c2 : (ph_K h b).1 < 1000
          · have := n1 c1; have := n2 c2
            have : a = b := by omega
            rw [this]
          · have := n1 c1
            have := hG.2.2.2.2.1.2 b q2 (o2 (by omega)) hq2
            omega
        · rcases h3 with h3 | h3
          · omega
          · have := n2 h3
            have := hG.2.2.2.2.1.2 a q1 (o1 (by omega)) hq1
            omega
  · intro e; rw [e]
theorem k_acmpeq {off : Int} (d : decode cc pc = .ok (.if_acmp .eq off, 3)) (ht : (pc : Int) + off = (t : Int)) : IOk y cc nL ret lv pc (zi_acmp t (pc + 3)) := by
  intro L st h o e
  unfold zi_acmp at e
  split at e
  · rename_i r2 r1 st'
    cases hv : zcomp h r1 r2 with
    | false => rw [hv] at e; cases e
    | true =>
      rw [hv] at e
      by_cases hxy : r1 = r2
      · have e2 : zgo t L st' h = some o := by rw [← e]; simp [hxy]
        obtain rfl := Option.some.inj e2
        exact iok_stk fun G p l e R s m args below meth c H locs cells slots Q ls hx hb _ _ hG hr _ _ hst => ⟨zst_tl (zst_tl hst), fun k => lv_acmp_eq hx hb d ht (fun _ => k) (fun h9 => absurd ((zcomp_iff hr hG hv).mpr hxy) h9)⟩
      · have e2 : zgo (pc + 3) L st' h = some o := by rw [← e]; simp [hxy]
        obtain rfl := Option.some.inj e2
        exact iok_stk fun G p l e R s m args below meth c H locs cells slots Q ls hx hb _ _ hG hr _ _ hst => ⟨zst_tl (zst_tl hst), fun k => lv_acmp_eq hx hb d ht (fun h9 => absurd ((zcomp_iff hr hG hv).mp h9) hxy) (fun _ => k)⟩
  · cases e
theorem k_acmpne {off : Int} (d : decode cc pc = .ok (.if_acmp .ne off, 3)) (ht : (pc : Int) + off = (t : Int)) : IOk y cc nL ret lv pc (zi_acmp (pc + 3) t) := by
  intro L st h o e
  unfold zi_acmp at e
  split at e
  · rename_i r2 r1 st'
    cases hv : zcomp h r1 r2 with
    | false => rw [hv] at e; cases e
    | true =>
      rw [hv] at e
      by_cases hxy : r1 = r2
      · have e2 : zgo (pc + 3) L st' h = some o := by rw [← e]; simp [hxy]
        obtain rfl := Option.some.inj e2
        exact iok_stk fun G p l e R s m args below meth c H locs cells slots Q ls hx hb _ _ hG hr _ _ hst => ⟨zst_tl (zst_tl hst), fun k => lv_acmp_ne hx hb d ht (fun h9 => absurd ((zcomp_iff hr hG hv).mpr hxy) h9) (fun _ => k)⟩
      · have e2 : zgo t L st' h = some o := by rw [← e]; simp [hxy]
        obtain rfl := Option.some.inj e2
        exact iok_stk fun G p l e R s m args below meth c H locs cells slots Q ls hx hb _ _ hG hr _ _ hst => ⟨zst_tl (zst_tl hst), fun k => lv_acmp_ne hx hb d ht (fun _ => k) (fun h9 => absurd ((zcomp_iff hr hG hv).mp h9) hxy)⟩
  · cases e
theorem k_sw {lo hi dflt : Int} {offs : Array Int} {len : Nat} {ts : List Nat} {dt : Nat} (d : decode cc pc = .ok (.tableswitch dflt lo hi offs, len)) (hd : (pc : Int) + dflt = (dt : Int)) (hts : offs.toList = ts.map (fun t : Nat => (t : Int) - (pc : Int))) (hn : hi - lo < ts.length) : IOk y cc nL ret lv pc (zi_sw lo hi ts dt) := by
  intro L st h o e
  unfold zi_sw at e
  split at e
  · rename_i x st'
    obtain rfl := Option.some.inj e
    refine iok_stk fun G p l e R s m args below meth c H locs cells slots Q ls hx hb _ _ _ _ _ _ hst => ⟨zst_tl hst, fun k => ?_⟩
    have hxx : (Int32.ofInt x).toInt = x := i32_t (zst_hd hst)
    by_cases hc : x < lo ∨ hi < x
    · refine lv_tableOut hx hb d (by rw [hxx]; exact hc) hd ?_
      unfold zswt at k
      rw [if_pos hc] at k
      exact k
    · have h1 : ¬ x < lo := fun z => hc (Or.inl z)
      have h2 : ¬ hi < x := fun z => hc (Or.inr z)
      have hlt : (x - lo).toNat < ts.length := by omega
      refine lv_tableIn (tgt := ts[(x - lo).toNat]) (off := (ts[(x - lo).toNat] : Int) - (pc : Int)) hx hb d (by rw [hxx]; exact h1) (by rw [hxx]; exact h2) ?_ (by omega) ?_
      · rw [hxx, ← Array.getElem?_toList, hts, List.getElem?_map, List.getElem?_eq_getElem hlt]; rfl
      · unfold zswt at k
        rw [if_neg hc, List.getD_eq_getElem?_getD, List.getElem?_eq_getElem hlt] at k
        exact k
  · cases e
end
