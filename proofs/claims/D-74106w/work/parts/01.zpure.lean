/-! Z 1: THE PURE MACHINE: values, heap, instructions as functions, a method's run -/
abbrev ZV : Type := Int ⊕ Int ⊕ Option Nat ⊕ Unit
def zvi (x : Int) : ZV := .inl x
def zvl (x : Int) : ZV := .inr (.inl x)
def zvr (r : Option Nat) : ZV := .inr (.inr (.inl r))
def zvu : ZV := .inr (.inr (.inr ()))
def zisL (v : ZV) : Bool := match v with
  | .inr (.inl _) => true
  | _ => false
def zisU (v : ZV) : Bool := match v with
  | .inr (.inr (.inr _)) => true
  | _ => false
/-- ints, longs, references by address and place; kind and length by address; cells; slots -/
abbrev PH : Type := (Nat → Int → Int) × (Nat → Int → Int) × (Nat → Int → Option Nat) × (Nat → Nat × Nat) × Nat × Nat
def ph_I (h : PH) : Nat → Int → Int := h.1
def ph_J (h : PH) : Nat → Int → Int := h.2.1
def ph_R (h : PH) : Nat → Int → Option Nat := h.2.2.1
def ph_K (h : PH) : Nat → Nat × Nat := h.2.2.2.1
def ph_N (h : PH) : Nat := h.2.2.2.2.1
def ph_S (h : PH) : Nat := h.2.2.2.2.2
def st_I (h : PH) (a : Nat) (k v : Int) : PH := (fun b j => if b = a ∧ j = k then v else ph_I h b j, ph_J h, ph_R h, ph_K h, ph_N h, ph_S h)
def st_J (h : PH) (a : Nat) (k v : Int) : PH := (ph_I h, fun b j => if b = a ∧ j = k then v else ph_J h b j, ph_R h, ph_K h, ph_N h, ph_S h)
def st_R (h : PH) (a : Nat) (k : Int) (v : Option Nat) : PH := (ph_I h, ph_J h, fun b j => if b = a ∧ j = k then v else ph_R h b j, ph_K h, ph_N h, ph_S h)
/-- the whole of an array of ints (references) at once -/
def sa_I (h : PH) (a : Nat) (f : Int → Int) : PH := (fun b j => if b = a then f j else ph_I h b j, ph_J h, ph_R h, ph_K h, ph_N h, ph_S h)
def sa_J (h : PH) (a : Nat) (f : Int → Int) : PH := (ph_I h, fun b j => if b = a then f j else ph_J h b j, ph_R h, ph_K h, ph_N h, ph_S h)
def sa_R (h : PH) (a : Nat) (f : Int → Option Nat) : PH := (ph_I h, ph_J h, fun b j => if b = a then f j else ph_R h b j, ph_K h, ph_N h, ph_S h)
/-- a new cell at the next address -/
def al_ (h : PH) (kd len sl : Nat) : PH := (fun b j => if b = ph_N h then 0 else ph_I h b j, fun b j => if b = ph_N h then 0 else ph_J h b j, fun b j => if b = ph_N h then none else ph_R h b j, fun b => if b = ph_N h then (kd, len) else ph_K h b, ph_N h + 1, ph_S h + sl)
section
variable {h : PH} {a b : Nat} {k j v : Int} {r : Option Nat} {f : Int → Int} {g : Int → Option Nat} {kd len sl : Nat}
theorem pI_I : ph_I (st_I h a k v) b j = if b = a ∧ j = k then v else ph_I h b j := rfl
theorem pI_J : ph_I (st_J h a k v) = ph_I h := rfl
theorem pI_R : ph_I (st_R h a k r) = ph_I h := rfl
theorem pI_aI : ph_I (sa_I h a f) b j = if b = a then f j else ph_I h b j := rfl
theorem pI_aJ : ph_I (sa_J h a f) = ph_I h := rfl
theorem pI_aR : ph_I (sa_R h a g) = ph_I h := rfl
theorem pI_al : ph_I (al_ h kd len sl) b j = if b = ph_N h then 0 else ph_I h b j := rfl
theorem pJ_J : ph_J (st_J h a k v) b j = if b = a ∧ j = k then v else ph_J h b j := rfl
theorem pJ_I : ph_J (st_I h a k v) = ph_J h := rfl
theorem pJ_R : ph_J (st_R h a k r) = ph_J h := rfl
theorem pJ_aI : ph_J (sa_I h a f) = ph_J h := rfl
theorem pJ_aJ : ph_J (sa_J h a f) b j = if b = a then f j else ph_J h b j := rfl
theorem pJ_aR : ph_J (sa_R h a g) = ph_J h := rfl
theorem pJ_al : ph_J (al_ h kd len sl) b j = if b = ph_N h then 0 else ph_J h b j := rfl
theorem pR_R : ph_R (st_R h a k r) b j = if b = a ∧ j = k then r else ph_R h b j := rfl
theorem pR_I : ph_R (st_I h a k v) = ph_R h := rfl
theorem pR_J : ph_R (st_J h a k v) = ph_R h := rfl
theorem pR_aI : ph_R (sa_I h a f) = ph_R h := rfl
theorem pR_aJ : ph_R (sa_J h a f) = ph_R h := rfl
theorem pR_aR : ph_R (sa_R h a g) b j = if b = a then g j else ph_R h b j := rfl
theorem pR_al : ph_R (al_ h kd len sl) b j = if b = ph_N h then none else ph_R h b j := rfl
theorem pK_I : ph_K (st_I h a k v) = ph_K h := rfl
theorem pK_J : ph_K (st_J h a k v) = ph_K h := rfl
theorem pK_R : ph_K (st_R h a k r) = ph_K h := rfl
theorem pK_aI : ph_K (sa_I h a f) = ph_K h := rfl
theorem pK_aJ : ph_K (sa_J h a f) = ph_K h := rfl
theorem pK_aR : ph_K (sa_R h a g) = ph_K h := rfl
theorem pK_al : ph_K (al_ h kd len sl) b = if b = ph_N h then (kd, len) else ph_K h b := rfl
theorem pN_I : ph_N (st_I h a k v) = ph_N h := rfl
theorem pN_J : ph_N (st_J h a k v) = ph_N h := rfl
theorem pN_R : ph_N (st_R h a k r) = ph_N h := rfl
theorem pN_aI : ph_N (sa_I h a f) = ph_N h := rfl
theorem pN_aJ : ph_N (sa_J h a f) = ph_N h := rfl
theorem pN_aR : ph_N (sa_R h a g) = ph_N h := rfl
theorem pN_al : ph_N (al_ h kd len sl) = ph_N h + 1 := rfl
theorem pS_I : ph_S (st_I h a k v) = ph_S h := rfl
theorem pS_J : ph_S (st_J h a k v) = ph_S h := rfl
theorem pS_R : ph_S (st_R h a k r) = ph_S h := rfl
theorem pS_aI : ph_S (sa_I h a f) = ph_S h := rfl
theorem pS_aJ : ph_S (sa_J h a f) = ph_S h := rfl
theorem pS_aR : ph_S (sa_R h a g) = ph_S h := rfl
theorem pS_al : ph_S (al_ h kd len sl) = ph_S h + sl := rfl
end
theorem ph_ext {h1 h2 : PH} (e1 : ∀ a k, ph_I h1 a k = ph_I h2 a k) (e2 : ∀ a k, ph_J h1 a k = ph_J h2 a k) (e3 : ∀ a k, ph_R h1 a k = ph_R h2 a k) (e4 : ∀ a, ph_K h1 a = ph_K h2 a) (e5 : ph_N h1 = ph_N h2) (e6 : ph_S h1 = ph_S h2) : h1 = h2 := by
  obtain ⟨a1, a2, a3, a4, a5, a6⟩ := h1
  obtain ⟨b1, b2, b3, b4, b5, b6⟩ := h2
  have q1 : a1 = b1 := funext fun a => funext fun k => e1 a k
  have q2 : a2 = b2 := funext fun a => funext fun k => e2 a k
  have q3 : a3 = b3 := funext fun a => funext fun k => e3 a k
  have q4 : a4 = b4 := funext fun a => e4 a
  have q5 : a5 = b5 := e5
  have q6 : a6 = b6 := e6
  rw [q1, q2, q3, q4, q5, q6]
/-- numbers as the machine keeps them -/
def w32 (x : Int) : Int := Int.bmod x 4294967296
def w64 (x : Int) : Int := Int.bmod x 18446744073709551616
theorem w32_id {x : Int} (h1 : -2147483648 ≤ x) (h2 : x ≤ 2147483647) : w32 x = x := by
  unfold w32; rw [Int.bmod_def]; omega
theorem w64_id {x : Int} (h1 : -9223372036854775808 ≤ x) (h2 : x ≤ 9223372036854775807) : w64 x = x := by
  unfold w64; rw [Int.bmod_def]; omega
theorem w32_lo (x : Int) : -2147483648 ≤ w32 x := by
  unfold w32; rw [Int.bmod_def]; omega
theorem w32_hi (x : Int) : w32 x ≤ 2147483647 := by
  unfold w32; rw [Int.bmod_def]; omega
theorem w64_lo (x : Int) : -9223372036854775808 ≤ w64 x := by
  unfold w64; rw [Int.bmod_def]; omega
theorem w64_hi (x : Int) : w64 x ≤ 9223372036854775807 := by
  unfold w64; rw [Int.bmod_def]; omega
def zand (a b : Int) : Int := (Int32.ofInt a &&& Int32.ofInt b).toInt
def zor (a b : Int) : Int := (Int32.ofInt a ||| Int32.ofInt b).toInt
def zxor (a b : Int) : Int := (Int32.ofInt a ^^^ Int32.ofInt b).toInt
def zshl (a b : Int) : Int := (Int32.ofInt a <<< (Int32.ofInt b &&& 31)).toInt
def zshr (a b : Int) : Int := (Int32.ofInt a >>> (Int32.ofInt b &&& 31)).toInt
def zushr (a b : Int) : Int := (((Int32.ofInt a).toUInt32 >>> ((Int32.ofInt b).toUInt32 &&& Int32.toUInt32 31)).toInt32).toInt
def zi2b (a : Int) : Int := ((Int32.ofInt a).toInt8.toInt32).toInt
def zi2c (a : Int) : Int := (((Int32.ofInt a).toUInt32 % 65536).toInt32).toInt
def zland (a b : Int) : Int := (Int64.ofInt a &&& Int64.ofInt b).toInt
def zlor (a b : Int) : Int := (Int64.ofInt a ||| Int64.ofInt b).toInt
def zlshl (a b : Int) : Int := (Int64.ofInt a <<< ((Int32.ofInt b).toInt64 &&& 63)).toInt
def zlcmp (x y : Int) : Int := if x < y then -1 else if x = y then 0 else 1
/-- a state inside a method: pc, locals, stack, heap; a result: returned or thrown, heap -/
abbrev ZS : Type := Nat × List ZV × List ZV × PH
abbrev ZR : Type := (Option ZV ⊕ Nat) × PH
abbrev ZO : Type := Option (ZS ⊕ ZR)
abbrev ZI : Type := List ZV → List ZV → PH → ZO
/-- a method: its instructions by pc; where a thrown object of a kind is caught -/
abbrev ZM : Type := List (Nat × ZI) × (Nat → Nat → Option Nat)
abbrev ZF : Type := List ZV → PH → Option ZR
def zgo (n : Nat) (L st : List ZV) (h : PH) : ZO := some (.inl (n, L, st, h))
def zlk : List (Nat × ZI) → Nat → Option ZI
  | [], _ => none
  | q :: t, pc => bif Nat.beq q.1 pc then some q.2 else zlk t pc
def zstep (M : ZM) (pc : Nat) (L st : List ZV) (h : PH) : ZO :=
  match zlk M.1 pc with
  | none => none
  | some i => match i L st h with
    | none => none
    | some (.inl s) => some (.inl s)
    | some (.inr (.inl v, h')) => some (.inr (.inl v, h'))
    | some (.inr (.inr a, h')) => match M.2 pc (ph_K h' a).1 with
      | some t => some (.inl (t, L, [zvr (some a)], h'))
      | none => some (.inr (.inr a, h'))
def zrun (M : ZM) : Nat → Nat → List ZV → List ZV → PH → Option ZR
  | 0, _, _, _, _ => none
  | n + 1, pc, L, st, h => match zstep M pc L st h with
    | none => none
    | some (.inr r) => some r
    | some (.inl s) => zrun M n s.1 s.2.1 s.2.2.1 s.2.2.2
noncomputable def zev (M : ZM) (pc : Nat) (L st : List ZV) (h : PH) : Option ZR :=
  @dite _ (∃ r n, zrun M n pc L st h = some r) (Classical.propDecidable _) (fun e => some (Classical.choose e)) (fun _ => none)
theorem zrun_mono {M : ZM} : ∀ (n : Nat) {pc : Nat} {L st : List ZV} {h : PH} {r : ZR}, zrun M n pc L st h = some r → zrun M (n + 1) pc L st h = some r
  | 0, _, _, _, _, _, e => by simp [zrun] at e
  | n + 1, pc, L, st, h, r, e => by
    rw [zrun] at e ⊢
    cases hs : zstep M pc L st h with
    | none => rw [hs] at e; cases e
    | some o =>
      rw [hs] at e
      cases o with
      | inr q => exact e
      | inl s => exact zrun_mono n e
theorem zrun_le {M : ZM} {n m : Nat} (hnm : n ≤ m) {pc : Nat} {L st : List ZV} {h : PH} {r : ZR} (e : zrun M n pc L st h = some r) : zrun M m pc L st h = some r := by
  induction hnm with
  | refl => exact e
  | step _ ih => exact zrun_mono _ ih
theorem zrun_det {M : ZM} {n m : Nat} {pc : Nat} {L st : List ZV} {h : PH} {r q : ZR} (e1 : zrun M n pc L st h = some r) (e2 : zrun M m pc L st h = some q) : r = q := by
  have h1 := zrun_le (Nat.le_max_left n m) e1
  have h2 := zrun_le (Nat.le_max_right n m) e2
  rw [h1] at h2
  exact Option.some.inj h2
theorem zev_of {M : ZM} {n pc : Nat} {L st : List ZV} {h : PH} {r : ZR} (e : zrun M n pc L st h = some r) : zev M pc L st h = some r := by
  have hx : ∃ r n, zrun M n pc L st h = some r := ⟨r, n, e⟩
  unfold zev
  rw [dif_pos hx]
  obtain ⟨m, e2⟩ := Classical.choose_spec hx
  rw [zrun_det e2 e]
theorem zev_some {M : ZM} {pc : Nat} {L st : List ZV} {h : PH} {r : ZR} (e : zev M pc L st h = some r) : ∃ n, zrun M n pc L st h = some r := by
  unfold zev at e
  by_cases hx : ∃ r n, zrun M n pc L st h = some r
  · rw [dif_pos hx] at e
    obtain ⟨m, e2⟩ := Classical.choose_spec hx
    exact ⟨m, by rw [e2, Option.some.inj e]⟩
  · rw [dif_neg hx] at e; cases e
theorem zev_step {M : ZM} {pc n : Nat} {L st L' st' : List ZV} {h h' : PH} (e : zstep M pc L st h = some (.inl (n, L', st', h'))) : zev M pc L st h = zev M n L' st' h' := by
  cases hv : zev M n L' st' h' with
  | some r =>
    obtain ⟨k, hk⟩ := zev_some hv
    refine zev_of (n := k + 1) ?_
    rw [zrun, e]
    exact hk
  | none =>
    cases hw : zev M pc L st h with
    | none => rfl
    | some r =>
      obtain ⟨k, hk⟩ := zev_some hw
      cases k with
      | zero => simp [zrun] at hk
      | succ k =>
        rw [zrun, e] at hk
        rw [zev_of (M := M) (n := k) hk] at hv
        cases hv
theorem zev_done {M : ZM} {pc : Nat} {L st : List ZV} {h : PH} {r : ZR} (e : zstep M pc L st h = some (.inr r)) : zev M pc L st h = some r := by
  refine zev_of (n := 1) ?_
  rw [zrun, e]
theorem zev_stuck {M : ZM} {pc : Nat} {L st : List ZV} {h : PH} (e : zstep M pc L st h = none) : zev M pc L st h = none := by
  cases hw : zev M pc L st h with
  | none => rfl
  | some r =>
    obtain ⟨k, hk⟩ := zev_some hw
    cases k with
    | zero => simp [zrun] at hk
    | succ k => rw [zrun, e] at hk; cases hk
def zrv (v : ZV) (h : PH) : Option ZR := some (.inl (some v), h)
def zr0 (h : PH) : Option ZR := some (.inl none, h)
def zrx (a : Nat) (h : PH) : Option ZR := some (.inr a, h)
/-- behind a call that has ended so -/
noncomputable def zk (M : ZM) (pc n : Nat) (L st : List ZV) (o : Option ZR) : Option ZR := match o with
  | none => none
  | some (.inl none, h) => zev M n L st h
  | some (.inl (some v), h) => zev M n L (v :: st) h
  | some (.inr a, h) => match M.2 pc (ph_K h a).1 with
    | some t => zev M t L [zvr (some a)] h
    | none => some (.inr a, h)
theorem zk_rv {M : ZM} {pc n : Nat} {L st : List ZV} {v : ZV} {h : PH} : zk M pc n L st (zrv v h) = zev M n L (v :: st) h := rfl
theorem zk_r0 {M : ZM} {pc n : Nat} {L st : List ZV} {h : PH} : zk M pc n L st (zr0 h) = zev M n L st h := rfl
theorem zk_rx {M : ZM} {pc n : Nat} {L st : List ZV} {a : Nat} {h : PH} {t : Nat} (e : M.2 pc (ph_K h a).1 = some t) : zk M pc n L st (zrx a h) = zev M t L [zvr (some a)] h := by
  show (match M.2 pc (ph_K h a).1 with | some t => zev M t L [zvr (some a)] h | none => some (.inr a, h)) = _
  rw [e]
theorem zk_rx0 {M : ZM} {pc n : Nat} {L st : List ZV} {a : Nat} {h : PH} (e : M.2 pc (ph_K h a).1 = none) : zk M pc n L st (zrx a h) = zrx a h := by
  show (match M.2 pc (ph_K h a).1 with | some t => zev M t L [zvr (some a)] h | none => some (.inr a, h)) = _
  rw [e]; rfl
section
variable {M : ZM} {pc n : Nat} {L st L' st' : List ZV} {h h' : PH} {i : ZI}
theorem ze_go (hl : zlk M.1 pc = some i) (e : i L st h = some (.inl (n, L', st', h'))) : zev M pc L st h = zev M n L' st' h' := zev_step (by unfold zstep; rw [hl]; dsimp only; rw [e])
theorem ze_ret {v : Option ZV} (hl : zlk M.1 pc = some i) (e : i L st h = some (.inr (.inl v, h'))) : zev M pc L st h = some (.inl v, h') := zev_done (by unfold zstep; rw [hl]; dsimp only; rw [e])
theorem ze_none (hl : zlk M.1 pc = some i) (e : i L st h = none) : zev M pc L st h = none := zev_stuck (by unfold zstep; rw [hl]; dsimp only; rw [e])
theorem ze_thr {a t : Nat} (hl : zlk M.1 pc = some i) (e : i L st h = some (.inr (.inr a, h'))) (ht : M.2 pc (ph_K h' a).1 = some t) : zev M pc L st h = zev M t L [zvr (some a)] h' := zev_step (by unfold zstep; rw [hl]; dsimp only; rw [e]; dsimp only; rw [ht])
theorem ze_thr0 {a : Nat} (hl : zlk M.1 pc = some i) (e : i L st h = some (.inr (.inr a, h'))) (ht : M.2 pc (ph_K h' a).1 = none) : zev M pc L st h = some (.inr a, h') := zev_done (by unfold zstep; rw [hl]; dsimp only; rw [e]; dsimp only; rw [ht])
end
/-! the instructions -/
def zi_push (v : ZV) (n : Nat) : ZI := fun L st h => zgo n L (v :: st) h
/-- 0: int, 1: reference, 2: long -/
def ztag (v : ZV) : Nat := match v with
  | .inl _ => 0
  | .inr (.inl _) => 2
  | .inr (.inr (.inl _)) => 1
  | .inr (.inr (.inr _)) => 3
def zi_ld (ty k n : Nat) : ZI := fun L st h => match L[k]? with
  | some v => bif Nat.beq (ztag v) ty then zgo n L (v :: st) h else none
  | none => none
/-- a long's first half is lost where its second is written over -/
def zclr (L : List ZV) (k : Nat) : List ZV := match k with
  | 0 => L
  | j + 1 => match L[j]? with
    | some v => bif zisL v then L.set j zvu else L
    | none => L
def zi_st (ty k n : Nat) : ZI := fun L st h => match st with
  | v :: st' => if ztag v = ty ∧ k < L.length then zgo n ((zclr L k).set k v) st' h else none
  | [] => none
def zi_stL (k n : Nat) : ZI := fun L st h => match st with
  | v :: st' => if zisL v = true ∧ k + 1 < L.length then zgo n (((zclr L k).set k v).set (k + 1) zvu) st' h else none
  | [] => none
def zi_iinc (k : Nat) (d : Int) (n : Nat) : ZI := fun L st h => match L[k]? with
  | some (.inl x) => zgo n ((zclr L k).set k (zvi (w32 (x + d)))) st h
  | _ => none
def zi_bin (f : Int → Int → Int) (n : Nat) : ZI := fun L st h => match st with
  | .inl b :: .inl a :: st' => zgo n L (zvi (f a b) :: st') h
  | _ => none
def zi_un (f : Int → Int) (n : Nat) : ZI := fun L st h => match st with
  | .inl a :: st' => zgo n L (zvi (f a) :: st') h
  | _ => none
def zi_div (n : Nat) : ZI := fun L st h => match st with
  | .inl b :: .inl a :: st' => if b = 0 then none else zgo n L (zvi (w32 (Int.tdiv a b)) :: st') h
  | _ => none
def zi_binL (f : Int → Int → Int) (n : Nat) : ZI := fun L st h => match st with
  | .inr (.inl b) :: .inr (.inl a) :: st' => zgo n L (zvl (f a b) :: st') h
  | _ => none
def zi_shL (f : Int → Int → Int) (n : Nat) : ZI := fun L st h => match st with
  | .inl b :: .inr (.inl a) :: st' => zgo n L (zvl (f a b) :: st') h
  | _ => none
def zi_lcmp (n : Nat) : ZI := fun L st h => match st with
  | .inr (.inl b) :: .inr (.inl a) :: st' => zgo n L (zvi (zlcmp a b) :: st') h
  | _ => none
def zi_i2l (n : Nat) : ZI := fun L st h => match st with
  | .inl a :: st' => zgo n L (zvl a :: st') h
  | _ => none
def zi_l2i (n : Nat) : ZI := fun L st h => match st with
  | .inr (.inl a) :: st' => zgo n L (zvi (w32 a) :: st') h
  | _ => none
def zi_dup (n : Nat) : ZI := fun L st h => match st with
  | v :: st' => bif zisL v then none else zgo n L (v :: v :: st') h
  | _ => none
def zi_pop (n : Nat) : ZI := fun L st h => match st with
  | v :: st' => bif zisL v then none else zgo n L st' h
  | _ => none
def zi_dupx1 (n : Nat) : ZI := fun L st h => match st with
  | v :: w :: st' => bif zisL v || zisL w then none else zgo n L (v :: w :: v :: st') h
  | _ => none
def zi_dup2 (n : Nat) : ZI := fun L st h => match st with
  | v :: w :: st' => bif zisL v || zisL w then none else zgo n L (v :: w :: v :: w :: st') h
  | _ => none
def zi_dup2L (n : Nat) : ZI := fun L st h => match st with
  | v :: st' => bif zisL v then zgo n L (v :: v :: st') h else none
  | _ => none
def zi_if (c : Int → Bool) (t n : Nat) : ZI := fun L st h => match st with
  | .inl a :: st' => zgo (bif c a then t else n) L st' h
  | _ => none
def zi_cmp (c : Int → Int → Bool) (t n : Nat) : ZI := fun L st h => match st with
  | .inl b :: .inl a :: st' => zgo (bif c a b then t else n) L st' h
  | _ => none
def zi_null (t n : Nat) : ZI := fun L st h => match st with
  | .inr (.inr (.inl none)) :: st' => zgo t L st' h
  | .inr (.inr (.inl (some a))) :: st' => if (ph_K h a).1 ≠ 0 then zgo n L st' h else none
  | _ => none
def zi_nonnull (t n : Nat) : ZI := fun L st h => match st with
  | .inr (.inr (.inl none)) :: st' => zgo n L st' h
  | .inr (.inr (.inl (some a))) :: st' => if (ph_K h a).1 ≠ 0 then zgo t L st' h else none
  | _ => none
/-- what has no kind may be null; old cells may be one and the same under two names -/
def zcomp (h : PH) (x y : Option Nat) : Bool := match x, y with
  | none, none => true
  | some a, none => decide ((ph_K h a).1 ≠ 0)
  | none, some b => decide ((ph_K h b).1 ≠ 0)
  | some a, some b => decide (a = b) || (decide ((ph_K h a).1 ≠ 0) && (decide ((ph_K h b).1 ≠ 0) && (decide ((ph_K h a).1 < 1000) || decide ((ph_K h b).1 < 1000))))
def zi_acmp (t n : Nat) : ZI := fun L st h => match st with
  | .inr (.inr (.inl y)) :: .inr (.inr (.inl x)) :: st' => bif zcomp h x y then zgo (if x = y then t else n) L st' h else none
  | _ => none
def zi_goto (t : Nat) : ZI := fun L st h => zgo t L st h
def zswt (lo hi : Int) (ts : List Nat) (d : Nat) (x : Int) : Nat := if x < lo ∨ hi < x then d else ts.getD (x - lo).toNat d
def zi_sw (lo hi : Int) (ts : List Nat) (d : Nat) : ZI := fun L st h => match st with
  | .inl x :: st' => zgo (zswt lo hi ts d x) L st' h
  | _ => none
def zi_getI (kd : Nat) (k : Int) (n : Nat) : ZI := fun L st h => match st with
  | .inr (.inr (.inl (some a))) :: st' => if (ph_K h a).1 % 1000 = kd then zgo n L (zvi (ph_I h a k) :: st') h else none
  | _ => none
def zi_getJ (kd : Nat) (k : Int) (n : Nat) : ZI := fun L st h => match st with
  | .inr (.inr (.inl (some a))) :: st' => if (ph_K h a).1 % 1000 = kd then zgo n L (zvl (ph_J h a k) :: st') h else none
  | _ => none
def zi_getR (kd : Nat) (k : Int) (n : Nat) : ZI := fun L st h => match st with
  | .inr (.inr (.inl (some a))) :: st' => if (ph_K h a).1 % 1000 = kd then zgo n L (zvr (ph_R h a k) :: st') h else none
  | _ => none
def zi_putI (kd : Nat) (k : Int) (n : Nat) : ZI := fun L st h => match st with
  | .inl x :: .inr (.inr (.inl (some a))) :: st' => if (ph_K h a).1 = kd then zgo n L st' (st_I h a k x) else none
  | _ => none
def zi_putZ (kd : Nat) (k : Int) (n : Nat) : ZI := fun L st h => match st with
  | .inl x :: .inr (.inr (.inl (some a))) :: st' => if (ph_K h a).1 = kd ∧ (x = 0 ∨ x = 1) then zgo n L st' (st_I h a k x) else none
  | _ => none
def zi_putJ (kd : Nat) (k : Int) (n : Nat) : ZI := fun L st h => match st with
  | .inr (.inl x) :: .inr (.inr (.inl (some a))) :: st' => if (ph_K h a).1 = kd then zgo n L st' (st_J h a k x) else none
  | _ => none
def zi_putR (kd : Nat) (k : Int) (n : Nat) : ZI := fun L st h => match st with
  | .inr (.inr (.inl r)) :: .inr (.inr (.inl (some a))) :: st' => if (ph_K h a).1 = kd then zgo n L st' (st_R h a k r) else none
  | _ => none
def zi_new (kd sl n : Nat) : ZI := fun L st h => zgo n L (zvr (some (ph_N h)) :: st) (al_ h kd 0 sl)
def zi_newa (kd n : Nat) : ZI := fun L st h => match st with
  | .inl x :: st' => if 0 ≤ x ∧ x ≤ 100000 then zgo n L (zvr (some (ph_N h)) :: st') (al_ h kd x.toNat x.toNat) else none
  | _ => none
def zi_alen (n : Nat) : ZI := fun L st h => match st with
  | .inr (.inr (.inl (some a))) :: st' => if 1 ≤ (ph_K h a).1 % 1000 ∧ (ph_K h a).1 % 1000 ≤ 7 then zgo n L (zvi (ph_K h a).2 :: st') h else none
  | _ => none
def zi_ald (kd n : Nat) : ZI := fun L st h => match st with
  | .inl j :: .inr (.inr (.inl (some a))) :: st' => if (ph_K h a).1 % 1000 = kd ∧ 0 ≤ j ∧ j < (ph_K h a).2 then zgo n L (zvi (ph_I h a j) :: st') h else none
  | _ => none
def zi_aldJ (n : Nat) : ZI := fun L st h => match st with
  | .inl j :: .inr (.inr (.inl (some a))) :: st' => if (ph_K h a).1 % 1000 = 4 ∧ 0 ≤ j ∧ j < (ph_K h a).2 then zgo n L (zvl (ph_J h a j) :: st') h else none
  | _ => none
def zi_aldR (n : Nat) : ZI := fun L st h => match st with
  | .inl j :: .inr (.inr (.inl (some a))) :: st' => if 5 ≤ (ph_K h a).1 % 1000 ∧ (ph_K h a).1 % 1000 ≤ 7 ∧ 0 ≤ j ∧ j < (ph_K h a).2 then zgo n L (zvr (ph_R h a j) :: st') h else none
  | _ => none
def zi_ast (n : Nat) : ZI := fun L st h => match st with
  | .inl x :: .inl j :: .inr (.inr (.inl (some a))) :: st' => if (ph_K h a).1 = 1 ∧ 0 ≤ j ∧ j < (ph_K h a).2 then zgo n L st' (st_I h a j x) else none
  | _ => none
def zi_astB (n : Nat) : ZI := fun L st h => match st with
  | .inl x :: .inl j :: .inr (.inr (.inl (some a))) :: st' => if (ph_K h a).1 = 2 ∧ 0 ≤ j ∧ j < (ph_K h a).2 then zgo n L st' (st_I h a j (zi2b x)) else none
  | _ => none
def zi_astZ (n : Nat) : ZI := fun L st h => match st with
  | .inl x :: .inl j :: .inr (.inr (.inl (some a))) :: st' => if (ph_K h a).1 = 3 ∧ 0 ≤ j ∧ j < (ph_K h a).2 ∧ (x = 0 ∨ x = 1) then zgo n L st' (st_I h a j x) else none
  | _ => none
def zi_astJ (n : Nat) : ZI := fun L st h => match st with
  | .inr (.inl x) :: .inl j :: .inr (.inr (.inl (some a))) :: st' => if (ph_K h a).1 = 4 ∧ 0 ≤ j ∧ j < (ph_K h a).2 then zgo n L st' (st_J h a j x) else none
  | _ => none
/-- an array of references: what is stored is null, or of one of the kinds said -/
def zi_astR (kd : Nat) (ok : Nat → Bool) (n : Nat) : ZI := fun L st h => match st with
  | .inr (.inr (.inl r)) :: .inl j :: .inr (.inr (.inl (some a))) :: st' => if (ph_K h a).1 = kd ∧ 0 ≤ j ∧ j < (ph_K h a).2 ∧ (∀ b, r = some b → ok (ph_K h b).1 = true) then zgo n L st' (st_R h a j r) else none
  | _ => none
def zi_cast (ok : Nat → Bool) (n : Nat) : ZI := fun L st h => match st with
  | .inr (.inr (.inl none)) :: st' => zgo n L (zvr none :: st') h
  | .inr (.inr (.inl (some a))) :: st' => bif ok (ph_K h a).1 then zgo n L (zvr (some a) :: st') h else none
  | _ => none
def zi_ret : ZI := fun _ st h => match st with
  | [] => some (.inr (.inl none, h))
  | _ => none
def zi_retv (ty : Nat) : ZI := fun _ st h => match st with
  | [v] => bif Nat.beq (ztag v) ty then some (.inr (.inl (some v), h)) else none
  | _ => none
/-- a boolean's end -/
def zi_retz : ZI := fun _ st h => match st with
  | [.inl x] => if x = 0 ∨ x = 1 then some (.inr (.inl (some (zvi x)), h)) else none
  | _ => none
def zi_throw : ZI := fun _ st h => match st with
  | .inr (.inr (.inl (some a))) :: _ => if (ph_K h a).1 ≠ 0 then some (.inr (.inr a, h)) else none
  | _ => none
def zafter (n : Nat) (L st : List ZV) (o : Option ZR) : ZO := match o with
  | none => none
  | some (.inl none, h) => zgo n L st h
  | some (.inl (some v), h) => zgo n L (v :: st) h
  | some (.inr a, h) => some (.inr (.inr a, h))
/-- the words that a stack takes -/
def zcat : List ZV → Nat
  | [] => 0
  | v :: st => bif zisL v then 2 + zcat st else 1 + zcat st
/-- calls: static; a constructor (its object isn't null); on an object of a class -/
def zi_callS (f : ZF) (na n : Nat) : ZI := fun L st h => if na ≤ st.length ∧ zcat (st.drop na) ≤ 8 then zafter n L (st.drop na) (f (st.take na).reverse h) else none
def zi_callV (f : ZF) (kd na n : Nat) : ZI := fun L st h => match (st.take na).reverse with
  | .inr (.inr (.inl (some a))) :: as => if (ph_K h a).1 % 1000 = kd ∧ as.length + 1 = na ∧ zcat (st.drop na) ≤ 8 then zafter n L (st.drop na) (f (zvr (some a) :: as) h) else none
  | _ => none
