set_option maxRecDepth 100000
/-! java/util/AbstractCollection.<init>()V -/
noncomputable def kJ0_init_v13 : ZM := ([(0, zi_ld 1 0 1), (1, zi_objI 29 4), (4, zi_ret)], fun _ _ => none)
noncomputable def mJ0_init_v13 : ZF := zrunM kJ0_init_v13 1
theorem enJ0_init_v13 (x0 : Option Nat) (h : PH) : mJ0_init_v13 [zvr x0] h = zev kJ0_init_v13 0 [zvr x0] [] h := zrunM_eq rfl rfl
theorem rJ0_init_v13 : (∀ (a : Option Nat) (L st : List ZV) (h : PH), zev kJ0_init_v13 0 (zvr a :: L) st h = zev kJ0_init_v13 1 (zvr a :: L) (zvr a :: st) h) ∧
  (∀ (q : Nat) (L st : List ZV) (h : PH), zev kJ0_init_v13 1 L (zvr (some q) :: st) h = if (ph_K h q).1 % 1000 = 29 ∧ zcat st ≤ 8 then zev kJ0_init_v13 4 L st h else none) ∧
  (∀ (L : List ZV) (h : PH), zev kJ0_init_v13 4 L [] h = zr0 h) :=
  ⟨fun a L st h => e_ld0R (n := 1) rfl,
  fun q L st h => e_objI (kd := 29) (n := 4) rfl,
  fun L h => e_ret rfl⟩
theorem allJ0_init_v13 : zall yJ0_init cJ0_init 1 none 2 kJ0_init_v13.1 :=
  ⟨k_aload_n dJ0_init_0,
  k_objI (C := RJ7) (T0 := TJ7) (ci := 13) dJ0_init_1 rfl q233 q177 q178 (by decide),
  k_ret dJ0_init_4, trivial⟩
theorem sndJ0_init_v13 : MSound 2 yJ0_init (ws_ yJ0_init cJ0_init 1 none) mJ0_init_v13 := msound_M (by decide) allJ0_init_v13 (fun _ _ => rfl)
/-! java/util/AbstractCollection.<init>()V -/
noncomputable def kJ0_init_v14 : ZM := ([(0, zi_ld 1 0 1), (1, zi_objI 30 4), (4, zi_ret)], fun _ _ => none)
noncomputable def mJ0_init_v14 : ZF := zrunM kJ0_init_v14 1
theorem enJ0_init_v14 (x0 : Option Nat) (h : PH) : mJ0_init_v14 [zvr x0] h = zev kJ0_init_v14 0 [zvr x0] [] h := zrunM_eq rfl rfl
theorem rJ0_init_v14 : (∀ (a : Option Nat) (L st : List ZV) (h : PH), zev kJ0_init_v14 0 (zvr a :: L) st h = zev kJ0_init_v14 1 (zvr a :: L) (zvr a :: st) h) ∧
  (∀ (q : Nat) (L st : List ZV) (h : PH), zev kJ0_init_v14 1 L (zvr (some q) :: st) h = if (ph_K h q).1 % 1000 = 30 ∧ zcat st ≤ 8 then zev kJ0_init_v14 4 L st h else none) ∧
  (∀ (L : List ZV) (h : PH), zev kJ0_init_v14 4 L [] h = zr0 h) :=
  ⟨fun a L st h => e_ld0R (n := 1) rfl,
  fun q L st h => e_objI (kd := 30) (n := 4) rfl,
  fun L h => e_ret rfl⟩
theorem allJ0_init_v14 : zall yJ0_init cJ0_init 1 none 2 kJ0_init_v14.1 :=
  ⟨k_aload_n dJ0_init_0,
  k_objI (C := RJ5) (T0 := TJ5) (ci := 14) dJ0_init_1 rfl q233 q177 q178 (by decide),
  k_ret dJ0_init_4, trivial⟩
theorem sndJ0_init_v14 : MSound 2 yJ0_init (ws_ yJ0_init cJ0_init 1 none) mJ0_init_v14 := msound_M (by decide) allJ0_init_v14 (fun _ _ => rfl)
/-! java/util/AbstractCollection.<init>()V -/
noncomputable def kJ0_init_v15 : ZM := ([(0, zi_ld 1 0 1), (1, zi_objI 31 4), (4, zi_ret)], fun _ _ => none)
noncomputable def mJ0_init_v15 : ZF := zrunM kJ0_init_v15 1
theorem enJ0_init_v15 (x0 : Option Nat) (h : PH) : mJ0_init_v15 [zvr x0] h = zev kJ0_init_v15 0 [zvr x0] [] h := zrunM_eq rfl rfl
theorem rJ0_init_v15 : (∀ (a : Option Nat) (L st : List ZV) (h : PH), zev kJ0_init_v15 0 (zvr a :: L) st h = zev kJ0_init_v15 1 (zvr a :: L) (zvr a :: st) h) ∧
  (∀ (q : Nat) (L st : List ZV) (h : PH), zev kJ0_init_v15 1 L (zvr (some q) :: st) h = if (ph_K h q).1 % 1000 = 31 ∧ zcat st ≤ 8 then zev kJ0_init_v15 4 L st h else none) ∧
  (∀ (L : List ZV) (h : PH), zev kJ0_init_v15 4 L [] h = zr0 h) :=
  ⟨fun a L st h => e_ld0R (n := 1) rfl,
  fun q L st h => e_objI (kd := 31) (n := 4) rfl,
  fun L h => e_ret rfl⟩
theorem allJ0_init_v15 : zall yJ0_init cJ0_init 1 none 2 kJ0_init_v15.1 :=
  ⟨k_aload_n dJ0_init_0,
  k_objI (C := RJ2) (T0 := TJ2) (ci := 15) dJ0_init_1 rfl q233 q177 q178 (by decide),
  k_ret dJ0_init_4, trivial⟩
theorem sndJ0_init_v15 : MSound 2 yJ0_init (ws_ yJ0_init cJ0_init 1 none) mJ0_init_v15 := msound_M (by decide) allJ0_init_v15 (fun _ _ => rfl)
/-! java/util/AbstractList.<init>()V -/
noncomputable def kJ6_init_v13 : ZM := ([(0, zi_ld 1 0 1), (1, zi_callV mJ0_init_v13 29 1 4), (4, zi_ld 1 0 5), (5, zi_push (zvi 0) 6), (6, zi_putI 29 0 9), (9, zi_ret)], fun _ _ => none)
noncomputable def mJ6_init_v13 : ZF := zrunM kJ6_init_v13 1
theorem enJ6_init_v13 (x0 : Option Nat) (h : PH) : mJ6_init_v13 [zvr x0] h = zev kJ6_init_v13 0 [zvr x0] [] h := zrunM_eq rfl rfl
theorem rJ6_init_v13 : (∀ (a : Option Nat) (L st : List ZV) (h : PH), zev kJ6_init_v13 0 (zvr a :: L) st h = zev kJ6_init_v13 1 (zvr a :: L) (zvr a :: st) h) ∧
  (∀ (q : Nat) (L st : List ZV) (h : PH), zev kJ6_init_v13 1 L (zvr (some q) :: st) h = if (ph_K h q).1 % 1000 = 29 ∧ zcat st ≤ 8 then zk kJ6_init_v13 1 4 L st (mJ0_init_v13 [zvr (some q)] h) else none) ∧
  (∀ (a : Option Nat) (L st : List ZV) (h : PH), zev kJ6_init_v13 4 (zvr a :: L) st h = zev kJ6_init_v13 5 (zvr a :: L) (zvr a :: st) h) ∧
  (∀ (L st : List ZV) (h : PH), zev kJ6_init_v13 5 L st h = zev kJ6_init_v13 6 L (zvi 0 :: st) h) ∧
  (∀ (a : Int) (q : Nat) (L st : List ZV) (h : PH), zev kJ6_init_v13 6 L (zvi a :: zvr (some q) :: st) h = if (ph_K h q).1 = 29 then zev kJ6_init_v13 9 L st (st_I h q 0 a) else none) ∧
  (∀ (L : List ZV) (h : PH), zev kJ6_init_v13 9 L [] h = zr0 h) :=
  ⟨fun a L st h => e_ld0R (n := 1) rfl,
  fun q L st h => e_callV1 (F := mJ0_init_v13) (kd := 29) (n := 4) rfl,
  fun a L st h => e_ld0R (n := 5) rfl,
  fun L st h => e_push (v := zvi 0) (n := 6) rfl,
  fun a q L st h => e_putI (kd := 29) (k := 0) (n := 9) rfl,
  fun L h => e_ret rfl⟩
theorem allJ6_init_v13 : zall yJ6_init cJ6_init 1 none 3 kJ6_init_v13.1 :=
  ⟨k_aload_n dJ6_init_0,
  k_callI (y2 := yJ0_init) (C := RJ7) (T0 := TJ7) (ci := 13) dJ6_init_1 sndJ0_init_v13 rfl q402 q231 q129 q232 rfl (by decide +kernel) ⟨by decide, by decide⟩ (by decide) (by decide),
  k_aload_n dJ6_init_4,
  k_iconst dJ6_init_5,
  k_putI (C := RJ7) (T := TJ7) (N := 3) (ci := 13) (k := 0) (ref := "java/util/AbstractList") dJ6_init_6 rfl in_J7 tyJ7 tyJ7_ok nmJ7 (by decide) (Or.inl q407) (Or.inl rfl) (Or.inl rfl) (tyJ7_ok 0 (by decide)) (fun _ _ _ => rfl),
  k_ret dJ6_init_9, trivial⟩
theorem sndJ6_init_v13 : MSound 3 yJ6_init (ws_ yJ6_init cJ6_init 1 none) mJ6_init_v13 := msound_M (by decide) allJ6_init_v13 (fun _ _ => rfl)
/-! java/util/AbstractSet.<init>()V -/
noncomputable def kJ1_init_v15 : ZM := ([(0, zi_ld 1 0 1), (1, zi_callV mJ0_init_v15 31 1 4), (4, zi_ret)], fun _ _ => none)
noncomputable def mJ1_init_v15 : ZF := zrunM kJ1_init_v15 1
theorem enJ1_init_v15 (x0 : Option Nat) (h : PH) : mJ1_init_v15 [zvr x0] h = zev kJ1_init_v15 0 [zvr x0] [] h := zrunM_eq rfl rfl
theorem rJ1_init_v15 : (∀ (a : Option Nat) (L st : List ZV) (h : PH), zev kJ1_init_v15 0 (zvr a :: L) st h = zev kJ1_init_v15 1 (zvr a :: L) (zvr a :: st) h) ∧
  (∀ (q : Nat) (L st : List ZV) (h : PH), zev kJ1_init_v15 1 L (zvr (some q) :: st) h = if (ph_K h q).1 % 1000 = 31 ∧ zcat st ≤ 8 then zk kJ1_init_v15 1 4 L st (mJ0_init_v15 [zvr (some q)] h) else none) ∧
  (∀ (L : List ZV) (h : PH), zev kJ1_init_v15 4 L [] h = zr0 h) :=
  ⟨fun a L st h => e_ld0R (n := 1) rfl,
  fun q L st h => e_callV1 (F := mJ0_init_v15) (kd := 31) (n := 4) rfl,
  fun L h => e_ret rfl⟩
theorem allJ1_init_v15 : zall yJ1_init cJ1_init 1 none 3 kJ1_init_v15.1 :=
  ⟨k_aload_n dJ1_init_0,
  k_callI (y2 := yJ0_init) (C := RJ2) (T0 := TJ2) (ci := 15) dJ1_init_1 sndJ0_init_v15 rfl q230 q231 q129 q232 rfl (by decide +kernel) ⟨by decide, by decide⟩ (by decide) (by decide),
  k_ret dJ1_init_4, trivial⟩
theorem sndJ1_init_v15 : MSound 3 yJ1_init (ws_ yJ1_init cJ1_init 1 none) mJ1_init_v15 := msound_M (by decide) allJ1_init_v15 (fun _ _ => rfl)
/-! java/util/AbstractMap.<init>()V -/
noncomputable def kJ3_init_v16 : ZM := ([(0, zi_ld 1 0 1), (1, zi_objI 32 4), (4, zi_ret)], fun _ _ => none)
noncomputable def mJ3_init_v16 : ZF := zrunM kJ3_init_v16 1
theorem enJ3_init_v16 (x0 : Option Nat) (h : PH) : mJ3_init_v16 [zvr x0] h = zev kJ3_init_v16 0 [zvr x0] [] h := zrunM_eq rfl rfl
theorem rJ3_init_v16 : (∀ (a : Option Nat) (L st : List ZV) (h : PH), zev kJ3_init_v16 0 (zvr a :: L) st h = zev kJ3_init_v16 1 (zvr a :: L) (zvr a :: st) h) ∧
  (∀ (q : Nat) (L st : List ZV) (h : PH), zev kJ3_init_v16 1 L (zvr (some q) :: st) h = if (ph_K h q).1 % 1000 = 32 ∧ zcat st ≤ 8 then zev kJ3_init_v16 4 L st h else none) ∧
  (∀ (L : List ZV) (h : PH), zev kJ3_init_v16 4 L [] h = zr0 h) :=
  ⟨fun a L st h => e_ld0R (n := 1) rfl,
  fun q L st h => e_objI (kd := 32) (n := 4) rfl,
  fun L h => e_ret rfl⟩
theorem allJ3_init_v16 : zall yJ3_init cJ3_init 1 none 2 kJ3_init_v16.1 :=
  ⟨k_aload_n dJ3_init_0,
  k_objI (C := RJ4) (T0 := TJ4) (ci := 16) dJ3_init_1 rfl q200 q177 q178 (by decide),
  k_ret dJ3_init_4, trivial⟩
theorem sndJ3_init_v16 : MSound 2 yJ3_init (ws_ yJ3_init cJ3_init 1 none) mJ3_init_v16 := msound_M (by decide) allJ3_init_v16 (fun _ _ => rfl)
/-! java/lang/Number.<init>()V -/
noncomputable def kJ18_init_v18 : ZM := ([(0, zi_ld 1 0 1), (1, zi_objI 34 4), (4, zi_ret)], fun _ _ => none)
noncomputable def mJ18_init_v18 : ZF := zrunM kJ18_init_v18 1
theorem enJ18_init_v18 (x0 : Option Nat) (h : PH) : mJ18_init_v18 [zvr x0] h = zev kJ18_init_v18 0 [zvr x0] [] h := zrunM_eq rfl rfl
theorem rJ18_init_v18 : (∀ (a : Option Nat) (L st : List ZV) (h : PH), zev kJ18_init_v18 0 (zvr a :: L) st h = zev kJ18_init_v18 1 (zvr a :: L) (zvr a :: st) h) ∧
  (∀ (q : Nat) (L st : List ZV) (h : PH), zev kJ18_init_v18 1 L (zvr (some q) :: st) h = if (ph_K h q).1 % 1000 = 34 ∧ zcat st ≤ 8 then zev kJ18_init_v18 4 L st h else none) ∧
  (∀ (L : List ZV) (h : PH), zev kJ18_init_v18 4 L [] h = zr0 h) :=
  ⟨fun a L st h => e_ld0R (n := 1) rfl,
  fun q L st h => e_objI (kd := 34) (n := 4) rfl,
  fun L h => e_ret rfl⟩
theorem allJ18_init_v18 : zall yJ18_init cJ18_init 1 none 2 kJ18_init_v18.1 :=
  ⟨k_aload_n dJ18_init_0,
  k_objI (C := RJ19) (T0 := TJ19) (ci := 18) dJ18_init_1 rfl q825 q177 q178 (by decide),
  k_ret dJ18_init_4, trivial⟩
theorem sndJ18_init_v18 : MSound 2 yJ18_init (ws_ yJ18_init cJ18_init 1 none) mJ18_init_v18 := msound_M (by decide) allJ18_init_v18 (fun _ _ => rfl)
/-! java/lang/Record.<init>()V -/
noncomputable def kJ25_init_v7 : ZM := ([(0, zi_ld 1 0 1), (1, zi_objI 23 4), (4, zi_ret)], fun _ _ => none)
noncomputable def mJ25_init_v7 : ZF := zrunM kJ25_init_v7 1
theorem enJ25_init_v7 (x0 : Option Nat) (h : PH) : mJ25_init_v7 [zvr x0] h = zev kJ25_init_v7 0 [zvr x0] [] h := zrunM_eq rfl rfl
theorem rJ25_init_v7 : (∀ (a : Option Nat) (L st : List ZV) (h : PH), zev kJ25_init_v7 0 (zvr a :: L) st h = zev kJ25_init_v7 1 (zvr a :: L) (zvr a :: st) h) ∧
  (∀ (q : Nat) (L st : List ZV) (h : PH), zev kJ25_init_v7 1 L (zvr (some q) :: st) h = if (ph_K h q).1 % 1000 = 23 ∧ zcat st ≤ 8 then zev kJ25_init_v7 4 L st h else none) ∧
  (∀ (L : List ZV) (h : PH), zev kJ25_init_v7 4 L [] h = zr0 h) :=
  ⟨fun a L st h => e_ld0R (n := 1) rfl,
  fun q L st h => e_objI (kd := 23) (n := 4) rfl,
  fun L h => e_ret rfl⟩
theorem allJ25_init_v7 : zall yJ25_init cJ25_init 1 none 2 kJ25_init_v7.1 :=
  ⟨k_aload_n dJ25_init_0,
  k_objI (C := RX14) (T0 := TX14) (ci := 7) dJ25_init_1 rfl q1645 q177 q178 (by decide),
  k_ret dJ25_init_4, trivial⟩
theorem sndJ25_init_v7 : MSound 2 yJ25_init (ws_ yJ25_init cJ25_init 1 none) mJ25_init_v7 := msound_M (by decide) allJ25_init_v7 (fun _ _ => rfl)
/-! java/lang/Throwable.<init>(Ljava/lang/String;Ljava/lang/Throwable;ZZ)V -/
noncomputable def kJ12_init_2_v8 : ZM := ([(0, zi_ld 1 0 1), (1, zi_objI 24 4), (4, zi_ld 1 0 5), (5, zi_ld 1 0 6), (6, zi_putR 24 2 9), (9, zi_ld 1 0 10), (10, zi_push (zvr (some 1000000005)) 13), (13, zi_putR 24 3 16), (16, zi_ld 1 0 17), (17, zi_push (zvr (some 1000000004)) 20), (20, zi_putR 24 4 23), (23, zi_ld 0 4 25), (25, zi_if (fun a => zc_eq a 0) 36 28), (28, zi_ld 1 0 29), (29, zi_stuck), (32, zi_pop 33), (33, zi_goto 41), (36, zi_ld 1 0 37), (37, zi_push (zvr none) 38), (38, zi_putR 24 3 41), (41, zi_ld 1 0 42), (42, zi_ld 1 1 43), (43, zi_putR 24 5 46), (46, zi_ld 1 0 47), (47, zi_ld 1 2 48), (48, zi_putR 24 2 51), (51, zi_ld 0 3 52), (52, zi_if (fun a => zc_ne a 0) 60 55), (55, zi_ld 1 0 56), (56, zi_push (zvr none) 57), (57, zi_putR 24 4 60), (60, zi_ret)], fun _ _ => none)
noncomputable def mJ12_init_2_v8 : ZF := zrunM kJ12_init_2_v8 5
theorem enJ12_init_2_v8 (x0 : Option Nat) (x1 : Option Nat) (x2 : Option Nat) (x3 : Int) (x4 : Int) (h : PH) : mJ12_init_2_v8 [zvr x0, zvr x1, zvr x2, zvi x3, zvi x4] h = zev kJ12_init_2_v8 0 [zvr x0, zvr x1, zvr x2, zvi x3, zvi x4] [] h := zrunM_eq rfl rfl
theorem rJ12_init_2_v8 : (∀ (a : Option Nat) (L st : List ZV) (h : PH), zev kJ12_init_2_v8 0 (zvr a :: L) st h = zev kJ12_init_2_v8 1 (zvr a :: L) (zvr a :: st) h) ∧
  (∀ (q : Nat) (L st : List ZV) (h : PH), zev kJ12_init_2_v8 1 L (zvr (some q) :: st) h = if (ph_K h q).1 % 1000 = 24 ∧ zcat st ≤ 8 then zev kJ12_init_2_v8 4 L st h else none) ∧
  (∀ (a : Option Nat) (L st : List ZV) (h : PH), zev kJ12_init_2_v8 4 (zvr a :: L) st h = zev kJ12_init_2_v8 5 (zvr a :: L) (zvr a :: st) h) ∧
  (∀ (a : Option Nat) (L st : List ZV) (h : PH), zev kJ12_init_2_v8 5 (zvr a :: L) st h = zev kJ12_init_2_v8 6 (zvr a :: L) (zvr a :: st) h) ∧
  (∀ (a : Option Nat) (q : Nat) (L st : List ZV) (h : PH), zev kJ12_init_2_v8 6 L (zvr a :: zvr (some q) :: st) h = if (ph_K h q).1 = 24 then zev kJ12_init_2_v8 9 L st (st_R h q 2 a) else none) ∧
  (∀ (a : Option Nat) (L st : List ZV) (h : PH), zev kJ12_init_2_v8 9 (zvr a :: L) st h = zev kJ12_init_2_v8 10 (zvr a :: L) (zvr a :: st) h) ∧
  (∀ (L st : List ZV) (h : PH), zev kJ12_init_2_v8 10 L st h = zev kJ12_init_2_v8 13 L (zvr (some 1000000005) :: st) h) ∧
  (∀ (a : Option Nat) (q : Nat) (L st : List ZV) (h : PH), zev kJ12_init_2_v8 13 L (zvr a :: zvr (some q) :: st) h = if (ph_K h q).1 = 24 then zev kJ12_init_2_v8 16 L st (st_R h q 3 a) else none) ∧
  (∀ (a : Option Nat) (L st : List ZV) (h : PH), zev kJ12_init_2_v8 16 (zvr a :: L) st h = zev kJ12_init_2_v8 17 (zvr a :: L) (zvr a :: st) h) ∧
  (∀ (L st : List ZV) (h : PH), zev kJ12_init_2_v8 17 L st h = zev kJ12_init_2_v8 20 L (zvr (some 1000000004) :: st) h) ∧
  (∀ (a : Option Nat) (q : Nat) (L st : List ZV) (h : PH), zev kJ12_init_2_v8 20 L (zvr a :: zvr (some q) :: st) h = if (ph_K h q).1 = 24 then zev kJ12_init_2_v8 23 L st (st_R h q 4 a) else none) ∧
  (∀ (x0 x1 x2 x3 : ZV) (a : Int) (L st : List ZV) (h : PH), zev kJ12_init_2_v8 23 (x0 :: x1 :: x2 :: x3 :: zvi a :: L) st h = zev kJ12_init_2_v8 25 (x0 :: x1 :: x2 :: x3 :: zvi a :: L) (zvi a :: st) h) ∧
  (∀ (a : Int) (L st : List ZV) (h : PH), zev kJ12_init_2_v8 25 L (zvi a :: st) h = if a = 0 then zev kJ12_init_2_v8 36 L st h else zev kJ12_init_2_v8 28 L st h) ∧
  (∀ (a : Option Nat) (L st : List ZV) (h : PH), zev kJ12_init_2_v8 28 (zvr a :: L) st h = zev kJ12_init_2_v8 29 (zvr a :: L) (zvr a :: st) h) ∧
  (∀ (a : Int) (L st : List ZV) (h : PH), zev kJ12_init_2_v8 32 L (zvi a :: st) h = zev kJ12_init_2_v8 33 L st h) ∧
  (∀ (a : Option Nat) (L st : List ZV) (h : PH), zev kJ12_init_2_v8 32 L (zvr a :: st) h = zev kJ12_init_2_v8 33 L st h) ∧
  (∀ (L st : List ZV) (h : PH), zev kJ12_init_2_v8 33 L st h = zev kJ12_init_2_v8 41 L st h) ∧
  (∀ (a : Option Nat) (L st : List ZV) (h : PH), zev kJ12_init_2_v8 36 (zvr a :: L) st h = zev kJ12_init_2_v8 37 (zvr a :: L) (zvr a :: st) h) ∧
  (∀ (L st : List ZV) (h : PH), zev kJ12_init_2_v8 37 L st h = zev kJ12_init_2_v8 38 L (zvr none :: st) h) ∧
  (∀ (a : Option Nat) (q : Nat) (L st : List ZV) (h : PH), zev kJ12_init_2_v8 38 L (zvr a :: zvr (some q) :: st) h = if (ph_K h q).1 = 24 then zev kJ12_init_2_v8 41 L st (st_R h q 3 a) else none) ∧
  (∀ (a : Option Nat) (L st : List ZV) (h : PH), zev kJ12_init_2_v8 41 (zvr a :: L) st h = zev kJ12_init_2_v8 42 (zvr a :: L) (zvr a :: st) h) ∧
  (∀ (x0 : ZV) (a : Option Nat) (L st : List ZV) (h : PH), zev kJ12_init_2_v8 42 (x0 :: zvr a :: L) st h = zev kJ12_init_2_v8 43 (x0 :: zvr a :: L) (zvr a :: st) h) ∧
  (∀ (a : Option Nat) (q : Nat) (L st : List ZV) (h : PH), zev kJ12_init_2_v8 43 L (zvr a :: zvr (some q) :: st) h = if (ph_K h q).1 = 24 then zev kJ12_init_2_v8 46 L st (st_R h q 5 a) else none) ∧
  (∀ (a : Option Nat) (L st : List ZV) (h : PH), zev kJ12_init_2_v8 46 (zvr a :: L) st h = zev kJ12_init_2_v8 47 (zvr a :: L) (zvr a :: st) h) ∧
  (∀ (x0 x1 : ZV) (a : Option Nat) (L st : List ZV) (h : PH), zev kJ12_init_2_v8 47 (x0 :: x1 :: zvr a :: L) st h = zev kJ12_init_2_v8 48 (x0 :: x1 :: zvr a :: L) (zvr a :: st) h) ∧
  (∀ (a : Option Nat) (q : Nat) (L st : List ZV) (h : PH), zev kJ12_init_2_v8 48 L (zvr a :: zvr (some q) :: st) h = if (ph_K h q).1 = 24 then zev kJ12_init_2_v8 51 L st (st_R h q 2 a) else none) ∧
  (∀ (x0 x1 x2 : ZV) (a : Int) (L st : List ZV) (h : PH), zev kJ12_init_2_v8 51 (x0 :: x1 :: x2 :: zvi a :: L) st h = zev kJ12_init_2_v8 52 (x0 :: x1 :: x2 :: zvi a :: L) (zvi a :: st) h) ∧
  (∀ (a : Int) (L st : List ZV) (h : PH), zev kJ12_init_2_v8 52 L (zvi a :: st) h = if a ≠ 0 then zev kJ12_init_2_v8 60 L st h else zev kJ12_init_2_v8 55 L st h) ∧
  (∀ (a : Option Nat) (L st : List ZV) (h : PH), zev kJ12_init_2_v8 55 (zvr a :: L) st h = zev kJ12_init_2_v8 56 (zvr a :: L) (zvr a :: st) h) ∧
  (∀ (L st : List ZV) (h : PH), zev kJ12_init_2_v8 56 L st h = zev kJ12_init_2_v8 57 L (zvr none :: st) h) ∧
  (∀ (a : Option Nat) (q : Nat) (L st : List ZV) (h : PH), zev kJ12_init_2_v8 57 L (zvr a :: zvr (some q) :: st) h = if (ph_K h q).1 = 24 then zev kJ12_init_2_v8 60 L st (st_R h q 4 a) else none) ∧
  (∀ (L : List ZV) (h : PH), zev kJ12_init_2_v8 60 L [] h = zr0 h) :=
  ⟨fun a L st h => e_ld0R (n := 1) rfl,
  fun q L st h => e_objI (kd := 24) (n := 4) rfl,
  fun a L st h => e_ld0R (n := 5) rfl,
  fun a L st h => e_ld0R (n := 6) rfl,
  fun a q L st h => e_putR (kd := 24) (k := 2) (n := 9) rfl,
  fun a L st h => e_ld0R (n := 10) rfl,
  fun L st h => e_push (v := zvr (some 1000000005)) (n := 13) rfl,
  fun a q L st h => e_putR (kd := 24) (k := 3) (n := 16) rfl,
  fun a L st h => e_ld0R (n := 17) rfl,
  fun L st h => e_push (v := zvr (some 1000000004)) (n := 20) rfl,
  fun a q L st h => e_putR (kd := 24) (k := 4) (n := 23) rfl,
  fun x0 x1 x2 x3 a L st h => e_ld4I (n := 25) rfl,
  fun a L st h => e_ifeq (t := 36) (n := 28) rfl,
  fun a L st h => e_ld0R (n := 29) rfl,
  fun a L st h => e_popI (n := 33) rfl,
  fun a L st h => e_popR (n := 33) rfl,
  fun L st h => e_goto (t := 41) rfl,
  fun a L st h => e_ld0R (n := 37) rfl,
  fun L st h => e_push (v := zvr none) (n := 38) rfl,
  fun a q L st h => e_putR (kd := 24) (k := 3) (n := 41) rfl,
  fun a L st h => e_ld0R (n := 42) rfl,
  fun x0 a L st h => e_ld1R (n := 43) rfl,
  fun a q L st h => e_putR (kd := 24) (k := 5) (n := 46) rfl,
  fun a L st h => e_ld0R (n := 47) rfl,
  fun x0 x1 a L st h => e_ld2R (n := 48) rfl,
  fun a q L st h => e_putR (kd := 24) (k := 2) (n := 51) rfl,
  fun x0 x1 x2 a L st h => e_ld3I (n := 52) rfl,
  fun a L st h => e_ifne (t := 60) (n := 55) rfl,
  fun a L st h => e_ld0R (n := 56) rfl,
  fun L st h => e_push (v := zvr none) (n := 57) rfl,
  fun a q L st h => e_putR (kd := 24) (k := 4) (n := 60) rfl,
  fun L h => e_ret rfl⟩
theorem allJ12_init_2_v8 : zall yJ12_init_2 cJ12_init_2 5 none 2 kJ12_init_2_v8.1 :=
  ⟨k_aload_n dJ12_init_2_0,
  k_objI (C := RX8) (T0 := TX8) (ci := 8) dJ12_init_2_1 rfl q586 q177 q178 (by decide),
  k_aload_n dJ12_init_2_4,
  k_aload_n dJ12_init_2_5,
  k_putR (C := RX8) (T := TX8) (N := 8) (ci := 8) (k := 2) (ref := "java/lang/Throwable") dJ12_init_2_6 rfl in_X8 tyX8 tyX8_ok nmX8 (by decide) (Or.inl q622) (Or.inl rfl) (Or.inl rfl) (tyX8_ok 2 (by decide)) (Or.inl ⟨_, rfl⟩) (fun _ _ _ => rfl),
  k_aload_n dJ12_init_2_9,
  k_gets (C := "java/lang/Throwable") dJ12_init_2_10 (List.mem_of_getElem? (i := 4) rfl) q587 rfl trivial,
  k_putR (C := RX8) (T := TX8) (N := 8) (ci := 8) (k := 3) (ref := "java/lang/Throwable") dJ12_init_2_13 rfl in_X8 tyX8 tyX8_ok nmX8 (by decide) (Or.inl q623) (Or.inl rfl) (Or.inl rfl) (tyX8_ok 3 (by decide)) (Or.inr ⟨_, rfl⟩) (fun _ _ _ => rfl),
  k_aload_n dJ12_init_2_16,
  k_gets (C := "java/lang/Throwable") dJ12_init_2_17 (List.mem_of_getElem? (i := 3) rfl) q589 rfl trivial,
  k_putR (C := RX8) (T := TX8) (N := 8) (ci := 8) (k := 4) (ref := "java/lang/Throwable") dJ12_init_2_20 rfl in_X8 tyX8 tyX8_ok nmX8 (by decide) (Or.inl q624) (Or.inl rfl) (Or.inl rfl) (tyX8_ok 4 (by decide)) (Or.inl ⟨_, rfl⟩) (fun _ _ _ => rfl),
  k_iload dJ12_init_2_23,
  k_ifeq (t := 36) dJ12_init_2_25 (by decide),
  k_aload_n dJ12_init_2_28,
  k_stuck,
  k_pop dJ12_init_2_32,
  k_goto (t := 41) dJ12_init_2_33 (by decide),
  k_aload_n dJ12_init_2_36,
  k_anull dJ12_init_2_37,
  k_putR (C := RX8) (T := TX8) (N := 8) (ci := 8) (k := 3) (ref := "java/lang/Throwable") dJ12_init_2_38 rfl in_X8 tyX8 tyX8_ok nmX8 (by decide) (Or.inl q623) (Or.inl rfl) (Or.inl rfl) (tyX8_ok 3 (by decide)) (Or.inr ⟨_, rfl⟩) (fun _ _ _ => rfl),
  k_aload_n dJ12_init_2_41,
  k_aload_n dJ12_init_2_42,
  k_putR (C := RX8) (T := TX8) (N := 8) (ci := 8) (k := 5) (ref := "java/lang/Throwable") dJ12_init_2_43 rfl in_X8 tyX8 tyX8_ok nmX8 (by decide) (Or.inl q621) (Or.inl rfl) (Or.inl rfl) (tyX8_ok 5 (by decide)) (Or.inl ⟨_, rfl⟩) (fun _ _ _ => rfl),
  k_aload_n dJ12_init_2_46,
  k_aload_n dJ12_init_2_47,
  k_putR (C := RX8) (T := TX8) (N := 8) (ci := 8) (k := 2) (ref := "java/lang/Throwable") dJ12_init_2_48 rfl in_X8 tyX8 tyX8_ok nmX8 (by decide) (Or.inl q622) (Or.inl rfl) (Or.inl rfl) (tyX8_ok 2 (by decide)) (Or.inl ⟨_, rfl⟩) (fun _ _ _ => rfl),
  k_iload_n dJ12_init_2_51,
  k_ifne (t := 60) dJ12_init_2_52 (by decide),
  k_aload_n dJ12_init_2_55,
  k_anull dJ12_init_2_56,
  k_putR (C := RX8) (T := TX8) (N := 8) (ci := 8) (k := 4) (ref := "java/lang/Throwable") dJ12_init_2_57 rfl in_X8 tyX8 tyX8_ok nmX8 (by decide) (Or.inl q624) (Or.inl rfl) (Or.inl rfl) (tyX8_ok 4 (by decide)) (Or.inl ⟨_, rfl⟩) (fun _ _ _ => rfl),
  k_ret dJ12_init_2_60, trivial⟩
theorem sndJ12_init_2_v8 : MSound 2 yJ12_init_2 (ws_ yJ12_init_2 cJ12_init_2 5 none) mJ12_init_2_v8 := msound_M (by decide) allJ12_init_2_v8 (fun _ _ => rfl)
/-! java/lang/Throwable.<init>(Ljava/lang/String;Ljava/lang/Throwable;ZZ)V -/
noncomputable def kJ12_init_2_v9 : ZM := ([(0, zi_ld 1 0 1), (1, zi_objI 25 4), (4, zi_ld 1 0 5), (5, zi_ld 1 0 6), (6, zi_putR 25 2 9), (9, zi_ld 1 0 10), (10, zi_push (zvr (some 1000000005)) 13), (13, zi_putR 25 3 16), (16, zi_ld 1 0 17), (17, zi_push (zvr (some 1000000004)) 20), (20, zi_putR 25 4 23), (23, zi_ld 0 4 25), (25, zi_if (fun a => zc_eq a 0) 36 28), (28, zi_ld 1 0 29), (29, zi_stuck), (32, zi_pop 33), (33, zi_goto 41), (36, zi_ld 1 0 37), (37, zi_push (zvr none) 38), (38, zi_putR 25 3 41), (41, zi_ld 1 0 42), (42, zi_ld 1 1 43), (43, zi_putR 25 5 46), (46, zi_ld 1 0 47), (47, zi_ld 1 2 48), (48, zi_putR 25 2 51), (51, zi_ld 0 3 52), (52, zi_if (fun a => zc_ne a 0) 60 55), (55, zi_ld 1 0 56), (56, zi_push (zvr none) 57), (57, zi_putR 25 4 60), (60, zi_ret)], fun _ _ => none)
noncomputable def mJ12_init_2_v9 : ZF := zrunM kJ12_init_2_v9 5
theorem enJ12_init_2_v9 (x0 : Option Nat) (x1 : Option Nat) (x2 : Option Nat) (x3 : Int) (x4 : Int) (h : PH) : mJ12_init_2_v9 [zvr x0, zvr x1, zvr x2, zvi x3, zvi x4] h = zev kJ12_init_2_v9 0 [zvr x0, zvr x1, zvr x2, zvi x3, zvi x4] [] h := zrunM_eq rfl rfl
theorem rJ12_init_2_v9 : (∀ (a : Option Nat) (L st : List ZV) (h : PH), zev kJ12_init_2_v9 0 (zvr a :: L) st h = zev kJ12_init_2_v9 1 (zvr a :: L) (zvr a :: st) h) ∧
  (∀ (q : Nat) (L st : List ZV) (h : PH), zev kJ12_init_2_v9 1 L (zvr (some q) :: st) h = if (ph_K h q).1 % 1000 = 25 ∧ zcat st ≤ 8 then zev kJ12_init_2_v9 4 L st h else none) ∧
  (∀ (a : Option Nat) (L st : List ZV) (h : PH), zev kJ12_init_2_v9 4 (zvr a :: L) st h = zev kJ12_init_2_v9 5 (zvr a :: L) (zvr a :: st) h) ∧
  (∀ (a : Option Nat) (L st : List ZV) (h : PH), zev kJ12_init_2_v9 5 (zvr a :: L) st h = zev kJ12_init_2_v9 6 (zvr a :: L) (zvr a :: st) h) ∧
  (∀ (a : Option Nat) (q : Nat) (L st : List ZV) (h : PH), zev kJ12_init_2_v9 6 L (zvr a :: zvr (some q) :: st) h = if (ph_K h q).1 = 25 then zev kJ12_init_2_v9 9 L st (st_R h q 2 a) else none) ∧
  (∀ (a : Option Nat) (L st : List ZV) (h : PH), zev kJ12_init_2_v9 9 (zvr a :: L) st h = zev kJ12_init_2_v9 10 (zvr a :: L) (zvr a :: st) h) ∧
  (∀ (L st : List ZV) (h : PH), zev kJ12_init_2_v9 10 L st h = zev kJ12_init_2_v9 13 L (zvr (some 1000000005) :: st) h) ∧
  (∀ (a : Option Nat) (q : Nat) (L st : List ZV) (h : PH), zev kJ12_init_2_v9 13 L (zvr a :: zvr (some q) :: st) h = if (ph_K h q).1 = 25 then zev kJ12_init_2_v9 16 L st (st_R h q 3 a) else none) ∧
  (∀ (a : Option Nat) (L st : List ZV) (h : PH), zev kJ12_init_2_v9 16 (zvr a :: L) st h = zev kJ12_init_2_v9 17 (zvr a :: L) (zvr a :: st) h) ∧
  (∀ (L st : List ZV) (h : PH), zev kJ12_init_2_v9 17 L st h = zev kJ12_init_2_v9 20 L (zvr (some 1000000004) :: st) h) ∧
  (∀ (a : Option Nat) (q : Nat) (L st : List ZV) (h : PH), zev kJ12_init_2_v9 20 L (zvr a :: zvr (some q) :: st) h = if (ph_K h q).1 = 25 then zev kJ12_init_2_v9 23 L st (st_R h q 4 a) else none) ∧
  (∀ (x0 x1 x2 x3 : ZV) (a : Int) (L st : List ZV) (h : PH), zev kJ12_init_2_v9 23 (x0 :: x1 :: x2 :: x3 :: zvi a :: L) st h = zev kJ12_init_2_v9 25 (x0 :: x1 :: x2 :: x3 :: zvi a :: L) (zvi a :: st) h) ∧
  (∀ (a : Int) (L st : List ZV) (h : PH), zev kJ12_init_2_v9 25 L (zvi a :: st) h = if a = 0 then zev kJ12_init_2_v9 36 L st h else zev kJ12_init_2_v9 28 L st h) ∧
  (∀ (a : Option Nat) (L st : List ZV) (h : PH), zev kJ12_init_2_v9 28 (zvr a :: L) st h = zev kJ12_init_2_v9 29 (zvr a :: L) (zvr a :: st) h) ∧
  (∀ (a : Int) (L st : List ZV) (h : PH), zev kJ12_init_2_v9 32 L (zvi a :: st) h = zev kJ12_init_2_v9 33 L st h) ∧
  (∀ (a : Option Nat) (L st : List ZV) (h : PH), zev kJ12_init_2_v9 32 L (zvr a :: st) h = zev kJ12_init_2_v9 33 L st h) ∧
  (∀ (L st : List ZV) (h : PH), zev kJ12_init_2_v9 33 L st h = zev kJ12_init_2_v9 41 L st h) ∧
  (∀ (a : Option Nat) (L st : List ZV) (h : PH), zev kJ12_init_2_v9 36 (zvr a :: L) st h = zev kJ12_init_2_v9 37 (zvr a :: L) (zvr a :: st) h) ∧
  (∀ (L st : List ZV) (h : PH), zev kJ12_init_2_v9 37 L st h = zev kJ12_init_2_v9 38 L (zvr none :: st) h) ∧
  (∀ (a : Option Nat) (q : Nat) (L st : List ZV) (h : PH), zev kJ12_init_2_v9 38 L (zvr a :: zvr (some q) :: st) h = if (ph_K h q).1 = 25 then zev kJ12_init_2_v9 41 L st (st_R h q 3 a) else none) ∧
  (∀ (a : Option Nat) (L st : List ZV) (h : PH), zev kJ12_init_2_v9 41 (zvr a :: L) st h = zev kJ12_init_2_v9 42 (zvr a :: L) (zvr a :: st) h) ∧
  (∀ (x0 : ZV) (a : Option Nat) (L st : List ZV) (h : PH), zev kJ12_init_2_v9 42 (x0 :: zvr a :: L) st h = zev kJ12_init_2_v9 43 (x0 :: zvr a :: L) (zvr a :: st) h) ∧
  (∀ (a : Option Nat) (q : Nat) (L st : List ZV) (h : PH), zev kJ12_init_2_v9 43 L (zvr a :: zvr (some q) :: st) h = if (ph_K h q).1 = 25 then zev kJ12_init_2_v9 46 L st (st_R h q 5 a) else none) ∧
  (∀ (a : Option Nat) (L st : List ZV) (h : PH), zev kJ12_init_2_v9 46 (zvr a :: L) st h = zev kJ12_init_2_v9 47 (zvr a :: L) (zvr a :: st) h) ∧
  (∀ (x0 x1 : ZV) (a : Option Nat) (L st : List ZV) (h : PH), zev kJ12_init_2_v9 47 (x0 :: x1 :: zvr a :: L) st h = zev kJ12_init_2_v9 48 (x0 :: x1 :: zvr a :: L) (zvr a :: st) h) ∧
  (∀ (a : Option Nat) (q : Nat) (L st : List ZV) (h : PH), zev kJ12_init_2_v9 48 L (zvr a :: zvr (some q) :: st) h = if (ph_K h q).1 = 25 then zev kJ12_init_2_v9 51 L st (st_R h q 2 a) else none) ∧
  (∀ (x0 x1 x2 : ZV) (a : Int) (L st : List ZV) (h : PH), zev kJ12_init_2_v9 51 (x0 :: x1 :: x2 :: zvi a :: L) st h = zev kJ12_init_2_v9 52 (x0 :: x1 :: x2 :: zvi a :: L) (zvi a :: st) h) ∧
  (∀ (a : Int) (L st : List ZV) (h : PH), zev kJ12_init_2_v9 52 L (zvi a :: st) h = if a ≠ 0 then zev kJ12_init_2_v9 60 L st h else zev kJ12_init_2_v9 55 L st h) ∧
  (∀ (a : Option Nat) (L st : List ZV) (h : PH), zev kJ12_init_2_v9 55 (zvr a :: L) st h = zev kJ12_init_2_v9 56 (zvr a :: L) (zvr a :: st) h) ∧
  (∀ (L st : List ZV) (h : PH), zev kJ12_init_2_v9 56 L st h = zev kJ12_init_2_v9 57 L (zvr none :: st) h) ∧
  (∀ (a : Option Nat) (q : Nat) (L st : List ZV) (h : PH), zev kJ12_init_2_v9 57 L (zvr a :: zvr (some q) :: st) h = if (ph_K h q).1 = 25 then zev kJ12_init_2_v9 60 L st (st_R h q 4 a) else none) ∧
  (∀ (L : List ZV) (h : PH), zev kJ12_init_2_v9 60 L [] h = zr0 h) :=
  ⟨fun a L st h => e_ld0R (n := 1) rfl,
  fun q L st h => e_objI (kd := 25) (n := 4) rfl,
  fun a L st h => e_ld0R (n := 5) rfl,
  fun a L st h => e_ld0R (n := 6) rfl,
  fun a q L st h => e_putR (kd := 25) (k := 2) (n := 9) rfl,
  fun a L st h => e_ld0R (n := 10) rfl,
  fun L st h => e_push (v := zvr (some 1000000005)) (n := 13) rfl,
  fun a q L st h => e_putR (kd := 25) (k := 3) (n := 16) rfl,
  fun a L st h => e_ld0R (n := 17) rfl,
  fun L st h => e_push (v := zvr (some 1000000004)) (n := 20) rfl,
  fun a q L st h => e_putR (kd := 25) (k := 4) (n := 23) rfl,
  fun x0 x1 x2 x3 a L st h => e_ld4I (n := 25) rfl,
  fun a L st h => e_ifeq (t := 36) (n := 28) rfl,
  fun a L st h => e_ld0R (n := 29) rfl,
  fun a L st h => e_popI (n := 33) rfl,
  fun a L st h => e_popR (n := 33) rfl,
  fun L st h => e_goto (t := 41) rfl,
  fun a L st h => e_ld0R (n := 37) rfl,
  fun L st h => e_push (v := zvr none) (n := 38) rfl,
  fun a q L st h => e_putR (kd := 25) (k := 3) (n := 41) rfl,
  fun a L st h => e_ld0R (n := 42) rfl,
  fun x0 a L st h => e_ld1R (n := 43) rfl,
  fun a q L st h => e_putR (kd := 25) (k := 5) (n := 46) rfl,
  fun a L st h => e_ld0R (n := 47) rfl,
  fun x0 x1 a L st h => e_ld2R (n := 48) rfl,
  fun a q L st h => e_putR (kd := 25) (k := 2) (n := 51) rfl,
  fun x0 x1 x2 a L st h => e_ld3I (n := 52) rfl,
  fun a L st h => e_ifne (t := 60) (n := 55) rfl,
  fun a L st h => e_ld0R (n := 56) rfl,
  fun L st h => e_push (v := zvr none) (n := 57) rfl,
  fun a q L st h => e_putR (kd := 25) (k := 4) (n := 60) rfl,
  fun L h => e_ret rfl⟩
theorem allJ12_init_2_v9 : zall yJ12_init_2 cJ12_init_2 5 none 2 kJ12_init_2_v9.1 :=
  ⟨k_aload_n dJ12_init_2_0,
  k_objI (C := RX9) (T0 := TX9) (ci := 9) dJ12_init_2_1 rfl q586 q177 q178 (by decide),
  k_aload_n dJ12_init_2_4,
  k_aload_n dJ12_init_2_5,
  k_putR (C := RX9) (T := TX9) (N := 8) (ci := 9) (k := 2) (ref := "java/lang/Throwable") dJ12_init_2_6 rfl in_X9 tyX9 tyX9_ok nmX9 (by decide) (Or.inl q622) (Or.inl rfl) (Or.inl rfl) (tyX9_ok 2 (by decide)) (Or.inl ⟨_, rfl⟩) (fun _ _ _ => rfl),
  k_aload_n dJ12_init_2_9,
  k_gets (C := "java/lang/Throwable") dJ12_init_2_10 (List.mem_of_getElem? (i := 4) rfl) q587 rfl trivial,
  k_putR (C := RX9) (T := TX9) (N := 8) (ci := 9) (k := 3) (ref := "java/lang/Throwable") dJ12_init_2_13 rfl in_X9 tyX9 tyX9_ok nmX9 (by decide) (Or.inl q623) (Or.inl rfl) (Or.inl rfl) (tyX9_ok 3 (by decide)) (Or.inr ⟨_, rfl⟩) (fun _ _ _ => rfl),
  k_aload_n dJ12_init_2_16,
  k_gets (C := "java/lang/Throwable") dJ12_init_2_17 (List.mem_of_getElem? (i := 3) rfl) q589 rfl trivial,
  k_putR (C := RX9) (T := TX9) (N := 8) (ci := 9) (k := 4) (ref := "java/lang/Throwable") dJ12_init_2_20 rfl in_X9 tyX9 tyX9_ok nmX9 (by decide) (Or.inl q624) (Or.inl rfl) (Or.inl rfl) (tyX9_ok 4 (by decide)) (Or.inl ⟨_, rfl⟩) (fun _ _ _ => rfl),
  k_iload dJ12_init_2_23,
  k_ifeq (t := 36) dJ12_init_2_25 (by decide),
  k_aload_n dJ12_init_2_28,
  k_stuck,
  k_pop dJ12_init_2_32,
  k_goto (t := 41) dJ12_init_2_33 (by decide),
  k_aload_n dJ12_init_2_36,
  k_anull dJ12_init_2_37,
  k_putR (C := RX9) (T := TX9) (N := 8) (ci := 9) (k := 3) (ref := "java/lang/Throwable") dJ12_init_2_38 rfl in_X9 tyX9 tyX9_ok nmX9 (by decide) (Or.inl q623) (Or.inl rfl) (Or.inl rfl) (tyX9_ok 3 (by decide)) (Or.inr ⟨_, rfl⟩) (fun _ _ _ => rfl),
  k_aload_n dJ12_init_2_41,
  k_aload_n dJ12_init_2_42,
  k_putR (C := RX9) (T := TX9) (N := 8) (ci := 9) (k := 5) (ref := "java/lang/Throwable") dJ12_init_2_43 rfl in_X9 tyX9 tyX9_ok nmX9 (by decide) (Or.inl q621) (Or.inl rfl) (Or.inl rfl) (tyX9_ok 5 (by decide)) (Or.inl ⟨_, rfl⟩) (fun _ _ _ => rfl),
  k_aload_n dJ12_init_2_46,
  k_aload_n dJ12_init_2_47,
  k_putR (C := RX9) (T := TX9) (N := 8) (ci := 9) (k := 2) (ref := "java/lang/Throwable") dJ12_init_2_48 rfl in_X9 tyX9 tyX9_ok nmX9 (by decide) (Or.inl q622) (Or.inl rfl) (Or.inl rfl) (tyX9_ok 2 (by decide)) (Or.inl ⟨_, rfl⟩) (fun _ _ _ => rfl),
  k_iload_n dJ12_init_2_51,
  k_ifne (t := 60) dJ12_init_2_52 (by decide),
  k_aload_n dJ12_init_2_55,
  k_anull dJ12_init_2_56,
  k_putR (C := RX9) (T := TX9) (N := 8) (ci := 9) (k := 4) (ref := "java/lang/Throwable") dJ12_init_2_57 rfl in_X9 tyX9 tyX9_ok nmX9 (by decide) (Or.inl q624) (Or.inl rfl) (Or.inl rfl) (tyX9_ok 4 (by decide)) (Or.inl ⟨_, rfl⟩) (fun _ _ _ => rfl),
  k_ret dJ12_init_2_60, trivial⟩
theorem sndJ12_init_2_v9 : MSound 2 yJ12_init_2 (ws_ yJ12_init_2 cJ12_init_2 5 none) mJ12_init_2_v9 := msound_M (by decide) allJ12_init_2_v9 (fun _ _ => rfl)
/-! java/lang/Throwable.<init>(Ljava/lang/String;Ljava/lang/Throwable;ZZ)V -/
noncomputable def kJ12_init_2_v10 : ZM := ([(0, zi_ld 1 0 1), (1, zi_objI 26 4), (4, zi_ld 1 0 5), (5, zi_ld 1 0 6), (6, zi_putR 26 0 9), (9, zi_ld 1 0 10), (10, zi_push (zvr (some 1000000005)) 13), (13, zi_putR 26 1 16), (16, zi_ld 1 0 17), (17, zi_push (zvr (some 1000000004)) 20), (20, zi_putR 26 2 23), (23, zi_ld 0 4 25), (25, zi_if (fun a => zc_eq a 0) 36 28), (28, zi_ld 1 0 29), (29, zi_stuck), (32, zi_pop 33), (33, zi_goto 41), (36, zi_ld 1 0 37), (37, zi_push (zvr none) 38), (38, zi_putR 26 1 41), (41, zi_ld 1 0 42), (42, zi_ld 1 1 43), (43, zi_putR 26 3 46), (46, zi_ld 1 0 47), (47, zi_ld 1 2 48), (48, zi_putR 26 0 51), (51, zi_ld 0 3 52), (52, zi_if (fun a => zc_ne a 0) 60 55), (55, zi_ld 1 0 56), (56, zi_push (zvr none) 57), (57, zi_putR 26 2 60), (60, zi_ret)], fun _ _ => none)
noncomputable def mJ12_init_2_v10 : ZF := zrunM kJ12_init_2_v10 5
theorem enJ12_init_2_v10 (x0 : Option Nat) (x1 : Option Nat) (x2 : Option Nat) (x3 : Int) (x4 : Int) (h : PH) : mJ12_init_2_v10 [zvr x0, zvr x1, zvr x2, zvi x3, zvi x4] h = zev kJ12_init_2_v10 0 [zvr x0, zvr x1, zvr x2, zvi x3, zvi x4] [] h := zrunM_eq rfl rfl
theorem rJ12_init_2_v10 : (∀ (a : Option Nat) (L st : List ZV) (h : PH), zev kJ12_init_2_v10 0 (zvr a :: L) st h = zev kJ12_init_2_v10 1 (zvr a :: L) (zvr a :: st) h) ∧
  (∀ (q : Nat) (L st : List ZV) (h : PH), zev kJ12_init_2_v10 1 L (zvr (some q) :: st) h = if (ph_K h q).1 % 1000 = 26 ∧ zcat st ≤ 8 then zev kJ12_init_2_v10 4 L st h else none) ∧
  (∀ (a : Option Nat) (L st : List ZV) (h : PH), zev kJ12_init_2_v10 4 (zvr a :: L) st h = zev kJ12_init_2_v10 5 (zvr a :: L) (zvr a :: st) h) ∧
  (∀ (a : Option Nat) (L st : List ZV) (h : PH), zev kJ12_init_2_v10 5 (zvr a :: L) st h = zev kJ12_init_2_v10 6 (zvr a :: L) (zvr a :: st) h) ∧
  (∀ (a : Option Nat) (q : Nat) (L st : List ZV) (h : PH), zev kJ12_init_2_v10 6 L (zvr a :: zvr (some q) :: st) h = if (ph_K h q).1 = 26 then zev kJ12_init_2_v10 9 L st (st_R h q 0 a) else none) ∧
  (∀ (a : Option Nat) (L st : List ZV) (h : PH), zev kJ12_init_2_v10 9 (zvr a :: L) st h = zev kJ12_init_2_v10 10 (zvr a :: L) (zvr a :: st) h) ∧
  (∀ (L st : List ZV) (h : PH), zev kJ12_init_2_v10 10 L st h = zev kJ12_init_2_v10 13 L (zvr (some 1000000005) :: st) h) ∧
  (∀ (a : Option Nat) (q : Nat) (L st : List ZV) (h : PH), zev kJ12_init_2_v10 13 L (zvr a :: zvr (some q) :: st) h = if (ph_K h q).1 = 26 then zev kJ12_init_2_v10 16 L st (st_R h q 1 a) else none) ∧
  (∀ (a : Option Nat) (L st : List ZV) (h : PH), zev kJ12_init_2_v10 16 (zvr a :: L) st h = zev kJ12_init_2_v10 17 (zvr a :: L) (zvr a :: st) h) ∧
  (∀ (L st : List ZV) (h : PH), zev kJ12_init_2_v10 17 L st h = zev kJ12_init_2_v10 20 L (zvr (some 1000000004) :: st) h) ∧
  (∀ (a : Option Nat) (q : Nat) (L st : List ZV) (h : PH), zev kJ12_init_2_v10 20 L (zvr a :: zvr (some q) :: st) h = if (ph_K h q).1 = 26 then zev kJ12_init_2_v10 23 L st (st_R h q 2 a) else none) ∧
  (∀ (x0 x1 x2 x3 : ZV) (a : Int) (L st : List ZV) (h : PH), zev kJ12_init_2_v10 23 (x0 :: x1 :: x2 :: x3 :: zvi a :: L) st h = zev kJ12_init_2_v10 25 (x0 :: x1 :: x2 :: x3 :: zvi a :: L) (zvi a :: st) h) ∧
  (∀ (a : Int) (L st : List ZV) (h : PH), zev kJ12_init_2_v10 25 L (zvi a :: st) h = if a = 0 then zev kJ12_init_2_v10 36 L st h else zev kJ12_init_2_v10 28 L st h) ∧
  (∀ (a : Option Nat) (L st : List ZV) (h : PH), zev kJ12_init_2_v10 28 (zvr a :: L) st h = zev kJ12_init_2_v10 29 (zvr a :: L) (zvr a :: st) h) ∧
  (∀ (a : Int) (L st : List ZV) (h : PH), zev kJ12_init_2_v10 32 L (zvi a :: st) h = zev kJ12_init_2_v10 33 L st h) ∧
  (∀ (a : Option Nat) (L st : List ZV) (h : PH), zev kJ12_init_2_v10 32 L (zvr a :: st) h = zev kJ12_init_2_v10 33 L st h) ∧
  (∀ (L st : List ZV) (h : PH), zev kJ12_init_2_v10 33 L st h = zev kJ12_init_2_v10 41 L st h) ∧
  (∀ (a : Option Nat) (L st : List ZV) (h : PH), zev kJ12_init_2_v10 36 (zvr a :: L) st h = zev kJ12_init_2_v10 37 (zvr a :: L) (zvr a :: st) h) ∧
  (∀ (L st : List ZV) (h : PH), zev kJ12_init_2_v10 37 L st h = zev kJ12_init_2_v10 38 L (zvr none :: st) h) ∧
  (∀ (a : Option Nat) (q : Nat) (L st : List ZV) (h : PH), zev kJ12_init_2_v10 38 L (zvr a :: zvr (some q) :: st) h = if (ph_K h q).1 = 26 then zev kJ12_init_2_v10 41 L st (st_R h q 1 a) else none) ∧
  (∀ (a : Option Nat) (L st : List ZV) (h : PH), zev kJ12_init_2_v10 41 (zvr a :: L) st h = zev kJ12_init_2_v10 42 (zvr a :: L) (zvr a :: st) h) ∧
  (∀ (x0 : ZV) (a : Option Nat) (L st : List ZV) (h : PH), zev kJ12_init_2_v10 42 (x0 :: zvr a :: L) st h = zev kJ12_init_2_v10 43 (x0 :: zvr a :: L) (zvr a :: st) h) ∧
  (∀ (a : Option Nat) (q : Nat) (L st : List ZV) (h : PH), zev kJ12_init_2_v10 43 L (zvr a :: zvr (some q) :: st) h = if (ph_K h q).1 = 26 then zev kJ12_init_2_v10 46 L st (st_R h q 3 a) else none) ∧
  (∀ (a : Option Nat) (L st : List ZV) (h : PH), zev kJ12_init_2_v10 46 (zvr a :: L) st h = zev kJ12_init_2_v10 47 (zvr a :: L) (zvr a :: st) h) ∧
  (∀ (x0 x1 : ZV) (a : Option Nat) (L st : List ZV) (h : PH), zev kJ12_init_2_v10 47 (x0 :: x1 :: zvr a :: L) st h = zev kJ12_init_2_v10 48 (x0 :: x1 :: zvr a :: L) (zvr a :: st) h) ∧
  (∀ (a : Option Nat) (q : Nat) (L st : List ZV) (h : PH), zev kJ12_init_2_v10 48 L (zvr a :: zvr (some q) :: st) h = if (ph_K h q).1 = 26 then zev kJ12_init_2_v10 51 L st (st_R h q 0 a) else none) ∧
  (∀ (x0 x1 x2 : ZV) (a : Int) (L st : List ZV) (h : PH), zev kJ12_init_2_v10 51 (x0 :: x1 :: x2 :: zvi a :: L) st h = zev kJ12_init_2_v10 52 (x0 :: x1 :: x2 :: zvi a :: L) (zvi a :: st) h) ∧
  (∀ (a : Int) (L st : List ZV) (h : PH), zev kJ12_init_2_v10 52 L (zvi a :: st) h = if a ≠ 0 then zev kJ12_init_2_v10 60 L st h else zev kJ12_init_2_v10 55 L st h) ∧
  (∀ (a : Option Nat) (L st : List ZV) (h : PH), zev kJ12_init_2_v10 55 (zvr a :: L) st h = zev kJ12_init_2_v10 56 (zvr a :: L) (zvr a :: st) h) ∧
  (∀ (L st : List ZV) (h : PH), zev kJ12_init_2_v10 56 L st h = zev kJ12_init_2_v10 57 L (zvr none :: st) h) ∧
  (∀ (a : Option Nat) (q : Nat) (L st : List ZV) (h : PH), zev kJ12_init_2_v10 57 L (zvr a :: zvr (some q) :: st) h = if (ph_K h q).1 = 26 then zev kJ12_init_2_v10 60 L st (st_R h q 2 a) else none) ∧
  (∀ (L : List ZV) (h : PH), zev kJ12_init_2_v10 60 L [] h = zr0 h) :=
  ⟨fun a L st h => e_ld0R (n := 1) rfl,
  fun q L st h => e_objI (kd := 26) (n := 4) rfl,
  fun a L st h => e_ld0R (n := 5) rfl,
  fun a L st h => e_ld0R (n := 6) rfl,
  fun a q L st h => e_putR (kd := 26) (k := 0) (n := 9) rfl,
  fun a L st h => e_ld0R (n := 10) rfl,
  fun L st h => e_push (v := zvr (some 1000000005)) (n := 13) rfl,
  fun a q L st h => e_putR (kd := 26) (k := 1) (n := 16) rfl,
  fun a L st h => e_ld0R (n := 17) rfl,
  fun L st h => e_push (v := zvr (some 1000000004)) (n := 20) rfl,
  fun a q L st h => e_putR (kd := 26) (k := 2) (n := 23) rfl,
  fun x0 x1 x2 x3 a L st h => e_ld4I (n := 25) rfl,
  fun a L st h => e_ifeq (t := 36) (n := 28) rfl,
  fun a L st h => e_ld0R (n := 29) rfl,
  fun a L st h => e_popI (n := 33) rfl,
  fun a L st h => e_popR (n := 33) rfl,
  fun L st h => e_goto (t := 41) rfl,
  fun a L st h => e_ld0R (n := 37) rfl,
  fun L st h => e_push (v := zvr none) (n := 38) rfl,
  fun a q L st h => e_putR (kd := 26) (k := 1) (n := 41) rfl,
  fun a L st h => e_ld0R (n := 42) rfl,
  fun x0 a L st h => e_ld1R (n := 43) rfl,
  fun a q L st h => e_putR (kd := 26) (k := 3) (n := 46) rfl,
  fun a L st h => e_ld0R (n := 47) rfl,
  fun x0 x1 a L st h => e_ld2R (n := 48) rfl,
  fun a q L st h => e_putR (kd := 26) (k := 0) (n := 51) rfl,
  fun x0 x1 x2 a L st h => e_ld3I (n := 52) rfl,
  fun a L st h => e_ifne (t := 60) (n := 55) rfl,
  fun a L st h => e_ld0R (n := 56) rfl,
  fun L st h => e_push (v := zvr none) (n := 57) rfl,
  fun a q L st h => e_putR (kd := 26) (k := 2) (n := 60) rfl,
  fun L h => e_ret rfl⟩
theorem allJ12_init_2_v10 : zall yJ12_init_2 cJ12_init_2 5 none 2 kJ12_init_2_v10.1 :=
  ⟨k_aload_n dJ12_init_2_0,
  k_objI (C := RX12) (T0 := TX12) (ci := 10) dJ12_init_2_1 rfl q586 q177 q178 (by decide),
  k_aload_n dJ12_init_2_4,
  k_aload_n dJ12_init_2_5,
  k_putR (C := RX12) (T := TX12) (N := 6) (ci := 10) (k := 0) (ref := "java/lang/Throwable") dJ12_init_2_6 rfl in_X12 tyX12 tyX12_ok nmX12 (by decide) (Or.inl q622) (Or.inl rfl) (Or.inl rfl) (tyX12_ok 0 (by decide)) (Or.inl ⟨_, rfl⟩) (fun _ _ _ => rfl),
  k_aload_n dJ12_init_2_9,
  k_gets (C := "java/lang/Throwable") dJ12_init_2_10 (List.mem_of_getElem? (i := 4) rfl) q587 rfl trivial,
  k_putR (C := RX12) (T := TX12) (N := 6) (ci := 10) (k := 1) (ref := "java/lang/Throwable") dJ12_init_2_13 rfl in_X12 tyX12 tyX12_ok nmX12 (by decide) (Or.inl q623) (Or.inl rfl) (Or.inl rfl) (tyX12_ok 1 (by decide)) (Or.inr ⟨_, rfl⟩) (fun _ _ _ => rfl),
  k_aload_n dJ12_init_2_16,
  k_gets (C := "java/lang/Throwable") dJ12_init_2_17 (List.mem_of_getElem? (i := 3) rfl) q589 rfl trivial,
  k_putR (C := RX12) (T := TX12) (N := 6) (ci := 10) (k := 2) (ref := "java/lang/Throwable") dJ12_init_2_20 rfl in_X12 tyX12 tyX12_ok nmX12 (by decide) (Or.inl q624) (Or.inl rfl) (Or.inl rfl) (tyX12_ok 2 (by decide)) (Or.inl ⟨_, rfl⟩) (fun _ _ _ => rfl),
  k_iload dJ12_init_2_23,
  k_ifeq (t := 36) dJ12_init_2_25 (by decide),
  k_aload_n dJ12_init_2_28,
  k_stuck,
  k_pop dJ12_init_2_32,
  k_goto (t := 41) dJ12_init_2_33 (by decide),
  k_aload_n dJ12_init_2_36,
  k_anull dJ12_init_2_37,
  k_putR (C := RX12) (T := TX12) (N := 6) (ci := 10) (k := 1) (ref := "java/lang/Throwable") dJ12_init_2_38 rfl in_X12 tyX12 tyX12_ok nmX12 (by decide) (Or.inl q623) (Or.inl rfl) (Or.inl rfl) (tyX12_ok 1 (by decide)) (Or.inr ⟨_, rfl⟩) (fun _ _ _ => rfl),
  k_aload_n dJ12_init_2_41,
  k_aload_n dJ12_init_2_42,
  k_putR (C := RX12) (T := TX12) (N := 6) (ci := 10) (k := 3) (ref := "java/lang/Throwable") dJ12_init_2_43 rfl in_X12 tyX12 tyX12_ok nmX12 (by decide) (Or.inl q621) (Or.inl rfl) (Or.inl rfl) (tyX12_ok 3 (by decide)) (Or.inl ⟨_, rfl⟩) (fun _ _ _ => rfl),
  k_aload_n dJ12_init_2_46,
  k_aload_n dJ12_init_2_47,
  k_putR (C := RX12) (T := TX12) (N := 6) (ci := 10) (k := 0) (ref := "java/lang/Throwable") dJ12_init_2_48 rfl in_X12 tyX12 tyX12_ok nmX12 (by decide) (Or.inl q622) (Or.inl rfl) (Or.inl rfl) (tyX12_ok 0 (by decide)) (Or.inl ⟨_, rfl⟩) (fun _ _ _ => rfl),
  k_iload_n dJ12_init_2_51,
  k_ifne (t := 60) dJ12_init_2_52 (by decide),
  k_aload_n dJ12_init_2_55,
  k_anull dJ12_init_2_56,
  k_putR (C := RX12) (T := TX12) (N := 6) (ci := 10) (k := 2) (ref := "java/lang/Throwable") dJ12_init_2_57 rfl in_X12 tyX12 tyX12_ok nmX12 (by decide) (Or.inl q624) (Or.inl rfl) (Or.inl rfl) (tyX12_ok 2 (by decide)) (Or.inl ⟨_, rfl⟩) (fun _ _ _ => rfl),
  k_ret dJ12_init_2_60, trivial⟩
theorem sndJ12_init_2_v10 : MSound 2 yJ12_init_2 (ws_ yJ12_init_2 cJ12_init_2 5 none) mJ12_init_2_v10 := msound_M (by decide) allJ12_init_2_v10 (fun _ _ => rfl)
/-! java/lang/Throwable.<init>(Ljava/lang/String;Ljava/lang/Throwable;ZZ)V -/
noncomputable def kJ12_init_2_v11 : ZM := ([(0, zi_ld 1 0 1), (1, zi_objI 27 4), (4, zi_ld 1 0 5), (5, zi_ld 1 0 6), (6, zi_putR 27 0 9), (9, zi_ld 1 0 10), (10, zi_push (zvr (some 1000000005)) 13), (13, zi_putR 27 1 16), (16, zi_ld 1 0 17), (17, zi_push (zvr (some 1000000004)) 20), (20, zi_putR 27 2 23), (23, zi_ld 0 4 25), (25, zi_if (fun a => zc_eq a 0) 36 28), (28, zi_ld 1 0 29), (29, zi_stuck), (32, zi_pop 33), (33, zi_goto 41), (36, zi_ld 1 0 37), (37, zi_push (zvr none) 38), (38, zi_putR 27 1 41), (41, zi_ld 1 0 42), (42, zi_ld 1 1 43), (43, zi_putR 27 3 46), (46, zi_ld 1 0 47), (47, zi_ld 1 2 48), (48, zi_putR 27 0 51), (51, zi_ld 0 3 52), (52, zi_if (fun a => zc_ne a 0) 60 55), (55, zi_ld 1 0 56), (56, zi_push (zvr none) 57), (57, zi_putR 27 2 60), (60, zi_ret)], fun _ _ => none)
noncomputable def mJ12_init_2_v11 : ZF := zrunM kJ12_init_2_v11 5
theorem enJ12_init_2_v11 (x0 : Option Nat) (x1 : Option Nat) (x2 : Option Nat) (x3 : Int) (x4 : Int) (h : PH) : mJ12_init_2_v11 [zvr x0, zvr x1, zvr x2, zvi x3, zvi x4] h = zev kJ12_init_2_v11 0 [zvr x0, zvr x1, zvr x2, zvi x3, zvi x4] [] h := zrunM_eq rfl rfl
theorem rJ12_init_2_v11 : (∀ (a : Option Nat) (L st : List ZV) (h : PH), zev kJ12_init_2_v11 0 (zvr a :: L) st h = zev kJ12_init_2_v11 1 (zvr a :: L) (zvr a :: st) h) ∧
  (∀ (q : Nat) (L st : List ZV) (h : PH), zev kJ12_init_2_v11 1 L (zvr (some q) :: st) h = if (ph_K h q).1 % 1000 = 27 ∧ zcat st ≤ 8 then zev kJ12_init_2_v11 4 L st h else none) ∧
  (∀ (a : Option Nat) (L st : List ZV) (h : PH), zev kJ12_init_2_v11 4 (zvr a :: L) st h = zev kJ12_init_2_v11 5 (zvr a :: L) (zvr a :: st) h) ∧
  (∀ (a : Option Nat) (L st : List ZV) (h : PH), zev kJ12_init_2_v11 5 (zvr a :: L) st h = zev kJ12_init_2_v11 6 (zvr a :: L) (zvr a :: st) h) ∧
  (∀ (a : Option Nat) (q : Nat) (L st : List ZV) (h : PH), zev kJ12_init_2_v11 6 L (zvr a :: zvr (some q) :: st) h = if (ph_K h q).1 = 27 then zev kJ12_init_2_v11 9 L st (st_R h q 0 a) else none) ∧
  (∀ (a : Option Nat) (L st : List ZV) (h : PH), zev kJ12_init_2_v11 9 (zvr a :: L) st h = zev kJ12_init_2_v11 10 (zvr a :: L) (zvr a :: st) h) ∧
  (∀ (L st : List ZV) (h : PH), zev kJ12_init_2_v11 10 L st h = zev kJ12_init_2_v11 13 L (zvr (some 1000000005) :: st) h) ∧
  (∀ (a : Option Nat) (q : Nat) (L st : List ZV) (h : PH), zev kJ12_init_2_v11 13 L (zvr a :: zvr (some q) :: st) h = if (ph_K h q).1 = 27 then zev kJ12_init_2_v11 16 L st (st_R h q 1 a) else none) ∧
  (∀ (a : Option Nat) (L st : List ZV) (h : PH), zev kJ12_init_2_v11 16 (zvr a :: L) st h = zev kJ12_init_2_v11 17 (zvr a :: L) (zvr a :: st) h) ∧
  (∀ (L st : List ZV) (h : PH), zev kJ12_init_2_v11 17 L st h = zev kJ12_init_2_v11 20 L (zvr (some 1000000004) :: st) h) ∧
  (∀ (a : Option Nat) (q : Nat) (L st : List ZV) (h : PH), zev kJ12_init_2_v11 20 L (zvr a :: zvr (some q) :: st) h = if (ph_K h q).1 = 27 then zev kJ12_init_2_v11 23 L st (st_R h q 2 a) else none) ∧
  (∀ (x0 x1 x2 x3 : ZV) (a : Int) (L st : List ZV) (h : PH), zev kJ12_init_2_v11 23 (x0 :: x1 :: x2 :: x3 :: zvi a :: L) st h = zev kJ12_init_2_v11 25 (x0 :: x1 :: x2 :: x3 :: zvi a :: L) (zvi a :: st) h) ∧
  (∀ (a : Int) (L st : List ZV) (h : PH), zev kJ12_init_2_v11 25 L (zvi a :: st) h = if a = 0 then zev kJ12_init_2_v11 36 L st h else zev kJ12_init_2_v11 28 L st h) ∧
  (∀ (a : Option Nat) (L st : List ZV) (h : PH), zev kJ12_init_2_v11 28 (zvr a :: L) st h = zev kJ12_init_2_v11 29 (zvr a :: L) (zvr a :: st) h) ∧
  (∀ (a : Int) (L st : List ZV) (h : PH), zev kJ12_init_2_v11 32 L (zvi a :: st) h = zev kJ12_init_2_v11 33 L st h) ∧
  (∀ (a : Option Nat) (L st : List ZV) (h : PH), zev kJ12_init_2_v11 32 L (zvr a :: st) h = zev kJ12_init_2_v11 33 L st h) ∧
  (∀ (L st : List ZV) (h : PH), zev kJ12_init_2_v11 33 L st h = zev kJ12_init_2_v11 41 L st h) ∧
  (∀ (a : Option Nat) (L st : List ZV) (h : PH), zev kJ12_init_2_v11 36 (zvr a :: L) st h = zev kJ12_init_2_v11 37 (zvr a :: L) (zvr a :: st) h) ∧
  (∀ (L st : List ZV) (h : PH), zev kJ12_init_2_v11 37 L st h = zev kJ12_init_2_v11 38 L (zvr none :: st) h) ∧
  (∀ (a : Option Nat) (q : Nat) (L st : List ZV) (h : PH), zev kJ12_init_2_v11 38 L (zvr a :: zvr (some q) :: st) h = if (ph_K h q).1 = 27 then zev kJ12_init_2_v11 41 L st (st_R h q 1 a) else none) ∧
  (∀ (a : Option Nat) (L st : List ZV) (h : PH), zev kJ12_init_2_v11 41 (zvr a :: L) st h = zev kJ12_init_2_v11 42 (zvr a :: L) (zvr a :: st) h) ∧
  (∀ (x0 : ZV) (a : Option Nat) (L st : List ZV) (h : PH), zev kJ12_init_2_v11 42 (x0 :: zvr a :: L) st h = zev kJ12_init_2_v11 43 (x0 :: zvr a :: L) (zvr a :: st) h) ∧
  (∀ (a : Option Nat) (q : Nat) (L st : List ZV) (h : PH), zev kJ12_init_2_v11 43 L (zvr a :: zvr (some q) :: st) h = if (ph_K h q).1 = 27 then zev kJ12_init_2_v11 46 L st (st_R h q 3 a) else none) ∧
  (∀ (a : Option Nat) (L st : List ZV) (h : PH), zev kJ12_init_2_v11 46 (zvr a :: L) st h = zev kJ12_init_2_v11 47 (zvr a :: L) (zvr a :: st) h) ∧
  (∀ (x0 x1 : ZV) (a : Option Nat) (L st : List ZV) (h : PH), zev kJ12_init_2_v11 47 (x0 :: x1 :: zvr a :: L) st h = zev kJ12_init_2_v11 48 (x0 :: x1 :: zvr a :: L) (zvr a :: st) h) ∧
  (∀ (a : Option Nat) (q : Nat) (L st : List ZV) (h : PH), zev kJ12_init_2_v11 48 L (zvr a :: zvr (some q) :: st) h = if (ph_K h q).1 = 27 then zev kJ12_init_2_v11 51 L st (st_R h q 0 a) else none) ∧
  (∀ (x0 x1 x2 : ZV) (a : Int) (L st : List ZV) (h : PH), zev kJ12_init_2_v11 51 (x0 :: x1 :: x2 :: zvi a :: L) st h = zev kJ12_init_2_v11 52 (x0 :: x1 :: x2 :: zvi a :: L) (zvi a :: st) h) ∧
  (∀ (a : Int) (L st : List ZV) (h : PH), zev kJ12_init_2_v11 52 L (zvi a :: st) h = if a ≠ 0 then zev kJ12_init_2_v11 60 L st h else zev kJ12_init_2_v11 55 L st h) ∧
  (∀ (a : Option Nat) (L st : List ZV) (h : PH), zev kJ12_init_2_v11 55 (zvr a :: L) st h = zev kJ12_init_2_v11 56 (zvr a :: L) (zvr a :: st) h) ∧
  (∀ (L st : List ZV) (h : PH), zev kJ12_init_2_v11 56 L st h = zev kJ12_init_2_v11 57 L (zvr none :: st) h) ∧
  (∀ (a : Option Nat) (q : Nat) (L st : List ZV) (h : PH), zev kJ12_init_2_v11 57 L (zvr a :: zvr (some q) :: st) h = if (ph_K h q).1 = 27 then zev kJ12_init_2_v11 60 L st (st_R h q 2 a) else none) ∧
  (∀ (L : List ZV) (h : PH), zev kJ12_init_2_v11 60 L [] h = zr0 h) :=
  ⟨fun a L st h => e_ld0R (n := 1) rfl,
  fun q L st h => e_objI (kd := 27) (n := 4) rfl,
  fun a L st h => e_ld0R (n := 5) rfl,
  fun a L st h => e_ld0R (n := 6) rfl,
  fun a q L st h => e_putR (kd := 27) (k := 0) (n := 9) rfl,
  fun a L st h => e_ld0R (n := 10) rfl,
  fun L st h => e_push (v := zvr (some 1000000005)) (n := 13) rfl,
  fun a q L st h => e_putR (kd := 27) (k := 1) (n := 16) rfl,
  fun a L st h => e_ld0R (n := 17) rfl,
  fun L st h => e_push (v := zvr (some 1000000004)) (n := 20) rfl,
  fun a q L st h => e_putR (kd := 27) (k := 2) (n := 23) rfl,
  fun x0 x1 x2 x3 a L st h => e_ld4I (n := 25) rfl,
  fun a L st h => e_ifeq (t := 36) (n := 28) rfl,
  fun a L st h => e_ld0R (n := 29) rfl,
  fun a L st h => e_popI (n := 33) rfl,
  fun a L st h => e_popR (n := 33) rfl,
  fun L st h => e_goto (t := 41) rfl,
  fun a L st h => e_ld0R (n := 37) rfl,
  fun L st h => e_push (v := zvr none) (n := 38) rfl,
  fun a q L st h => e_putR (kd := 27) (k := 1) (n := 41) rfl,
  fun a L st h => e_ld0R (n := 42) rfl,
  fun x0 a L st h => e_ld1R (n := 43) rfl,
  fun a q L st h => e_putR (kd := 27) (k := 3) (n := 46) rfl,
  fun a L st h => e_ld0R (n := 47) rfl,
  fun x0 x1 a L st h => e_ld2R (n := 48) rfl,
  fun a q L st h => e_putR (kd := 27) (k := 0) (n := 51) rfl,
  fun x0 x1 x2 a L st h => e_ld3I (n := 52) rfl,
  fun a L st h => e_ifne (t := 60) (n := 55) rfl,
  fun a L st h => e_ld0R (n := 56) rfl,
  fun L st h => e_push (v := zvr none) (n := 57) rfl,
  fun a q L st h => e_putR (kd := 27) (k := 2) (n := 60) rfl,
  fun L h => e_ret rfl⟩
theorem allJ12_init_2_v11 : zall yJ12_init_2 cJ12_init_2 5 none 2 kJ12_init_2_v11.1 :=
  ⟨k_aload_n dJ12_init_2_0,
  k_objI (C := RX13) (T0 := TX13) (ci := 11) dJ12_init_2_1 rfl q586 q177 q178 (by decide),
  k_aload_n dJ12_init_2_4,
  k_aload_n dJ12_init_2_5,
  k_putR (C := RX13) (T := TX13) (N := 7) (ci := 11) (k := 0) (ref := "java/lang/Throwable") dJ12_init_2_6 rfl in_X13 tyX13 tyX13_ok nmX13 (by decide) (Or.inl q622) (Or.inl rfl) (Or.inl rfl) (tyX13_ok 0 (by decide)) (Or.inl ⟨_, rfl⟩) (fun _ _ _ => rfl),
  k_aload_n dJ12_init_2_9,
  k_gets (C := "java/lang/Throwable") dJ12_init_2_10 (List.mem_of_getElem? (i := 4) rfl) q587 rfl trivial,
  k_putR (C := RX13) (T := TX13) (N := 7) (ci := 11) (k := 1) (ref := "java/lang/Throwable") dJ12_init_2_13 rfl in_X13 tyX13 tyX13_ok nmX13 (by decide) (Or.inl q623) (Or.inl rfl) (Or.inl rfl) (tyX13_ok 1 (by decide)) (Or.inr ⟨_, rfl⟩) (fun _ _ _ => rfl),
  k_aload_n dJ12_init_2_16,
  k_gets (C := "java/lang/Throwable") dJ12_init_2_17 (List.mem_of_getElem? (i := 3) rfl) q589 rfl trivial,
  k_putR (C := RX13) (T := TX13) (N := 7) (ci := 11) (k := 2) (ref := "java/lang/Throwable") dJ12_init_2_20 rfl in_X13 tyX13 tyX13_ok nmX13 (by decide) (Or.inl q624) (Or.inl rfl) (Or.inl rfl) (tyX13_ok 2 (by decide)) (Or.inl ⟨_, rfl⟩) (fun _ _ _ => rfl),
  k_iload dJ12_init_2_23,
  k_ifeq (t := 36) dJ12_init_2_25 (by decide),
  k_aload_n dJ12_init_2_28,
  k_stuck,
  k_pop dJ12_init_2_32,
  k_goto (t := 41) dJ12_init_2_33 (by decide),
  k_aload_n dJ12_init_2_36,
  k_anull dJ12_init_2_37,
  k_putR (C := RX13) (T := TX13) (N := 7) (ci := 11) (k := 1) (ref := "java/lang/Throwable") dJ12_init_2_38 rfl in_X13 tyX13 tyX13_ok nmX13 (by decide) (Or.inl q623) (Or.inl rfl) (Or.inl rfl) (tyX13_ok 1 (by decide)) (Or.inr ⟨_, rfl⟩) (fun _ _ _ => rfl),
  k_aload_n dJ12_init_2_41,
  k_aload_n dJ12_init_2_42,
  k_putR (C := RX13) (T := TX13) (N := 7) (ci := 11) (k := 3) (ref := "java/lang/Throwable") dJ12_init_2_43 rfl in_X13 tyX13 tyX13_ok nmX13 (by decide) (Or.inl q621) (Or.inl rfl) (Or.inl rfl) (tyX13_ok 3 (by decide)) (Or.inl ⟨_, rfl⟩) (fun _ _ _ => rfl),
  k_aload_n dJ12_init_2_46,
  k_aload_n dJ12_init_2_47,
  k_putR (C := RX13) (T := TX13) (N := 7) (ci := 11) (k := 0) (ref := "java/lang/Throwable") dJ12_init_2_48 rfl in_X13 tyX13 tyX13_ok nmX13 (by decide) (Or.inl q622) (Or.inl rfl) (Or.inl rfl) (tyX13_ok 0 (by decide)) (Or.inl ⟨_, rfl⟩) (fun _ _ _ => rfl),
  k_iload_n dJ12_init_2_51,
  k_ifne (t := 60) dJ12_init_2_52 (by decide),
  k_aload_n dJ12_init_2_55,
  k_anull dJ12_init_2_56,
  k_putR (C := RX13) (T := TX13) (N := 7) (ci := 11) (k := 2) (ref := "java/lang/Throwable") dJ12_init_2_57 rfl in_X13 tyX13 tyX13_ok nmX13 (by decide) (Or.inl q624) (Or.inl rfl) (Or.inl rfl) (tyX13_ok 2 (by decide)) (Or.inl ⟨_, rfl⟩) (fun _ _ _ => rfl),
  k_ret dJ12_init_2_60, trivial⟩
theorem sndJ12_init_2_v11 : MSound 2 yJ12_init_2 (ws_ yJ12_init_2 cJ12_init_2 5 none) mJ12_init_2_v11 := msound_M (by decide) allJ12_init_2_v11 (fun _ _ => rfl)
/-! java/lang/Exception.<init>(Ljava/lang/String;Ljava/lang/Throwable;ZZ)V -/
noncomputable def kJ13_init_v8 : ZM := ([(0, zi_ld 1 0 1), (1, zi_ld 1 1 2), (2, zi_ld 1 2 3), (3, zi_ld 0 3 4), (4, zi_ld 0 4 6), (6, zi_callV mJ12_init_2_v8 24 5 9), (9, zi_ret)], fun _ _ => none)
noncomputable def mJ13_init_v8 : ZF := zrunM kJ13_init_v8 5
theorem enJ13_init_v8 (x0 : Option Nat) (x1 : Option Nat) (x2 : Option Nat) (x3 : Int) (x4 : Int) (h : PH) : mJ13_init_v8 [zvr x0, zvr x1, zvr x2, zvi x3, zvi x4] h = zev kJ13_init_v8 0 [zvr x0, zvr x1, zvr x2, zvi x3, zvi x4] [] h := zrunM_eq rfl rfl
theorem rJ13_init_v8 : (∀ (a : Option Nat) (L st : List ZV) (h : PH), zev kJ13_init_v8 0 (zvr a :: L) st h = zev kJ13_init_v8 1 (zvr a :: L) (zvr a :: st) h) ∧
  (∀ (x0 : ZV) (a : Option Nat) (L st : List ZV) (h : PH), zev kJ13_init_v8 1 (x0 :: zvr a :: L) st h = zev kJ13_init_v8 2 (x0 :: zvr a :: L) (zvr a :: st) h) ∧
  (∀ (x0 x1 : ZV) (a : Option Nat) (L st : List ZV) (h : PH), zev kJ13_init_v8 2 (x0 :: x1 :: zvr a :: L) st h = zev kJ13_init_v8 3 (x0 :: x1 :: zvr a :: L) (zvr a :: st) h) ∧
  (∀ (x0 x1 x2 : ZV) (a : Int) (L st : List ZV) (h : PH), zev kJ13_init_v8 3 (x0 :: x1 :: x2 :: zvi a :: L) st h = zev kJ13_init_v8 4 (x0 :: x1 :: x2 :: zvi a :: L) (zvi a :: st) h) ∧
  (∀ (x0 x1 x2 x3 : ZV) (a : Int) (L st : List ZV) (h : PH), zev kJ13_init_v8 4 (x0 :: x1 :: x2 :: x3 :: zvi a :: L) st h = zev kJ13_init_v8 6 (x0 :: x1 :: x2 :: x3 :: zvi a :: L) (zvi a :: st) h) ∧
  (∀ (v0 v1 v2 v3 : ZV) (q : Nat) (L st : List ZV) (h : PH), zev kJ13_init_v8 6 L (v3 :: v2 :: v1 :: v0 :: zvr (some q) :: st) h = if (ph_K h q).1 % 1000 = 24 ∧ zcat st ≤ 8 then zk kJ13_init_v8 6 9 L st (mJ12_init_2_v8 [zvr (some q), v0, v1, v2, v3] h) else none) ∧
  (∀ (L : List ZV) (h : PH), zev kJ13_init_v8 9 L [] h = zr0 h) :=
  ⟨fun a L st h => e_ld0R (n := 1) rfl,
  fun x0 a L st h => e_ld1R (n := 2) rfl,
  fun x0 x1 a L st h => e_ld2R (n := 3) rfl,
  fun x0 x1 x2 a L st h => e_ld3I (n := 4) rfl,
  fun x0 x1 x2 x3 a L st h => e_ld4I (n := 6) rfl,
  fun v0 v1 v2 v3 q L st h => e_callV5 (F := mJ12_init_2_v8) (kd := 24) (n := 9) rfl,
  fun L h => e_ret rfl⟩
theorem allJ13_init_v8 : zall yJ13_init cJ13_init 5 none 3 kJ13_init_v8.1 :=
  ⟨k_aload_n dJ13_init_0,
  k_aload_n dJ13_init_1,
  k_aload_n dJ13_init_2,
  k_iload_n dJ13_init_3,
  k_iload dJ13_init_4,
  k_callI (y2 := yJ12_init_2) (C := RX8) (T0 := TX8) (ci := 8) dJ13_init_6 sndJ12_init_2_v8 rfl q613 q614 q146 q615 rfl (by decide +kernel) ⟨by decide, by decide⟩ (by decide) (by decide),
  k_ret dJ13_init_9, trivial⟩
theorem sndJ13_init_v8 : MSound 3 yJ13_init (ws_ yJ13_init cJ13_init 5 none) mJ13_init_v8 := msound_M (by decide) allJ13_init_v8 (fun _ _ => rfl)
/-! java/lang/Exception.<init>(Ljava/lang/String;Ljava/lang/Throwable;ZZ)V -/
noncomputable def kJ13_init_v9 : ZM := ([(0, zi_ld 1 0 1), (1, zi_ld 1 1 2), (2, zi_ld 1 2 3), (3, zi_ld 0 3 4), (4, zi_ld 0 4 6), (6, zi_callV mJ12_init_2_v9 25 5 9), (9, zi_ret)], fun _ _ => none)
noncomputable def mJ13_init_v9 : ZF := zrunM kJ13_init_v9 5
theorem enJ13_init_v9 (x0 : Option Nat) (x1 : Option Nat) (x2 : Option Nat) (x3 : Int) (x4 : Int) (h : PH) : mJ13_init_v9 [zvr x0, zvr x1, zvr x2, zvi x3, zvi x4] h = zev kJ13_init_v9 0 [zvr x0, zvr x1, zvr x2, zvi x3, zvi x4] [] h := zrunM_eq rfl rfl
theorem rJ13_init_v9 : (∀ (a : Option Nat) (L st : List ZV) (h : PH), zev kJ13_init_v9 0 (zvr a :: L) st h = zev kJ13_init_v9 1 (zvr a :: L) (zvr a :: st) h) ∧
  (∀ (x0 : ZV) (a : Option Nat) (L st : List ZV) (h : PH), zev kJ13_init_v9 1 (x0 :: zvr a :: L) st h = zev kJ13_init_v9 2 (x0 :: zvr a :: L) (zvr a :: st) h) ∧
  (∀ (x0 x1 : ZV) (a : Option Nat) (L st : List ZV) (h : PH), zev kJ13_init_v9 2 (x0 :: x1 :: zvr a :: L) st h = zev kJ13_init_v9 3 (x0 :: x1 :: zvr a :: L) (zvr a :: st) h) ∧
  (∀ (x0 x1 x2 : ZV) (a : Int) (L st : List ZV) (h : PH), zev kJ13_init_v9 3 (x0 :: x1 :: x2 :: zvi a :: L) st h = zev kJ13_init_v9 4 (x0 :: x1 :: x2 :: zvi a :: L) (zvi a :: st) h) ∧
  (∀ (x0 x1 x2 x3 : ZV) (a : Int) (L st : List ZV) (h : PH), zev kJ13_init_v9 4 (x0 :: x1 :: x2 :: x3 :: zvi a :: L) st h = zev kJ13_init_v9 6 (x0 :: x1 :: x2 :: x3 :: zvi a :: L) (zvi a :: st) h) ∧
  (∀ (v0 v1 v2 v3 : ZV) (q : Nat) (L st : List ZV) (h : PH), zev kJ13_init_v9 6 L (v3 :: v2 :: v1 :: v0 :: zvr (some q) :: st) h = if (ph_K h q).1 % 1000 = 25 ∧ zcat st ≤ 8 then zk kJ13_init_v9 6 9 L st (mJ12_init_2_v9 [zvr (some q), v0, v1, v2, v3] h) else none) ∧
  (∀ (L : List ZV) (h : PH), zev kJ13_init_v9 9 L [] h = zr0 h) :=
  ⟨fun a L st h => e_ld0R (n := 1) rfl,
  fun x0 a L st h => e_ld1R (n := 2) rfl,
  fun x0 x1 a L st h => e_ld2R (n := 3) rfl,
  fun x0 x1 x2 a L st h => e_ld3I (n := 4) rfl,
  fun x0 x1 x2 x3 a L st h => e_ld4I (n := 6) rfl,
  fun v0 v1 v2 v3 q L st h => e_callV5 (F := mJ12_init_2_v9) (kd := 25) (n := 9) rfl,
  fun L h => e_ret rfl⟩
theorem allJ13_init_v9 : zall yJ13_init cJ13_init 5 none 3 kJ13_init_v9.1 :=
  ⟨k_aload_n dJ13_init_0,
  k_aload_n dJ13_init_1,
  k_aload_n dJ13_init_2,
  k_iload_n dJ13_init_3,
  k_iload dJ13_init_4,
  k_callI (y2 := yJ12_init_2) (C := RX9) (T0 := TX9) (ci := 9) dJ13_init_6 sndJ12_init_2_v9 rfl q613 q614 q146 q615 rfl (by decide +kernel) ⟨by decide, by decide⟩ (by decide) (by decide),
  k_ret dJ13_init_9, trivial⟩
theorem sndJ13_init_v9 : MSound 3 yJ13_init (ws_ yJ13_init cJ13_init 5 none) mJ13_init_v9 := msound_M (by decide) allJ13_init_v9 (fun _ _ => rfl)
/-! java/lang/Exception.<init>(Ljava/lang/String;Ljava/lang/Throwable;ZZ)V -/
noncomputable def kJ13_init_v10 : ZM := ([(0, zi_ld 1 0 1), (1, zi_ld 1 1 2), (2, zi_ld 1 2 3), (3, zi_ld 0 3 4), (4, zi_ld 0 4 6), (6, zi_callV mJ12_init_2_v10 26 5 9), (9, zi_ret)], fun _ _ => none)
noncomputable def mJ13_init_v10 : ZF := zrunM kJ13_init_v10 5
theorem enJ13_init_v10 (x0 : Option Nat) (x1 : Option Nat) (x2 : Option Nat) (x3 : Int) (x4 : Int) (h : PH) : mJ13_init_v10 [zvr x0, zvr x1, zvr x2, zvi x3, zvi x4] h = zev kJ13_init_v10 0 [zvr x0, zvr x1, zvr x2, zvi x3, zvi x4] [] h := zrunM_eq rfl rfl
theorem rJ13_init_v10 : (∀ (a : Option Nat) (L st : List ZV) (h : PH), zev kJ13_init_v10 0 (zvr a :: L) st h = zev kJ13_init_v10 1 (zvr a :: L) (zvr a :: st) h) ∧
  (∀ (x0 : ZV) (a : Option Nat) (L st : List ZV) (h : PH), zev kJ13_init_v10 1 (x0 :: zvr a :: L) st h = zev kJ13_init_v10 2 (x0 :: zvr a :: L) (zvr a :: st) h) ∧
  (∀ (x0 x1 : ZV) (a : Option Nat) (L st : List ZV) (h : PH), zev kJ13_init_v10 2 (x0 :: x1 :: zvr a :: L) st h = zev kJ13_init_v10 3 (x0 :: x1 :: zvr a :: L) (zvr a :: st) h) ∧
  (∀ (x0 x1 x2 : ZV) (a : Int) (L st : List ZV) (h : PH), zev kJ13_init_v10 3 (x0 :: x1 :: x2 :: zvi a :: L) st h = zev kJ13_init_v10 4 (x0 :: x1 :: x2 :: zvi a :: L) (zvi a :: st) h) ∧
  (∀ (x0 x1 x2 x3 : ZV) (a : Int) (L st : List ZV) (h : PH), zev kJ13_init_v10 4 (x0 :: x1 :: x2 :: x3 :: zvi a :: L) st h = zev kJ13_init_v10 6 (x0 :: x1 :: x2 :: x3 :: zvi a :: L) (zvi a :: st) h) ∧
  (∀ (v0 v1 v2 v3 : ZV) (q : Nat) (L st : List ZV) (h : PH), zev kJ13_init_v10 6 L (v3 :: v2 :: v1 :: v0 :: zvr (some q) :: st) h = if (ph_K h q).1 % 1000 = 26 ∧ zcat st ≤ 8 then zk kJ13_init_v10 6 9 L st (mJ12_init_2_v10 [zvr (some q), v0, v1, v2, v3] h) else none) ∧
  (∀ (L : List ZV) (h : PH), zev kJ13_init_v10 9 L [] h = zr0 h) :=
  ⟨fun a L st h => e_ld0R (n := 1) rfl,
  fun x0 a L st h => e_ld1R (n := 2) rfl,
  fun x0 x1 a L st h => e_ld2R (n := 3) rfl,
  fun x0 x1 x2 a L st h => e_ld3I (n := 4) rfl,
  fun x0 x1 x2 x3 a L st h => e_ld4I (n := 6) rfl,
  fun v0 v1 v2 v3 q L st h => e_callV5 (F := mJ12_init_2_v10) (kd := 26) (n := 9) rfl,
  fun L h => e_ret rfl⟩
theorem allJ13_init_v10 : zall yJ13_init cJ13_init 5 none 3 kJ13_init_v10.1 :=
  ⟨k_aload_n dJ13_init_0,
  k_aload_n dJ13_init_1,
  k_aload_n dJ13_init_2,
  k_iload_n dJ13_init_3,
  k_iload dJ13_init_4,
  k_callI (y2 := yJ12_init_2) (C := RX12) (T0 := TX12) (ci := 10) dJ13_init_6 sndJ12_init_2_v10 rfl q613 q614 q146 q615 rfl (by decide +kernel) ⟨by decide, by decide⟩ (by decide) (by decide),
  k_ret dJ13_init_9, trivial⟩
theorem sndJ13_init_v10 : MSound 3 yJ13_init (ws_ yJ13_init cJ13_init 5 none) mJ13_init_v10 := msound_M (by decide) allJ13_init_v10 (fun _ _ => rfl)
/-! java/lang/Exception.<init>(Ljava/lang/String;Ljava/lang/Throwable;ZZ)V -/
noncomputable def kJ13_init_v11 : ZM := ([(0, zi_ld 1 0 1), (1, zi_ld 1 1 2), (2, zi_ld 1 2 3), (3, zi_ld 0 3 4), (4, zi_ld 0 4 6), (6, zi_callV mJ12_init_2_v11 27 5 9), (9, zi_ret)], fun _ _ => none)
noncomputable def mJ13_init_v11 : ZF := zrunM kJ13_init_v11 5
theorem enJ13_init_v11 (x0 : Option Nat) (x1 : Option Nat) (x2 : Option Nat) (x3 : Int) (x4 : Int) (h : PH) : mJ13_init_v11 [zvr x0, zvr x1, zvr x2, zvi x3, zvi x4] h = zev kJ13_init_v11 0 [zvr x0, zvr x1, zvr x2, zvi x3, zvi x4] [] h := zrunM_eq rfl rfl
theorem rJ13_init_v11 : (∀ (a : Option Nat) (L st : List ZV) (h : PH), zev kJ13_init_v11 0 (zvr a :: L) st h = zev kJ13_init_v11 1 (zvr a :: L) (zvr a :: st) h) ∧
  (∀ (x0 : ZV) (a : Option Nat) (L st : List ZV) (h : PH), zev kJ13_init_v11 1 (x0 :: zvr a :: L) st h = zev kJ13_init_v11 2 (x0 :: zvr a :: L) (zvr a :: st) h) ∧
  (∀ (x0 x1 : ZV) (a : Option Nat) (L st : List ZV) (h : PH), zev kJ13_init_v11 2 (x0 :: x1 :: zvr a :: L) st h = zev kJ13_init_v11 3 (x0 :: x1 :: zvr a :: L) (zvr a :: st) h) ∧
  (∀ (x0 x1 x2 : ZV) (a : Int) (L st : List ZV) (h : PH), zev kJ13_init_v11 3 (x0 :: x1 :: x2 :: zvi a :: L) st h = zev kJ13_init_v11 4 (x0 :: x1 :: x2 :: zvi a :: L) (zvi a :: st) h) ∧
  (∀ (x0 x1 x2 x3 : ZV) (a : Int) (L st : List ZV) (h : PH), zev kJ13_init_v11 4 (x0 :: x1 :: x2 :: x3 :: zvi a :: L) st h = zev kJ13_init_v11 6 (x0 :: x1 :: x2 :: x3 :: zvi a :: L) (zvi a :: st) h) ∧
  (∀ (v0 v1 v2 v3 : ZV) (q : Nat) (L st : List ZV) (h : PH), zev kJ13_init_v11 6 L (v3 :: v2 :: v1 :: v0 :: zvr (some q) :: st) h = if (ph_K h q).1 % 1000 = 27 ∧ zcat st ≤ 8 then zk kJ13_init_v11 6 9 L st (mJ12_init_2_v11 [zvr (some q), v0, v1, v2, v3] h) else none) ∧
  (∀ (L : List ZV) (h : PH), zev kJ13_init_v11 9 L [] h = zr0 h) :=
  ⟨fun a L st h => e_ld0R (n := 1) rfl,
  fun x0 a L st h => e_ld1R (n := 2) rfl,
  fun x0 x1 a L st h => e_ld2R (n := 3) rfl,
  fun x0 x1 x2 a L st h => e_ld3I (n := 4) rfl,
  fun x0 x1 x2 x3 a L st h => e_ld4I (n := 6) rfl,
  fun v0 v1 v2 v3 q L st h => e_callV5 (F := mJ12_init_2_v11) (kd := 27) (n := 9) rfl,
  fun L h => e_ret rfl⟩
theorem allJ13_init_v11 : zall yJ13_init cJ13_init 5 none 3 kJ13_init_v11.1 :=
  ⟨k_aload_n dJ13_init_0,
  k_aload_n dJ13_init_1,
  k_aload_n dJ13_init_2,
  k_iload_n dJ13_init_3,
  k_iload dJ13_init_4,
  k_callI (y2 := yJ12_init_2) (C := RX13) (T0 := TX13) (ci := 11) dJ13_init_6 sndJ12_init_2_v11 rfl q613 q614 q146 q615 rfl (by decide +kernel) ⟨by decide, by decide⟩ (by decide) (by decide),
  k_ret dJ13_init_9, trivial⟩
theorem sndJ13_init_v11 : MSound 3 yJ13_init (ws_ yJ13_init cJ13_init 5 none) mJ13_init_v11 := msound_M (by decide) allJ13_init_v11 (fun _ _ => rfl)
/-! LinkTimes$Trouble.<init>(II)V -/
noncomputable def kX7_init_v8 : ZM := ([(0, zi_ld 1 0 1), (1, zi_push (zvr none) 2), (2, zi_push (zvr none) 3), (3, zi_push (zvi 1) 4), (4, zi_push (zvi 0) 5), (5, zi_callV mJ13_init_v8 24 5 8), (8, zi_ld 1 0 9), (9, zi_ld 0 1 10), (10, zi_putI 24 0 13), (13, zi_ld 1 0 14), (14, zi_ld 0 2 15), (15, zi_putI 24 1 18), (18, zi_ret)], fun _ _ => none)
noncomputable def mX7_init_v8 : ZF := zrunM kX7_init_v8 3
theorem enX7_init_v8 (x0 : Option Nat) (x1 : Int) (x2 : Int) (h : PH) : mX7_init_v8 [zvr x0, zvi x1, zvi x2] h = zev kX7_init_v8 0 [zvr x0, zvi x1, zvi x2] [] h := zrunM_eq rfl rfl
theorem rX7_init_v8 : (∀ (a : Option Nat) (L st : List ZV) (h : PH), zev kX7_init_v8 0 (zvr a :: L) st h = zev kX7_init_v8 1 (zvr a :: L) (zvr a :: st) h) ∧
  (∀ (L st : List ZV) (h : PH), zev kX7_init_v8 1 L st h = zev kX7_init_v8 2 L (zvr none :: st) h) ∧
  (∀ (L st : List ZV) (h : PH), zev kX7_init_v8 2 L st h = zev kX7_init_v8 3 L (zvr none :: st) h) ∧
  (∀ (L st : List ZV) (h : PH), zev kX7_init_v8 3 L st h = zev kX7_init_v8 4 L (zvi 1 :: st) h) ∧
  (∀ (L st : List ZV) (h : PH), zev kX7_init_v8 4 L st h = zev kX7_init_v8 5 L (zvi 0 :: st) h) ∧
  (∀ (v0 v1 v2 v3 : ZV) (q : Nat) (L st : List ZV) (h : PH), zev kX7_init_v8 5 L (v3 :: v2 :: v1 :: v0 :: zvr (some q) :: st) h = if (ph_K h q).1 % 1000 = 24 ∧ zcat st ≤ 8 then zk kX7_init_v8 5 8 L st (mJ13_init_v8 [zvr (some q), v0, v1, v2, v3] h) else none) ∧
  (∀ (a : Option Nat) (L st : List ZV) (h : PH), zev kX7_init_v8 8 (zvr a :: L) st h = zev kX7_init_v8 9 (zvr a :: L) (zvr a :: st) h) ∧
  (∀ (x0 : ZV) (a : Int) (L st : List ZV) (h : PH), zev kX7_init_v8 9 (x0 :: zvi a :: L) st h = zev kX7_init_v8 10 (x0 :: zvi a :: L) (zvi a :: st) h) ∧
  (∀ (a : Int) (q : Nat) (L st : List ZV) (h : PH), zev kX7_init_v8 10 L (zvi a :: zvr (some q) :: st) h = if (ph_K h q).1 = 24 then zev kX7_init_v8 13 L st (st_I h q 0 a) else none) ∧
  (∀ (a : Option Nat) (L st : List ZV) (h : PH), zev kX7_init_v8 13 (zvr a :: L) st h = zev kX7_init_v8 14 (zvr a :: L) (zvr a :: st) h) ∧
  (∀ (x0 x1 : ZV) (a : Int) (L st : List ZV) (h : PH), zev kX7_init_v8 14 (x0 :: x1 :: zvi a :: L) st h = zev kX7_init_v8 15 (x0 :: x1 :: zvi a :: L) (zvi a :: st) h) ∧
  (∀ (a : Int) (q : Nat) (L st : List ZV) (h : PH), zev kX7_init_v8 15 L (zvi a :: zvr (some q) :: st) h = if (ph_K h q).1 = 24 then zev kX7_init_v8 18 L st (st_I h q 1 a) else none) ∧
  (∀ (L : List ZV) (h : PH), zev kX7_init_v8 18 L [] h = zr0 h) :=
  ⟨fun a L st h => e_ld0R (n := 1) rfl,
  fun L st h => e_push (v := zvr none) (n := 2) rfl,
  fun L st h => e_push (v := zvr none) (n := 3) rfl,
  fun L st h => e_push (v := zvi 1) (n := 4) rfl,
  fun L st h => e_push (v := zvi 0) (n := 5) rfl,
  fun v0 v1 v2 v3 q L st h => e_callV5 (F := mJ13_init_v8) (kd := 24) (n := 8) rfl,
  fun a L st h => e_ld0R (n := 9) rfl,
  fun x0 a L st h => e_ld1I (n := 10) rfl,
  fun a q L st h => e_putI (kd := 24) (k := 0) (n := 13) rfl,
  fun a L st h => e_ld0R (n := 14) rfl,
  fun x0 x1 a L st h => e_ld2I (n := 15) rfl,
  fun a q L st h => e_putI (kd := 24) (k := 1) (n := 18) rfl,
  fun L h => e_ret rfl⟩
theorem allX7_init_v8 : zall yX7_init cX7_init 3 none 4 kX7_init_v8.1 :=
  ⟨k_aload_n dX7_init_0,
  k_anull dX7_init_1,
  k_anull dX7_init_2,
  k_iconst dX7_init_3,
  k_iconst dX7_init_4,
  k_callI (y2 := yJ13_init) (C := RX8) (T0 := TX8) (ci := 8) dX7_init_5 sndJ13_init_v8 rfl q610 q611 q147 q612 rfl (by decide +kernel) ⟨by decide, by decide⟩ (by decide) (by decide),
  k_aload_n dX7_init_8,
  k_iload_n dX7_init_9,
  k_putI (C := RX8) (T := TX8) (N := 8) (ci := 8) (k := 0) (ref := "LinkTimes$Trouble") dX7_init_10 rfl in_X8 tyX8 tyX8_ok nmX8 (by decide) (Or.inl q616) (Or.inl rfl) (Or.inr ⟨rfl, rfl, rfl, q616⟩) (tyX8_ok 0 (by decide)) (fun _ _ _ => rfl),
  k_aload_n dX7_init_13,
  k_iload_n dX7_init_14,
  k_putI (C := RX8) (T := TX8) (N := 8) (ci := 8) (k := 1) (ref := "LinkTimes$Trouble") dX7_init_15 rfl in_X8 tyX8 tyX8_ok nmX8 (by decide) (Or.inl q618) (Or.inl rfl) (Or.inr ⟨rfl, rfl, rfl, q618⟩) (tyX8_ok 1 (by decide)) (fun _ _ _ => rfl),
  k_ret dX7_init_18, trivial⟩
theorem sndX7_init_v8 : MSound 4 yX7_init (ws_ yX7_init cX7_init 3 none) mX7_init_v8 := msound_M (by decide) allX7_init_v8 (fun _ _ => rfl)
/-! LinkTimes$Trouble.<init>(II)V -/
noncomputable def kX7_init_v9 : ZM := ([(0, zi_ld 1 0 1), (1, zi_push (zvr none) 2), (2, zi_push (zvr none) 3), (3, zi_push (zvi 1) 4), (4, zi_push (zvi 0) 5), (5, zi_callV mJ13_init_v9 25 5 8), (8, zi_ld 1 0 9), (9, zi_ld 0 1 10), (10, zi_putI 25 0 13), (13, zi_ld 1 0 14), (14, zi_ld 0 2 15), (15, zi_putI 25 1 18), (18, zi_ret)], fun _ _ => none)
noncomputable def mX7_init_v9 : ZF := zrunM kX7_init_v9 3
theorem enX7_init_v9 (x0 : Option Nat) (x1 : Int) (x2 : Int) (h : PH) : mX7_init_v9 [zvr x0, zvi x1, zvi x2] h = zev kX7_init_v9 0 [zvr x0, zvi x1, zvi x2] [] h := zrunM_eq rfl rfl
theorem rX7_init_v9 : (∀ (a : Option Nat) (L st : List ZV) (h : PH), zev kX7_init_v9 0 (zvr a :: L) st h = zev kX7_init_v9 1 (zvr a :: L) (zvr a :: st) h) ∧
  (∀ (L st : List ZV) (h : PH), zev kX7_init_v9 1 L st h = zev kX7_init_v9 2 L (zvr none :: st) h) ∧
  (∀ (L st : List ZV) (h : PH), zev kX7_init_v9 2 L st h = zev kX7_init_v9 3 L (zvr none :: st) h) ∧
  (∀ (L st : List ZV) (h : PH), zev kX7_init_v9 3 L st h = zev kX7_init_v9 4 L (zvi 1 :: st) h) ∧
  (∀ (L st : List ZV) (h : PH), zev kX7_init_v9 4 L st h = zev kX7_init_v9 5 L (zvi 0 :: st) h) ∧
  (∀ (v0 v1 v2 v3 : ZV) (q : Nat) (L st : List ZV) (h : PH), zev kX7_init_v9 5 L (v3 :: v2 :: v1 :: v0 :: zvr (some q) :: st) h = if (ph_K h q).1 % 1000 = 25 ∧ zcat st ≤ 8 then zk kX7_init_v9 5 8 L st (mJ13_init_v9 [zvr (some q), v0, v1, v2, v3] h) else none) ∧
  (∀ (a : Option Nat) (L st : List ZV) (h : PH), zev kX7_init_v9 8 (zvr a :: L) st h = zev kX7_init_v9 9 (zvr a :: L) (zvr a :: st) h) ∧
  (∀ (x0 : ZV) (a : Int) (L st : List ZV) (h : PH), zev kX7_init_v9 9 (x0 :: zvi a :: L) st h = zev kX7_init_v9 10 (x0 :: zvi a :: L) (zvi a :: st) h) ∧
  (∀ (a : Int) (q : Nat) (L st : List ZV) (h : PH), zev kX7_init_v9 10 L (zvi a :: zvr (some q) :: st) h = if (ph_K h q).1 = 25 then zev kX7_init_v9 13 L st (st_I h q 0 a) else none) ∧
  (∀ (a : Option Nat) (L st : List ZV) (h : PH), zev kX7_init_v9 13 (zvr a :: L) st h = zev kX7_init_v9 14 (zvr a :: L) (zvr a :: st) h) ∧
  (∀ (x0 x1 : ZV) (a : Int) (L st : List ZV) (h : PH), zev kX7_init_v9 14 (x0 :: x1 :: zvi a :: L) st h = zev kX7_init_v9 15 (x0 :: x1 :: zvi a :: L) (zvi a :: st) h) ∧
  (∀ (a : Int) (q : Nat) (L st : List ZV) (h : PH), zev kX7_init_v9 15 L (zvi a :: zvr (some q) :: st) h = if (ph_K h q).1 = 25 then zev kX7_init_v9 18 L st (st_I h q 1 a) else none) ∧
  (∀ (L : List ZV) (h : PH), zev kX7_init_v9 18 L [] h = zr0 h) :=
  ⟨fun a L st h => e_ld0R (n := 1) rfl,
  fun L st h => e_push (v := zvr none) (n := 2) rfl,
  fun L st h => e_push (v := zvr none) (n := 3) rfl,
  fun L st h => e_push (v := zvi 1) (n := 4) rfl,
  fun L st h => e_push (v := zvi 0) (n := 5) rfl,
  fun v0 v1 v2 v3 q L st h => e_callV5 (F := mJ13_init_v9) (kd := 25) (n := 8) rfl,
  fun a L st h => e_ld0R (n := 9) rfl,
  fun x0 a L st h => e_ld1I (n := 10) rfl,
  fun a q L st h => e_putI (kd := 25) (k := 0) (n := 13) rfl,
  fun a L st h => e_ld0R (n := 14) rfl,
  fun x0 x1 a L st h => e_ld2I (n := 15) rfl,
  fun a q L st h => e_putI (kd := 25) (k := 1) (n := 18) rfl,
  fun L h => e_ret rfl⟩
theorem allX7_init_v9 : zall yX7_init cX7_init 3 none 4 kX7_init_v9.1 :=
  ⟨k_aload_n dX7_init_0,
  k_anull dX7_init_1,
  k_anull dX7_init_2,
  k_iconst dX7_init_3,
  k_iconst dX7_init_4,
  k_callI (y2 := yJ13_init) (C := RX9) (T0 := TX9) (ci := 9) dX7_init_5 sndJ13_init_v9 rfl q610 q611 q147 q612 rfl (by decide +kernel) ⟨by decide, by decide⟩ (by decide) (by decide),
  k_aload_n dX7_init_8,
  k_iload_n dX7_init_9,
  k_putI (C := RX9) (T := TX9) (N := 8) (ci := 9) (k := 0) (ref := "LinkTimes$Trouble") dX7_init_10 rfl in_X9 tyX9 tyX9_ok nmX9 (by decide) (Or.inl q616) (Or.inl rfl) (Or.inr ⟨rfl, rfl, rfl, q616⟩) (tyX9_ok 0 (by decide)) (fun _ _ _ => rfl),
  k_aload_n dX7_init_13,
  k_iload_n dX7_init_14,
  k_putI (C := RX9) (T := TX9) (N := 8) (ci := 9) (k := 1) (ref := "LinkTimes$Trouble") dX7_init_15 rfl in_X9 tyX9 tyX9_ok nmX9 (by decide) (Or.inl q618) (Or.inl rfl) (Or.inr ⟨rfl, rfl, rfl, q618⟩) (tyX9_ok 1 (by decide)) (fun _ _ _ => rfl),
  k_ret dX7_init_18, trivial⟩
theorem sndX7_init_v9 : MSound 4 yX7_init (ws_ yX7_init cX7_init 3 none) mX7_init_v9 := msound_M (by decide) allX7_init_v9 (fun _ _ => rfl)
/-! Z program: LinkTimes$Flaw (written by gen/gen_prog.py) -/
set_option maxRecDepth 100000
/-! LinkTimes$Flaw.<init>(II)V -/
noncomputable def kX8_init : ZM := ([(0, zi_ld 1 0 1), (1, zi_ld 0 1 2), (2, zi_ld 0 2 3), (3, zi_callV mX7_init_v8 24 3 6), (6, zi_ret)], fun _ _ => none)
noncomputable def mX8_init : ZF := zrunM kX8_init 3
theorem enX8_init (x0 : Option Nat) (x1 : Int) (x2 : Int) (h : PH) : mX8_init [zvr x0, zvi x1, zvi x2] h = zev kX8_init 0 [zvr x0, zvi x1, zvi x2] [] h := zrunM_eq rfl rfl
theorem rX8_init : (∀ (a : Option Nat) (L st : List ZV) (h : PH), zev kX8_init 0 (zvr a :: L) st h = zev kX8_init 1 (zvr a :: L) (zvr a :: st) h) ∧
  (∀ (x0 : ZV) (a : Int) (L st : List ZV) (h : PH), zev kX8_init 1 (x0 :: zvi a :: L) st h = zev kX8_init 2 (x0 :: zvi a :: L) (zvi a :: st) h) ∧
  (∀ (x0 x1 : ZV) (a : Int) (L st : List ZV) (h : PH), zev kX8_init 2 (x0 :: x1 :: zvi a :: L) st h = zev kX8_init 3 (x0 :: x1 :: zvi a :: L) (zvi a :: st) h) ∧
  (∀ (v0 v1 : ZV) (q : Nat) (L st : List ZV) (h : PH), zev kX8_init 3 L (v1 :: v0 :: zvr (some q) :: st) h = if (ph_K h q).1 % 1000 = 24 ∧ zcat st ≤ 8 then zk kX8_init 3 6 L st (mX7_init_v8 [zvr (some q), v0, v1] h) else none) ∧
  (∀ (L : List ZV) (h : PH), zev kX8_init 6 L [] h = zr0 h) :=
  ⟨fun a L st h => e_ld0R (n := 1) rfl,
  fun x0 a L st h => e_ld1I (n := 2) rfl,
  fun x0 x1 a L st h => e_ld2I (n := 3) rfl,
  fun v0 v1 q L st h => e_callV3 (F := mX7_init_v8) (kd := 24) (n := 6) rfl,
  fun L h => e_ret rfl⟩
theorem allX8_init : zall yX8_init cX8_init 3 none 5 kX8_init.1 :=
  ⟨k_aload_n dX8_init_0,
  k_iload_n dX8_init_1,
  k_iload_n dX8_init_2,
  k_callI (y2 := yX7_init) (C := RX8) (T0 := TX8) (ci := 8) dX8_init_3 sndX7_init_v8 rfl q607 q608 q148 q609 rfl (by decide +kernel) ⟨by decide, by decide⟩ (by decide) (by decide),
  k_ret dX8_init_6, trivial⟩
theorem sndX8_init : MSound 5 yX8_init (ws_ yX8_init cX8_init 3 none) mX8_init := msound_M (by decide) allX8_init (fun _ _ => rfl)
/-! Z program: LinkTimes$Full (written by gen/gen_prog.py) -/
set_option maxRecDepth 100000
/-! LinkTimes$Full.<init>(I)V -/
noncomputable def kX9_init : ZM := ([(0, zi_ld 1 0 1), (1, zi_push (zvi 5) 2), (2, zi_ld 0 1 3), (3, zi_callV mX7_init_v9 25 3 6), (6, zi_ret)], fun _ _ => none)
noncomputable def mX9_init : ZF := zrunM kX9_init 2
theorem enX9_init (x0 : Option Nat) (x1 : Int) (h : PH) : mX9_init [zvr x0, zvi x1] h = zev kX9_init 0 [zvr x0, zvi x1] [] h := zrunM_eq rfl rfl
theorem rX9_init : (∀ (a : Option Nat) (L st : List ZV) (h : PH), zev kX9_init 0 (zvr a :: L) st h = zev kX9_init 1 (zvr a :: L) (zvr a :: st) h) ∧
  (∀ (L st : List ZV) (h : PH), zev kX9_init 1 L st h = zev kX9_init 2 L (zvi 5 :: st) h) ∧
  (∀ (x0 : ZV) (a : Int) (L st : List ZV) (h : PH), zev kX9_init 2 (x0 :: zvi a :: L) st h = zev kX9_init 3 (x0 :: zvi a :: L) (zvi a :: st) h) ∧
  (∀ (v0 v1 : ZV) (q : Nat) (L st : List ZV) (h : PH), zev kX9_init 3 L (v1 :: v0 :: zvr (some q) :: st) h = if (ph_K h q).1 % 1000 = 25 ∧ zcat st ≤ 8 then zk kX9_init 3 6 L st (mX7_init_v9 [zvr (some q), v0, v1] h) else none) ∧
  (∀ (L : List ZV) (h : PH), zev kX9_init 6 L [] h = zr0 h) :=
  ⟨fun a L st h => e_ld0R (n := 1) rfl,
  fun L st h => e_push (v := zvi 5) (n := 2) rfl,
  fun x0 a L st h => e_ld1I (n := 3) rfl,
  fun v0 v1 q L st h => e_callV3 (F := mX7_init_v9) (kd := 25) (n := 6) rfl,
  fun L h => e_ret rfl⟩
theorem allX9_init : zall yX9_init cX9_init 2 none 5 kX9_init.1 :=
  ⟨k_aload_n dX9_init_0,
  k_iconst dX9_init_1,
  k_iload_n dX9_init_2,
  k_callI (y2 := yX7_init) (C := RX9) (T0 := TX9) (ci := 9) dX9_init_3 sndX7_init_v9 rfl q674 q608 q148 q609 rfl (by decide +kernel) ⟨by decide, by decide⟩ (by decide) (by decide),
  k_ret dX9_init_6, trivial⟩
theorem sndX9_init : MSound 5 yX9_init (ws_ yX9_init cX9_init 2 none) mX9_init := msound_M (by decide) allX9_init (fun _ _ => rfl)
/-! Z program: LinkTimes$BadLine (written by gen/gen_prog.py) -/
set_option maxRecDepth 100000
/-! LinkTimes$BadLine.<init>(LLinkTimes$Trouble;)V -/
noncomputable def kX12_init : ZM := ([(0, zi_ld 1 0 1), (1, zi_push (zvr none) 2), (2, zi_ld 1 1 3), (3, zi_push (zvi 1) 4), (4, zi_push (zvi 0) 5), (5, zi_callV mJ13_init_v10 26 5 8), (8, zi_ret)], fun _ _ => none)
noncomputable def mX12_init : ZF := zrunM kX12_init 2
theorem enX12_init (x0 : Option Nat) (x1 : Option Nat) (h : PH) : mX12_init [zvr x0, zvr x1] h = zev kX12_init 0 [zvr x0, zvr x1] [] h := zrunM_eq rfl rfl
theorem rX12_init : (∀ (a : Option Nat) (L st : List ZV) (h : PH), zev kX12_init 0 (zvr a :: L) st h = zev kX12_init 1 (zvr a :: L) (zvr a :: st) h) ∧
  (∀ (L st : List ZV) (h : PH), zev kX12_init 1 L st h = zev kX12_init 2 L (zvr none :: st) h) ∧
  (∀ (x0 : ZV) (a : Option Nat) (L st : List ZV) (h : PH), zev kX12_init 2 (x0 :: zvr a :: L) st h = zev kX12_init 3 (x0 :: zvr a :: L) (zvr a :: st) h) ∧
  (∀ (L st : List ZV) (h : PH), zev kX12_init 3 L st h = zev kX12_init 4 L (zvi 1 :: st) h) ∧
  (∀ (L st : List ZV) (h : PH), zev kX12_init 4 L st h = zev kX12_init 5 L (zvi 0 :: st) h) ∧
  (∀ (v0 v1 v2 v3 : ZV) (q : Nat) (L st : List ZV) (h : PH), zev kX12_init 5 L (v3 :: v2 :: v1 :: v0 :: zvr (some q) :: st) h = if (ph_K h q).1 % 1000 = 26 ∧ zcat st ≤ 8 then zk kX12_init 5 8 L st (mJ13_init_v10 [zvr (some q), v0, v1, v2, v3] h) else none) ∧
  (∀ (L : List ZV) (h : PH), zev kX12_init 8 L [] h = zr0 h) :=
  ⟨fun a L st h => e_ld0R (n := 1) rfl,
  fun L st h => e_push (v := zvr none) (n := 2) rfl,
  fun x0 a L st h => e_ld1R (n := 3) rfl,
  fun L st h => e_push (v := zvi 1) (n := 4) rfl,
  fun L st h => e_push (v := zvi 0) (n := 5) rfl,
  fun v0 v1 v2 v3 q L st h => e_callV5 (F := mJ13_init_v10) (kd := 26) (n := 8) rfl,
  fun L h => e_ret rfl⟩
theorem allX12_init : zall yX12_init cX12_init 2 none 4 kX12_init.1 :=
  ⟨k_aload_n dX12_init_0,
  k_anull dX12_init_1,
  k_aload_n dX12_init_2,
  k_iconst dX12_init_3,
  k_iconst dX12_init_4,
  k_callI (y2 := yJ13_init) (C := RX12) (T0 := TX12) (ci := 10) dX12_init_5 sndJ13_init_v10 rfl q903 q611 q147 q612 rfl (by decide +kernel) ⟨by decide, by decide⟩ (by decide) (by decide),
  k_ret dX12_init_8, trivial⟩
theorem sndX12_init : MSound 4 yX12_init (ws_ yX12_init cX12_init 2 none) mX12_init := msound_M (by decide) allX12_init (fun _ _ => rfl)
/-! Z program: LinkTimes$NoWay (written by gen/gen_prog.py) -/
set_option maxRecDepth 100000
/-! LinkTimes$NoWay.<init>(ILLinkTimes$NoWay;)V -/
noncomputable def kX13_init : ZM := ([(0, zi_ld 1 0 1), (1, zi_push (zvr none) 2), (2, zi_ld 1 2 3), (3, zi_push (zvi 1) 4), (4, zi_push (zvi 0) 5), (5, zi_callV mJ13_init_v11 27 5 8), (8, zi_ld 1 0 9), (9, zi_ld 0 1 10), (10, zi_putI 27 6 13), (13, zi_ret)], fun _ _ => none)
noncomputable def mX13_init : ZF := zrunM kX13_init 3
theorem enX13_init (x0 : Option Nat) (x1 : Int) (x2 : Option Nat) (h : PH) : mX13_init [zvr x0, zvi x1, zvr x2] h = zev kX13_init 0 [zvr x0, zvi x1, zvr x2] [] h := zrunM_eq rfl rfl
theorem rX13_init : (∀ (a : Option Nat) (L st : List ZV) (h : PH), zev kX13_init 0 (zvr a :: L) st h = zev kX13_init 1 (zvr a :: L) (zvr a :: st) h) ∧
  (∀ (L st : List ZV) (h : PH), zev kX13_init 1 L st h = zev kX13_init 2 L (zvr none :: st) h) ∧
  (∀ (x0 x1 : ZV) (a : Option Nat) (L st : List ZV) (h : PH), zev kX13_init 2 (x0 :: x1 :: zvr a :: L) st h = zev kX13_init 3 (x0 :: x1 :: zvr a :: L) (zvr a :: st) h) ∧
  (∀ (L st : List ZV) (h : PH), zev kX13_init 3 L st h = zev kX13_init 4 L (zvi 1 :: st) h) ∧
  (∀ (L st : List ZV) (h : PH), zev kX13_init 4 L st h = zev kX13_init 5 L (zvi 0 :: st) h) ∧
  (∀ (v0 v1 v2 v3 : ZV) (q : Nat) (L st : List ZV) (h : PH), zev kX13_init 5 L (v3 :: v2 :: v1 :: v0 :: zvr (some q) :: st) h = if (ph_K h q).1 % 1000 = 27 ∧ zcat st ≤ 8 then zk kX13_init 5 8 L st (mJ13_init_v11 [zvr (some q), v0, v1, v2, v3] h) else none) ∧
  (∀ (a : Option Nat) (L st : List ZV) (h : PH), zev kX13_init 8 (zvr a :: L) st h = zev kX13_init 9 (zvr a :: L) (zvr a :: st) h) ∧
  (∀ (x0 : ZV) (a : Int) (L st : List ZV) (h : PH), zev kX13_init 9 (x0 :: zvi a :: L) st h = zev kX13_init 10 (x0 :: zvi a :: L) (zvi a :: st) h) ∧
  (∀ (a : Int) (q : Nat) (L st : List ZV) (h : PH), zev kX13_init 10 L (zvi a :: zvr (some q) :: st) h = if (ph_K h q).1 = 27 then zev kX13_init 13 L st (st_I h q 6 a) else none) ∧
  (∀ (L : List ZV) (h : PH), zev kX13_init 13 L [] h = zr0 h) :=
  ⟨fun a L st h => e_ld0R (n := 1) rfl,
  fun L st h => e_push (v := zvr none) (n := 2) rfl,
  fun x0 x1 a L st h => e_ld2R (n := 3) rfl,
  fun L st h => e_push (v := zvi 1) (n := 4) rfl,
  fun L st h => e_push (v := zvi 0) (n := 5) rfl,
  fun v0 v1 v2 v3 q L st h => e_callV5 (F := mJ13_init_v11) (kd := 27) (n := 8) rfl,
  fun a L st h => e_ld0R (n := 9) rfl,
  fun x0 a L st h => e_ld1I (n := 10) rfl,
  fun a q L st h => e_putI (kd := 27) (k := 6) (n := 13) rfl,
  fun L h => e_ret rfl⟩
theorem allX13_init : zall yX13_init cX13_init 3 none 4 kX13_init.1 :=
  ⟨k_aload_n dX13_init_0,
  k_anull dX13_init_1,
  k_aload_n dX13_init_2,
  k_iconst dX13_init_3,
  k_iconst dX13_init_4,
  k_callI (y2 := yJ13_init) (C := RX13) (T0 := TX13) (ci := 11) dX13_init_5 sndJ13_init_v11 rfl q1594 q611 q147 q612 rfl (by decide +kernel) ⟨by decide, by decide⟩ (by decide) (by decide),
  k_aload_n dX13_init_8,
  k_iload_n dX13_init_9,
  k_putI (C := RX13) (T := TX13) (N := 7) (ci := 11) (k := 6) (ref := "LinkTimes$NoWay") dX13_init_10 rfl in_X13 tyX13 tyX13_ok nmX13 (by decide) (Or.inl q1595) (Or.inl rfl) (Or.inr ⟨rfl, rfl, rfl, q1595⟩) (tyX13_ok 6 (by decide)) (fun _ _ _ => rfl),
  k_ret dX13_init_13, trivial⟩
theorem sndX13_init : MSound 4 yX13_init (ws_ yX13_init cX13_init 3 none) mX13_init := msound_M (by decide) allX13_init (fun _ _ => rfl)
/-! Z program: LinkTimes$Spot (written by gen/gen_prog.py) -/
set_option maxRecDepth 100000
/-! LinkTimes$Spot.<init>(JII)V -/
noncomputable def kX10_init : ZM := ([(0, zi_ld 1 0 1), (1, zi_objI 21 4), (4, zi_ld 1 0 5), (5, zi_ld 2 1 6), (6, zi_putJ 21 0 9), (9, zi_ld 1 0 10), (10, zi_ld 0 3 11), (11, zi_putI 21 1 14), (14, zi_ld 1 0 15), (15, zi_ld 0 4 17), (17, zi_putI 21 2 20), (20, zi_ret)], fun _ _ => none)
noncomputable def mX10_init : ZF := zrunM kX10_init 5
theorem enX10_init (x0 : Option Nat) (x1 : Int) (x2 : Int) (x3 : Int) (h : PH) : mX10_init [zvr x0, zvl x1, zvi x2, zvi x3] h = zev kX10_init 0 [zvr x0, zvl x1, zvu, zvi x2, zvi x3] [] h := zrunM_eq rfl rfl
theorem rX10_init : (∀ (a : Option Nat) (L st : List ZV) (h : PH), zev kX10_init 0 (zvr a :: L) st h = zev kX10_init 1 (zvr a :: L) (zvr a :: st) h) ∧
  (∀ (q : Nat) (L st : List ZV) (h : PH), zev kX10_init 1 L (zvr (some q) :: st) h = if (ph_K h q).1 % 1000 = 21 ∧ zcat st ≤ 8 then zev kX10_init 4 L st h else none) ∧
  (∀ (a : Option Nat) (L st : List ZV) (h : PH), zev kX10_init 4 (zvr a :: L) st h = zev kX10_init 5 (zvr a :: L) (zvr a :: st) h) ∧
  (∀ (x0 : ZV) (a : Int) (L st : List ZV) (h : PH), zev kX10_init 5 (x0 :: zvl a :: L) st h = zev kX10_init 6 (x0 :: zvl a :: L) (zvl a :: st) h) ∧
  (∀ (a : Int) (q : Nat) (L st : List ZV) (h : PH), zev kX10_init 6 L (zvl a :: zvr (some q) :: st) h = if (ph_K h q).1 = 21 then zev kX10_init 9 L st (st_J h q 0 a) else none) ∧
  (∀ (a : Option Nat) (L st : List ZV) (h : PH), zev kX10_init 9 (zvr a :: L) st h = zev kX10_init 10 (zvr a :: L) (zvr a :: st) h) ∧
  (∀ (x0 x1 x2 : ZV) (a : Int) (L st : List ZV) (h : PH), zev kX10_init 10 (x0 :: x1 :: x2 :: zvi a :: L) st h = zev kX10_init 11 (x0 :: x1 :: x2 :: zvi a :: L) (zvi a :: st) h) ∧
  (∀ (a : Int) (q : Nat) (L st : List ZV) (h : PH), zev kX10_init 11 L (zvi a :: zvr (some q) :: st) h = if (ph_K h q).1 = 21 then zev kX10_init 14 L st (st_I h q 1 a) else none) ∧
  (∀ (a : Option Nat) (L st : List ZV) (h : PH), zev kX10_init 14 (zvr a :: L) st h = zev kX10_init 15 (zvr a :: L) (zvr a :: st) h) ∧
  (∀ (x0 x1 x2 x3 : ZV) (a : Int) (L st : List ZV) (h : PH), zev kX10_init 15 (x0 :: x1 :: x2 :: x3 :: zvi a :: L) st h = zev kX10_init 17 (x0 :: x1 :: x2 :: x3 :: zvi a :: L) (zvi a :: st) h) ∧
  (∀ (a : Int) (q : Nat) (L st : List ZV) (h : PH), zev kX10_init 17 L (zvi a :: zvr (some q) :: st) h = if (ph_K h q).1 = 21 then zev kX10_init 20 L st (st_I h q 2 a) else none) ∧
  (∀ (L : List ZV) (h : PH), zev kX10_init 20 L [] h = zr0 h) :=
  ⟨fun a L st h => e_ld0R (n := 1) rfl,
  fun q L st h => e_objI (kd := 21) (n := 4) rfl,
  fun a L st h => e_ld0R (n := 5) rfl,
  fun x0 a L st h => e_ld1J (n := 6) rfl,
  fun a q L st h => e_putJ (kd := 21) (k := 0) (n := 9) rfl,
  fun a L st h => e_ld0R (n := 10) rfl,
  fun x0 x1 x2 a L st h => e_ld3I (n := 11) rfl,
  fun a q L st h => e_putI (kd := 21) (k := 1) (n := 14) rfl,
  fun a L st h => e_ld0R (n := 15) rfl,
  fun x0 x1 x2 x3 a L st h => e_ld4I (n := 17) rfl,
  fun a q L st h => e_putI (kd := 21) (k := 2) (n := 20) rfl,
  fun L h => e_ret rfl⟩
theorem allX10_init : zall yX10_init cX10_init 5 none 2 kX10_init.1 :=
  ⟨k_aload_n dX10_init_0,
  k_objI (C := RX10) (T0 := TX10) (ci := 5) dX10_init_1 rfl q723 q177 q178 (by decide),
  k_aload_n dX10_init_4,
  k_lload_n dX10_init_5,
  k_putJ (C := RX10) (T := TX10) (N := 3) (ci := 5) (k := 0) (ref := "LinkTimes$Spot") dX10_init_6 rfl in_X10 tyX10 tyX10_ok nmX10 (by decide) (Or.inl q724) (Or.inl rfl) (Or.inr ⟨rfl, rfl, rfl, q724⟩) (tyX10_ok 0 (by decide)) (fun _ _ _ => rfl),
  k_aload_n dX10_init_9,
  k_iload_n dX10_init_10,
  k_putI (C := RX10) (T := TX10) (N := 3) (ci := 5) (k := 1) (ref := "LinkTimes$Spot") dX10_init_11 rfl in_X10 tyX10 tyX10_ok nmX10 (by decide) (Or.inl q726) (Or.inl rfl) (Or.inl rfl) (tyX10_ok 1 (by decide)) (fun _ _ _ => rfl),
  k_aload_n dX10_init_14,
  k_iload dX10_init_15,
  k_putI (C := RX10) (T := TX10) (N := 3) (ci := 5) (k := 2) (ref := "LinkTimes$Spot") dX10_init_17 rfl in_X10 tyX10 tyX10_ok nmX10 (by decide) (Or.inl q729) (Or.inl rfl) (Or.inl rfl) (tyX10_ok 2 (by decide)) (fun _ _ _ => rfl),
  k_ret dX10_init_20, trivial⟩
theorem sndX10_init : MSound 2 yX10_init (ws_ yX10_init cX10_init 5 none) mX10_init := msound_M (by decide) allX10_init (fun _ _ => rfl)
/-! Z program: LinkTimes$Act (written by gen/gen_prog.py) -/
set_option maxRecDepth 100000
/-! LinkTimes$Act.<init>(III)V -/
noncomputable def kX14_init : ZM := ([(0, zi_ld 1 0 1), (1, zi_callV mJ25_init_v7 23 1 4), (4, zi_ld 1 0 5), (5, zi_ld 0 1 6), (6, zi_putI 23 0 9), (9, zi_ld 1 0 10), (10, zi_ld 0 2 11), (11, zi_putI 23 1 14), (14, zi_ld 1 0 15), (15, zi_ld 0 3 16), (16, zi_putI 23 2 19), (19, zi_ret)], fun _ _ => none)
noncomputable def mX14_init : ZF := zrunM kX14_init 4
theorem enX14_init (x0 : Option Nat) (x1 : Int) (x2 : Int) (x3 : Int) (h : PH) : mX14_init [zvr x0, zvi x1, zvi x2, zvi x3] h = zev kX14_init 0 [zvr x0, zvi x1, zvi x2, zvi x3] [] h := zrunM_eq rfl rfl
theorem rX14_init : (∀ (a : Option Nat) (L st : List ZV) (h : PH), zev kX14_init 0 (zvr a :: L) st h = zev kX14_init 1 (zvr a :: L) (zvr a :: st) h) ∧
  (∀ (q : Nat) (L st : List ZV) (h : PH), zev kX14_init 1 L (zvr (some q) :: st) h = if (ph_K h q).1 % 1000 = 23 ∧ zcat st ≤ 8 then zk kX14_init 1 4 L st (mJ25_init_v7 [zvr (some q)] h) else none) ∧
  (∀ (a : Option Nat) (L st : List ZV) (h : PH), zev kX14_init 4 (zvr a :: L) st h = zev kX14_init 5 (zvr a :: L) (zvr a :: st) h) ∧
  (∀ (x0 : ZV) (a : Int) (L st : List ZV) (h : PH), zev kX14_init 5 (x0 :: zvi a :: L) st h = zev kX14_init 6 (x0 :: zvi a :: L) (zvi a :: st) h) ∧
  (∀ (a : Int) (q : Nat) (L st : List ZV) (h : PH), zev kX14_init 6 L (zvi a :: zvr (some q) :: st) h = if (ph_K h q).1 = 23 then zev kX14_init 9 L st (st_I h q 0 a) else none) ∧
  (∀ (a : Option Nat) (L st : List ZV) (h : PH), zev kX14_init 9 (zvr a :: L) st h = zev kX14_init 10 (zvr a :: L) (zvr a :: st) h) ∧
  (∀ (x0 x1 : ZV) (a : Int) (L st : List ZV) (h : PH), zev kX14_init 10 (x0 :: x1 :: zvi a :: L) st h = zev kX14_init 11 (x0 :: x1 :: zvi a :: L) (zvi a :: st) h) ∧
  (∀ (a : Int) (q : Nat) (L st : List ZV) (h : PH), zev kX14_init 11 L (zvi a :: zvr (some q) :: st) h = if (ph_K h q).1 = 23 then zev kX14_init 14 L st (st_I h q 1 a) else none) ∧
  (∀ (a : Option Nat) (L st : List ZV) (h : PH), zev kX14_init 14 (zvr a :: L) st h = zev kX14_init 15 (zvr a :: L) (zvr a :: st) h) ∧
  (∀ (x0 x1 x2 : ZV) (a : Int) (L st : List ZV) (h : PH), zev kX14_init 15 (x0 :: x1 :: x2 :: zvi a :: L) st h = zev kX14_init 16 (x0 :: x1 :: x2 :: zvi a :: L) (zvi a :: st) h) ∧
  (∀ (a : Int) (q : Nat) (L st : List ZV) (h : PH), zev kX14_init 16 L (zvi a :: zvr (some q) :: st) h = if (ph_K h q).1 = 23 then zev kX14_init 19 L st (st_I h q 2 a) else none) ∧
  (∀ (L : List ZV) (h : PH), zev kX14_init 19 L [] h = zr0 h) :=
  ⟨fun a L st h => e_ld0R (n := 1) rfl,
  fun q L st h => e_callV1 (F := mJ25_init_v7) (kd := 23) (n := 4) rfl,
  fun a L st h => e_ld0R (n := 5) rfl,
  fun x0 a L st h => e_ld1I (n := 6) rfl,
  fun a q L st h => e_putI (kd := 23) (k := 0) (n := 9) rfl,
  fun a L st h => e_ld0R (n := 10) rfl,
  fun x0 x1 a L st h => e_ld2I (n := 11) rfl,
  fun a q L st h => e_putI (kd := 23) (k := 1) (n := 14) rfl,
  fun a L st h => e_ld0R (n := 15) rfl,
  fun x0 x1 x2 a L st h => e_ld3I (n := 16) rfl,
  fun a q L st h => e_putI (kd := 23) (k := 2) (n := 19) rfl,
  fun L h => e_ret rfl⟩
theorem allX14_init : zall yX14_init cX14_init 4 none 3 kX14_init.1 :=
  ⟨k_aload_n dX14_init_0,
  k_callI (y2 := yJ25_init) (C := RX14) (T0 := TX14) (ci := 7) dX14_init_1 sndJ25_init_v7 rfl q1642 q1643 q169 q1644 rfl (by decide +kernel) ⟨by decide, by decide⟩ (by decide) (by decide),
  k_aload_n dX14_init_4,
  k_iload_n dX14_init_5,
  k_putI (C := RX14) (T := TX14) (N := 3) (ci := 7) (k := 0) (ref := "LinkTimes$Act") dX14_init_6 rfl in_X14 tyX14 tyX14_ok nmX14 (by decide) (Or.inl q1646) (Or.inl rfl) (Or.inr ⟨rfl, rfl, rfl, q1646⟩) (tyX14_ok 0 (by decide)) (fun _ _ _ => rfl),
  k_aload_n dX14_init_9,
  k_iload_n dX14_init_10,
  k_putI (C := RX14) (T := TX14) (N := 3) (ci := 7) (k := 1) (ref := "LinkTimes$Act") dX14_init_11 rfl in_X14 tyX14 tyX14_ok nmX14 (by decide) (Or.inl q1647) (Or.inl rfl) (Or.inr ⟨rfl, rfl, rfl, q1647⟩) (tyX14_ok 1 (by decide)) (fun _ _ _ => rfl),
  k_aload_n dX14_init_14,
  k_iload_n dX14_init_15,
  k_putI (C := RX14) (T := TX14) (N := 3) (ci := 7) (k := 2) (ref := "LinkTimes$Act") dX14_init_16 rfl in_X14 tyX14 tyX14_ok nmX14 (by decide) (Or.inl q1648) (Or.inl rfl) (Or.inr ⟨rfl, rfl, rfl, q1648⟩) (tyX14_ok 2 (by decide)) (fun _ _ _ => rfl),
  k_ret dX14_init_19, trivial⟩
theorem sndX14_init : MSound 3 yX14_init (ws_ yX14_init cX14_init 4 none) mX14_init := msound_M (by decide) allX14_init (fun _ _ => rfl)
/-! LinkTimes$Act.what()I -/
noncomputable def kX14_what : ZM := ([(0, zi_ld 1 0 1), (1, zi_getI 23 0 4), (4, zi_retv 0)], fun _ _ => none)
noncomputable def mX14_what : ZF := zrunM kX14_what 1
theorem enX14_what (x0 : Option Nat) (h : PH) : mX14_what [zvr x0] h = zev kX14_what 0 [zvr x0] [] h := zrunM_eq rfl rfl
theorem rX14_what : (∀ (a : Option Nat) (L st : List ZV) (h : PH), zev kX14_what 0 (zvr a :: L) st h = zev kX14_what 1 (zvr a :: L) (zvr a :: st) h) ∧
  (∀ (q : Nat) (L st : List ZV) (h : PH), zev kX14_what 1 L (zvr (some q) :: st) h = if (ph_K h q).1 % 1000 = 23 then zev kX14_what 4 L (zvi (ph_I h q 0) :: st) h else none) ∧
  (∀ (a : Int) (L : List ZV) (h : PH), zev kX14_what 4 L [zvi a] h = zrv (zvi a) h) :=
  ⟨fun a L st h => e_ld0R (n := 1) rfl,
  fun q L st h => e_getI (kd := 23) (k := 0) (n := 4) rfl,
  fun a L h => e_retI rfl⟩
theorem allX14_what : zall yX14_what cX14_what 1 (some .int) 1 kX14_what.1 :=
  ⟨k_aload_n dX14_what_0,
  k_getI (C := RX14) (T := TX14) (N := 3) (ci := 7) (k := 0) (ref := "LinkTimes$Act") dX14_what_1 rfl in_X14 (by decide) q1646 (Or.inl rfl) (fun _ _ _ => rfl),
  k_iret dX14_what_4, trivial⟩
theorem sndX14_what : MSound 1 yX14_what (ws_ yX14_what cX14_what 1 (some .int)) mX14_what := msound_M (by decide) allX14_what (fun _ _ => rfl)
/-! LinkTimes$Act.which()I -/
noncomputable def kX14_which : ZM := ([(0, zi_ld 1 0 1), (1, zi_getI 23 1 4), (4, zi_retv 0)], fun _ _ => none)
noncomputable def mX14_which : ZF := zrunM kX14_which 1
theorem enX14_which (x0 : Option Nat) (h : PH) : mX14_which [zvr x0] h = zev kX14_which 0 [zvr x0] [] h := zrunM_eq rfl rfl
theorem rX14_which : (∀ (a : Option Nat) (L st : List ZV) (h : PH), zev kX14_which 0 (zvr a :: L) st h = zev kX14_which 1 (zvr a :: L) (zvr a :: st) h) ∧
  (∀ (q : Nat) (L st : List ZV) (h : PH), zev kX14_which 1 L (zvr (some q) :: st) h = if (ph_K h q).1 % 1000 = 23 then zev kX14_which 4 L (zvi (ph_I h q 1) :: st) h else none) ∧
  (∀ (a : Int) (L : List ZV) (h : PH), zev kX14_which 4 L [zvi a] h = zrv (zvi a) h) :=
  ⟨fun a L st h => e_ld0R (n := 1) rfl,
  fun q L st h => e_getI (kd := 23) (k := 1) (n := 4) rfl,
  fun a L h => e_retI rfl⟩
theorem allX14_which : zall yX14_which cX14_which 1 (some .int) 1 kX14_which.1 :=
  ⟨k_aload_n dX14_which_0,
  k_getI (C := RX14) (T := TX14) (N := 3) (ci := 7) (k := 1) (ref := "LinkTimes$Act") dX14_which_1 rfl in_X14 (by decide) q1647 (Or.inl rfl) (fun _ _ _ => rfl),
  k_iret dX14_which_4, trivial⟩
theorem sndX14_which : MSound 1 yX14_which (ws_ yX14_which cX14_which 1 (some .int)) mX14_which := msound_M (by decide) allX14_which (fun _ _ => rfl)
/-! LinkTimes$Act.had()I -/
noncomputable def kX14_had : ZM := ([(0, zi_ld 1 0 1), (1, zi_getI 23 2 4), (4, zi_retv 0)], fun _ _ => none)
noncomputable def mX14_had : ZF := zrunM kX14_had 1
theorem enX14_had (x0 : Option Nat) (h : PH) : mX14_had [zvr x0] h = zev kX14_had 0 [zvr x0] [] h := zrunM_eq rfl rfl
theorem rX14_had : (∀ (a : Option Nat) (L st : List ZV) (h : PH), zev kX14_had 0 (zvr a :: L) st h = zev kX14_had 1 (zvr a :: L) (zvr a :: st) h) ∧
  (∀ (q : Nat) (L st : List ZV) (h : PH), zev kX14_had 1 L (zvr (some q) :: st) h = if (ph_K h q).1 % 1000 = 23 then zev kX14_had 4 L (zvi (ph_I h q 2) :: st) h else none) ∧
  (∀ (a : Int) (L : List ZV) (h : PH), zev kX14_had 4 L [zvi a] h = zrv (zvi a) h) :=
  ⟨fun a L st h => e_ld0R (n := 1) rfl,
  fun q L st h => e_getI (kd := 23) (k := 2) (n := 4) rfl,
  fun a L h => e_retI rfl⟩
theorem allX14_had : zall yX14_had cX14_had 1 (some .int) 1 kX14_had.1 :=
  ⟨k_aload_n dX14_had_0,
  k_getI (C := RX14) (T := TX14) (N := 3) (ci := 7) (k := 2) (ref := "LinkTimes$Act") dX14_had_1 rfl in_X14 (by decide) q1648 (Or.inl rfl) (fun _ _ _ => rfl),
  k_iret dX14_had_4, trivial⟩
theorem sndX14_had : MSound 1 yX14_had (ws_ yX14_had cX14_had 1 (some .int)) mX14_had := msound_M (by decide) allX14_had (fun _ _ => rfl)
/-! Z program: LinkTimes$Departure (written by gen/gen_prog.py) -/
set_option maxRecDepth 100000
/-! LinkTimes$Departure.<init>(IIIIIII)V -/
noncomputable def kX11_init : ZM := ([(0, zi_ld 1 0 1), (1, zi_objI 22 4), (4, zi_ld 1 0 5), (5, zi_push (zvi 1) 6), (6, zi_putZ 22 8 9), (9, zi_ld 1 0 10), (10, zi_ld 0 1 11), (11, zi_putI 22 0 14), (14, zi_ld 1 0 15), (15, zi_ld 0 2 16), (16, zi_putI 22 1 19), (19, zi_ld 1 0 20), (20, zi_ld 0 3 21), (21, zi_putI 22 2 24), (24, zi_ld 1 0 25), (25, zi_ld 0 4 27), (27, zi_putI 22 3 30), (30, zi_ld 1 0 31), (31, zi_ld 0 5 33), (33, zi_putI 22 4 36), (36, zi_ld 1 0 37), (37, zi_ld 0 6 39), (39, zi_putI 22 5 42), (42, zi_ld 1 0 43), (43, zi_ld 0 7 45), (45, zi_putI 22 6 48), (48, zi_ret)], fun _ _ => none)
noncomputable def mX11_init : ZF := zrunM kX11_init 8
theorem enX11_init (x0 : Option Nat) (x1 : Int) (x2 : Int) (x3 : Int) (x4 : Int) (x5 : Int) (x6 : Int) (x7 : Int) (h : PH) : mX11_init [zvr x0, zvi x1, zvi x2, zvi x3, zvi x4, zvi x5, zvi x6, zvi x7] h = zev kX11_init 0 [zvr x0, zvi x1, zvi x2, zvi x3, zvi x4, zvi x5, zvi x6, zvi x7] [] h := zrunM_eq rfl rfl
theorem rX11_init : (∀ (a : Option Nat) (L st : List ZV) (h : PH), zev kX11_init 0 (zvr a :: L) st h = zev kX11_init 1 (zvr a :: L) (zvr a :: st) h) ∧
  (∀ (q : Nat) (L st : List ZV) (h : PH), zev kX11_init 1 L (zvr (some q) :: st) h = if (ph_K h q).1 % 1000 = 22 ∧ zcat st ≤ 8 then zev kX11_init 4 L st h else none) ∧
  (∀ (a : Option Nat) (L st : List ZV) (h : PH), zev kX11_init 4 (zvr a :: L) st h = zev kX11_init 5 (zvr a :: L) (zvr a :: st) h) ∧
  (∀ (L st : List ZV) (h : PH), zev kX11_init 5 L st h = zev kX11_init 6 L (zvi 1 :: st) h) ∧
  (∀ (a : Int) (q : Nat) (L st : List ZV) (h : PH), zev kX11_init 6 L (zvi a :: zvr (some q) :: st) h = if (ph_K h q).1 = 22 ∧ (a = 0 ∨ a = 1) then zev kX11_init 9 L st (st_I h q 8 a) else none) ∧
  (∀ (a : Option Nat) (L st : List ZV) (h : PH), zev kX11_init 9 (zvr a :: L) st h = zev kX11_init 10 (zvr a :: L) (zvr a :: st) h) ∧
  (∀ (x0 : ZV) (a : Int) (L st : List ZV) (h : PH), zev kX11_init 10 (x0 :: zvi a :: L) st h = zev kX11_init 11 (x0 :: zvi a :: L) (zvi a :: st) h) ∧
  (∀ (a : Int) (q : Nat) (L st : List ZV) (h : PH), zev kX11_init 11 L (zvi a :: zvr (some q) :: st) h = if (ph_K h q).1 = 22 then zev kX11_init 14 L st (st_I h q 0 a) else none) ∧
  (∀ (a : Option Nat) (L st : List ZV) (h : PH), zev kX11_init 14 (zvr a :: L) st h = zev kX11_init 15 (zvr a :: L) (zvr a :: st) h) ∧
  (∀ (x0 x1 : ZV) (a : Int) (L st : List ZV) (h : PH), zev kX11_init 15 (x0 :: x1 :: zvi a :: L) st h = zev kX11_init 16 (x0 :: x1 :: zvi a :: L) (zvi a :: st) h) ∧
  (∀ (a : Int) (q : Nat) (L st : List ZV) (h : PH), zev kX11_init 16 L (zvi a :: zvr (some q) :: st) h = if (ph_K h q).1 = 22 then zev kX11_init 19 L st (st_I h q 1 a) else none) ∧
  (∀ (a : Option Nat) (L st : List ZV) (h : PH), zev kX11_init 19 (zvr a :: L) st h = zev kX11_init 20 (zvr a :: L) (zvr a :: st) h) ∧
  (∀ (x0 x1 x2 : ZV) (a : Int) (L st : List ZV) (h : PH), zev kX11_init 20 (x0 :: x1 :: x2 :: zvi a :: L) st h = zev kX11_init 21 (x0 :: x1 :: x2 :: zvi a :: L) (zvi a :: st) h) ∧
  (∀ (a : Int) (q : Nat) (L st : List ZV) (h : PH), zev kX11_init 21 L (zvi a :: zvr (some q) :: st) h = if (ph_K h q).1 = 22 then zev kX11_init 24 L st (st_I h q 2 a) else none) ∧
  (∀ (a : Option Nat) (L st : List ZV) (h : PH), zev kX11_init 24 (zvr a :: L) st h = zev kX11_init 25 (zvr a :: L) (zvr a :: st) h) ∧
  (∀ (x0 x1 x2 x3 : ZV) (a : Int) (L st : List ZV) (h : PH), zev kX11_init 25 (x0 :: x1 :: x2 :: x3 :: zvi a :: L) st h = zev kX11_init 27 (x0 :: x1 :: x2 :: x3 :: zvi a :: L) (zvi a :: st) h) ∧
  (∀ (a : Int) (q : Nat) (L st : List ZV) (h : PH), zev kX11_init 27 L (zvi a :: zvr (some q) :: st) h = if (ph_K h q).1 = 22 then zev kX11_init 30 L st (st_I h q 3 a) else none) ∧
  (∀ (a : Option Nat) (L st : List ZV) (h : PH), zev kX11_init 30 (zvr a :: L) st h = zev kX11_init 31 (zvr a :: L) (zvr a :: st) h) ∧
  (∀ (x0 x1 x2 x3 x4 : ZV) (a : Int) (L st : List ZV) (h : PH), zev kX11_init 31 (x0 :: x1 :: x2 :: x3 :: x4 :: zvi a :: L) st h = zev kX11_init 33 (x0 :: x1 :: x2 :: x3 :: x4 :: zvi a :: L) (zvi a :: st) h) ∧
  (∀ (a : Int) (q : Nat) (L st : List ZV) (h : PH), zev kX11_init 33 L (zvi a :: zvr (some q) :: st) h = if (ph_K h q).1 = 22 then zev kX11_init 36 L st (st_I h q 4 a) else none) ∧
  (∀ (a : Option Nat) (L st : List ZV) (h : PH), zev kX11_init 36 (zvr a :: L) st h = zev kX11_init 37 (zvr a :: L) (zvr a :: st) h) ∧
  (∀ (x0 x1 x2 x3 x4 x5 : ZV) (a : Int) (L st : List ZV) (h : PH), zev kX11_init 37 (x0 :: x1 :: x2 :: x3 :: x4 :: x5 :: zvi a :: L) st h = zev kX11_init 39 (x0 :: x1 :: x2 :: x3 :: x4 :: x5 :: zvi a :: L) (zvi a :: st) h) ∧
  (∀ (a : Int) (q : Nat) (L st : List ZV) (h : PH), zev kX11_init 39 L (zvi a :: zvr (some q) :: st) h = if (ph_K h q).1 = 22 then zev kX11_init 42 L st (st_I h q 5 a) else none) ∧
  (∀ (a : Option Nat) (L st : List ZV) (h : PH), zev kX11_init 42 (zvr a :: L) st h = zev kX11_init 43 (zvr a :: L) (zvr a :: st) h) ∧
  (∀ (x0 x1 x2 x3 x4 x5 x6 : ZV) (a : Int) (L st : List ZV) (h : PH), zev kX11_init 43 (x0 :: x1 :: x2 :: x3 :: x4 :: x5 :: x6 :: zvi a :: L) st h = zev kX11_init 45 (x0 :: x1 :: x2 :: x3 :: x4 :: x5 :: x6 :: zvi a :: L) (zvi a :: st) h) ∧
  (∀ (a : Int) (q : Nat) (L st : List ZV) (h : PH), zev kX11_init 45 L (zvi a :: zvr (some q) :: st) h = if (ph_K h q).1 = 22 then zev kX11_init 48 L st (st_I h q 6 a) else none) ∧
  (∀ (L : List ZV) (h : PH), zev kX11_init 48 L [] h = zr0 h) :=
  ⟨fun a L st h => e_ld0R (n := 1) rfl,
  fun q L st h => e_objI (kd := 22) (n := 4) rfl,
  fun a L st h => e_ld0R (n := 5) rfl,
  fun L st h => e_push (v := zvi 1) (n := 6) rfl,
  fun a q L st h => e_putZ (kd := 22) (k := 8) (n := 9) rfl,
  fun a L st h => e_ld0R (n := 10) rfl,
  fun x0 a L st h => e_ld1I (n := 11) rfl,
  fun a q L st h => e_putI (kd := 22) (k := 0) (n := 14) rfl,
  fun a L st h => e_ld0R (n := 15) rfl,
  fun x0 x1 a L st h => e_ld2I (n := 16) rfl,
  fun a q L st h => e_putI (kd := 22) (k := 1) (n := 19) rfl,
  fun a L st h => e_ld0R (n := 20) rfl,
  fun x0 x1 x2 a L st h => e_ld3I (n := 21) rfl,
  fun a q L st h => e_putI (kd := 22) (k := 2) (n := 24) rfl,
  fun a L st h => e_ld0R (n := 25) rfl,
  fun x0 x1 x2 x3 a L st h => e_ld4I (n := 27) rfl,
  fun a q L st h => e_putI (kd := 22) (k := 3) (n := 30) rfl,
  fun a L st h => e_ld0R (n := 31) rfl,
  fun x0 x1 x2 x3 x4 a L st h => e_ld5I (n := 33) rfl,
  fun a q L st h => e_putI (kd := 22) (k := 4) (n := 36) rfl,
  fun a L st h => e_ld0R (n := 37) rfl,
  fun x0 x1 x2 x3 x4 x5 a L st h => e_ld6I (n := 39) rfl,
  fun a q L st h => e_putI (kd := 22) (k := 5) (n := 42) rfl,
  fun a L st h => e_ld0R (n := 43) rfl,
  fun x0 x1 x2 x3 x4 x5 x6 a L st h => e_ld7I (n := 45) rfl,
  fun a q L st h => e_putI (kd := 22) (k := 6) (n := 48) rfl,
  fun L h => e_ret rfl⟩
theorem allX11_init : zall yX11_init cX11_init 8 none 2 kX11_init.1 :=
  ⟨k_aload_n dX11_init_0,
  k_objI (C := RX11) (T0 := TX11) (ci := 6) dX11_init_1 rfl q847 q177 q178 (by decide),
  k_aload_n dX11_init_4,
  k_iconst dX11_init_5,
  k_putZ (C := RX11) (T := TX11) (N := 9) (ci := 6) (k := 8) (ref := "LinkTimes$Departure") dX11_init_6 rfl in_X11 tyX11 tyX11_ok nmX11 (by decide) (Or.inl q869) (Or.inl rfl) (Or.inl rfl) (tyX11_ok 8 (by decide)) (fun _ _ _ => rfl),
  k_aload_n dX11_init_9,
  k_iload_n dX11_init_10,
  k_putI (C := RX11) (T := TX11) (N := 9) (ci := 6) (k := 0) (ref := "LinkTimes$Departure") dX11_init_11 rfl in_X11 tyX11 tyX11_ok nmX11 (by decide) (Or.inl q848) (Or.inl rfl) (Or.inr ⟨rfl, rfl, rfl, q848⟩) (tyX11_ok 0 (by decide)) (fun _ _ _ => rfl),
  k_aload_n dX11_init_14,
  k_iload_n dX11_init_15,
  k_putI (C := RX11) (T := TX11) (N := 9) (ci := 6) (k := 1) (ref := "LinkTimes$Departure") dX11_init_16 rfl in_X11 tyX11 tyX11_ok nmX11 (by decide) (Or.inl q852) (Or.inl rfl) (Or.inr ⟨rfl, rfl, rfl, q852⟩) (tyX11_ok 1 (by decide)) (fun _ _ _ => rfl),
  k_aload_n dX11_init_19,
  k_iload_n dX11_init_20,
  k_putI (C := RX11) (T := TX11) (N := 9) (ci := 6) (k := 2) (ref := "LinkTimes$Departure") dX11_init_21 rfl in_X11 tyX11 tyX11_ok nmX11 (by decide) (Or.inl q854) (Or.inl rfl) (Or.inr ⟨rfl, rfl, rfl, q854⟩) (tyX11_ok 2 (by decide)) (fun _ _ _ => rfl),
  k_aload_n dX11_init_24,
  k_iload dX11_init_25,
  k_putI (C := RX11) (T := TX11) (N := 9) (ci := 6) (k := 3) (ref := "LinkTimes$Departure") dX11_init_27 rfl in_X11 tyX11 tyX11_ok nmX11 (by decide) (Or.inl q857) (Or.inl rfl) (Or.inr ⟨rfl, rfl, rfl, q857⟩) (tyX11_ok 3 (by decide)) (fun _ _ _ => rfl),
  k_aload_n dX11_init_30,
  k_iload dX11_init_31,
  k_putI (C := RX11) (T := TX11) (N := 9) (ci := 6) (k := 4) (ref := "LinkTimes$Departure") dX11_init_33 rfl in_X11 tyX11 tyX11_ok nmX11 (by decide) (Or.inl q860) (Or.inl rfl) (Or.inr ⟨rfl, rfl, rfl, q860⟩) (tyX11_ok 4 (by decide)) (fun _ _ _ => rfl),
  k_aload_n dX11_init_36,
  k_iload dX11_init_37,
  k_putI (C := RX11) (T := TX11) (N := 9) (ci := 6) (k := 5) (ref := "LinkTimes$Departure") dX11_init_39 rfl in_X11 tyX11 tyX11_ok nmX11 (by decide) (Or.inl q863) (Or.inl rfl) (Or.inr ⟨rfl, rfl, rfl, q863⟩) (tyX11_ok 5 (by decide)) (fun _ _ _ => rfl),
  k_aload_n dX11_init_42,
  k_iload dX11_init_43,
  k_putI (C := RX11) (T := TX11) (N := 9) (ci := 6) (k := 6) (ref := "LinkTimes$Departure") dX11_init_45 rfl in_X11 tyX11 tyX11_ok nmX11 (by decide) (Or.inl q865) (Or.inl rfl) (Or.inr ⟨rfl, rfl, rfl, q865⟩) (tyX11_ok 6 (by decide)) (fun _ _ _ => rfl),
  k_ret dX11_init_48, trivial⟩
theorem sndX11_init : MSound 2 yX11_init (ws_ yX11_init cX11_init 8 none) mX11_init := msound_M (by decide) allX11_init (fun _ _ => rfl)
/-! LinkTimes$Departure.leaves()I -/
noncomputable def kX11_leaves : ZM := ([(0, zi_ld 1 0 1), (1, zi_getI 22 5 4), (4, zi_ld 1 0 5), (5, zi_getI 22 7 8), (8, zi_bin (fun a b => w32 (a + b)) 9), (9, zi_retv 0)], fun _ _ => none)
noncomputable def mX11_leaves : ZF := zrunM kX11_leaves 1
theorem enX11_leaves (x0 : Option Nat) (h : PH) : mX11_leaves [zvr x0] h = zev kX11_leaves 0 [zvr x0] [] h := zrunM_eq rfl rfl
theorem rX11_leaves : (∀ (a : Option Nat) (L st : List ZV) (h : PH), zev kX11_leaves 0 (zvr a :: L) st h = zev kX11_leaves 1 (zvr a :: L) (zvr a :: st) h) ∧
  (∀ (q : Nat) (L st : List ZV) (h : PH), zev kX11_leaves 1 L (zvr (some q) :: st) h = if (ph_K h q).1 % 1000 = 22 then zev kX11_leaves 4 L (zvi (ph_I h q 5) :: st) h else none) ∧
  (∀ (a : Option Nat) (L st : List ZV) (h : PH), zev kX11_leaves 4 (zvr a :: L) st h = zev kX11_leaves 5 (zvr a :: L) (zvr a :: st) h) ∧
  (∀ (q : Nat) (L st : List ZV) (h : PH), zev kX11_leaves 5 L (zvr (some q) :: st) h = if (ph_K h q).1 % 1000 = 22 then zev kX11_leaves 8 L (zvi (ph_I h q 7) :: st) h else none) ∧
  (∀ (a b : Int) (L st : List ZV) (h : PH), zev kX11_leaves 8 L (zvi b :: zvi a :: st) h = zev kX11_leaves 9 L (zvi (w32 (a + b)) :: st) h) ∧
  (∀ (a : Int) (L : List ZV) (h : PH), zev kX11_leaves 9 L [zvi a] h = zrv (zvi a) h) :=
  ⟨fun a L st h => e_ld0R (n := 1) rfl,
  fun q L st h => e_getI (kd := 22) (k := 5) (n := 4) rfl,
  fun a L st h => e_ld0R (n := 5) rfl,
  fun q L st h => e_getI (kd := 22) (k := 7) (n := 8) rfl,
  fun a b L st h => e_bin (f := (fun a b => w32 (a + b))) (n := 9) rfl,
  fun a L h => e_retI rfl⟩
theorem allX11_leaves : zall yX11_leaves cX11_leaves 1 (some .int) 1 kX11_leaves.1 :=
  ⟨k_aload_n dX11_leaves_0,
  k_getI (C := RX11) (T := TX11) (N := 9) (ci := 6) (k := 5) (ref := "LinkTimes$Departure") dX11_leaves_1 rfl in_X11 (by decide) q863 (Or.inl rfl) (fun _ _ _ => rfl),
  k_aload_n dX11_leaves_4,
  k_getI (C := RX11) (T := TX11) (N := 9) (ci := 6) (k := 7) (ref := "LinkTimes$Departure") dX11_leaves_5 rfl in_X11 (by decide) q867 (Or.inl rfl) (fun _ _ _ => rfl),
  k_iadd dX11_leaves_8,
  k_iret dX11_leaves_9, trivial⟩
theorem sndX11_leaves : MSound 1 yX11_leaves (ws_ yX11_leaves cX11_leaves 1 (some .int)) mX11_leaves := msound_M (by decide) allX11_leaves (fun _ _ => rfl)
/-! LinkTimes$Departure.arrives()I -/
noncomputable def kX11_arrives : ZM := ([(0, zi_ld 1 0 1), (1, zi_callV mX11_leaves 22 1 4), (4, zi_ld 1 0 5), (5, zi_getI 22 6 8), (8, zi_bin (fun a b => w32 (a + b)) 9), (9, zi_retv 0)], fun _ _ => none)
noncomputable def mX11_arrives : ZF := zrunM kX11_arrives 1
theorem enX11_arrives (x0 : Option Nat) (h : PH) : mX11_arrives [zvr x0] h = zev kX11_arrives 0 [zvr x0] [] h := zrunM_eq rfl rfl
theorem rX11_arrives : (∀ (a : Option Nat) (L st : List ZV) (h : PH), zev kX11_arrives 0 (zvr a :: L) st h = zev kX11_arrives 1 (zvr a :: L) (zvr a :: st) h) ∧
  (∀ (q : Nat) (L st : List ZV) (h : PH), zev kX11_arrives 1 L (zvr (some q) :: st) h = if (ph_K h q).1 % 1000 = 22 ∧ zcat st ≤ 8 then zk kX11_arrives 1 4 L st (mX11_leaves [zvr (some q)] h) else none) ∧
  (∀ (a : Option Nat) (L st : List ZV) (h : PH), zev kX11_arrives 4 (zvr a :: L) st h = zev kX11_arrives 5 (zvr a :: L) (zvr a :: st) h) ∧
  (∀ (q : Nat) (L st : List ZV) (h : PH), zev kX11_arrives 5 L (zvr (some q) :: st) h = if (ph_K h q).1 % 1000 = 22 then zev kX11_arrives 8 L (zvi (ph_I h q 6) :: st) h else none) ∧
  (∀ (a b : Int) (L st : List ZV) (h : PH), zev kX11_arrives 8 L (zvi b :: zvi a :: st) h = zev kX11_arrives 9 L (zvi (w32 (a + b)) :: st) h) ∧
  (∀ (a : Int) (L : List ZV) (h : PH), zev kX11_arrives 9 L [zvi a] h = zrv (zvi a) h) :=
  ⟨fun a L st h => e_ld0R (n := 1) rfl,
  fun q L st h => e_callV1 (F := mX11_leaves) (kd := 22) (n := 4) rfl,
  fun a L st h => e_ld0R (n := 5) rfl,
  fun q L st h => e_getI (kd := 22) (k := 6) (n := 8) rfl,
  fun a b L st h => e_bin (f := (fun a b => w32 (a + b))) (n := 9) rfl,
  fun a L h => e_retI rfl⟩
theorem allX11_arrives : zall yX11_arrives cX11_arrives 1 (some .int) 2 kX11_arrives.1 :=
  ⟨k_aload_n dX11_arrives_0,
  k_callV (y2 := yX11_leaves) (C := RX11) (T0 := TX11) (ci := 6) dX11_arrives_1 sndX11_leaves rfl q1264 q1145 q1146 q160 q1147 (by decide +kernel) ⟨by decide, by decide⟩ (by decide) (by decide),
  k_aload_n dX11_arrives_4,
  k_getI (C := RX11) (T := TX11) (N := 9) (ci := 6) (k := 6) (ref := "LinkTimes$Departure") dX11_arrives_5 rfl in_X11 (by decide) q865 (Or.inl rfl) (fun _ _ _ => rfl),
  k_iadd dX11_arrives_8,
  k_iret dX11_arrives_9, trivial⟩
theorem sndX11_arrives : MSound 2 yX11_arrives (ws_ yX11_arrives cX11_arrives 1 (some .int)) mX11_arrives := msound_M (by decide) allX11_arrives (fun _ _ => rfl)
/-! Z program: java/util/TreeMap$Entry (written by gen/gen_prog.py) -/
set_option maxRecDepth 100000
/-! java/util/TreeMap$Entry.<init>(Ljava/lang/Object;Ljava/lang/Object;Ljava/util/TreeMap$Entry;)V -/
noncomputable def kJ22_init : ZM := ([(0, zi_ld 1 0 1), (1, zi_objI 33 4), (4, zi_ld 1 0 5), (5, zi_push (zvi 1) 6), (6, zi_putZ 33 5 9), (9, zi_ld 1 0 10), (10, zi_ld 1 1 11), (11, zi_putR 33 0 14), (14, zi_ld 1 0 15), (15, zi_ld 1 2 16), (16, zi_putR 33 1 19), (19, zi_ld 1 0 20), (20, zi_ld 1 3 21), (21, zi_putR 33 4 24), (24, zi_ret)], fun _ _ => none)
noncomputable def mJ22_init : ZF := zrunM kJ22_init 4
theorem enJ22_init (x0 : Option Nat) (x1 : Option Nat) (x2 : Option Nat) (x3 : Option Nat) (h : PH) : mJ22_init [zvr x0, zvr x1, zvr x2, zvr x3] h = zev kJ22_init 0 [zvr x0, zvr x1, zvr x2, zvr x3] [] h := zrunM_eq rfl rfl
theorem rJ22_init : (∀ (a : Option Nat) (L st : List ZV) (h : PH), zev kJ22_init 0 (zvr a :: L) st h = zev kJ22_init 1 (zvr a :: L) (zvr a :: st) h) ∧
  (∀ (q : Nat) (L st : List ZV) (h : PH), zev kJ22_init 1 L (zvr (some q) :: st) h = if (ph_K h q).1 % 1000 = 33 ∧ zcat st ≤ 8 then zev kJ22_init 4 L st h else none) ∧
  (∀ (a : Option Nat) (L st : List ZV) (h : PH), zev kJ22_init 4 (zvr a :: L) st h = zev kJ22_init 5 (zvr a :: L) (zvr a :: st) h) ∧
  (∀ (L st : List ZV) (h : PH), zev kJ22_init 5 L st h = zev kJ22_init 6 L (zvi 1 :: st) h) ∧
  (∀ (a : Int) (q : Nat) (L st : List ZV) (h : PH), zev kJ22_init 6 L (zvi a :: zvr (some q) :: st) h = if (ph_K h q).1 = 33 ∧ (a = 0 ∨ a = 1) then zev kJ22_init 9 L st (st_I h q 5 a) else none) ∧
  (∀ (a : Option Nat) (L st : List ZV) (h : PH), zev kJ22_init 9 (zvr a :: L) st h = zev kJ22_init 10 (zvr a :: L) (zvr a :: st) h) ∧
  (∀ (x0 : ZV) (a : Option Nat) (L st : List ZV) (h : PH), zev kJ22_init 10 (x0 :: zvr a :: L) st h = zev kJ22_init 11 (x0 :: zvr a :: L) (zvr a :: st) h) ∧
  (∀ (a : Option Nat) (q : Nat) (L st : List ZV) (h : PH), zev kJ22_init 11 L (zvr a :: zvr (some q) :: st) h = if (ph_K h q).1 = 33 then zev kJ22_init 14 L st (st_R h q 0 a) else none) ∧
  (∀ (a : Option Nat) (L st : List ZV) (h : PH), zev kJ22_init 14 (zvr a :: L) st h = zev kJ22_init 15 (zvr a :: L) (zvr a :: st) h) ∧
  (∀ (x0 x1 : ZV) (a : Option Nat) (L st : List ZV) (h : PH), zev kJ22_init 15 (x0 :: x1 :: zvr a :: L) st h = zev kJ22_init 16 (x0 :: x1 :: zvr a :: L) (zvr a :: st) h) ∧
  (∀ (a : Option Nat) (q : Nat) (L st : List ZV) (h : PH), zev kJ22_init 16 L (zvr a :: zvr (some q) :: st) h = if (ph_K h q).1 = 33 then zev kJ22_init 19 L st (st_R h q 1 a) else none) ∧
  (∀ (a : Option Nat) (L st : List ZV) (h : PH), zev kJ22_init 19 (zvr a :: L) st h = zev kJ22_init 20 (zvr a :: L) (zvr a :: st) h) ∧
  (∀ (x0 x1 x2 : ZV) (a : Option Nat) (L st : List ZV) (h : PH), zev kJ22_init 20 (x0 :: x1 :: x2 :: zvr a :: L) st h = zev kJ22_init 21 (x0 :: x1 :: x2 :: zvr a :: L) (zvr a :: st) h) ∧
  (∀ (a : Option Nat) (q : Nat) (L st : List ZV) (h : PH), zev kJ22_init 21 L (zvr a :: zvr (some q) :: st) h = if (ph_K h q).1 = 33 then zev kJ22_init 24 L st (st_R h q 4 a) else none) ∧
  (∀ (L : List ZV) (h : PH), zev kJ22_init 24 L [] h = zr0 h) :=
  ⟨fun a L st h => e_ld0R (n := 1) rfl,
  fun q L st h => e_objI (kd := 33) (n := 4) rfl,
  fun a L st h => e_ld0R (n := 5) rfl,
  fun L st h => e_push (v := zvi 1) (n := 6) rfl,
  fun a q L st h => e_putZ (kd := 33) (k := 5) (n := 9) rfl,
  fun a L st h => e_ld0R (n := 10) rfl,
  fun x0 a L st h => e_ld1R (n := 11) rfl,
  fun a q L st h => e_putR (kd := 33) (k := 0) (n := 14) rfl,
  fun a L st h => e_ld0R (n := 15) rfl,
  fun x0 x1 a L st h => e_ld2R (n := 16) rfl,
  fun a q L st h => e_putR (kd := 33) (k := 1) (n := 19) rfl,
  fun a L st h => e_ld0R (n := 20) rfl,
  fun x0 x1 x2 a L st h => e_ld3R (n := 21) rfl,
  fun a q L st h => e_putR (kd := 33) (k := 4) (n := 24) rfl,
  fun L h => e_ret rfl⟩
theorem allJ22_init : zall yJ22_init cJ22_init 4 none 2 kJ22_init.1 :=
  ⟨k_aload_n dJ22_init_0,
  k_objI (C := RJ22) (T0 := TJ22) (ci := 17) dJ22_init_1 rfl q1153 q177 q178 (by decide),
  k_aload_n dJ22_init_4,
  k_iconst dJ22_init_5,
  k_putZ (C := RJ22) (T := TJ22) (N := 6) (ci := 17) (k := 5) (ref := "java/util/TreeMap$Entry") dJ22_init_6 rfl in_J22 tyJ22 tyJ22_ok nmJ22 (by decide) (Or.inl q1162) (Or.inl rfl) (Or.inl rfl) (tyJ22_ok 5 (by decide)) (fun _ _ _ => rfl),
  k_aload_n dJ22_init_9,
  k_aload_n dJ22_init_10,
  k_putR (C := RJ22) (T := TJ22) (N := 6) (ci := 17) (k := 0) (ref := "java/util/TreeMap$Entry") dJ22_init_11 rfl in_J22 tyJ22 tyJ22_ok nmJ22 (by decide) (Or.inl q1154) (Or.inl rfl) (Or.inl rfl) (tyJ22_ok 0 (by decide)) (Or.inl ⟨_, rfl⟩) (fun _ _ _ => rfl),
  k_aload_n dJ22_init_14,
  k_aload_n dJ22_init_15,
  k_putR (C := RJ22) (T := TJ22) (N := 6) (ci := 17) (k := 1) (ref := "java/util/TreeMap$Entry") dJ22_init_16 rfl in_J22 tyJ22 tyJ22_ok nmJ22 (by decide) (Or.inl q1156) (Or.inl rfl) (Or.inl rfl) (tyJ22_ok 1 (by decide)) (Or.inl ⟨_, rfl⟩) (fun _ _ _ => rfl),
  k_aload_n dJ22_init_19,
  k_aload_n dJ22_init_20,
  k_putR (C := RJ22) (T := TJ22) (N := 6) (ci := 17) (k := 4) (ref := "java/util/TreeMap$Entry") dJ22_init_21 rfl in_J22 tyJ22 tyJ22_ok nmJ22 (by decide) (Or.inl q1160) (Or.inl rfl) (Or.inl rfl) (tyJ22_ok 4 (by decide)) (Or.inl ⟨_, rfl⟩) (fun _ _ _ => rfl),
  k_ret dJ22_init_24, trivial⟩
theorem sndJ22_init : MSound 2 yJ22_init (ws_ yJ22_init cJ22_init 4 none) mJ22_init := msound_M (by decide) allJ22_init (fun _ _ => rfl)
/-! Z program: LinkTimes$ByLeaves (written by gen/gen_prog.py) -/
set_option maxRecDepth 100000
/-! LinkTimes$ByLeaves.<init>()V -/
noncomputable def kX2_init : ZM := ([(0, zi_ld 1 0 1), (1, zi_objI 28 4), (4, zi_ret)], fun _ _ => none)
noncomputable def mX2_init : ZF := zrunM kX2_init 1
theorem enX2_init (x0 : Option Nat) (h : PH) : mX2_init [zvr x0] h = zev kX2_init 0 [zvr x0] [] h := zrunM_eq rfl rfl
theorem rX2_init : (∀ (a : Option Nat) (L st : List ZV) (h : PH), zev kX2_init 0 (zvr a :: L) st h = zev kX2_init 1 (zvr a :: L) (zvr a :: st) h) ∧
  (∀ (q : Nat) (L st : List ZV) (h : PH), zev kX2_init 1 L (zvr (some q) :: st) h = if (ph_K h q).1 % 1000 = 28 ∧ zcat st ≤ 8 then zev kX2_init 4 L st h else none) ∧
  (∀ (L : List ZV) (h : PH), zev kX2_init 4 L [] h = zr0 h) :=
  ⟨fun a L st h => e_ld0R (n := 1) rfl,
  fun q L st h => e_objI (kd := 28) (n := 4) rfl,
  fun L h => e_ret rfl⟩
theorem allX2_init : zall yX2_init cX2_init 1 none 2 kX2_init.1 :=
  ⟨k_aload_n dX2_init_0,
  k_objI (C := RX2) (T0 := TX2) (ci := 12) dX2_init_1 rfl q186 q177 q178 (by decide),
  k_ret dX2_init_4, trivial⟩
theorem sndX2_init : MSound 2 yX2_init (ws_ yX2_init cX2_init 1 none) mX2_init := msound_M (by decide) allX2_init (fun _ _ => rfl)
/-! LinkTimes$ByLeaves.compare(LLinkTimes$Departure;LLinkTimes$Departure;)I -/
noncomputable def kX2_compare_2 : ZM := ([(0, zi_ld 1 1 1), (1, zi_callV mX11_leaves 22 1 4), (4, zi_ld 1 2 5), (5, zi_callV mX11_leaves 22 1 8), (8, zi_cmp zc_eq 23 11), (11, zi_ld 1 1 12), (12, zi_callV mX11_leaves 22 1 15), (15, zi_ld 1 2 16), (16, zi_callV mX11_leaves 22 1 19), (19, zi_bin (fun a b => w32 (a - b)) 20), (20, zi_goto 32), (23, zi_ld 1 1 24), (24, zi_getI 22 0 27), (27, zi_ld 1 2 28), (28, zi_getI 22 0 31), (31, zi_bin (fun a b => w32 (a - b)) 32), (32, zi_retv 0)], fun _ _ => none)
noncomputable def mX2_compare_2 : ZF := zrunM kX2_compare_2 3
theorem enX2_compare_2 (x0 : Option Nat) (x1 : Option Nat) (x2 : Option Nat) (h : PH) : mX2_compare_2 [zvr x0, zvr x1, zvr x2] h = zev kX2_compare_2 0 [zvr x0, zvr x1, zvr x2] [] h := zrunM_eq rfl rfl
theorem rX2_compare_2 : (∀ (x0 : ZV) (a : Option Nat) (L st : List ZV) (h : PH), zev kX2_compare_2 0 (x0 :: zvr a :: L) st h = zev kX2_compare_2 1 (x0 :: zvr a :: L) (zvr a :: st) h) ∧
  (∀ (q : Nat) (L st : List ZV) (h : PH), zev kX2_compare_2 1 L (zvr (some q) :: st) h = if (ph_K h q).1 % 1000 = 22 ∧ zcat st ≤ 8 then zk kX2_compare_2 1 4 L st (mX11_leaves [zvr (some q)] h) else none) ∧
  (∀ (x0 x1 : ZV) (a : Option Nat) (L st : List ZV) (h : PH), zev kX2_compare_2 4 (x0 :: x1 :: zvr a :: L) st h = zev kX2_compare_2 5 (x0 :: x1 :: zvr a :: L) (zvr a :: st) h) ∧
  (∀ (q : Nat) (L st : List ZV) (h : PH), zev kX2_compare_2 5 L (zvr (some q) :: st) h = if (ph_K h q).1 % 1000 = 22 ∧ zcat st ≤ 8 then zk kX2_compare_2 5 8 L st (mX11_leaves [zvr (some q)] h) else none) ∧
  (∀ (a b : Int) (L st : List ZV) (h : PH), zev kX2_compare_2 8 L (zvi b :: zvi a :: st) h = if a = b then zev kX2_compare_2 23 L st h else zev kX2_compare_2 11 L st h) ∧
  (∀ (x0 : ZV) (a : Option Nat) (L st : List ZV) (h : PH), zev kX2_compare_2 11 (x0 :: zvr a :: L) st h = zev kX2_compare_2 12 (x0 :: zvr a :: L) (zvr a :: st) h) ∧
  (∀ (q : Nat) (L st : List ZV) (h : PH), zev kX2_compare_2 12 L (zvr (some q) :: st) h = if (ph_K h q).1 % 1000 = 22 ∧ zcat st ≤ 8 then zk kX2_compare_2 12 15 L st (mX11_leaves [zvr (some q)] h) else none) ∧
  (∀ (x0 x1 : ZV) (a : Option Nat) (L st : List ZV) (h : PH), zev kX2_compare_2 15 (x0 :: x1 :: zvr a :: L) st h = zev kX2_compare_2 16 (x0 :: x1 :: zvr a :: L) (zvr a :: st) h) ∧
  (∀ (q : Nat) (L st : List ZV) (h : PH), zev kX2_compare_2 16 L (zvr (some q) :: st) h = if (ph_K h q).1 % 1000 = 22 ∧ zcat st ≤ 8 then zk kX2_compare_2 16 19 L st (mX11_leaves [zvr (some q)] h) else none) ∧
  (∀ (a b : Int) (L st : List ZV) (h : PH), zev kX2_compare_2 19 L (zvi b :: zvi a :: st) h = zev kX2_compare_2 20 L (zvi (w32 (a - b)) :: st) h) ∧
  (∀ (L st : List ZV) (h : PH), zev kX2_compare_2 20 L st h = zev kX2_compare_2 32 L st h) ∧
  (∀ (x0 : ZV) (a : Option Nat) (L st : List ZV) (h : PH), zev kX2_compare_2 23 (x0 :: zvr a :: L) st h = zev kX2_compare_2 24 (x0 :: zvr a :: L) (zvr a :: st) h) ∧
  (∀ (q : Nat) (L st : List ZV) (h : PH), zev kX2_compare_2 24 L (zvr (some q) :: st) h = if (ph_K h q).1 % 1000 = 22 then zev kX2_compare_2 27 L (zvi (ph_I h q 0) :: st) h else none) ∧
  (∀ (x0 x1 : ZV) (a : Option Nat) (L st : List ZV) (h : PH), zev kX2_compare_2 27 (x0 :: x1 :: zvr a :: L) st h = zev kX2_compare_2 28 (x0 :: x1 :: zvr a :: L) (zvr a :: st) h) ∧
  (∀ (q : Nat) (L st : List ZV) (h : PH), zev kX2_compare_2 28 L (zvr (some q) :: st) h = if (ph_K h q).1 % 1000 = 22 then zev kX2_compare_2 31 L (zvi (ph_I h q 0) :: st) h else none) ∧
  (∀ (a b : Int) (L st : List ZV) (h : PH), zev kX2_compare_2 31 L (zvi b :: zvi a :: st) h = zev kX2_compare_2 32 L (zvi (w32 (a - b)) :: st) h) ∧
  (∀ (a : Int) (L : List ZV) (h : PH), zev kX2_compare_2 32 L [zvi a] h = zrv (zvi a) h) :=
  ⟨fun x0 a L st h => e_ld1R (n := 1) rfl,
  fun q L st h => e_callV1 (F := mX11_leaves) (kd := 22) (n := 4) rfl,
  fun x0 x1 a L st h => e_ld2R (n := 5) rfl,
  fun q L st h => e_callV1 (F := mX11_leaves) (kd := 22) (n := 8) rfl,
  fun a b L st h => e_cmpeq (t := 23) (n := 11) rfl,
  fun x0 a L st h => e_ld1R (n := 12) rfl,
  fun q L st h => e_callV1 (F := mX11_leaves) (kd := 22) (n := 15) rfl,
  fun x0 x1 a L st h => e_ld2R (n := 16) rfl,
  fun q L st h => e_callV1 (F := mX11_leaves) (kd := 22) (n := 19) rfl,
  fun a b L st h => e_bin (f := (fun a b => w32 (a - b))) (n := 20) rfl,
  fun L st h => e_goto (t := 32) rfl,
  fun x0 a L st h => e_ld1R (n := 24) rfl,
  fun q L st h => e_getI (kd := 22) (k := 0) (n := 27) rfl,
  fun x0 x1 a L st h => e_ld2R (n := 28) rfl,
  fun q L st h => e_getI (kd := 22) (k := 0) (n := 31) rfl,
  fun a b L st h => e_bin (f := (fun a b => w32 (a - b))) (n := 32) rfl,
  fun a L h => e_retI rfl⟩
theorem allX2_compare_2 : zall yX2_compare_2 cX2_compare_2 3 (some .int) 2 kX2_compare_2.1 :=
  ⟨k_aload_n dX2_compare_2_0,
  k_callV (y2 := yX11_leaves) (C := RX11) (T0 := TX11) (ci := 6) dX2_compare_2_1 sndX11_leaves rfl q1144 q1145 q1146 q160 q1147 (by decide +kernel) ⟨by decide, by decide⟩ (by decide) (by decide),
  k_aload_n dX2_compare_2_4,
  k_callV (y2 := yX11_leaves) (C := RX11) (T0 := TX11) (ci := 6) dX2_compare_2_5 sndX11_leaves rfl q1144 q1145 q1146 q160 q1147 (by decide +kernel) ⟨by decide, by decide⟩ (by decide) (by decide),
  k_cmpeq (t := 23) dX2_compare_2_8 (by decide),
  k_aload_n dX2_compare_2_11,
  k_callV (y2 := yX11_leaves) (C := RX11) (T0 := TX11) (ci := 6) dX2_compare_2_12 sndX11_leaves rfl q1144 q1145 q1146 q160 q1147 (by decide +kernel) ⟨by decide, by decide⟩ (by decide) (by decide),
  k_aload_n dX2_compare_2_15,
  k_callV (y2 := yX11_leaves) (C := RX11) (T0 := TX11) (ci := 6) dX2_compare_2_16 sndX11_leaves rfl q1144 q1145 q1146 q160 q1147 (by decide +kernel) ⟨by decide, by decide⟩ (by decide) (by decide),
  k_isub dX2_compare_2_19,
  k_goto (t := 32) dX2_compare_2_20 (by decide),
  k_aload_n dX2_compare_2_23,
  k_getIN (C := RX11) (T := TX11) (N := 9) (ci := 6) (k := 0) (ref := "LinkTimes$Departure") dX2_compare_2_24 rfl in_X11 (by decide) q849 (Or.inl rfl) (fun _ _ _ => rfl),
  k_aload_n dX2_compare_2_27,
  k_getIN (C := RX11) (T := TX11) (N := 9) (ci := 6) (k := 0) (ref := "LinkTimes$Departure") dX2_compare_2_28 rfl in_X11 (by decide) q849 (Or.inl rfl) (fun _ _ _ => rfl),
  k_isub dX2_compare_2_31,
  k_iret dX2_compare_2_32, trivial⟩
theorem sndX2_compare_2 : MSound 2 yX2_compare_2 (ws_ yX2_compare_2 cX2_compare_2 3 (some .int)) mX2_compare_2 := msound_M (by decide) allX2_compare_2 (fun _ _ => rfl)
/-! LinkTimes$ByLeaves.compare(Ljava/lang/Object;Ljava/lang/Object;)I -/
noncomputable def kX2_compare : ZM := ([(0, zi_ld 1 0 1), (1, zi_ld 1 1 2), (2, zi_cast zokDep 5), (5, zi_ld 1 2 6), (6, zi_cast zokDep 9), (9, zi_callV mX2_compare_2 28 3 12), (12, zi_retv 0)], fun _ _ => none)
noncomputable def mX2_compare : ZF := zrunM kX2_compare 3
theorem enX2_compare (x0 : Option Nat) (x1 : Option Nat) (x2 : Option Nat) (h : PH) : mX2_compare [zvr x0, zvr x1, zvr x2] h = zev kX2_compare 0 [zvr x0, zvr x1, zvr x2] [] h := zrunM_eq rfl rfl
theorem rX2_compare : (∀ (a : Option Nat) (L st : List ZV) (h : PH), zev kX2_compare 0 (zvr a :: L) st h = zev kX2_compare 1 (zvr a :: L) (zvr a :: st) h) ∧
  (∀ (x0 : ZV) (a : Option Nat) (L st : List ZV) (h : PH), zev kX2_compare 1 (x0 :: zvr a :: L) st h = zev kX2_compare 2 (x0 :: zvr a :: L) (zvr a :: st) h) ∧
  (∀ (L st : List ZV) (h : PH), zev kX2_compare 2 L (zvr none :: st) h = zev kX2_compare 5 L (zvr none :: st) h) ∧
  (∀ (q : Nat) (L st : List ZV) (h : PH), zev kX2_compare 2 L (zvr (some q) :: st) h = if zokDep (ph_K h q).1 = true then zev kX2_compare 5 L (zvr (some q) :: st) h else none) ∧
  (∀ (x0 x1 : ZV) (a : Option Nat) (L st : List ZV) (h : PH), zev kX2_compare 5 (x0 :: x1 :: zvr a :: L) st h = zev kX2_compare 6 (x0 :: x1 :: zvr a :: L) (zvr a :: st) h) ∧
  (∀ (L st : List ZV) (h : PH), zev kX2_compare 6 L (zvr none :: st) h = zev kX2_compare 9 L (zvr none :: st) h) ∧
  (∀ (q : Nat) (L st : List ZV) (h : PH), zev kX2_compare 6 L (zvr (some q) :: st) h = if zokDep (ph_K h q).1 = true then zev kX2_compare 9 L (zvr (some q) :: st) h else none) ∧
  (∀ (v0 v1 : ZV) (q : Nat) (L st : List ZV) (h : PH), zev kX2_compare 9 L (v1 :: v0 :: zvr (some q) :: st) h = if (ph_K h q).1 % 1000 = 28 ∧ zcat st ≤ 8 then zk kX2_compare 9 12 L st (mX2_compare_2 [zvr (some q), v0, v1] h) else none) ∧
  (∀ (a : Int) (L : List ZV) (h : PH), zev kX2_compare 12 L [zvi a] h = zrv (zvi a) h) :=
  ⟨fun a L st h => e_ld0R (n := 1) rfl,
  fun x0 a L st h => e_ld1R (n := 2) rfl,
  fun L st h => e_cast0 (ok := zokDep) (n := 5) rfl,
  fun q L st h => e_cast1 (ok := zokDep) (n := 5) rfl,
  fun x0 x1 a L st h => e_ld2R (n := 6) rfl,
  fun L st h => e_cast0 (ok := zokDep) (n := 9) rfl,
  fun q L st h => e_cast1 (ok := zokDep) (n := 9) rfl,
  fun v0 v1 q L st h => e_callV3 (F := mX2_compare_2) (kd := 28) (n := 12) rfl,
  fun a L h => e_retI rfl⟩
theorem allX2_compare : zall yX2_compare cX2_compare 3 (some .int) 3 kX2_compare.1 :=
  ⟨k_aload_n dX2_compare_0,
  k_aload_n dX2_compare_1,
  k_cast (nm := "LinkTimes$Departure") dX2_compare_2 q1139 zokDep_can,
  k_aload_n dX2_compare_5,
  k_cast (nm := "LinkTimes$Departure") dX2_compare_6 q1139 zokDep_can,
  k_callV (y2 := yX2_compare_2) (C := RX2) (T0 := TX2) (ci := 12) dX2_compare_9 sndX2_compare_2 rfl q1140 q1141 q1142 q132 q1143 (by decide +kernel) ⟨by decide, by decide⟩ (by decide) (by decide),
  k_iret dX2_compare_12, trivial⟩
theorem sndX2_compare : MSound 3 yX2_compare (ws_ yX2_compare cX2_compare 3 (some .int)) mX2_compare := msound_M (by decide) allX2_compare (fun _ _ => rfl)
/-! Z program: java/util/Objects (written by gen/gen_prog.py) -/
set_option maxRecDepth 100000
/-! java/util/Objects.checkIndex(II)I -/
noncomputable def kJ14_checkIndex : ZM := ([(0, zi_ld 0 0 1), (1, zi_ld 0 1 2), (2, zi_push (zvr none) 3), (3, zi_callS mJ10_checkIndex 3 6), (6, zi_retv 0)], fun _ _ => none)
noncomputable def mJ14_checkIndex : ZF := zrunM kJ14_checkIndex 2
theorem enJ14_checkIndex (x0 : Int) (x1 : Int) (h : PH) : mJ14_checkIndex [zvi x0, zvi x1] h = zev kJ14_checkIndex 0 [zvi x0, zvi x1] [] h := zrunM_eq rfl rfl
theorem rJ14_checkIndex : (∀ (a : Int) (L st : List ZV) (h : PH), zev kJ14_checkIndex 0 (zvi a :: L) st h = zev kJ14_checkIndex 1 (zvi a :: L) (zvi a :: st) h) ∧
  (∀ (x0 : ZV) (a : Int) (L st : List ZV) (h : PH), zev kJ14_checkIndex 1 (x0 :: zvi a :: L) st h = zev kJ14_checkIndex 2 (x0 :: zvi a :: L) (zvi a :: st) h) ∧
  (∀ (L st : List ZV) (h : PH), zev kJ14_checkIndex 2 L st h = zev kJ14_checkIndex 3 L (zvr none :: st) h) ∧
  (∀ (v0 v1 v2 : ZV) (L st : List ZV) (h : PH), zev kJ14_checkIndex 3 L (v2 :: v1 :: v0 :: st) h = if zcat st ≤ 8 then zk kJ14_checkIndex 3 6 L st (mJ10_checkIndex [v0, v1, v2] h) else none) ∧
  (∀ (a : Int) (L : List ZV) (h : PH), zev kJ14_checkIndex 6 L [zvi a] h = zrv (zvi a) h) :=
  ⟨fun a L st h => e_ld0I (n := 1) rfl,
  fun x0 a L st h => e_ld1I (n := 2) rfl,
  fun L st h => e_push (v := zvr none) (n := 3) rfl,
  fun v0 v1 v2 L st h => e_callS3 (F := mJ10_checkIndex) (n := 6) rfl,
  fun a L h => e_retI rfl⟩
theorem allJ14_checkIndex : zall yJ14_checkIndex cJ14_checkIndex 2 (some .int) 2 kJ14_checkIndex.1 :=
  ⟨k_iload_n dJ14_checkIndex_0,
  k_iload_n dJ14_checkIndex_1,
  k_anull dJ14_checkIndex_2,
  k_callS (y2 := yJ10_checkIndex) dJ14_checkIndex_3 sndJ10_checkIndex q701 q535 q144 q536 (by decide +kernel) ⟨by decide, by decide⟩ (by decide) (by decide),
  k_iret dJ14_checkIndex_6, trivial⟩
theorem sndJ14_checkIndex : MSound 2 yJ14_checkIndex (ws_ yJ14_checkIndex cJ14_checkIndex 2 (some .int)) mJ14_checkIndex := msound_M (by decide) allJ14_checkIndex (fun _ _ => rfl)
/-! java/util/Objects.requireNonNull(Ljava/lang/Object;)Ljava/lang/Object; -/
noncomputable def kJ14_requireNonNull : ZM := ([(0, zi_ld 1 0 1), (1, zi_nonnull 12 4), (4, zi_stuck), (7, zi_dup 8), (8, zi_stuck), (11, zi_throw), (12, zi_ld 1 0 13), (13, zi_retv 1)], fun _ _ => none)
noncomputable def mJ14_requireNonNull : ZF := zrunM kJ14_requireNonNull 1
theorem enJ14_requireNonNull (x0 : Option Nat) (h : PH) : mJ14_requireNonNull [zvr x0] h = zev kJ14_requireNonNull 0 [zvr x0] [] h := zrunM_eq rfl rfl
theorem rJ14_requireNonNull : (∀ (a : Option Nat) (L st : List ZV) (h : PH), zev kJ14_requireNonNull 0 (zvr a :: L) st h = zev kJ14_requireNonNull 1 (zvr a :: L) (zvr a :: st) h) ∧
  (∀ (L st : List ZV) (h : PH), zev kJ14_requireNonNull 1 L (zvr none :: st) h = zev kJ14_requireNonNull 4 L st h) ∧
  (∀ (q : Nat) (L st : List ZV) (h : PH), zev kJ14_requireNonNull 1 L (zvr (some q) :: st) h = if (ph_K h q).1 ≠ 0 then zev kJ14_requireNonNull 12 L st h else none) ∧
  (∀ (a : Int) (L st : List ZV) (h : PH), zev kJ14_requireNonNull 7 L (zvi a :: st) h = zev kJ14_requireNonNull 8 L (zvi a :: zvi a :: st) h) ∧
  (∀ (a : Option Nat) (L st : List ZV) (h : PH), zev kJ14_requireNonNull 7 L (zvr a :: st) h = zev kJ14_requireNonNull 8 L (zvr a :: zvr a :: st) h) ∧
  (∀ (q : Nat) (L st : List ZV) (h : PH), zev kJ14_requireNonNull 11 L (zvr (some q) :: st) h = if (ph_K h q).1 ≠ 0 then zk kJ14_requireNonNull 11 0 L [] (zrx q h) else none) ∧
  (∀ (a : Option Nat) (L st : List ZV) (h : PH), zev kJ14_requireNonNull 12 (zvr a :: L) st h = zev kJ14_requireNonNull 13 (zvr a :: L) (zvr a :: st) h) ∧
  (∀ (a : Option Nat) (L : List ZV) (h : PH), zev kJ14_requireNonNull 13 L [zvr a] h = zrv (zvr a) h) :=
  ⟨fun a L st h => e_ld0R (n := 1) rfl,
  fun L st h => e_nonnull0 (t := 12) (n := 4) rfl,
  fun q L st h => e_nonnull1 (t := 12) (n := 4) rfl,
  fun a L st h => e_dupI (n := 8) rfl,
  fun a L st h => e_dupR (n := 8) rfl,
  fun q L st h => e_throw (n := 0) rfl,
  fun a L st h => e_ld0R (n := 13) rfl,
  fun a L h => e_retR rfl⟩
theorem allJ14_requireNonNull : zall yJ14_requireNonNull cJ14_requireNonNull 1 (some (.object "java/lang/Object")) 1 kJ14_requireNonNull.1 :=
  ⟨k_aload_n dJ14_requireNonNull_0,
  k_nonnull (t := 12) dJ14_requireNonNull_1 (by decide),
  k_stuck,
  k_dup dJ14_requireNonNull_7,
  k_stuck,
  k_throw dJ14_requireNonNull_11,
  k_aload_n dJ14_requireNonNull_12,
  k_aret dJ14_requireNonNull_13 rfl (Or.inl ⟨_, rfl⟩), trivial⟩
theorem sndJ14_requireNonNull : MSound 1 yJ14_requireNonNull (ws_ yJ14_requireNonNull cJ14_requireNonNull 1 (some (.object "java/lang/Object"))) mJ14_requireNonNull := msound_M (by decide) allJ14_requireNonNull (fun _ _ => rfl)
/-! Z program: jdk/internal/util/ArraysSupport (written by gen/gen_prog.py) -/
set_option maxRecDepth 100000
/-! jdk/internal/util/ArraysSupport.hugeLength(II)I -/
noncomputable def kJ15_hugeLength : ZM := ([(0, zi_ld 0 0 1), (1, zi_ld 0 1 2), (2, zi_bin (fun a b => w32 (a + b)) 3), (3, zi_st 0 2 4), (4, zi_ld 0 2 5), (5, zi_if (fun a => zc_ge a 0) 49 8), (8, zi_stuck), (11, zi_dup 12), (12, zi_stuck), (15, zi_dup 16), (16, zi_stuck), (19, zi_stuck), (21, zi_stuck), (24, zi_ld 0 0 25), (25, zi_stuck), (28, zi_stuck), (30, zi_stuck), (33, zi_ld 0 1 34), (34, zi_stuck), (37, zi_stuck), (39, zi_stuck), (42, zi_stuck), (45, zi_stuck), (48, zi_throw), (49, zi_ld 0 2 50), (50, zi_push (zvi 2147483639) 52), (52, zi_cmp zc_gt 58 55), (55, zi_push (zvi 2147483639) 57), (57, zi_retv 0), (58, zi_ld 0 2 59), (59, zi_retv 0)], fun _ _ => none)
noncomputable def mJ15_hugeLength : ZF := zrunM kJ15_hugeLength 3
theorem enJ15_hugeLength (x0 : Int) (x1 : Int) (h : PH) : mJ15_hugeLength [zvi x0, zvi x1] h = zev kJ15_hugeLength 0 [zvi x0, zvi x1, zvu] [] h := zrunM_eq rfl rfl
theorem rJ15_hugeLength : (∀ (a : Int) (L st : List ZV) (h : PH), zev kJ15_hugeLength 0 (zvi a :: L) st h = zev kJ15_hugeLength 1 (zvi a :: L) (zvi a :: st) h) ∧
  (∀ (x0 : ZV) (a : Int) (L st : List ZV) (h : PH), zev kJ15_hugeLength 1 (x0 :: zvi a :: L) st h = zev kJ15_hugeLength 2 (x0 :: zvi a :: L) (zvi a :: st) h) ∧
  (∀ (a b : Int) (L st : List ZV) (h : PH), zev kJ15_hugeLength 2 L (zvi b :: zvi a :: st) h = zev kJ15_hugeLength 3 L (zvi (w32 (a + b)) :: st) h) ∧
  (∀ (x0 x1 x2 : ZV) (a : Int) (L st : List ZV) (h : PH) (hx : zisL x1 = false) , zev kJ15_hugeLength 3 (x0 :: x1 :: x2 :: L) (zvi a :: st) h = zev kJ15_hugeLength 4 (x0 :: x1 :: zvi a :: L) st h) ∧
  (∀ (x0 x1 : ZV) (a : Int) (L st : List ZV) (h : PH), zev kJ15_hugeLength 4 (x0 :: x1 :: zvi a :: L) st h = zev kJ15_hugeLength 5 (x0 :: x1 :: zvi a :: L) (zvi a :: st) h) ∧
  (∀ (a : Int) (L st : List ZV) (h : PH), zev kJ15_hugeLength 5 L (zvi a :: st) h = if a ≥ 0 then zev kJ15_hugeLength 49 L st h else zev kJ15_hugeLength 8 L st h) ∧
  (∀ (a : Int) (L st : List ZV) (h : PH), zev kJ15_hugeLength 11 L (zvi a :: st) h = zev kJ15_hugeLength 12 L (zvi a :: zvi a :: st) h) ∧
  (∀ (a : Option Nat) (L st : List ZV) (h : PH), zev kJ15_hugeLength 11 L (zvr a :: st) h = zev kJ15_hugeLength 12 L (zvr a :: zvr a :: st) h) ∧
  (∀ (a : Int) (L st : List ZV) (h : PH), zev kJ15_hugeLength 15 L (zvi a :: st) h = zev kJ15_hugeLength 16 L (zvi a :: zvi a :: st) h) ∧
  (∀ (a : Option Nat) (L st : List ZV) (h : PH), zev kJ15_hugeLength 15 L (zvr a :: st) h = zev kJ15_hugeLength 16 L (zvr a :: zvr a :: st) h) ∧
  (∀ (a : Int) (L st : List ZV) (h : PH), zev kJ15_hugeLength 24 (zvi a :: L) st h = zev kJ15_hugeLength 25 (zvi a :: L) (zvi a :: st) h) ∧
  (∀ (x0 : ZV) (a : Int) (L st : List ZV) (h : PH), zev kJ15_hugeLength 33 (x0 :: zvi a :: L) st h = zev kJ15_hugeLength 34 (x0 :: zvi a :: L) (zvi a :: st) h) ∧
  (∀ (q : Nat) (L st : List ZV) (h : PH), zev kJ15_hugeLength 48 L (zvr (some q) :: st) h = if (ph_K h q).1 ≠ 0 then zk kJ15_hugeLength 48 0 L [] (zrx q h) else none) ∧
  (∀ (x0 x1 : ZV) (a : Int) (L st : List ZV) (h : PH), zev kJ15_hugeLength 49 (x0 :: x1 :: zvi a :: L) st h = zev kJ15_hugeLength 50 (x0 :: x1 :: zvi a :: L) (zvi a :: st) h) ∧
  (∀ (L st : List ZV) (h : PH), zev kJ15_hugeLength 50 L st h = zev kJ15_hugeLength 52 L (zvi 2147483639 :: st) h) ∧
  (∀ (a b : Int) (L st : List ZV) (h : PH), zev kJ15_hugeLength 52 L (zvi b :: zvi a :: st) h = if a > b then zev kJ15_hugeLength 58 L st h else zev kJ15_hugeLength 55 L st h) ∧
  (∀ (L st : List ZV) (h : PH), zev kJ15_hugeLength 55 L st h = zev kJ15_hugeLength 57 L (zvi 2147483639 :: st) h) ∧
  (∀ (a : Int) (L : List ZV) (h : PH), zev kJ15_hugeLength 57 L [zvi a] h = zrv (zvi a) h) ∧
  (∀ (x0 x1 : ZV) (a : Int) (L st : List ZV) (h : PH), zev kJ15_hugeLength 58 (x0 :: x1 :: zvi a :: L) st h = zev kJ15_hugeLength 59 (x0 :: x1 :: zvi a :: L) (zvi a :: st) h) ∧
  (∀ (a : Int) (L : List ZV) (h : PH), zev kJ15_hugeLength 59 L [zvi a] h = zrv (zvi a) h) :=
  ⟨fun a L st h => e_ld0I (n := 1) rfl,
  fun x0 a L st h => e_ld1I (n := 2) rfl,
  fun a b L st h => e_bin (f := (fun a b => w32 (a + b))) (n := 3) rfl,
  fun x0 x1 x2 a L st h hx => e_st2I (n := 4) rfl hx,
  fun x0 x1 a L st h => e_ld2I (n := 5) rfl,
  fun a L st h => e_ifge (t := 49) (n := 8) rfl,
  fun a L st h => e_dupI (n := 12) rfl,
  fun a L st h => e_dupR (n := 12) rfl,
  fun a L st h => e_dupI (n := 16) rfl,
  fun a L st h => e_dupR (n := 16) rfl,
  fun a L st h => e_ld0I (n := 25) rfl,
  fun x0 a L st h => e_ld1I (n := 34) rfl,
  fun q L st h => e_throw (n := 0) rfl,
  fun x0 x1 a L st h => e_ld2I (n := 50) rfl,
  fun L st h => e_push (v := zvi 2147483639) (n := 52) rfl,
  fun a b L st h => e_cmpgt (t := 58) (n := 55) rfl,
  fun L st h => e_push (v := zvi 2147483639) (n := 57) rfl,
  fun a L h => e_retI rfl,
  fun x0 x1 a L st h => e_ld2I (n := 59) rfl,
  fun a L h => e_retI rfl⟩
theorem allJ15_hugeLength : zall yJ15_hugeLength cJ15_hugeLength 3 (some .int) 1 kJ15_hugeLength.1 :=
  ⟨k_iload_n dJ15_hugeLength_0,
  k_iload_n dJ15_hugeLength_1,
  k_iadd dJ15_hugeLength_2,
  k_istore_n dJ15_hugeLength_3,
  k_iload_n dJ15_hugeLength_4,
  k_ifge (t := 49) dJ15_hugeLength_5 (by decide),
  k_stuck,
  k_dup dJ15_hugeLength_11,
  k_stuck,
  k_dup dJ15_hugeLength_15,
  k_stuck,
  k_stuck,
  k_stuck,
  k_iload_n dJ15_hugeLength_24,
  k_stuck,
  k_stuck,
  k_stuck,
  k_iload_n dJ15_hugeLength_33,
  k_stuck,
  k_stuck,
  k_stuck,
  k_stuck,
  k_stuck,
  k_throw dJ15_hugeLength_48,
  k_iload_n dJ15_hugeLength_49,
  k_ldc dJ15_hugeLength_50 q761,
  k_cmpgt (t := 58) dJ15_hugeLength_52 (by decide),
  k_ldc dJ15_hugeLength_55 q761,
  k_iret dJ15_hugeLength_57,
  k_iload_n dJ15_hugeLength_58,
  k_iret dJ15_hugeLength_59, trivial⟩
theorem sndJ15_hugeLength : MSound 1 yJ15_hugeLength (ws_ yJ15_hugeLength cJ15_hugeLength 3 (some .int)) mJ15_hugeLength := msound_M (by decide) allJ15_hugeLength (fun _ _ => rfl)
/-! jdk/internal/util/ArraysSupport.newLength(III)I -/
noncomputable def kJ15_newLength : ZM := ([(0, zi_ld 0 0 1), (1, zi_ld 0 1 2), (2, zi_ld 0 2 3), (3, zi_mm zmax 6), (6, zi_bin (fun a b => w32 (a + b)) 7), (7, zi_st 0 3 8), (8, zi_push (zvi 0) 9), (9, zi_ld 0 3 10), (10, zi_cmp zc_ge 21 13), (13, zi_ld 0 3 14), (14, zi_push (zvi 2147483639) 16), (16, zi_cmp zc_gt 21 19), (19, zi_ld 0 3 20), (20, zi_retv 0), (21, zi_ld 0 0 22), (22, zi_ld 0 1 23), (23, zi_callS mJ15_hugeLength 2 26), (26, zi_retv 0)], fun _ _ => none)
noncomputable def mJ15_newLength : ZF := zrunM kJ15_newLength 4
theorem enJ15_newLength (x0 : Int) (x1 : Int) (x2 : Int) (h : PH) : mJ15_newLength [zvi x0, zvi x1, zvi x2] h = zev kJ15_newLength 0 [zvi x0, zvi x1, zvi x2, zvu] [] h := zrunM_eq rfl rfl
theorem rJ15_newLength : (∀ (a : Int) (L st : List ZV) (h : PH), zev kJ15_newLength 0 (zvi a :: L) st h = zev kJ15_newLength 1 (zvi a :: L) (zvi a :: st) h) ∧
  (∀ (x0 : ZV) (a : Int) (L st : List ZV) (h : PH), zev kJ15_newLength 1 (x0 :: zvi a :: L) st h = zev kJ15_newLength 2 (x0 :: zvi a :: L) (zvi a :: st) h) ∧
  (∀ (x0 x1 : ZV) (a : Int) (L st : List ZV) (h : PH), zev kJ15_newLength 2 (x0 :: x1 :: zvi a :: L) st h = zev kJ15_newLength 3 (x0 :: x1 :: zvi a :: L) (zvi a :: st) h) ∧
  (∀ (a b : Int) (L st : List ZV) (h : PH), zev kJ15_newLength 3 L (zvi b :: zvi a :: st) h = if zcat st ≤ 8 then zev kJ15_newLength 6 L (zvi (zmax a b) :: st) h else none) ∧
  (∀ (a b : Int) (L st : List ZV) (h : PH), zev kJ15_newLength 6 L (zvi b :: zvi a :: st) h = zev kJ15_newLength 7 L (zvi (w32 (a + b)) :: st) h) ∧
  (∀ (x0 x1 x2 x3 : ZV) (a : Int) (L st : List ZV) (h : PH) (hx : zisL x2 = false) , zev kJ15_newLength 7 (x0 :: x1 :: x2 :: x3 :: L) (zvi a :: st) h = zev kJ15_newLength 8 (x0 :: x1 :: x2 :: zvi a :: L) st h) ∧
  (∀ (L st : List ZV) (h : PH), zev kJ15_newLength 8 L st h = zev kJ15_newLength 9 L (zvi 0 :: st) h) ∧
  (∀ (x0 x1 x2 : ZV) (a : Int) (L st : List ZV) (h : PH), zev kJ15_newLength 9 (x0 :: x1 :: x2 :: zvi a :: L) st h = zev kJ15_newLength 10 (x0 :: x1 :: x2 :: zvi a :: L) (zvi a :: st) h) ∧
  (∀ (a b : Int) (L st : List ZV) (h : PH), zev kJ15_newLength 10 L (zvi b :: zvi a :: st) h = if a ≥ b then zev kJ15_newLength 21 L st h else zev kJ15_newLength 13 L st h) ∧
  (∀ (x0 x1 x2 : ZV) (a : Int) (L st : List ZV) (h : PH), zev kJ15_newLength 13 (x0 :: x1 :: x2 :: zvi a :: L) st h = zev kJ15_newLength 14 (x0 :: x1 :: x2 :: zvi a :: L) (zvi a :: st) h) ∧
  (∀ (L st : List ZV) (h : PH), zev kJ15_newLength 14 L st h = zev kJ15_newLength 16 L (zvi 2147483639 :: st) h) ∧
  (∀ (a b : Int) (L st : List ZV) (h : PH), zev kJ15_newLength 16 L (zvi b :: zvi a :: st) h = if a > b then zev kJ15_newLength 21 L st h else zev kJ15_newLength 19 L st h) ∧
  (∀ (x0 x1 x2 : ZV) (a : Int) (L st : List ZV) (h : PH), zev kJ15_newLength 19 (x0 :: x1 :: x2 :: zvi a :: L) st h = zev kJ15_newLength 20 (x0 :: x1 :: x2 :: zvi a :: L) (zvi a :: st) h) ∧
  (∀ (a : Int) (L : List ZV) (h : PH), zev kJ15_newLength 20 L [zvi a] h = zrv (zvi a) h) ∧
  (∀ (a : Int) (L st : List ZV) (h : PH), zev kJ15_newLength 21 (zvi a :: L) st h = zev kJ15_newLength 22 (zvi a :: L) (zvi a :: st) h) ∧
  (∀ (x0 : ZV) (a : Int) (L st : List ZV) (h : PH), zev kJ15_newLength 22 (x0 :: zvi a :: L) st h = zev kJ15_newLength 23 (x0 :: zvi a :: L) (zvi a :: st) h) ∧
  (∀ (v0 v1 : ZV) (L st : List ZV) (h : PH), zev kJ15_newLength 23 L (v1 :: v0 :: st) h = if zcat st ≤ 8 then zk kJ15_newLength 23 26 L st (mJ15_hugeLength [v0, v1] h) else none) ∧
  (∀ (a : Int) (L : List ZV) (h : PH), zev kJ15_newLength 26 L [zvi a] h = zrv (zvi a) h) :=
  ⟨fun a L st h => e_ld0I (n := 1) rfl,
  fun x0 a L st h => e_ld1I (n := 2) rfl,
  fun x0 x1 a L st h => e_ld2I (n := 3) rfl,
  fun a b L st h => e_mm (f := zmax) (n := 6) rfl,
  fun a b L st h => e_bin (f := (fun a b => w32 (a + b))) (n := 7) rfl,
  fun x0 x1 x2 x3 a L st h hx => e_st3I (n := 8) rfl hx,
  fun L st h => e_push (v := zvi 0) (n := 9) rfl,
  fun x0 x1 x2 a L st h => e_ld3I (n := 10) rfl,
  fun a b L st h => e_cmpge (t := 21) (n := 13) rfl,
  fun x0 x1 x2 a L st h => e_ld3I (n := 14) rfl,
  fun L st h => e_push (v := zvi 2147483639) (n := 16) rfl,
  fun a b L st h => e_cmpgt (t := 21) (n := 19) rfl,
  fun x0 x1 x2 a L st h => e_ld3I (n := 20) rfl,
  fun a L h => e_retI rfl,
  fun a L st h => e_ld0I (n := 22) rfl,
  fun x0 a L st h => e_ld1I (n := 23) rfl,
  fun v0 v1 L st h => e_callS2 (F := mJ15_hugeLength) (n := 26) rfl,
  fun a L h => e_retI rfl⟩
theorem allJ15_newLength : zall yJ15_newLength cJ15_newLength 4 (some .int) 2 kJ15_newLength.1 :=
  ⟨k_iload_n dJ15_newLength_0,
  k_iload_n dJ15_newLength_1,
  k_iload_n dJ15_newLength_2,
  k_mmax dJ15_newLength_3 q758 q759 q154 q760 (by decide),
  k_iadd dJ15_newLength_6,
  k_istore_n dJ15_newLength_7,
  k_iconst dJ15_newLength_8,
  k_iload_n dJ15_newLength_9,
  k_cmpge (t := 21) dJ15_newLength_10 (by decide),
  k_iload_n dJ15_newLength_13,
  k_ldc dJ15_newLength_14 q761,
  k_cmpgt (t := 21) dJ15_newLength_16 (by decide),
  k_iload_n dJ15_newLength_19,
  k_iret dJ15_newLength_20,
  k_iload_n dJ15_newLength_21,
  k_iload_n dJ15_newLength_22,
  k_callS (y2 := yJ15_hugeLength) dJ15_newLength_23 sndJ15_hugeLength q762 q763 q153 q764 (by decide +kernel) ⟨by decide, by decide⟩ (by decide) (by decide),
  k_iret dJ15_newLength_26, trivial⟩
theorem sndJ15_newLength : MSound 2 yJ15_newLength (ws_ yJ15_newLength cJ15_newLength 4 (some .int)) mJ15_newLength := msound_M (by decide) allJ15_newLength (fun _ _ => rfl)
/-! Z program: java/lang/Long (written by gen/gen_prog.py) -/
set_option maxRecDepth 100000
/-! java/lang/Long.longValue()J -/
noncomputable def kJ19_longValue : ZM := ([(0, zi_ld 1 0 1), (1, zi_getJ 34 0 4), (4, zi_retv 2)], fun _ _ => none)
noncomputable def mJ19_longValue : ZF := zrunM kJ19_longValue 1
theorem enJ19_longValue (x0 : Option Nat) (h : PH) : mJ19_longValue [zvr x0] h = zev kJ19_longValue 0 [zvr x0] [] h := zrunM_eq rfl rfl
theorem rJ19_longValue : (∀ (a : Option Nat) (L st : List ZV) (h : PH), zev kJ19_longValue 0 (zvr a :: L) st h = zev kJ19_longValue 1 (zvr a :: L) (zvr a :: st) h) ∧
  (∀ (q : Nat) (L st : List ZV) (h : PH), zev kJ19_longValue 1 L (zvr (some q) :: st) h = if (ph_K h q).1 % 1000 = 34 then zev kJ19_longValue 4 L (zvl (ph_J h q 0) :: st) h else none) ∧
  (∀ (a : Int) (L : List ZV) (h : PH), zev kJ19_longValue 4 L [zvl a] h = zrv (zvl a) h) :=
  ⟨fun a L st h => e_ld0R (n := 1) rfl,
  fun q L st h => e_getJ (kd := 34) (k := 0) (n := 4) rfl,
  fun a L h => e_retJ rfl⟩
theorem allJ19_longValue : zall yJ19_longValue cJ19_longValue 1 (some .long) 1 kJ19_longValue.1 :=
  ⟨k_aload_n dJ19_longValue_0,
  k_getJ (C := RJ19) (T := TJ19) (N := 1) (ci := 18) (k := 0) (ref := "java/lang/Long") dJ19_longValue_1 rfl in_J19 (by decide) q826 (Or.inl rfl) (fun _ _ _ => rfl),
  k_lret dJ19_longValue_4, trivial⟩
theorem sndJ19_longValue : MSound 1 yJ19_longValue (ws_ yJ19_longValue cJ19_longValue 1 (some .long)) mJ19_longValue := msound_M (by decide) allJ19_longValue (fun _ _ => rfl)
/-! java/lang/Long.<init>(J)V -/
noncomputable def kJ19_init : ZM := ([(0, zi_ld 1 0 1), (1, zi_callV mJ18_init_v18 34 1 4), (4, zi_ld 1 0 5), (5, zi_ld 2 1 6), (6, zi_putJ 34 0 9), (9, zi_ret)], fun _ _ => none)
noncomputable def mJ19_init : ZF := zrunM kJ19_init 3
theorem enJ19_init (x0 : Option Nat) (x1 : Int) (h : PH) : mJ19_init [zvr x0, zvl x1] h = zev kJ19_init 0 [zvr x0, zvl x1, zvu] [] h := zrunM_eq rfl rfl
theorem rJ19_init : (∀ (a : Option Nat) (L st : List ZV) (h : PH), zev kJ19_init 0 (zvr a :: L) st h = zev kJ19_init 1 (zvr a :: L) (zvr a :: st) h) ∧
  (∀ (q : Nat) (L st : List ZV) (h : PH), zev kJ19_init 1 L (zvr (some q) :: st) h = if (ph_K h q).1 % 1000 = 34 ∧ zcat st ≤ 8 then zk kJ19_init 1 4 L st (mJ18_init_v18 [zvr (some q)] h) else none) ∧
  (∀ (a : Option Nat) (L st : List ZV) (h : PH), zev kJ19_init 4 (zvr a :: L) st h = zev kJ19_init 5 (zvr a :: L) (zvr a :: st) h) ∧
  (∀ (x0 : ZV) (a : Int) (L st : List ZV) (h : PH), zev kJ19_init 5 (x0 :: zvl a :: L) st h = zev kJ19_init 6 (x0 :: zvl a :: L) (zvl a :: st) h) ∧
  (∀ (a : Int) (q : Nat) (L st : List ZV) (h : PH), zev kJ19_init 6 L (zvl a :: zvr (some q) :: st) h = if (ph_K h q).1 = 34 then zev kJ19_init 9 L st (st_J h q 0 a) else none) ∧
  (∀ (L : List ZV) (h : PH), zev kJ19_init 9 L [] h = zr0 h) :=
  ⟨fun a L st h => e_ld0R (n := 1) rfl,
  fun q L st h => e_callV1 (F := mJ18_init_v18) (kd := 34) (n := 4) rfl,
  fun a L st h => e_ld0R (n := 5) rfl,
  fun x0 a L st h => e_ld1J (n := 6) rfl,
  fun a q L st h => e_putJ (kd := 34) (k := 0) (n := 9) rfl,
  fun L h => e_ret rfl⟩
theorem allJ19_init : zall yJ19_init cJ19_init 3 none 3 kJ19_init.1 :=
  ⟨k_aload_n dJ19_init_0,
  k_callI (y2 := yJ18_init) (C := RJ19) (T0 := TJ19) (ci := 18) dJ19_init_1 sndJ18_init_v18 rfl q822 q823 q157 q824 rfl (by decide +kernel) ⟨by decide, by decide⟩ (by decide) (by decide),
  k_aload_n dJ19_init_4,
  k_lload_n dJ19_init_5,
  k_putJ (C := RJ19) (T := TJ19) (N := 1) (ci := 18) (k := 0) (ref := "java/lang/Long") dJ19_init_6 rfl in_J19 tyJ19 tyJ19_ok nmJ19 (by decide) (Or.inl q826) (Or.inl rfl) (Or.inr ⟨rfl, rfl, rfl, q826⟩) (tyJ19_ok 0 (by decide)) (fun _ _ _ => rfl),
  k_ret dJ19_init_9, trivial⟩
theorem sndJ19_init : MSound 3 yJ19_init (ws_ yJ19_init cJ19_init 3 none) mJ19_init := msound_M (by decide) allJ19_init (fun _ _ => rfl)
/-! java/lang/Long.valueOf(J)Ljava/lang/Long; -/
noncomputable def kJ19_valueOf : ZM := ([(0, zi_push (zvi 128) 3), (3, zi_st 0 2 4), (4, zi_ld 2 0 5), (5, zi_push (zvl (-128)) 8), (8, zi_lcmp 9), (9, zi_if (fun a => zc_lt a 0) 31 12), (12, zi_ld 2 0 13), (13, zi_push (zvl 127) 16), (16, zi_lcmp 17), (17, zi_if (fun a => zc_gt a 0) 31 20), (20, zi_push (zvr (some 1000000003)) 23), (23, zi_ld 2 0 24), (24, zi_l2i 25), (25, zi_push (zvi 128) 28), (28, zi_bin (fun a b => w32 (a + b)) 29), (29, zi_aldR 30), (30, zi_retv 1), (31, zi_new 34 1 34), (34, zi_dup 35), (35, zi_ld 2 0 36), (36, zi_callV mJ19_init 34 2 39), (39, zi_retv 1)], fun _ _ => none)
noncomputable def mJ19_valueOf : ZF := zrunM kJ19_valueOf 3
theorem enJ19_valueOf (x0 : Int) (h : PH) : mJ19_valueOf [zvl x0] h = zev kJ19_valueOf 0 [zvl x0, zvu, zvu] [] h := zrunM_eq rfl rfl
theorem rJ19_valueOf : (∀ (L st : List ZV) (h : PH), zev kJ19_valueOf 0 L st h = zev kJ19_valueOf 3 L (zvi 128 :: st) h) ∧
  (∀ (x0 x1 x2 : ZV) (a : Int) (L st : List ZV) (h : PH) (hx : zisL x1 = false) , zev kJ19_valueOf 3 (x0 :: x1 :: x2 :: L) (zvi a :: st) h = zev kJ19_valueOf 4 (x0 :: x1 :: zvi a :: L) st h) ∧
  (∀ (a : Int) (L st : List ZV) (h : PH), zev kJ19_valueOf 4 (zvl a :: L) st h = zev kJ19_valueOf 5 (zvl a :: L) (zvl a :: st) h) ∧
  (∀ (L st : List ZV) (h : PH), zev kJ19_valueOf 5 L st h = zev kJ19_valueOf 8 L (zvl (-128) :: st) h) ∧
  (∀ (a b : Int) (L st : List ZV) (h : PH), zev kJ19_valueOf 8 L (zvl b :: zvl a :: st) h = zev kJ19_valueOf 9 L (zvi (zlcmp a b) :: st) h) ∧
  (∀ (a : Int) (L st : List ZV) (h : PH), zev kJ19_valueOf 9 L (zvi a :: st) h = if a < 0 then zev kJ19_valueOf 31 L st h else zev kJ19_valueOf 12 L st h) ∧
  (∀ (a : Int) (L st : List ZV) (h : PH), zev kJ19_valueOf 12 (zvl a :: L) st h = zev kJ19_valueOf 13 (zvl a :: L) (zvl a :: st) h) ∧
  (∀ (L st : List ZV) (h : PH), zev kJ19_valueOf 13 L st h = zev kJ19_valueOf 16 L (zvl 127 :: st) h) ∧
  (∀ (a b : Int) (L st : List ZV) (h : PH), zev kJ19_valueOf 16 L (zvl b :: zvl a :: st) h = zev kJ19_valueOf 17 L (zvi (zlcmp a b) :: st) h) ∧
  (∀ (a : Int) (L st : List ZV) (h : PH), zev kJ19_valueOf 17 L (zvi a :: st) h = if a > 0 then zev kJ19_valueOf 31 L st h else zev kJ19_valueOf 20 L st h) ∧
  (∀ (L st : List ZV) (h : PH), zev kJ19_valueOf 20 L st h = zev kJ19_valueOf 23 L (zvr (some 1000000003) :: st) h) ∧
  (∀ (a : Int) (L st : List ZV) (h : PH), zev kJ19_valueOf 23 (zvl a :: L) st h = zev kJ19_valueOf 24 (zvl a :: L) (zvl a :: st) h) ∧
  (∀ (a : Int) (L st : List ZV) (h : PH), zev kJ19_valueOf 24 L (zvl a :: st) h = zev kJ19_valueOf 25 L (zvi (w32 a) :: st) h) ∧
  (∀ (L st : List ZV) (h : PH), zev kJ19_valueOf 25 L st h = zev kJ19_valueOf 28 L (zvi 128 :: st) h) ∧
  (∀ (a b : Int) (L st : List ZV) (h : PH), zev kJ19_valueOf 28 L (zvi b :: zvi a :: st) h = zev kJ19_valueOf 29 L (zvi (w32 (a + b)) :: st) h) ∧
  (∀ (j : Int) (q : Nat) (L st : List ZV) (h : PH), zev kJ19_valueOf 29 L (zvi j :: zvr (some q) :: st) h = if 5 ≤ (ph_K h q).1 % 1000 ∧ (ph_K h q).1 % 1000 ≤ 7 ∧ 0 ≤ j ∧ j < (ph_K h q).2 then zev kJ19_valueOf 30 L (zvr (ph_R h q j) :: st) h else none) ∧
  (∀ (a : Option Nat) (L : List ZV) (h : PH), zev kJ19_valueOf 30 L [zvr a] h = zrv (zvr a) h) ∧
  (∀ (L st : List ZV) (h : PH), zev kJ19_valueOf 31 L st h = zev kJ19_valueOf 34 L (zvr (some (ph_N h)) :: st) (al_ h 34 0 1)) ∧
  (∀ (a : Int) (L st : List ZV) (h : PH), zev kJ19_valueOf 34 L (zvi a :: st) h = zev kJ19_valueOf 35 L (zvi a :: zvi a :: st) h) ∧
  (∀ (a : Option Nat) (L st : List ZV) (h : PH), zev kJ19_valueOf 34 L (zvr a :: st) h = zev kJ19_valueOf 35 L (zvr a :: zvr a :: st) h) ∧
  (∀ (a : Int) (L st : List ZV) (h : PH), zev kJ19_valueOf 35 (zvl a :: L) st h = zev kJ19_valueOf 36 (zvl a :: L) (zvl a :: st) h) ∧
  (∀ (v0 : ZV) (q : Nat) (L st : List ZV) (h : PH), zev kJ19_valueOf 36 L (v0 :: zvr (some q) :: st) h = if (ph_K h q).1 % 1000 = 34 ∧ zcat st ≤ 8 then zk kJ19_valueOf 36 39 L st (mJ19_init [zvr (some q), v0] h) else none) ∧
  (∀ (a : Option Nat) (L : List ZV) (h : PH), zev kJ19_valueOf 39 L [zvr a] h = zrv (zvr a) h) :=
  ⟨fun L st h => e_push (v := zvi 128) (n := 3) rfl,
  fun x0 x1 x2 a L st h hx => e_st2I (n := 4) rfl hx,
  fun a L st h => e_ld0J (n := 5) rfl,
  fun L st h => e_push (v := zvl (-128)) (n := 8) rfl,
  fun a b L st h => e_lcmp (n := 9) rfl,
  fun a L st h => e_iflt (t := 31) (n := 12) rfl,
  fun a L st h => e_ld0J (n := 13) rfl,
  fun L st h => e_push (v := zvl 127) (n := 16) rfl,
  fun a b L st h => e_lcmp (n := 17) rfl,
  fun a L st h => e_ifgt (t := 31) (n := 20) rfl,
  fun L st h => e_push (v := zvr (some 1000000003)) (n := 23) rfl,
  fun a L st h => e_ld0J (n := 24) rfl,
  fun a L st h => e_l2i (n := 25) rfl,
  fun L st h => e_push (v := zvi 128) (n := 28) rfl,
  fun a b L st h => e_bin (f := (fun a b => w32 (a + b))) (n := 29) rfl,
  fun j q L st h => e_aldR (n := 30) rfl,
  fun a L h => e_retR rfl,
  fun L st h => e_new (kd := 34) (sl := 1) (n := 34) rfl,
  fun a L st h => e_dupI (n := 35) rfl,
  fun a L st h => e_dupR (n := 35) rfl,
  fun a L st h => e_ld0J (n := 36) rfl,
  fun v0 q L st h => e_callV2 (F := mJ19_init) (kd := 34) (n := 39) rfl,
  fun a L h => e_retR rfl⟩
theorem allJ19_valueOf : zall yJ19_valueOf cJ19_valueOf 3 (some (.object "java/lang/Long")) 4 kJ19_valueOf.1 :=
  ⟨k_sipush dJ19_valueOf_0,
  k_istore_n dJ19_valueOf_3,
  k_lload_n dJ19_valueOf_4,
  k_ldc2 dJ19_valueOf_5 q813,
  k_lcmp dJ19_valueOf_8,
  k_iflt (t := 31) dJ19_valueOf_9 (by decide),
  k_lload_n dJ19_valueOf_12,
  k_ldc2 dJ19_valueOf_13 q814,
  k_lcmp dJ19_valueOf_16,
  k_ifgt (t := 31) dJ19_valueOf_17 (by decide),
  k_gets (C := "java/lang/Long$LongCache") dJ19_valueOf_20 (List.mem_of_getElem? (i := 2) rfl) q815 rfl trivial,
  k_lload_n dJ19_valueOf_23,
  k_l2i dJ19_valueOf_24,
  k_sipush dJ19_valueOf_25,
  k_iadd dJ19_valueOf_28,
  k_aald dJ19_valueOf_29,
  k_aret dJ19_valueOf_30 rfl (Or.inl ⟨_, rfl⟩),
  k_new (C := RJ19) (T := TJ19) (N := 1) (ci := 18) dJ19_valueOf_31 rfl in_J19 tyJ19 tyJ19_ok rfl (by decide) q817 q818 q158,
  k_dup dJ19_valueOf_34,
  k_lload_n dJ19_valueOf_35,
  k_callI (y2 := yJ19_init) (C := RJ19) (T0 := TJ19) (ci := 18) dJ19_valueOf_36 sndJ19_init rfl q819 q820 q158 q821 rfl (by decide +kernel) ⟨by decide, by decide⟩ (by decide) (by decide),
  k_aret dJ19_valueOf_39 rfl (Or.inl ⟨_, rfl⟩), trivial⟩
theorem sndJ19_valueOf : MSound 4 yJ19_valueOf (ws_ yJ19_valueOf cJ19_valueOf 3 (some (.object "java/lang/Long"))) mJ19_valueOf := msound_M (by decide) allJ19_valueOf (fun _ _ => rfl)
