set_option maxRecDepth 100000
/-! Z program: java/util/TreeMap (written by gen/gen_prog.py) -/
set_option maxRecDepth 100000
/-! java/util/TreeMap.<init>(Ljava/util/Comparator;)V -/
noncomputable def kJ4_init : ZM := ([(0, zi_ld 1 0 1), (1, zi_callV mJ3_init_v16 32 1 4), (4, zi_ld 1 0 5), (5, zi_push (zvi 0) 6), (6, zi_putI 32 4 9), (9, zi_ld 1 0 10), (10, zi_push (zvi 0) 11), (11, zi_putI 32 5 14), (14, zi_ld 1 0 15), (15, zi_ld 1 1 16), (16, zi_putR 32 2 19), (19, zi_ret)], fun _ _ => none)
noncomputable def mJ4_init : ZF := zrunM kJ4_init 2
theorem enJ4_init (x0 : Option Nat) (x1 : Option Nat) (h : PH) : mJ4_init [zvr x0, zvr x1] h = zev kJ4_init 0 [zvr x0, zvr x1] [] h := zrunM_eq rfl rfl
theorem rJ4_init : (∀ (a : Option Nat) (L st : List ZV) (h : PH), zev kJ4_init 0 (zvr a :: L) st h = zev kJ4_init 1 (zvr a :: L) (zvr a :: st) h) ∧
  (∀ (q : Nat) (L st : List ZV) (h : PH), zev kJ4_init 1 L (zvr (some q) :: st) h = if (ph_K h q).1 % 1000 = 32 ∧ zcat st ≤ 8 then zk kJ4_init 1 4 L st (mJ3_init_v16 [zvr (some q)] h) else none) ∧
  (∀ (a : Option Nat) (L st : List ZV) (h : PH), zev kJ4_init 4 (zvr a :: L) st h = zev kJ4_init 5 (zvr a :: L) (zvr a :: st) h) ∧
  (∀ (L st : List ZV) (h : PH), zev kJ4_init 5 L st h = zev kJ4_init 6 L (zvi 0 :: st) h) ∧
  (∀ (a : Int) (q : Nat) (L st : List ZV) (h : PH), zev kJ4_init 6 L (zvi a :: zvr (some q) :: st) h = if (ph_K h q).1 = 32 then zev kJ4_init 9 L st (st_I h q 4 a) else none) ∧
  (∀ (a : Option Nat) (L st : List ZV) (h : PH), zev kJ4_init 9 (zvr a :: L) st h = zev kJ4_init 10 (zvr a :: L) (zvr a :: st) h) ∧
  (∀ (L st : List ZV) (h : PH), zev kJ4_init 10 L st h = zev kJ4_init 11 L (zvi 0 :: st) h) ∧
  (∀ (a : Int) (q : Nat) (L st : List ZV) (h : PH), zev kJ4_init 11 L (zvi a :: zvr (some q) :: st) h = if (ph_K h q).1 = 32 then zev kJ4_init 14 L st (st_I h q 5 a) else none) ∧
  (∀ (a : Option Nat) (L st : List ZV) (h : PH), zev kJ4_init 14 (zvr a :: L) st h = zev kJ4_init 15 (zvr a :: L) (zvr a :: st) h) ∧
  (∀ (x0 : ZV) (a : Option Nat) (L st : List ZV) (h : PH), zev kJ4_init 15 (x0 :: zvr a :: L) st h = zev kJ4_init 16 (x0 :: zvr a :: L) (zvr a :: st) h) ∧
  (∀ (a : Option Nat) (q : Nat) (L st : List ZV) (h : PH), zev kJ4_init 16 L (zvr a :: zvr (some q) :: st) h = if (ph_K h q).1 = 32 then zev kJ4_init 19 L st (st_R h q 2 a) else none) ∧
  (∀ (L : List ZV) (h : PH), zev kJ4_init 19 L [] h = zr0 h) :=
  ⟨fun a L st h => e_ld0R (n := 1) rfl,
  fun q L st h => e_callV1 (F := mJ3_init_v16) (kd := 32) (n := 4) rfl,
  fun a L st h => e_ld0R (n := 5) rfl,
  fun L st h => e_push (v := zvi 0) (n := 6) rfl,
  fun a q L st h => e_putI (kd := 32) (k := 4) (n := 9) rfl,
  fun a L st h => e_ld0R (n := 10) rfl,
  fun L st h => e_push (v := zvi 0) (n := 11) rfl,
  fun a q L st h => e_putI (kd := 32) (k := 5) (n := 14) rfl,
  fun a L st h => e_ld0R (n := 15) rfl,
  fun x0 a L st h => e_ld1R (n := 16) rfl,
  fun a q L st h => e_putR (kd := 32) (k := 2) (n := 19) rfl,
  fun L h => e_ret rfl⟩
theorem allJ4_init : zall yJ4_init cJ4_init 2 none 3 kJ4_init.1 :=
  ⟨k_aload_n dJ4_init_0,
  k_callI (y2 := yJ3_init) (C := RJ4) (T0 := TJ4) (ci := 16) dJ4_init_1 sndJ3_init_v16 rfl q197 q198 q133 q199 rfl (by decide +kernel) ⟨by decide, by decide⟩ (by decide) (by decide),
  k_aload_n dJ4_init_4,
  k_iconst dJ4_init_5,
  k_putI (C := RJ4) (T := TJ4) (N := 9) (ci := 16) (k := 4) (ref := "java/util/TreeMap") dJ4_init_6 rfl in_J4 tyJ4 tyJ4_ok nmJ4 (by decide) (Or.inl q203) (Or.inl rfl) (Or.inl rfl) (tyJ4_ok 4 (by decide)) (fun _ _ _ => rfl),
  k_aload_n dJ4_init_9,
  k_iconst dJ4_init_10,
  k_putI (C := RJ4) (T := TJ4) (N := 9) (ci := 16) (k := 5) (ref := "java/util/TreeMap") dJ4_init_11 rfl in_J4 tyJ4 tyJ4_ok nmJ4 (by decide) (Or.inl q204) (Or.inl rfl) (Or.inl rfl) (tyJ4_ok 5 (by decide)) (fun _ _ _ => rfl),
  k_aload_n dJ4_init_14,
  k_aload_n dJ4_init_15,
  k_putR (C := RJ4) (T := TJ4) (N := 9) (ci := 16) (k := 2) (ref := "java/util/TreeMap") dJ4_init_16 rfl in_J4 tyJ4 tyJ4_ok nmJ4 (by decide) (Or.inl q201) (Or.inl rfl) (Or.inr ⟨rfl, rfl, rfl, q201⟩) (tyJ4_ok 2 (by decide)) (Or.inl ⟨_, rfl⟩) (fun _ _ _ => rfl),
  k_ret dJ4_init_19, trivial⟩
theorem sndJ4_init : MSound 3 yJ4_init (ws_ yJ4_init cJ4_init 2 none) mJ4_init := msound_M (by decide) allJ4_init (fun _ _ => rfl)
/-! java/util/TreeMap.clear()V -/
noncomputable def kJ4_clear : ZM := ([(0, zi_ld 1 0 1), (1, zi_dup 2), (2, zi_getI 32 5 5), (5, zi_push (zvi 1) 6), (6, zi_bin (fun a b => w32 (a + b)) 7), (7, zi_putI 32 5 10), (10, zi_ld 1 0 11), (11, zi_push (zvi 0) 12), (12, zi_putI 32 4 15), (15, zi_ld 1 0 16), (16, zi_push (zvr none) 17), (17, zi_putR 32 3 20), (20, zi_ret)], fun _ _ => none)
noncomputable def mJ4_clear : ZF := zrunM kJ4_clear 1
theorem enJ4_clear (x0 : Option Nat) (h : PH) : mJ4_clear [zvr x0] h = zev kJ4_clear 0 [zvr x0] [] h := zrunM_eq rfl rfl
theorem rJ4_clear : (∀ (a : Option Nat) (L st : List ZV) (h : PH), zev kJ4_clear 0 (zvr a :: L) st h = zev kJ4_clear 1 (zvr a :: L) (zvr a :: st) h) ∧
  (∀ (a : Int) (L st : List ZV) (h : PH), zev kJ4_clear 1 L (zvi a :: st) h = zev kJ4_clear 2 L (zvi a :: zvi a :: st) h) ∧
  (∀ (a : Option Nat) (L st : List ZV) (h : PH), zev kJ4_clear 1 L (zvr a :: st) h = zev kJ4_clear 2 L (zvr a :: zvr a :: st) h) ∧
  (∀ (q : Nat) (L st : List ZV) (h : PH), zev kJ4_clear 2 L (zvr (some q) :: st) h = if (ph_K h q).1 % 1000 = 32 then zev kJ4_clear 5 L (zvi (ph_I h q 5) :: st) h else none) ∧
  (∀ (L st : List ZV) (h : PH), zev kJ4_clear 5 L st h = zev kJ4_clear 6 L (zvi 1 :: st) h) ∧
  (∀ (a b : Int) (L st : List ZV) (h : PH), zev kJ4_clear 6 L (zvi b :: zvi a :: st) h = zev kJ4_clear 7 L (zvi (w32 (a + b)) :: st) h) ∧
  (∀ (a : Int) (q : Nat) (L st : List ZV) (h : PH), zev kJ4_clear 7 L (zvi a :: zvr (some q) :: st) h = if (ph_K h q).1 = 32 then zev kJ4_clear 10 L st (st_I h q 5 a) else none) ∧
  (∀ (a : Option Nat) (L st : List ZV) (h : PH), zev kJ4_clear 10 (zvr a :: L) st h = zev kJ4_clear 11 (zvr a :: L) (zvr a :: st) h) ∧
  (∀ (L st : List ZV) (h : PH), zev kJ4_clear 11 L st h = zev kJ4_clear 12 L (zvi 0 :: st) h) ∧
  (∀ (a : Int) (q : Nat) (L st : List ZV) (h : PH), zev kJ4_clear 12 L (zvi a :: zvr (some q) :: st) h = if (ph_K h q).1 = 32 then zev kJ4_clear 15 L st (st_I h q 4 a) else none) ∧
  (∀ (a : Option Nat) (L st : List ZV) (h : PH), zev kJ4_clear 15 (zvr a :: L) st h = zev kJ4_clear 16 (zvr a :: L) (zvr a :: st) h) ∧
  (∀ (L st : List ZV) (h : PH), zev kJ4_clear 16 L st h = zev kJ4_clear 17 L (zvr none :: st) h) ∧
  (∀ (a : Option Nat) (q : Nat) (L st : List ZV) (h : PH), zev kJ4_clear 17 L (zvr a :: zvr (some q) :: st) h = if (ph_K h q).1 = 32 then zev kJ4_clear 20 L st (st_R h q 3 a) else none) ∧
  (∀ (L : List ZV) (h : PH), zev kJ4_clear 20 L [] h = zr0 h) :=
  ⟨fun a L st h => e_ld0R (n := 1) rfl,
  fun a L st h => e_dupI (n := 2) rfl,
  fun a L st h => e_dupR (n := 2) rfl,
  fun q L st h => e_getI (kd := 32) (k := 5) (n := 5) rfl,
  fun L st h => e_push (v := zvi 1) (n := 6) rfl,
  fun a b L st h => e_bin (f := (fun a b => w32 (a + b))) (n := 7) rfl,
  fun a q L st h => e_putI (kd := 32) (k := 5) (n := 10) rfl,
  fun a L st h => e_ld0R (n := 11) rfl,
  fun L st h => e_push (v := zvi 0) (n := 12) rfl,
  fun a q L st h => e_putI (kd := 32) (k := 4) (n := 15) rfl,
  fun a L st h => e_ld0R (n := 16) rfl,
  fun L st h => e_push (v := zvr none) (n := 17) rfl,
  fun a q L st h => e_putR (kd := 32) (k := 3) (n := 20) rfl,
  fun L h => e_ret rfl⟩
theorem allJ4_clear : zall yJ4_clear cJ4_clear 1 none 1 kJ4_clear.1 :=
  ⟨k_aload_n dJ4_clear_0,
  k_dup dJ4_clear_1,
  k_getI (C := RJ4) (T := TJ4) (N := 9) (ci := 16) (k := 5) (ref := "java/util/TreeMap") dJ4_clear_2 rfl in_J4 (by decide) q204 (Or.inl rfl) (fun _ _ _ => rfl),
  k_iconst dJ4_clear_5,
  k_iadd dJ4_clear_6,
  k_putI (C := RJ4) (T := TJ4) (N := 9) (ci := 16) (k := 5) (ref := "java/util/TreeMap") dJ4_clear_7 rfl in_J4 tyJ4 tyJ4_ok nmJ4 (by decide) (Or.inl q204) (Or.inl rfl) (Or.inl rfl) (tyJ4_ok 5 (by decide)) (fun _ _ _ => rfl),
  k_aload_n dJ4_clear_10,
  k_iconst dJ4_clear_11,
  k_putI (C := RJ4) (T := TJ4) (N := 9) (ci := 16) (k := 4) (ref := "java/util/TreeMap") dJ4_clear_12 rfl in_J4 tyJ4 tyJ4_ok nmJ4 (by decide) (Or.inl q203) (Or.inl rfl) (Or.inl rfl) (tyJ4_ok 4 (by decide)) (fun _ _ _ => rfl),
  k_aload_n dJ4_clear_15,
  k_anull dJ4_clear_16,
  k_putR (C := RJ4) (T := TJ4) (N := 9) (ci := 16) (k := 3) (ref := "java/util/TreeMap") dJ4_clear_17 rfl in_J4 tyJ4 tyJ4_ok nmJ4 (by decide) (Or.inl q202) (Or.inl rfl) (Or.inl rfl) (tyJ4_ok 3 (by decide)) (Or.inl ⟨_, rfl⟩) (fun _ _ _ => rfl),
  k_ret dJ4_clear_20, trivial⟩
theorem sndJ4_clear : MSound 1 yJ4_clear (ws_ yJ4_clear cJ4_clear 1 none) mJ4_clear := msound_M (by decide) allJ4_clear (fun _ _ => rfl)
/-! java/util/TreeMap.compare(Ljava/lang/Object;Ljava/lang/Object;)I -/
noncomputable def kJ4_compare : ZM := ([(0, zi_ld 1 0 1), (1, zi_getR 32 2 4), (4, zi_nonnull 20 7), (7, zi_ld 1 1 8), (8, zi_stuck), (11, zi_ld 1 2 12), (12, zi_stuck), (17, zi_goto 31), (20, zi_ld 1 0 21), (21, zi_getR 32 2 24), (24, zi_ld 1 1 25), (25, zi_ld 1 2 26), (26, zi_callV mX2_compare 28 3 31), (31, zi_retv 0)], fun _ _ => none)
noncomputable def mJ4_compare : ZF := zrunM kJ4_compare 3
theorem enJ4_compare (x0 : Option Nat) (x1 : Option Nat) (x2 : Option Nat) (h : PH) : mJ4_compare [zvr x0, zvr x1, zvr x2] h = zev kJ4_compare 0 [zvr x0, zvr x1, zvr x2] [] h := zrunM_eq rfl rfl
theorem rJ4_compare : (∀ (a : Option Nat) (L st : List ZV) (h : PH), zev kJ4_compare 0 (zvr a :: L) st h = zev kJ4_compare 1 (zvr a :: L) (zvr a :: st) h) ∧
  (∀ (q : Nat) (L st : List ZV) (h : PH), zev kJ4_compare 1 L (zvr (some q) :: st) h = if (ph_K h q).1 % 1000 = 32 then zev kJ4_compare 4 L (zvr (ph_R h q 2) :: st) h else none) ∧
  (∀ (L st : List ZV) (h : PH), zev kJ4_compare 4 L (zvr none :: st) h = zev kJ4_compare 7 L st h) ∧
  (∀ (q : Nat) (L st : List ZV) (h : PH), zev kJ4_compare 4 L (zvr (some q) :: st) h = if (ph_K h q).1 ≠ 0 then zev kJ4_compare 20 L st h else none) ∧
  (∀ (x0 : ZV) (a : Option Nat) (L st : List ZV) (h : PH), zev kJ4_compare 7 (x0 :: zvr a :: L) st h = zev kJ4_compare 8 (x0 :: zvr a :: L) (zvr a :: st) h) ∧
  (∀ (x0 x1 : ZV) (a : Option Nat) (L st : List ZV) (h : PH), zev kJ4_compare 11 (x0 :: x1 :: zvr a :: L) st h = zev kJ4_compare 12 (x0 :: x1 :: zvr a :: L) (zvr a :: st) h) ∧
  (∀ (L st : List ZV) (h : PH), zev kJ4_compare 17 L st h = zev kJ4_compare 31 L st h) ∧
  (∀ (a : Option Nat) (L st : List ZV) (h : PH), zev kJ4_compare 20 (zvr a :: L) st h = zev kJ4_compare 21 (zvr a :: L) (zvr a :: st) h) ∧
  (∀ (q : Nat) (L st : List ZV) (h : PH), zev kJ4_compare 21 L (zvr (some q) :: st) h = if (ph_K h q).1 % 1000 = 32 then zev kJ4_compare 24 L (zvr (ph_R h q 2) :: st) h else none) ∧
  (∀ (x0 : ZV) (a : Option Nat) (L st : List ZV) (h : PH), zev kJ4_compare 24 (x0 :: zvr a :: L) st h = zev kJ4_compare 25 (x0 :: zvr a :: L) (zvr a :: st) h) ∧
  (∀ (x0 x1 : ZV) (a : Option Nat) (L st : List ZV) (h : PH), zev kJ4_compare 25 (x0 :: x1 :: zvr a :: L) st h = zev kJ4_compare 26 (x0 :: x1 :: zvr a :: L) (zvr a :: st) h) ∧
  (∀ (v0 v1 : ZV) (q : Nat) (L st : List ZV) (h : PH), zev kJ4_compare 26 L (v1 :: v0 :: zvr (some q) :: st) h = if (ph_K h q).1 % 1000 = 28 ∧ zcat st ≤ 8 then zk kJ4_compare 26 31 L st (mX2_compare [zvr (some q), v0, v1] h) else none) ∧
  (∀ (a : Int) (L : List ZV) (h : PH), zev kJ4_compare 31 L [zvi a] h = zrv (zvi a) h) :=
  ⟨fun a L st h => e_ld0R (n := 1) rfl,
  fun q L st h => e_getR (kd := 32) (k := 2) (n := 4) rfl,
  fun L st h => e_nonnull0 (t := 20) (n := 7) rfl,
  fun q L st h => e_nonnull1 (t := 20) (n := 7) rfl,
  fun x0 a L st h => e_ld1R (n := 8) rfl,
  fun x0 x1 a L st h => e_ld2R (n := 12) rfl,
  fun L st h => e_goto (t := 31) rfl,
  fun a L st h => e_ld0R (n := 21) rfl,
  fun q L st h => e_getR (kd := 32) (k := 2) (n := 24) rfl,
  fun x0 a L st h => e_ld1R (n := 25) rfl,
  fun x0 x1 a L st h => e_ld2R (n := 26) rfl,
  fun v0 v1 q L st h => e_callV3 (F := mX2_compare) (kd := 28) (n := 31) rfl,
  fun a L h => e_retI rfl⟩
theorem allJ4_compare : zall yJ4_compare cJ4_compare 3 (some .int) 4 kJ4_compare.1 :=
  ⟨k_aload_n dJ4_compare_0,
  k_getR (C := RJ4) (T := TJ4) (N := 9) (ci := 16) (k := 2) (ref := "java/util/TreeMap") dJ4_compare_1 rfl in_J4 (by decide) q201 (Or.inl rfl) (fun _ _ _ => rfl),
  k_nonnull (t := 20) dJ4_compare_4 (by decide),
  k_aload_n dJ4_compare_7,
  k_stuck,
  k_aload_n dJ4_compare_11,
  k_stuck,
  k_goto (t := 31) dJ4_compare_17 (by decide),
  k_aload_n dJ4_compare_20,
  k_getR (C := RJ4) (T := TJ4) (N := 9) (ci := 16) (k := 2) (ref := "java/util/TreeMap") dJ4_compare_21 rfl in_J4 (by decide) q201 (Or.inl rfl) (fun _ _ _ => rfl),
  k_aload_n dJ4_compare_24,
  k_aload_n dJ4_compare_25,
  k_callIF (x2 := ⟨"java/util/Comparator", "compare", "(Ljava/lang/Object;Ljava/lang/Object;)I"⟩) (y2 := yX2_compare) (C := RX2) (T0 := TX2) (ci := 12) dJ4_compare_26 sndX2_compare rfl q1130 (by decide +kernel) q1136 q1134 q132 q1138 (by decide +kernel) ⟨by decide, by decide⟩ (by decide) (by decide),
  k_iret dJ4_compare_31, trivial⟩
theorem sndJ4_compare : MSound 4 yJ4_compare (ws_ yJ4_compare cJ4_compare 3 (some .int)) mJ4_compare := msound_M (by decide) allJ4_compare (fun _ _ => rfl)
/-! java/util/TreeMap.addEntryToEmptyMap(Ljava/lang/Object;Ljava/lang/Object;)V -/
noncomputable def kJ4_addEntryToEmptyMap : ZM := ([(0, zi_ld 1 0 1), (1, zi_ld 1 1 2), (2, zi_ld 1 1 3), (3, zi_callV mJ4_compare 32 3 6), (6, zi_pop 7), (7, zi_ld 1 0 8), (8, zi_new 33 6 11), (11, zi_dup 12), (12, zi_ld 1 1 13), (13, zi_ld 1 2 14), (14, zi_push (zvr none) 15), (15, zi_callV mJ22_init 33 4 18), (18, zi_putR 32 3 21), (21, zi_ld 1 0 22), (22, zi_push (zvi 1) 23), (23, zi_putI 32 4 26), (26, zi_ld 1 0 27), (27, zi_dup 28), (28, zi_getI 32 5 31), (31, zi_push (zvi 1) 32), (32, zi_bin (fun a b => w32 (a + b)) 33), (33, zi_putI 32 5 36), (36, zi_ret)], fun _ _ => none)
noncomputable def mJ4_addEntryToEmptyMap : ZF := zrunM kJ4_addEntryToEmptyMap 3
theorem enJ4_addEntryToEmptyMap (x0 : Option Nat) (x1 : Option Nat) (x2 : Option Nat) (h : PH) : mJ4_addEntryToEmptyMap [zvr x0, zvr x1, zvr x2] h = zev kJ4_addEntryToEmptyMap 0 [zvr x0, zvr x1, zvr x2] [] h := zrunM_eq rfl rfl
theorem rJ4_addEntryToEmptyMap : (∀ (a : Option Nat) (L st : List ZV) (h : PH), zev kJ4_addEntryToEmptyMap 0 (zvr a :: L) st h = zev kJ4_addEntryToEmptyMap 1 (zvr a :: L) (zvr a :: st) h) ∧
  (∀ (x0 : ZV) (a : Option Nat) (L st : List ZV) (h : PH), zev kJ4_addEntryToEmptyMap 1 (x0 :: zvr a :: L) st h = zev kJ4_addEntryToEmptyMap 2 (x0 :: zvr a :: L) (zvr a :: st) h) ∧
  (∀ (x0 : ZV) (a : Option Nat) (L st : List ZV) (h : PH), zev kJ4_addEntryToEmptyMap 2 (x0 :: zvr a :: L) st h = zev kJ4_addEntryToEmptyMap 3 (x0 :: zvr a :: L) (zvr a :: st) h) ∧
  (∀ (v0 v1 : ZV) (q : Nat) (L st : List ZV) (h : PH), zev kJ4_addEntryToEmptyMap 3 L (v1 :: v0 :: zvr (some q) :: st) h = if (ph_K h q).1 % 1000 = 32 ∧ zcat st ≤ 8 then zk kJ4_addEntryToEmptyMap 3 6 L st (mJ4_compare [zvr (some q), v0, v1] h) else none) ∧
  (∀ (a : Int) (L st : List ZV) (h : PH), zev kJ4_addEntryToEmptyMap 6 L (zvi a :: st) h = zev kJ4_addEntryToEmptyMap 7 L st h) ∧
  (∀ (a : Option Nat) (L st : List ZV) (h : PH), zev kJ4_addEntryToEmptyMap 6 L (zvr a :: st) h = zev kJ4_addEntryToEmptyMap 7 L st h) ∧
  (∀ (a : Option Nat) (L st : List ZV) (h : PH), zev kJ4_addEntryToEmptyMap 7 (zvr a :: L) st h = zev kJ4_addEntryToEmptyMap 8 (zvr a :: L) (zvr a :: st) h) ∧
  (∀ (L st : List ZV) (h : PH), zev kJ4_addEntryToEmptyMap 8 L st h = zev kJ4_addEntryToEmptyMap 11 L (zvr (some (ph_N h)) :: st) (al_ h 33 0 6)) ∧
  (∀ (a : Int) (L st : List ZV) (h : PH), zev kJ4_addEntryToEmptyMap 11 L (zvi a :: st) h = zev kJ4_addEntryToEmptyMap 12 L (zvi a :: zvi a :: st) h) ∧
  (∀ (a : Option Nat) (L st : List ZV) (h : PH), zev kJ4_addEntryToEmptyMap 11 L (zvr a :: st) h = zev kJ4_addEntryToEmptyMap 12 L (zvr a :: zvr a :: st) h) ∧
  (∀ (x0 : ZV) (a : Option Nat) (L st : List ZV) (h : PH), zev kJ4_addEntryToEmptyMap 12 (x0 :: zvr a :: L) st h = zev kJ4_addEntryToEmptyMap 13 (x0 :: zvr a :: L) (zvr a :: st) h) ∧
  (∀ (x0 x1 : ZV) (a : Option Nat) (L st : List ZV) (h : PH), zev kJ4_addEntryToEmptyMap 13 (x0 :: x1 :: zvr a :: L) st h = zev kJ4_addEntryToEmptyMap 14 (x0 :: x1 :: zvr a :: L) (zvr a :: st) h) ∧
  (∀ (L st : List ZV) (h : PH), zev kJ4_addEntryToEmptyMap 14 L st h = zev kJ4_addEntryToEmptyMap 15 L (zvr none :: st) h) ∧
  (∀ (v0 v1 v2 : ZV) (q : Nat) (L st : List ZV) (h : PH), zev kJ4_addEntryToEmptyMap 15 L (v2 :: v1 :: v0 :: zvr (some q) :: st) h = if (ph_K h q).1 % 1000 = 33 ∧ zcat st ≤ 8 then zk kJ4_addEntryToEmptyMap 15 18 L st (mJ22_init [zvr (some q), v0, v1, v2] h) else none) ∧
  (∀ (a : Option Nat) (q : Nat) (L st : List ZV) (h : PH), zev kJ4_addEntryToEmptyMap 18 L (zvr a :: zvr (some q) :: st) h = if (ph_K h q).1 = 32 then zev kJ4_addEntryToEmptyMap 21 L st (st_R h q 3 a) else none) ∧
  (∀ (a : Option Nat) (L st : List ZV) (h : PH), zev kJ4_addEntryToEmptyMap 21 (zvr a :: L) st h = zev kJ4_addEntryToEmptyMap 22 (zvr a :: L) (zvr a :: st) h) ∧
  (∀ (L st : List ZV) (h : PH), zev kJ4_addEntryToEmptyMap 22 L st h = zev kJ4_addEntryToEmptyMap 23 L (zvi 1 :: st) h) ∧
  (∀ (a : Int) (q : Nat) (L st : List ZV) (h : PH), zev kJ4_addEntryToEmptyMap 23 L (zvi a :: zvr (some q) :: st) h = if (ph_K h q).1 = 32 then zev kJ4_addEntryToEmptyMap 26 L st (st_I h q 4 a) else none) ∧
  (∀ (a : Option Nat) (L st : List ZV) (h : PH), zev kJ4_addEntryToEmptyMap 26 (zvr a :: L) st h = zev kJ4_addEntryToEmptyMap 27 (zvr a :: L) (zvr a :: st) h) ∧
  (∀ (a : Int) (L st : List ZV) (h : PH), zev kJ4_addEntryToEmptyMap 27 L (zvi a :: st) h = zev kJ4_addEntryToEmptyMap 28 L (zvi a :: zvi a :: st) h) ∧
  (∀ (a : Option Nat) (L st : List ZV) (h : PH), zev kJ4_addEntryToEmptyMap 27 L (zvr a :: st) h = zev kJ4_addEntryToEmptyMap 28 L (zvr a :: zvr a :: st) h) ∧
  (∀ (q : Nat) (L st : List ZV) (h : PH), zev kJ4_addEntryToEmptyMap 28 L (zvr (some q) :: st) h = if (ph_K h q).1 % 1000 = 32 then zev kJ4_addEntryToEmptyMap 31 L (zvi (ph_I h q 5) :: st) h else none) ∧
  (∀ (L st : List ZV) (h : PH), zev kJ4_addEntryToEmptyMap 31 L st h = zev kJ4_addEntryToEmptyMap 32 L (zvi 1 :: st) h) ∧
  (∀ (a b : Int) (L st : List ZV) (h : PH), zev kJ4_addEntryToEmptyMap 32 L (zvi b :: zvi a :: st) h = zev kJ4_addEntryToEmptyMap 33 L (zvi (w32 (a + b)) :: st) h) ∧
  (∀ (a : Int) (q : Nat) (L st : List ZV) (h : PH), zev kJ4_addEntryToEmptyMap 33 L (zvi a :: zvr (some q) :: st) h = if (ph_K h q).1 = 32 then zev kJ4_addEntryToEmptyMap 36 L st (st_I h q 5 a) else none) ∧
  (∀ (L : List ZV) (h : PH), zev kJ4_addEntryToEmptyMap 36 L [] h = zr0 h) :=
  ⟨fun a L st h => e_ld0R (n := 1) rfl,
  fun x0 a L st h => e_ld1R (n := 2) rfl,
  fun x0 a L st h => e_ld1R (n := 3) rfl,
  fun v0 v1 q L st h => e_callV3 (F := mJ4_compare) (kd := 32) (n := 6) rfl,
  fun a L st h => e_popI (n := 7) rfl,
  fun a L st h => e_popR (n := 7) rfl,
  fun a L st h => e_ld0R (n := 8) rfl,
  fun L st h => e_new (kd := 33) (sl := 6) (n := 11) rfl,
  fun a L st h => e_dupI (n := 12) rfl,
  fun a L st h => e_dupR (n := 12) rfl,
  fun x0 a L st h => e_ld1R (n := 13) rfl,
  fun x0 x1 a L st h => e_ld2R (n := 14) rfl,
  fun L st h => e_push (v := zvr none) (n := 15) rfl,
  fun v0 v1 v2 q L st h => e_callV4 (F := mJ22_init) (kd := 33) (n := 18) rfl,
  fun a q L st h => e_putR (kd := 32) (k := 3) (n := 21) rfl,
  fun a L st h => e_ld0R (n := 22) rfl,
  fun L st h => e_push (v := zvi 1) (n := 23) rfl,
  fun a q L st h => e_putI (kd := 32) (k := 4) (n := 26) rfl,
  fun a L st h => e_ld0R (n := 27) rfl,
  fun a L st h => e_dupI (n := 28) rfl,
  fun a L st h => e_dupR (n := 28) rfl,
  fun q L st h => e_getI (kd := 32) (k := 5) (n := 31) rfl,
  fun L st h => e_push (v := zvi 1) (n := 32) rfl,
  fun a b L st h => e_bin (f := (fun a b => w32 (a + b))) (n := 33) rfl,
  fun a q L st h => e_putI (kd := 32) (k := 5) (n := 36) rfl,
  fun L h => e_ret rfl⟩
theorem allJ4_addEntryToEmptyMap : zall yJ4_addEntryToEmptyMap cJ4_addEntryToEmptyMap 3 none 5 kJ4_addEntryToEmptyMap.1 :=
  ⟨k_aload_n dJ4_addEntryToEmptyMap_0,
  k_aload_n dJ4_addEntryToEmptyMap_1,
  k_aload_n dJ4_addEntryToEmptyMap_2,
  k_callV (y2 := yJ4_compare) (C := RJ4) (T0 := TJ4) (ci := 16) dJ4_addEntryToEmptyMap_3 sndJ4_compare rfl q960 q961 q962 q134 q963 (by decide +kernel) ⟨by decide, by decide⟩ (by decide) (by decide),
  k_pop dJ4_addEntryToEmptyMap_6,
  k_aload_n dJ4_addEntryToEmptyMap_7,
  k_new (C := RJ22) (T := TJ22) (N := 6) (ci := 17) dJ4_addEntryToEmptyMap_8 rfl in_J22 tyJ22 tyJ22_ok rfl (by decide) q1148 q1149 q165,
  k_dup dJ4_addEntryToEmptyMap_11,
  k_aload_n dJ4_addEntryToEmptyMap_12,
  k_aload_n dJ4_addEntryToEmptyMap_13,
  k_anull dJ4_addEntryToEmptyMap_14,
  k_callI (y2 := yJ22_init) (C := RJ22) (T0 := TJ22) (ci := 17) dJ4_addEntryToEmptyMap_15 sndJ22_init rfl q1150 q1151 q165 q1152 rfl (by decide +kernel) ⟨by decide, by decide⟩ (by decide) (by decide),
  k_putR (C := RJ4) (T := TJ4) (N := 9) (ci := 16) (k := 3) (ref := "java/util/TreeMap") dJ4_addEntryToEmptyMap_18 rfl in_J4 tyJ4 tyJ4_ok nmJ4 (by decide) (Or.inl q202) (Or.inl rfl) (Or.inl rfl) (tyJ4_ok 3 (by decide)) (Or.inl ⟨_, rfl⟩) (fun _ _ _ => rfl),
  k_aload_n dJ4_addEntryToEmptyMap_21,
  k_iconst dJ4_addEntryToEmptyMap_22,
  k_putI (C := RJ4) (T := TJ4) (N := 9) (ci := 16) (k := 4) (ref := "java/util/TreeMap") dJ4_addEntryToEmptyMap_23 rfl in_J4 tyJ4 tyJ4_ok nmJ4 (by decide) (Or.inl q203) (Or.inl rfl) (Or.inl rfl) (tyJ4_ok 4 (by decide)) (fun _ _ _ => rfl),
  k_aload_n dJ4_addEntryToEmptyMap_26,
  k_dup dJ4_addEntryToEmptyMap_27,
  k_getI (C := RJ4) (T := TJ4) (N := 9) (ci := 16) (k := 5) (ref := "java/util/TreeMap") dJ4_addEntryToEmptyMap_28 rfl in_J4 (by decide) q204 (Or.inl rfl) (fun _ _ _ => rfl),
  k_iconst dJ4_addEntryToEmptyMap_31,
  k_iadd dJ4_addEntryToEmptyMap_32,
  k_putI (C := RJ4) (T := TJ4) (N := 9) (ci := 16) (k := 5) (ref := "java/util/TreeMap") dJ4_addEntryToEmptyMap_33 rfl in_J4 tyJ4 tyJ4_ok nmJ4 (by decide) (Or.inl q204) (Or.inl rfl) (Or.inl rfl) (tyJ4_ok 5 (by decide)) (fun _ _ _ => rfl),
  k_ret dJ4_addEntryToEmptyMap_36, trivial⟩
theorem sndJ4_addEntryToEmptyMap : MSound 5 yJ4_addEntryToEmptyMap (ws_ yJ4_addEntryToEmptyMap cJ4_addEntryToEmptyMap 3 none) mJ4_addEntryToEmptyMap := msound_M (by decide) allJ4_addEntryToEmptyMap (fun _ _ => rfl)
/-! java/util/TreeMap.parentOf(Ljava/util/TreeMap$Entry;)Ljava/util/TreeMap$Entry; -/
noncomputable def kJ4_parentOf : ZM := ([(0, zi_ld 1 0 1), (1, zi_nonnull 8 4), (4, zi_push (zvr none) 5), (5, zi_goto 12), (8, zi_ld 1 0 9), (9, zi_getR 33 4 12), (12, zi_retv 1)], fun _ _ => none)
noncomputable def mJ4_parentOf : ZF := zrunM kJ4_parentOf 1
theorem enJ4_parentOf (x0 : Option Nat) (h : PH) : mJ4_parentOf [zvr x0] h = zev kJ4_parentOf 0 [zvr x0] [] h := zrunM_eq rfl rfl
theorem rJ4_parentOf : (∀ (a : Option Nat) (L st : List ZV) (h : PH), zev kJ4_parentOf 0 (zvr a :: L) st h = zev kJ4_parentOf 1 (zvr a :: L) (zvr a :: st) h) ∧
  (∀ (L st : List ZV) (h : PH), zev kJ4_parentOf 1 L (zvr none :: st) h = zev kJ4_parentOf 4 L st h) ∧
  (∀ (q : Nat) (L st : List ZV) (h : PH), zev kJ4_parentOf 1 L (zvr (some q) :: st) h = if (ph_K h q).1 ≠ 0 then zev kJ4_parentOf 8 L st h else none) ∧
  (∀ (L st : List ZV) (h : PH), zev kJ4_parentOf 4 L st h = zev kJ4_parentOf 5 L (zvr none :: st) h) ∧
  (∀ (L st : List ZV) (h : PH), zev kJ4_parentOf 5 L st h = zev kJ4_parentOf 12 L st h) ∧
  (∀ (a : Option Nat) (L st : List ZV) (h : PH), zev kJ4_parentOf 8 (zvr a :: L) st h = zev kJ4_parentOf 9 (zvr a :: L) (zvr a :: st) h) ∧
  (∀ (q : Nat) (L st : List ZV) (h : PH), zev kJ4_parentOf 9 L (zvr (some q) :: st) h = if (ph_K h q).1 % 1000 = 33 then zev kJ4_parentOf 12 L (zvr (ph_R h q 4) :: st) h else none) ∧
  (∀ (a : Option Nat) (L : List ZV) (h : PH), zev kJ4_parentOf 12 L [zvr a] h = zrv (zvr a) h) :=
  ⟨fun a L st h => e_ld0R (n := 1) rfl,
  fun L st h => e_nonnull0 (t := 8) (n := 4) rfl,
  fun q L st h => e_nonnull1 (t := 8) (n := 4) rfl,
  fun L st h => e_push (v := zvr none) (n := 5) rfl,
  fun L st h => e_goto (t := 12) rfl,
  fun a L st h => e_ld0R (n := 9) rfl,
  fun q L st h => e_getR (kd := 33) (k := 4) (n := 12) rfl,
  fun a L h => e_retR rfl⟩
theorem allJ4_parentOf : zall yJ4_parentOf cJ4_parentOf 1 (some (.object "java/util/TreeMap$Entry")) 1 kJ4_parentOf.1 :=
  ⟨k_aload_n dJ4_parentOf_0,
  k_nonnull (t := 8) dJ4_parentOf_1 (by decide),
  k_anull dJ4_parentOf_4,
  k_goto (t := 12) dJ4_parentOf_5 (by decide),
  k_aload_n dJ4_parentOf_8,
  k_getR (C := RJ22) (T := TJ22) (N := 6) (ci := 17) (k := 4) (ref := "java/util/TreeMap$Entry") dJ4_parentOf_9 rfl in_J22 (by decide) q1161 (Or.inl rfl) (fun _ _ _ => rfl),
  k_aret dJ4_parentOf_12 rfl (Or.inl ⟨_, rfl⟩), trivial⟩
theorem sndJ4_parentOf : MSound 1 yJ4_parentOf (ws_ yJ4_parentOf cJ4_parentOf 1 (some (.object "java/util/TreeMap$Entry"))) mJ4_parentOf := msound_M (by decide) allJ4_parentOf (fun _ _ => rfl)
/-! java/util/TreeMap.leftOf(Ljava/util/TreeMap$Entry;)Ljava/util/TreeMap$Entry; -/
noncomputable def kJ4_leftOf : ZM := ([(0, zi_ld 1 0 1), (1, zi_nonnull 8 4), (4, zi_push (zvr none) 5), (5, zi_goto 12), (8, zi_ld 1 0 9), (9, zi_getR 33 2 12), (12, zi_retv 1)], fun _ _ => none)
noncomputable def mJ4_leftOf : ZF := zrunM kJ4_leftOf 1
theorem enJ4_leftOf (x0 : Option Nat) (h : PH) : mJ4_leftOf [zvr x0] h = zev kJ4_leftOf 0 [zvr x0] [] h := zrunM_eq rfl rfl
theorem rJ4_leftOf : (∀ (a : Option Nat) (L st : List ZV) (h : PH), zev kJ4_leftOf 0 (zvr a :: L) st h = zev kJ4_leftOf 1 (zvr a :: L) (zvr a :: st) h) ∧
  (∀ (L st : List ZV) (h : PH), zev kJ4_leftOf 1 L (zvr none :: st) h = zev kJ4_leftOf 4 L st h) ∧
  (∀ (q : Nat) (L st : List ZV) (h : PH), zev kJ4_leftOf 1 L (zvr (some q) :: st) h = if (ph_K h q).1 ≠ 0 then zev kJ4_leftOf 8 L st h else none) ∧
  (∀ (L st : List ZV) (h : PH), zev kJ4_leftOf 4 L st h = zev kJ4_leftOf 5 L (zvr none :: st) h) ∧
  (∀ (L st : List ZV) (h : PH), zev kJ4_leftOf 5 L st h = zev kJ4_leftOf 12 L st h) ∧
  (∀ (a : Option Nat) (L st : List ZV) (h : PH), zev kJ4_leftOf 8 (zvr a :: L) st h = zev kJ4_leftOf 9 (zvr a :: L) (zvr a :: st) h) ∧
  (∀ (q : Nat) (L st : List ZV) (h : PH), zev kJ4_leftOf 9 L (zvr (some q) :: st) h = if (ph_K h q).1 % 1000 = 33 then zev kJ4_leftOf 12 L (zvr (ph_R h q 2) :: st) h else none) ∧
  (∀ (a : Option Nat) (L : List ZV) (h : PH), zev kJ4_leftOf 12 L [zvr a] h = zrv (zvr a) h) :=
  ⟨fun a L st h => e_ld0R (n := 1) rfl,
  fun L st h => e_nonnull0 (t := 8) (n := 4) rfl,
  fun q L st h => e_nonnull1 (t := 8) (n := 4) rfl,
  fun L st h => e_push (v := zvr none) (n := 5) rfl,
  fun L st h => e_goto (t := 12) rfl,
  fun a L st h => e_ld0R (n := 9) rfl,
  fun q L st h => e_getR (kd := 33) (k := 2) (n := 12) rfl,
  fun a L h => e_retR rfl⟩
theorem allJ4_leftOf : zall yJ4_leftOf cJ4_leftOf 1 (some (.object "java/util/TreeMap$Entry")) 1 kJ4_leftOf.1 :=
  ⟨k_aload_n dJ4_leftOf_0,
  k_nonnull (t := 8) dJ4_leftOf_1 (by decide),
  k_anull dJ4_leftOf_4,
  k_goto (t := 12) dJ4_leftOf_5 (by decide),
  k_aload_n dJ4_leftOf_8,
  k_getR (C := RJ22) (T := TJ22) (N := 6) (ci := 17) (k := 2) (ref := "java/util/TreeMap$Entry") dJ4_leftOf_9 rfl in_J22 (by decide) q1158 (Or.inl rfl) (fun _ _ _ => rfl),
  k_aret dJ4_leftOf_12 rfl (Or.inl ⟨_, rfl⟩), trivial⟩
theorem sndJ4_leftOf : MSound 1 yJ4_leftOf (ws_ yJ4_leftOf cJ4_leftOf 1 (some (.object "java/util/TreeMap$Entry"))) mJ4_leftOf := msound_M (by decide) allJ4_leftOf (fun _ _ => rfl)
/-! java/util/TreeMap.rightOf(Ljava/util/TreeMap$Entry;)Ljava/util/TreeMap$Entry; -/
noncomputable def kJ4_rightOf : ZM := ([(0, zi_ld 1 0 1), (1, zi_nonnull 8 4), (4, zi_push (zvr none) 5), (5, zi_goto 12), (8, zi_ld 1 0 9), (9, zi_getR 33 3 12), (12, zi_retv 1)], fun _ _ => none)
noncomputable def mJ4_rightOf : ZF := zrunM kJ4_rightOf 1
theorem enJ4_rightOf (x0 : Option Nat) (h : PH) : mJ4_rightOf [zvr x0] h = zev kJ4_rightOf 0 [zvr x0] [] h := zrunM_eq rfl rfl
theorem rJ4_rightOf : (∀ (a : Option Nat) (L st : List ZV) (h : PH), zev kJ4_rightOf 0 (zvr a :: L) st h = zev kJ4_rightOf 1 (zvr a :: L) (zvr a :: st) h) ∧
  (∀ (L st : List ZV) (h : PH), zev kJ4_rightOf 1 L (zvr none :: st) h = zev kJ4_rightOf 4 L st h) ∧
  (∀ (q : Nat) (L st : List ZV) (h : PH), zev kJ4_rightOf 1 L (zvr (some q) :: st) h = if (ph_K h q).1 ≠ 0 then zev kJ4_rightOf 8 L st h else none) ∧
  (∀ (L st : List ZV) (h : PH), zev kJ4_rightOf 4 L st h = zev kJ4_rightOf 5 L (zvr none :: st) h) ∧
  (∀ (L st : List ZV) (h : PH), zev kJ4_rightOf 5 L st h = zev kJ4_rightOf 12 L st h) ∧
  (∀ (a : Option Nat) (L st : List ZV) (h : PH), zev kJ4_rightOf 8 (zvr a :: L) st h = zev kJ4_rightOf 9 (zvr a :: L) (zvr a :: st) h) ∧
  (∀ (q : Nat) (L st : List ZV) (h : PH), zev kJ4_rightOf 9 L (zvr (some q) :: st) h = if (ph_K h q).1 % 1000 = 33 then zev kJ4_rightOf 12 L (zvr (ph_R h q 3) :: st) h else none) ∧
  (∀ (a : Option Nat) (L : List ZV) (h : PH), zev kJ4_rightOf 12 L [zvr a] h = zrv (zvr a) h) :=
  ⟨fun a L st h => e_ld0R (n := 1) rfl,
  fun L st h => e_nonnull0 (t := 8) (n := 4) rfl,
  fun q L st h => e_nonnull1 (t := 8) (n := 4) rfl,
  fun L st h => e_push (v := zvr none) (n := 5) rfl,
  fun L st h => e_goto (t := 12) rfl,
  fun a L st h => e_ld0R (n := 9) rfl,
  fun q L st h => e_getR (kd := 33) (k := 3) (n := 12) rfl,
  fun a L h => e_retR rfl⟩
theorem allJ4_rightOf : zall yJ4_rightOf cJ4_rightOf 1 (some (.object "java/util/TreeMap$Entry")) 1 kJ4_rightOf.1 :=
  ⟨k_aload_n dJ4_rightOf_0,
  k_nonnull (t := 8) dJ4_rightOf_1 (by decide),
  k_anull dJ4_rightOf_4,
  k_goto (t := 12) dJ4_rightOf_5 (by decide),
  k_aload_n dJ4_rightOf_8,
  k_getR (C := RJ22) (T := TJ22) (N := 6) (ci := 17) (k := 3) (ref := "java/util/TreeMap$Entry") dJ4_rightOf_9 rfl in_J22 (by decide) q1159 (Or.inl rfl) (fun _ _ _ => rfl),
  k_aret dJ4_rightOf_12 rfl (Or.inl ⟨_, rfl⟩), trivial⟩
theorem sndJ4_rightOf : MSound 1 yJ4_rightOf (ws_ yJ4_rightOf cJ4_rightOf 1 (some (.object "java/util/TreeMap$Entry"))) mJ4_rightOf := msound_M (by decide) allJ4_rightOf (fun _ _ => rfl)
/-! java/util/TreeMap.colorOf(Ljava/util/TreeMap$Entry;)Z -/
noncomputable def kJ4_colorOf : ZM := ([(0, zi_ld 1 0 1), (1, zi_nonnull 8 4), (4, zi_push (zvi 1) 5), (5, zi_goto 12), (8, zi_ld 1 0 9), (9, zi_getI 33 5 12), (12, zi_retz)], fun _ _ => none)
noncomputable def mJ4_colorOf : ZF := zrunM kJ4_colorOf 1
theorem enJ4_colorOf (x0 : Option Nat) (h : PH) : mJ4_colorOf [zvr x0] h = zev kJ4_colorOf 0 [zvr x0] [] h := zrunM_eq rfl rfl
theorem rJ4_colorOf : (∀ (a : Option Nat) (L st : List ZV) (h : PH), zev kJ4_colorOf 0 (zvr a :: L) st h = zev kJ4_colorOf 1 (zvr a :: L) (zvr a :: st) h) ∧
  (∀ (L st : List ZV) (h : PH), zev kJ4_colorOf 1 L (zvr none :: st) h = zev kJ4_colorOf 4 L st h) ∧
  (∀ (q : Nat) (L st : List ZV) (h : PH), zev kJ4_colorOf 1 L (zvr (some q) :: st) h = if (ph_K h q).1 ≠ 0 then zev kJ4_colorOf 8 L st h else none) ∧
  (∀ (L st : List ZV) (h : PH), zev kJ4_colorOf 4 L st h = zev kJ4_colorOf 5 L (zvi 1 :: st) h) ∧
  (∀ (L st : List ZV) (h : PH), zev kJ4_colorOf 5 L st h = zev kJ4_colorOf 12 L st h) ∧
  (∀ (a : Option Nat) (L st : List ZV) (h : PH), zev kJ4_colorOf 8 (zvr a :: L) st h = zev kJ4_colorOf 9 (zvr a :: L) (zvr a :: st) h) ∧
  (∀ (q : Nat) (L st : List ZV) (h : PH), zev kJ4_colorOf 9 L (zvr (some q) :: st) h = if (ph_K h q).1 % 1000 = 33 then zev kJ4_colorOf 12 L (zvi (ph_I h q 5) :: st) h else none) ∧
  (∀ (a : Int) (L : List ZV) (h : PH), zev kJ4_colorOf 12 L [zvi a] h = if a = 0 ∨ a = 1 then zrv (zvi a) h else none) :=
  ⟨fun a L st h => e_ld0R (n := 1) rfl,
  fun L st h => e_nonnull0 (t := 8) (n := 4) rfl,
  fun q L st h => e_nonnull1 (t := 8) (n := 4) rfl,
  fun L st h => e_push (v := zvi 1) (n := 5) rfl,
  fun L st h => e_goto (t := 12) rfl,
  fun a L st h => e_ld0R (n := 9) rfl,
  fun q L st h => e_getI (kd := 33) (k := 5) (n := 12) rfl,
  fun a L h => e_retz rfl⟩
theorem allJ4_colorOf : zall yJ4_colorOf cJ4_colorOf 1 (some .boolean) 1 kJ4_colorOf.1 :=
  ⟨k_aload_n dJ4_colorOf_0,
  k_nonnull (t := 8) dJ4_colorOf_1 (by decide),
  k_iconst dJ4_colorOf_4,
  k_goto (t := 12) dJ4_colorOf_5 (by decide),
  k_aload_n dJ4_colorOf_8,
  k_getI (C := RJ22) (T := TJ22) (N := 6) (ci := 17) (k := 5) (ref := "java/util/TreeMap$Entry") dJ4_colorOf_9 rfl in_J22 (by decide) q1163 (Or.inl rfl) (fun _ _ _ => rfl),
  k_zret dJ4_colorOf_12, trivial⟩
theorem sndJ4_colorOf : MSound 1 yJ4_colorOf (ws_ yJ4_colorOf cJ4_colorOf 1 (some .boolean)) mJ4_colorOf := msound_M (by decide) allJ4_colorOf (fun _ _ => rfl)
/-! java/util/TreeMap.setColor(Ljava/util/TreeMap$Entry;Z)V -/
noncomputable def kJ4_setColor : ZM := ([(0, zi_ld 1 0 1), (1, zi_null 9 4), (4, zi_ld 1 0 5), (5, zi_ld 0 1 6), (6, zi_putZ 33 5 9), (9, zi_ret)], fun _ _ => none)
noncomputable def mJ4_setColor : ZF := zrunM kJ4_setColor 2
theorem enJ4_setColor (x0 : Option Nat) (x1 : Int) (h : PH) : mJ4_setColor [zvr x0, zvi x1] h = zev kJ4_setColor 0 [zvr x0, zvi x1] [] h := zrunM_eq rfl rfl
theorem rJ4_setColor : (∀ (a : Option Nat) (L st : List ZV) (h : PH), zev kJ4_setColor 0 (zvr a :: L) st h = zev kJ4_setColor 1 (zvr a :: L) (zvr a :: st) h) ∧
  (∀ (L st : List ZV) (h : PH), zev kJ4_setColor 1 L (zvr none :: st) h = zev kJ4_setColor 9 L st h) ∧
  (∀ (q : Nat) (L st : List ZV) (h : PH), zev kJ4_setColor 1 L (zvr (some q) :: st) h = if (ph_K h q).1 ≠ 0 then zev kJ4_setColor 4 L st h else none) ∧
  (∀ (a : Option Nat) (L st : List ZV) (h : PH), zev kJ4_setColor 4 (zvr a :: L) st h = zev kJ4_setColor 5 (zvr a :: L) (zvr a :: st) h) ∧
  (∀ (x0 : ZV) (a : Int) (L st : List ZV) (h : PH), zev kJ4_setColor 5 (x0 :: zvi a :: L) st h = zev kJ4_setColor 6 (x0 :: zvi a :: L) (zvi a :: st) h) ∧
  (∀ (a : Int) (q : Nat) (L st : List ZV) (h : PH), zev kJ4_setColor 6 L (zvi a :: zvr (some q) :: st) h = if (ph_K h q).1 = 33 ∧ (a = 0 ∨ a = 1) then zev kJ4_setColor 9 L st (st_I h q 5 a) else none) ∧
  (∀ (L : List ZV) (h : PH), zev kJ4_setColor 9 L [] h = zr0 h) :=
  ⟨fun a L st h => e_ld0R (n := 1) rfl,
  fun L st h => e_null0 (t := 9) (n := 4) rfl,
  fun q L st h => e_null1 (t := 9) (n := 4) rfl,
  fun a L st h => e_ld0R (n := 5) rfl,
  fun x0 a L st h => e_ld1I (n := 6) rfl,
  fun a q L st h => e_putZ (kd := 33) (k := 5) (n := 9) rfl,
  fun L h => e_ret rfl⟩
theorem allJ4_setColor : zall yJ4_setColor cJ4_setColor 2 none 1 kJ4_setColor.1 :=
  ⟨k_aload_n dJ4_setColor_0,
  k_null (t := 9) dJ4_setColor_1 (by decide),
  k_aload_n dJ4_setColor_4,
  k_iload_n dJ4_setColor_5,
  k_putZ (C := RJ22) (T := TJ22) (N := 6) (ci := 17) (k := 5) (ref := "java/util/TreeMap$Entry") dJ4_setColor_6 rfl in_J22 tyJ22 tyJ22_ok nmJ22 (by decide) (Or.inl q1163) (Or.inl rfl) (Or.inl rfl) (tyJ22_ok 5 (by decide)) (fun _ _ _ => rfl),
  k_ret dJ4_setColor_9, trivial⟩
theorem sndJ4_setColor : MSound 1 yJ4_setColor (ws_ yJ4_setColor cJ4_setColor 2 none) mJ4_setColor := msound_M (by decide) allJ4_setColor (fun _ _ => rfl)
/-! java/util/TreeMap.rotateLeft(Ljava/util/TreeMap$Entry;)V -/
noncomputable def kJ4_rotateLeft : ZM := ([(0, zi_ld 1 1 1), (1, zi_null 95 4), (4, zi_ld 1 1 5), (5, zi_getR 33 3 8), (8, zi_st 1 2 9), (9, zi_ld 1 1 10), (10, zi_ld 1 2 11), (11, zi_getR 33 2 14), (14, zi_putR 33 3 17), (17, zi_ld 1 2 18), (18, zi_getR 33 2 21), (21, zi_null 32 24), (24, zi_ld 1 2 25), (25, zi_getR 33 2 28), (28, zi_ld 1 1 29), (29, zi_putR 33 4 32), (32, zi_ld 1 2 33), (33, zi_ld 1 1 34), (34, zi_getR 33 4 37), (37, zi_putR 33 4 40), (40, zi_ld 1 1 41), (41, zi_getR 33 4 44), (44, zi_nonnull 55 47), (47, zi_ld 1 0 48), (48, zi_ld 1 2 49), (49, zi_putR 32 3 52), (52, zi_goto 85), (55, zi_ld 1 1 56), (56, zi_getR 33 4 59), (59, zi_getR 33 2 62), (62, zi_ld 1 1 63), (63, zi_acmp 66 77), (66, zi_ld 1 1 67), (67, zi_getR 33 4 70), (70, zi_ld 1 2 71), (71, zi_putR 33 2 74), (74, zi_goto 85), (77, zi_ld 1 1 78), (78, zi_getR 33 4 81), (81, zi_ld 1 2 82), (82, zi_putR 33 3 85), (85, zi_ld 1 2 86), (86, zi_ld 1 1 87), (87, zi_putR 33 2 90), (90, zi_ld 1 1 91), (91, zi_ld 1 2 92), (92, zi_putR 33 4 95), (95, zi_ret)], fun _ _ => none)
noncomputable def mJ4_rotateLeft : ZF := zrunM kJ4_rotateLeft 3
theorem enJ4_rotateLeft (x0 : Option Nat) (x1 : Option Nat) (h : PH) : mJ4_rotateLeft [zvr x0, zvr x1] h = zev kJ4_rotateLeft 0 [zvr x0, zvr x1, zvu] [] h := zrunM_eq rfl rfl
theorem rJ4_rotateLeft : (∀ (x0 : ZV) (a : Option Nat) (L st : List ZV) (h : PH), zev kJ4_rotateLeft 0 (x0 :: zvr a :: L) st h = zev kJ4_rotateLeft 1 (x0 :: zvr a :: L) (zvr a :: st) h) ∧
  (∀ (L st : List ZV) (h : PH), zev kJ4_rotateLeft 1 L (zvr none :: st) h = zev kJ4_rotateLeft 95 L st h) ∧
  (∀ (q : Nat) (L st : List ZV) (h : PH), zev kJ4_rotateLeft 1 L (zvr (some q) :: st) h = if (ph_K h q).1 ≠ 0 then zev kJ4_rotateLeft 4 L st h else none) ∧
  (∀ (x0 : ZV) (a : Option Nat) (L st : List ZV) (h : PH), zev kJ4_rotateLeft 4 (x0 :: zvr a :: L) st h = zev kJ4_rotateLeft 5 (x0 :: zvr a :: L) (zvr a :: st) h) ∧
  (∀ (q : Nat) (L st : List ZV) (h : PH), zev kJ4_rotateLeft 5 L (zvr (some q) :: st) h = if (ph_K h q).1 % 1000 = 33 then zev kJ4_rotateLeft 8 L (zvr (ph_R h q 3) :: st) h else none) ∧
  (∀ (x0 x1 x2 : ZV) (a : Option Nat) (L st : List ZV) (h : PH) (hx : zisL x1 = false) , zev kJ4_rotateLeft 8 (x0 :: x1 :: x2 :: L) (zvr a :: st) h = zev kJ4_rotateLeft 9 (x0 :: x1 :: zvr a :: L) st h) ∧
  (∀ (x0 : ZV) (a : Option Nat) (L st : List ZV) (h : PH), zev kJ4_rotateLeft 9 (x0 :: zvr a :: L) st h = zev kJ4_rotateLeft 10 (x0 :: zvr a :: L) (zvr a :: st) h) ∧
  (∀ (x0 x1 : ZV) (a : Option Nat) (L st : List ZV) (h : PH), zev kJ4_rotateLeft 10 (x0 :: x1 :: zvr a :: L) st h = zev kJ4_rotateLeft 11 (x0 :: x1 :: zvr a :: L) (zvr a :: st) h) ∧
  (∀ (q : Nat) (L st : List ZV) (h : PH), zev kJ4_rotateLeft 11 L (zvr (some q) :: st) h = if (ph_K h q).1 % 1000 = 33 then zev kJ4_rotateLeft 14 L (zvr (ph_R h q 2) :: st) h else none) ∧
  (∀ (a : Option Nat) (q : Nat) (L st : List ZV) (h : PH), zev kJ4_rotateLeft 14 L (zvr a :: zvr (some q) :: st) h = if (ph_K h q).1 = 33 then zev kJ4_rotateLeft 17 L st (st_R h q 3 a) else none) ∧
  (∀ (x0 x1 : ZV) (a : Option Nat) (L st : List ZV) (h : PH), zev kJ4_rotateLeft 17 (x0 :: x1 :: zvr a :: L) st h = zev kJ4_rotateLeft 18 (x0 :: x1 :: zvr a :: L) (zvr a :: st) h) ∧
  (∀ (q : Nat) (L st : List ZV) (h : PH), zev kJ4_rotateLeft 18 L (zvr (some q) :: st) h = if (ph_K h q).1 % 1000 = 33 then zev kJ4_rotateLeft 21 L (zvr (ph_R h q 2) :: st) h else none) ∧
  (∀ (L st : List ZV) (h : PH), zev kJ4_rotateLeft 21 L (zvr none :: st) h = zev kJ4_rotateLeft 32 L st h) ∧
  (∀ (q : Nat) (L st : List ZV) (h : PH), zev kJ4_rotateLeft 21 L (zvr (some q) :: st) h = if (ph_K h q).1 ≠ 0 then zev kJ4_rotateLeft 24 L st h else none) ∧
  (∀ (x0 x1 : ZV) (a : Option Nat) (L st : List ZV) (h : PH), zev kJ4_rotateLeft 24 (x0 :: x1 :: zvr a :: L) st h = zev kJ4_rotateLeft 25 (x0 :: x1 :: zvr a :: L) (zvr a :: st) h) ∧
  (∀ (q : Nat) (L st : List ZV) (h : PH), zev kJ4_rotateLeft 25 L (zvr (some q) :: st) h = if (ph_K h q).1 % 1000 = 33 then zev kJ4_rotateLeft 28 L (zvr (ph_R h q 2) :: st) h else none) ∧
  (∀ (x0 : ZV) (a : Option Nat) (L st : List ZV) (h : PH), zev kJ4_rotateLeft 28 (x0 :: zvr a :: L) st h = zev kJ4_rotateLeft 29 (x0 :: zvr a :: L) (zvr a :: st) h) ∧
  (∀ (a : Option Nat) (q : Nat) (L st : List ZV) (h : PH), zev kJ4_rotateLeft 29 L (zvr a :: zvr (some q) :: st) h = if (ph_K h q).1 = 33 then zev kJ4_rotateLeft 32 L st (st_R h q 4 a) else none) ∧
  (∀ (x0 x1 : ZV) (a : Option Nat) (L st : List ZV) (h : PH), zev kJ4_rotateLeft 32 (x0 :: x1 :: zvr a :: L) st h = zev kJ4_rotateLeft 33 (x0 :: x1 :: zvr a :: L) (zvr a :: st) h) ∧
  (∀ (x0 : ZV) (a : Option Nat) (L st : List ZV) (h : PH), zev kJ4_rotateLeft 33 (x0 :: zvr a :: L) st h = zev kJ4_rotateLeft 34 (x0 :: zvr a :: L) (zvr a :: st) h) ∧
  (∀ (q : Nat) (L st : List ZV) (h : PH), zev kJ4_rotateLeft 34 L (zvr (some q) :: st) h = if (ph_K h q).1 % 1000 = 33 then zev kJ4_rotateLeft 37 L (zvr (ph_R h q 4) :: st) h else none) ∧
  (∀ (a : Option Nat) (q : Nat) (L st : List ZV) (h : PH), zev kJ4_rotateLeft 37 L (zvr a :: zvr (some q) :: st) h = if (ph_K h q).1 = 33 then zev kJ4_rotateLeft 40 L st (st_R h q 4 a) else none) ∧
  (∀ (x0 : ZV) (a : Option Nat) (L st : List ZV) (h : PH), zev kJ4_rotateLeft 40 (x0 :: zvr a :: L) st h = zev kJ4_rotateLeft 41 (x0 :: zvr a :: L) (zvr a :: st) h) ∧
  (∀ (q : Nat) (L st : List ZV) (h : PH), zev kJ4_rotateLeft 41 L (zvr (some q) :: st) h = if (ph_K h q).1 % 1000 = 33 then zev kJ4_rotateLeft 44 L (zvr (ph_R h q 4) :: st) h else none) ∧
  (∀ (L st : List ZV) (h : PH), zev kJ4_rotateLeft 44 L (zvr none :: st) h = zev kJ4_rotateLeft 47 L st h) ∧
  (∀ (q : Nat) (L st : List ZV) (h : PH), zev kJ4_rotateLeft 44 L (zvr (some q) :: st) h = if (ph_K h q).1 ≠ 0 then zev kJ4_rotateLeft 55 L st h else none) ∧
  (∀ (a : Option Nat) (L st : List ZV) (h : PH), zev kJ4_rotateLeft 47 (zvr a :: L) st h = zev kJ4_rotateLeft 48 (zvr a :: L) (zvr a :: st) h) ∧
  (∀ (x0 x1 : ZV) (a : Option Nat) (L st : List ZV) (h : PH), zev kJ4_rotateLeft 48 (x0 :: x1 :: zvr a :: L) st h = zev kJ4_rotateLeft 49 (x0 :: x1 :: zvr a :: L) (zvr a :: st) h) ∧
  (∀ (a : Option Nat) (q : Nat) (L st : List ZV) (h : PH), zev kJ4_rotateLeft 49 L (zvr a :: zvr (some q) :: st) h = if (ph_K h q).1 = 32 then zev kJ4_rotateLeft 52 L st (st_R h q 3 a) else none) ∧
  (∀ (L st : List ZV) (h : PH), zev kJ4_rotateLeft 52 L st h = zev kJ4_rotateLeft 85 L st h) ∧
  (∀ (x0 : ZV) (a : Option Nat) (L st : List ZV) (h : PH), zev kJ4_rotateLeft 55 (x0 :: zvr a :: L) st h = zev kJ4_rotateLeft 56 (x0 :: zvr a :: L) (zvr a :: st) h) ∧
  (∀ (q : Nat) (L st : List ZV) (h : PH), zev kJ4_rotateLeft 56 L (zvr (some q) :: st) h = if (ph_K h q).1 % 1000 = 33 then zev kJ4_rotateLeft 59 L (zvr (ph_R h q 4) :: st) h else none) ∧
  (∀ (q : Nat) (L st : List ZV) (h : PH), zev kJ4_rotateLeft 59 L (zvr (some q) :: st) h = if (ph_K h q).1 % 1000 = 33 then zev kJ4_rotateLeft 62 L (zvr (ph_R h q 2) :: st) h else none) ∧
  (∀ (x0 : ZV) (a : Option Nat) (L st : List ZV) (h : PH), zev kJ4_rotateLeft 62 (x0 :: zvr a :: L) st h = zev kJ4_rotateLeft 63 (x0 :: zvr a :: L) (zvr a :: st) h) ∧
  (∀ (a b : Option Nat) (L st : List ZV) (h : PH), zev kJ4_rotateLeft 63 L (zvr b :: zvr a :: st) h = if zcomp h a b = true then (if a = b then zev kJ4_rotateLeft 66 L st h else zev kJ4_rotateLeft 77 L st h) else none) ∧
  (∀ (x0 : ZV) (a : Option Nat) (L st : List ZV) (h : PH), zev kJ4_rotateLeft 66 (x0 :: zvr a :: L) st h = zev kJ4_rotateLeft 67 (x0 :: zvr a :: L) (zvr a :: st) h) ∧
  (∀ (q : Nat) (L st : List ZV) (h : PH), zev kJ4_rotateLeft 67 L (zvr (some q) :: st) h = if (ph_K h q).1 % 1000 = 33 then zev kJ4_rotateLeft 70 L (zvr (ph_R h q 4) :: st) h else none) ∧
  (∀ (x0 x1 : ZV) (a : Option Nat) (L st : List ZV) (h : PH), zev kJ4_rotateLeft 70 (x0 :: x1 :: zvr a :: L) st h = zev kJ4_rotateLeft 71 (x0 :: x1 :: zvr a :: L) (zvr a :: st) h) ∧
  (∀ (a : Option Nat) (q : Nat) (L st : List ZV) (h : PH), zev kJ4_rotateLeft 71 L (zvr a :: zvr (some q) :: st) h = if (ph_K h q).1 = 33 then zev kJ4_rotateLeft 74 L st (st_R h q 2 a) else none) ∧
  (∀ (L st : List ZV) (h : PH), zev kJ4_rotateLeft 74 L st h = zev kJ4_rotateLeft 85 L st h) ∧
  (∀ (x0 : ZV) (a : Option Nat) (L st : List ZV) (h : PH), zev kJ4_rotateLeft 77 (x0 :: zvr a :: L) st h = zev kJ4_rotateLeft 78 (x0 :: zvr a :: L) (zvr a :: st) h) ∧
  (∀ (q : Nat) (L st : List ZV) (h : PH), zev kJ4_rotateLeft 78 L (zvr (some q) :: st) h = if (ph_K h q).1 % 1000 = 33 then zev kJ4_rotateLeft 81 L (zvr (ph_R h q 4) :: st) h else none) ∧
  (∀ (x0 x1 : ZV) (a : Option Nat) (L st : List ZV) (h : PH), zev kJ4_rotateLeft 81 (x0 :: x1 :: zvr a :: L) st h = zev kJ4_rotateLeft 82 (x0 :: x1 :: zvr a :: L) (zvr a :: st) h) ∧
  (∀ (a : Option Nat) (q : Nat) (L st : List ZV) (h : PH), zev kJ4_rotateLeft 82 L (zvr a :: zvr (some q) :: st) h = if (ph_K h q).1 = 33 then zev kJ4_rotateLeft 85 L st (st_R h q 3 a) else none) ∧
  (∀ (x0 x1 : ZV) (a : Option Nat) (L st : List ZV) (h : PH), zev kJ4_rotateLeft 85 (x0 :: x1 :: zvr a :: L) st h = zev kJ4_rotateLeft 86 (x0 :: x1 :: zvr a :: L) (zvr a :: st) h) ∧
  (∀ (x0 : ZV) (a : Option Nat) (L st : List ZV) (h : PH), zev kJ4_rotateLeft 86 (x0 :: zvr a :: L) st h = zev kJ4_rotateLeft 87 (x0 :: zvr a :: L) (zvr a :: st) h) ∧
  (∀ (a : Option Nat) (q : Nat) (L st : List ZV) (h : PH), zev kJ4_rotateLeft 87 L (zvr a :: zvr (some q) :: st) h = if (ph_K h q).1 = 33 then zev kJ4_rotateLeft 90 L st (st_R h q 2 a) else none) ∧
  (∀ (x0 : ZV) (a : Option Nat) (L st : List ZV) (h : PH), zev kJ4_rotateLeft 90 (x0 :: zvr a :: L) st h = zev kJ4_rotateLeft 91 (x0 :: zvr a :: L) (zvr a :: st) h) ∧
  (∀ (x0 x1 : ZV) (a : Option Nat) (L st : List ZV) (h : PH), zev kJ4_rotateLeft 91 (x0 :: x1 :: zvr a :: L) st h = zev kJ4_rotateLeft 92 (x0 :: x1 :: zvr a :: L) (zvr a :: st) h) ∧
  (∀ (a : Option Nat) (q : Nat) (L st : List ZV) (h : PH), zev kJ4_rotateLeft 92 L (zvr a :: zvr (some q) :: st) h = if (ph_K h q).1 = 33 then zev kJ4_rotateLeft 95 L st (st_R h q 4 a) else none) ∧
  (∀ (L : List ZV) (h : PH), zev kJ4_rotateLeft 95 L [] h = zr0 h) :=
  ⟨fun x0 a L st h => e_ld1R (n := 1) rfl,
  fun L st h => e_null0 (t := 95) (n := 4) rfl,
  fun q L st h => e_null1 (t := 95) (n := 4) rfl,
  fun x0 a L st h => e_ld1R (n := 5) rfl,
  fun q L st h => e_getR (kd := 33) (k := 3) (n := 8) rfl,
  fun x0 x1 x2 a L st h hx => e_st2R (n := 9) rfl hx,
  fun x0 a L st h => e_ld1R (n := 10) rfl,
  fun x0 x1 a L st h => e_ld2R (n := 11) rfl,
  fun q L st h => e_getR (kd := 33) (k := 2) (n := 14) rfl,
  fun a q L st h => e_putR (kd := 33) (k := 3) (n := 17) rfl,
  fun x0 x1 a L st h => e_ld2R (n := 18) rfl,
  fun q L st h => e_getR (kd := 33) (k := 2) (n := 21) rfl,
  fun L st h => e_null0 (t := 32) (n := 24) rfl,
  fun q L st h => e_null1 (t := 32) (n := 24) rfl,
  fun x0 x1 a L st h => e_ld2R (n := 25) rfl,
  fun q L st h => e_getR (kd := 33) (k := 2) (n := 28) rfl,
  fun x0 a L st h => e_ld1R (n := 29) rfl,
  fun a q L st h => e_putR (kd := 33) (k := 4) (n := 32) rfl,
  fun x0 x1 a L st h => e_ld2R (n := 33) rfl,
  fun x0 a L st h => e_ld1R (n := 34) rfl,
  fun q L st h => e_getR (kd := 33) (k := 4) (n := 37) rfl,
  fun a q L st h => e_putR (kd := 33) (k := 4) (n := 40) rfl,
  fun x0 a L st h => e_ld1R (n := 41) rfl,
  fun q L st h => e_getR (kd := 33) (k := 4) (n := 44) rfl,
  fun L st h => e_nonnull0 (t := 55) (n := 47) rfl,
  fun q L st h => e_nonnull1 (t := 55) (n := 47) rfl,
  fun a L st h => e_ld0R (n := 48) rfl,
  fun x0 x1 a L st h => e_ld2R (n := 49) rfl,
  fun a q L st h => e_putR (kd := 32) (k := 3) (n := 52) rfl,
  fun L st h => e_goto (t := 85) rfl,
  fun x0 a L st h => e_ld1R (n := 56) rfl,
  fun q L st h => e_getR (kd := 33) (k := 4) (n := 59) rfl,
  fun q L st h => e_getR (kd := 33) (k := 2) (n := 62) rfl,
  fun x0 a L st h => e_ld1R (n := 63) rfl,
  fun a b L st h => e_acmp (t := 66) (n := 77) rfl,
  fun x0 a L st h => e_ld1R (n := 67) rfl,
  fun q L st h => e_getR (kd := 33) (k := 4) (n := 70) rfl,
  fun x0 x1 a L st h => e_ld2R (n := 71) rfl,
  fun a q L st h => e_putR (kd := 33) (k := 2) (n := 74) rfl,
  fun L st h => e_goto (t := 85) rfl,
  fun x0 a L st h => e_ld1R (n := 78) rfl,
  fun q L st h => e_getR (kd := 33) (k := 4) (n := 81) rfl,
  fun x0 x1 a L st h => e_ld2R (n := 82) rfl,
  fun a q L st h => e_putR (kd := 33) (k := 3) (n := 85) rfl,
  fun x0 x1 a L st h => e_ld2R (n := 86) rfl,
  fun x0 a L st h => e_ld1R (n := 87) rfl,
  fun a q L st h => e_putR (kd := 33) (k := 2) (n := 90) rfl,
  fun x0 a L st h => e_ld1R (n := 91) rfl,
  fun x0 x1 a L st h => e_ld2R (n := 92) rfl,
  fun a q L st h => e_putR (kd := 33) (k := 4) (n := 95) rfl,
  fun L h => e_ret rfl⟩
theorem allJ4_rotateLeft : zall yJ4_rotateLeft cJ4_rotateLeft 3 none 1 kJ4_rotateLeft.1 :=
  ⟨k_aload_n dJ4_rotateLeft_0,
  k_null (t := 95) dJ4_rotateLeft_1 (by decide),
  k_aload_n dJ4_rotateLeft_4,
  k_getR (C := RJ22) (T := TJ22) (N := 6) (ci := 17) (k := 3) (ref := "java/util/TreeMap$Entry") dJ4_rotateLeft_5 rfl in_J22 (by decide) q1159 (Or.inl rfl) (fun _ _ _ => rfl),
  k_astore_n dJ4_rotateLeft_8,
  k_aload_n dJ4_rotateLeft_9,
  k_aload_n dJ4_rotateLeft_10,
  k_getR (C := RJ22) (T := TJ22) (N := 6) (ci := 17) (k := 2) (ref := "java/util/TreeMap$Entry") dJ4_rotateLeft_11 rfl in_J22 (by decide) q1158 (Or.inl rfl) (fun _ _ _ => rfl),
  k_putR (C := RJ22) (T := TJ22) (N := 6) (ci := 17) (k := 3) (ref := "java/util/TreeMap$Entry") dJ4_rotateLeft_14 rfl in_J22 tyJ22 tyJ22_ok nmJ22 (by decide) (Or.inl q1159) (Or.inl rfl) (Or.inl rfl) (tyJ22_ok 3 (by decide)) (Or.inl ⟨_, rfl⟩) (fun _ _ _ => rfl),
  k_aload_n dJ4_rotateLeft_17,
  k_getR (C := RJ22) (T := TJ22) (N := 6) (ci := 17) (k := 2) (ref := "java/util/TreeMap$Entry") dJ4_rotateLeft_18 rfl in_J22 (by decide) q1158 (Or.inl rfl) (fun _ _ _ => rfl),
  k_null (t := 32) dJ4_rotateLeft_21 (by decide),
  k_aload_n dJ4_rotateLeft_24,
  k_getR (C := RJ22) (T := TJ22) (N := 6) (ci := 17) (k := 2) (ref := "java/util/TreeMap$Entry") dJ4_rotateLeft_25 rfl in_J22 (by decide) q1158 (Or.inl rfl) (fun _ _ _ => rfl),
  k_aload_n dJ4_rotateLeft_28,
  k_putR (C := RJ22) (T := TJ22) (N := 6) (ci := 17) (k := 4) (ref := "java/util/TreeMap$Entry") dJ4_rotateLeft_29 rfl in_J22 tyJ22 tyJ22_ok nmJ22 (by decide) (Or.inl q1161) (Or.inl rfl) (Or.inl rfl) (tyJ22_ok 4 (by decide)) (Or.inl ⟨_, rfl⟩) (fun _ _ _ => rfl),
  k_aload_n dJ4_rotateLeft_32,
  k_aload_n dJ4_rotateLeft_33,
  k_getR (C := RJ22) (T := TJ22) (N := 6) (ci := 17) (k := 4) (ref := "java/util/TreeMap$Entry") dJ4_rotateLeft_34 rfl in_J22 (by decide) q1161 (Or.inl rfl) (fun _ _ _ => rfl),
  k_putR (C := RJ22) (T := TJ22) (N := 6) (ci := 17) (k := 4) (ref := "java/util/TreeMap$Entry") dJ4_rotateLeft_37 rfl in_J22 tyJ22 tyJ22_ok nmJ22 (by decide) (Or.inl q1161) (Or.inl rfl) (Or.inl rfl) (tyJ22_ok 4 (by decide)) (Or.inl ⟨_, rfl⟩) (fun _ _ _ => rfl),
  k_aload_n dJ4_rotateLeft_40,
  k_getR (C := RJ22) (T := TJ22) (N := 6) (ci := 17) (k := 4) (ref := "java/util/TreeMap$Entry") dJ4_rotateLeft_41 rfl in_J22 (by decide) q1161 (Or.inl rfl) (fun _ _ _ => rfl),
  k_nonnull (t := 55) dJ4_rotateLeft_44 (by decide),
  k_aload_n dJ4_rotateLeft_47,
  k_aload_n dJ4_rotateLeft_48,
  k_putR (C := RJ4) (T := TJ4) (N := 9) (ci := 16) (k := 3) (ref := "java/util/TreeMap") dJ4_rotateLeft_49 rfl in_J4 tyJ4 tyJ4_ok nmJ4 (by decide) (Or.inl q202) (Or.inl rfl) (Or.inl rfl) (tyJ4_ok 3 (by decide)) (Or.inl ⟨_, rfl⟩) (fun _ _ _ => rfl),
  k_goto (t := 85) dJ4_rotateLeft_52 (by decide),
  k_aload_n dJ4_rotateLeft_55,
  k_getR (C := RJ22) (T := TJ22) (N := 6) (ci := 17) (k := 4) (ref := "java/util/TreeMap$Entry") dJ4_rotateLeft_56 rfl in_J22 (by decide) q1161 (Or.inl rfl) (fun _ _ _ => rfl),
  k_getR (C := RJ22) (T := TJ22) (N := 6) (ci := 17) (k := 2) (ref := "java/util/TreeMap$Entry") dJ4_rotateLeft_59 rfl in_J22 (by decide) q1158 (Or.inl rfl) (fun _ _ _ => rfl),
  k_aload_n dJ4_rotateLeft_62,
  k_acmpne (t := 77) dJ4_rotateLeft_63 (by decide),
  k_aload_n dJ4_rotateLeft_66,
  k_getR (C := RJ22) (T := TJ22) (N := 6) (ci := 17) (k := 4) (ref := "java/util/TreeMap$Entry") dJ4_rotateLeft_67 rfl in_J22 (by decide) q1161 (Or.inl rfl) (fun _ _ _ => rfl),
  k_aload_n dJ4_rotateLeft_70,
  k_putR (C := RJ22) (T := TJ22) (N := 6) (ci := 17) (k := 2) (ref := "java/util/TreeMap$Entry") dJ4_rotateLeft_71 rfl in_J22 tyJ22 tyJ22_ok nmJ22 (by decide) (Or.inl q1158) (Or.inl rfl) (Or.inl rfl) (tyJ22_ok 2 (by decide)) (Or.inl ⟨_, rfl⟩) (fun _ _ _ => rfl),
  k_goto (t := 85) dJ4_rotateLeft_74 (by decide),
  k_aload_n dJ4_rotateLeft_77,
  k_getR (C := RJ22) (T := TJ22) (N := 6) (ci := 17) (k := 4) (ref := "java/util/TreeMap$Entry") dJ4_rotateLeft_78 rfl in_J22 (by decide) q1161 (Or.inl rfl) (fun _ _ _ => rfl),
  k_aload_n dJ4_rotateLeft_81,
  k_putR (C := RJ22) (T := TJ22) (N := 6) (ci := 17) (k := 3) (ref := "java/util/TreeMap$Entry") dJ4_rotateLeft_82 rfl in_J22 tyJ22 tyJ22_ok nmJ22 (by decide) (Or.inl q1159) (Or.inl rfl) (Or.inl rfl) (tyJ22_ok 3 (by decide)) (Or.inl ⟨_, rfl⟩) (fun _ _ _ => rfl),
  k_aload_n dJ4_rotateLeft_85,
  k_aload_n dJ4_rotateLeft_86,
  k_putR (C := RJ22) (T := TJ22) (N := 6) (ci := 17) (k := 2) (ref := "java/util/TreeMap$Entry") dJ4_rotateLeft_87 rfl in_J22 tyJ22 tyJ22_ok nmJ22 (by decide) (Or.inl q1158) (Or.inl rfl) (Or.inl rfl) (tyJ22_ok 2 (by decide)) (Or.inl ⟨_, rfl⟩) (fun _ _ _ => rfl),
  k_aload_n dJ4_rotateLeft_90,
  k_aload_n dJ4_rotateLeft_91,
  k_putR (C := RJ22) (T := TJ22) (N := 6) (ci := 17) (k := 4) (ref := "java/util/TreeMap$Entry") dJ4_rotateLeft_92 rfl in_J22 tyJ22 tyJ22_ok nmJ22 (by decide) (Or.inl q1161) (Or.inl rfl) (Or.inl rfl) (tyJ22_ok 4 (by decide)) (Or.inl ⟨_, rfl⟩) (fun _ _ _ => rfl),
  k_ret dJ4_rotateLeft_95, trivial⟩
theorem sndJ4_rotateLeft : MSound 1 yJ4_rotateLeft (ws_ yJ4_rotateLeft cJ4_rotateLeft 3 none) mJ4_rotateLeft := msound_M (by decide) allJ4_rotateLeft (fun _ _ => rfl)
/-! java/util/TreeMap.rotateRight(Ljava/util/TreeMap$Entry;)V -/
noncomputable def kJ4_rotateRight : ZM := ([(0, zi_ld 1 1 1), (1, zi_null 95 4), (4, zi_ld 1 1 5), (5, zi_getR 33 2 8), (8, zi_st 1 2 9), (9, zi_ld 1 1 10), (10, zi_ld 1 2 11), (11, zi_getR 33 3 14), (14, zi_putR 33 2 17), (17, zi_ld 1 2 18), (18, zi_getR 33 3 21), (21, zi_null 32 24), (24, zi_ld 1 2 25), (25, zi_getR 33 3 28), (28, zi_ld 1 1 29), (29, zi_putR 33 4 32), (32, zi_ld 1 2 33), (33, zi_ld 1 1 34), (34, zi_getR 33 4 37), (37, zi_putR 33 4 40), (40, zi_ld 1 1 41), (41, zi_getR 33 4 44), (44, zi_nonnull 55 47), (47, zi_ld 1 0 48), (48, zi_ld 1 2 49), (49, zi_putR 32 3 52), (52, zi_goto 85), (55, zi_ld 1 1 56), (56, zi_getR 33 4 59), (59, zi_getR 33 3 62), (62, zi_ld 1 1 63), (63, zi_acmp 66 77), (66, zi_ld 1 1 67), (67, zi_getR 33 4 70), (70, zi_ld 1 2 71), (71, zi_putR 33 3 74), (74, zi_goto 85), (77, zi_ld 1 1 78), (78, zi_getR 33 4 81), (81, zi_ld 1 2 82), (82, zi_putR 33 2 85), (85, zi_ld 1 2 86), (86, zi_ld 1 1 87), (87, zi_putR 33 3 90), (90, zi_ld 1 1 91), (91, zi_ld 1 2 92), (92, zi_putR 33 4 95), (95, zi_ret)], fun _ _ => none)
noncomputable def mJ4_rotateRight : ZF := zrunM kJ4_rotateRight 3
theorem enJ4_rotateRight (x0 : Option Nat) (x1 : Option Nat) (h : PH) : mJ4_rotateRight [zvr x0, zvr x1] h = zev kJ4_rotateRight 0 [zvr x0, zvr x1, zvu] [] h := zrunM_eq rfl rfl
theorem rJ4_rotateRight : (∀ (x0 : ZV) (a : Option Nat) (L st : List ZV) (h : PH), zev kJ4_rotateRight 0 (x0 :: zvr a :: L) st h = zev kJ4_rotateRight 1 (x0 :: zvr a :: L) (zvr a :: st) h) ∧
  (∀ (L st : List ZV) (h : PH), zev kJ4_rotateRight 1 L (zvr none :: st) h = zev kJ4_rotateRight 95 L st h) ∧
  (∀ (q : Nat) (L st : List ZV) (h : PH), zev kJ4_rotateRight 1 L (zvr (some q) :: st) h = if (ph_K h q).1 ≠ 0 then zev kJ4_rotateRight 4 L st h else none) ∧
  (∀ (x0 : ZV) (a : Option Nat) (L st : List ZV) (h : PH), zev kJ4_rotateRight 4 (x0 :: zvr a :: L) st h = zev kJ4_rotateRight 5 (x0 :: zvr a :: L) (zvr a :: st) h) ∧
  (∀ (q : Nat) (L st : List ZV) (h : PH), zev kJ4_rotateRight 5 L (zvr (some q) :: st) h = if (ph_K h q).1 % 1000 = 33 then zev kJ4_rotateRight 8 L (zvr (ph_R h q 2) :: st) h else none) ∧
  (∀ (x0 x1 x2 : ZV) (a : Option Nat) (L st : List ZV) (h : PH) (hx : zisL x1 = false) , zev kJ4_rotateRight 8 (x0 :: x1 :: x2 :: L) (zvr a :: st) h = zev kJ4_rotateRight 9 (x0 :: x1 :: zvr a :: L) st h) ∧
  (∀ (x0 : ZV) (a : Option Nat) (L st : List ZV) (h : PH), zev kJ4_rotateRight 9 (x0 :: zvr a :: L) st h = zev kJ4_rotateRight 10 (x0 :: zvr a :: L) (zvr a :: st) h) ∧
  (∀ (x0 x1 : ZV) (a : Option Nat) (L st : List ZV) (h : PH), zev kJ4_rotateRight 10 (x0 :: x1 :: zvr a :: L) st h = zev kJ4_rotateRight 11 (x0 :: x1 :: zvr a :: L) (zvr a :: st) h) ∧
  (∀ (q : Nat) (L st : List ZV) (h : PH), zev kJ4_rotateRight 11 L (zvr (some q) :: st) h = if (ph_K h q).1 % 1000 = 33 then zev kJ4_rotateRight 14 L (zvr (ph_R h q 3) :: st) h else none) ∧
  (∀ (a : Option Nat) (q : Nat) (L st : List ZV) (h : PH), zev kJ4_rotateRight 14 L (zvr a :: zvr (some q) :: st) h = if (ph_K h q).1 = 33 then zev kJ4_rotateRight 17 L st (st_R h q 2 a) else none) ∧
  (∀ (x0 x1 : ZV) (a : Option Nat) (L st : List ZV) (h : PH), zev kJ4_rotateRight 17 (x0 :: x1 :: zvr a :: L) st h = zev kJ4_rotateRight 18 (x0 :: x1 :: zvr a :: L) (zvr a :: st) h) ∧
  (∀ (q : Nat) (L st : List ZV) (h : PH), zev kJ4_rotateRight 18 L (zvr (some q) :: st) h = if (ph_K h q).1 % 1000 = 33 then zev kJ4_rotateRight 21 L (zvr (ph_R h q 3) :: st) h else none) ∧
  (∀ (L st : List ZV) (h : PH), zev kJ4_rotateRight 21 L (zvr none :: st) h = zev kJ4_rotateRight 32 L st h) ∧
  (∀ (q : Nat) (L st : List ZV) (h : PH), zev kJ4_rotateRight 21 L (zvr (some q) :: st) h = if (ph_K h q).1 ≠ 0 then zev kJ4_rotateRight 24 L st h else none) ∧
  (∀ (x0 x1 : ZV) (a : Option Nat) (L st : List ZV) (h : PH), zev kJ4_rotateRight 24 (x0 :: x1 :: zvr a :: L) st h = zev kJ4_rotateRight 25 (x0 :: x1 :: zvr a :: L) (zvr a :: st) h) ∧
  (∀ (q : Nat) (L st : List ZV) (h : PH), zev kJ4_rotateRight 25 L (zvr (some q) :: st) h = if (ph_K h q).1 % 1000 = 33 then zev kJ4_rotateRight 28 L (zvr (ph_R h q 3) :: st) h else none) ∧
  (∀ (x0 : ZV) (a : Option Nat) (L st : List ZV) (h : PH), zev kJ4_rotateRight 28 (x0 :: zvr a :: L) st h = zev kJ4_rotateRight 29 (x0 :: zvr a :: L) (zvr a :: st) h) ∧
  (∀ (a : Option Nat) (q : Nat) (L st : List ZV) (h : PH), zev kJ4_rotateRight 29 L (zvr a :: zvr (some q) :: st) h = if (ph_K h q).1 = 33 then zev kJ4_rotateRight 32 L st (st_R h q 4 a) else none) ∧
  (∀ (x0 x1 : ZV) (a : Option Nat) (L st : List ZV) (h : PH), zev kJ4_rotateRight 32 (x0 :: x1 :: zvr a :: L) st h = zev kJ4_rotateRight 33 (x0 :: x1 :: zvr a :: L) (zvr a :: st) h) ∧
  (∀ (x0 : ZV) (a : Option Nat) (L st : List ZV) (h : PH), zev kJ4_rotateRight 33 (x0 :: zvr a :: L) st h = zev kJ4_rotateRight 34 (x0 :: zvr a :: L) (zvr a :: st) h) ∧
  (∀ (q : Nat) (L st : List ZV) (h : PH), zev kJ4_rotateRight 34 L (zvr (some q) :: st) h = if (ph_K h q).1 % 1000 = 33 then zev kJ4_rotateRight 37 L (zvr (ph_R h q 4) :: st) h else none) ∧
  (∀ (a : Option Nat) (q : Nat) (L st : List ZV) (h : PH), zev kJ4_rotateRight 37 L (zvr a :: zvr (some q) :: st) h = if (ph_K h q).1 = 33 then zev kJ4_rotateRight 40 L st (st_R h q 4 a) else none) ∧
  (∀ (x0 : ZV) (a : Option Nat) (L st : List ZV) (h : PH), zev kJ4_rotateRight 40 (x0 :: zvr a :: L) st h = zev kJ4_rotateRight 41 (x0 :: zvr a :: L) (zvr a :: st) h) ∧
  (∀ (q : Nat) (L st : List ZV) (h : PH), zev kJ4_rotateRight 41 L (zvr (some q) :: st) h = if (ph_K h q).1 % 1000 = 33 then zev kJ4_rotateRight 44 L (zvr (ph_R h q 4) :: st) h else none) ∧
  (∀ (L st : List ZV) (h : PH), zev kJ4_rotateRight 44 L (zvr none :: st) h = zev kJ4_rotateRight 47 L st h) ∧
  (∀ (q : Nat) (L st : List ZV) (h : PH), zev kJ4_rotateRight 44 L (zvr (some q) :: st) h = if (ph_K h q).1 ≠ 0 then zev kJ4_rotateRight 55 L st h else none) ∧
  (∀ (a : Option Nat) (L st : List ZV) (h : PH), zev kJ4_rotateRight 47 (zvr a :: L) st h = zev kJ4_rotateRight 48 (zvr a :: L) (zvr a :: st) h) ∧
  (∀ (x0 x1 : ZV) (a : Option Nat) (L st : List ZV) (h : PH), zev kJ4_rotateRight 48 (x0 :: x1 :: zvr a :: L) st h = zev kJ4_rotateRight 49 (x0 :: x1 :: zvr a :: L) (zvr a :: st) h) ∧
  (∀ (a : Option Nat) (q : Nat) (L st : List ZV) (h : PH), zev kJ4_rotateRight 49 L (zvr a :: zvr (some q) :: st) h = if (ph_K h q).1 = 32 then zev kJ4_rotateRight 52 L st (st_R h q 3 a) else none) ∧
  (∀ (L st : List ZV) (h : PH), zev kJ4_rotateRight 52 L st h = zev kJ4_rotateRight 85 L st h) ∧
  (∀ (x0 : ZV) (a : Option Nat) (L st : List ZV) (h : PH), zev kJ4_rotateRight 55 (x0 :: zvr a :: L) st h = zev kJ4_rotateRight 56 (x0 :: zvr a :: L) (zvr a :: st) h) ∧
  (∀ (q : Nat) (L st : List ZV) (h : PH), zev kJ4_rotateRight 56 L (zvr (some q) :: st) h = if (ph_K h q).1 % 1000 = 33 then zev kJ4_rotateRight 59 L (zvr (ph_R h q 4) :: st) h else none) ∧
  (∀ (q : Nat) (L st : List ZV) (h : PH), zev kJ4_rotateRight 59 L (zvr (some q) :: st) h = if (ph_K h q).1 % 1000 = 33 then zev kJ4_rotateRight 62 L (zvr (ph_R h q 3) :: st) h else none) ∧
  (∀ (x0 : ZV) (a : Option Nat) (L st : List ZV) (h : PH), zev kJ4_rotateRight 62 (x0 :: zvr a :: L) st h = zev kJ4_rotateRight 63 (x0 :: zvr a :: L) (zvr a :: st) h) ∧
  (∀ (a b : Option Nat) (L st : List ZV) (h : PH), zev kJ4_rotateRight 63 L (zvr b :: zvr a :: st) h = if zcomp h a b = true then (if a = b then zev kJ4_rotateRight 66 L st h else zev kJ4_rotateRight 77 L st h) else none) ∧
  (∀ (x0 : ZV) (a : Option Nat) (L st : List ZV) (h : PH), zev kJ4_rotateRight 66 (x0 :: zvr a :: L) st h = zev kJ4_rotateRight 67 (x0 :: zvr a :: L) (zvr a :: st) h) ∧
  (∀ (q : Nat) (L st : List ZV) (h : PH), zev kJ4_rotateRight 67 L (zvr (some q) :: st) h = if (ph_K h q).1 % 1000 = 33 then zev kJ4_rotateRight 70 L (zvr (ph_R h q 4) :: st) h else none) ∧
  (∀ (x0 x1 : ZV) (a : Option Nat) (L st : List ZV) (h : PH), zev kJ4_rotateRight 70 (x0 :: x1 :: zvr a :: L) st h = zev kJ4_rotateRight 71 (x0 :: x1 :: zvr a :: L) (zvr a :: st) h) ∧
  (∀ (a : Option Nat) (q : Nat) (L st : List ZV) (h : PH), zev kJ4_rotateRight 71 L (zvr a :: zvr (some q) :: st) h = if (ph_K h q).1 = 33 then zev kJ4_rotateRight 74 L st (st_R h q 3 a) else none) ∧
  (∀ (L st : List ZV) (h : PH), zev kJ4_rotateRight 74 L st h = zev kJ4_rotateRight 85 L st h) ∧
  (∀ (x0 : ZV) (a : Option Nat) (L st : List ZV) (h : PH), zev kJ4_rotateRight 77 (x0 :: zvr a :: L) st h = zev kJ4_rotateRight 78 (x0 :: zvr a :: L) (zvr a :: st) h) ∧
  (∀ (q : Nat) (L st : List ZV) (h : PH), zev kJ4_rotateRight 78 L (zvr (some q) :: st) h = if (ph_K h q).1 % 1000 = 33 then zev kJ4_rotateRight 81 L (zvr (ph_R h q 4) :: st) h else none) ∧
  (∀ (x0 x1 : ZV) (a : Option Nat) (L st : List ZV) (h : PH), zev kJ4_rotateRight 81 (x0 :: x1 :: zvr a :: L) st h = zev kJ4_rotateRight 82 (x0 :: x1 :: zvr a :: L) (zvr a :: st) h) ∧
  (∀ (a : Option Nat) (q : Nat) (L st : List ZV) (h : PH), zev kJ4_rotateRight 82 L (zvr a :: zvr (some q) :: st) h = if (ph_K h q).1 = 33 then zev kJ4_rotateRight 85 L st (st_R h q 2 a) else none) ∧
  (∀ (x0 x1 : ZV) (a : Option Nat) (L st : List ZV) (h : PH), zev kJ4_rotateRight 85 (x0 :: x1 :: zvr a :: L) st h = zev kJ4_rotateRight 86 (x0 :: x1 :: zvr a :: L) (zvr a :: st) h) ∧
  (∀ (x0 : ZV) (a : Option Nat) (L st : List ZV) (h : PH), zev kJ4_rotateRight 86 (x0 :: zvr a :: L) st h = zev kJ4_rotateRight 87 (x0 :: zvr a :: L) (zvr a :: st) h) ∧
  (∀ (a : Option Nat) (q : Nat) (L st : List ZV) (h : PH), zev kJ4_rotateRight 87 L (zvr a :: zvr (some q) :: st) h = if (ph_K h q).1 = 33 then zev kJ4_rotateRight 90 L st (st_R h q 3 a) else none) ∧
  (∀ (x0 : ZV) (a : Option Nat) (L st : List ZV) (h : PH), zev kJ4_rotateRight 90 (x0 :: zvr a :: L) st h = zev kJ4_rotateRight 91 (x0 :: zvr a :: L) (zvr a :: st) h) ∧
  (∀ (x0 x1 : ZV) (a : Option Nat) (L st : List ZV) (h : PH), zev kJ4_rotateRight 91 (x0 :: x1 :: zvr a :: L) st h = zev kJ4_rotateRight 92 (x0 :: x1 :: zvr a :: L) (zvr a :: st) h) ∧
  (∀ (a : Option Nat) (q : Nat) (L st : List ZV) (h : PH), zev kJ4_rotateRight 92 L (zvr a :: zvr (some q) :: st) h = if (ph_K h q).1 = 33 then zev kJ4_rotateRight 95 L st (st_R h q 4 a) else none) ∧
  (∀ (L : List ZV) (h : PH), zev kJ4_rotateRight 95 L [] h = zr0 h) :=
  ⟨fun x0 a L st h => e_ld1R (n := 1) rfl,
  fun L st h => e_null0 (t := 95) (n := 4) rfl,
  fun q L st h => e_null1 (t := 95) (n := 4) rfl,
  fun x0 a L st h => e_ld1R (n := 5) rfl,
  fun q L st h => e_getR (kd := 33) (k := 2) (n := 8) rfl,
  fun x0 x1 x2 a L st h hx => e_st2R (n := 9) rfl hx,
  fun x0 a L st h => e_ld1R (n := 10) rfl,
  fun x0 x1 a L st h => e_ld2R (n := 11) rfl,
  fun q L st h => e_getR (kd := 33) (k := 3) (n := 14) rfl,
  fun a q L st h => e_putR (kd := 33) (k := 2) (n := 17) rfl,
  fun x0 x1 a L st h => e_ld2R (n := 18) rfl,
  fun q L st h => e_getR (kd := 33) (k := 3) (n := 21) rfl,
  fun L st h => e_null0 (t := 32) (n := 24) rfl,
  fun q L st h => e_null1 (t := 32) (n := 24) rfl,
  fun x0 x1 a L st h => e_ld2R (n := 25) rfl,
  fun q L st h => e_getR (kd := 33) (k := 3) (n := 28) rfl,
  fun x0 a L st h => e_ld1R (n := 29) rfl,
  fun a q L st h => e_putR (kd := 33) (k := 4) (n := 32) rfl,
  fun x0 x1 a L st h => e_ld2R (n := 33) rfl,
  fun x0 a L st h => e_ld1R (n := 34) rfl,
  fun q L st h => e_getR (kd := 33) (k := 4) (n := 37) rfl,
  fun a q L st h => e_putR (kd := 33) (k := 4) (n := 40) rfl,
  fun x0 a L st h => e_ld1R (n := 41) rfl,
  fun q L st h => e_getR (kd := 33) (k := 4) (n := 44) rfl,
  fun L st h => e_nonnull0 (t := 55) (n := 47) rfl,
  fun q L st h => e_nonnull1 (t := 55) (n := 47) rfl,
  fun a L st h => e_ld0R (n := 48) rfl,
  fun x0 x1 a L st h => e_ld2R (n := 49) rfl,
  fun a q L st h => e_putR (kd := 32) (k := 3) (n := 52) rfl,
  fun L st h => e_goto (t := 85) rfl,
  fun x0 a L st h => e_ld1R (n := 56) rfl,
  fun q L st h => e_getR (kd := 33) (k := 4) (n := 59) rfl,
  fun q L st h => e_getR (kd := 33) (k := 3) (n := 62) rfl,
  fun x0 a L st h => e_ld1R (n := 63) rfl,
  fun a b L st h => e_acmp (t := 66) (n := 77) rfl,
  fun x0 a L st h => e_ld1R (n := 67) rfl,
  fun q L st h => e_getR (kd := 33) (k := 4) (n := 70) rfl,
  fun x0 x1 a L st h => e_ld2R (n := 71) rfl,
  fun a q L st h => e_putR (kd := 33) (k := 3) (n := 74) rfl,
  fun L st h => e_goto (t := 85) rfl,
  fun x0 a L st h => e_ld1R (n := 78) rfl,
  fun q L st h => e_getR (kd := 33) (k := 4) (n := 81) rfl,
  fun x0 x1 a L st h => e_ld2R (n := 82) rfl,
  fun a q L st h => e_putR (kd := 33) (k := 2) (n := 85) rfl,
  fun x0 x1 a L st h => e_ld2R (n := 86) rfl,
  fun x0 a L st h => e_ld1R (n := 87) rfl,
  fun a q L st h => e_putR (kd := 33) (k := 3) (n := 90) rfl,
  fun x0 a L st h => e_ld1R (n := 91) rfl,
  fun x0 x1 a L st h => e_ld2R (n := 92) rfl,
  fun a q L st h => e_putR (kd := 33) (k := 4) (n := 95) rfl,
  fun L h => e_ret rfl⟩
theorem allJ4_rotateRight : zall yJ4_rotateRight cJ4_rotateRight 3 none 1 kJ4_rotateRight.1 :=
  ⟨k_aload_n dJ4_rotateRight_0,
  k_null (t := 95) dJ4_rotateRight_1 (by decide),
  k_aload_n dJ4_rotateRight_4,
  k_getR (C := RJ22) (T := TJ22) (N := 6) (ci := 17) (k := 2) (ref := "java/util/TreeMap$Entry") dJ4_rotateRight_5 rfl in_J22 (by decide) q1158 (Or.inl rfl) (fun _ _ _ => rfl),
  k_astore_n dJ4_rotateRight_8,
  k_aload_n dJ4_rotateRight_9,
  k_aload_n dJ4_rotateRight_10,
  k_getR (C := RJ22) (T := TJ22) (N := 6) (ci := 17) (k := 3) (ref := "java/util/TreeMap$Entry") dJ4_rotateRight_11 rfl in_J22 (by decide) q1159 (Or.inl rfl) (fun _ _ _ => rfl),
  k_putR (C := RJ22) (T := TJ22) (N := 6) (ci := 17) (k := 2) (ref := "java/util/TreeMap$Entry") dJ4_rotateRight_14 rfl in_J22 tyJ22 tyJ22_ok nmJ22 (by decide) (Or.inl q1158) (Or.inl rfl) (Or.inl rfl) (tyJ22_ok 2 (by decide)) (Or.inl ⟨_, rfl⟩) (fun _ _ _ => rfl),
  k_aload_n dJ4_rotateRight_17,
  k_getR (C := RJ22) (T := TJ22) (N := 6) (ci := 17) (k := 3) (ref := "java/util/TreeMap$Entry") dJ4_rotateRight_18 rfl in_J22 (by decide) q1159 (Or.inl rfl) (fun _ _ _ => rfl),
  k_null (t := 32) dJ4_rotateRight_21 (by decide),
  k_aload_n dJ4_rotateRight_24,
  k_getR (C := RJ22) (T := TJ22) (N := 6) (ci := 17) (k := 3) (ref := "java/util/TreeMap$Entry") dJ4_rotateRight_25 rfl in_J22 (by decide) q1159 (Or.inl rfl) (fun _ _ _ => rfl),
  k_aload_n dJ4_rotateRight_28,
  k_putR (C := RJ22) (T := TJ22) (N := 6) (ci := 17) (k := 4) (ref := "java/util/TreeMap$Entry") dJ4_rotateRight_29 rfl in_J22 tyJ22 tyJ22_ok nmJ22 (by decide) (Or.inl q1161) (Or.inl rfl) (Or.inl rfl) (tyJ22_ok 4 (by decide)) (Or.inl ⟨_, rfl⟩) (fun _ _ _ => rfl),
  k_aload_n dJ4_rotateRight_32,
  k_aload_n dJ4_rotateRight_33,
  k_getR (C := RJ22) (T := TJ22) (N := 6) (ci := 17) (k := 4) (ref := "java/util/TreeMap$Entry") dJ4_rotateRight_34 rfl in_J22 (by decide) q1161 (Or.inl rfl) (fun _ _ _ => rfl),
  k_putR (C := RJ22) (T := TJ22) (N := 6) (ci := 17) (k := 4) (ref := "java/util/TreeMap$Entry") dJ4_rotateRight_37 rfl in_J22 tyJ22 tyJ22_ok nmJ22 (by decide) (Or.inl q1161) (Or.inl rfl) (Or.inl rfl) (tyJ22_ok 4 (by decide)) (Or.inl ⟨_, rfl⟩) (fun _ _ _ => rfl),
  k_aload_n dJ4_rotateRight_40,
  k_getR (C := RJ22) (T := TJ22) (N := 6) (ci := 17) (k := 4) (ref := "java/util/TreeMap$Entry") dJ4_rotateRight_41 rfl in_J22 (by decide) q1161 (Or.inl rfl) (fun _ _ _ => rfl),
  k_nonnull (t := 55) dJ4_rotateRight_44 (by decide),
  k_aload_n dJ4_rotateRight_47,
  k_aload_n dJ4_rotateRight_48,
  k_putR (C := RJ4) (T := TJ4) (N := 9) (ci := 16) (k := 3) (ref := "java/util/TreeMap") dJ4_rotateRight_49 rfl in_J4 tyJ4 tyJ4_ok nmJ4 (by decide) (Or.inl q202) (Or.inl rfl) (Or.inl rfl) (tyJ4_ok 3 (by decide)) (Or.inl ⟨_, rfl⟩) (fun _ _ _ => rfl),
  k_goto (t := 85) dJ4_rotateRight_52 (by decide),
  k_aload_n dJ4_rotateRight_55,
  k_getR (C := RJ22) (T := TJ22) (N := 6) (ci := 17) (k := 4) (ref := "java/util/TreeMap$Entry") dJ4_rotateRight_56 rfl in_J22 (by decide) q1161 (Or.inl rfl) (fun _ _ _ => rfl),
  k_getR (C := RJ22) (T := TJ22) (N := 6) (ci := 17) (k := 3) (ref := "java/util/TreeMap$Entry") dJ4_rotateRight_59 rfl in_J22 (by decide) q1159 (Or.inl rfl) (fun _ _ _ => rfl),
  k_aload_n dJ4_rotateRight_62,
  k_acmpne (t := 77) dJ4_rotateRight_63 (by decide),
  k_aload_n dJ4_rotateRight_66,
  k_getR (C := RJ22) (T := TJ22) (N := 6) (ci := 17) (k := 4) (ref := "java/util/TreeMap$Entry") dJ4_rotateRight_67 rfl in_J22 (by decide) q1161 (Or.inl rfl) (fun _ _ _ => rfl),
  k_aload_n dJ4_rotateRight_70,
  k_putR (C := RJ22) (T := TJ22) (N := 6) (ci := 17) (k := 3) (ref := "java/util/TreeMap$Entry") dJ4_rotateRight_71 rfl in_J22 tyJ22 tyJ22_ok nmJ22 (by decide) (Or.inl q1159) (Or.inl rfl) (Or.inl rfl) (tyJ22_ok 3 (by decide)) (Or.inl ⟨_, rfl⟩) (fun _ _ _ => rfl),
  k_goto (t := 85) dJ4_rotateRight_74 (by decide),
  k_aload_n dJ4_rotateRight_77,
  k_getR (C := RJ22) (T := TJ22) (N := 6) (ci := 17) (k := 4) (ref := "java/util/TreeMap$Entry") dJ4_rotateRight_78 rfl in_J22 (by decide) q1161 (Or.inl rfl) (fun _ _ _ => rfl),
  k_aload_n dJ4_rotateRight_81,
  k_putR (C := RJ22) (T := TJ22) (N := 6) (ci := 17) (k := 2) (ref := "java/util/TreeMap$Entry") dJ4_rotateRight_82 rfl in_J22 tyJ22 tyJ22_ok nmJ22 (by decide) (Or.inl q1158) (Or.inl rfl) (Or.inl rfl) (tyJ22_ok 2 (by decide)) (Or.inl ⟨_, rfl⟩) (fun _ _ _ => rfl),
  k_aload_n dJ4_rotateRight_85,
  k_aload_n dJ4_rotateRight_86,
  k_putR (C := RJ22) (T := TJ22) (N := 6) (ci := 17) (k := 3) (ref := "java/util/TreeMap$Entry") dJ4_rotateRight_87 rfl in_J22 tyJ22 tyJ22_ok nmJ22 (by decide) (Or.inl q1159) (Or.inl rfl) (Or.inl rfl) (tyJ22_ok 3 (by decide)) (Or.inl ⟨_, rfl⟩) (fun _ _ _ => rfl),
  k_aload_n dJ4_rotateRight_90,
  k_aload_n dJ4_rotateRight_91,
  k_putR (C := RJ22) (T := TJ22) (N := 6) (ci := 17) (k := 4) (ref := "java/util/TreeMap$Entry") dJ4_rotateRight_92 rfl in_J22 tyJ22 tyJ22_ok nmJ22 (by decide) (Or.inl q1161) (Or.inl rfl) (Or.inl rfl) (tyJ22_ok 4 (by decide)) (Or.inl ⟨_, rfl⟩) (fun _ _ _ => rfl),
  k_ret dJ4_rotateRight_95, trivial⟩
theorem sndJ4_rotateRight : MSound 1 yJ4_rotateRight (ws_ yJ4_rotateRight cJ4_rotateRight 3 none) mJ4_rotateRight := msound_M (by decide) allJ4_rotateRight (fun _ _ => rfl)
/-! java/util/TreeMap.fixAfterInsertion(Ljava/util/TreeMap$Entry;)V -/
noncomputable def kJ4_fixAfterInsertion : ZM := ([(0, zi_ld 1 1 1), (1, zi_push (zvi 0) 2), (2, zi_putZ 33 5 5), (5, zi_ld 1 1 6), (6, zi_null 258 9), (9, zi_ld 1 1 10), (10, zi_ld 1 0 11), (11, zi_getR 32 3 14), (14, zi_acmp 258 17), (17, zi_ld 1 1 18), (18, zi_getR 33 4 21), (21, zi_getI 33 5 24), (24, zi_if (fun a => zc_ne a 0) 258 27), (27, zi_ld 1 1 28), (28, zi_callS mJ4_parentOf 1 31), (31, zi_ld 1 1 32), (32, zi_callS mJ4_parentOf 1 35), (35, zi_callS mJ4_parentOf 1 38), (38, zi_callS mJ4_leftOf 1 41), (41, zi_acmp 44 151), (44, zi_ld 1 1 45), (45, zi_callS mJ4_parentOf 1 48), (48, zi_callS mJ4_parentOf 1 51), (51, zi_callS mJ4_rightOf 1 54), (54, zi_st 1 2 55), (55, zi_ld 1 2 56), (56, zi_callS mJ4_colorOf 1 59), (59, zi_if (fun a => zc_ne a 0) 97 62), (62, zi_ld 1 1 63), (63, zi_callS mJ4_parentOf 1 66), (66, zi_push (zvi 1) 67), (67, zi_callS mJ4_setColor 2 70), (70, zi_ld 1 2 71), (71, zi_push (zvi 1) 72), (72, zi_callS mJ4_setColor 2 75), (75, zi_ld 1 1 76), (76, zi_callS mJ4_parentOf 1 79), (79, zi_callS mJ4_parentOf 1 82), (82, zi_push (zvi 0) 83), (83, zi_callS mJ4_setColor 2 86), (86, zi_ld 1 1 87), (87, zi_callS mJ4_parentOf 1 90), (90, zi_callS mJ4_parentOf 1 93), (93, zi_st 1 1 94), (94, zi_goto 148), (97, zi_ld 1 1 98), (98, zi_ld 1 1 99), (99, zi_callS mJ4_parentOf 1 102), (102, zi_callS mJ4_rightOf 1 105), (105, zi_acmp 108 118), (108, zi_ld 1 1 109), (109, zi_callS mJ4_parentOf 1 112), (112, zi_st 1 1 113), (113, zi_ld 1 0 114), (114, zi_ld 1 1 115), (115, zi_callV mJ4_rotateLeft 32 2 118), (118, zi_ld 1 1 119), (119, zi_callS mJ4_parentOf 1 122), (122, zi_push (zvi 1) 123), (123, zi_callS mJ4_setColor 2 126), (126, zi_ld 1 1 127), (127, zi_callS mJ4_parentOf 1 130), (130, zi_callS mJ4_parentOf 1 133), (133, zi_push (zvi 0) 134), (134, zi_callS mJ4_setColor 2 137), (137, zi_ld 1 0 138), (138, zi_ld 1 1 139), (139, zi_callS mJ4_parentOf 1 142), (142, zi_callS mJ4_parentOf 1 145), (145, zi_callV mJ4_rotateRight 32 2 148), (148, zi_goto 5), (151, zi_ld 1 1 152), (152, zi_callS mJ4_parentOf 1 155), (155, zi_callS mJ4_parentOf 1 158), (158, zi_callS mJ4_leftOf 1 161), (161, zi_st 1 2 162), (162, zi_ld 1 2 163), (163, zi_callS mJ4_colorOf 1 166), (166, zi_if (fun a => zc_ne a 0) 204 169), (169, zi_ld 1 1 170), (170, zi_callS mJ4_parentOf 1 173), (173, zi_push (zvi 1) 174), (174, zi_callS mJ4_setColor 2 177), (177, zi_ld 1 2 178), (178, zi_push (zvi 1) 179), (179, zi_callS mJ4_setColor 2 182), (182, zi_ld 1 1 183), (183, zi_callS mJ4_parentOf 1 186), (186, zi_callS mJ4_parentOf 1 189), (189, zi_push (zvi 0) 190), (190, zi_callS mJ4_setColor 2 193), (193, zi_ld 1 1 194), (194, zi_callS mJ4_parentOf 1 197), (197, zi_callS mJ4_parentOf 1 200), (200, zi_st 1 1 201), (201, zi_goto 255), (204, zi_ld 1 1 205), (205, zi_ld 1 1 206), (206, zi_callS mJ4_parentOf 1 209), (209, zi_callS mJ4_leftOf 1 212), (212, zi_acmp 215 225), (215, zi_ld 1 1 216), (216, zi_callS mJ4_parentOf 1 219), (219, zi_st 1 1 220), (220, zi_ld 1 0 221), (221, zi_ld 1 1 222), (222, zi_callV mJ4_rotateRight 32 2 225), (225, zi_ld 1 1 226), (226, zi_callS mJ4_parentOf 1 229), (229, zi_push (zvi 1) 230), (230, zi_callS mJ4_setColor 2 233), (233, zi_ld 1 1 234), (234, zi_callS mJ4_parentOf 1 237), (237, zi_callS mJ4_parentOf 1 240), (240, zi_push (zvi 0) 241), (241, zi_callS mJ4_setColor 2 244), (244, zi_ld 1 0 245), (245, zi_ld 1 1 246), (246, zi_callS mJ4_parentOf 1 249), (249, zi_callS mJ4_parentOf 1 252), (252, zi_callV mJ4_rotateLeft 32 2 255), (255, zi_goto 5), (258, zi_ld 1 0 259), (259, zi_getR 32 3 262), (262, zi_push (zvi 1) 263), (263, zi_putZ 33 5 266), (266, zi_ret)], fun _ _ => none)
noncomputable def mJ4_fixAfterInsertion : ZF := zrunM kJ4_fixAfterInsertion 3
theorem enJ4_fixAfterInsertion (x0 : Option Nat) (x1 : Option Nat) (h : PH) : mJ4_fixAfterInsertion [zvr x0, zvr x1] h = zev kJ4_fixAfterInsertion 0 [zvr x0, zvr x1, zvu] [] h := zrunM_eq rfl rfl
theorem hdJ4_fixAfterInsertion_5 (x0 : ZV) (a : Option Nat) (L st : List ZV) (h : PH) : zev kJ4_fixAfterInsertion 5 (x0 :: zvr a :: L) st h = zev kJ4_fixAfterInsertion 6 (x0 :: zvr a :: L) (zvr a :: st) h := e_ld1R (n := 6) rfl
theorem rJ4_fixAfterInsertion : (∀ (x0 : ZV) (a : Option Nat) (L st : List ZV) (h : PH), zev kJ4_fixAfterInsertion 0 (x0 :: zvr a :: L) st h = zev kJ4_fixAfterInsertion 1 (x0 :: zvr a :: L) (zvr a :: st) h) ∧
  (∀ (L st : List ZV) (h : PH), zev kJ4_fixAfterInsertion 1 L st h = zev kJ4_fixAfterInsertion 2 L (zvi 0 :: st) h) ∧
  (∀ (a : Int) (q : Nat) (L st : List ZV) (h : PH), zev kJ4_fixAfterInsertion 2 L (zvi a :: zvr (some q) :: st) h = if (ph_K h q).1 = 33 ∧ (a = 0 ∨ a = 1) then zev kJ4_fixAfterInsertion 5 L st (st_I h q 5 a) else none) ∧
  (∀ (L st : List ZV) (h : PH), zev kJ4_fixAfterInsertion 6 L (zvr none :: st) h = zev kJ4_fixAfterInsertion 258 L st h) ∧
  (∀ (q : Nat) (L st : List ZV) (h : PH), zev kJ4_fixAfterInsertion 6 L (zvr (some q) :: st) h = if (ph_K h q).1 ≠ 0 then zev kJ4_fixAfterInsertion 9 L st h else none) ∧
  (∀ (x0 : ZV) (a : Option Nat) (L st : List ZV) (h : PH), zev kJ4_fixAfterInsertion 9 (x0 :: zvr a :: L) st h = zev kJ4_fixAfterInsertion 10 (x0 :: zvr a :: L) (zvr a :: st) h) ∧
  (∀ (a : Option Nat) (L st : List ZV) (h : PH), zev kJ4_fixAfterInsertion 10 (zvr a :: L) st h = zev kJ4_fixAfterInsertion 11 (zvr a :: L) (zvr a :: st) h) ∧
  (∀ (q : Nat) (L st : List ZV) (h : PH), zev kJ4_fixAfterInsertion 11 L (zvr (some q) :: st) h = if (ph_K h q).1 % 1000 = 32 then zev kJ4_fixAfterInsertion 14 L (zvr (ph_R h q 3) :: st) h else none) ∧
  (∀ (a b : Option Nat) (L st : List ZV) (h : PH), zev kJ4_fixAfterInsertion 14 L (zvr b :: zvr a :: st) h = if zcomp h a b = true then (if a = b then zev kJ4_fixAfterInsertion 258 L st h else zev kJ4_fixAfterInsertion 17 L st h) else none) ∧
  (∀ (x0 : ZV) (a : Option Nat) (L st : List ZV) (h : PH), zev kJ4_fixAfterInsertion 17 (x0 :: zvr a :: L) st h = zev kJ4_fixAfterInsertion 18 (x0 :: zvr a :: L) (zvr a :: st) h) ∧
  (∀ (q : Nat) (L st : List ZV) (h : PH), zev kJ4_fixAfterInsertion 18 L (zvr (some q) :: st) h = if (ph_K h q).1 % 1000 = 33 then zev kJ4_fixAfterInsertion 21 L (zvr (ph_R h q 4) :: st) h else none) ∧
  (∀ (q : Nat) (L st : List ZV) (h : PH), zev kJ4_fixAfterInsertion 21 L (zvr (some q) :: st) h = if (ph_K h q).1 % 1000 = 33 then zev kJ4_fixAfterInsertion 24 L (zvi (ph_I h q 5) :: st) h else none) ∧
  (∀ (a : Int) (L st : List ZV) (h : PH), zev kJ4_fixAfterInsertion 24 L (zvi a :: st) h = if a ≠ 0 then zev kJ4_fixAfterInsertion 258 L st h else zev kJ4_fixAfterInsertion 27 L st h) ∧
  (∀ (x0 : ZV) (a : Option Nat) (L st : List ZV) (h : PH), zev kJ4_fixAfterInsertion 27 (x0 :: zvr a :: L) st h = zev kJ4_fixAfterInsertion 28 (x0 :: zvr a :: L) (zvr a :: st) h) ∧
  (∀ (v0 : ZV) (L st : List ZV) (h : PH), zev kJ4_fixAfterInsertion 28 L (v0 :: st) h = if zcat st ≤ 8 then zk kJ4_fixAfterInsertion 28 31 L st (mJ4_parentOf [v0] h) else none) ∧
  (∀ (x0 : ZV) (a : Option Nat) (L st : List ZV) (h : PH), zev kJ4_fixAfterInsertion 31 (x0 :: zvr a :: L) st h = zev kJ4_fixAfterInsertion 32 (x0 :: zvr a :: L) (zvr a :: st) h) ∧
  (∀ (v0 : ZV) (L st : List ZV) (h : PH), zev kJ4_fixAfterInsertion 32 L (v0 :: st) h = if zcat st ≤ 8 then zk kJ4_fixAfterInsertion 32 35 L st (mJ4_parentOf [v0] h) else none) ∧
  (∀ (v0 : ZV) (L st : List ZV) (h : PH), zev kJ4_fixAfterInsertion 35 L (v0 :: st) h = if zcat st ≤ 8 then zk kJ4_fixAfterInsertion 35 38 L st (mJ4_parentOf [v0] h) else none) ∧
  (∀ (v0 : ZV) (L st : List ZV) (h : PH), zev kJ4_fixAfterInsertion 38 L (v0 :: st) h = if zcat st ≤ 8 then zk kJ4_fixAfterInsertion 38 41 L st (mJ4_leftOf [v0] h) else none) ∧
  (∀ (a b : Option Nat) (L st : List ZV) (h : PH), zev kJ4_fixAfterInsertion 41 L (zvr b :: zvr a :: st) h = if zcomp h a b = true then (if a = b then zev kJ4_fixAfterInsertion 44 L st h else zev kJ4_fixAfterInsertion 151 L st h) else none) ∧
  (∀ (x0 : ZV) (a : Option Nat) (L st : List ZV) (h : PH), zev kJ4_fixAfterInsertion 44 (x0 :: zvr a :: L) st h = zev kJ4_fixAfterInsertion 45 (x0 :: zvr a :: L) (zvr a :: st) h) ∧
  (∀ (v0 : ZV) (L st : List ZV) (h : PH), zev kJ4_fixAfterInsertion 45 L (v0 :: st) h = if zcat st ≤ 8 then zk kJ4_fixAfterInsertion 45 48 L st (mJ4_parentOf [v0] h) else none) ∧
  (∀ (v0 : ZV) (L st : List ZV) (h : PH), zev kJ4_fixAfterInsertion 48 L (v0 :: st) h = if zcat st ≤ 8 then zk kJ4_fixAfterInsertion 48 51 L st (mJ4_parentOf [v0] h) else none) ∧
  (∀ (v0 : ZV) (L st : List ZV) (h : PH), zev kJ4_fixAfterInsertion 51 L (v0 :: st) h = if zcat st ≤ 8 then zk kJ4_fixAfterInsertion 51 54 L st (mJ4_rightOf [v0] h) else none) ∧
  (∀ (x0 x1 x2 : ZV) (a : Option Nat) (L st : List ZV) (h : PH) (hx : zisL x1 = false) , zev kJ4_fixAfterInsertion 54 (x0 :: x1 :: x2 :: L) (zvr a :: st) h = zev kJ4_fixAfterInsertion 55 (x0 :: x1 :: zvr a :: L) st h) ∧
  (∀ (x0 x1 : ZV) (a : Option Nat) (L st : List ZV) (h : PH), zev kJ4_fixAfterInsertion 55 (x0 :: x1 :: zvr a :: L) st h = zev kJ4_fixAfterInsertion 56 (x0 :: x1 :: zvr a :: L) (zvr a :: st) h) ∧
  (∀ (v0 : ZV) (L st : List ZV) (h : PH), zev kJ4_fixAfterInsertion 56 L (v0 :: st) h = if zcat st ≤ 8 then zk kJ4_fixAfterInsertion 56 59 L st (mJ4_colorOf [v0] h) else none) ∧
  (∀ (a : Int) (L st : List ZV) (h : PH), zev kJ4_fixAfterInsertion 59 L (zvi a :: st) h = if a ≠ 0 then zev kJ4_fixAfterInsertion 97 L st h else zev kJ4_fixAfterInsertion 62 L st h) ∧
  (∀ (x0 : ZV) (a : Option Nat) (L st : List ZV) (h : PH), zev kJ4_fixAfterInsertion 62 (x0 :: zvr a :: L) st h = zev kJ4_fixAfterInsertion 63 (x0 :: zvr a :: L) (zvr a :: st) h) ∧
  (∀ (v0 : ZV) (L st : List ZV) (h : PH), zev kJ4_fixAfterInsertion 63 L (v0 :: st) h = if zcat st ≤ 8 then zk kJ4_fixAfterInsertion 63 66 L st (mJ4_parentOf [v0] h) else none) ∧
  (∀ (L st : List ZV) (h : PH), zev kJ4_fixAfterInsertion 66 L st h = zev kJ4_fixAfterInsertion 67 L (zvi 1 :: st) h) ∧
  (∀ (v0 v1 : ZV) (L st : List ZV) (h : PH), zev kJ4_fixAfterInsertion 67 L (v1 :: v0 :: st) h = if zcat st ≤ 8 then zk kJ4_fixAfterInsertion 67 70 L st (mJ4_setColor [v0, v1] h) else none) ∧
  (∀ (x0 x1 : ZV) (a : Option Nat) (L st : List ZV) (h : PH), zev kJ4_fixAfterInsertion 70 (x0 :: x1 :: zvr a :: L) st h = zev kJ4_fixAfterInsertion 71 (x0 :: x1 :: zvr a :: L) (zvr a :: st) h) ∧
  (∀ (L st : List ZV) (h : PH), zev kJ4_fixAfterInsertion 71 L st h = zev kJ4_fixAfterInsertion 72 L (zvi 1 :: st) h) ∧
  (∀ (v0 v1 : ZV) (L st : List ZV) (h : PH), zev kJ4_fixAfterInsertion 72 L (v1 :: v0 :: st) h = if zcat st ≤ 8 then zk kJ4_fixAfterInsertion 72 75 L st (mJ4_setColor [v0, v1] h) else none) ∧
  (∀ (x0 : ZV) (a : Option Nat) (L st : List ZV) (h : PH), zev kJ4_fixAfterInsertion 75 (x0 :: zvr a :: L) st h = zev kJ4_fixAfterInsertion 76 (x0 :: zvr a :: L) (zvr a :: st) h) ∧
  (∀ (v0 : ZV) (L st : List ZV) (h : PH), zev kJ4_fixAfterInsertion 76 L (v0 :: st) h = if zcat st ≤ 8 then zk kJ4_fixAfterInsertion 76 79 L st (mJ4_parentOf [v0] h) else none) ∧
  (∀ (v0 : ZV) (L st : List ZV) (h : PH), zev kJ4_fixAfterInsertion 79 L (v0 :: st) h = if zcat st ≤ 8 then zk kJ4_fixAfterInsertion 79 82 L st (mJ4_parentOf [v0] h) else none) ∧
  (∀ (L st : List ZV) (h : PH), zev kJ4_fixAfterInsertion 82 L st h = zev kJ4_fixAfterInsertion 83 L (zvi 0 :: st) h) ∧
  (∀ (v0 v1 : ZV) (L st : List ZV) (h : PH), zev kJ4_fixAfterInsertion 83 L (v1 :: v0 :: st) h = if zcat st ≤ 8 then zk kJ4_fixAfterInsertion 83 86 L st (mJ4_setColor [v0, v1] h) else none) ∧
  (∀ (x0 : ZV) (a : Option Nat) (L st : List ZV) (h : PH), zev kJ4_fixAfterInsertion 86 (x0 :: zvr a :: L) st h = zev kJ4_fixAfterInsertion 87 (x0 :: zvr a :: L) (zvr a :: st) h) ∧
  (∀ (v0 : ZV) (L st : List ZV) (h : PH), zev kJ4_fixAfterInsertion 87 L (v0 :: st) h = if zcat st ≤ 8 then zk kJ4_fixAfterInsertion 87 90 L st (mJ4_parentOf [v0] h) else none) ∧
  (∀ (v0 : ZV) (L st : List ZV) (h : PH), zev kJ4_fixAfterInsertion 90 L (v0 :: st) h = if zcat st ≤ 8 then zk kJ4_fixAfterInsertion 90 93 L st (mJ4_parentOf [v0] h) else none) ∧
  (∀ (x0 x1 : ZV) (a : Option Nat) (L st : List ZV) (h : PH) (hx : zisL x0 = false) , zev kJ4_fixAfterInsertion 93 (x0 :: x1 :: L) (zvr a :: st) h = zev kJ4_fixAfterInsertion 94 (x0 :: zvr a :: L) st h) ∧
  (∀ (L st : List ZV) (h : PH), zev kJ4_fixAfterInsertion 94 L st h = zev kJ4_fixAfterInsertion 148 L st h) ∧
  (∀ (x0 : ZV) (a : Option Nat) (L st : List ZV) (h : PH), zev kJ4_fixAfterInsertion 97 (x0 :: zvr a :: L) st h = zev kJ4_fixAfterInsertion 98 (x0 :: zvr a :: L) (zvr a :: st) h) ∧
  (∀ (x0 : ZV) (a : Option Nat) (L st : List ZV) (h : PH), zev kJ4_fixAfterInsertion 98 (x0 :: zvr a :: L) st h = zev kJ4_fixAfterInsertion 99 (x0 :: zvr a :: L) (zvr a :: st) h) ∧
  (∀ (v0 : ZV) (L st : List ZV) (h : PH), zev kJ4_fixAfterInsertion 99 L (v0 :: st) h = if zcat st ≤ 8 then zk kJ4_fixAfterInsertion 99 102 L st (mJ4_parentOf [v0] h) else none) ∧
  (∀ (v0 : ZV) (L st : List ZV) (h : PH), zev kJ4_fixAfterInsertion 102 L (v0 :: st) h = if zcat st ≤ 8 then zk kJ4_fixAfterInsertion 102 105 L st (mJ4_rightOf [v0] h) else none) ∧
  (∀ (a b : Option Nat) (L st : List ZV) (h : PH), zev kJ4_fixAfterInsertion 105 L (zvr b :: zvr a :: st) h = if zcomp h a b = true then (if a = b then zev kJ4_fixAfterInsertion 108 L st h else zev kJ4_fixAfterInsertion 118 L st h) else none) ∧
  (∀ (x0 : ZV) (a : Option Nat) (L st : List ZV) (h : PH), zev kJ4_fixAfterInsertion 108 (x0 :: zvr a :: L) st h = zev kJ4_fixAfterInsertion 109 (x0 :: zvr a :: L) (zvr a :: st) h) ∧
  (∀ (v0 : ZV) (L st : List ZV) (h : PH), zev kJ4_fixAfterInsertion 109 L (v0 :: st) h = if zcat st ≤ 8 then zk kJ4_fixAfterInsertion 109 112 L st (mJ4_parentOf [v0] h) else none) ∧
  (∀ (x0 x1 : ZV) (a : Option Nat) (L st : List ZV) (h : PH) (hx : zisL x0 = false) , zev kJ4_fixAfterInsertion 112 (x0 :: x1 :: L) (zvr a :: st) h = zev kJ4_fixAfterInsertion 113 (x0 :: zvr a :: L) st h) ∧
  (∀ (a : Option Nat) (L st : List ZV) (h : PH), zev kJ4_fixAfterInsertion 113 (zvr a :: L) st h = zev kJ4_fixAfterInsertion 114 (zvr a :: L) (zvr a :: st) h) ∧
  (∀ (x0 : ZV) (a : Option Nat) (L st : List ZV) (h : PH), zev kJ4_fixAfterInsertion 114 (x0 :: zvr a :: L) st h = zev kJ4_fixAfterInsertion 115 (x0 :: zvr a :: L) (zvr a :: st) h) ∧
  (∀ (v0 : ZV) (q : Nat) (L st : List ZV) (h : PH), zev kJ4_fixAfterInsertion 115 L (v0 :: zvr (some q) :: st) h = if (ph_K h q).1 % 1000 = 32 ∧ zcat st ≤ 8 then zk kJ4_fixAfterInsertion 115 118 L st (mJ4_rotateLeft [zvr (some q), v0] h) else none) ∧
  (∀ (x0 : ZV) (a : Option Nat) (L st : List ZV) (h : PH), zev kJ4_fixAfterInsertion 118 (x0 :: zvr a :: L) st h = zev kJ4_fixAfterInsertion 119 (x0 :: zvr a :: L) (zvr a :: st) h) ∧
  (∀ (v0 : ZV) (L st : List ZV) (h : PH), zev kJ4_fixAfterInsertion 119 L (v0 :: st) h = if zcat st ≤ 8 then zk kJ4_fixAfterInsertion 119 122 L st (mJ4_parentOf [v0] h) else none) ∧
  (∀ (L st : List ZV) (h : PH), zev kJ4_fixAfterInsertion 122 L st h = zev kJ4_fixAfterInsertion 123 L (zvi 1 :: st) h) ∧
  (∀ (v0 v1 : ZV) (L st : List ZV) (h : PH), zev kJ4_fixAfterInsertion 123 L (v1 :: v0 :: st) h = if zcat st ≤ 8 then zk kJ4_fixAfterInsertion 123 126 L st (mJ4_setColor [v0, v1] h) else none) ∧
  (∀ (x0 : ZV) (a : Option Nat) (L st : List ZV) (h : PH), zev kJ4_fixAfterInsertion 126 (x0 :: zvr a :: L) st h = zev kJ4_fixAfterInsertion 127 (x0 :: zvr a :: L) (zvr a :: st) h) ∧
  (∀ (v0 : ZV) (L st : List ZV) (h : PH), zev kJ4_fixAfterInsertion 127 L (v0 :: st) h = if zcat st ≤ 8 then zk kJ4_fixAfterInsertion 127 130 L st (mJ4_parentOf [v0] h) else none) ∧
  (∀ (v0 : ZV) (L st : List ZV) (h : PH), zev kJ4_fixAfterInsertion 130 L (v0 :: st) h = if zcat st ≤ 8 then zk kJ4_fixAfterInsertion 130 133 L st (mJ4_parentOf [v0] h) else none) ∧
  (∀ (L st : List ZV) (h : PH), zev kJ4_fixAfterInsertion 133 L st h = zev kJ4_fixAfterInsertion 134 L (zvi 0 :: st) h) ∧
  (∀ (v0 v1 : ZV) (L st : List ZV) (h : PH), zev kJ4_fixAfterInsertion 134 L (v1 :: v0 :: st) h = if zcat st ≤ 8 then zk kJ4_fixAfterInsertion 134 137 L st (mJ4_setColor [v0, v1] h) else none) ∧
  (∀ (a : Option Nat) (L st : List ZV) (h : PH), zev kJ4_fixAfterInsertion 137 (zvr a :: L) st h = zev kJ4_fixAfterInsertion 138 (zvr a :: L) (zvr a :: st) h) ∧
  (∀ (x0 : ZV) (a : Option Nat) (L st : List ZV) (h : PH), zev kJ4_fixAfterInsertion 138 (x0 :: zvr a :: L) st h = zev kJ4_fixAfterInsertion 139 (x0 :: zvr a :: L) (zvr a :: st) h) ∧
  (∀ (v0 : ZV) (L st : List ZV) (h : PH), zev kJ4_fixAfterInsertion 139 L (v0 :: st) h = if zcat st ≤ 8 then zk kJ4_fixAfterInsertion 139 142 L st (mJ4_parentOf [v0] h) else none) ∧
  (∀ (v0 : ZV) (L st : List ZV) (h : PH), zev kJ4_fixAfterInsertion 142 L (v0 :: st) h = if zcat st ≤ 8 then zk kJ4_fixAfterInsertion 142 145 L st (mJ4_parentOf [v0] h) else none) ∧
  (∀ (v0 : ZV) (q : Nat) (L st : List ZV) (h : PH), zev kJ4_fixAfterInsertion 145 L (v0 :: zvr (some q) :: st) h = if (ph_K h q).1 % 1000 = 32 ∧ zcat st ≤ 8 then zk kJ4_fixAfterInsertion 145 148 L st (mJ4_rotateRight [zvr (some q), v0] h) else none) ∧
  (∀ (L st : List ZV) (h : PH), zev kJ4_fixAfterInsertion 148 L st h = zev kJ4_fixAfterInsertion 5 L st h) ∧
  (∀ (x0 : ZV) (a : Option Nat) (L st : List ZV) (h : PH), zev kJ4_fixAfterInsertion 151 (x0 :: zvr a :: L) st h = zev kJ4_fixAfterInsertion 152 (x0 :: zvr a :: L) (zvr a :: st) h) ∧
  (∀ (v0 : ZV) (L st : List ZV) (h : PH), zev kJ4_fixAfterInsertion 152 L (v0 :: st) h = if zcat st ≤ 8 then zk kJ4_fixAfterInsertion 152 155 L st (mJ4_parentOf [v0] h) else none) ∧
  (∀ (v0 : ZV) (L st : List ZV) (h : PH), zev kJ4_fixAfterInsertion 155 L (v0 :: st) h = if zcat st ≤ 8 then zk kJ4_fixAfterInsertion 155 158 L st (mJ4_parentOf [v0] h) else none) ∧
  (∀ (v0 : ZV) (L st : List ZV) (h : PH), zev kJ4_fixAfterInsertion 158 L (v0 :: st) h = if zcat st ≤ 8 then zk kJ4_fixAfterInsertion 158 161 L st (mJ4_leftOf [v0] h) else none) ∧
  (∀ (x0 x1 x2 : ZV) (a : Option Nat) (L st : List ZV) (h : PH) (hx : zisL x1 = false) , zev kJ4_fixAfterInsertion 161 (x0 :: x1 :: x2 :: L) (zvr a :: st) h = zev kJ4_fixAfterInsertion 162 (x0 :: x1 :: zvr a :: L) st h) ∧
  (∀ (x0 x1 : ZV) (a : Option Nat) (L st : List ZV) (h : PH), zev kJ4_fixAfterInsertion 162 (x0 :: x1 :: zvr a :: L) st h = zev kJ4_fixAfterInsertion 163 (x0 :: x1 :: zvr a :: L) (zvr a :: st) h) ∧
  (∀ (v0 : ZV) (L st : List ZV) (h : PH), zev kJ4_fixAfterInsertion 163 L (v0 :: st) h = if zcat st ≤ 8 then zk kJ4_fixAfterInsertion 163 166 L st (mJ4_colorOf [v0] h) else none) ∧
  (∀ (a : Int) (L st : List ZV) (h : PH), zev kJ4_fixAfterInsertion 166 L (zvi a :: st) h = if a ≠ 0 then zev kJ4_fixAfterInsertion 204 L st h else zev kJ4_fixAfterInsertion 169 L st h) ∧
  (∀ (x0 : ZV) (a : Option Nat) (L st : List ZV) (h : PH), zev kJ4_fixAfterInsertion 169 (x0 :: zvr a :: L) st h = zev kJ4_fixAfterInsertion 170 (x0 :: zvr a :: L) (zvr a :: st) h) ∧
  (∀ (v0 : ZV) (L st : List ZV) (h : PH), zev kJ4_fixAfterInsertion 170 L (v0 :: st) h = if zcat st ≤ 8 then zk kJ4_fixAfterInsertion 170 173 L st (mJ4_parentOf [v0] h) else none) ∧
  (∀ (L st : List ZV) (h : PH), zev kJ4_fixAfterInsertion 173 L st h = zev kJ4_fixAfterInsertion 174 L (zvi 1 :: st) h) ∧
  (∀ (v0 v1 : ZV) (L st : List ZV) (h : PH), zev kJ4_fixAfterInsertion 174 L (v1 :: v0 :: st) h = if zcat st ≤ 8 then zk kJ4_fixAfterInsertion 174 177 L st (mJ4_setColor [v0, v1] h) else none) ∧
  (∀ (x0 x1 : ZV) (a : Option Nat) (L st : List ZV) (h : PH), zev kJ4_fixAfterInsertion 177 (x0 :: x1 :: zvr a :: L) st h = zev kJ4_fixAfterInsertion 178 (x0 :: x1 :: zvr a :: L) (zvr a :: st) h) ∧
  (∀ (L st : List ZV) (h : PH), zev kJ4_fixAfterInsertion 178 L st h = zev kJ4_fixAfterInsertion 179 L (zvi 1 :: st) h) ∧
  (∀ (v0 v1 : ZV) (L st : List ZV) (h : PH), zev kJ4_fixAfterInsertion 179 L (v1 :: v0 :: st) h = if zcat st ≤ 8 then zk kJ4_fixAfterInsertion 179 182 L st (mJ4_setColor [v0, v1] h) else none) ∧
  (∀ (x0 : ZV) (a : Option Nat) (L st : List ZV) (h : PH), zev kJ4_fixAfterInsertion 182 (x0 :: zvr a :: L) st h = zev kJ4_fixAfterInsertion 183 (x0 :: zvr a :: L) (zvr a :: st) h) ∧
  (∀ (v0 : ZV) (L st : List ZV) (h : PH), zev kJ4_fixAfterInsertion 183 L (v0 :: st) h = if zcat st ≤ 8 then zk kJ4_fixAfterInsertion 183 186 L st (mJ4_parentOf [v0] h) else none) ∧
  (∀ (v0 : ZV) (L st : List ZV) (h : PH), zev kJ4_fixAfterInsertion 186 L (v0 :: st) h = if zcat st ≤ 8 then zk kJ4_fixAfterInsertion 186 189 L st (mJ4_parentOf [v0] h) else none) ∧
  (∀ (L st : List ZV) (h : PH), zev kJ4_fixAfterInsertion 189 L st h = zev kJ4_fixAfterInsertion 190 L (zvi 0 :: st) h) ∧
  (∀ (v0 v1 : ZV) (L st : List ZV) (h : PH), zev kJ4_fixAfterInsertion 190 L (v1 :: v0 :: st) h = if zcat st ≤ 8 then zk kJ4_fixAfterInsertion 190 193 L st (mJ4_setColor [v0, v1] h) else none) ∧
  (∀ (x0 : ZV) (a : Option Nat) (L st : List ZV) (h : PH), zev kJ4_fixAfterInsertion 193 (x0 :: zvr a :: L) st h = zev kJ4_fixAfterInsertion 194 (x0 :: zvr a :: L) (zvr a :: st) h) ∧
  (∀ (v0 : ZV) (L st : List ZV) (h : PH), zev kJ4_fixAfterInsertion 194 L (v0 :: st) h = if zcat st ≤ 8 then zk kJ4_fixAfterInsertion 194 197 L st (mJ4_parentOf [v0] h) else none) ∧
  (∀ (v0 : ZV) (L st : List ZV) (h : PH), zev kJ4_fixAfterInsertion 197 L (v0 :: st) h = if zcat st ≤ 8 then zk kJ4_fixAfterInsertion 197 200 L st (mJ4_parentOf [v0] h) else none) ∧
  (∀ (x0 x1 : ZV) (a : Option Nat) (L st : List ZV) (h : PH) (hx : zisL x0 = false) , zev kJ4_fixAfterInsertion 200 (x0 :: x1 :: L) (zvr a :: st) h = zev kJ4_fixAfterInsertion 201 (x0 :: zvr a :: L) st h) ∧
  (∀ (L st : List ZV) (h : PH), zev kJ4_fixAfterInsertion 201 L st h = zev kJ4_fixAfterInsertion 255 L st h) ∧
  (∀ (x0 : ZV) (a : Option Nat) (L st : List ZV) (h : PH), zev kJ4_fixAfterInsertion 204 (x0 :: zvr a :: L) st h = zev kJ4_fixAfterInsertion 205 (x0 :: zvr a :: L) (zvr a :: st) h) ∧
  (∀ (x0 : ZV) (a : Option Nat) (L st : List ZV) (h : PH), zev kJ4_fixAfterInsertion 205 (x0 :: zvr a :: L) st h = zev kJ4_fixAfterInsertion 206 (x0 :: zvr a :: L) (zvr a :: st) h) ∧
  (∀ (v0 : ZV) (L st : List ZV) (h : PH), zev kJ4_fixAfterInsertion 206 L (v0 :: st) h = if zcat st ≤ 8 then zk kJ4_fixAfterInsertion 206 209 L st (mJ4_parentOf [v0] h) else none) ∧
  (∀ (v0 : ZV) (L st : List ZV) (h : PH), zev kJ4_fixAfterInsertion 209 L (v0 :: st) h = if zcat st ≤ 8 then zk kJ4_fixAfterInsertion 209 212 L st (mJ4_leftOf [v0] h) else none) ∧
  (∀ (a b : Option Nat) (L st : List ZV) (h : PH), zev kJ4_fixAfterInsertion 212 L (zvr b :: zvr a :: st) h = if zcomp h a b = true then (if a = b then zev kJ4_fixAfterInsertion 215 L st h else zev kJ4_fixAfterInsertion 225 L st h) else none) ∧
  (∀ (x0 : ZV) (a : Option Nat) (L st : List ZV) (h : PH), zev kJ4_fixAfterInsertion 215 (x0 :: zvr a :: L) st h = zev kJ4_fixAfterInsertion 216 (x0 :: zvr a :: L) (zvr a :: st) h) ∧
  (∀ (v0 : ZV) (L st : List ZV) (h : PH), zev kJ4_fixAfterInsertion 216 L (v0 :: st) h = if zcat st ≤ 8 then zk kJ4_fixAfterInsertion 216 219 L st (mJ4_parentOf [v0] h) else none) ∧
  (∀ (x0 x1 : ZV) (a : Option Nat) (L st : List ZV) (h : PH) (hx : zisL x0 = false) , zev kJ4_fixAfterInsertion 219 (x0 :: x1 :: L) (zvr a :: st) h = zev kJ4_fixAfterInsertion 220 (x0 :: zvr a :: L) st h) ∧
  (∀ (a : Option Nat) (L st : List ZV) (h : PH), zev kJ4_fixAfterInsertion 220 (zvr a :: L) st h = zev kJ4_fixAfterInsertion 221 (zvr a :: L) (zvr a :: st) h) ∧
  (∀ (x0 : ZV) (a : Option Nat) (L st : List ZV) (h : PH), zev kJ4_fixAfterInsertion 221 (x0 :: zvr a :: L) st h = zev kJ4_fixAfterInsertion 222 (x0 :: zvr a :: L) (zvr a :: st) h) ∧
  (∀ (v0 : ZV) (q : Nat) (L st : List ZV) (h : PH), zev kJ4_fixAfterInsertion 222 L (v0 :: zvr (some q) :: st) h = if (ph_K h q).1 % 1000 = 32 ∧ zcat st ≤ 8 then zk kJ4_fixAfterInsertion 222 225 L st (mJ4_rotateRight [zvr (some q), v0] h) else none) ∧
  (∀ (x0 : ZV) (a : Option Nat) (L st : List ZV) (h : PH), zev kJ4_fixAfterInsertion 225 (x0 :: zvr a :: L) st h = zev kJ4_fixAfterInsertion 226 (x0 :: zvr a :: L) (zvr a :: st) h) ∧
  (∀ (v0 : ZV) (L st : List ZV) (h : PH), zev kJ4_fixAfterInsertion 226 L (v0 :: st) h = if zcat st ≤ 8 then zk kJ4_fixAfterInsertion 226 229 L st (mJ4_parentOf [v0] h) else none) ∧
  (∀ (L st : List ZV) (h : PH), zev kJ4_fixAfterInsertion 229 L st h = zev kJ4_fixAfterInsertion 230 L (zvi 1 :: st) h) ∧
  (∀ (v0 v1 : ZV) (L st : List ZV) (h : PH), zev kJ4_fixAfterInsertion 230 L (v1 :: v0 :: st) h = if zcat st ≤ 8 then zk kJ4_fixAfterInsertion 230 233 L st (mJ4_setColor [v0, v1] h) else none) ∧
  (∀ (x0 : ZV) (a : Option Nat) (L st : List ZV) (h : PH), zev kJ4_fixAfterInsertion 233 (x0 :: zvr a :: L) st h = zev kJ4_fixAfterInsertion 234 (x0 :: zvr a :: L) (zvr a :: st) h) ∧
  (∀ (v0 : ZV) (L st : List ZV) (h : PH), zev kJ4_fixAfterInsertion 234 L (v0 :: st) h = if zcat st ≤ 8 then zk kJ4_fixAfterInsertion 234 237 L st (mJ4_parentOf [v0] h) else none) ∧
  (∀ (v0 : ZV) (L st : List ZV) (h : PH), zev kJ4_fixAfterInsertion 237 L (v0 :: st) h = if zcat st ≤ 8 then zk kJ4_fixAfterInsertion 237 240 L st (mJ4_parentOf [v0] h) else none) ∧
  (∀ (L st : List ZV) (h : PH), zev kJ4_fixAfterInsertion 240 L st h = zev kJ4_fixAfterInsertion 241 L (zvi 0 :: st) h) ∧
  (∀ (v0 v1 : ZV) (L st : List ZV) (h : PH), zev kJ4_fixAfterInsertion 241 L (v1 :: v0 :: st) h = if zcat st ≤ 8 then zk kJ4_fixAfterInsertion 241 244 L st (mJ4_setColor [v0, v1] h) else none) ∧
  (∀ (a : Option Nat) (L st : List ZV) (h : PH), zev kJ4_fixAfterInsertion 244 (zvr a :: L) st h = zev kJ4_fixAfterInsertion 245 (zvr a :: L) (zvr a :: st) h) ∧
  (∀ (x0 : ZV) (a : Option Nat) (L st : List ZV) (h : PH), zev kJ4_fixAfterInsertion 245 (x0 :: zvr a :: L) st h = zev kJ4_fixAfterInsertion 246 (x0 :: zvr a :: L) (zvr a :: st) h) ∧
  (∀ (v0 : ZV) (L st : List ZV) (h : PH), zev kJ4_fixAfterInsertion 246 L (v0 :: st) h = if zcat st ≤ 8 then zk kJ4_fixAfterInsertion 246 249 L st (mJ4_parentOf [v0] h) else none) ∧
  (∀ (v0 : ZV) (L st : List ZV) (h : PH), zev kJ4_fixAfterInsertion 249 L (v0 :: st) h = if zcat st ≤ 8 then zk kJ4_fixAfterInsertion 249 252 L st (mJ4_parentOf [v0] h) else none) ∧
  (∀ (v0 : ZV) (q : Nat) (L st : List ZV) (h : PH), zev kJ4_fixAfterInsertion 252 L (v0 :: zvr (some q) :: st) h = if (ph_K h q).1 % 1000 = 32 ∧ zcat st ≤ 8 then zk kJ4_fixAfterInsertion 252 255 L st (mJ4_rotateLeft [zvr (some q), v0] h) else none) ∧
  (∀ (L st : List ZV) (h : PH), zev kJ4_fixAfterInsertion 255 L st h = zev kJ4_fixAfterInsertion 5 L st h) ∧
  (∀ (a : Option Nat) (L st : List ZV) (h : PH), zev kJ4_fixAfterInsertion 258 (zvr a :: L) st h = zev kJ4_fixAfterInsertion 259 (zvr a :: L) (zvr a :: st) h) ∧
  (∀ (q : Nat) (L st : List ZV) (h : PH), zev kJ4_fixAfterInsertion 259 L (zvr (some q) :: st) h = if (ph_K h q).1 % 1000 = 32 then zev kJ4_fixAfterInsertion 262 L (zvr (ph_R h q 3) :: st) h else none) ∧
  (∀ (L st : List ZV) (h : PH), zev kJ4_fixAfterInsertion 262 L st h = zev kJ4_fixAfterInsertion 263 L (zvi 1 :: st) h) ∧
  (∀ (a : Int) (q : Nat) (L st : List ZV) (h : PH), zev kJ4_fixAfterInsertion 263 L (zvi a :: zvr (some q) :: st) h = if (ph_K h q).1 = 33 ∧ (a = 0 ∨ a = 1) then zev kJ4_fixAfterInsertion 266 L st (st_I h q 5 a) else none) ∧
  (∀ (L : List ZV) (h : PH), zev kJ4_fixAfterInsertion 266 L [] h = zr0 h) :=
  ⟨fun x0 a L st h => e_ld1R (n := 1) rfl,
  fun L st h => e_push (v := zvi 0) (n := 2) rfl,
  fun a q L st h => e_putZ (kd := 33) (k := 5) (n := 5) rfl,
  fun L st h => e_null0 (t := 258) (n := 9) rfl,
  fun q L st h => e_null1 (t := 258) (n := 9) rfl,
  fun x0 a L st h => e_ld1R (n := 10) rfl,
  fun a L st h => e_ld0R (n := 11) rfl,
  fun q L st h => e_getR (kd := 32) (k := 3) (n := 14) rfl,
  fun a b L st h => e_acmp (t := 258) (n := 17) rfl,
  fun x0 a L st h => e_ld1R (n := 18) rfl,
  fun q L st h => e_getR (kd := 33) (k := 4) (n := 21) rfl,
  fun q L st h => e_getI (kd := 33) (k := 5) (n := 24) rfl,
  fun a L st h => e_ifne (t := 258) (n := 27) rfl,
  fun x0 a L st h => e_ld1R (n := 28) rfl,
  fun v0 L st h => e_callS1 (F := mJ4_parentOf) (n := 31) rfl,
  fun x0 a L st h => e_ld1R (n := 32) rfl,
  fun v0 L st h => e_callS1 (F := mJ4_parentOf) (n := 35) rfl,
  fun v0 L st h => e_callS1 (F := mJ4_parentOf) (n := 38) rfl,
  fun v0 L st h => e_callS1 (F := mJ4_leftOf) (n := 41) rfl,
  fun a b L st h => e_acmp (t := 44) (n := 151) rfl,
  fun x0 a L st h => e_ld1R (n := 45) rfl,
  fun v0 L st h => e_callS1 (F := mJ4_parentOf) (n := 48) rfl,
  fun v0 L st h => e_callS1 (F := mJ4_parentOf) (n := 51) rfl,
  fun v0 L st h => e_callS1 (F := mJ4_rightOf) (n := 54) rfl,
  fun x0 x1 x2 a L st h hx => e_st2R (n := 55) rfl hx,
  fun x0 x1 a L st h => e_ld2R (n := 56) rfl,
  fun v0 L st h => e_callS1 (F := mJ4_colorOf) (n := 59) rfl,
  fun a L st h => e_ifne (t := 97) (n := 62) rfl,
  fun x0 a L st h => e_ld1R (n := 63) rfl,
  fun v0 L st h => e_callS1 (F := mJ4_parentOf) (n := 66) rfl,
  fun L st h => e_push (v := zvi 1) (n := 67) rfl,
  fun v0 v1 L st h => e_callS2 (F := mJ4_setColor) (n := 70) rfl,
  fun x0 x1 a L st h => e_ld2R (n := 71) rfl,
  fun L st h => e_push (v := zvi 1) (n := 72) rfl,
  fun v0 v1 L st h => e_callS2 (F := mJ4_setColor) (n := 75) rfl,
  fun x0 a L st h => e_ld1R (n := 76) rfl,
  fun v0 L st h => e_callS1 (F := mJ4_parentOf) (n := 79) rfl,
  fun v0 L st h => e_callS1 (F := mJ4_parentOf) (n := 82) rfl,
  fun L st h => e_push (v := zvi 0) (n := 83) rfl,
  fun v0 v1 L st h => e_callS2 (F := mJ4_setColor) (n := 86) rfl,
  fun x0 a L st h => e_ld1R (n := 87) rfl,
  fun v0 L st h => e_callS1 (F := mJ4_parentOf) (n := 90) rfl,
  fun v0 L st h => e_callS1 (F := mJ4_parentOf) (n := 93) rfl,
  fun x0 x1 a L st h hx => e_st1R (n := 94) rfl hx,
  fun L st h => e_goto (t := 148) rfl,
  fun x0 a L st h => e_ld1R (n := 98) rfl,
  fun x0 a L st h => e_ld1R (n := 99) rfl,
  fun v0 L st h => e_callS1 (F := mJ4_parentOf) (n := 102) rfl,
  fun v0 L st h => e_callS1 (F := mJ4_rightOf) (n := 105) rfl,
  fun a b L st h => e_acmp (t := 108) (n := 118) rfl,
  fun x0 a L st h => e_ld1R (n := 109) rfl,
  fun v0 L st h => e_callS1 (F := mJ4_parentOf) (n := 112) rfl,
  fun x0 x1 a L st h hx => e_st1R (n := 113) rfl hx,
  fun a L st h => e_ld0R (n := 114) rfl,
  fun x0 a L st h => e_ld1R (n := 115) rfl,
  fun v0 q L st h => e_callV2 (F := mJ4_rotateLeft) (kd := 32) (n := 118) rfl,
  fun x0 a L st h => e_ld1R (n := 119) rfl,
  fun v0 L st h => e_callS1 (F := mJ4_parentOf) (n := 122) rfl,
  fun L st h => e_push (v := zvi 1) (n := 123) rfl,
  fun v0 v1 L st h => e_callS2 (F := mJ4_setColor) (n := 126) rfl,
  fun x0 a L st h => e_ld1R (n := 127) rfl,
  fun v0 L st h => e_callS1 (F := mJ4_parentOf) (n := 130) rfl,
  fun v0 L st h => e_callS1 (F := mJ4_parentOf) (n := 133) rfl,
  fun L st h => e_push (v := zvi 0) (n := 134) rfl,
  fun v0 v1 L st h => e_callS2 (F := mJ4_setColor) (n := 137) rfl,
  fun a L st h => e_ld0R (n := 138) rfl,
  fun x0 a L st h => e_ld1R (n := 139) rfl,
  fun v0 L st h => e_callS1 (F := mJ4_parentOf) (n := 142) rfl,
  fun v0 L st h => e_callS1 (F := mJ4_parentOf) (n := 145) rfl,
  fun v0 q L st h => e_callV2 (F := mJ4_rotateRight) (kd := 32) (n := 148) rfl,
  fun L st h => e_goto (t := 5) rfl,
  fun x0 a L st h => e_ld1R (n := 152) rfl,
  fun v0 L st h => e_callS1 (F := mJ4_parentOf) (n := 155) rfl,
  fun v0 L st h => e_callS1 (F := mJ4_parentOf) (n := 158) rfl,
  fun v0 L st h => e_callS1 (F := mJ4_leftOf) (n := 161) rfl,
  fun x0 x1 x2 a L st h hx => e_st2R (n := 162) rfl hx,
  fun x0 x1 a L st h => e_ld2R (n := 163) rfl,
  fun v0 L st h => e_callS1 (F := mJ4_colorOf) (n := 166) rfl,
  fun a L st h => e_ifne (t := 204) (n := 169) rfl,
  fun x0 a L st h => e_ld1R (n := 170) rfl,
  fun v0 L st h => e_callS1 (F := mJ4_parentOf) (n := 173) rfl,
  fun L st h => e_push (v := zvi 1) (n := 174) rfl,
  fun v0 v1 L st h => e_callS2 (F := mJ4_setColor) (n := 177) rfl,
  fun x0 x1 a L st h => e_ld2R (n := 178) rfl,
  fun L st h => e_push (v := zvi 1) (n := 179) rfl,
  fun v0 v1 L st h => e_callS2 (F := mJ4_setColor) (n := 182) rfl,
  fun x0 a L st h => e_ld1R (n := 183) rfl,
  fun v0 L st h => e_callS1 (F := mJ4_parentOf) (n := 186) rfl,
  fun v0 L st h => e_callS1 (F := mJ4_parentOf) (n := 189) rfl,
  fun L st h => e_push (v := zvi 0) (n := 190) rfl,
  fun v0 v1 L st h => e_callS2 (F := mJ4_setColor) (n := 193) rfl,
  fun x0 a L st h => e_ld1R (n := 194) rfl,
  fun v0 L st h => e_callS1 (F := mJ4_parentOf) (n := 197) rfl,
  fun v0 L st h => e_callS1 (F := mJ4_parentOf) (n := 200) rfl,
  fun x0 x1 a L st h hx => e_st1R (n := 201) rfl hx,
  fun L st h => e_goto (t := 255) rfl,
  fun x0 a L st h => e_ld1R (n := 205) rfl,
  fun x0 a L st h => e_ld1R (n := 206) rfl,
  fun v0 L st h => e_callS1 (F := mJ4_parentOf) (n := 209) rfl,
  fun v0 L st h => e_callS1 (F := mJ4_leftOf) (n := 212) rfl,
  fun a b L st h => e_acmp (t := 215) (n := 225) rfl,
  fun x0 a L st h => e_ld1R (n := 216) rfl,
  fun v0 L st h => e_callS1 (F := mJ4_parentOf) (n := 219) rfl,
  fun x0 x1 a L st h hx => e_st1R (n := 220) rfl hx,
  fun a L st h => e_ld0R (n := 221) rfl,
  fun x0 a L st h => e_ld1R (n := 222) rfl,
  fun v0 q L st h => e_callV2 (F := mJ4_rotateRight) (kd := 32) (n := 225) rfl,
  fun x0 a L st h => e_ld1R (n := 226) rfl,
  fun v0 L st h => e_callS1 (F := mJ4_parentOf) (n := 229) rfl,
  fun L st h => e_push (v := zvi 1) (n := 230) rfl,
  fun v0 v1 L st h => e_callS2 (F := mJ4_setColor) (n := 233) rfl,
  fun x0 a L st h => e_ld1R (n := 234) rfl,
  fun v0 L st h => e_callS1 (F := mJ4_parentOf) (n := 237) rfl,
  fun v0 L st h => e_callS1 (F := mJ4_parentOf) (n := 240) rfl,
  fun L st h => e_push (v := zvi 0) (n := 241) rfl,
  fun v0 v1 L st h => e_callS2 (F := mJ4_setColor) (n := 244) rfl,
  fun a L st h => e_ld0R (n := 245) rfl,
  fun x0 a L st h => e_ld1R (n := 246) rfl,
  fun v0 L st h => e_callS1 (F := mJ4_parentOf) (n := 249) rfl,
  fun v0 L st h => e_callS1 (F := mJ4_parentOf) (n := 252) rfl,
  fun v0 q L st h => e_callV2 (F := mJ4_rotateLeft) (kd := 32) (n := 255) rfl,
  fun L st h => e_goto (t := 5) rfl,
  fun a L st h => e_ld0R (n := 259) rfl,
  fun q L st h => e_getR (kd := 32) (k := 3) (n := 262) rfl,
  fun L st h => e_push (v := zvi 1) (n := 263) rfl,
  fun a q L st h => e_putZ (kd := 33) (k := 5) (n := 266) rfl,
  fun L h => e_ret rfl⟩
theorem allJ4_fixAfterInsertion : zall yJ4_fixAfterInsertion cJ4_fixAfterInsertion 3 none 2 kJ4_fixAfterInsertion.1 :=
  ⟨k_aload_n dJ4_fixAfterInsertion_0,
  k_iconst dJ4_fixAfterInsertion_1,
  k_putZ (C := RJ22) (T := TJ22) (N := 6) (ci := 17) (k := 5) (ref := "java/util/TreeMap$Entry") dJ4_fixAfterInsertion_2 rfl in_J22 tyJ22 tyJ22_ok nmJ22 (by decide) (Or.inl q1163) (Or.inl rfl) (Or.inl rfl) (tyJ22_ok 5 (by decide)) (fun _ _ _ => rfl),
  k_aload_n dJ4_fixAfterInsertion_5,
  k_null (t := 258) dJ4_fixAfterInsertion_6 (by decide),
  k_aload_n dJ4_fixAfterInsertion_9,
  k_aload_n dJ4_fixAfterInsertion_10,
  k_getR (C := RJ4) (T := TJ4) (N := 9) (ci := 16) (k := 3) (ref := "java/util/TreeMap") dJ4_fixAfterInsertion_11 rfl in_J4 (by decide) q202 (Or.inl rfl) (fun _ _ _ => rfl),
  k_acmpeq (t := 258) dJ4_fixAfterInsertion_14 (by decide),
  k_aload_n dJ4_fixAfterInsertion_17,
  k_getR (C := RJ22) (T := TJ22) (N := 6) (ci := 17) (k := 4) (ref := "java/util/TreeMap$Entry") dJ4_fixAfterInsertion_18 rfl in_J22 (by decide) q1161 (Or.inl rfl) (fun _ _ _ => rfl),
  k_getI (C := RJ22) (T := TJ22) (N := 6) (ci := 17) (k := 5) (ref := "java/util/TreeMap$Entry") dJ4_fixAfterInsertion_21 rfl in_J22 (by decide) q1163 (Or.inl rfl) (fun _ _ _ => rfl),
  k_ifne (t := 258) dJ4_fixAfterInsertion_24 (by decide),
  k_aload_n dJ4_fixAfterInsertion_27,
  k_callS (y2 := yJ4_parentOf) dJ4_fixAfterInsertion_28 sndJ4_parentOf q1188 q1189 q134 q1190 (by decide +kernel) ⟨by decide, by decide⟩ (by decide) (by decide),
  k_aload_n dJ4_fixAfterInsertion_31,
  k_callS (y2 := yJ4_parentOf) dJ4_fixAfterInsertion_32 sndJ4_parentOf q1188 q1189 q134 q1190 (by decide +kernel) ⟨by decide, by decide⟩ (by decide) (by decide),
  k_callS (y2 := yJ4_parentOf) dJ4_fixAfterInsertion_35 sndJ4_parentOf q1188 q1189 q134 q1190 (by decide +kernel) ⟨by decide, by decide⟩ (by decide) (by decide),
  k_callS (y2 := yJ4_leftOf) dJ4_fixAfterInsertion_38 sndJ4_leftOf q1191 q1192 q134 q1193 (by decide +kernel) ⟨by decide, by decide⟩ (by decide) (by decide),
  k_acmpne (t := 151) dJ4_fixAfterInsertion_41 (by decide),
  k_aload_n dJ4_fixAfterInsertion_44,
  k_callS (y2 := yJ4_parentOf) dJ4_fixAfterInsertion_45 sndJ4_parentOf q1188 q1189 q134 q1190 (by decide +kernel) ⟨by decide, by decide⟩ (by decide) (by decide),
  k_callS (y2 := yJ4_parentOf) dJ4_fixAfterInsertion_48 sndJ4_parentOf q1188 q1189 q134 q1190 (by decide +kernel) ⟨by decide, by decide⟩ (by decide) (by decide),
  k_callS (y2 := yJ4_rightOf) dJ4_fixAfterInsertion_51 sndJ4_rightOf q1194 q1195 q134 q1196 (by decide +kernel) ⟨by decide, by decide⟩ (by decide) (by decide),
  k_astore_n dJ4_fixAfterInsertion_54,
  k_aload_n dJ4_fixAfterInsertion_55,
  k_callS (y2 := yJ4_colorOf) dJ4_fixAfterInsertion_56 sndJ4_colorOf q1197 q1198 q134 q1199 (by decide +kernel) ⟨by decide, by decide⟩ (by decide) (by decide),
  k_ifne (t := 97) dJ4_fixAfterInsertion_59 (by decide),
  k_aload_n dJ4_fixAfterInsertion_62,
  k_callS (y2 := yJ4_parentOf) dJ4_fixAfterInsertion_63 sndJ4_parentOf q1188 q1189 q134 q1190 (by decide +kernel) ⟨by decide, by decide⟩ (by decide) (by decide),
  k_iconst dJ4_fixAfterInsertion_66,
  k_callS (y2 := yJ4_setColor) dJ4_fixAfterInsertion_67 sndJ4_setColor q1200 q1201 q134 q1202 (by decide +kernel) ⟨by decide, by decide⟩ (by decide) (by decide),
  k_aload_n dJ4_fixAfterInsertion_70,
  k_iconst dJ4_fixAfterInsertion_71,
  k_callS (y2 := yJ4_setColor) dJ4_fixAfterInsertion_72 sndJ4_setColor q1200 q1201 q134 q1202 (by decide +kernel) ⟨by decide, by decide⟩ (by decide) (by decide),
  k_aload_n dJ4_fixAfterInsertion_75,
  k_callS (y2 := yJ4_parentOf) dJ4_fixAfterInsertion_76 sndJ4_parentOf q1188 q1189 q134 q1190 (by decide +kernel) ⟨by decide, by decide⟩ (by decide) (by decide),
  k_callS (y2 := yJ4_parentOf) dJ4_fixAfterInsertion_79 sndJ4_parentOf q1188 q1189 q134 q1190 (by decide +kernel) ⟨by decide, by decide⟩ (by decide) (by decide),
  k_iconst dJ4_fixAfterInsertion_82,
  k_callS (y2 := yJ4_setColor) dJ4_fixAfterInsertion_83 sndJ4_setColor q1200 q1201 q134 q1202 (by decide +kernel) ⟨by decide, by decide⟩ (by decide) (by decide),
  k_aload_n dJ4_fixAfterInsertion_86,
  k_callS (y2 := yJ4_parentOf) dJ4_fixAfterInsertion_87 sndJ4_parentOf q1188 q1189 q134 q1190 (by decide +kernel) ⟨by decide, by decide⟩ (by decide) (by decide),
  k_callS (y2 := yJ4_parentOf) dJ4_fixAfterInsertion_90 sndJ4_parentOf q1188 q1189 q134 q1190 (by decide +kernel) ⟨by decide, by decide⟩ (by decide) (by decide),
  k_astore_n dJ4_fixAfterInsertion_93,
  k_goto (t := 148) dJ4_fixAfterInsertion_94 (by decide),
  k_aload_n dJ4_fixAfterInsertion_97,
  k_aload_n dJ4_fixAfterInsertion_98,
  k_callS (y2 := yJ4_parentOf) dJ4_fixAfterInsertion_99 sndJ4_parentOf q1188 q1189 q134 q1190 (by decide +kernel) ⟨by decide, by decide⟩ (by decide) (by decide),
  k_callS (y2 := yJ4_rightOf) dJ4_fixAfterInsertion_102 sndJ4_rightOf q1194 q1195 q134 q1196 (by decide +kernel) ⟨by decide, by decide⟩ (by decide) (by decide),
  k_acmpne (t := 118) dJ4_fixAfterInsertion_105 (by decide),
  k_aload_n dJ4_fixAfterInsertion_108,
  k_callS (y2 := yJ4_parentOf) dJ4_fixAfterInsertion_109 sndJ4_parentOf q1188 q1189 q134 q1190 (by decide +kernel) ⟨by decide, by decide⟩ (by decide) (by decide),
  k_astore_n dJ4_fixAfterInsertion_112,
  k_aload_n dJ4_fixAfterInsertion_113,
  k_aload_n dJ4_fixAfterInsertion_114,
  k_callV (y2 := yJ4_rotateLeft) (C := RJ4) (T0 := TJ4) (ci := 16) dJ4_fixAfterInsertion_115 sndJ4_rotateLeft rfl q1203 q1205 qs30 q134 q1206 (by decide +kernel) ⟨by decide, by decide⟩ (by decide) (by decide),
  k_aload_n dJ4_fixAfterInsertion_118,
  k_callS (y2 := yJ4_parentOf) dJ4_fixAfterInsertion_119 sndJ4_parentOf q1188 q1189 q134 q1190 (by decide +kernel) ⟨by decide, by decide⟩ (by decide) (by decide),
  k_iconst dJ4_fixAfterInsertion_122,
  k_callS (y2 := yJ4_setColor) dJ4_fixAfterInsertion_123 sndJ4_setColor q1200 q1201 q134 q1202 (by decide +kernel) ⟨by decide, by decide⟩ (by decide) (by decide),
  k_aload_n dJ4_fixAfterInsertion_126,
  k_callS (y2 := yJ4_parentOf) dJ4_fixAfterInsertion_127 sndJ4_parentOf q1188 q1189 q134 q1190 (by decide +kernel) ⟨by decide, by decide⟩ (by decide) (by decide),
  k_callS (y2 := yJ4_parentOf) dJ4_fixAfterInsertion_130 sndJ4_parentOf q1188 q1189 q134 q1190 (by decide +kernel) ⟨by decide, by decide⟩ (by decide) (by decide),
  k_iconst dJ4_fixAfterInsertion_133,
  k_callS (y2 := yJ4_setColor) dJ4_fixAfterInsertion_134 sndJ4_setColor q1200 q1201 q134 q1202 (by decide +kernel) ⟨by decide, by decide⟩ (by decide) (by decide),
  k_aload_n dJ4_fixAfterInsertion_137,
  k_aload_n dJ4_fixAfterInsertion_138,
  k_callS (y2 := yJ4_parentOf) dJ4_fixAfterInsertion_139 sndJ4_parentOf q1188 q1189 q134 q1190 (by decide +kernel) ⟨by decide, by decide⟩ (by decide) (by decide),
  k_callS (y2 := yJ4_parentOf) dJ4_fixAfterInsertion_142 sndJ4_parentOf q1188 q1189 q134 q1190 (by decide +kernel) ⟨by decide, by decide⟩ (by decide) (by decide),
  k_callV (y2 := yJ4_rotateRight) (C := RJ4) (T0 := TJ4) (ci := 16) dJ4_fixAfterInsertion_145 sndJ4_rotateRight rfl q1207 q1209 qs31 q134 q1210 (by decide +kernel) ⟨by decide, by decide⟩ (by decide) (by decide),
  k_goto (t := 5) dJ4_fixAfterInsertion_148 (by decide),
  k_aload_n dJ4_fixAfterInsertion_151,
  k_callS (y2 := yJ4_parentOf) dJ4_fixAfterInsertion_152 sndJ4_parentOf q1188 q1189 q134 q1190 (by decide +kernel) ⟨by decide, by decide⟩ (by decide) (by decide),
  k_callS (y2 := yJ4_parentOf) dJ4_fixAfterInsertion_155 sndJ4_parentOf q1188 q1189 q134 q1190 (by decide +kernel) ⟨by decide, by decide⟩ (by decide) (by decide),
  k_callS (y2 := yJ4_leftOf) dJ4_fixAfterInsertion_158 sndJ4_leftOf q1191 q1192 q134 q1193 (by decide +kernel) ⟨by decide, by decide⟩ (by decide) (by decide),
  k_astore_n dJ4_fixAfterInsertion_161,
  k_aload_n dJ4_fixAfterInsertion_162,
  k_callS (y2 := yJ4_colorOf) dJ4_fixAfterInsertion_163 sndJ4_colorOf q1197 q1198 q134 q1199 (by decide +kernel) ⟨by decide, by decide⟩ (by decide) (by decide),
  k_ifne (t := 204) dJ4_fixAfterInsertion_166 (by decide),
  k_aload_n dJ4_fixAfterInsertion_169,
  k_callS (y2 := yJ4_parentOf) dJ4_fixAfterInsertion_170 sndJ4_parentOf q1188 q1189 q134 q1190 (by decide +kernel) ⟨by decide, by decide⟩ (by decide) (by decide),
  k_iconst dJ4_fixAfterInsertion_173,
  k_callS (y2 := yJ4_setColor) dJ4_fixAfterInsertion_174 sndJ4_setColor q1200 q1201 q134 q1202 (by decide +kernel) ⟨by decide, by decide⟩ (by decide) (by decide),
  k_aload_n dJ4_fixAfterInsertion_177,
  k_iconst dJ4_fixAfterInsertion_178,
  k_callS (y2 := yJ4_setColor) dJ4_fixAfterInsertion_179 sndJ4_setColor q1200 q1201 q134 q1202 (by decide +kernel) ⟨by decide, by decide⟩ (by decide) (by decide),
  k_aload_n dJ4_fixAfterInsertion_182,
  k_callS (y2 := yJ4_parentOf) dJ4_fixAfterInsertion_183 sndJ4_parentOf q1188 q1189 q134 q1190 (by decide +kernel) ⟨by decide, by decide⟩ (by decide) (by decide),
  k_callS (y2 := yJ4_parentOf) dJ4_fixAfterInsertion_186 sndJ4_parentOf q1188 q1189 q134 q1190 (by decide +kernel) ⟨by decide, by decide⟩ (by decide) (by decide),
  k_iconst dJ4_fixAfterInsertion_189,
  k_callS (y2 := yJ4_setColor) dJ4_fixAfterInsertion_190 sndJ4_setColor q1200 q1201 q134 q1202 (by decide +kernel) ⟨by decide, by decide⟩ (by decide) (by decide),
  k_aload_n dJ4_fixAfterInsertion_193,
  k_callS (y2 := yJ4_parentOf) dJ4_fixAfterInsertion_194 sndJ4_parentOf q1188 q1189 q134 q1190 (by decide +kernel) ⟨by decide, by decide⟩ (by decide) (by decide),
  k_callS (y2 := yJ4_parentOf) dJ4_fixAfterInsertion_197 sndJ4_parentOf q1188 q1189 q134 q1190 (by decide +kernel) ⟨by decide, by decide⟩ (by decide) (by decide),
  k_astore_n dJ4_fixAfterInsertion_200,
  k_goto (t := 255) dJ4_fixAfterInsertion_201 (by decide),
  k_aload_n dJ4_fixAfterInsertion_204,
  k_aload_n dJ4_fixAfterInsertion_205,
  k_callS (y2 := yJ4_parentOf) dJ4_fixAfterInsertion_206 sndJ4_parentOf q1188 q1189 q134 q1190 (by decide +kernel) ⟨by decide, by decide⟩ (by decide) (by decide),
  k_callS (y2 := yJ4_leftOf) dJ4_fixAfterInsertion_209 sndJ4_leftOf q1191 q1192 q134 q1193 (by decide +kernel) ⟨by decide, by decide⟩ (by decide) (by decide),
  k_acmpne (t := 225) dJ4_fixAfterInsertion_212 (by decide),
  k_aload_n dJ4_fixAfterInsertion_215,
  k_callS (y2 := yJ4_parentOf) dJ4_fixAfterInsertion_216 sndJ4_parentOf q1188 q1189 q134 q1190 (by decide +kernel) ⟨by decide, by decide⟩ (by decide) (by decide),
  k_astore_n dJ4_fixAfterInsertion_219,
  k_aload_n dJ4_fixAfterInsertion_220,
  k_aload_n dJ4_fixAfterInsertion_221,
  k_callV (y2 := yJ4_rotateRight) (C := RJ4) (T0 := TJ4) (ci := 16) dJ4_fixAfterInsertion_222 sndJ4_rotateRight rfl q1207 q1209 qs31 q134 q1210 (by decide +kernel) ⟨by decide, by decide⟩ (by decide) (by decide),
  k_aload_n dJ4_fixAfterInsertion_225,
  k_callS (y2 := yJ4_parentOf) dJ4_fixAfterInsertion_226 sndJ4_parentOf q1188 q1189 q134 q1190 (by decide +kernel) ⟨by decide, by decide⟩ (by decide) (by decide),
  k_iconst dJ4_fixAfterInsertion_229,
  k_callS (y2 := yJ4_setColor) dJ4_fixAfterInsertion_230 sndJ4_setColor q1200 q1201 q134 q1202 (by decide +kernel) ⟨by decide, by decide⟩ (by decide) (by decide),
  k_aload_n dJ4_fixAfterInsertion_233,
  k_callS (y2 := yJ4_parentOf) dJ4_fixAfterInsertion_234 sndJ4_parentOf q1188 q1189 q134 q1190 (by decide +kernel) ⟨by decide, by decide⟩ (by decide) (by decide),
  k_callS (y2 := yJ4_parentOf) dJ4_fixAfterInsertion_237 sndJ4_parentOf q1188 q1189 q134 q1190 (by decide +kernel) ⟨by decide, by decide⟩ (by decide) (by decide),
  k_iconst dJ4_fixAfterInsertion_240,
  k_callS (y2 := yJ4_setColor) dJ4_fixAfterInsertion_241 sndJ4_setColor q1200 q1201 q134 q1202 (by decide +kernel) ⟨by decide, by decide⟩ (by decide) (by decide),
  k_aload_n dJ4_fixAfterInsertion_244,
  k_aload_n dJ4_fixAfterInsertion_245,
  k_callS (y2 := yJ4_parentOf) dJ4_fixAfterInsertion_246 sndJ4_parentOf q1188 q1189 q134 q1190 (by decide +kernel) ⟨by decide, by decide⟩ (by decide) (by decide),
  k_callS (y2 := yJ4_parentOf) dJ4_fixAfterInsertion_249 sndJ4_parentOf q1188 q1189 q134 q1190 (by decide +kernel) ⟨by decide, by decide⟩ (by decide) (by decide),
  k_callV (y2 := yJ4_rotateLeft) (C := RJ4) (T0 := TJ4) (ci := 16) dJ4_fixAfterInsertion_252 sndJ4_rotateLeft rfl q1203 q1205 qs30 q134 q1206 (by decide +kernel) ⟨by decide, by decide⟩ (by decide) (by decide),
  k_goto (t := 5) dJ4_fixAfterInsertion_255 (by decide),
  k_aload_n dJ4_fixAfterInsertion_258,
  k_getR (C := RJ4) (T := TJ4) (N := 9) (ci := 16) (k := 3) (ref := "java/util/TreeMap") dJ4_fixAfterInsertion_259 rfl in_J4 (by decide) q202 (Or.inl rfl) (fun _ _ _ => rfl),
  k_iconst dJ4_fixAfterInsertion_262,
  k_putZ (C := RJ22) (T := TJ22) (N := 6) (ci := 17) (k := 5) (ref := "java/util/TreeMap$Entry") dJ4_fixAfterInsertion_263 rfl in_J22 tyJ22 tyJ22_ok nmJ22 (by decide) (Or.inl q1163) (Or.inl rfl) (Or.inl rfl) (tyJ22_ok 5 (by decide)) (fun _ _ _ => rfl),
  k_ret dJ4_fixAfterInsertion_266, trivial⟩
theorem sndJ4_fixAfterInsertion : MSound 2 yJ4_fixAfterInsertion (ws_ yJ4_fixAfterInsertion cJ4_fixAfterInsertion 3 none) mJ4_fixAfterInsertion := msound_M (by decide) allJ4_fixAfterInsertion (fun _ _ => rfl)
/-! java/util/TreeMap.addEntry(Ljava/lang/Object;Ljava/lang/Object;Ljava/util/TreeMap$Entry;Z)V -/
noncomputable def kJ4_addEntry : ZM := ([(0, zi_new 33 6 3), (3, zi_dup 4), (4, zi_ld 1 1 5), (5, zi_ld 1 2 6), (6, zi_ld 1 3 7), (7, zi_callV mJ22_init 33 4 10), (10, zi_st 1 5 12), (12, zi_ld 0 4 14), (14, zi_if (fun a => zc_eq a 0) 26 17), (17, zi_ld 1 3 18), (18, zi_ld 1 5 20), (20, zi_putR 33 2 23), (23, zi_goto 32), (26, zi_ld 1 3 27), (27, zi_ld 1 5 29), (29, zi_putR 33 3 32), (32, zi_ld 1 0 33), (33, zi_ld 1 5 35), (35, zi_callV mJ4_fixAfterInsertion 32 2 38), (38, zi_ld 1 0 39), (39, zi_dup 40), (40, zi_getI 32 4 43), (43, zi_push (zvi 1) 44), (44, zi_bin (fun a b => w32 (a + b)) 45), (45, zi_putI 32 4 48), (48, zi_ld 1 0 49), (49, zi_dup 50), (50, zi_getI 32 5 53), (53, zi_push (zvi 1) 54), (54, zi_bin (fun a b => w32 (a + b)) 55), (55, zi_putI 32 5 58), (58, zi_ret)], fun _ _ => none)
noncomputable def mJ4_addEntry : ZF := zrunM kJ4_addEntry 6
theorem enJ4_addEntry (x0 : Option Nat) (x1 : Option Nat) (x2 : Option Nat) (x3 : Option Nat) (x4 : Int) (h : PH) : mJ4_addEntry [zvr x0, zvr x1, zvr x2, zvr x3, zvi x4] h = zev kJ4_addEntry 0 [zvr x0, zvr x1, zvr x2, zvr x3, zvi x4, zvu] [] h := zrunM_eq rfl rfl
theorem rJ4_addEntry : (∀ (L st : List ZV) (h : PH), zev kJ4_addEntry 0 L st h = zev kJ4_addEntry 3 L (zvr (some (ph_N h)) :: st) (al_ h 33 0 6)) ∧
  (∀ (a : Int) (L st : List ZV) (h : PH), zev kJ4_addEntry 3 L (zvi a :: st) h = zev kJ4_addEntry 4 L (zvi a :: zvi a :: st) h) ∧
  (∀ (a : Option Nat) (L st : List ZV) (h : PH), zev kJ4_addEntry 3 L (zvr a :: st) h = zev kJ4_addEntry 4 L (zvr a :: zvr a :: st) h) ∧
  (∀ (x0 : ZV) (a : Option Nat) (L st : List ZV) (h : PH), zev kJ4_addEntry 4 (x0 :: zvr a :: L) st h = zev kJ4_addEntry 5 (x0 :: zvr a :: L) (zvr a :: st) h) ∧
  (∀ (x0 x1 : ZV) (a : Option Nat) (L st : List ZV) (h : PH), zev kJ4_addEntry 5 (x0 :: x1 :: zvr a :: L) st h = zev kJ4_addEntry 6 (x0 :: x1 :: zvr a :: L) (zvr a :: st) h) ∧
  (∀ (x0 x1 x2 : ZV) (a : Option Nat) (L st : List ZV) (h : PH), zev kJ4_addEntry 6 (x0 :: x1 :: x2 :: zvr a :: L) st h = zev kJ4_addEntry 7 (x0 :: x1 :: x2 :: zvr a :: L) (zvr a :: st) h) ∧
  (∀ (v0 v1 v2 : ZV) (q : Nat) (L st : List ZV) (h : PH), zev kJ4_addEntry 7 L (v2 :: v1 :: v0 :: zvr (some q) :: st) h = if (ph_K h q).1 % 1000 = 33 ∧ zcat st ≤ 8 then zk kJ4_addEntry 7 10 L st (mJ22_init [zvr (some q), v0, v1, v2] h) else none) ∧
  (∀ (x0 x1 x2 x3 x4 x5 : ZV) (a : Option Nat) (L st : List ZV) (h : PH) (hx : zisL x4 = false) , zev kJ4_addEntry 10 (x0 :: x1 :: x2 :: x3 :: x4 :: x5 :: L) (zvr a :: st) h = zev kJ4_addEntry 12 (x0 :: x1 :: x2 :: x3 :: x4 :: zvr a :: L) st h) ∧
  (∀ (x0 x1 x2 x3 : ZV) (a : Int) (L st : List ZV) (h : PH), zev kJ4_addEntry 12 (x0 :: x1 :: x2 :: x3 :: zvi a :: L) st h = zev kJ4_addEntry 14 (x0 :: x1 :: x2 :: x3 :: zvi a :: L) (zvi a :: st) h) ∧
  (∀ (a : Int) (L st : List ZV) (h : PH), zev kJ4_addEntry 14 L (zvi a :: st) h = if a = 0 then zev kJ4_addEntry 26 L st h else zev kJ4_addEntry 17 L st h) ∧
  (∀ (x0 x1 x2 : ZV) (a : Option Nat) (L st : List ZV) (h : PH), zev kJ4_addEntry 17 (x0 :: x1 :: x2 :: zvr a :: L) st h = zev kJ4_addEntry 18 (x0 :: x1 :: x2 :: zvr a :: L) (zvr a :: st) h) ∧
  (∀ (x0 x1 x2 x3 x4 : ZV) (a : Option Nat) (L st : List ZV) (h : PH), zev kJ4_addEntry 18 (x0 :: x1 :: x2 :: x3 :: x4 :: zvr a :: L) st h = zev kJ4_addEntry 20 (x0 :: x1 :: x2 :: x3 :: x4 :: zvr a :: L) (zvr a :: st) h) ∧
  (∀ (a : Option Nat) (q : Nat) (L st : List ZV) (h : PH), zev kJ4_addEntry 20 L (zvr a :: zvr (some q) :: st) h = if (ph_K h q).1 = 33 then zev kJ4_addEntry 23 L st (st_R h q 2 a) else none) ∧
  (∀ (L st : List ZV) (h : PH), zev kJ4_addEntry 23 L st h = zev kJ4_addEntry 32 L st h) ∧
  (∀ (x0 x1 x2 : ZV) (a : Option Nat) (L st : List ZV) (h : PH), zev kJ4_addEntry 26 (x0 :: x1 :: x2 :: zvr a :: L) st h = zev kJ4_addEntry 27 (x0 :: x1 :: x2 :: zvr a :: L) (zvr a :: st) h) ∧
  (∀ (x0 x1 x2 x3 x4 : ZV) (a : Option Nat) (L st : List ZV) (h : PH), zev kJ4_addEntry 27 (x0 :: x1 :: x2 :: x3 :: x4 :: zvr a :: L) st h = zev kJ4_addEntry 29 (x0 :: x1 :: x2 :: x3 :: x4 :: zvr a :: L) (zvr a :: st) h) ∧
  (∀ (a : Option Nat) (q : Nat) (L st : List ZV) (h : PH), zev kJ4_addEntry 29 L (zvr a :: zvr (some q) :: st) h = if (ph_K h q).1 = 33 then zev kJ4_addEntry 32 L st (st_R h q 3 a) else none) ∧
  (∀ (a : Option Nat) (L st : List ZV) (h : PH), zev kJ4_addEntry 32 (zvr a :: L) st h = zev kJ4_addEntry 33 (zvr a :: L) (zvr a :: st) h) ∧
  (∀ (x0 x1 x2 x3 x4 : ZV) (a : Option Nat) (L st : List ZV) (h : PH), zev kJ4_addEntry 33 (x0 :: x1 :: x2 :: x3 :: x4 :: zvr a :: L) st h = zev kJ4_addEntry 35 (x0 :: x1 :: x2 :: x3 :: x4 :: zvr a :: L) (zvr a :: st) h) ∧
  (∀ (v0 : ZV) (q : Nat) (L st : List ZV) (h : PH), zev kJ4_addEntry 35 L (v0 :: zvr (some q) :: st) h = if (ph_K h q).1 % 1000 = 32 ∧ zcat st ≤ 8 then zk kJ4_addEntry 35 38 L st (mJ4_fixAfterInsertion [zvr (some q), v0] h) else none) ∧
  (∀ (a : Option Nat) (L st : List ZV) (h : PH), zev kJ4_addEntry 38 (zvr a :: L) st h = zev kJ4_addEntry 39 (zvr a :: L) (zvr a :: st) h) ∧
  (∀ (a : Int) (L st : List ZV) (h : PH), zev kJ4_addEntry 39 L (zvi a :: st) h = zev kJ4_addEntry 40 L (zvi a :: zvi a :: st) h) ∧
  (∀ (a : Option Nat) (L st : List ZV) (h : PH), zev kJ4_addEntry 39 L (zvr a :: st) h = zev kJ4_addEntry 40 L (zvr a :: zvr a :: st) h) ∧
  (∀ (q : Nat) (L st : List ZV) (h : PH), zev kJ4_addEntry 40 L (zvr (some q) :: st) h = if (ph_K h q).1 % 1000 = 32 then zev kJ4_addEntry 43 L (zvi (ph_I h q 4) :: st) h else none) ∧
  (∀ (L st : List ZV) (h : PH), zev kJ4_addEntry 43 L st h = zev kJ4_addEntry 44 L (zvi 1 :: st) h) ∧
  (∀ (a b : Int) (L st : List ZV) (h : PH), zev kJ4_addEntry 44 L (zvi b :: zvi a :: st) h = zev kJ4_addEntry 45 L (zvi (w32 (a + b)) :: st) h) ∧
  (∀ (a : Int) (q : Nat) (L st : List ZV) (h : PH), zev kJ4_addEntry 45 L (zvi a :: zvr (some q) :: st) h = if (ph_K h q).1 = 32 then zev kJ4_addEntry 48 L st (st_I h q 4 a) else none) ∧
  (∀ (a : Option Nat) (L st : List ZV) (h : PH), zev kJ4_addEntry 48 (zvr a :: L) st h = zev kJ4_addEntry 49 (zvr a :: L) (zvr a :: st) h) ∧
  (∀ (a : Int) (L st : List ZV) (h : PH), zev kJ4_addEntry 49 L (zvi a :: st) h = zev kJ4_addEntry 50 L (zvi a :: zvi a :: st) h) ∧
  (∀ (a : Option Nat) (L st : List ZV) (h : PH), zev kJ4_addEntry 49 L (zvr a :: st) h = zev kJ4_addEntry 50 L (zvr a :: zvr a :: st) h) ∧
  (∀ (q : Nat) (L st : List ZV) (h : PH), zev kJ4_addEntry 50 L (zvr (some q) :: st) h = if (ph_K h q).1 % 1000 = 32 then zev kJ4_addEntry 53 L (zvi (ph_I h q 5) :: st) h else none) ∧
  (∀ (L st : List ZV) (h : PH), zev kJ4_addEntry 53 L st h = zev kJ4_addEntry 54 L (zvi 1 :: st) h) ∧
  (∀ (a b : Int) (L st : List ZV) (h : PH), zev kJ4_addEntry 54 L (zvi b :: zvi a :: st) h = zev kJ4_addEntry 55 L (zvi (w32 (a + b)) :: st) h) ∧
  (∀ (a : Int) (q : Nat) (L st : List ZV) (h : PH), zev kJ4_addEntry 55 L (zvi a :: zvr (some q) :: st) h = if (ph_K h q).1 = 32 then zev kJ4_addEntry 58 L st (st_I h q 5 a) else none) ∧
  (∀ (L : List ZV) (h : PH), zev kJ4_addEntry 58 L [] h = zr0 h) :=
  ⟨fun L st h => e_new (kd := 33) (sl := 6) (n := 3) rfl,
  fun a L st h => e_dupI (n := 4) rfl,
  fun a L st h => e_dupR (n := 4) rfl,
  fun x0 a L st h => e_ld1R (n := 5) rfl,
  fun x0 x1 a L st h => e_ld2R (n := 6) rfl,
  fun x0 x1 x2 a L st h => e_ld3R (n := 7) rfl,
  fun v0 v1 v2 q L st h => e_callV4 (F := mJ22_init) (kd := 33) (n := 10) rfl,
  fun x0 x1 x2 x3 x4 x5 a L st h hx => e_st5R (n := 12) rfl hx,
  fun x0 x1 x2 x3 a L st h => e_ld4I (n := 14) rfl,
  fun a L st h => e_ifeq (t := 26) (n := 17) rfl,
  fun x0 x1 x2 a L st h => e_ld3R (n := 18) rfl,
  fun x0 x1 x2 x3 x4 a L st h => e_ld5R (n := 20) rfl,
  fun a q L st h => e_putR (kd := 33) (k := 2) (n := 23) rfl,
  fun L st h => e_goto (t := 32) rfl,
  fun x0 x1 x2 a L st h => e_ld3R (n := 27) rfl,
  fun x0 x1 x2 x3 x4 a L st h => e_ld5R (n := 29) rfl,
  fun a q L st h => e_putR (kd := 33) (k := 3) (n := 32) rfl,
  fun a L st h => e_ld0R (n := 33) rfl,
  fun x0 x1 x2 x3 x4 a L st h => e_ld5R (n := 35) rfl,
  fun v0 q L st h => e_callV2 (F := mJ4_fixAfterInsertion) (kd := 32) (n := 38) rfl,
  fun a L st h => e_ld0R (n := 39) rfl,
  fun a L st h => e_dupI (n := 40) rfl,
  fun a L st h => e_dupR (n := 40) rfl,
  fun q L st h => e_getI (kd := 32) (k := 4) (n := 43) rfl,
  fun L st h => e_push (v := zvi 1) (n := 44) rfl,
  fun a b L st h => e_bin (f := (fun a b => w32 (a + b))) (n := 45) rfl,
  fun a q L st h => e_putI (kd := 32) (k := 4) (n := 48) rfl,
  fun a L st h => e_ld0R (n := 49) rfl,
  fun a L st h => e_dupI (n := 50) rfl,
  fun a L st h => e_dupR (n := 50) rfl,
  fun q L st h => e_getI (kd := 32) (k := 5) (n := 53) rfl,
  fun L st h => e_push (v := zvi 1) (n := 54) rfl,
  fun a b L st h => e_bin (f := (fun a b => w32 (a + b))) (n := 55) rfl,
  fun a q L st h => e_putI (kd := 32) (k := 5) (n := 58) rfl,
  fun L h => e_ret rfl⟩
theorem allJ4_addEntry : zall yJ4_addEntry cJ4_addEntry 6 none 3 kJ4_addEntry.1 :=
  ⟨k_new (C := RJ22) (T := TJ22) (N := 6) (ci := 17) dJ4_addEntry_0 rfl in_J22 tyJ22 tyJ22_ok rfl (by decide) q1148 q1149 q165,
  k_dup dJ4_addEntry_3,
  k_aload_n dJ4_addEntry_4,
  k_aload_n dJ4_addEntry_5,
  k_aload_n dJ4_addEntry_6,
  k_callI (y2 := yJ22_init) (C := RJ22) (T0 := TJ22) (ci := 17) dJ4_addEntry_7 sndJ22_init rfl q1150 q1151 q165 q1152 rfl (by decide +kernel) ⟨by decide, by decide⟩ (by decide) (by decide),
  k_astore dJ4_addEntry_10,
  k_iload dJ4_addEntry_12,
  k_ifeq (t := 26) dJ4_addEntry_14 (by decide),
  k_aload_n dJ4_addEntry_17,
  k_aload dJ4_addEntry_18,
  k_putR (C := RJ22) (T := TJ22) (N := 6) (ci := 17) (k := 2) (ref := "java/util/TreeMap$Entry") dJ4_addEntry_20 rfl in_J22 tyJ22 tyJ22_ok nmJ22 (by decide) (Or.inl q1158) (Or.inl rfl) (Or.inl rfl) (tyJ22_ok 2 (by decide)) (Or.inl ⟨_, rfl⟩) (fun _ _ _ => rfl),
  k_goto (t := 32) dJ4_addEntry_23 (by decide),
  k_aload_n dJ4_addEntry_26,
  k_aload dJ4_addEntry_27,
  k_putR (C := RJ22) (T := TJ22) (N := 6) (ci := 17) (k := 3) (ref := "java/util/TreeMap$Entry") dJ4_addEntry_29 rfl in_J22 tyJ22 tyJ22_ok nmJ22 (by decide) (Or.inl q1159) (Or.inl rfl) (Or.inl rfl) (tyJ22_ok 3 (by decide)) (Or.inl ⟨_, rfl⟩) (fun _ _ _ => rfl),
  k_aload_n dJ4_addEntry_32,
  k_aload dJ4_addEntry_33,
  k_callV (y2 := yJ4_fixAfterInsertion) (C := RJ4) (T0 := TJ4) (ci := 16) dJ4_addEntry_35 sndJ4_fixAfterInsertion rfl q1184 q1186 qs29 q134 q1187 (by decide +kernel) ⟨by decide, by decide⟩ (by decide) (by decide),
  k_aload_n dJ4_addEntry_38,
  k_dup dJ4_addEntry_39,
  k_getI (C := RJ4) (T := TJ4) (N := 9) (ci := 16) (k := 4) (ref := "java/util/TreeMap") dJ4_addEntry_40 rfl in_J4 (by decide) q203 (Or.inl rfl) (fun _ _ _ => rfl),
  k_iconst dJ4_addEntry_43,
  k_iadd dJ4_addEntry_44,
  k_putI (C := RJ4) (T := TJ4) (N := 9) (ci := 16) (k := 4) (ref := "java/util/TreeMap") dJ4_addEntry_45 rfl in_J4 tyJ4 tyJ4_ok nmJ4 (by decide) (Or.inl q203) (Or.inl rfl) (Or.inl rfl) (tyJ4_ok 4 (by decide)) (fun _ _ _ => rfl),
  k_aload_n dJ4_addEntry_48,
  k_dup dJ4_addEntry_49,
  k_getI (C := RJ4) (T := TJ4) (N := 9) (ci := 16) (k := 5) (ref := "java/util/TreeMap") dJ4_addEntry_50 rfl in_J4 (by decide) q204 (Or.inl rfl) (fun _ _ _ => rfl),
  k_iconst dJ4_addEntry_53,
  k_iadd dJ4_addEntry_54,
  k_putI (C := RJ4) (T := TJ4) (N := 9) (ci := 16) (k := 5) (ref := "java/util/TreeMap") dJ4_addEntry_55 rfl in_J4 tyJ4 tyJ4_ok nmJ4 (by decide) (Or.inl q204) (Or.inl rfl) (Or.inl rfl) (tyJ4_ok 5 (by decide)) (fun _ _ _ => rfl),
  k_ret dJ4_addEntry_58, trivial⟩
theorem sndJ4_addEntry : MSound 3 yJ4_addEntry (ws_ yJ4_addEntry cJ4_addEntry 6 none) mJ4_addEntry := msound_M (by decide) allJ4_addEntry (fun _ _ => rfl)
/-! java/util/TreeMap.put(Ljava/lang/Object;Ljava/lang/Object;Z)Ljava/lang/Object; -/
noncomputable def kJ4_put_2 : ZM := ([(0, zi_ld 1 0 1), (1, zi_getR 32 3 4), (4, zi_st 1 4 6), (6, zi_ld 1 4 8), (8, zi_nonnull 19 11), (11, zi_ld 1 0 12), (12, zi_ld 1 1 13), (13, zi_ld 1 2 14), (14, zi_callV mJ4_addEntryToEmptyMap 32 3 17), (17, zi_push (zvr none) 18), (18, zi_retv 1), (19, zi_ld 1 0 20), (20, zi_getR 32 2 23), (23, zi_st 1 7 25), (25, zi_ld 1 7 27), (27, zi_null 112 30), (30, zi_ld 1 4 32), (32, zi_st 1 6 34), (34, zi_ld 1 7 36), (36, zi_ld 1 1 37), (37, zi_ld 1 4 39), (39, zi_getR 33 0 42), (42, zi_callV mX2_compare 28 3 47), (47, zi_st 0 5 49), (49, zi_ld 0 5 51), (51, zi_if (fun a => zc_ge a 0) 64 54), (54, zi_ld 1 4 56), (56, zi_getR 33 2 59), (59, zi_st 1 4 61), (61, zi_goto 104), (64, zi_ld 0 5 66), (66, zi_if (fun a => zc_le a 0) 79 69), (69, zi_ld 1 4 71), (71, zi_getR 33 3 74), (74, zi_st 1 4 76), (76, zi_goto 104), (79, zi_ld 1 4 81), (81, zi_getR 33 1 84), (84, zi_st 1 8 86), (86, zi_ld 0 3 87), (87, zi_if (fun a => zc_ne a 0) 95 90), (90, zi_ld 1 8 92), (92, zi_nonnull 101 95), (95, zi_ld 1 4 97), (97, zi_ld 1 2 98), (98, zi_putR 33 1 101), (101, zi_ld 1 8 103), (103, zi_retv 1), (104, zi_ld 1 4 106), (106, zi_nonnull 30 109), (109, zi_goto 201), (112, zi_ld 1 1 113), (113, zi_callS mJ14_requireNonNull 1 116), (116, zi_pop 117), (117, zi_ld 1 1 118), (118, zi_stuck), (121, zi_st 1 8 123), (123, zi_ld 1 4 125), (125, zi_st 1 6 127), (127, zi_ld 1 8 129), (129, zi_ld 1 4 131), (131, zi_getR 33 0 134), (134, zi_stuck), (139, zi_st 0 5 141), (141, zi_ld 0 5 143), (143, zi_if (fun a => zc_ge a 0) 156 146), (146, zi_ld 1 4 148), (148, zi_getR 33 2 151), (151, zi_st 1 4 153), (153, zi_goto 196), (156, zi_ld 0 5 158), (158, zi_if (fun a => zc_le a 0) 171 161), (161, zi_ld 1 4 163), (163, zi_getR 33 3 166), (166, zi_st 1 4 168), (168, zi_goto 196), (171, zi_ld 1 4 173), (173, zi_getR 33 1 176), (176, zi_st 1 9 178), (178, zi_ld 0 3 179), (179, zi_if (fun a => zc_ne a 0) 187 182), (182, zi_ld 1 9 184), (184, zi_nonnull 193 187), (187, zi_ld 1 4 189), (189, zi_ld 1 2 190), (190, zi_putR 33 1 193), (193, zi_ld 1 9 195), (195, zi_retv 1), (196, zi_ld 1 4 198), (198, zi_nonnull 123 201), (201, zi_ld 1 0 202), (202, zi_ld 1 1 203), (203, zi_ld 1 2 204), (204, zi_ld 1 6 206), (206, zi_ld 0 5 208), (208, zi_if (fun a => zc_ge a 0) 215 211), (211, zi_push (zvi 1) 212), (212, zi_goto 216), (215, zi_push (zvi 0) 216), (216, zi_callV mJ4_addEntry 32 5 219), (219, zi_push (zvr none) 220), (220, zi_retv 1)], fun _ _ => none)
noncomputable def mJ4_put_2 : ZF := zrunM kJ4_put_2 10
theorem enJ4_put_2 (x0 : Option Nat) (x1 : Option Nat) (x2 : Option Nat) (x3 : Int) (h : PH) : mJ4_put_2 [zvr x0, zvr x1, zvr x2, zvi x3] h = zev kJ4_put_2 0 [zvr x0, zvr x1, zvr x2, zvi x3, zvu, zvu, zvu, zvu, zvu, zvu] [] h := zrunM_eq rfl rfl
theorem hdJ4_put_2_30 (x0 x1 x2 x3 : ZV) (a : Option Nat) (L st : List ZV) (h : PH) : zev kJ4_put_2 30 (x0 :: x1 :: x2 :: x3 :: zvr a :: L) st h = zev kJ4_put_2 32 (x0 :: x1 :: x2 :: x3 :: zvr a :: L) (zvr a :: st) h := e_ld4R (n := 32) rfl
theorem hdJ4_put_2_123 (x0 x1 x2 x3 : ZV) (a : Option Nat) (L st : List ZV) (h : PH) : zev kJ4_put_2 123 (x0 :: x1 :: x2 :: x3 :: zvr a :: L) st h = zev kJ4_put_2 125 (x0 :: x1 :: x2 :: x3 :: zvr a :: L) (zvr a :: st) h := e_ld4R (n := 125) rfl
theorem rJ4_put_2 : (∀ (a : Option Nat) (L st : List ZV) (h : PH), zev kJ4_put_2 0 (zvr a :: L) st h = zev kJ4_put_2 1 (zvr a :: L) (zvr a :: st) h) ∧
  (∀ (q : Nat) (L st : List ZV) (h : PH), zev kJ4_put_2 1 L (zvr (some q) :: st) h = if (ph_K h q).1 % 1000 = 32 then zev kJ4_put_2 4 L (zvr (ph_R h q 3) :: st) h else none) ∧
  (∀ (x0 x1 x2 x3 x4 : ZV) (a : Option Nat) (L st : List ZV) (h : PH) (hx : zisL x3 = false) , zev kJ4_put_2 4 (x0 :: x1 :: x2 :: x3 :: x4 :: L) (zvr a :: st) h = zev kJ4_put_2 6 (x0 :: x1 :: x2 :: x3 :: zvr a :: L) st h) ∧
  (∀ (x0 x1 x2 x3 : ZV) (a : Option Nat) (L st : List ZV) (h : PH), zev kJ4_put_2 6 (x0 :: x1 :: x2 :: x3 :: zvr a :: L) st h = zev kJ4_put_2 8 (x0 :: x1 :: x2 :: x3 :: zvr a :: L) (zvr a :: st) h) ∧
  (∀ (L st : List ZV) (h : PH), zev kJ4_put_2 8 L (zvr none :: st) h = zev kJ4_put_2 11 L st h) ∧
  (∀ (q : Nat) (L st : List ZV) (h : PH), zev kJ4_put_2 8 L (zvr (some q) :: st) h = if (ph_K h q).1 ≠ 0 then zev kJ4_put_2 19 L st h else none) ∧
  (∀ (a : Option Nat) (L st : List ZV) (h : PH), zev kJ4_put_2 11 (zvr a :: L) st h = zev kJ4_put_2 12 (zvr a :: L) (zvr a :: st) h) ∧
  (∀ (x0 : ZV) (a : Option Nat) (L st : List ZV) (h : PH), zev kJ4_put_2 12 (x0 :: zvr a :: L) st h = zev kJ4_put_2 13 (x0 :: zvr a :: L) (zvr a :: st) h) ∧
  (∀ (x0 x1 : ZV) (a : Option Nat) (L st : List ZV) (h : PH), zev kJ4_put_2 13 (x0 :: x1 :: zvr a :: L) st h = zev kJ4_put_2 14 (x0 :: x1 :: zvr a :: L) (zvr a :: st) h) ∧
  (∀ (v0 v1 : ZV) (q : Nat) (L st : List ZV) (h : PH), zev kJ4_put_2 14 L (v1 :: v0 :: zvr (some q) :: st) h = if (ph_K h q).1 % 1000 = 32 ∧ zcat st ≤ 8 then zk kJ4_put_2 14 17 L st (mJ4_addEntryToEmptyMap [zvr (some q), v0, v1] h) else none) ∧
  (∀ (L st : List ZV) (h : PH), zev kJ4_put_2 17 L st h = zev kJ4_put_2 18 L (zvr none :: st) h) ∧
  (∀ (a : Option Nat) (L : List ZV) (h : PH), zev kJ4_put_2 18 L [zvr a] h = zrv (zvr a) h) ∧
  (∀ (a : Option Nat) (L st : List ZV) (h : PH), zev kJ4_put_2 19 (zvr a :: L) st h = zev kJ4_put_2 20 (zvr a :: L) (zvr a :: st) h) ∧
  (∀ (q : Nat) (L st : List ZV) (h : PH), zev kJ4_put_2 20 L (zvr (some q) :: st) h = if (ph_K h q).1 % 1000 = 32 then zev kJ4_put_2 23 L (zvr (ph_R h q 2) :: st) h else none) ∧
  (∀ (x0 x1 x2 x3 x4 x5 x6 x7 : ZV) (a : Option Nat) (L st : List ZV) (h : PH) (hx : zisL x6 = false) , zev kJ4_put_2 23 (x0 :: x1 :: x2 :: x3 :: x4 :: x5 :: x6 :: x7 :: L) (zvr a :: st) h = zev kJ4_put_2 25 (x0 :: x1 :: x2 :: x3 :: x4 :: x5 :: x6 :: zvr a :: L) st h) ∧
  (∀ (x0 x1 x2 x3 x4 x5 x6 : ZV) (a : Option Nat) (L st : List ZV) (h : PH), zev kJ4_put_2 25 (x0 :: x1 :: x2 :: x3 :: x4 :: x5 :: x6 :: zvr a :: L) st h = zev kJ4_put_2 27 (x0 :: x1 :: x2 :: x3 :: x4 :: x5 :: x6 :: zvr a :: L) (zvr a :: st) h) ∧
  (∀ (L st : List ZV) (h : PH), zev kJ4_put_2 27 L (zvr none :: st) h = zev kJ4_put_2 112 L st h) ∧
  (∀ (q : Nat) (L st : List ZV) (h : PH), zev kJ4_put_2 27 L (zvr (some q) :: st) h = if (ph_K h q).1 ≠ 0 then zev kJ4_put_2 30 L st h else none) ∧
  (∀ (x0 x1 x2 x3 x4 x5 x6 : ZV) (a : Option Nat) (L st : List ZV) (h : PH) (hx : zisL x5 = false) , zev kJ4_put_2 32 (x0 :: x1 :: x2 :: x3 :: x4 :: x5 :: x6 :: L) (zvr a :: st) h = zev kJ4_put_2 34 (x0 :: x1 :: x2 :: x3 :: x4 :: x5 :: zvr a :: L) st h) ∧
  (∀ (x0 x1 x2 x3 x4 x5 x6 : ZV) (a : Option Nat) (L st : List ZV) (h : PH), zev kJ4_put_2 34 (x0 :: x1 :: x2 :: x3 :: x4 :: x5 :: x6 :: zvr a :: L) st h = zev kJ4_put_2 36 (x0 :: x1 :: x2 :: x3 :: x4 :: x5 :: x6 :: zvr a :: L) (zvr a :: st) h) ∧
  (∀ (x0 : ZV) (a : Option Nat) (L st : List ZV) (h : PH), zev kJ4_put_2 36 (x0 :: zvr a :: L) st h = zev kJ4_put_2 37 (x0 :: zvr a :: L) (zvr a :: st) h) ∧
  (∀ (x0 x1 x2 x3 : ZV) (a : Option Nat) (L st : List ZV) (h : PH), zev kJ4_put_2 37 (x0 :: x1 :: x2 :: x3 :: zvr a :: L) st h = zev kJ4_put_2 39 (x0 :: x1 :: x2 :: x3 :: zvr a :: L) (zvr a :: st) h) ∧
  (∀ (q : Nat) (L st : List ZV) (h : PH), zev kJ4_put_2 39 L (zvr (some q) :: st) h = if (ph_K h q).1 % 1000 = 33 then zev kJ4_put_2 42 L (zvr (ph_R h q 0) :: st) h else none) ∧
  (∀ (v0 v1 : ZV) (q : Nat) (L st : List ZV) (h : PH), zev kJ4_put_2 42 L (v1 :: v0 :: zvr (some q) :: st) h = if (ph_K h q).1 % 1000 = 28 ∧ zcat st ≤ 8 then zk kJ4_put_2 42 47 L st (mX2_compare [zvr (some q), v0, v1] h) else none) ∧
  (∀ (x0 x1 x2 x3 x4 x5 : ZV) (a : Int) (L st : List ZV) (h : PH) (hx : zisL x4 = false) , zev kJ4_put_2 47 (x0 :: x1 :: x2 :: x3 :: x4 :: x5 :: L) (zvi a :: st) h = zev kJ4_put_2 49 (x0 :: x1 :: x2 :: x3 :: x4 :: zvi a :: L) st h) ∧
  (∀ (x0 x1 x2 x3 x4 : ZV) (a : Int) (L st : List ZV) (h : PH), zev kJ4_put_2 49 (x0 :: x1 :: x2 :: x3 :: x4 :: zvi a :: L) st h = zev kJ4_put_2 51 (x0 :: x1 :: x2 :: x3 :: x4 :: zvi a :: L) (zvi a :: st) h) ∧
  (∀ (a : Int) (L st : List ZV) (h : PH), zev kJ4_put_2 51 L (zvi a :: st) h = if a ≥ 0 then zev kJ4_put_2 64 L st h else zev kJ4_put_2 54 L st h) ∧
  (∀ (x0 x1 x2 x3 : ZV) (a : Option Nat) (L st : List ZV) (h : PH), zev kJ4_put_2 54 (x0 :: x1 :: x2 :: x3 :: zvr a :: L) st h = zev kJ4_put_2 56 (x0 :: x1 :: x2 :: x3 :: zvr a :: L) (zvr a :: st) h) ∧
  (∀ (q : Nat) (L st : List ZV) (h : PH), zev kJ4_put_2 56 L (zvr (some q) :: st) h = if (ph_K h q).1 % 1000 = 33 then zev kJ4_put_2 59 L (zvr (ph_R h q 2) :: st) h else none) ∧
  (∀ (x0 x1 x2 x3 x4 : ZV) (a : Option Nat) (L st : List ZV) (h : PH) (hx : zisL x3 = false) , zev kJ4_put_2 59 (x0 :: x1 :: x2 :: x3 :: x4 :: L) (zvr a :: st) h = zev kJ4_put_2 61 (x0 :: x1 :: x2 :: x3 :: zvr a :: L) st h) ∧
  (∀ (L st : List ZV) (h : PH), zev kJ4_put_2 61 L st h = zev kJ4_put_2 104 L st h) ∧
  (∀ (x0 x1 x2 x3 x4 : ZV) (a : Int) (L st : List ZV) (h : PH), zev kJ4_put_2 64 (x0 :: x1 :: x2 :: x3 :: x4 :: zvi a :: L) st h = zev kJ4_put_2 66 (x0 :: x1 :: x2 :: x3 :: x4 :: zvi a :: L) (zvi a :: st) h) ∧
  (∀ (a : Int) (L st : List ZV) (h : PH), zev kJ4_put_2 66 L (zvi a :: st) h = if a ≤ 0 then zev kJ4_put_2 79 L st h else zev kJ4_put_2 69 L st h) ∧
  (∀ (x0 x1 x2 x3 : ZV) (a : Option Nat) (L st : List ZV) (h : PH), zev kJ4_put_2 69 (x0 :: x1 :: x2 :: x3 :: zvr a :: L) st h = zev kJ4_put_2 71 (x0 :: x1 :: x2 :: x3 :: zvr a :: L) (zvr a :: st) h) ∧
  (∀ (q : Nat) (L st : List ZV) (h : PH), zev kJ4_put_2 71 L (zvr (some q) :: st) h = if (ph_K h q).1 % 1000 = 33 then zev kJ4_put_2 74 L (zvr (ph_R h q 3) :: st) h else none) ∧
  (∀ (x0 x1 x2 x3 x4 : ZV) (a : Option Nat) (L st : List ZV) (h : PH) (hx : zisL x3 = false) , zev kJ4_put_2 74 (x0 :: x1 :: x2 :: x3 :: x4 :: L) (zvr a :: st) h = zev kJ4_put_2 76 (x0 :: x1 :: x2 :: x3 :: zvr a :: L) st h) ∧
  (∀ (L st : List ZV) (h : PH), zev kJ4_put_2 76 L st h = zev kJ4_put_2 104 L st h) ∧
  (∀ (x0 x1 x2 x3 : ZV) (a : Option Nat) (L st : List ZV) (h : PH), zev kJ4_put_2 79 (x0 :: x1 :: x2 :: x3 :: zvr a :: L) st h = zev kJ4_put_2 81 (x0 :: x1 :: x2 :: x3 :: zvr a :: L) (zvr a :: st) h) ∧
  (∀ (q : Nat) (L st : List ZV) (h : PH), zev kJ4_put_2 81 L (zvr (some q) :: st) h = if (ph_K h q).1 % 1000 = 33 then zev kJ4_put_2 84 L (zvr (ph_R h q 1) :: st) h else none) ∧
  (∀ (x0 x1 x2 x3 x4 x5 x6 x7 x8 : ZV) (a : Option Nat) (L st : List ZV) (h : PH) (hx : zisL x7 = false) , zev kJ4_put_2 84 (x0 :: x1 :: x2 :: x3 :: x4 :: x5 :: x6 :: x7 :: x8 :: L) (zvr a :: st) h = zev kJ4_put_2 86 (x0 :: x1 :: x2 :: x3 :: x4 :: x5 :: x6 :: x7 :: zvr a :: L) st h) ∧
  (∀ (x0 x1 x2 : ZV) (a : Int) (L st : List ZV) (h : PH), zev kJ4_put_2 86 (x0 :: x1 :: x2 :: zvi a :: L) st h = zev kJ4_put_2 87 (x0 :: x1 :: x2 :: zvi a :: L) (zvi a :: st) h) ∧
  (∀ (a : Int) (L st : List ZV) (h : PH), zev kJ4_put_2 87 L (zvi a :: st) h = if a ≠ 0 then zev kJ4_put_2 95 L st h else zev kJ4_put_2 90 L st h) ∧
  (∀ (x0 x1 x2 x3 x4 x5 x6 x7 : ZV) (a : Option Nat) (L st : List ZV) (h : PH), zev kJ4_put_2 90 (x0 :: x1 :: x2 :: x3 :: x4 :: x5 :: x6 :: x7 :: zvr a :: L) st h = zev kJ4_put_2 92 (x0 :: x1 :: x2 :: x3 :: x4 :: x5 :: x6 :: x7 :: zvr a :: L) (zvr a :: st) h) ∧
  (∀ (L st : List ZV) (h : PH), zev kJ4_put_2 92 L (zvr none :: st) h = zev kJ4_put_2 95 L st h) ∧
  (∀ (q : Nat) (L st : List ZV) (h : PH), zev kJ4_put_2 92 L (zvr (some q) :: st) h = if (ph_K h q).1 ≠ 0 then zev kJ4_put_2 101 L st h else none) ∧
  (∀ (x0 x1 x2 x3 : ZV) (a : Option Nat) (L st : List ZV) (h : PH), zev kJ4_put_2 95 (x0 :: x1 :: x2 :: x3 :: zvr a :: L) st h = zev kJ4_put_2 97 (x0 :: x1 :: x2 :: x3 :: zvr a :: L) (zvr a :: st) h) ∧
  (∀ (x0 x1 : ZV) (a : Option Nat) (L st : List ZV) (h : PH), zev kJ4_put_2 97 (x0 :: x1 :: zvr a :: L) st h = zev kJ4_put_2 98 (x0 :: x1 :: zvr a :: L) (zvr a :: st) h) ∧
  (∀ (a : Option Nat) (q : Nat) (L st : List ZV) (h : PH), zev kJ4_put_2 98 L (zvr a :: zvr (some q) :: st) h = if (ph_K h q).1 = 33 then zev kJ4_put_2 101 L st (st_R h q 1 a) else none) ∧
  (∀ (x0 x1 x2 x3 x4 x5 x6 x7 : ZV) (a : Option Nat) (L st : List ZV) (h : PH), zev kJ4_put_2 101 (x0 :: x1 :: x2 :: x3 :: x4 :: x5 :: x6 :: x7 :: zvr a :: L) st h = zev kJ4_put_2 103 (x0 :: x1 :: x2 :: x3 :: x4 :: x5 :: x6 :: x7 :: zvr a :: L) (zvr a :: st) h) ∧
  (∀ (a : Option Nat) (L : List ZV) (h : PH), zev kJ4_put_2 103 L [zvr a] h = zrv (zvr a) h) ∧
  (∀ (x0 x1 x2 x3 : ZV) (a : Option Nat) (L st : List ZV) (h : PH), zev kJ4_put_2 104 (x0 :: x1 :: x2 :: x3 :: zvr a :: L) st h = zev kJ4_put_2 106 (x0 :: x1 :: x2 :: x3 :: zvr a :: L) (zvr a :: st) h) ∧
  (∀ (L st : List ZV) (h : PH), zev kJ4_put_2 106 L (zvr none :: st) h = zev kJ4_put_2 109 L st h) ∧
  (∀ (q : Nat) (L st : List ZV) (h : PH), zev kJ4_put_2 106 L (zvr (some q) :: st) h = if (ph_K h q).1 ≠ 0 then zev kJ4_put_2 30 L st h else none) ∧
  (∀ (L st : List ZV) (h : PH), zev kJ4_put_2 109 L st h = zev kJ4_put_2 201 L st h) ∧
  (∀ (x0 : ZV) (a : Option Nat) (L st : List ZV) (h : PH), zev kJ4_put_2 112 (x0 :: zvr a :: L) st h = zev kJ4_put_2 113 (x0 :: zvr a :: L) (zvr a :: st) h) ∧
  (∀ (v0 : ZV) (L st : List ZV) (h : PH), zev kJ4_put_2 113 L (v0 :: st) h = if zcat st ≤ 8 then zk kJ4_put_2 113 116 L st (mJ14_requireNonNull [v0] h) else none) ∧
  (∀ (a : Int) (L st : List ZV) (h : PH), zev kJ4_put_2 116 L (zvi a :: st) h = zev kJ4_put_2 117 L st h) ∧
  (∀ (a : Option Nat) (L st : List ZV) (h : PH), zev kJ4_put_2 116 L (zvr a :: st) h = zev kJ4_put_2 117 L st h) ∧
  (∀ (x0 : ZV) (a : Option Nat) (L st : List ZV) (h : PH), zev kJ4_put_2 117 (x0 :: zvr a :: L) st h = zev kJ4_put_2 118 (x0 :: zvr a :: L) (zvr a :: st) h) ∧
  (∀ (x0 x1 x2 x3 x4 x5 x6 x7 x8 : ZV) (a : Option Nat) (L st : List ZV) (h : PH) (hx : zisL x7 = false) , zev kJ4_put_2 121 (x0 :: x1 :: x2 :: x3 :: x4 :: x5 :: x6 :: x7 :: x8 :: L) (zvr a :: st) h = zev kJ4_put_2 123 (x0 :: x1 :: x2 :: x3 :: x4 :: x5 :: x6 :: x7 :: zvr a :: L) st h) ∧
  (∀ (x0 x1 x2 x3 x4 x5 x6 : ZV) (a : Option Nat) (L st : List ZV) (h : PH) (hx : zisL x5 = false) , zev kJ4_put_2 125 (x0 :: x1 :: x2 :: x3 :: x4 :: x5 :: x6 :: L) (zvr a :: st) h = zev kJ4_put_2 127 (x0 :: x1 :: x2 :: x3 :: x4 :: x5 :: zvr a :: L) st h) ∧
  (∀ (x0 x1 x2 x3 x4 x5 x6 x7 : ZV) (a : Option Nat) (L st : List ZV) (h : PH), zev kJ4_put_2 127 (x0 :: x1 :: x2 :: x3 :: x4 :: x5 :: x6 :: x7 :: zvr a :: L) st h = zev kJ4_put_2 129 (x0 :: x1 :: x2 :: x3 :: x4 :: x5 :: x6 :: x7 :: zvr a :: L) (zvr a :: st) h) ∧
  (∀ (x0 x1 x2 x3 : ZV) (a : Option Nat) (L st : List ZV) (h : PH), zev kJ4_put_2 129 (x0 :: x1 :: x2 :: x3 :: zvr a :: L) st h = zev kJ4_put_2 131 (x0 :: x1 :: x2 :: x3 :: zvr a :: L) (zvr a :: st) h) ∧
  (∀ (q : Nat) (L st : List ZV) (h : PH), zev kJ4_put_2 131 L (zvr (some q) :: st) h = if (ph_K h q).1 % 1000 = 33 then zev kJ4_put_2 134 L (zvr (ph_R h q 0) :: st) h else none) ∧
  (∀ (x0 x1 x2 x3 x4 x5 : ZV) (a : Int) (L st : List ZV) (h : PH) (hx : zisL x4 = false) , zev kJ4_put_2 139 (x0 :: x1 :: x2 :: x3 :: x4 :: x5 :: L) (zvi a :: st) h = zev kJ4_put_2 141 (x0 :: x1 :: x2 :: x3 :: x4 :: zvi a :: L) st h) ∧
  (∀ (x0 x1 x2 x3 x4 : ZV) (a : Int) (L st : List ZV) (h : PH), zev kJ4_put_2 141 (x0 :: x1 :: x2 :: x3 :: x4 :: zvi a :: L) st h = zev kJ4_put_2 143 (x0 :: x1 :: x2 :: x3 :: x4 :: zvi a :: L) (zvi a :: st) h) ∧
  (∀ (a : Int) (L st : List ZV) (h : PH), zev kJ4_put_2 143 L (zvi a :: st) h = if a ≥ 0 then zev kJ4_put_2 156 L st h else zev kJ4_put_2 146 L st h) ∧
  (∀ (x0 x1 x2 x3 : ZV) (a : Option Nat) (L st : List ZV) (h : PH), zev kJ4_put_2 146 (x0 :: x1 :: x2 :: x3 :: zvr a :: L) st h = zev kJ4_put_2 148 (x0 :: x1 :: x2 :: x3 :: zvr a :: L) (zvr a :: st) h) ∧
  (∀ (q : Nat) (L st : List ZV) (h : PH), zev kJ4_put_2 148 L (zvr (some q) :: st) h = if (ph_K h q).1 % 1000 = 33 then zev kJ4_put_2 151 L (zvr (ph_R h q 2) :: st) h else none) ∧
  (∀ (x0 x1 x2 x3 x4 : ZV) (a : Option Nat) (L st : List ZV) (h : PH) (hx : zisL x3 = false) , zev kJ4_put_2 151 (x0 :: x1 :: x2 :: x3 :: x4 :: L) (zvr a :: st) h = zev kJ4_put_2 153 (x0 :: x1 :: x2 :: x3 :: zvr a :: L) st h) ∧
  (∀ (L st : List ZV) (h : PH), zev kJ4_put_2 153 L st h = zev kJ4_put_2 196 L st h) ∧
  (∀ (x0 x1 x2 x3 x4 : ZV) (a : Int) (L st : List ZV) (h : PH), zev kJ4_put_2 156 (x0 :: x1 :: x2 :: x3 :: x4 :: zvi a :: L) st h = zev kJ4_put_2 158 (x0 :: x1 :: x2 :: x3 :: x4 :: zvi a :: L) (zvi a :: st) h) ∧
  (∀ (a : Int) (L st : List ZV) (h : PH), zev kJ4_put_2 158 L (zvi a :: st) h = if a ≤ 0 then zev kJ4_put_2 171 L st h else zev kJ4_put_2 161 L st h) ∧
  (∀ (x0 x1 x2 x3 : ZV) (a : Option Nat) (L st : List ZV) (h : PH), zev kJ4_put_2 161 (x0 :: x1 :: x2 :: x3 :: zvr a :: L) st h = zev kJ4_put_2 163 (x0 :: x1 :: x2 :: x3 :: zvr a :: L) (zvr a :: st) h) ∧
  (∀ (q : Nat) (L st : List ZV) (h : PH), zev kJ4_put_2 163 L (zvr (some q) :: st) h = if (ph_K h q).1 % 1000 = 33 then zev kJ4_put_2 166 L (zvr (ph_R h q 3) :: st) h else none) ∧
  (∀ (x0 x1 x2 x3 x4 : ZV) (a : Option Nat) (L st : List ZV) (h : PH) (hx : zisL x3 = false) , zev kJ4_put_2 166 (x0 :: x1 :: x2 :: x3 :: x4 :: L) (zvr a :: st) h = zev kJ4_put_2 168 (x0 :: x1 :: x2 :: x3 :: zvr a :: L) st h) ∧
  (∀ (L st : List ZV) (h : PH), zev kJ4_put_2 168 L st h = zev kJ4_put_2 196 L st h) ∧
  (∀ (x0 x1 x2 x3 : ZV) (a : Option Nat) (L st : List ZV) (h : PH), zev kJ4_put_2 171 (x0 :: x1 :: x2 :: x3 :: zvr a :: L) st h = zev kJ4_put_2 173 (x0 :: x1 :: x2 :: x3 :: zvr a :: L) (zvr a :: st) h) ∧
  (∀ (q : Nat) (L st : List ZV) (h : PH), zev kJ4_put_2 173 L (zvr (some q) :: st) h = if (ph_K h q).1 % 1000 = 33 then zev kJ4_put_2 176 L (zvr (ph_R h q 1) :: st) h else none) ∧
  (∀ (x0 x1 x2 x3 x4 x5 x6 x7 x8 x9 : ZV) (a : Option Nat) (L st : List ZV) (h : PH) (hx : zisL x8 = false) , zev kJ4_put_2 176 (x0 :: x1 :: x2 :: x3 :: x4 :: x5 :: x6 :: x7 :: x8 :: x9 :: L) (zvr a :: st) h = zev kJ4_put_2 178 (x0 :: x1 :: x2 :: x3 :: x4 :: x5 :: x6 :: x7 :: x8 :: zvr a :: L) st h) ∧
  (∀ (x0 x1 x2 : ZV) (a : Int) (L st : List ZV) (h : PH), zev kJ4_put_2 178 (x0 :: x1 :: x2 :: zvi a :: L) st h = zev kJ4_put_2 179 (x0 :: x1 :: x2 :: zvi a :: L) (zvi a :: st) h) ∧
  (∀ (a : Int) (L st : List ZV) (h : PH), zev kJ4_put_2 179 L (zvi a :: st) h = if a ≠ 0 then zev kJ4_put_2 187 L st h else zev kJ4_put_2 182 L st h) ∧
  (∀ (x0 x1 x2 x3 x4 x5 x6 x7 x8 : ZV) (a : Option Nat) (L st : List ZV) (h : PH), zev kJ4_put_2 182 (x0 :: x1 :: x2 :: x3 :: x4 :: x5 :: x6 :: x7 :: x8 :: zvr a :: L) st h = zev kJ4_put_2 184 (x0 :: x1 :: x2 :: x3 :: x4 :: x5 :: x6 :: x7 :: x8 :: zvr a :: L) (zvr a :: st) h) ∧
  (∀ (L st : List ZV) (h : PH), zev kJ4_put_2 184 L (zvr none :: st) h = zev kJ4_put_2 187 L st h) ∧
  (∀ (q : Nat) (L st : List ZV) (h : PH), zev kJ4_put_2 184 L (zvr (some q) :: st) h = if (ph_K h q).1 ≠ 0 then zev kJ4_put_2 193 L st h else none) ∧
  (∀ (x0 x1 x2 x3 : ZV) (a : Option Nat) (L st : List ZV) (h : PH), zev kJ4_put_2 187 (x0 :: x1 :: x2 :: x3 :: zvr a :: L) st h = zev kJ4_put_2 189 (x0 :: x1 :: x2 :: x3 :: zvr a :: L) (zvr a :: st) h) ∧
  (∀ (x0 x1 : ZV) (a : Option Nat) (L st : List ZV) (h : PH), zev kJ4_put_2 189 (x0 :: x1 :: zvr a :: L) st h = zev kJ4_put_2 190 (x0 :: x1 :: zvr a :: L) (zvr a :: st) h) ∧
  (∀ (a : Option Nat) (q : Nat) (L st : List ZV) (h : PH), zev kJ4_put_2 190 L (zvr a :: zvr (some q) :: st) h = if (ph_K h q).1 = 33 then zev kJ4_put_2 193 L st (st_R h q 1 a) else none) ∧
  (∀ (x0 x1 x2 x3 x4 x5 x6 x7 x8 : ZV) (a : Option Nat) (L st : List ZV) (h : PH), zev kJ4_put_2 193 (x0 :: x1 :: x2 :: x3 :: x4 :: x5 :: x6 :: x7 :: x8 :: zvr a :: L) st h = zev kJ4_put_2 195 (x0 :: x1 :: x2 :: x3 :: x4 :: x5 :: x6 :: x7 :: x8 :: zvr a :: L) (zvr a :: st) h) ∧
  (∀ (a : Option Nat) (L : List ZV) (h : PH), zev kJ4_put_2 195 L [zvr a] h = zrv (zvr a) h) ∧
  (∀ (x0 x1 x2 x3 : ZV) (a : Option Nat) (L st : List ZV) (h : PH), zev kJ4_put_2 196 (x0 :: x1 :: x2 :: x3 :: zvr a :: L) st h = zev kJ4_put_2 198 (x0 :: x1 :: x2 :: x3 :: zvr a :: L) (zvr a :: st) h) ∧
  (∀ (L st : List ZV) (h : PH), zev kJ4_put_2 198 L (zvr none :: st) h = zev kJ4_put_2 201 L st h) ∧
  (∀ (q : Nat) (L st : List ZV) (h : PH), zev kJ4_put_2 198 L (zvr (some q) :: st) h = if (ph_K h q).1 ≠ 0 then zev kJ4_put_2 123 L st h else none) ∧
  (∀ (a : Option Nat) (L st : List ZV) (h : PH), zev kJ4_put_2 201 (zvr a :: L) st h = zev kJ4_put_2 202 (zvr a :: L) (zvr a :: st) h) ∧
  (∀ (x0 : ZV) (a : Option Nat) (L st : List ZV) (h : PH), zev kJ4_put_2 202 (x0 :: zvr a :: L) st h = zev kJ4_put_2 203 (x0 :: zvr a :: L) (zvr a :: st) h) ∧
  (∀ (x0 x1 : ZV) (a : Option Nat) (L st : List ZV) (h : PH), zev kJ4_put_2 203 (x0 :: x1 :: zvr a :: L) st h = zev kJ4_put_2 204 (x0 :: x1 :: zvr a :: L) (zvr a :: st) h) ∧
  (∀ (x0 x1 x2 x3 x4 x5 : ZV) (a : Option Nat) (L st : List ZV) (h : PH), zev kJ4_put_2 204 (x0 :: x1 :: x2 :: x3 :: x4 :: x5 :: zvr a :: L) st h = zev kJ4_put_2 206 (x0 :: x1 :: x2 :: x3 :: x4 :: x5 :: zvr a :: L) (zvr a :: st) h) ∧
  (∀ (x0 x1 x2 x3 x4 : ZV) (a : Int) (L st : List ZV) (h : PH), zev kJ4_put_2 206 (x0 :: x1 :: x2 :: x3 :: x4 :: zvi a :: L) st h = zev kJ4_put_2 208 (x0 :: x1 :: x2 :: x3 :: x4 :: zvi a :: L) (zvi a :: st) h) ∧
  (∀ (a : Int) (L st : List ZV) (h : PH), zev kJ4_put_2 208 L (zvi a :: st) h = if a ≥ 0 then zev kJ4_put_2 215 L st h else zev kJ4_put_2 211 L st h) ∧
  (∀ (L st : List ZV) (h : PH), zev kJ4_put_2 211 L st h = zev kJ4_put_2 212 L (zvi 1 :: st) h) ∧
  (∀ (L st : List ZV) (h : PH), zev kJ4_put_2 212 L st h = zev kJ4_put_2 216 L st h) ∧
  (∀ (L st : List ZV) (h : PH), zev kJ4_put_2 215 L st h = zev kJ4_put_2 216 L (zvi 0 :: st) h) ∧
  (∀ (v0 v1 v2 v3 : ZV) (q : Nat) (L st : List ZV) (h : PH), zev kJ4_put_2 216 L (v3 :: v2 :: v1 :: v0 :: zvr (some q) :: st) h = if (ph_K h q).1 % 1000 = 32 ∧ zcat st ≤ 8 then zk kJ4_put_2 216 219 L st (mJ4_addEntry [zvr (some q), v0, v1, v2, v3] h) else none) ∧
  (∀ (L st : List ZV) (h : PH), zev kJ4_put_2 219 L st h = zev kJ4_put_2 220 L (zvr none :: st) h) ∧
  (∀ (a : Option Nat) (L : List ZV) (h : PH), zev kJ4_put_2 220 L [zvr a] h = zrv (zvr a) h) :=
  ⟨fun a L st h => e_ld0R (n := 1) rfl,
  fun q L st h => e_getR (kd := 32) (k := 3) (n := 4) rfl,
  fun x0 x1 x2 x3 x4 a L st h hx => e_st4R (n := 6) rfl hx,
  fun x0 x1 x2 x3 a L st h => e_ld4R (n := 8) rfl,
  fun L st h => e_nonnull0 (t := 19) (n := 11) rfl,
  fun q L st h => e_nonnull1 (t := 19) (n := 11) rfl,
  fun a L st h => e_ld0R (n := 12) rfl,
  fun x0 a L st h => e_ld1R (n := 13) rfl,
  fun x0 x1 a L st h => e_ld2R (n := 14) rfl,
  fun v0 v1 q L st h => e_callV3 (F := mJ4_addEntryToEmptyMap) (kd := 32) (n := 17) rfl,
  fun L st h => e_push (v := zvr none) (n := 18) rfl,
  fun a L h => e_retR rfl,
  fun a L st h => e_ld0R (n := 20) rfl,
  fun q L st h => e_getR (kd := 32) (k := 2) (n := 23) rfl,
  fun x0 x1 x2 x3 x4 x5 x6 x7 a L st h hx => e_st7R (n := 25) rfl hx,
  fun x0 x1 x2 x3 x4 x5 x6 a L st h => e_ld7R (n := 27) rfl,
  fun L st h => e_null0 (t := 112) (n := 30) rfl,
  fun q L st h => e_null1 (t := 112) (n := 30) rfl,
  fun x0 x1 x2 x3 x4 x5 x6 a L st h hx => e_st6R (n := 34) rfl hx,
  fun x0 x1 x2 x3 x4 x5 x6 a L st h => e_ld7R (n := 36) rfl,
  fun x0 a L st h => e_ld1R (n := 37) rfl,
  fun x0 x1 x2 x3 a L st h => e_ld4R (n := 39) rfl,
  fun q L st h => e_getR (kd := 33) (k := 0) (n := 42) rfl,
  fun v0 v1 q L st h => e_callV3 (F := mX2_compare) (kd := 28) (n := 47) rfl,
  fun x0 x1 x2 x3 x4 x5 a L st h hx => e_st5I (n := 49) rfl hx,
  fun x0 x1 x2 x3 x4 a L st h => e_ld5I (n := 51) rfl,
  fun a L st h => e_ifge (t := 64) (n := 54) rfl,
  fun x0 x1 x2 x3 a L st h => e_ld4R (n := 56) rfl,
  fun q L st h => e_getR (kd := 33) (k := 2) (n := 59) rfl,
  fun x0 x1 x2 x3 x4 a L st h hx => e_st4R (n := 61) rfl hx,
  fun L st h => e_goto (t := 104) rfl,
  fun x0 x1 x2 x3 x4 a L st h => e_ld5I (n := 66) rfl,
  fun a L st h => e_ifle (t := 79) (n := 69) rfl,
  fun x0 x1 x2 x3 a L st h => e_ld4R (n := 71) rfl,
  fun q L st h => e_getR (kd := 33) (k := 3) (n := 74) rfl,
  fun x0 x1 x2 x3 x4 a L st h hx => e_st4R (n := 76) rfl hx,
  fun L st h => e_goto (t := 104) rfl,
  fun x0 x1 x2 x3 a L st h => e_ld4R (n := 81) rfl,
  fun q L st h => e_getR (kd := 33) (k := 1) (n := 84) rfl,
  fun x0 x1 x2 x3 x4 x5 x6 x7 x8 a L st h hx => e_st8R (n := 86) rfl hx,
  fun x0 x1 x2 a L st h => e_ld3I (n := 87) rfl,
  fun a L st h => e_ifne (t := 95) (n := 90) rfl,
  fun x0 x1 x2 x3 x4 x5 x6 x7 a L st h => e_ld8R (n := 92) rfl,
  fun L st h => e_nonnull0 (t := 101) (n := 95) rfl,
  fun q L st h => e_nonnull1 (t := 101) (n := 95) rfl,
  fun x0 x1 x2 x3 a L st h => e_ld4R (n := 97) rfl,
  fun x0 x1 a L st h => e_ld2R (n := 98) rfl,
  fun a q L st h => e_putR (kd := 33) (k := 1) (n := 101) rfl,
  fun x0 x1 x2 x3 x4 x5 x6 x7 a L st h => e_ld8R (n := 103) rfl,
  fun a L h => e_retR rfl,
  fun x0 x1 x2 x3 a L st h => e_ld4R (n := 106) rfl,
  fun L st h => e_nonnull0 (t := 30) (n := 109) rfl,
  fun q L st h => e_nonnull1 (t := 30) (n := 109) rfl,
  fun L st h => e_goto (t := 201) rfl,
  fun x0 a L st h => e_ld1R (n := 113) rfl,
  fun v0 L st h => e_callS1 (F := mJ14_requireNonNull) (n := 116) rfl,
  fun a L st h => e_popI (n := 117) rfl,
  fun a L st h => e_popR (n := 117) rfl,
  fun x0 a L st h => e_ld1R (n := 118) rfl,
  fun x0 x1 x2 x3 x4 x5 x6 x7 x8 a L st h hx => e_st8R (n := 123) rfl hx,
  fun x0 x1 x2 x3 x4 x5 x6 a L st h hx => e_st6R (n := 127) rfl hx,
  fun x0 x1 x2 x3 x4 x5 x6 x7 a L st h => e_ld8R (n := 129) rfl,
  fun x0 x1 x2 x3 a L st h => e_ld4R (n := 131) rfl,
  fun q L st h => e_getR (kd := 33) (k := 0) (n := 134) rfl,
  fun x0 x1 x2 x3 x4 x5 a L st h hx => e_st5I (n := 141) rfl hx,
  fun x0 x1 x2 x3 x4 a L st h => e_ld5I (n := 143) rfl,
  fun a L st h => e_ifge (t := 156) (n := 146) rfl,
  fun x0 x1 x2 x3 a L st h => e_ld4R (n := 148) rfl,
  fun q L st h => e_getR (kd := 33) (k := 2) (n := 151) rfl,
  fun x0 x1 x2 x3 x4 a L st h hx => e_st4R (n := 153) rfl hx,
  fun L st h => e_goto (t := 196) rfl,
  fun x0 x1 x2 x3 x4 a L st h => e_ld5I (n := 158) rfl,
  fun a L st h => e_ifle (t := 171) (n := 161) rfl,
  fun x0 x1 x2 x3 a L st h => e_ld4R (n := 163) rfl,
  fun q L st h => e_getR (kd := 33) (k := 3) (n := 166) rfl,
  fun x0 x1 x2 x3 x4 a L st h hx => e_st4R (n := 168) rfl hx,
  fun L st h => e_goto (t := 196) rfl,
  fun x0 x1 x2 x3 a L st h => e_ld4R (n := 173) rfl,
  fun q L st h => e_getR (kd := 33) (k := 1) (n := 176) rfl,
  fun x0 x1 x2 x3 x4 x5 x6 x7 x8 x9 a L st h hx => e_st9R (n := 178) rfl hx,
  fun x0 x1 x2 a L st h => e_ld3I (n := 179) rfl,
  fun a L st h => e_ifne (t := 187) (n := 182) rfl,
  fun x0 x1 x2 x3 x4 x5 x6 x7 x8 a L st h => e_ld9R (n := 184) rfl,
  fun L st h => e_nonnull0 (t := 193) (n := 187) rfl,
  fun q L st h => e_nonnull1 (t := 193) (n := 187) rfl,
  fun x0 x1 x2 x3 a L st h => e_ld4R (n := 189) rfl,
  fun x0 x1 a L st h => e_ld2R (n := 190) rfl,
  fun a q L st h => e_putR (kd := 33) (k := 1) (n := 193) rfl,
  fun x0 x1 x2 x3 x4 x5 x6 x7 x8 a L st h => e_ld9R (n := 195) rfl,
  fun a L h => e_retR rfl,
  fun x0 x1 x2 x3 a L st h => e_ld4R (n := 198) rfl,
  fun L st h => e_nonnull0 (t := 123) (n := 201) rfl,
  fun q L st h => e_nonnull1 (t := 123) (n := 201) rfl,
  fun a L st h => e_ld0R (n := 202) rfl,
  fun x0 a L st h => e_ld1R (n := 203) rfl,
  fun x0 x1 a L st h => e_ld2R (n := 204) rfl,
  fun x0 x1 x2 x3 x4 x5 a L st h => e_ld6R (n := 206) rfl,
  fun x0 x1 x2 x3 x4 a L st h => e_ld5I (n := 208) rfl,
  fun a L st h => e_ifge (t := 215) (n := 211) rfl,
  fun L st h => e_push (v := zvi 1) (n := 212) rfl,
  fun L st h => e_goto (t := 216) rfl,
  fun L st h => e_push (v := zvi 0) (n := 216) rfl,
  fun v0 v1 v2 v3 q L st h => e_callV5 (F := mJ4_addEntry) (kd := 32) (n := 219) rfl,
  fun L st h => e_push (v := zvr none) (n := 220) rfl,
  fun a L h => e_retR rfl⟩
theorem allJ4_put_2 : zall yJ4_put_2 cJ4_put_2 10 (some (.object "java/lang/Object")) 6 kJ4_put_2.1 :=
  ⟨k_aload_n dJ4_put_2_0,
  k_getR (C := RJ4) (T := TJ4) (N := 9) (ci := 16) (k := 3) (ref := "java/util/TreeMap") dJ4_put_2_1 rfl in_J4 (by decide) q202 (Or.inl rfl) (fun _ _ _ => rfl),
  k_astore dJ4_put_2_4,
  k_aload dJ4_put_2_6,
  k_nonnull (t := 19) dJ4_put_2_8 (by decide),
  k_aload_n dJ4_put_2_11,
  k_aload_n dJ4_put_2_12,
  k_aload_n dJ4_put_2_13,
  k_callV (y2 := yJ4_addEntryToEmptyMap) (C := RJ4) (T0 := TJ4) (ci := 16) dJ4_put_2_14 sndJ4_addEntryToEmptyMap rfl q956 q958 qs27 q134 q959 (by decide +kernel) ⟨by decide, by decide⟩ (by decide) (by decide),
  k_anull dJ4_put_2_17,
  k_aret dJ4_put_2_18 rfl (Or.inl ⟨_, rfl⟩),
  k_aload_n dJ4_put_2_19,
  k_getR (C := RJ4) (T := TJ4) (N := 9) (ci := 16) (k := 2) (ref := "java/util/TreeMap") dJ4_put_2_20 rfl in_J4 (by decide) q201 (Or.inl rfl) (fun _ _ _ => rfl),
  k_astore dJ4_put_2_23,
  k_aload dJ4_put_2_25,
  k_null (t := 112) dJ4_put_2_27 (by decide),
  k_aload dJ4_put_2_30,
  k_astore dJ4_put_2_32,
  k_aload dJ4_put_2_34,
  k_aload_n dJ4_put_2_36,
  k_aload dJ4_put_2_37,
  k_getR (C := RJ22) (T := TJ22) (N := 6) (ci := 17) (k := 0) (ref := "java/util/TreeMap$Entry") dJ4_put_2_39 rfl in_J22 (by decide) q1155 (Or.inl rfl) (fun _ _ _ => rfl),
  k_callIF (x2 := ⟨"java/util/Comparator", "compare", "(Ljava/lang/Object;Ljava/lang/Object;)I"⟩) (y2 := yX2_compare) (C := RX2) (T0 := TX2) (ci := 12) dJ4_put_2_42 sndX2_compare rfl q1130 (by decide +kernel) q1136 q1134 q132 q1138 (by decide +kernel) ⟨by decide, by decide⟩ (by decide) (by decide),
  k_istore dJ4_put_2_47,
  k_iload dJ4_put_2_49,
  k_ifge (t := 64) dJ4_put_2_51 (by decide),
  k_aload dJ4_put_2_54,
  k_getR (C := RJ22) (T := TJ22) (N := 6) (ci := 17) (k := 2) (ref := "java/util/TreeMap$Entry") dJ4_put_2_56 rfl in_J22 (by decide) q1158 (Or.inl rfl) (fun _ _ _ => rfl),
  k_astore dJ4_put_2_59,
  k_goto (t := 104) dJ4_put_2_61 (by decide),
  k_iload dJ4_put_2_64,
  k_ifle (t := 79) dJ4_put_2_66 (by decide),
  k_aload dJ4_put_2_69,
  k_getR (C := RJ22) (T := TJ22) (N := 6) (ci := 17) (k := 3) (ref := "java/util/TreeMap$Entry") dJ4_put_2_71 rfl in_J22 (by decide) q1159 (Or.inl rfl) (fun _ _ _ => rfl),
  k_astore dJ4_put_2_74,
  k_goto (t := 104) dJ4_put_2_76 (by decide),
  k_aload dJ4_put_2_79,
  k_getR (C := RJ22) (T := TJ22) (N := 6) (ci := 17) (k := 1) (ref := "java/util/TreeMap$Entry") dJ4_put_2_81 rfl in_J22 (by decide) q1157 (Or.inl rfl) (fun _ _ _ => rfl),
  k_astore dJ4_put_2_84,
  k_iload_n dJ4_put_2_86,
  k_ifne (t := 95) dJ4_put_2_87 (by decide),
  k_aload dJ4_put_2_90,
  k_nonnull (t := 101) dJ4_put_2_92 (by decide),
  k_aload dJ4_put_2_95,
  k_aload_n dJ4_put_2_97,
  k_putR (C := RJ22) (T := TJ22) (N := 6) (ci := 17) (k := 1) (ref := "java/util/TreeMap$Entry") dJ4_put_2_98 rfl in_J22 tyJ22 tyJ22_ok nmJ22 (by decide) (Or.inl q1157) (Or.inl rfl) (Or.inl rfl) (tyJ22_ok 1 (by decide)) (Or.inl ⟨_, rfl⟩) (fun _ _ _ => rfl),
  k_aload dJ4_put_2_101,
  k_aret dJ4_put_2_103 rfl (Or.inl ⟨_, rfl⟩),
  k_aload dJ4_put_2_104,
  k_nonnull (t := 30) dJ4_put_2_106 (by decide),
  k_goto (t := 201) dJ4_put_2_109 (by decide),
  k_aload_n dJ4_put_2_112,
  k_callS (y2 := yJ14_requireNonNull) dJ4_put_2_113 sndJ14_requireNonNull q1177 q1178 q151 q1179 (by decide +kernel) ⟨by decide, by decide⟩ (by decide) (by decide),
  k_pop dJ4_put_2_116,
  k_aload_n dJ4_put_2_117,
  k_stuck,
  k_astore dJ4_put_2_121,
  k_aload dJ4_put_2_123,
  k_astore dJ4_put_2_125,
  k_aload dJ4_put_2_127,
  k_aload dJ4_put_2_129,
  k_getR (C := RJ22) (T := TJ22) (N := 6) (ci := 17) (k := 0) (ref := "java/util/TreeMap$Entry") dJ4_put_2_131 rfl in_J22 (by decide) q1155 (Or.inl rfl) (fun _ _ _ => rfl),
  k_stuck,
  k_istore dJ4_put_2_139,
  k_iload dJ4_put_2_141,
  k_ifge (t := 156) dJ4_put_2_143 (by decide),
  k_aload dJ4_put_2_146,
  k_getR (C := RJ22) (T := TJ22) (N := 6) (ci := 17) (k := 2) (ref := "java/util/TreeMap$Entry") dJ4_put_2_148 rfl in_J22 (by decide) q1158 (Or.inl rfl) (fun _ _ _ => rfl),
  k_astore dJ4_put_2_151,
  k_goto (t := 196) dJ4_put_2_153 (by decide),
  k_iload dJ4_put_2_156,
  k_ifle (t := 171) dJ4_put_2_158 (by decide),
  k_aload dJ4_put_2_161,
  k_getR (C := RJ22) (T := TJ22) (N := 6) (ci := 17) (k := 3) (ref := "java/util/TreeMap$Entry") dJ4_put_2_163 rfl in_J22 (by decide) q1159 (Or.inl rfl) (fun _ _ _ => rfl),
  k_astore dJ4_put_2_166,
  k_goto (t := 196) dJ4_put_2_168 (by decide),
  k_aload dJ4_put_2_171,
  k_getR (C := RJ22) (T := TJ22) (N := 6) (ci := 17) (k := 1) (ref := "java/util/TreeMap$Entry") dJ4_put_2_173 rfl in_J22 (by decide) q1157 (Or.inl rfl) (fun _ _ _ => rfl),
  k_astore dJ4_put_2_176,
  k_iload_n dJ4_put_2_178,
  k_ifne (t := 187) dJ4_put_2_179 (by decide),
  k_aload dJ4_put_2_182,
  k_nonnull (t := 193) dJ4_put_2_184 (by decide),
  k_aload dJ4_put_2_187,
  k_aload_n dJ4_put_2_189,
  k_putR (C := RJ22) (T := TJ22) (N := 6) (ci := 17) (k := 1) (ref := "java/util/TreeMap$Entry") dJ4_put_2_190 rfl in_J22 tyJ22 tyJ22_ok nmJ22 (by decide) (Or.inl q1157) (Or.inl rfl) (Or.inl rfl) (tyJ22_ok 1 (by decide)) (Or.inl ⟨_, rfl⟩) (fun _ _ _ => rfl),
  k_aload dJ4_put_2_193,
  k_aret dJ4_put_2_195 rfl (Or.inl ⟨_, rfl⟩),
  k_aload dJ4_put_2_196,
  k_nonnull (t := 123) dJ4_put_2_198 (by decide),
  k_aload_n dJ4_put_2_201,
  k_aload_n dJ4_put_2_202,
  k_aload_n dJ4_put_2_203,
  k_aload dJ4_put_2_204,
  k_iload dJ4_put_2_206,
  k_ifge (t := 215) dJ4_put_2_208 (by decide),
  k_iconst dJ4_put_2_211,
  k_goto (t := 216) dJ4_put_2_212 (by decide),
  k_iconst dJ4_put_2_215,
  k_callV (y2 := yJ4_addEntry) (C := RJ4) (T0 := TJ4) (ci := 16) dJ4_put_2_216 sndJ4_addEntry rfl q1180 q1182 qs28 q134 q1183 (by decide +kernel) ⟨by decide, by decide⟩ (by decide) (by decide),
  k_anull dJ4_put_2_219,
  k_aret dJ4_put_2_220 rfl (Or.inl ⟨_, rfl⟩), trivial⟩
theorem sndJ4_put_2 : MSound 6 yJ4_put_2 (ws_ yJ4_put_2 cJ4_put_2 10 (some (.object "java/lang/Object"))) mJ4_put_2 := msound_M (by decide) allJ4_put_2 (fun _ _ => rfl)
/-! java/util/TreeMap.put(Ljava/lang/Object;Ljava/lang/Object;)Ljava/lang/Object; -/
noncomputable def kJ4_put : ZM := ([(0, zi_ld 1 0 1), (1, zi_ld 1 1 2), (2, zi_ld 1 2 3), (3, zi_push (zvi 1) 4), (4, zi_callV mJ4_put_2 32 4 7), (7, zi_retv 1)], fun _ _ => none)
noncomputable def mJ4_put : ZF := zrunM kJ4_put 3
theorem enJ4_put (x0 : Option Nat) (x1 : Option Nat) (x2 : Option Nat) (h : PH) : mJ4_put [zvr x0, zvr x1, zvr x2] h = zev kJ4_put 0 [zvr x0, zvr x1, zvr x2] [] h := zrunM_eq rfl rfl
theorem rJ4_put : (∀ (a : Option Nat) (L st : List ZV) (h : PH), zev kJ4_put 0 (zvr a :: L) st h = zev kJ4_put 1 (zvr a :: L) (zvr a :: st) h) ∧
  (∀ (x0 : ZV) (a : Option Nat) (L st : List ZV) (h : PH), zev kJ4_put 1 (x0 :: zvr a :: L) st h = zev kJ4_put 2 (x0 :: zvr a :: L) (zvr a :: st) h) ∧
  (∀ (x0 x1 : ZV) (a : Option Nat) (L st : List ZV) (h : PH), zev kJ4_put 2 (x0 :: x1 :: zvr a :: L) st h = zev kJ4_put 3 (x0 :: x1 :: zvr a :: L) (zvr a :: st) h) ∧
  (∀ (L st : List ZV) (h : PH), zev kJ4_put 3 L st h = zev kJ4_put 4 L (zvi 1 :: st) h) ∧
  (∀ (v0 v1 v2 : ZV) (q : Nat) (L st : List ZV) (h : PH), zev kJ4_put 4 L (v2 :: v1 :: v0 :: zvr (some q) :: st) h = if (ph_K h q).1 % 1000 = 32 ∧ zcat st ≤ 8 then zk kJ4_put 4 7 L st (mJ4_put_2 [zvr (some q), v0, v1, v2] h) else none) ∧
  (∀ (a : Option Nat) (L : List ZV) (h : PH), zev kJ4_put 7 L [zvr a] h = zrv (zvr a) h) :=
  ⟨fun a L st h => e_ld0R (n := 1) rfl,
  fun x0 a L st h => e_ld1R (n := 2) rfl,
  fun x0 x1 a L st h => e_ld2R (n := 3) rfl,
  fun L st h => e_push (v := zvi 1) (n := 4) rfl,
  fun v0 v1 v2 q L st h => e_callV4 (F := mJ4_put_2) (kd := 32) (n := 7) rfl,
  fun a L h => e_retR rfl⟩
theorem allJ4_put : zall yJ4_put cJ4_put 3 (some (.object "java/lang/Object")) 7 kJ4_put.1 :=
  ⟨k_aload_n dJ4_put_0,
  k_aload_n dJ4_put_1,
  k_aload_n dJ4_put_2,
  k_iconst dJ4_put_3,
  k_callV (y2 := yJ4_put_2) (C := RJ4) (T0 := TJ4) (ci := 16) dJ4_put_4 sndJ4_put_2 rfl q952 q954 qs26 q134 q955 (by decide +kernel) ⟨by decide, by decide⟩ (by decide) (by decide),
  k_aret dJ4_put_7 rfl (Or.inl ⟨_, rfl⟩), trivial⟩
theorem sndJ4_put : MSound 7 yJ4_put (ws_ yJ4_put cJ4_put 3 (some (.object "java/lang/Object"))) mJ4_put := msound_M (by decide) allJ4_put (fun _ _ => rfl)
/-! java/util/TreeMap.size()I -/
noncomputable def kJ4_size : ZM := ([(0, zi_ld 1 0 1), (1, zi_getI 32 4 4), (4, zi_retv 0)], fun _ _ => none)
noncomputable def mJ4_size : ZF := zrunM kJ4_size 1
theorem enJ4_size (x0 : Option Nat) (h : PH) : mJ4_size [zvr x0] h = zev kJ4_size 0 [zvr x0] [] h := zrunM_eq rfl rfl
theorem rJ4_size : (∀ (a : Option Nat) (L st : List ZV) (h : PH), zev kJ4_size 0 (zvr a :: L) st h = zev kJ4_size 1 (zvr a :: L) (zvr a :: st) h) ∧
  (∀ (q : Nat) (L st : List ZV) (h : PH), zev kJ4_size 1 L (zvr (some q) :: st) h = if (ph_K h q).1 % 1000 = 32 then zev kJ4_size 4 L (zvi (ph_I h q 4) :: st) h else none) ∧
  (∀ (a : Int) (L : List ZV) (h : PH), zev kJ4_size 4 L [zvi a] h = zrv (zvi a) h) :=
  ⟨fun a L st h => e_ld0R (n := 1) rfl,
  fun q L st h => e_getI (kd := 32) (k := 4) (n := 4) rfl,
  fun a L h => e_retI rfl⟩
theorem allJ4_size : zall yJ4_size cJ4_size 1 (some .int) 1 kJ4_size.1 :=
  ⟨k_aload_n dJ4_size_0,
  k_getI (C := RJ4) (T := TJ4) (N := 9) (ci := 16) (k := 4) (ref := "java/util/TreeMap") dJ4_size_1 rfl in_J4 (by decide) q203 (Or.inl rfl) (fun _ _ _ => rfl),
  k_iret dJ4_size_4, trivial⟩
theorem sndJ4_size : MSound 1 yJ4_size (ws_ yJ4_size cJ4_size 1 (some .int)) mJ4_size := msound_M (by decide) allJ4_size (fun _ _ => rfl)
/-! java/util/TreeMap.getFirstEntry()Ljava/util/TreeMap$Entry; -/
noncomputable def kJ4_getFirstEntry : ZM := ([(0, zi_ld 1 0 1), (1, zi_getR 32 3 4), (4, zi_st 1 1 5), (5, zi_ld 1 1 6), (6, zi_null 24 9), (9, zi_ld 1 1 10), (10, zi_getR 33 2 13), (13, zi_null 24 16), (16, zi_ld 1 1 17), (17, zi_getR 33 2 20), (20, zi_st 1 1 21), (21, zi_goto 9), (24, zi_ld 1 1 25), (25, zi_retv 1)], fun _ _ => none)
noncomputable def mJ4_getFirstEntry : ZF := zrunM kJ4_getFirstEntry 2
theorem enJ4_getFirstEntry (x0 : Option Nat) (h : PH) : mJ4_getFirstEntry [zvr x0] h = zev kJ4_getFirstEntry 0 [zvr x0, zvu] [] h := zrunM_eq rfl rfl
theorem hdJ4_getFirstEntry_9 (x0 : ZV) (a : Option Nat) (L st : List ZV) (h : PH) : zev kJ4_getFirstEntry 9 (x0 :: zvr a :: L) st h = zev kJ4_getFirstEntry 10 (x0 :: zvr a :: L) (zvr a :: st) h := e_ld1R (n := 10) rfl
theorem rJ4_getFirstEntry : (∀ (a : Option Nat) (L st : List ZV) (h : PH), zev kJ4_getFirstEntry 0 (zvr a :: L) st h = zev kJ4_getFirstEntry 1 (zvr a :: L) (zvr a :: st) h) ∧
  (∀ (q : Nat) (L st : List ZV) (h : PH), zev kJ4_getFirstEntry 1 L (zvr (some q) :: st) h = if (ph_K h q).1 % 1000 = 32 then zev kJ4_getFirstEntry 4 L (zvr (ph_R h q 3) :: st) h else none) ∧
  (∀ (x0 x1 : ZV) (a : Option Nat) (L st : List ZV) (h : PH) (hx : zisL x0 = false) , zev kJ4_getFirstEntry 4 (x0 :: x1 :: L) (zvr a :: st) h = zev kJ4_getFirstEntry 5 (x0 :: zvr a :: L) st h) ∧
  (∀ (x0 : ZV) (a : Option Nat) (L st : List ZV) (h : PH), zev kJ4_getFirstEntry 5 (x0 :: zvr a :: L) st h = zev kJ4_getFirstEntry 6 (x0 :: zvr a :: L) (zvr a :: st) h) ∧
  (∀ (L st : List ZV) (h : PH), zev kJ4_getFirstEntry 6 L (zvr none :: st) h = zev kJ4_getFirstEntry 24 L st h) ∧
  (∀ (q : Nat) (L st : List ZV) (h : PH), zev kJ4_getFirstEntry 6 L (zvr (some q) :: st) h = if (ph_K h q).1 ≠ 0 then zev kJ4_getFirstEntry 9 L st h else none) ∧
  (∀ (q : Nat) (L st : List ZV) (h : PH), zev kJ4_getFirstEntry 10 L (zvr (some q) :: st) h = if (ph_K h q).1 % 1000 = 33 then zev kJ4_getFirstEntry 13 L (zvr (ph_R h q 2) :: st) h else none) ∧
  (∀ (L st : List ZV) (h : PH), zev kJ4_getFirstEntry 13 L (zvr none :: st) h = zev kJ4_getFirstEntry 24 L st h) ∧
  (∀ (q : Nat) (L st : List ZV) (h : PH), zev kJ4_getFirstEntry 13 L (zvr (some q) :: st) h = if (ph_K h q).1 ≠ 0 then zev kJ4_getFirstEntry 16 L st h else none) ∧
  (∀ (x0 : ZV) (a : Option Nat) (L st : List ZV) (h : PH), zev kJ4_getFirstEntry 16 (x0 :: zvr a :: L) st h = zev kJ4_getFirstEntry 17 (x0 :: zvr a :: L) (zvr a :: st) h) ∧
  (∀ (q : Nat) (L st : List ZV) (h : PH), zev kJ4_getFirstEntry 17 L (zvr (some q) :: st) h = if (ph_K h q).1 % 1000 = 33 then zev kJ4_getFirstEntry 20 L (zvr (ph_R h q 2) :: st) h else none) ∧
  (∀ (x0 x1 : ZV) (a : Option Nat) (L st : List ZV) (h : PH) (hx : zisL x0 = false) , zev kJ4_getFirstEntry 20 (x0 :: x1 :: L) (zvr a :: st) h = zev kJ4_getFirstEntry 21 (x0 :: zvr a :: L) st h) ∧
  (∀ (L st : List ZV) (h : PH), zev kJ4_getFirstEntry 21 L st h = zev kJ4_getFirstEntry 9 L st h) ∧
  (∀ (x0 : ZV) (a : Option Nat) (L st : List ZV) (h : PH), zev kJ4_getFirstEntry 24 (x0 :: zvr a :: L) st h = zev kJ4_getFirstEntry 25 (x0 :: zvr a :: L) (zvr a :: st) h) ∧
  (∀ (a : Option Nat) (L : List ZV) (h : PH), zev kJ4_getFirstEntry 25 L [zvr a] h = zrv (zvr a) h) :=
  ⟨fun a L st h => e_ld0R (n := 1) rfl,
  fun q L st h => e_getR (kd := 32) (k := 3) (n := 4) rfl,
  fun x0 x1 a L st h hx => e_st1R (n := 5) rfl hx,
  fun x0 a L st h => e_ld1R (n := 6) rfl,
  fun L st h => e_null0 (t := 24) (n := 9) rfl,
  fun q L st h => e_null1 (t := 24) (n := 9) rfl,
  fun q L st h => e_getR (kd := 33) (k := 2) (n := 13) rfl,
  fun L st h => e_null0 (t := 24) (n := 16) rfl,
  fun q L st h => e_null1 (t := 24) (n := 16) rfl,
  fun x0 a L st h => e_ld1R (n := 17) rfl,
  fun q L st h => e_getR (kd := 33) (k := 2) (n := 20) rfl,
  fun x0 x1 a L st h hx => e_st1R (n := 21) rfl hx,
  fun L st h => e_goto (t := 9) rfl,
  fun x0 a L st h => e_ld1R (n := 25) rfl,
  fun a L h => e_retR rfl⟩
theorem allJ4_getFirstEntry : zall yJ4_getFirstEntry cJ4_getFirstEntry 2 (some (.object "java/util/TreeMap$Entry")) 1 kJ4_getFirstEntry.1 :=
  ⟨k_aload_n dJ4_getFirstEntry_0,
  k_getR (C := RJ4) (T := TJ4) (N := 9) (ci := 16) (k := 3) (ref := "java/util/TreeMap") dJ4_getFirstEntry_1 rfl in_J4 (by decide) q202 (Or.inl rfl) (fun _ _ _ => rfl),
  k_astore_n dJ4_getFirstEntry_4,
  k_aload_n dJ4_getFirstEntry_5,
  k_null (t := 24) dJ4_getFirstEntry_6 (by decide),
  k_aload_n dJ4_getFirstEntry_9,
  k_getR (C := RJ22) (T := TJ22) (N := 6) (ci := 17) (k := 2) (ref := "java/util/TreeMap$Entry") dJ4_getFirstEntry_10 rfl in_J22 (by decide) q1158 (Or.inl rfl) (fun _ _ _ => rfl),
  k_null (t := 24) dJ4_getFirstEntry_13 (by decide),
  k_aload_n dJ4_getFirstEntry_16,
  k_getR (C := RJ22) (T := TJ22) (N := 6) (ci := 17) (k := 2) (ref := "java/util/TreeMap$Entry") dJ4_getFirstEntry_17 rfl in_J22 (by decide) q1158 (Or.inl rfl) (fun _ _ _ => rfl),
  k_astore_n dJ4_getFirstEntry_20,
  k_goto (t := 9) dJ4_getFirstEntry_21 (by decide),
  k_aload_n dJ4_getFirstEntry_24,
  k_aret dJ4_getFirstEntry_25 rfl (Or.inl ⟨_, rfl⟩), trivial⟩
theorem sndJ4_getFirstEntry : MSound 1 yJ4_getFirstEntry (ws_ yJ4_getFirstEntry cJ4_getFirstEntry 2 (some (.object "java/util/TreeMap$Entry"))) mJ4_getFirstEntry := msound_M (by decide) allJ4_getFirstEntry (fun _ _ => rfl)
/-! java/util/TreeMap.key(Ljava/util/TreeMap$Entry;)Ljava/lang/Object; -/
noncomputable def kJ4_key : ZM := ([(0, zi_ld 1 0 1), (1, zi_nonnull 12 4), (4, zi_stuck), (7, zi_dup 8), (8, zi_stuck), (11, zi_throw), (12, zi_ld 1 0 13), (13, zi_getR 33 0 16), (16, zi_retv 1)], fun _ _ => none)
noncomputable def mJ4_key : ZF := zrunM kJ4_key 1
theorem enJ4_key (x0 : Option Nat) (h : PH) : mJ4_key [zvr x0] h = zev kJ4_key 0 [zvr x0] [] h := zrunM_eq rfl rfl
theorem rJ4_key : (∀ (a : Option Nat) (L st : List ZV) (h : PH), zev kJ4_key 0 (zvr a :: L) st h = zev kJ4_key 1 (zvr a :: L) (zvr a :: st) h) ∧
  (∀ (L st : List ZV) (h : PH), zev kJ4_key 1 L (zvr none :: st) h = zev kJ4_key 4 L st h) ∧
  (∀ (q : Nat) (L st : List ZV) (h : PH), zev kJ4_key 1 L (zvr (some q) :: st) h = if (ph_K h q).1 ≠ 0 then zev kJ4_key 12 L st h else none) ∧
  (∀ (a : Int) (L st : List ZV) (h : PH), zev kJ4_key 7 L (zvi a :: st) h = zev kJ4_key 8 L (zvi a :: zvi a :: st) h) ∧
  (∀ (a : Option Nat) (L st : List ZV) (h : PH), zev kJ4_key 7 L (zvr a :: st) h = zev kJ4_key 8 L (zvr a :: zvr a :: st) h) ∧
  (∀ (q : Nat) (L st : List ZV) (h : PH), zev kJ4_key 11 L (zvr (some q) :: st) h = if (ph_K h q).1 ≠ 0 then zk kJ4_key 11 0 L [] (zrx q h) else none) ∧
  (∀ (a : Option Nat) (L st : List ZV) (h : PH), zev kJ4_key 12 (zvr a :: L) st h = zev kJ4_key 13 (zvr a :: L) (zvr a :: st) h) ∧
  (∀ (q : Nat) (L st : List ZV) (h : PH), zev kJ4_key 13 L (zvr (some q) :: st) h = if (ph_K h q).1 % 1000 = 33 then zev kJ4_key 16 L (zvr (ph_R h q 0) :: st) h else none) ∧
  (∀ (a : Option Nat) (L : List ZV) (h : PH), zev kJ4_key 16 L [zvr a] h = zrv (zvr a) h) :=
  ⟨fun a L st h => e_ld0R (n := 1) rfl,
  fun L st h => e_nonnull0 (t := 12) (n := 4) rfl,
  fun q L st h => e_nonnull1 (t := 12) (n := 4) rfl,
  fun a L st h => e_dupI (n := 8) rfl,
  fun a L st h => e_dupR (n := 8) rfl,
  fun q L st h => e_throw (n := 0) rfl,
  fun a L st h => e_ld0R (n := 13) rfl,
  fun q L st h => e_getR (kd := 33) (k := 0) (n := 16) rfl,
  fun a L h => e_retR rfl⟩
theorem allJ4_key : zall yJ4_key cJ4_key 1 (some (.object "java/lang/Object")) 6 kJ4_key.1 :=
  ⟨k_aload_n dJ4_key_0,
  k_nonnull (t := 12) dJ4_key_1 (by decide),
  k_stuck,
  k_dup dJ4_key_7,
  k_stuck,
  k_throw dJ4_key_11,
  k_aload_n dJ4_key_12,
  k_getR (C := RJ22) (T := TJ22) (N := 6) (ci := 17) (k := 0) (ref := "java/util/TreeMap$Entry") dJ4_key_13 rfl in_J22 (by decide) q1155 (Or.inl rfl) (fun _ _ _ => rfl),
  k_aret dJ4_key_16 rfl (Or.inl ⟨_, rfl⟩), trivial⟩
theorem sndJ4_key : MSound 6 yJ4_key (ws_ yJ4_key cJ4_key 1 (some (.object "java/lang/Object"))) mJ4_key := msound_M (by decide) allJ4_key (fun _ _ => rfl)
/-! java/util/TreeMap.firstKey()Ljava/lang/Object; -/
noncomputable def kJ4_firstKey : ZM := ([(0, zi_ld 1 0 1), (1, zi_callV mJ4_getFirstEntry 32 1 4), (4, zi_callS mJ4_key 1 7), (7, zi_retv 1)], fun _ _ => none)
noncomputable def mJ4_firstKey : ZF := zrunM kJ4_firstKey 1
theorem enJ4_firstKey (x0 : Option Nat) (h : PH) : mJ4_firstKey [zvr x0] h = zev kJ4_firstKey 0 [zvr x0] [] h := zrunM_eq rfl rfl
theorem rJ4_firstKey : (∀ (a : Option Nat) (L st : List ZV) (h : PH), zev kJ4_firstKey 0 (zvr a :: L) st h = zev kJ4_firstKey 1 (zvr a :: L) (zvr a :: st) h) ∧
  (∀ (q : Nat) (L st : List ZV) (h : PH), zev kJ4_firstKey 1 L (zvr (some q) :: st) h = if (ph_K h q).1 % 1000 = 32 ∧ zcat st ≤ 8 then zk kJ4_firstKey 1 4 L st (mJ4_getFirstEntry [zvr (some q)] h) else none) ∧
  (∀ (v0 : ZV) (L st : List ZV) (h : PH), zev kJ4_firstKey 4 L (v0 :: st) h = if zcat st ≤ 8 then zk kJ4_firstKey 4 7 L st (mJ4_key [v0] h) else none) ∧
  (∀ (a : Option Nat) (L : List ZV) (h : PH), zev kJ4_firstKey 7 L [zvr a] h = zrv (zvr a) h) :=
  ⟨fun a L st h => e_ld0R (n := 1) rfl,
  fun q L st h => e_callV1 (F := mJ4_getFirstEntry) (kd := 32) (n := 4) rfl,
  fun v0 L st h => e_callS1 (F := mJ4_key) (n := 7) rfl,
  fun a L h => e_retR rfl⟩
theorem allJ4_firstKey : zall yJ4_firstKey cJ4_firstKey 1 (some (.object "java/lang/Object")) 7 kJ4_firstKey.1 :=
  ⟨k_aload_n dJ4_firstKey_0,
  k_callV (y2 := yJ4_getFirstEntry) (C := RJ4) (T0 := TJ4) (ci := 16) dJ4_firstKey_1 sndJ4_getFirstEntry rfl q1280 q1281 q1282 q134 q1283 (by decide +kernel) ⟨by decide, by decide⟩ (by decide) (by decide),
  k_callS (y2 := yJ4_key) dJ4_firstKey_4 sndJ4_key q1284 q1285 q134 q1286 (by decide +kernel) ⟨by decide, by decide⟩ (by decide) (by decide),
  k_aret dJ4_firstKey_7 rfl (Or.inl ⟨_, rfl⟩), trivial⟩
theorem sndJ4_firstKey : MSound 7 yJ4_firstKey (ws_ yJ4_firstKey cJ4_firstKey 1 (some (.object "java/lang/Object"))) mJ4_firstKey := msound_M (by decide) allJ4_firstKey (fun _ _ => rfl)
/-! java/util/TreeMap.getHigherEntry(Ljava/lang/Object;)Ljava/util/TreeMap$Entry; -/
noncomputable def kJ4_getHigherEntry : ZM := ([(0, zi_ld 1 0 1), (1, zi_getR 32 3 4), (4, zi_st 1 2 5), (5, zi_ld 1 2 6), (6, zi_null 99 9), (9, zi_ld 1 0 10), (10, zi_ld 1 1 11), (11, zi_ld 1 2 12), (12, zi_getR 33 0 15), (15, zi_callV mJ4_compare 32 3 18), (18, zi_st 0 3 19), (19, zi_ld 0 3 20), (20, zi_if (fun a => zc_ge a 0) 40 23), (23, zi_ld 1 2 24), (24, zi_getR 33 2 27), (27, zi_null 38 30), (30, zi_ld 1 2 31), (31, zi_getR 33 2 34), (34, zi_st 1 2 35), (35, zi_goto 96), (38, zi_ld 1 2 39), (39, zi_retv 1), (40, zi_ld 1 2 41), (41, zi_getR 33 3 44), (44, zi_null 55 47), (47, zi_ld 1 2 48), (48, zi_getR 33 3 51), (51, zi_st 1 2 52), (52, zi_goto 96), (55, zi_ld 1 2 56), (56, zi_getR 33 4 59), (59, zi_st 1 4 61), (61, zi_ld 1 2 62), (62, zi_st 1 5 64), (64, zi_ld 1 4 66), (66, zi_null 93 69), (69, zi_ld 1 5 71), (71, zi_ld 1 4 73), (73, zi_getR 33 3 76), (76, zi_acmp 79 93), (79, zi_ld 1 4 81), (81, zi_st 1 5 83), (83, zi_ld 1 4 85), (85, zi_getR 33 4 88), (88, zi_st 1 4 90), (90, zi_goto 64), (93, zi_ld 1 4 95), (95, zi_retv 1), (96, zi_goto 5), (99, zi_push (zvr none) 100), (100, zi_retv 1)], fun _ _ => none)
noncomputable def mJ4_getHigherEntry : ZF := zrunM kJ4_getHigherEntry 6
theorem enJ4_getHigherEntry (x0 : Option Nat) (x1 : Option Nat) (h : PH) : mJ4_getHigherEntry [zvr x0, zvr x1] h = zev kJ4_getHigherEntry 0 [zvr x0, zvr x1, zvu, zvu, zvu, zvu] [] h := zrunM_eq rfl rfl
theorem hdJ4_getHigherEntry_5 (x0 x1 : ZV) (a : Option Nat) (L st : List ZV) (h : PH) : zev kJ4_getHigherEntry 5 (x0 :: x1 :: zvr a :: L) st h = zev kJ4_getHigherEntry 6 (x0 :: x1 :: zvr a :: L) (zvr a :: st) h := e_ld2R (n := 6) rfl
theorem hdJ4_getHigherEntry_64 (x0 x1 x2 x3 : ZV) (a : Option Nat) (L st : List ZV) (h : PH) : zev kJ4_getHigherEntry 64 (x0 :: x1 :: x2 :: x3 :: zvr a :: L) st h = zev kJ4_getHigherEntry 66 (x0 :: x1 :: x2 :: x3 :: zvr a :: L) (zvr a :: st) h := e_ld4R (n := 66) rfl
theorem rJ4_getHigherEntry : (∀ (a : Option Nat) (L st : List ZV) (h : PH), zev kJ4_getHigherEntry 0 (zvr a :: L) st h = zev kJ4_getHigherEntry 1 (zvr a :: L) (zvr a :: st) h) ∧
  (∀ (q : Nat) (L st : List ZV) (h : PH), zev kJ4_getHigherEntry 1 L (zvr (some q) :: st) h = if (ph_K h q).1 % 1000 = 32 then zev kJ4_getHigherEntry 4 L (zvr (ph_R h q 3) :: st) h else none) ∧
  (∀ (x0 x1 x2 : ZV) (a : Option Nat) (L st : List ZV) (h : PH) (hx : zisL x1 = false) , zev kJ4_getHigherEntry 4 (x0 :: x1 :: x2 :: L) (zvr a :: st) h = zev kJ4_getHigherEntry 5 (x0 :: x1 :: zvr a :: L) st h) ∧
  (∀ (L st : List ZV) (h : PH), zev kJ4_getHigherEntry 6 L (zvr none :: st) h = zev kJ4_getHigherEntry 99 L st h) ∧
  (∀ (q : Nat) (L st : List ZV) (h : PH), zev kJ4_getHigherEntry 6 L (zvr (some q) :: st) h = if (ph_K h q).1 ≠ 0 then zev kJ4_getHigherEntry 9 L st h else none) ∧
  (∀ (a : Option Nat) (L st : List ZV) (h : PH), zev kJ4_getHigherEntry 9 (zvr a :: L) st h = zev kJ4_getHigherEntry 10 (zvr a :: L) (zvr a :: st) h) ∧
  (∀ (x0 : ZV) (a : Option Nat) (L st : List ZV) (h : PH), zev kJ4_getHigherEntry 10 (x0 :: zvr a :: L) st h = zev kJ4_getHigherEntry 11 (x0 :: zvr a :: L) (zvr a :: st) h) ∧
  (∀ (x0 x1 : ZV) (a : Option Nat) (L st : List ZV) (h : PH), zev kJ4_getHigherEntry 11 (x0 :: x1 :: zvr a :: L) st h = zev kJ4_getHigherEntry 12 (x0 :: x1 :: zvr a :: L) (zvr a :: st) h) ∧
  (∀ (q : Nat) (L st : List ZV) (h : PH), zev kJ4_getHigherEntry 12 L (zvr (some q) :: st) h = if (ph_K h q).1 % 1000 = 33 then zev kJ4_getHigherEntry 15 L (zvr (ph_R h q 0) :: st) h else none) ∧
  (∀ (v0 v1 : ZV) (q : Nat) (L st : List ZV) (h : PH), zev kJ4_getHigherEntry 15 L (v1 :: v0 :: zvr (some q) :: st) h = if (ph_K h q).1 % 1000 = 32 ∧ zcat st ≤ 8 then zk kJ4_getHigherEntry 15 18 L st (mJ4_compare [zvr (some q), v0, v1] h) else none) ∧
  (∀ (x0 x1 x2 x3 : ZV) (a : Int) (L st : List ZV) (h : PH) (hx : zisL x2 = false) , zev kJ4_getHigherEntry 18 (x0 :: x1 :: x2 :: x3 :: L) (zvi a :: st) h = zev kJ4_getHigherEntry 19 (x0 :: x1 :: x2 :: zvi a :: L) st h) ∧
  (∀ (x0 x1 x2 : ZV) (a : Int) (L st : List ZV) (h : PH), zev kJ4_getHigherEntry 19 (x0 :: x1 :: x2 :: zvi a :: L) st h = zev kJ4_getHigherEntry 20 (x0 :: x1 :: x2 :: zvi a :: L) (zvi a :: st) h) ∧
  (∀ (a : Int) (L st : List ZV) (h : PH), zev kJ4_getHigherEntry 20 L (zvi a :: st) h = if a ≥ 0 then zev kJ4_getHigherEntry 40 L st h else zev kJ4_getHigherEntry 23 L st h) ∧
  (∀ (x0 x1 : ZV) (a : Option Nat) (L st : List ZV) (h : PH), zev kJ4_getHigherEntry 23 (x0 :: x1 :: zvr a :: L) st h = zev kJ4_getHigherEntry 24 (x0 :: x1 :: zvr a :: L) (zvr a :: st) h) ∧
  (∀ (q : Nat) (L st : List ZV) (h : PH), zev kJ4_getHigherEntry 24 L (zvr (some q) :: st) h = if (ph_K h q).1 % 1000 = 33 then zev kJ4_getHigherEntry 27 L (zvr (ph_R h q 2) :: st) h else none) ∧
  (∀ (L st : List ZV) (h : PH), zev kJ4_getHigherEntry 27 L (zvr none :: st) h = zev kJ4_getHigherEntry 38 L st h) ∧
  (∀ (q : Nat) (L st : List ZV) (h : PH), zev kJ4_getHigherEntry 27 L (zvr (some q) :: st) h = if (ph_K h q).1 ≠ 0 then zev kJ4_getHigherEntry 30 L st h else none) ∧
  (∀ (x0 x1 : ZV) (a : Option Nat) (L st : List ZV) (h : PH), zev kJ4_getHigherEntry 30 (x0 :: x1 :: zvr a :: L) st h = zev kJ4_getHigherEntry 31 (x0 :: x1 :: zvr a :: L) (zvr a :: st) h) ∧
  (∀ (q : Nat) (L st : List ZV) (h : PH), zev kJ4_getHigherEntry 31 L (zvr (some q) :: st) h = if (ph_K h q).1 % 1000 = 33 then zev kJ4_getHigherEntry 34 L (zvr (ph_R h q 2) :: st) h else none) ∧
  (∀ (x0 x1 x2 : ZV) (a : Option Nat) (L st : List ZV) (h : PH) (hx : zisL x1 = false) , zev kJ4_getHigherEntry 34 (x0 :: x1 :: x2 :: L) (zvr a :: st) h = zev kJ4_getHigherEntry 35 (x0 :: x1 :: zvr a :: L) st h) ∧
  (∀ (L st : List ZV) (h : PH), zev kJ4_getHigherEntry 35 L st h = zev kJ4_getHigherEntry 96 L st h) ∧
  (∀ (x0 x1 : ZV) (a : Option Nat) (L st : List ZV) (h : PH), zev kJ4_getHigherEntry 38 (x0 :: x1 :: zvr a :: L) st h = zev kJ4_getHigherEntry 39 (x0 :: x1 :: zvr a :: L) (zvr a :: st) h) ∧
  (∀ (a : Option Nat) (L : List ZV) (h : PH), zev kJ4_getHigherEntry 39 L [zvr a] h = zrv (zvr a) h) ∧
  (∀ (x0 x1 : ZV) (a : Option Nat) (L st : List ZV) (h : PH), zev kJ4_getHigherEntry 40 (x0 :: x1 :: zvr a :: L) st h = zev kJ4_getHigherEntry 41 (x0 :: x1 :: zvr a :: L) (zvr a :: st) h) ∧
  (∀ (q : Nat) (L st : List ZV) (h : PH), zev kJ4_getHigherEntry 41 L (zvr (some q) :: st) h = if (ph_K h q).1 % 1000 = 33 then zev kJ4_getHigherEntry 44 L (zvr (ph_R h q 3) :: st) h else none) ∧
  (∀ (L st : List ZV) (h : PH), zev kJ4_getHigherEntry 44 L (zvr none :: st) h = zev kJ4_getHigherEntry 55 L st h) ∧
  (∀ (q : Nat) (L st : List ZV) (h : PH), zev kJ4_getHigherEntry 44 L (zvr (some q) :: st) h = if (ph_K h q).1 ≠ 0 then zev kJ4_getHigherEntry 47 L st h else none) ∧
  (∀ (x0 x1 : ZV) (a : Option Nat) (L st : List ZV) (h : PH), zev kJ4_getHigherEntry 47 (x0 :: x1 :: zvr a :: L) st h = zev kJ4_getHigherEntry 48 (x0 :: x1 :: zvr a :: L) (zvr a :: st) h) ∧
  (∀ (q : Nat) (L st : List ZV) (h : PH), zev kJ4_getHigherEntry 48 L (zvr (some q) :: st) h = if (ph_K h q).1 % 1000 = 33 then zev kJ4_getHigherEntry 51 L (zvr (ph_R h q 3) :: st) h else none) ∧
  (∀ (x0 x1 x2 : ZV) (a : Option Nat) (L st : List ZV) (h : PH) (hx : zisL x1 = false) , zev kJ4_getHigherEntry 51 (x0 :: x1 :: x2 :: L) (zvr a :: st) h = zev kJ4_getHigherEntry 52 (x0 :: x1 :: zvr a :: L) st h) ∧
  (∀ (L st : List ZV) (h : PH), zev kJ4_getHigherEntry 52 L st h = zev kJ4_getHigherEntry 96 L st h) ∧
  (∀ (x0 x1 : ZV) (a : Option Nat) (L st : List ZV) (h : PH), zev kJ4_getHigherEntry 55 (x0 :: x1 :: zvr a :: L) st h = zev kJ4_getHigherEntry 56 (x0 :: x1 :: zvr a :: L) (zvr a :: st) h) ∧
  (∀ (q : Nat) (L st : List ZV) (h : PH), zev kJ4_getHigherEntry 56 L (zvr (some q) :: st) h = if (ph_K h q).1 % 1000 = 33 then zev kJ4_getHigherEntry 59 L (zvr (ph_R h q 4) :: st) h else none) ∧
  (∀ (x0 x1 x2 x3 x4 : ZV) (a : Option Nat) (L st : List ZV) (h : PH) (hx : zisL x3 = false) , zev kJ4_getHigherEntry 59 (x0 :: x1 :: x2 :: x3 :: x4 :: L) (zvr a :: st) h = zev kJ4_getHigherEntry 61 (x0 :: x1 :: x2 :: x3 :: zvr a :: L) st h) ∧
  (∀ (x0 x1 : ZV) (a : Option Nat) (L st : List ZV) (h : PH), zev kJ4_getHigherEntry 61 (x0 :: x1 :: zvr a :: L) st h = zev kJ4_getHigherEntry 62 (x0 :: x1 :: zvr a :: L) (zvr a :: st) h) ∧
  (∀ (x0 x1 x2 x3 x4 x5 : ZV) (a : Option Nat) (L st : List ZV) (h : PH) (hx : zisL x4 = false) , zev kJ4_getHigherEntry 62 (x0 :: x1 :: x2 :: x3 :: x4 :: x5 :: L) (zvr a :: st) h = zev kJ4_getHigherEntry 64 (x0 :: x1 :: x2 :: x3 :: x4 :: zvr a :: L) st h) ∧
  (∀ (L st : List ZV) (h : PH), zev kJ4_getHigherEntry 66 L (zvr none :: st) h = zev kJ4_getHigherEntry 93 L st h) ∧
  (∀ (q : Nat) (L st : List ZV) (h : PH), zev kJ4_getHigherEntry 66 L (zvr (some q) :: st) h = if (ph_K h q).1 ≠ 0 then zev kJ4_getHigherEntry 69 L st h else none) ∧
  (∀ (x0 x1 x2 x3 x4 : ZV) (a : Option Nat) (L st : List ZV) (h : PH), zev kJ4_getHigherEntry 69 (x0 :: x1 :: x2 :: x3 :: x4 :: zvr a :: L) st h = zev kJ4_getHigherEntry 71 (x0 :: x1 :: x2 :: x3 :: x4 :: zvr a :: L) (zvr a :: st) h) ∧
  (∀ (x0 x1 x2 x3 : ZV) (a : Option Nat) (L st : List ZV) (h : PH), zev kJ4_getHigherEntry 71 (x0 :: x1 :: x2 :: x3 :: zvr a :: L) st h = zev kJ4_getHigherEntry 73 (x0 :: x1 :: x2 :: x3 :: zvr a :: L) (zvr a :: st) h) ∧
  (∀ (q : Nat) (L st : List ZV) (h : PH), zev kJ4_getHigherEntry 73 L (zvr (some q) :: st) h = if (ph_K h q).1 % 1000 = 33 then zev kJ4_getHigherEntry 76 L (zvr (ph_R h q 3) :: st) h else none) ∧
  (∀ (a b : Option Nat) (L st : List ZV) (h : PH), zev kJ4_getHigherEntry 76 L (zvr b :: zvr a :: st) h = if zcomp h a b = true then (if a = b then zev kJ4_getHigherEntry 79 L st h else zev kJ4_getHigherEntry 93 L st h) else none) ∧
  (∀ (x0 x1 x2 x3 : ZV) (a : Option Nat) (L st : List ZV) (h : PH), zev kJ4_getHigherEntry 79 (x0 :: x1 :: x2 :: x3 :: zvr a :: L) st h = zev kJ4_getHigherEntry 81 (x0 :: x1 :: x2 :: x3 :: zvr a :: L) (zvr a :: st) h) ∧
  (∀ (x0 x1 x2 x3 x4 x5 : ZV) (a : Option Nat) (L st : List ZV) (h : PH) (hx : zisL x4 = false) , zev kJ4_getHigherEntry 81 (x0 :: x1 :: x2 :: x3 :: x4 :: x5 :: L) (zvr a :: st) h = zev kJ4_getHigherEntry 83 (x0 :: x1 :: x2 :: x3 :: x4 :: zvr a :: L) st h) ∧
  (∀ (x0 x1 x2 x3 : ZV) (a : Option Nat) (L st : List ZV) (h : PH), zev kJ4_getHigherEntry 83 (x0 :: x1 :: x2 :: x3 :: zvr a :: L) st h = zev kJ4_getHigherEntry 85 (x0 :: x1 :: x2 :: x3 :: zvr a :: L) (zvr a :: st) h) ∧
  (∀ (q : Nat) (L st : List ZV) (h : PH), zev kJ4_getHigherEntry 85 L (zvr (some q) :: st) h = if (ph_K h q).1 % 1000 = 33 then zev kJ4_getHigherEntry 88 L (zvr (ph_R h q 4) :: st) h else none) ∧
  (∀ (x0 x1 x2 x3 x4 : ZV) (a : Option Nat) (L st : List ZV) (h : PH) (hx : zisL x3 = false) , zev kJ4_getHigherEntry 88 (x0 :: x1 :: x2 :: x3 :: x4 :: L) (zvr a :: st) h = zev kJ4_getHigherEntry 90 (x0 :: x1 :: x2 :: x3 :: zvr a :: L) st h) ∧
  (∀ (L st : List ZV) (h : PH), zev kJ4_getHigherEntry 90 L st h = zev kJ4_getHigherEntry 64 L st h) ∧
  (∀ (x0 x1 x2 x3 : ZV) (a : Option Nat) (L st : List ZV) (h : PH), zev kJ4_getHigherEntry 93 (x0 :: x1 :: x2 :: x3 :: zvr a :: L) st h = zev kJ4_getHigherEntry 95 (x0 :: x1 :: x2 :: x3 :: zvr a :: L) (zvr a :: st) h) ∧
  (∀ (a : Option Nat) (L : List ZV) (h : PH), zev kJ4_getHigherEntry 95 L [zvr a] h = zrv (zvr a) h) ∧
  (∀ (L st : List ZV) (h : PH), zev kJ4_getHigherEntry 96 L st h = zev kJ4_getHigherEntry 5 L st h) ∧
  (∀ (L st : List ZV) (h : PH), zev kJ4_getHigherEntry 99 L st h = zev kJ4_getHigherEntry 100 L (zvr none :: st) h) ∧
  (∀ (a : Option Nat) (L : List ZV) (h : PH), zev kJ4_getHigherEntry 100 L [zvr a] h = zrv (zvr a) h) :=
  ⟨fun a L st h => e_ld0R (n := 1) rfl,
  fun q L st h => e_getR (kd := 32) (k := 3) (n := 4) rfl,
  fun x0 x1 x2 a L st h hx => e_st2R (n := 5) rfl hx,
  fun L st h => e_null0 (t := 99) (n := 9) rfl,
  fun q L st h => e_null1 (t := 99) (n := 9) rfl,
  fun a L st h => e_ld0R (n := 10) rfl,
  fun x0 a L st h => e_ld1R (n := 11) rfl,
  fun x0 x1 a L st h => e_ld2R (n := 12) rfl,
  fun q L st h => e_getR (kd := 33) (k := 0) (n := 15) rfl,
  fun v0 v1 q L st h => e_callV3 (F := mJ4_compare) (kd := 32) (n := 18) rfl,
  fun x0 x1 x2 x3 a L st h hx => e_st3I (n := 19) rfl hx,
  fun x0 x1 x2 a L st h => e_ld3I (n := 20) rfl,
  fun a L st h => e_ifge (t := 40) (n := 23) rfl,
  fun x0 x1 a L st h => e_ld2R (n := 24) rfl,
  fun q L st h => e_getR (kd := 33) (k := 2) (n := 27) rfl,
  fun L st h => e_null0 (t := 38) (n := 30) rfl,
  fun q L st h => e_null1 (t := 38) (n := 30) rfl,
  fun x0 x1 a L st h => e_ld2R (n := 31) rfl,
  fun q L st h => e_getR (kd := 33) (k := 2) (n := 34) rfl,
  fun x0 x1 x2 a L st h hx => e_st2R (n := 35) rfl hx,
  fun L st h => e_goto (t := 96) rfl,
  fun x0 x1 a L st h => e_ld2R (n := 39) rfl,
  fun a L h => e_retR rfl,
  fun x0 x1 a L st h => e_ld2R (n := 41) rfl,
  fun q L st h => e_getR (kd := 33) (k := 3) (n := 44) rfl,
  fun L st h => e_null0 (t := 55) (n := 47) rfl,
  fun q L st h => e_null1 (t := 55) (n := 47) rfl,
  fun x0 x1 a L st h => e_ld2R (n := 48) rfl,
  fun q L st h => e_getR (kd := 33) (k := 3) (n := 51) rfl,
  fun x0 x1 x2 a L st h hx => e_st2R (n := 52) rfl hx,
  fun L st h => e_goto (t := 96) rfl,
  fun x0 x1 a L st h => e_ld2R (n := 56) rfl,
  fun q L st h => e_getR (kd := 33) (k := 4) (n := 59) rfl,
  fun x0 x1 x2 x3 x4 a L st h hx => e_st4R (n := 61) rfl hx,
  fun x0 x1 a L st h => e_ld2R (n := 62) rfl,
  fun x0 x1 x2 x3 x4 x5 a L st h hx => e_st5R (n := 64) rfl hx,
  fun L st h => e_null0 (t := 93) (n := 69) rfl,
  fun q L st h => e_null1 (t := 93) (n := 69) rfl,
  fun x0 x1 x2 x3 x4 a L st h => e_ld5R (n := 71) rfl,
  fun x0 x1 x2 x3 a L st h => e_ld4R (n := 73) rfl,
  fun q L st h => e_getR (kd := 33) (k := 3) (n := 76) rfl,
  fun a b L st h => e_acmp (t := 79) (n := 93) rfl,
  fun x0 x1 x2 x3 a L st h => e_ld4R (n := 81) rfl,
  fun x0 x1 x2 x3 x4 x5 a L st h hx => e_st5R (n := 83) rfl hx,
  fun x0 x1 x2 x3 a L st h => e_ld4R (n := 85) rfl,
  fun q L st h => e_getR (kd := 33) (k := 4) (n := 88) rfl,
  fun x0 x1 x2 x3 x4 a L st h hx => e_st4R (n := 90) rfl hx,
  fun L st h => e_goto (t := 64) rfl,
  fun x0 x1 x2 x3 a L st h => e_ld4R (n := 95) rfl,
  fun a L h => e_retR rfl,
  fun L st h => e_goto (t := 5) rfl,
  fun L st h => e_push (v := zvr none) (n := 100) rfl,
  fun a L h => e_retR rfl⟩
theorem allJ4_getHigherEntry : zall yJ4_getHigherEntry cJ4_getHigherEntry 6 (some (.object "java/util/TreeMap$Entry")) 5 kJ4_getHigherEntry.1 :=
  ⟨k_aload_n dJ4_getHigherEntry_0,
  k_getR (C := RJ4) (T := TJ4) (N := 9) (ci := 16) (k := 3) (ref := "java/util/TreeMap") dJ4_getHigherEntry_1 rfl in_J4 (by decide) q202 (Or.inl rfl) (fun _ _ _ => rfl),
  k_astore_n dJ4_getHigherEntry_4,
  k_aload_n dJ4_getHigherEntry_5,
  k_null (t := 99) dJ4_getHigherEntry_6 (by decide),
  k_aload_n dJ4_getHigherEntry_9,
  k_aload_n dJ4_getHigherEntry_10,
  k_aload_n dJ4_getHigherEntry_11,
  k_getR (C := RJ22) (T := TJ22) (N := 6) (ci := 17) (k := 0) (ref := "java/util/TreeMap$Entry") dJ4_getHigherEntry_12 rfl in_J22 (by decide) q1155 (Or.inl rfl) (fun _ _ _ => rfl),
  k_callV (y2 := yJ4_compare) (C := RJ4) (T0 := TJ4) (ci := 16) dJ4_getHigherEntry_15 sndJ4_compare rfl q960 q961 q962 q134 q963 (by decide +kernel) ⟨by decide, by decide⟩ (by decide) (by decide),
  k_istore_n dJ4_getHigherEntry_18,
  k_iload_n dJ4_getHigherEntry_19,
  k_ifge (t := 40) dJ4_getHigherEntry_20 (by decide),
  k_aload_n dJ4_getHigherEntry_23,
  k_getR (C := RJ22) (T := TJ22) (N := 6) (ci := 17) (k := 2) (ref := "java/util/TreeMap$Entry") dJ4_getHigherEntry_24 rfl in_J22 (by decide) q1158 (Or.inl rfl) (fun _ _ _ => rfl),
  k_null (t := 38) dJ4_getHigherEntry_27 (by decide),
  k_aload_n dJ4_getHigherEntry_30,
  k_getR (C := RJ22) (T := TJ22) (N := 6) (ci := 17) (k := 2) (ref := "java/util/TreeMap$Entry") dJ4_getHigherEntry_31 rfl in_J22 (by decide) q1158 (Or.inl rfl) (fun _ _ _ => rfl),
  k_astore_n dJ4_getHigherEntry_34,
  k_goto (t := 96) dJ4_getHigherEntry_35 (by decide),
  k_aload_n dJ4_getHigherEntry_38,
  k_aret dJ4_getHigherEntry_39 rfl (Or.inl ⟨_, rfl⟩),
  k_aload_n dJ4_getHigherEntry_40,
  k_getR (C := RJ22) (T := TJ22) (N := 6) (ci := 17) (k := 3) (ref := "java/util/TreeMap$Entry") dJ4_getHigherEntry_41 rfl in_J22 (by decide) q1159 (Or.inl rfl) (fun _ _ _ => rfl),
  k_null (t := 55) dJ4_getHigherEntry_44 (by decide),
  k_aload_n dJ4_getHigherEntry_47,
  k_getR (C := RJ22) (T := TJ22) (N := 6) (ci := 17) (k := 3) (ref := "java/util/TreeMap$Entry") dJ4_getHigherEntry_48 rfl in_J22 (by decide) q1159 (Or.inl rfl) (fun _ _ _ => rfl),
  k_astore_n dJ4_getHigherEntry_51,
  k_goto (t := 96) dJ4_getHigherEntry_52 (by decide),
  k_aload_n dJ4_getHigherEntry_55,
  k_getR (C := RJ22) (T := TJ22) (N := 6) (ci := 17) (k := 4) (ref := "java/util/TreeMap$Entry") dJ4_getHigherEntry_56 rfl in_J22 (by decide) q1161 (Or.inl rfl) (fun _ _ _ => rfl),
  k_astore dJ4_getHigherEntry_59,
  k_aload_n dJ4_getHigherEntry_61,
  k_astore dJ4_getHigherEntry_62,
  k_aload dJ4_getHigherEntry_64,
  k_null (t := 93) dJ4_getHigherEntry_66 (by decide),
  k_aload dJ4_getHigherEntry_69,
  k_aload dJ4_getHigherEntry_71,
  k_getR (C := RJ22) (T := TJ22) (N := 6) (ci := 17) (k := 3) (ref := "java/util/TreeMap$Entry") dJ4_getHigherEntry_73 rfl in_J22 (by decide) q1159 (Or.inl rfl) (fun _ _ _ => rfl),
  k_acmpne (t := 93) dJ4_getHigherEntry_76 (by decide),
  k_aload dJ4_getHigherEntry_79,
  k_astore dJ4_getHigherEntry_81,
  k_aload dJ4_getHigherEntry_83,
  k_getR (C := RJ22) (T := TJ22) (N := 6) (ci := 17) (k := 4) (ref := "java/util/TreeMap$Entry") dJ4_getHigherEntry_85 rfl in_J22 (by decide) q1161 (Or.inl rfl) (fun _ _ _ => rfl),
  k_astore dJ4_getHigherEntry_88,
  k_goto (t := 64) dJ4_getHigherEntry_90 (by decide),
  k_aload dJ4_getHigherEntry_93,
  k_aret dJ4_getHigherEntry_95 rfl (Or.inl ⟨_, rfl⟩),
  k_goto (t := 5) dJ4_getHigherEntry_96 (by decide),
  k_anull dJ4_getHigherEntry_99,
  k_aret dJ4_getHigherEntry_100 rfl (Or.inl ⟨_, rfl⟩), trivial⟩
theorem sndJ4_getHigherEntry : MSound 5 yJ4_getHigherEntry (ws_ yJ4_getHigherEntry cJ4_getHigherEntry 6 (some (.object "java/util/TreeMap$Entry"))) mJ4_getHigherEntry := msound_M (by decide) allJ4_getHigherEntry (fun _ _ => rfl)
/-! java/util/TreeMap.keyOrNull(Ljava/util/TreeMap$Entry;)Ljava/lang/Object; -/
noncomputable def kJ4_keyOrNull : ZM := ([(0, zi_ld 1 0 1), (1, zi_nonnull 8 4), (4, zi_push (zvr none) 5), (5, zi_goto 12), (8, zi_ld 1 0 9), (9, zi_getR 33 0 12), (12, zi_retv 1)], fun _ _ => none)
noncomputable def mJ4_keyOrNull : ZF := zrunM kJ4_keyOrNull 1
theorem enJ4_keyOrNull (x0 : Option Nat) (h : PH) : mJ4_keyOrNull [zvr x0] h = zev kJ4_keyOrNull 0 [zvr x0] [] h := zrunM_eq rfl rfl
theorem rJ4_keyOrNull : (∀ (a : Option Nat) (L st : List ZV) (h : PH), zev kJ4_keyOrNull 0 (zvr a :: L) st h = zev kJ4_keyOrNull 1 (zvr a :: L) (zvr a :: st) h) ∧
  (∀ (L st : List ZV) (h : PH), zev kJ4_keyOrNull 1 L (zvr none :: st) h = zev kJ4_keyOrNull 4 L st h) ∧
  (∀ (q : Nat) (L st : List ZV) (h : PH), zev kJ4_keyOrNull 1 L (zvr (some q) :: st) h = if (ph_K h q).1 ≠ 0 then zev kJ4_keyOrNull 8 L st h else none) ∧
  (∀ (L st : List ZV) (h : PH), zev kJ4_keyOrNull 4 L st h = zev kJ4_keyOrNull 5 L (zvr none :: st) h) ∧
  (∀ (L st : List ZV) (h : PH), zev kJ4_keyOrNull 5 L st h = zev kJ4_keyOrNull 12 L st h) ∧
  (∀ (a : Option Nat) (L st : List ZV) (h : PH), zev kJ4_keyOrNull 8 (zvr a :: L) st h = zev kJ4_keyOrNull 9 (zvr a :: L) (zvr a :: st) h) ∧
  (∀ (q : Nat) (L st : List ZV) (h : PH), zev kJ4_keyOrNull 9 L (zvr (some q) :: st) h = if (ph_K h q).1 % 1000 = 33 then zev kJ4_keyOrNull 12 L (zvr (ph_R h q 0) :: st) h else none) ∧
  (∀ (a : Option Nat) (L : List ZV) (h : PH), zev kJ4_keyOrNull 12 L [zvr a] h = zrv (zvr a) h) :=
  ⟨fun a L st h => e_ld0R (n := 1) rfl,
  fun L st h => e_nonnull0 (t := 8) (n := 4) rfl,
  fun q L st h => e_nonnull1 (t := 8) (n := 4) rfl,
  fun L st h => e_push (v := zvr none) (n := 5) rfl,
  fun L st h => e_goto (t := 12) rfl,
  fun a L st h => e_ld0R (n := 9) rfl,
  fun q L st h => e_getR (kd := 33) (k := 0) (n := 12) rfl,
  fun a L h => e_retR rfl⟩
theorem allJ4_keyOrNull : zall yJ4_keyOrNull cJ4_keyOrNull 1 (some (.object "java/lang/Object")) 1 kJ4_keyOrNull.1 :=
  ⟨k_aload_n dJ4_keyOrNull_0,
  k_nonnull (t := 8) dJ4_keyOrNull_1 (by decide),
  k_anull dJ4_keyOrNull_4,
  k_goto (t := 12) dJ4_keyOrNull_5 (by decide),
  k_aload_n dJ4_keyOrNull_8,
  k_getR (C := RJ22) (T := TJ22) (N := 6) (ci := 17) (k := 0) (ref := "java/util/TreeMap$Entry") dJ4_keyOrNull_9 rfl in_J22 (by decide) q1155 (Or.inl rfl) (fun _ _ _ => rfl),
  k_aret dJ4_keyOrNull_12 rfl (Or.inl ⟨_, rfl⟩), trivial⟩
theorem sndJ4_keyOrNull : MSound 1 yJ4_keyOrNull (ws_ yJ4_keyOrNull cJ4_keyOrNull 1 (some (.object "java/lang/Object"))) mJ4_keyOrNull := msound_M (by decide) allJ4_keyOrNull (fun _ _ => rfl)
/-! java/util/TreeMap.higherKey(Ljava/lang/Object;)Ljava/lang/Object; -/
noncomputable def kJ4_higherKey : ZM := ([(0, zi_ld 1 0 1), (1, zi_ld 1 1 2), (2, zi_callV mJ4_getHigherEntry 32 2 5), (5, zi_callS mJ4_keyOrNull 1 8), (8, zi_retv 1)], fun _ _ => none)
noncomputable def mJ4_higherKey : ZF := zrunM kJ4_higherKey 2
theorem enJ4_higherKey (x0 : Option Nat) (x1 : Option Nat) (h : PH) : mJ4_higherKey [zvr x0, zvr x1] h = zev kJ4_higherKey 0 [zvr x0, zvr x1] [] h := zrunM_eq rfl rfl
theorem rJ4_higherKey : (∀ (a : Option Nat) (L st : List ZV) (h : PH), zev kJ4_higherKey 0 (zvr a :: L) st h = zev kJ4_higherKey 1 (zvr a :: L) (zvr a :: st) h) ∧
  (∀ (x0 : ZV) (a : Option Nat) (L st : List ZV) (h : PH), zev kJ4_higherKey 1 (x0 :: zvr a :: L) st h = zev kJ4_higherKey 2 (x0 :: zvr a :: L) (zvr a :: st) h) ∧
  (∀ (v0 : ZV) (q : Nat) (L st : List ZV) (h : PH), zev kJ4_higherKey 2 L (v0 :: zvr (some q) :: st) h = if (ph_K h q).1 % 1000 = 32 ∧ zcat st ≤ 8 then zk kJ4_higherKey 2 5 L st (mJ4_getHigherEntry [zvr (some q), v0] h) else none) ∧
  (∀ (v0 : ZV) (L st : List ZV) (h : PH), zev kJ4_higherKey 5 L (v0 :: st) h = if zcat st ≤ 8 then zk kJ4_higherKey 5 8 L st (mJ4_keyOrNull [v0] h) else none) ∧
  (∀ (a : Option Nat) (L : List ZV) (h : PH), zev kJ4_higherKey 8 L [zvr a] h = zrv (zvr a) h) :=
  ⟨fun a L st h => e_ld0R (n := 1) rfl,
  fun x0 a L st h => e_ld1R (n := 2) rfl,
  fun v0 q L st h => e_callV2 (F := mJ4_getHigherEntry) (kd := 32) (n := 5) rfl,
  fun v0 L st h => e_callS1 (F := mJ4_keyOrNull) (n := 8) rfl,
  fun a L h => e_retR rfl⟩
theorem allJ4_higherKey : zall yJ4_higherKey cJ4_higherKey 2 (some (.object "java/lang/Object")) 6 kJ4_higherKey.1 :=
  ⟨k_aload_n dJ4_higherKey_0,
  k_aload_n dJ4_higherKey_1,
  k_callV (y2 := yJ4_getHigherEntry) (C := RJ4) (T0 := TJ4) (ci := 16) dJ4_higherKey_2 sndJ4_getHigherEntry rfl q1323 q1324 q1325 q134 q1326 (by decide +kernel) ⟨by decide, by decide⟩ (by decide) (by decide),
  k_callS (y2 := yJ4_keyOrNull) dJ4_higherKey_5 sndJ4_keyOrNull q1327 q1328 q134 q1329 (by decide +kernel) ⟨by decide, by decide⟩ (by decide) (by decide),
  k_aret dJ4_higherKey_8 rfl (Or.inl ⟨_, rfl⟩), trivial⟩
theorem sndJ4_higherKey : MSound 6 yJ4_higherKey (ws_ yJ4_higherKey cJ4_higherKey 2 (some (.object "java/lang/Object"))) mJ4_higherKey := msound_M (by decide) allJ4_higherKey (fun _ _ => rfl)
/-! java/util/TreeMap.getEntryUsingComparator(Ljava/lang/Object;)Ljava/util/TreeMap$Entry; -/
noncomputable def kJ4_getEntryUsingComparator : ZM := ([(0, zi_ld 1 1 1), (1, zi_st 1 2 2), (2, zi_ld 1 0 3), (3, zi_getR 32 2 6), (6, zi_st 1 3 7), (7, zi_ld 1 3 8), (8, zi_null 72 11), (11, zi_ld 1 0 12), (12, zi_getR 32 3 15), (15, zi_st 1 4 17), (17, zi_ld 1 4 19), (19, zi_null 72 22), (22, zi_ld 1 3 23), (23, zi_ld 1 2 24), (24, zi_ld 1 4 26), (26, zi_getR 33 0 29), (29, zi_callV mX2_compare 28 3 34), (34, zi_st 0 5 36), (36, zi_ld 0 5 38), (38, zi_if (fun a => zc_ge a 0) 51 41), (41, zi_ld 1 4 43), (43, zi_getR 33 2 46), (46, zi_st 1 4 48), (48, zi_goto 69), (51, zi_ld 0 5 53), (53, zi_if (fun a => zc_le a 0) 66 56), (56, zi_ld 1 4 58), (58, zi_getR 33 3 61), (61, zi_st 1 4 63), (63, zi_goto 69), (66, zi_ld 1 4 68), (68, zi_retv 1), (69, zi_goto 17), (72, zi_push (zvr none) 73), (73, zi_retv 1)], fun _ _ => none)
noncomputable def mJ4_getEntryUsingComparator : ZF := zrunM kJ4_getEntryUsingComparator 6
theorem enJ4_getEntryUsingComparator (x0 : Option Nat) (x1 : Option Nat) (h : PH) : mJ4_getEntryUsingComparator [zvr x0, zvr x1] h = zev kJ4_getEntryUsingComparator 0 [zvr x0, zvr x1, zvu, zvu, zvu, zvu] [] h := zrunM_eq rfl rfl
theorem hdJ4_getEntryUsingComparator_17 (x0 x1 x2 x3 : ZV) (a : Option Nat) (L st : List ZV) (h : PH) : zev kJ4_getEntryUsingComparator 17 (x0 :: x1 :: x2 :: x3 :: zvr a :: L) st h = zev kJ4_getEntryUsingComparator 19 (x0 :: x1 :: x2 :: x3 :: zvr a :: L) (zvr a :: st) h := e_ld4R (n := 19) rfl
theorem rJ4_getEntryUsingComparator : (∀ (x0 : ZV) (a : Option Nat) (L st : List ZV) (h : PH), zev kJ4_getEntryUsingComparator 0 (x0 :: zvr a :: L) st h = zev kJ4_getEntryUsingComparator 1 (x0 :: zvr a :: L) (zvr a :: st) h) ∧
  (∀ (x0 x1 x2 : ZV) (a : Option Nat) (L st : List ZV) (h : PH) (hx : zisL x1 = false) , zev kJ4_getEntryUsingComparator 1 (x0 :: x1 :: x2 :: L) (zvr a :: st) h = zev kJ4_getEntryUsingComparator 2 (x0 :: x1 :: zvr a :: L) st h) ∧
  (∀ (a : Option Nat) (L st : List ZV) (h : PH), zev kJ4_getEntryUsingComparator 2 (zvr a :: L) st h = zev kJ4_getEntryUsingComparator 3 (zvr a :: L) (zvr a :: st) h) ∧
  (∀ (q : Nat) (L st : List ZV) (h : PH), zev kJ4_getEntryUsingComparator 3 L (zvr (some q) :: st) h = if (ph_K h q).1 % 1000 = 32 then zev kJ4_getEntryUsingComparator 6 L (zvr (ph_R h q 2) :: st) h else none) ∧
  (∀ (x0 x1 x2 x3 : ZV) (a : Option Nat) (L st : List ZV) (h : PH) (hx : zisL x2 = false) , zev kJ4_getEntryUsingComparator 6 (x0 :: x1 :: x2 :: x3 :: L) (zvr a :: st) h = zev kJ4_getEntryUsingComparator 7 (x0 :: x1 :: x2 :: zvr a :: L) st h) ∧
  (∀ (x0 x1 x2 : ZV) (a : Option Nat) (L st : List ZV) (h : PH), zev kJ4_getEntryUsingComparator 7 (x0 :: x1 :: x2 :: zvr a :: L) st h = zev kJ4_getEntryUsingComparator 8 (x0 :: x1 :: x2 :: zvr a :: L) (zvr a :: st) h) ∧
  (∀ (L st : List ZV) (h : PH), zev kJ4_getEntryUsingComparator 8 L (zvr none :: st) h = zev kJ4_getEntryUsingComparator 72 L st h) ∧
  (∀ (q : Nat) (L st : List ZV) (h : PH), zev kJ4_getEntryUsingComparator 8 L (zvr (some q) :: st) h = if (ph_K h q).1 ≠ 0 then zev kJ4_getEntryUsingComparator 11 L st h else none) ∧
  (∀ (a : Option Nat) (L st : List ZV) (h : PH), zev kJ4_getEntryUsingComparator 11 (zvr a :: L) st h = zev kJ4_getEntryUsingComparator 12 (zvr a :: L) (zvr a :: st) h) ∧
  (∀ (q : Nat) (L st : List ZV) (h : PH), zev kJ4_getEntryUsingComparator 12 L (zvr (some q) :: st) h = if (ph_K h q).1 % 1000 = 32 then zev kJ4_getEntryUsingComparator 15 L (zvr (ph_R h q 3) :: st) h else none) ∧
  (∀ (x0 x1 x2 x3 x4 : ZV) (a : Option Nat) (L st : List ZV) (h : PH) (hx : zisL x3 = false) , zev kJ4_getEntryUsingComparator 15 (x0 :: x1 :: x2 :: x3 :: x4 :: L) (zvr a :: st) h = zev kJ4_getEntryUsingComparator 17 (x0 :: x1 :: x2 :: x3 :: zvr a :: L) st h) ∧
  (∀ (L st : List ZV) (h : PH), zev kJ4_getEntryUsingComparator 19 L (zvr none :: st) h = zev kJ4_getEntryUsingComparator 72 L st h) ∧
  (∀ (q : Nat) (L st : List ZV) (h : PH), zev kJ4_getEntryUsingComparator 19 L (zvr (some q) :: st) h = if (ph_K h q).1 ≠ 0 then zev kJ4_getEntryUsingComparator 22 L st h else none) ∧
  (∀ (x0 x1 x2 : ZV) (a : Option Nat) (L st : List ZV) (h : PH), zev kJ4_getEntryUsingComparator 22 (x0 :: x1 :: x2 :: zvr a :: L) st h = zev kJ4_getEntryUsingComparator 23 (x0 :: x1 :: x2 :: zvr a :: L) (zvr a :: st) h) ∧
  (∀ (x0 x1 : ZV) (a : Option Nat) (L st : List ZV) (h : PH), zev kJ4_getEntryUsingComparator 23 (x0 :: x1 :: zvr a :: L) st h = zev kJ4_getEntryUsingComparator 24 (x0 :: x1 :: zvr a :: L) (zvr a :: st) h) ∧
  (∀ (x0 x1 x2 x3 : ZV) (a : Option Nat) (L st : List ZV) (h : PH), zev kJ4_getEntryUsingComparator 24 (x0 :: x1 :: x2 :: x3 :: zvr a :: L) st h = zev kJ4_getEntryUsingComparator 26 (x0 :: x1 :: x2 :: x3 :: zvr a :: L) (zvr a :: st) h) ∧
  (∀ (q : Nat) (L st : List ZV) (h : PH), zev kJ4_getEntryUsingComparator 26 L (zvr (some q) :: st) h = if (ph_K h q).1 % 1000 = 33 then zev kJ4_getEntryUsingComparator 29 L (zvr (ph_R h q 0) :: st) h else none) ∧
  (∀ (v0 v1 : ZV) (q : Nat) (L st : List ZV) (h : PH), zev kJ4_getEntryUsingComparator 29 L (v1 :: v0 :: zvr (some q) :: st) h = if (ph_K h q).1 % 1000 = 28 ∧ zcat st ≤ 8 then zk kJ4_getEntryUsingComparator 29 34 L st (mX2_compare [zvr (some q), v0, v1] h) else none) ∧
  (∀ (x0 x1 x2 x3 x4 x5 : ZV) (a : Int) (L st : List ZV) (h : PH) (hx : zisL x4 = false) , zev kJ4_getEntryUsingComparator 34 (x0 :: x1 :: x2 :: x3 :: x4 :: x5 :: L) (zvi a :: st) h = zev kJ4_getEntryUsingComparator 36 (x0 :: x1 :: x2 :: x3 :: x4 :: zvi a :: L) st h) ∧
  (∀ (x0 x1 x2 x3 x4 : ZV) (a : Int) (L st : List ZV) (h : PH), zev kJ4_getEntryUsingComparator 36 (x0 :: x1 :: x2 :: x3 :: x4 :: zvi a :: L) st h = zev kJ4_getEntryUsingComparator 38 (x0 :: x1 :: x2 :: x3 :: x4 :: zvi a :: L) (zvi a :: st) h) ∧
  (∀ (a : Int) (L st : List ZV) (h : PH), zev kJ4_getEntryUsingComparator 38 L (zvi a :: st) h = if a ≥ 0 then zev kJ4_getEntryUsingComparator 51 L st h else zev kJ4_getEntryUsingComparator 41 L st h) ∧
  (∀ (x0 x1 x2 x3 : ZV) (a : Option Nat) (L st : List ZV) (h : PH), zev kJ4_getEntryUsingComparator 41 (x0 :: x1 :: x2 :: x3 :: zvr a :: L) st h = zev kJ4_getEntryUsingComparator 43 (x0 :: x1 :: x2 :: x3 :: zvr a :: L) (zvr a :: st) h) ∧
  (∀ (q : Nat) (L st : List ZV) (h : PH), zev kJ4_getEntryUsingComparator 43 L (zvr (some q) :: st) h = if (ph_K h q).1 % 1000 = 33 then zev kJ4_getEntryUsingComparator 46 L (zvr (ph_R h q 2) :: st) h else none) ∧
  (∀ (x0 x1 x2 x3 x4 : ZV) (a : Option Nat) (L st : List ZV) (h : PH) (hx : zisL x3 = false) , zev kJ4_getEntryUsingComparator 46 (x0 :: x1 :: x2 :: x3 :: x4 :: L) (zvr a :: st) h = zev kJ4_getEntryUsingComparator 48 (x0 :: x1 :: x2 :: x3 :: zvr a :: L) st h) ∧
  (∀ (L st : List ZV) (h : PH), zev kJ4_getEntryUsingComparator 48 L st h = zev kJ4_getEntryUsingComparator 69 L st h) ∧
  (∀ (x0 x1 x2 x3 x4 : ZV) (a : Int) (L st : List ZV) (h : PH), zev kJ4_getEntryUsingComparator 51 (x0 :: x1 :: x2 :: x3 :: x4 :: zvi a :: L) st h = zev kJ4_getEntryUsingComparator 53 (x0 :: x1 :: x2 :: x3 :: x4 :: zvi a :: L) (zvi a :: st) h) ∧
  (∀ (a : Int) (L st : List ZV) (h : PH), zev kJ4_getEntryUsingComparator 53 L (zvi a :: st) h = if a ≤ 0 then zev kJ4_getEntryUsingComparator 66 L st h else zev kJ4_getEntryUsingComparator 56 L st h) ∧
  (∀ (x0 x1 x2 x3 : ZV) (a : Option Nat) (L st : List ZV) (h : PH), zev kJ4_getEntryUsingComparator 56 (x0 :: x1 :: x2 :: x3 :: zvr a :: L) st h = zev kJ4_getEntryUsingComparator 58 (x0 :: x1 :: x2 :: x3 :: zvr a :: L) (zvr a :: st) h) ∧
  (∀ (q : Nat) (L st : List ZV) (h : PH), zev kJ4_getEntryUsingComparator 58 L (zvr (some q) :: st) h = if (ph_K h q).1 % 1000 = 33 then zev kJ4_getEntryUsingComparator 61 L (zvr (ph_R h q 3) :: st) h else none) ∧
  (∀ (x0 x1 x2 x3 x4 : ZV) (a : Option Nat) (L st : List ZV) (h : PH) (hx : zisL x3 = false) , zev kJ4_getEntryUsingComparator 61 (x0 :: x1 :: x2 :: x3 :: x4 :: L) (zvr a :: st) h = zev kJ4_getEntryUsingComparator 63 (x0 :: x1 :: x2 :: x3 :: zvr a :: L) st h) ∧
  (∀ (L st : List ZV) (h : PH), zev kJ4_getEntryUsingComparator 63 L st h = zev kJ4_getEntryUsingComparator 69 L st h) ∧
  (∀ (x0 x1 x2 x3 : ZV) (a : Option Nat) (L st : List ZV) (h : PH), zev kJ4_getEntryUsingComparator 66 (x0 :: x1 :: x2 :: x3 :: zvr a :: L) st h = zev kJ4_getEntryUsingComparator 68 (x0 :: x1 :: x2 :: x3 :: zvr a :: L) (zvr a :: st) h) ∧
  (∀ (a : Option Nat) (L : List ZV) (h : PH), zev kJ4_getEntryUsingComparator 68 L [zvr a] h = zrv (zvr a) h) ∧
  (∀ (L st : List ZV) (h : PH), zev kJ4_getEntryUsingComparator 69 L st h = zev kJ4_getEntryUsingComparator 17 L st h) ∧
  (∀ (L st : List ZV) (h : PH), zev kJ4_getEntryUsingComparator 72 L st h = zev kJ4_getEntryUsingComparator 73 L (zvr none :: st) h) ∧
  (∀ (a : Option Nat) (L : List ZV) (h : PH), zev kJ4_getEntryUsingComparator 73 L [zvr a] h = zrv (zvr a) h) :=
  ⟨fun x0 a L st h => e_ld1R (n := 1) rfl,
  fun x0 x1 x2 a L st h hx => e_st2R (n := 2) rfl hx,
  fun a L st h => e_ld0R (n := 3) rfl,
  fun q L st h => e_getR (kd := 32) (k := 2) (n := 6) rfl,
  fun x0 x1 x2 x3 a L st h hx => e_st3R (n := 7) rfl hx,
  fun x0 x1 x2 a L st h => e_ld3R (n := 8) rfl,
  fun L st h => e_null0 (t := 72) (n := 11) rfl,
  fun q L st h => e_null1 (t := 72) (n := 11) rfl,
  fun a L st h => e_ld0R (n := 12) rfl,
  fun q L st h => e_getR (kd := 32) (k := 3) (n := 15) rfl,
  fun x0 x1 x2 x3 x4 a L st h hx => e_st4R (n := 17) rfl hx,
  fun L st h => e_null0 (t := 72) (n := 22) rfl,
  fun q L st h => e_null1 (t := 72) (n := 22) rfl,
  fun x0 x1 x2 a L st h => e_ld3R (n := 23) rfl,
  fun x0 x1 a L st h => e_ld2R (n := 24) rfl,
  fun x0 x1 x2 x3 a L st h => e_ld4R (n := 26) rfl,
  fun q L st h => e_getR (kd := 33) (k := 0) (n := 29) rfl,
  fun v0 v1 q L st h => e_callV3 (F := mX2_compare) (kd := 28) (n := 34) rfl,
  fun x0 x1 x2 x3 x4 x5 a L st h hx => e_st5I (n := 36) rfl hx,
  fun x0 x1 x2 x3 x4 a L st h => e_ld5I (n := 38) rfl,
  fun a L st h => e_ifge (t := 51) (n := 41) rfl,
  fun x0 x1 x2 x3 a L st h => e_ld4R (n := 43) rfl,
  fun q L st h => e_getR (kd := 33) (k := 2) (n := 46) rfl,
  fun x0 x1 x2 x3 x4 a L st h hx => e_st4R (n := 48) rfl hx,
  fun L st h => e_goto (t := 69) rfl,
  fun x0 x1 x2 x3 x4 a L st h => e_ld5I (n := 53) rfl,
  fun a L st h => e_ifle (t := 66) (n := 56) rfl,
  fun x0 x1 x2 x3 a L st h => e_ld4R (n := 58) rfl,
  fun q L st h => e_getR (kd := 33) (k := 3) (n := 61) rfl,
  fun x0 x1 x2 x3 x4 a L st h hx => e_st4R (n := 63) rfl hx,
  fun L st h => e_goto (t := 69) rfl,
  fun x0 x1 x2 x3 a L st h => e_ld4R (n := 68) rfl,
  fun a L h => e_retR rfl,
  fun L st h => e_goto (t := 17) rfl,
  fun L st h => e_push (v := zvr none) (n := 73) rfl,
  fun a L h => e_retR rfl⟩
theorem allJ4_getEntryUsingComparator : zall yJ4_getEntryUsingComparator cJ4_getEntryUsingComparator 6 (some (.object "java/util/TreeMap$Entry")) 4 kJ4_getEntryUsingComparator.1 :=
  ⟨k_aload_n dJ4_getEntryUsingComparator_0,
  k_astore_n dJ4_getEntryUsingComparator_1,
  k_aload_n dJ4_getEntryUsingComparator_2,
  k_getR (C := RJ4) (T := TJ4) (N := 9) (ci := 16) (k := 2) (ref := "java/util/TreeMap") dJ4_getEntryUsingComparator_3 rfl in_J4 (by decide) q201 (Or.inl rfl) (fun _ _ _ => rfl),
  k_astore_n dJ4_getEntryUsingComparator_6,
  k_aload_n dJ4_getEntryUsingComparator_7,
  k_null (t := 72) dJ4_getEntryUsingComparator_8 (by decide),
  k_aload_n dJ4_getEntryUsingComparator_11,
  k_getR (C := RJ4) (T := TJ4) (N := 9) (ci := 16) (k := 3) (ref := "java/util/TreeMap") dJ4_getEntryUsingComparator_12 rfl in_J4 (by decide) q202 (Or.inl rfl) (fun _ _ _ => rfl),
  k_astore dJ4_getEntryUsingComparator_15,
  k_aload dJ4_getEntryUsingComparator_17,
  k_null (t := 72) dJ4_getEntryUsingComparator_19 (by decide),
  k_aload_n dJ4_getEntryUsingComparator_22,
  k_aload_n dJ4_getEntryUsingComparator_23,
  k_aload dJ4_getEntryUsingComparator_24,
  k_getR (C := RJ22) (T := TJ22) (N := 6) (ci := 17) (k := 0) (ref := "java/util/TreeMap$Entry") dJ4_getEntryUsingComparator_26 rfl in_J22 (by decide) q1155 (Or.inl rfl) (fun _ _ _ => rfl),
  k_callIF (x2 := ⟨"java/util/Comparator", "compare", "(Ljava/lang/Object;Ljava/lang/Object;)I"⟩) (y2 := yX2_compare) (C := RX2) (T0 := TX2) (ci := 12) dJ4_getEntryUsingComparator_29 sndX2_compare rfl q1130 (by decide +kernel) q1136 q1134 q132 q1138 (by decide +kernel) ⟨by decide, by decide⟩ (by decide) (by decide),
  k_istore dJ4_getEntryUsingComparator_34,
  k_iload dJ4_getEntryUsingComparator_36,
  k_ifge (t := 51) dJ4_getEntryUsingComparator_38 (by decide),
  k_aload dJ4_getEntryUsingComparator_41,
  k_getR (C := RJ22) (T := TJ22) (N := 6) (ci := 17) (k := 2) (ref := "java/util/TreeMap$Entry") dJ4_getEntryUsingComparator_43 rfl in_J22 (by decide) q1158 (Or.inl rfl) (fun _ _ _ => rfl),
  k_astore dJ4_getEntryUsingComparator_46,
  k_goto (t := 69) dJ4_getEntryUsingComparator_48 (by decide),
  k_iload dJ4_getEntryUsingComparator_51,
  k_ifle (t := 66) dJ4_getEntryUsingComparator_53 (by decide),
  k_aload dJ4_getEntryUsingComparator_56,
  k_getR (C := RJ22) (T := TJ22) (N := 6) (ci := 17) (k := 3) (ref := "java/util/TreeMap$Entry") dJ4_getEntryUsingComparator_58 rfl in_J22 (by decide) q1159 (Or.inl rfl) (fun _ _ _ => rfl),
  k_astore dJ4_getEntryUsingComparator_61,
  k_goto (t := 69) dJ4_getEntryUsingComparator_63 (by decide),
  k_aload dJ4_getEntryUsingComparator_66,
  k_aret dJ4_getEntryUsingComparator_68 rfl (Or.inl ⟨_, rfl⟩),
  k_goto (t := 17) dJ4_getEntryUsingComparator_69 (by decide),
  k_anull dJ4_getEntryUsingComparator_72,
  k_aret dJ4_getEntryUsingComparator_73 rfl (Or.inl ⟨_, rfl⟩), trivial⟩
theorem sndJ4_getEntryUsingComparator : MSound 4 yJ4_getEntryUsingComparator (ws_ yJ4_getEntryUsingComparator cJ4_getEntryUsingComparator 6 (some (.object "java/util/TreeMap$Entry"))) mJ4_getEntryUsingComparator := msound_M (by decide) allJ4_getEntryUsingComparator (fun _ _ => rfl)
/-! java/util/TreeMap.getEntry(Ljava/lang/Object;)Ljava/util/TreeMap$Entry; -/
noncomputable def kJ4_getEntry : ZM := ([(0, zi_ld 1 0 1), (1, zi_getR 32 2 4), (4, zi_null 13 7), (7, zi_ld 1 0 8), (8, zi_ld 1 1 9), (9, zi_callV mJ4_getEntryUsingComparator 32 2 12), (12, zi_retv 1), (13, zi_ld 1 1 14), (14, zi_callS mJ14_requireNonNull 1 17), (17, zi_pop 18), (18, zi_ld 1 1 19), (19, zi_stuck), (22, zi_st 1 2 23), (23, zi_ld 1 0 24), (24, zi_getR 32 3 27), (27, zi_st 1 3 28), (28, zi_ld 1 3 29), (29, zi_null 75 32), (32, zi_ld 1 2 33), (33, zi_ld 1 3 34), (34, zi_getR 33 0 37), (37, zi_stuck), (42, zi_st 0 4 44), (44, zi_ld 0 4 46), (46, zi_if (fun a => zc_ge a 0) 57 49), (49, zi_ld 1 3 50), (50, zi_getR 33 2 53), (53, zi_st 1 3 54), (54, zi_goto 72), (57, zi_ld 0 4 59), (59, zi_if (fun a => zc_le a 0) 70 62), (62, zi_ld 1 3 63), (63, zi_getR 33 3 66), (66, zi_st 1 3 67), (67, zi_goto 72), (70, zi_ld 1 3 71), (71, zi_retv 1), (72, zi_goto 28), (75, zi_push (zvr none) 76), (76, zi_retv 1)], fun _ _ => none)
noncomputable def mJ4_getEntry : ZF := zrunM kJ4_getEntry 5
theorem enJ4_getEntry (x0 : Option Nat) (x1 : Option Nat) (h : PH) : mJ4_getEntry [zvr x0, zvr x1] h = zev kJ4_getEntry 0 [zvr x0, zvr x1, zvu, zvu, zvu] [] h := zrunM_eq rfl rfl
theorem hdJ4_getEntry_28 (x0 x1 x2 : ZV) (a : Option Nat) (L st : List ZV) (h : PH) : zev kJ4_getEntry 28 (x0 :: x1 :: x2 :: zvr a :: L) st h = zev kJ4_getEntry 29 (x0 :: x1 :: x2 :: zvr a :: L) (zvr a :: st) h := e_ld3R (n := 29) rfl
theorem rJ4_getEntry : (∀ (a : Option Nat) (L st : List ZV) (h : PH), zev kJ4_getEntry 0 (zvr a :: L) st h = zev kJ4_getEntry 1 (zvr a :: L) (zvr a :: st) h) ∧
  (∀ (q : Nat) (L st : List ZV) (h : PH), zev kJ4_getEntry 1 L (zvr (some q) :: st) h = if (ph_K h q).1 % 1000 = 32 then zev kJ4_getEntry 4 L (zvr (ph_R h q 2) :: st) h else none) ∧
  (∀ (L st : List ZV) (h : PH), zev kJ4_getEntry 4 L (zvr none :: st) h = zev kJ4_getEntry 13 L st h) ∧
  (∀ (q : Nat) (L st : List ZV) (h : PH), zev kJ4_getEntry 4 L (zvr (some q) :: st) h = if (ph_K h q).1 ≠ 0 then zev kJ4_getEntry 7 L st h else none) ∧
  (∀ (a : Option Nat) (L st : List ZV) (h : PH), zev kJ4_getEntry 7 (zvr a :: L) st h = zev kJ4_getEntry 8 (zvr a :: L) (zvr a :: st) h) ∧
  (∀ (x0 : ZV) (a : Option Nat) (L st : List ZV) (h : PH), zev kJ4_getEntry 8 (x0 :: zvr a :: L) st h = zev kJ4_getEntry 9 (x0 :: zvr a :: L) (zvr a :: st) h) ∧
  (∀ (v0 : ZV) (q : Nat) (L st : List ZV) (h : PH), zev kJ4_getEntry 9 L (v0 :: zvr (some q) :: st) h = if (ph_K h q).1 % 1000 = 32 ∧ zcat st ≤ 8 then zk kJ4_getEntry 9 12 L st (mJ4_getEntryUsingComparator [zvr (some q), v0] h) else none) ∧
  (∀ (a : Option Nat) (L : List ZV) (h : PH), zev kJ4_getEntry 12 L [zvr a] h = zrv (zvr a) h) ∧
  (∀ (x0 : ZV) (a : Option Nat) (L st : List ZV) (h : PH), zev kJ4_getEntry 13 (x0 :: zvr a :: L) st h = zev kJ4_getEntry 14 (x0 :: zvr a :: L) (zvr a :: st) h) ∧
  (∀ (v0 : ZV) (L st : List ZV) (h : PH), zev kJ4_getEntry 14 L (v0 :: st) h = if zcat st ≤ 8 then zk kJ4_getEntry 14 17 L st (mJ14_requireNonNull [v0] h) else none) ∧
  (∀ (a : Int) (L st : List ZV) (h : PH), zev kJ4_getEntry 17 L (zvi a :: st) h = zev kJ4_getEntry 18 L st h) ∧
  (∀ (a : Option Nat) (L st : List ZV) (h : PH), zev kJ4_getEntry 17 L (zvr a :: st) h = zev kJ4_getEntry 18 L st h) ∧
  (∀ (x0 : ZV) (a : Option Nat) (L st : List ZV) (h : PH), zev kJ4_getEntry 18 (x0 :: zvr a :: L) st h = zev kJ4_getEntry 19 (x0 :: zvr a :: L) (zvr a :: st) h) ∧
  (∀ (x0 x1 x2 : ZV) (a : Option Nat) (L st : List ZV) (h : PH) (hx : zisL x1 = false) , zev kJ4_getEntry 22 (x0 :: x1 :: x2 :: L) (zvr a :: st) h = zev kJ4_getEntry 23 (x0 :: x1 :: zvr a :: L) st h) ∧
  (∀ (a : Option Nat) (L st : List ZV) (h : PH), zev kJ4_getEntry 23 (zvr a :: L) st h = zev kJ4_getEntry 24 (zvr a :: L) (zvr a :: st) h) ∧
  (∀ (q : Nat) (L st : List ZV) (h : PH), zev kJ4_getEntry 24 L (zvr (some q) :: st) h = if (ph_K h q).1 % 1000 = 32 then zev kJ4_getEntry 27 L (zvr (ph_R h q 3) :: st) h else none) ∧
  (∀ (x0 x1 x2 x3 : ZV) (a : Option Nat) (L st : List ZV) (h : PH) (hx : zisL x2 = false) , zev kJ4_getEntry 27 (x0 :: x1 :: x2 :: x3 :: L) (zvr a :: st) h = zev kJ4_getEntry 28 (x0 :: x1 :: x2 :: zvr a :: L) st h) ∧
  (∀ (L st : List ZV) (h : PH), zev kJ4_getEntry 29 L (zvr none :: st) h = zev kJ4_getEntry 75 L st h) ∧
  (∀ (q : Nat) (L st : List ZV) (h : PH), zev kJ4_getEntry 29 L (zvr (some q) :: st) h = if (ph_K h q).1 ≠ 0 then zev kJ4_getEntry 32 L st h else none) ∧
  (∀ (x0 x1 : ZV) (a : Option Nat) (L st : List ZV) (h : PH), zev kJ4_getEntry 32 (x0 :: x1 :: zvr a :: L) st h = zev kJ4_getEntry 33 (x0 :: x1 :: zvr a :: L) (zvr a :: st) h) ∧
  (∀ (x0 x1 x2 : ZV) (a : Option Nat) (L st : List ZV) (h : PH), zev kJ4_getEntry 33 (x0 :: x1 :: x2 :: zvr a :: L) st h = zev kJ4_getEntry 34 (x0 :: x1 :: x2 :: zvr a :: L) (zvr a :: st) h) ∧
  (∀ (q : Nat) (L st : List ZV) (h : PH), zev kJ4_getEntry 34 L (zvr (some q) :: st) h = if (ph_K h q).1 % 1000 = 33 then zev kJ4_getEntry 37 L (zvr (ph_R h q 0) :: st) h else none) ∧
  (∀ (x0 x1 x2 x3 x4 : ZV) (a : Int) (L st : List ZV) (h : PH) (hx : zisL x3 = false) , zev kJ4_getEntry 42 (x0 :: x1 :: x2 :: x3 :: x4 :: L) (zvi a :: st) h = zev kJ4_getEntry 44 (x0 :: x1 :: x2 :: x3 :: zvi a :: L) st h) ∧
  (∀ (x0 x1 x2 x3 : ZV) (a : Int) (L st : List ZV) (h : PH), zev kJ4_getEntry 44 (x0 :: x1 :: x2 :: x3 :: zvi a :: L) st h = zev kJ4_getEntry 46 (x0 :: x1 :: x2 :: x3 :: zvi a :: L) (zvi a :: st) h) ∧
  (∀ (a : Int) (L st : List ZV) (h : PH), zev kJ4_getEntry 46 L (zvi a :: st) h = if a ≥ 0 then zev kJ4_getEntry 57 L st h else zev kJ4_getEntry 49 L st h) ∧
  (∀ (x0 x1 x2 : ZV) (a : Option Nat) (L st : List ZV) (h : PH), zev kJ4_getEntry 49 (x0 :: x1 :: x2 :: zvr a :: L) st h = zev kJ4_getEntry 50 (x0 :: x1 :: x2 :: zvr a :: L) (zvr a :: st) h) ∧
  (∀ (q : Nat) (L st : List ZV) (h : PH), zev kJ4_getEntry 50 L (zvr (some q) :: st) h = if (ph_K h q).1 % 1000 = 33 then zev kJ4_getEntry 53 L (zvr (ph_R h q 2) :: st) h else none) ∧
  (∀ (x0 x1 x2 x3 : ZV) (a : Option Nat) (L st : List ZV) (h : PH) (hx : zisL x2 = false) , zev kJ4_getEntry 53 (x0 :: x1 :: x2 :: x3 :: L) (zvr a :: st) h = zev kJ4_getEntry 54 (x0 :: x1 :: x2 :: zvr a :: L) st h) ∧
  (∀ (L st : List ZV) (h : PH), zev kJ4_getEntry 54 L st h = zev kJ4_getEntry 72 L st h) ∧
  (∀ (x0 x1 x2 x3 : ZV) (a : Int) (L st : List ZV) (h : PH), zev kJ4_getEntry 57 (x0 :: x1 :: x2 :: x3 :: zvi a :: L) st h = zev kJ4_getEntry 59 (x0 :: x1 :: x2 :: x3 :: zvi a :: L) (zvi a :: st) h) ∧
  (∀ (a : Int) (L st : List ZV) (h : PH), zev kJ4_getEntry 59 L (zvi a :: st) h = if a ≤ 0 then zev kJ4_getEntry 70 L st h else zev kJ4_getEntry 62 L st h) ∧
  (∀ (x0 x1 x2 : ZV) (a : Option Nat) (L st : List ZV) (h : PH), zev kJ4_getEntry 62 (x0 :: x1 :: x2 :: zvr a :: L) st h = zev kJ4_getEntry 63 (x0 :: x1 :: x2 :: zvr a :: L) (zvr a :: st) h) ∧
  (∀ (q : Nat) (L st : List ZV) (h : PH), zev kJ4_getEntry 63 L (zvr (some q) :: st) h = if (ph_K h q).1 % 1000 = 33 then zev kJ4_getEntry 66 L (zvr (ph_R h q 3) :: st) h else none) ∧
  (∀ (x0 x1 x2 x3 : ZV) (a : Option Nat) (L st : List ZV) (h : PH) (hx : zisL x2 = false) , zev kJ4_getEntry 66 (x0 :: x1 :: x2 :: x3 :: L) (zvr a :: st) h = zev kJ4_getEntry 67 (x0 :: x1 :: x2 :: zvr a :: L) st h) ∧
  (∀ (L st : List ZV) (h : PH), zev kJ4_getEntry 67 L st h = zev kJ4_getEntry 72 L st h) ∧
  (∀ (x0 x1 x2 : ZV) (a : Option Nat) (L st : List ZV) (h : PH), zev kJ4_getEntry 70 (x0 :: x1 :: x2 :: zvr a :: L) st h = zev kJ4_getEntry 71 (x0 :: x1 :: x2 :: zvr a :: L) (zvr a :: st) h) ∧
  (∀ (a : Option Nat) (L : List ZV) (h : PH), zev kJ4_getEntry 71 L [zvr a] h = zrv (zvr a) h) ∧
  (∀ (L st : List ZV) (h : PH), zev kJ4_getEntry 72 L st h = zev kJ4_getEntry 28 L st h) ∧
  (∀ (L st : List ZV) (h : PH), zev kJ4_getEntry 75 L st h = zev kJ4_getEntry 76 L (zvr none :: st) h) ∧
  (∀ (a : Option Nat) (L : List ZV) (h : PH), zev kJ4_getEntry 76 L [zvr a] h = zrv (zvr a) h) :=
  ⟨fun a L st h => e_ld0R (n := 1) rfl,
  fun q L st h => e_getR (kd := 32) (k := 2) (n := 4) rfl,
  fun L st h => e_null0 (t := 13) (n := 7) rfl,
  fun q L st h => e_null1 (t := 13) (n := 7) rfl,
  fun a L st h => e_ld0R (n := 8) rfl,
  fun x0 a L st h => e_ld1R (n := 9) rfl,
  fun v0 q L st h => e_callV2 (F := mJ4_getEntryUsingComparator) (kd := 32) (n := 12) rfl,
  fun a L h => e_retR rfl,
  fun x0 a L st h => e_ld1R (n := 14) rfl,
  fun v0 L st h => e_callS1 (F := mJ14_requireNonNull) (n := 17) rfl,
  fun a L st h => e_popI (n := 18) rfl,
  fun a L st h => e_popR (n := 18) rfl,
  fun x0 a L st h => e_ld1R (n := 19) rfl,
  fun x0 x1 x2 a L st h hx => e_st2R (n := 23) rfl hx,
  fun a L st h => e_ld0R (n := 24) rfl,
  fun q L st h => e_getR (kd := 32) (k := 3) (n := 27) rfl,
  fun x0 x1 x2 x3 a L st h hx => e_st3R (n := 28) rfl hx,
  fun L st h => e_null0 (t := 75) (n := 32) rfl,
  fun q L st h => e_null1 (t := 75) (n := 32) rfl,
  fun x0 x1 a L st h => e_ld2R (n := 33) rfl,
  fun x0 x1 x2 a L st h => e_ld3R (n := 34) rfl,
  fun q L st h => e_getR (kd := 33) (k := 0) (n := 37) rfl,
  fun x0 x1 x2 x3 x4 a L st h hx => e_st4I (n := 44) rfl hx,
  fun x0 x1 x2 x3 a L st h => e_ld4I (n := 46) rfl,
  fun a L st h => e_ifge (t := 57) (n := 49) rfl,
  fun x0 x1 x2 a L st h => e_ld3R (n := 50) rfl,
  fun q L st h => e_getR (kd := 33) (k := 2) (n := 53) rfl,
  fun x0 x1 x2 x3 a L st h hx => e_st3R (n := 54) rfl hx,
  fun L st h => e_goto (t := 72) rfl,
  fun x0 x1 x2 x3 a L st h => e_ld4I (n := 59) rfl,
  fun a L st h => e_ifle (t := 70) (n := 62) rfl,
  fun x0 x1 x2 a L st h => e_ld3R (n := 63) rfl,
  fun q L st h => e_getR (kd := 33) (k := 3) (n := 66) rfl,
  fun x0 x1 x2 x3 a L st h hx => e_st3R (n := 67) rfl hx,
  fun L st h => e_goto (t := 72) rfl,
  fun x0 x1 x2 a L st h => e_ld3R (n := 71) rfl,
  fun a L h => e_retR rfl,
  fun L st h => e_goto (t := 28) rfl,
  fun L st h => e_push (v := zvr none) (n := 76) rfl,
  fun a L h => e_retR rfl⟩
theorem allJ4_getEntry : zall yJ4_getEntry cJ4_getEntry 5 (some (.object "java/util/TreeMap$Entry")) 5 kJ4_getEntry.1 :=
  ⟨k_aload_n dJ4_getEntry_0,
  k_getR (C := RJ4) (T := TJ4) (N := 9) (ci := 16) (k := 2) (ref := "java/util/TreeMap") dJ4_getEntry_1 rfl in_J4 (by decide) q201 (Or.inl rfl) (fun _ _ _ => rfl),
  k_null (t := 13) dJ4_getEntry_4 (by decide),
  k_aload_n dJ4_getEntry_7,
  k_aload_n dJ4_getEntry_8,
  k_callV (y2 := yJ4_getEntryUsingComparator) (C := RJ4) (T0 := TJ4) (ci := 16) dJ4_getEntry_9 sndJ4_getEntryUsingComparator rfl q1690 q1691 q1692 q134 q1693 (by decide +kernel) ⟨by decide, by decide⟩ (by decide) (by decide),
  k_aret dJ4_getEntry_12 rfl (Or.inl ⟨_, rfl⟩),
  k_aload_n dJ4_getEntry_13,
  k_callS (y2 := yJ14_requireNonNull) dJ4_getEntry_14 sndJ14_requireNonNull q1177 q1178 q151 q1179 (by decide +kernel) ⟨by decide, by decide⟩ (by decide) (by decide),
  k_pop dJ4_getEntry_17,
  k_aload_n dJ4_getEntry_18,
  k_stuck,
  k_astore_n dJ4_getEntry_22,
  k_aload_n dJ4_getEntry_23,
  k_getR (C := RJ4) (T := TJ4) (N := 9) (ci := 16) (k := 3) (ref := "java/util/TreeMap") dJ4_getEntry_24 rfl in_J4 (by decide) q202 (Or.inl rfl) (fun _ _ _ => rfl),
  k_astore_n dJ4_getEntry_27,
  k_aload_n dJ4_getEntry_28,
  k_null (t := 75) dJ4_getEntry_29 (by decide),
  k_aload_n dJ4_getEntry_32,
  k_aload_n dJ4_getEntry_33,
  k_getR (C := RJ22) (T := TJ22) (N := 6) (ci := 17) (k := 0) (ref := "java/util/TreeMap$Entry") dJ4_getEntry_34 rfl in_J22 (by decide) q1155 (Or.inl rfl) (fun _ _ _ => rfl),
  k_stuck,
  k_istore dJ4_getEntry_42,
  k_iload dJ4_getEntry_44,
  k_ifge (t := 57) dJ4_getEntry_46 (by decide),
  k_aload_n dJ4_getEntry_49,
  k_getR (C := RJ22) (T := TJ22) (N := 6) (ci := 17) (k := 2) (ref := "java/util/TreeMap$Entry") dJ4_getEntry_50 rfl in_J22 (by decide) q1158 (Or.inl rfl) (fun _ _ _ => rfl),
  k_astore_n dJ4_getEntry_53,
  k_goto (t := 72) dJ4_getEntry_54 (by decide),
  k_iload dJ4_getEntry_57,
  k_ifle (t := 70) dJ4_getEntry_59 (by decide),
  k_aload_n dJ4_getEntry_62,
  k_getR (C := RJ22) (T := TJ22) (N := 6) (ci := 17) (k := 3) (ref := "java/util/TreeMap$Entry") dJ4_getEntry_63 rfl in_J22 (by decide) q1159 (Or.inl rfl) (fun _ _ _ => rfl),
  k_astore_n dJ4_getEntry_66,
  k_goto (t := 72) dJ4_getEntry_67 (by decide),
  k_aload_n dJ4_getEntry_70,
  k_aret dJ4_getEntry_71 rfl (Or.inl ⟨_, rfl⟩),
  k_goto (t := 28) dJ4_getEntry_72 (by decide),
  k_anull dJ4_getEntry_75,
  k_aret dJ4_getEntry_76 rfl (Or.inl ⟨_, rfl⟩), trivial⟩
theorem sndJ4_getEntry : MSound 5 yJ4_getEntry (ws_ yJ4_getEntry cJ4_getEntry 5 (some (.object "java/util/TreeMap$Entry"))) mJ4_getEntry := msound_M (by decide) allJ4_getEntry (fun _ _ => rfl)
/-! java/util/TreeMap.successor(Ljava/util/TreeMap$Entry;)Ljava/util/TreeMap$Entry; -/
noncomputable def kJ4_successor : ZM := ([(0, zi_ld 1 0 1), (1, zi_nonnull 6 4), (4, zi_push (zvr none) 5), (5, zi_retv 1), (6, zi_ld 1 0 7), (7, zi_getR 33 3 10), (10, zi_null 35 13), (13, zi_ld 1 0 14), (14, zi_getR 33 3 17), (17, zi_st 1 1 18), (18, zi_ld 1 1 19), (19, zi_getR 33 2 22), (22, zi_null 33 25), (25, zi_ld 1 1 26), (26, zi_getR 33 2 29), (29, zi_st 1 1 30), (30, zi_goto 18), (33, zi_ld 1 1 34), (34, zi_retv 1), (35, zi_ld 1 0 36), (36, zi_getR 33 4 39), (39, zi_st 1 1 40), (40, zi_ld 1 0 41), (41, zi_st 1 2 42), (42, zi_ld 1 1 43), (43, zi_null 64 46), (46, zi_ld 1 2 47), (47, zi_ld 1 1 48), (48, zi_getR 33 3 51), (51, zi_acmp 54 64), (54, zi_ld 1 1 55), (55, zi_st 1 2 56), (56, zi_ld 1 1 57), (57, zi_getR 33 4 60), (60, zi_st 1 1 61), (61, zi_goto 42), (64, zi_ld 1 1 65), (65, zi_retv 1)], fun _ _ => none)
noncomputable def mJ4_successor : ZF := zrunM kJ4_successor 3
theorem enJ4_successor (x0 : Option Nat) (h : PH) : mJ4_successor [zvr x0] h = zev kJ4_successor 0 [zvr x0, zvu, zvu] [] h := zrunM_eq rfl rfl
theorem hdJ4_successor_18 (x0 : ZV) (a : Option Nat) (L st : List ZV) (h : PH) : zev kJ4_successor 18 (x0 :: zvr a :: L) st h = zev kJ4_successor 19 (x0 :: zvr a :: L) (zvr a :: st) h := e_ld1R (n := 19) rfl
theorem hdJ4_successor_42 (x0 : ZV) (a : Option Nat) (L st : List ZV) (h : PH) : zev kJ4_successor 42 (x0 :: zvr a :: L) st h = zev kJ4_successor 43 (x0 :: zvr a :: L) (zvr a :: st) h := e_ld1R (n := 43) rfl
theorem rJ4_successor : (∀ (a : Option Nat) (L st : List ZV) (h : PH), zev kJ4_successor 0 (zvr a :: L) st h = zev kJ4_successor 1 (zvr a :: L) (zvr a :: st) h) ∧
  (∀ (L st : List ZV) (h : PH), zev kJ4_successor 1 L (zvr none :: st) h = zev kJ4_successor 4 L st h) ∧
  (∀ (q : Nat) (L st : List ZV) (h : PH), zev kJ4_successor 1 L (zvr (some q) :: st) h = if (ph_K h q).1 ≠ 0 then zev kJ4_successor 6 L st h else none) ∧
  (∀ (L st : List ZV) (h : PH), zev kJ4_successor 4 L st h = zev kJ4_successor 5 L (zvr none :: st) h) ∧
  (∀ (a : Option Nat) (L : List ZV) (h : PH), zev kJ4_successor 5 L [zvr a] h = zrv (zvr a) h) ∧
  (∀ (a : Option Nat) (L st : List ZV) (h : PH), zev kJ4_successor 6 (zvr a :: L) st h = zev kJ4_successor 7 (zvr a :: L) (zvr a :: st) h) ∧
  (∀ (q : Nat) (L st : List ZV) (h : PH), zev kJ4_successor 7 L (zvr (some q) :: st) h = if (ph_K h q).1 % 1000 = 33 then zev kJ4_successor 10 L (zvr (ph_R h q 3) :: st) h else none) ∧
  (∀ (L st : List ZV) (h : PH), zev kJ4_successor 10 L (zvr none :: st) h = zev kJ4_successor 35 L st h) ∧
  (∀ (q : Nat) (L st : List ZV) (h : PH), zev kJ4_successor 10 L (zvr (some q) :: st) h = if (ph_K h q).1 ≠ 0 then zev kJ4_successor 13 L st h else none) ∧
  (∀ (a : Option Nat) (L st : List ZV) (h : PH), zev kJ4_successor 13 (zvr a :: L) st h = zev kJ4_successor 14 (zvr a :: L) (zvr a :: st) h) ∧
  (∀ (q : Nat) (L st : List ZV) (h : PH), zev kJ4_successor 14 L (zvr (some q) :: st) h = if (ph_K h q).1 % 1000 = 33 then zev kJ4_successor 17 L (zvr (ph_R h q 3) :: st) h else none) ∧
  (∀ (x0 x1 : ZV) (a : Option Nat) (L st : List ZV) (h : PH) (hx : zisL x0 = false) , zev kJ4_successor 17 (x0 :: x1 :: L) (zvr a :: st) h = zev kJ4_successor 18 (x0 :: zvr a :: L) st h) ∧
  (∀ (q : Nat) (L st : List ZV) (h : PH), zev kJ4_successor 19 L (zvr (some q) :: st) h = if (ph_K h q).1 % 1000 = 33 then zev kJ4_successor 22 L (zvr (ph_R h q 2) :: st) h else none) ∧
  (∀ (L st : List ZV) (h : PH), zev kJ4_successor 22 L (zvr none :: st) h = zev kJ4_successor 33 L st h) ∧
  (∀ (q : Nat) (L st : List ZV) (h : PH), zev kJ4_successor 22 L (zvr (some q) :: st) h = if (ph_K h q).1 ≠ 0 then zev kJ4_successor 25 L st h else none) ∧
  (∀ (x0 : ZV) (a : Option Nat) (L st : List ZV) (h : PH), zev kJ4_successor 25 (x0 :: zvr a :: L) st h = zev kJ4_successor 26 (x0 :: zvr a :: L) (zvr a :: st) h) ∧
  (∀ (q : Nat) (L st : List ZV) (h : PH), zev kJ4_successor 26 L (zvr (some q) :: st) h = if (ph_K h q).1 % 1000 = 33 then zev kJ4_successor 29 L (zvr (ph_R h q 2) :: st) h else none) ∧
  (∀ (x0 x1 : ZV) (a : Option Nat) (L st : List ZV) (h : PH) (hx : zisL x0 = false) , zev kJ4_successor 29 (x0 :: x1 :: L) (zvr a :: st) h = zev kJ4_successor 30 (x0 :: zvr a :: L) st h) ∧
  (∀ (L st : List ZV) (h : PH), zev kJ4_successor 30 L st h = zev kJ4_successor 18 L st h) ∧
  (∀ (x0 : ZV) (a : Option Nat) (L st : List ZV) (h : PH), zev kJ4_successor 33 (x0 :: zvr a :: L) st h = zev kJ4_successor 34 (x0 :: zvr a :: L) (zvr a :: st) h) ∧
  (∀ (a : Option Nat) (L : List ZV) (h : PH), zev kJ4_successor 34 L [zvr a] h = zrv (zvr a) h) ∧
  (∀ (a : Option Nat) (L st : List ZV) (h : PH), zev kJ4_successor 35 (zvr a :: L) st h = zev kJ4_successor 36 (zvr a :: L) (zvr a :: st) h) ∧
  (∀ (q : Nat) (L st : List ZV) (h : PH), zev kJ4_successor 36 L (zvr (some q) :: st) h = if (ph_K h q).1 % 1000 = 33 then zev kJ4_successor 39 L (zvr (ph_R h q 4) :: st) h else none) ∧
  (∀ (x0 x1 : ZV) (a : Option Nat) (L st : List ZV) (h : PH) (hx : zisL x0 = false) , zev kJ4_successor 39 (x0 :: x1 :: L) (zvr a :: st) h = zev kJ4_successor 40 (x0 :: zvr a :: L) st h) ∧
  (∀ (a : Option Nat) (L st : List ZV) (h : PH), zev kJ4_successor 40 (zvr a :: L) st h = zev kJ4_successor 41 (zvr a :: L) (zvr a :: st) h) ∧
  (∀ (x0 x1 x2 : ZV) (a : Option Nat) (L st : List ZV) (h : PH) (hx : zisL x1 = false) , zev kJ4_successor 41 (x0 :: x1 :: x2 :: L) (zvr a :: st) h = zev kJ4_successor 42 (x0 :: x1 :: zvr a :: L) st h) ∧
  (∀ (L st : List ZV) (h : PH), zev kJ4_successor 43 L (zvr none :: st) h = zev kJ4_successor 64 L st h) ∧
  (∀ (q : Nat) (L st : List ZV) (h : PH), zev kJ4_successor 43 L (zvr (some q) :: st) h = if (ph_K h q).1 ≠ 0 then zev kJ4_successor 46 L st h else none) ∧
  (∀ (x0 x1 : ZV) (a : Option Nat) (L st : List ZV) (h : PH), zev kJ4_successor 46 (x0 :: x1 :: zvr a :: L) st h = zev kJ4_successor 47 (x0 :: x1 :: zvr a :: L) (zvr a :: st) h) ∧
  (∀ (x0 : ZV) (a : Option Nat) (L st : List ZV) (h : PH), zev kJ4_successor 47 (x0 :: zvr a :: L) st h = zev kJ4_successor 48 (x0 :: zvr a :: L) (zvr a :: st) h) ∧
  (∀ (q : Nat) (L st : List ZV) (h : PH), zev kJ4_successor 48 L (zvr (some q) :: st) h = if (ph_K h q).1 % 1000 = 33 then zev kJ4_successor 51 L (zvr (ph_R h q 3) :: st) h else none) ∧
  (∀ (a b : Option Nat) (L st : List ZV) (h : PH), zev kJ4_successor 51 L (zvr b :: zvr a :: st) h = if zcomp h a b = true then (if a = b then zev kJ4_successor 54 L st h else zev kJ4_successor 64 L st h) else none) ∧
  (∀ (x0 : ZV) (a : Option Nat) (L st : List ZV) (h : PH), zev kJ4_successor 54 (x0 :: zvr a :: L) st h = zev kJ4_successor 55 (x0 :: zvr a :: L) (zvr a :: st) h) ∧
  (∀ (x0 x1 x2 : ZV) (a : Option Nat) (L st : List ZV) (h : PH) (hx : zisL x1 = false) , zev kJ4_successor 55 (x0 :: x1 :: x2 :: L) (zvr a :: st) h = zev kJ4_successor 56 (x0 :: x1 :: zvr a :: L) st h) ∧
  (∀ (x0 : ZV) (a : Option Nat) (L st : List ZV) (h : PH), zev kJ4_successor 56 (x0 :: zvr a :: L) st h = zev kJ4_successor 57 (x0 :: zvr a :: L) (zvr a :: st) h) ∧
  (∀ (q : Nat) (L st : List ZV) (h : PH), zev kJ4_successor 57 L (zvr (some q) :: st) h = if (ph_K h q).1 % 1000 = 33 then zev kJ4_successor 60 L (zvr (ph_R h q 4) :: st) h else none) ∧
  (∀ (x0 x1 : ZV) (a : Option Nat) (L st : List ZV) (h : PH) (hx : zisL x0 = false) , zev kJ4_successor 60 (x0 :: x1 :: L) (zvr a :: st) h = zev kJ4_successor 61 (x0 :: zvr a :: L) st h) ∧
  (∀ (L st : List ZV) (h : PH), zev kJ4_successor 61 L st h = zev kJ4_successor 42 L st h) ∧
  (∀ (x0 : ZV) (a : Option Nat) (L st : List ZV) (h : PH), zev kJ4_successor 64 (x0 :: zvr a :: L) st h = zev kJ4_successor 65 (x0 :: zvr a :: L) (zvr a :: st) h) ∧
  (∀ (a : Option Nat) (L : List ZV) (h : PH), zev kJ4_successor 65 L [zvr a] h = zrv (zvr a) h) :=
  ⟨fun a L st h => e_ld0R (n := 1) rfl,
  fun L st h => e_nonnull0 (t := 6) (n := 4) rfl,
  fun q L st h => e_nonnull1 (t := 6) (n := 4) rfl,
  fun L st h => e_push (v := zvr none) (n := 5) rfl,
  fun a L h => e_retR rfl,
  fun a L st h => e_ld0R (n := 7) rfl,
  fun q L st h => e_getR (kd := 33) (k := 3) (n := 10) rfl,
  fun L st h => e_null0 (t := 35) (n := 13) rfl,
  fun q L st h => e_null1 (t := 35) (n := 13) rfl,
  fun a L st h => e_ld0R (n := 14) rfl,
  fun q L st h => e_getR (kd := 33) (k := 3) (n := 17) rfl,
  fun x0 x1 a L st h hx => e_st1R (n := 18) rfl hx,
  fun q L st h => e_getR (kd := 33) (k := 2) (n := 22) rfl,
  fun L st h => e_null0 (t := 33) (n := 25) rfl,
  fun q L st h => e_null1 (t := 33) (n := 25) rfl,
  fun x0 a L st h => e_ld1R (n := 26) rfl,
  fun q L st h => e_getR (kd := 33) (k := 2) (n := 29) rfl,
  fun x0 x1 a L st h hx => e_st1R (n := 30) rfl hx,
  fun L st h => e_goto (t := 18) rfl,
  fun x0 a L st h => e_ld1R (n := 34) rfl,
  fun a L h => e_retR rfl,
  fun a L st h => e_ld0R (n := 36) rfl,
  fun q L st h => e_getR (kd := 33) (k := 4) (n := 39) rfl,
  fun x0 x1 a L st h hx => e_st1R (n := 40) rfl hx,
  fun a L st h => e_ld0R (n := 41) rfl,
  fun x0 x1 x2 a L st h hx => e_st2R (n := 42) rfl hx,
  fun L st h => e_null0 (t := 64) (n := 46) rfl,
  fun q L st h => e_null1 (t := 64) (n := 46) rfl,
  fun x0 x1 a L st h => e_ld2R (n := 47) rfl,
  fun x0 a L st h => e_ld1R (n := 48) rfl,
  fun q L st h => e_getR (kd := 33) (k := 3) (n := 51) rfl,
  fun a b L st h => e_acmp (t := 54) (n := 64) rfl,
  fun x0 a L st h => e_ld1R (n := 55) rfl,
  fun x0 x1 x2 a L st h hx => e_st2R (n := 56) rfl hx,
  fun x0 a L st h => e_ld1R (n := 57) rfl,
  fun q L st h => e_getR (kd := 33) (k := 4) (n := 60) rfl,
  fun x0 x1 a L st h hx => e_st1R (n := 61) rfl hx,
  fun L st h => e_goto (t := 42) rfl,
  fun x0 a L st h => e_ld1R (n := 65) rfl,
  fun a L h => e_retR rfl⟩
theorem allJ4_successor : zall yJ4_successor cJ4_successor 3 (some (.object "java/util/TreeMap$Entry")) 1 kJ4_successor.1 :=
  ⟨k_aload_n dJ4_successor_0,
  k_nonnull (t := 6) dJ4_successor_1 (by decide),
  k_anull dJ4_successor_4,
  k_aret dJ4_successor_5 rfl (Or.inl ⟨_, rfl⟩),
  k_aload_n dJ4_successor_6,
  k_getR (C := RJ22) (T := TJ22) (N := 6) (ci := 17) (k := 3) (ref := "java/util/TreeMap$Entry") dJ4_successor_7 rfl in_J22 (by decide) q1159 (Or.inl rfl) (fun _ _ _ => rfl),
  k_null (t := 35) dJ4_successor_10 (by decide),
  k_aload_n dJ4_successor_13,
  k_getR (C := RJ22) (T := TJ22) (N := 6) (ci := 17) (k := 3) (ref := "java/util/TreeMap$Entry") dJ4_successor_14 rfl in_J22 (by decide) q1159 (Or.inl rfl) (fun _ _ _ => rfl),
  k_astore_n dJ4_successor_17,
  k_aload_n dJ4_successor_18,
  k_getR (C := RJ22) (T := TJ22) (N := 6) (ci := 17) (k := 2) (ref := "java/util/TreeMap$Entry") dJ4_successor_19 rfl in_J22 (by decide) q1158 (Or.inl rfl) (fun _ _ _ => rfl),
  k_null (t := 33) dJ4_successor_22 (by decide),
  k_aload_n dJ4_successor_25,
  k_getR (C := RJ22) (T := TJ22) (N := 6) (ci := 17) (k := 2) (ref := "java/util/TreeMap$Entry") dJ4_successor_26 rfl in_J22 (by decide) q1158 (Or.inl rfl) (fun _ _ _ => rfl),
  k_astore_n dJ4_successor_29,
  k_goto (t := 18) dJ4_successor_30 (by decide),
  k_aload_n dJ4_successor_33,
  k_aret dJ4_successor_34 rfl (Or.inl ⟨_, rfl⟩),
  k_aload_n dJ4_successor_35,
  k_getR (C := RJ22) (T := TJ22) (N := 6) (ci := 17) (k := 4) (ref := "java/util/TreeMap$Entry") dJ4_successor_36 rfl in_J22 (by decide) q1161 (Or.inl rfl) (fun _ _ _ => rfl),
  k_astore_n dJ4_successor_39,
  k_aload_n dJ4_successor_40,
  k_astore_n dJ4_successor_41,
  k_aload_n dJ4_successor_42,
  k_null (t := 64) dJ4_successor_43 (by decide),
  k_aload_n dJ4_successor_46,
  k_aload_n dJ4_successor_47,
  k_getR (C := RJ22) (T := TJ22) (N := 6) (ci := 17) (k := 3) (ref := "java/util/TreeMap$Entry") dJ4_successor_48 rfl in_J22 (by decide) q1159 (Or.inl rfl) (fun _ _ _ => rfl),
  k_acmpne (t := 64) dJ4_successor_51 (by decide),
  k_aload_n dJ4_successor_54,
  k_astore_n dJ4_successor_55,
  k_aload_n dJ4_successor_56,
  k_getR (C := RJ22) (T := TJ22) (N := 6) (ci := 17) (k := 4) (ref := "java/util/TreeMap$Entry") dJ4_successor_57 rfl in_J22 (by decide) q1161 (Or.inl rfl) (fun _ _ _ => rfl),
  k_astore_n dJ4_successor_60,
  k_goto (t := 42) dJ4_successor_61 (by decide),
  k_aload_n dJ4_successor_64,
  k_aret dJ4_successor_65 rfl (Or.inl ⟨_, rfl⟩), trivial⟩
theorem sndJ4_successor : MSound 1 yJ4_successor (ws_ yJ4_successor cJ4_successor 3 (some (.object "java/util/TreeMap$Entry"))) mJ4_successor := msound_M (by decide) allJ4_successor (fun _ _ => rfl)
/-! java/util/TreeMap.fixAfterDeletion(Ljava/util/TreeMap$Entry;)V -/
noncomputable def kJ4_fixAfterDeletion : ZM := ([(0, zi_ld 1 1 1), (1, zi_ld 1 0 2), (2, zi_getR 32 3 5), (5, zi_acmp 345 8), (8, zi_ld 1 1 9), (9, zi_callS mJ4_colorOf 1 12), (12, zi_push (zvi 1) 13), (13, zi_cmp zc_ne 345 16), (16, zi_ld 1 1 17), (17, zi_ld 1 1 18), (18, zi_callS mJ4_parentOf 1 21), (21, zi_callS mJ4_leftOf 1 24), (24, zi_acmp 27 186), (27, zi_ld 1 1 28), (28, zi_callS mJ4_parentOf 1 31), (31, zi_callS mJ4_rightOf 1 34), (34, zi_st 1 2 35), (35, zi_ld 1 2 36), (36, zi_callS mJ4_colorOf 1 39), (39, zi_if (fun a => zc_ne a 0) 71 42), (42, zi_ld 1 2 43), (43, zi_push (zvi 1) 44), (44, zi_callS mJ4_setColor 2 47), (47, zi_ld 1 1 48), (48, zi_callS mJ4_parentOf 1 51), (51, zi_push (zvi 0) 52), (52, zi_callS mJ4_setColor 2 55), (55, zi_ld 1 0 56), (56, zi_ld 1 1 57), (57, zi_callS mJ4_parentOf 1 60), (60, zi_callV mJ4_rotateLeft 32 2 63), (63, zi_ld 1 1 64), (64, zi_callS mJ4_parentOf 1 67), (67, zi_callS mJ4_rightOf 1 70), (70, zi_st 1 2 71), (71, zi_ld 1 2 72), (72, zi_callS mJ4_leftOf 1 75), (75, zi_callS mJ4_colorOf 1 78), (78, zi_push (zvi 1) 79), (79, zi_cmp zc_ne 106 82), (82, zi_ld 1 2 83), (83, zi_callS mJ4_rightOf 1 86), (86, zi_callS mJ4_colorOf 1 89), (89, zi_push (zvi 1) 90), (90, zi_cmp zc_ne 106 93), (93, zi_ld 1 2 94), (94, zi_push (zvi 0) 95), (95, zi_callS mJ4_setColor 2 98), (98, zi_ld 1 1 99), (99, zi_callS mJ4_parentOf 1 102), (102, zi_st 1 1 103), (103, zi_goto 183), (106, zi_ld 1 2 107), (107, zi_callS mJ4_rightOf 1 110), (110, zi_callS mJ4_colorOf 1 113), (113, zi_push (zvi 1) 114), (114, zi_cmp zc_ne 143 117), (117, zi_ld 1 2 118), (118, zi_callS mJ4_leftOf 1 121), (121, zi_push (zvi 1) 122), (122, zi_callS mJ4_setColor 2 125), (125, zi_ld 1 2 126), (126, zi_push (zvi 0) 127), (127, zi_callS mJ4_setColor 2 130), (130, zi_ld 1 0 131), (131, zi_ld 1 2 132), (132, zi_callV mJ4_rotateRight 32 2 135), (135, zi_ld 1 1 136), (136, zi_callS mJ4_parentOf 1 139), (139, zi_callS mJ4_rightOf 1 142), (142, zi_st 1 2 143), (143, zi_ld 1 2 144), (144, zi_ld 1 1 145), (145, zi_callS mJ4_parentOf 1 148), (148, zi_callS mJ4_colorOf 1 151), (151, zi_callS mJ4_setColor 2 154), (154, zi_ld 1 1 155), (155, zi_callS mJ4_parentOf 1 158), (158, zi_push (zvi 1) 159), (159, zi_callS mJ4_setColor 2 162), (162, zi_ld 1 2 163), (163, zi_callS mJ4_rightOf 1 166), (166, zi_push (zvi 1) 167), (167, zi_callS mJ4_setColor 2 170), (170, zi_ld 1 0 171), (171, zi_ld 1 1 172), (172, zi_callS mJ4_parentOf 1 175), (175, zi_callV mJ4_rotateLeft 32 2 178), (178, zi_ld 1 0 179), (179, zi_getR 32 3 182), (182, zi_st 1 1 183), (183, zi_goto 0), (186, zi_ld 1 1 187), (187, zi_callS mJ4_parentOf 1 190), (190, zi_callS mJ4_leftOf 1 193), (193, zi_st 1 2 194), (194, zi_ld 1 2 195), (195, zi_callS mJ4_colorOf 1 198), (198, zi_if (fun a => zc_ne a 0) 230 201), (201, zi_ld 1 2 202), (202, zi_push (zvi 1) 203), (203, zi_callS mJ4_setColor 2 206), (206, zi_ld 1 1 207), (207, zi_callS mJ4_parentOf 1 210), (210, zi_push (zvi 0) 211), (211, zi_callS mJ4_setColor 2 214), (214, zi_ld 1 0 215), (215, zi_ld 1 1 216), (216, zi_callS mJ4_parentOf 1 219), (219, zi_callV mJ4_rotateRight 32 2 222), (222, zi_ld 1 1 223), (223, zi_callS mJ4_parentOf 1 226), (226, zi_callS mJ4_leftOf 1 229), (229, zi_st 1 2 230), (230, zi_ld 1 2 231), (231, zi_callS mJ4_rightOf 1 234), (234, zi_callS mJ4_colorOf 1 237), (237, zi_push (zvi 1) 238), (238, zi_cmp zc_ne 265 241), (241, zi_ld 1 2 242), (242, zi_callS mJ4_leftOf 1 245), (245, zi_callS mJ4_colorOf 1 248), (248, zi_push (zvi 1) 249), (249, zi_cmp zc_ne 265 252), (252, zi_ld 1 2 253), (253, zi_push (zvi 0) 254), (254, zi_callS mJ4_setColor 2 257), (257, zi_ld 1 1 258), (258, zi_callS mJ4_parentOf 1 261), (261, zi_st 1 1 262), (262, zi_goto 342), (265, zi_ld 1 2 266), (266, zi_callS mJ4_leftOf 1 269), (269, zi_callS mJ4_colorOf 1 272), (272, zi_push (zvi 1) 273), (273, zi_cmp zc_ne 302 276), (276, zi_ld 1 2 277), (277, zi_callS mJ4_rightOf 1 280), (280, zi_push (zvi 1) 281), (281, zi_callS mJ4_setColor 2 284), (284, zi_ld 1 2 285), (285, zi_push (zvi 0) 286), (286, zi_callS mJ4_setColor 2 289), (289, zi_ld 1 0 290), (290, zi_ld 1 2 291), (291, zi_callV mJ4_rotateLeft 32 2 294), (294, zi_ld 1 1 295), (295, zi_callS mJ4_parentOf 1 298), (298, zi_callS mJ4_leftOf 1 301), (301, zi_st 1 2 302), (302, zi_ld 1 2 303), (303, zi_ld 1 1 304), (304, zi_callS mJ4_parentOf 1 307), (307, zi_callS mJ4_colorOf 1 310), (310, zi_callS mJ4_setColor 2 313), (313, zi_ld 1 1 314), (314, zi_callS mJ4_parentOf 1 317), (317, zi_push (zvi 1) 318), (318, zi_callS mJ4_setColor 2 321), (321, zi_ld 1 2 322), (322, zi_callS mJ4_leftOf 1 325), (325, zi_push (zvi 1) 326), (326, zi_callS mJ4_setColor 2 329), (329, zi_ld 1 0 330), (330, zi_ld 1 1 331), (331, zi_callS mJ4_parentOf 1 334), (334, zi_callV mJ4_rotateRight 32 2 337), (337, zi_ld 1 0 338), (338, zi_getR 32 3 341), (341, zi_st 1 1 342), (342, zi_goto 0), (345, zi_ld 1 1 346), (346, zi_push (zvi 1) 347), (347, zi_callS mJ4_setColor 2 350), (350, zi_ret)], fun _ _ => none)
noncomputable def mJ4_fixAfterDeletion : ZF := zrunM kJ4_fixAfterDeletion 3
theorem enJ4_fixAfterDeletion (x0 : Option Nat) (x1 : Option Nat) (h : PH) : mJ4_fixAfterDeletion [zvr x0, zvr x1] h = zev kJ4_fixAfterDeletion 0 [zvr x0, zvr x1, zvu] [] h := zrunM_eq rfl rfl
theorem hdJ4_fixAfterDeletion_0 (x0 : ZV) (a : Option Nat) (L st : List ZV) (h : PH) : zev kJ4_fixAfterDeletion 0 (x0 :: zvr a :: L) st h = zev kJ4_fixAfterDeletion 1 (x0 :: zvr a :: L) (zvr a :: st) h := e_ld1R (n := 1) rfl
theorem rJ4_fixAfterDeletion : (∀ (a : Option Nat) (L st : List ZV) (h : PH), zev kJ4_fixAfterDeletion 1 (zvr a :: L) st h = zev kJ4_fixAfterDeletion 2 (zvr a :: L) (zvr a :: st) h) ∧
  (∀ (q : Nat) (L st : List ZV) (h : PH), zev kJ4_fixAfterDeletion 2 L (zvr (some q) :: st) h = if (ph_K h q).1 % 1000 = 32 then zev kJ4_fixAfterDeletion 5 L (zvr (ph_R h q 3) :: st) h else none) ∧
  (∀ (a b : Option Nat) (L st : List ZV) (h : PH), zev kJ4_fixAfterDeletion 5 L (zvr b :: zvr a :: st) h = if zcomp h a b = true then (if a = b then zev kJ4_fixAfterDeletion 345 L st h else zev kJ4_fixAfterDeletion 8 L st h) else none) ∧
  (∀ (x0 : ZV) (a : Option Nat) (L st : List ZV) (h : PH), zev kJ4_fixAfterDeletion 8 (x0 :: zvr a :: L) st h = zev kJ4_fixAfterDeletion 9 (x0 :: zvr a :: L) (zvr a :: st) h) ∧
  (∀ (v0 : ZV) (L st : List ZV) (h : PH), zev kJ4_fixAfterDeletion 9 L (v0 :: st) h = if zcat st ≤ 8 then zk kJ4_fixAfterDeletion 9 12 L st (mJ4_colorOf [v0] h) else none) ∧
  (∀ (L st : List ZV) (h : PH), zev kJ4_fixAfterDeletion 12 L st h = zev kJ4_fixAfterDeletion 13 L (zvi 1 :: st) h) ∧
  (∀ (a b : Int) (L st : List ZV) (h : PH), zev kJ4_fixAfterDeletion 13 L (zvi b :: zvi a :: st) h = if a ≠ b then zev kJ4_fixAfterDeletion 345 L st h else zev kJ4_fixAfterDeletion 16 L st h) ∧
  (∀ (x0 : ZV) (a : Option Nat) (L st : List ZV) (h : PH), zev kJ4_fixAfterDeletion 16 (x0 :: zvr a :: L) st h = zev kJ4_fixAfterDeletion 17 (x0 :: zvr a :: L) (zvr a :: st) h) ∧
  (∀ (x0 : ZV) (a : Option Nat) (L st : List ZV) (h : PH), zev kJ4_fixAfterDeletion 17 (x0 :: zvr a :: L) st h = zev kJ4_fixAfterDeletion 18 (x0 :: zvr a :: L) (zvr a :: st) h) ∧
  (∀ (v0 : ZV) (L st : List ZV) (h : PH), zev kJ4_fixAfterDeletion 18 L (v0 :: st) h = if zcat st ≤ 8 then zk kJ4_fixAfterDeletion 18 21 L st (mJ4_parentOf [v0] h) else none) ∧
  (∀ (v0 : ZV) (L st : List ZV) (h : PH), zev kJ4_fixAfterDeletion 21 L (v0 :: st) h = if zcat st ≤ 8 then zk kJ4_fixAfterDeletion 21 24 L st (mJ4_leftOf [v0] h) else none) ∧
  (∀ (a b : Option Nat) (L st : List ZV) (h : PH), zev kJ4_fixAfterDeletion 24 L (zvr b :: zvr a :: st) h = if zcomp h a b = true then (if a = b then zev kJ4_fixAfterDeletion 27 L st h else zev kJ4_fixAfterDeletion 186 L st h) else none) ∧
  (∀ (x0 : ZV) (a : Option Nat) (L st : List ZV) (h : PH), zev kJ4_fixAfterDeletion 27 (x0 :: zvr a :: L) st h = zev kJ4_fixAfterDeletion 28 (x0 :: zvr a :: L) (zvr a :: st) h) ∧
  (∀ (v0 : ZV) (L st : List ZV) (h : PH), zev kJ4_fixAfterDeletion 28 L (v0 :: st) h = if zcat st ≤ 8 then zk kJ4_fixAfterDeletion 28 31 L st (mJ4_parentOf [v0] h) else none) ∧
  (∀ (v0 : ZV) (L st : List ZV) (h : PH), zev kJ4_fixAfterDeletion 31 L (v0 :: st) h = if zcat st ≤ 8 then zk kJ4_fixAfterDeletion 31 34 L st (mJ4_rightOf [v0] h) else none) ∧
  (∀ (x0 x1 x2 : ZV) (a : Option Nat) (L st : List ZV) (h : PH) (hx : zisL x1 = false) , zev kJ4_fixAfterDeletion 34 (x0 :: x1 :: x2 :: L) (zvr a :: st) h = zev kJ4_fixAfterDeletion 35 (x0 :: x1 :: zvr a :: L) st h) ∧
  (∀ (x0 x1 : ZV) (a : Option Nat) (L st : List ZV) (h : PH), zev kJ4_fixAfterDeletion 35 (x0 :: x1 :: zvr a :: L) st h = zev kJ4_fixAfterDeletion 36 (x0 :: x1 :: zvr a :: L) (zvr a :: st) h) ∧
  (∀ (v0 : ZV) (L st : List ZV) (h : PH), zev kJ4_fixAfterDeletion 36 L (v0 :: st) h = if zcat st ≤ 8 then zk kJ4_fixAfterDeletion 36 39 L st (mJ4_colorOf [v0] h) else none) ∧
  (∀ (a : Int) (L st : List ZV) (h : PH), zev kJ4_fixAfterDeletion 39 L (zvi a :: st) h = if a ≠ 0 then zev kJ4_fixAfterDeletion 71 L st h else zev kJ4_fixAfterDeletion 42 L st h) ∧
  (∀ (x0 x1 : ZV) (a : Option Nat) (L st : List ZV) (h : PH), zev kJ4_fixAfterDeletion 42 (x0 :: x1 :: zvr a :: L) st h = zev kJ4_fixAfterDeletion 43 (x0 :: x1 :: zvr a :: L) (zvr a :: st) h) ∧
  (∀ (L st : List ZV) (h : PH), zev kJ4_fixAfterDeletion 43 L st h = zev kJ4_fixAfterDeletion 44 L (zvi 1 :: st) h) ∧
  (∀ (v0 v1 : ZV) (L st : List ZV) (h : PH), zev kJ4_fixAfterDeletion 44 L (v1 :: v0 :: st) h = if zcat st ≤ 8 then zk kJ4_fixAfterDeletion 44 47 L st (mJ4_setColor [v0, v1] h) else none) ∧
  (∀ (x0 : ZV) (a : Option Nat) (L st : List ZV) (h : PH), zev kJ4_fixAfterDeletion 47 (x0 :: zvr a :: L) st h = zev kJ4_fixAfterDeletion 48 (x0 :: zvr a :: L) (zvr a :: st) h) ∧
  (∀ (v0 : ZV) (L st : List ZV) (h : PH), zev kJ4_fixAfterDeletion 48 L (v0 :: st) h = if zcat st ≤ 8 then zk kJ4_fixAfterDeletion 48 51 L st (mJ4_parentOf [v0] h) else none) ∧
  (∀ (L st : List ZV) (h : PH), zev kJ4_fixAfterDeletion 51 L st h = zev kJ4_fixAfterDeletion 52 L (zvi 0 :: st) h) ∧
  (∀ (v0 v1 : ZV) (L st : List ZV) (h : PH), zev kJ4_fixAfterDeletion 52 L (v1 :: v0 :: st) h = if zcat st ≤ 8 then zk kJ4_fixAfterDeletion 52 55 L st (mJ4_setColor [v0, v1] h) else none) ∧
  (∀ (a : Option Nat) (L st : List ZV) (h : PH), zev kJ4_fixAfterDeletion 55 (zvr a :: L) st h = zev kJ4_fixAfterDeletion 56 (zvr a :: L) (zvr a :: st) h) ∧
  (∀ (x0 : ZV) (a : Option Nat) (L st : List ZV) (h : PH), zev kJ4_fixAfterDeletion 56 (x0 :: zvr a :: L) st h = zev kJ4_fixAfterDeletion 57 (x0 :: zvr a :: L) (zvr a :: st) h) ∧
  (∀ (v0 : ZV) (L st : List ZV) (h : PH), zev kJ4_fixAfterDeletion 57 L (v0 :: st) h = if zcat st ≤ 8 then zk kJ4_fixAfterDeletion 57 60 L st (mJ4_parentOf [v0] h) else none) ∧
  (∀ (v0 : ZV) (q : Nat) (L st : List ZV) (h : PH), zev kJ4_fixAfterDeletion 60 L (v0 :: zvr (some q) :: st) h = if (ph_K h q).1 % 1000 = 32 ∧ zcat st ≤ 8 then zk kJ4_fixAfterDeletion 60 63 L st (mJ4_rotateLeft [zvr (some q), v0] h) else none) ∧
  (∀ (x0 : ZV) (a : Option Nat) (L st : List ZV) (h : PH), zev kJ4_fixAfterDeletion 63 (x0 :: zvr a :: L) st h = zev kJ4_fixAfterDeletion 64 (x0 :: zvr a :: L) (zvr a :: st) h) ∧
  (∀ (v0 : ZV) (L st : List ZV) (h : PH), zev kJ4_fixAfterDeletion 64 L (v0 :: st) h = if zcat st ≤ 8 then zk kJ4_fixAfterDeletion 64 67 L st (mJ4_parentOf [v0] h) else none) ∧
  (∀ (v0 : ZV) (L st : List ZV) (h : PH), zev kJ4_fixAfterDeletion 67 L (v0 :: st) h = if zcat st ≤ 8 then zk kJ4_fixAfterDeletion 67 70 L st (mJ4_rightOf [v0] h) else none) ∧
  (∀ (x0 x1 x2 : ZV) (a : Option Nat) (L st : List ZV) (h : PH) (hx : zisL x1 = false) , zev kJ4_fixAfterDeletion 70 (x0 :: x1 :: x2 :: L) (zvr a :: st) h = zev kJ4_fixAfterDeletion 71 (x0 :: x1 :: zvr a :: L) st h) ∧
  (∀ (x0 x1 : ZV) (a : Option Nat) (L st : List ZV) (h : PH), zev kJ4_fixAfterDeletion 71 (x0 :: x1 :: zvr a :: L) st h = zev kJ4_fixAfterDeletion 72 (x0 :: x1 :: zvr a :: L) (zvr a :: st) h) ∧
  (∀ (v0 : ZV) (L st : List ZV) (h : PH), zev kJ4_fixAfterDeletion 72 L (v0 :: st) h = if zcat st ≤ 8 then zk kJ4_fixAfterDeletion 72 75 L st (mJ4_leftOf [v0] h) else none) ∧
  (∀ (v0 : ZV) (L st : List ZV) (h : PH), zev kJ4_fixAfterDeletion 75 L (v0 :: st) h = if zcat st ≤ 8 then zk kJ4_fixAfterDeletion 75 78 L st (mJ4_colorOf [v0] h) else none) ∧
  (∀ (L st : List ZV) (h : PH), zev kJ4_fixAfterDeletion 78 L st h = zev kJ4_fixAfterDeletion 79 L (zvi 1 :: st) h) ∧
  (∀ (a b : Int) (L st : List ZV) (h : PH), zev kJ4_fixAfterDeletion 79 L (zvi b :: zvi a :: st) h = if a ≠ b then zev kJ4_fixAfterDeletion 106 L st h else zev kJ4_fixAfterDeletion 82 L st h) ∧
  (∀ (x0 x1 : ZV) (a : Option Nat) (L st : List ZV) (h : PH), zev kJ4_fixAfterDeletion 82 (x0 :: x1 :: zvr a :: L) st h = zev kJ4_fixAfterDeletion 83 (x0 :: x1 :: zvr a :: L) (zvr a :: st) h) ∧
  (∀ (v0 : ZV) (L st : List ZV) (h : PH), zev kJ4_fixAfterDeletion 83 L (v0 :: st) h = if zcat st ≤ 8 then zk kJ4_fixAfterDeletion 83 86 L st (mJ4_rightOf [v0] h) else none) ∧
  (∀ (v0 : ZV) (L st : List ZV) (h : PH), zev kJ4_fixAfterDeletion 86 L (v0 :: st) h = if zcat st ≤ 8 then zk kJ4_fixAfterDeletion 86 89 L st (mJ4_colorOf [v0] h) else none) ∧
  (∀ (L st : List ZV) (h : PH), zev kJ4_fixAfterDeletion 89 L st h = zev kJ4_fixAfterDeletion 90 L (zvi 1 :: st) h) ∧
  (∀ (a b : Int) (L st : List ZV) (h : PH), zev kJ4_fixAfterDeletion 90 L (zvi b :: zvi a :: st) h = if a ≠ b then zev kJ4_fixAfterDeletion 106 L st h else zev kJ4_fixAfterDeletion 93 L st h) ∧
  (∀ (x0 x1 : ZV) (a : Option Nat) (L st : List ZV) (h : PH), zev kJ4_fixAfterDeletion 93 (x0 :: x1 :: zvr a :: L) st h = zev kJ4_fixAfterDeletion 94 (x0 :: x1 :: zvr a :: L) (zvr a :: st) h) ∧
  (∀ (L st : List ZV) (h : PH), zev kJ4_fixAfterDeletion 94 L st h = zev kJ4_fixAfterDeletion 95 L (zvi 0 :: st) h) ∧
  (∀ (v0 v1 : ZV) (L st : List ZV) (h : PH), zev kJ4_fixAfterDeletion 95 L (v1 :: v0 :: st) h = if zcat st ≤ 8 then zk kJ4_fixAfterDeletion 95 98 L st (mJ4_setColor [v0, v1] h) else none) ∧
  (∀ (x0 : ZV) (a : Option Nat) (L st : List ZV) (h : PH), zev kJ4_fixAfterDeletion 98 (x0 :: zvr a :: L) st h = zev kJ4_fixAfterDeletion 99 (x0 :: zvr a :: L) (zvr a :: st) h) ∧
  (∀ (v0 : ZV) (L st : List ZV) (h : PH), zev kJ4_fixAfterDeletion 99 L (v0 :: st) h = if zcat st ≤ 8 then zk kJ4_fixAfterDeletion 99 102 L st (mJ4_parentOf [v0] h) else none) ∧
  (∀ (x0 x1 : ZV) (a : Option Nat) (L st : List ZV) (h : PH) (hx : zisL x0 = false) , zev kJ4_fixAfterDeletion 102 (x0 :: x1 :: L) (zvr a :: st) h = zev kJ4_fixAfterDeletion 103 (x0 :: zvr a :: L) st h) ∧
  (∀ (L st : List ZV) (h : PH), zev kJ4_fixAfterDeletion 103 L st h = zev kJ4_fixAfterDeletion 183 L st h) ∧
  (∀ (x0 x1 : ZV) (a : Option Nat) (L st : List ZV) (h : PH), zev kJ4_fixAfterDeletion 106 (x0 :: x1 :: zvr a :: L) st h = zev kJ4_fixAfterDeletion 107 (x0 :: x1 :: zvr a :: L) (zvr a :: st) h) ∧
  (∀ (v0 : ZV) (L st : List ZV) (h : PH), zev kJ4_fixAfterDeletion 107 L (v0 :: st) h = if zcat st ≤ 8 then zk kJ4_fixAfterDeletion 107 110 L st (mJ4_rightOf [v0] h) else none) ∧
  (∀ (v0 : ZV) (L st : List ZV) (h : PH), zev kJ4_fixAfterDeletion 110 L (v0 :: st) h = if zcat st ≤ 8 then zk kJ4_fixAfterDeletion 110 113 L st (mJ4_colorOf [v0] h) else none) ∧
  (∀ (L st : List ZV) (h : PH), zev kJ4_fixAfterDeletion 113 L st h = zev kJ4_fixAfterDeletion 114 L (zvi 1 :: st) h) ∧
  (∀ (a b : Int) (L st : List ZV) (h : PH), zev kJ4_fixAfterDeletion 114 L (zvi b :: zvi a :: st) h = if a ≠ b then zev kJ4_fixAfterDeletion 143 L st h else zev kJ4_fixAfterDeletion 117 L st h) ∧
  (∀ (x0 x1 : ZV) (a : Option Nat) (L st : List ZV) (h : PH), zev kJ4_fixAfterDeletion 117 (x0 :: x1 :: zvr a :: L) st h = zev kJ4_fixAfterDeletion 118 (x0 :: x1 :: zvr a :: L) (zvr a :: st) h) ∧
  (∀ (v0 : ZV) (L st : List ZV) (h : PH), zev kJ4_fixAfterDeletion 118 L (v0 :: st) h = if zcat st ≤ 8 then zk kJ4_fixAfterDeletion 118 121 L st (mJ4_leftOf [v0] h) else none) ∧
  (∀ (L st : List ZV) (h : PH), zev kJ4_fixAfterDeletion 121 L st h = zev kJ4_fixAfterDeletion 122 L (zvi 1 :: st) h) ∧
  (∀ (v0 v1 : ZV) (L st : List ZV) (h : PH), zev kJ4_fixAfterDeletion 122 L (v1 :: v0 :: st) h = if zcat st ≤ 8 then zk kJ4_fixAfterDeletion 122 125 L st (mJ4_setColor [v0, v1] h) else none) ∧
  (∀ (x0 x1 : ZV) (a : Option Nat) (L st : List ZV) (h : PH), zev kJ4_fixAfterDeletion 125 (x0 :: x1 :: zvr a :: L) st h = zev kJ4_fixAfterDeletion 126 (x0 :: x1 :: zvr a :: L) (zvr a :: st) h) ∧
  (∀ (L st : List ZV) (h : PH), zev kJ4_fixAfterDeletion 126 L st h = zev kJ4_fixAfterDeletion 127 L (zvi 0 :: st) h) ∧
  (∀ (v0 v1 : ZV) (L st : List ZV) (h : PH), zev kJ4_fixAfterDeletion 127 L (v1 :: v0 :: st) h = if zcat st ≤ 8 then zk kJ4_fixAfterDeletion 127 130 L st (mJ4_setColor [v0, v1] h) else none) ∧
  (∀ (a : Option Nat) (L st : List ZV) (h : PH), zev kJ4_fixAfterDeletion 130 (zvr a :: L) st h = zev kJ4_fixAfterDeletion 131 (zvr a :: L) (zvr a :: st) h) ∧
  (∀ (x0 x1 : ZV) (a : Option Nat) (L st : List ZV) (h : PH), zev kJ4_fixAfterDeletion 131 (x0 :: x1 :: zvr a :: L) st h = zev kJ4_fixAfterDeletion 132 (x0 :: x1 :: zvr a :: L) (zvr a :: st) h) ∧
  (∀ (v0 : ZV) (q : Nat) (L st : List ZV) (h : PH), zev kJ4_fixAfterDeletion 132 L (v0 :: zvr (some q) :: st) h = if (ph_K h q).1 % 1000 = 32 ∧ zcat st ≤ 8 then zk kJ4_fixAfterDeletion 132 135 L st (mJ4_rotateRight [zvr (some q), v0] h) else none) ∧
  (∀ (x0 : ZV) (a : Option Nat) (L st : List ZV) (h : PH), zev kJ4_fixAfterDeletion 135 (x0 :: zvr a :: L) st h = zev kJ4_fixAfterDeletion 136 (x0 :: zvr a :: L) (zvr a :: st) h) ∧
  (∀ (v0 : ZV) (L st : List ZV) (h : PH), zev kJ4_fixAfterDeletion 136 L (v0 :: st) h = if zcat st ≤ 8 then zk kJ4_fixAfterDeletion 136 139 L st (mJ4_parentOf [v0] h) else none) ∧
  (∀ (v0 : ZV) (L st : List ZV) (h : PH), zev kJ4_fixAfterDeletion 139 L (v0 :: st) h = if zcat st ≤ 8 then zk kJ4_fixAfterDeletion 139 142 L st (mJ4_rightOf [v0] h) else none) ∧
  (∀ (x0 x1 x2 : ZV) (a : Option Nat) (L st : List ZV) (h : PH) (hx : zisL x1 = false) , zev kJ4_fixAfterDeletion 142 (x0 :: x1 :: x2 :: L) (zvr a :: st) h = zev kJ4_fixAfterDeletion 143 (x0 :: x1 :: zvr a :: L) st h) ∧
  (∀ (x0 x1 : ZV) (a : Option Nat) (L st : List ZV) (h : PH), zev kJ4_fixAfterDeletion 143 (x0 :: x1 :: zvr a :: L) st h = zev kJ4_fixAfterDeletion 144 (x0 :: x1 :: zvr a :: L) (zvr a :: st) h) ∧
  (∀ (x0 : ZV) (a : Option Nat) (L st : List ZV) (h : PH), zev kJ4_fixAfterDeletion 144 (x0 :: zvr a :: L) st h = zev kJ4_fixAfterDeletion 145 (x0 :: zvr a :: L) (zvr a :: st) h) ∧
  (∀ (v0 : ZV) (L st : List ZV) (h : PH), zev kJ4_fixAfterDeletion 145 L (v0 :: st) h = if zcat st ≤ 8 then zk kJ4_fixAfterDeletion 145 148 L st (mJ4_parentOf [v0] h) else none) ∧
  (∀ (v0 : ZV) (L st : List ZV) (h : PH), zev kJ4_fixAfterDeletion 148 L (v0 :: st) h = if zcat st ≤ 8 then zk kJ4_fixAfterDeletion 148 151 L st (mJ4_colorOf [v0] h) else none) ∧
  (∀ (v0 v1 : ZV) (L st : List ZV) (h : PH), zev kJ4_fixAfterDeletion 151 L (v1 :: v0 :: st) h = if zcat st ≤ 8 then zk kJ4_fixAfterDeletion 151 154 L st (mJ4_setColor [v0, v1] h) else none) ∧
  (∀ (x0 : ZV) (a : Option Nat) (L st : List ZV) (h : PH), zev kJ4_fixAfterDeletion 154 (x0 :: zvr a :: L) st h = zev kJ4_fixAfterDeletion 155 (x0 :: zvr a :: L) (zvr a :: st) h) ∧
  (∀ (v0 : ZV) (L st : List ZV) (h : PH), zev kJ4_fixAfterDeletion 155 L (v0 :: st) h = if zcat st ≤ 8 then zk kJ4_fixAfterDeletion 155 158 L st (mJ4_parentOf [v0] h) else none) ∧
  (∀ (L st : List ZV) (h : PH), zev kJ4_fixAfterDeletion 158 L st h = zev kJ4_fixAfterDeletion 159 L (zvi 1 :: st) h) ∧
  (∀ (v0 v1 : ZV) (L st : List ZV) (h : PH), zev kJ4_fixAfterDeletion 159 L (v1 :: v0 :: st) h = if zcat st ≤ 8 then zk kJ4_fixAfterDeletion 159 162 L st (mJ4_setColor [v0, v1] h) else none) ∧
  (∀ (x0 x1 : ZV) (a : Option Nat) (L st : List ZV) (h : PH), zev kJ4_fixAfterDeletion 162 (x0 :: x1 :: zvr a :: L) st h = zev kJ4_fixAfterDeletion 163 (x0 :: x1 :: zvr a :: L) (zvr a :: st) h) ∧
  (∀ (v0 : ZV) (L st : List ZV) (h : PH), zev kJ4_fixAfterDeletion 163 L (v0 :: st) h = if zcat st ≤ 8 then zk kJ4_fixAfterDeletion 163 166 L st (mJ4_rightOf [v0] h) else none) ∧
  (∀ (L st : List ZV) (h : PH), zev kJ4_fixAfterDeletion 166 L st h = zev kJ4_fixAfterDeletion 167 L (zvi 1 :: st) h) ∧
  (∀ (v0 v1 : ZV) (L st : List ZV) (h : PH), zev kJ4_fixAfterDeletion 167 L (v1 :: v0 :: st) h = if zcat st ≤ 8 then zk kJ4_fixAfterDeletion 167 170 L st (mJ4_setColor [v0, v1] h) else none) ∧
  (∀ (a : Option Nat) (L st : List ZV) (h : PH), zev kJ4_fixAfterDeletion 170 (zvr a :: L) st h = zev kJ4_fixAfterDeletion 171 (zvr a :: L) (zvr a :: st) h) ∧
  (∀ (x0 : ZV) (a : Option Nat) (L st : List ZV) (h : PH), zev kJ4_fixAfterDeletion 171 (x0 :: zvr a :: L) st h = zev kJ4_fixAfterDeletion 172 (x0 :: zvr a :: L) (zvr a :: st) h) ∧
  (∀ (v0 : ZV) (L st : List ZV) (h : PH), zev kJ4_fixAfterDeletion 172 L (v0 :: st) h = if zcat st ≤ 8 then zk kJ4_fixAfterDeletion 172 175 L st (mJ4_parentOf [v0] h) else none) ∧
  (∀ (v0 : ZV) (q : Nat) (L st : List ZV) (h : PH), zev kJ4_fixAfterDeletion 175 L (v0 :: zvr (some q) :: st) h = if (ph_K h q).1 % 1000 = 32 ∧ zcat st ≤ 8 then zk kJ4_fixAfterDeletion 175 178 L st (mJ4_rotateLeft [zvr (some q), v0] h) else none) ∧
  (∀ (a : Option Nat) (L st : List ZV) (h : PH), zev kJ4_fixAfterDeletion 178 (zvr a :: L) st h = zev kJ4_fixAfterDeletion 179 (zvr a :: L) (zvr a :: st) h) ∧
  (∀ (q : Nat) (L st : List ZV) (h : PH), zev kJ4_fixAfterDeletion 179 L (zvr (some q) :: st) h = if (ph_K h q).1 % 1000 = 32 then zev kJ4_fixAfterDeletion 182 L (zvr (ph_R h q 3) :: st) h else none) ∧
  (∀ (x0 x1 : ZV) (a : Option Nat) (L st : List ZV) (h : PH) (hx : zisL x0 = false) , zev kJ4_fixAfterDeletion 182 (x0 :: x1 :: L) (zvr a :: st) h = zev kJ4_fixAfterDeletion 183 (x0 :: zvr a :: L) st h) ∧
  (∀ (L st : List ZV) (h : PH), zev kJ4_fixAfterDeletion 183 L st h = zev kJ4_fixAfterDeletion 0 L st h) ∧
  (∀ (x0 : ZV) (a : Option Nat) (L st : List ZV) (h : PH), zev kJ4_fixAfterDeletion 186 (x0 :: zvr a :: L) st h = zev kJ4_fixAfterDeletion 187 (x0 :: zvr a :: L) (zvr a :: st) h) ∧
  (∀ (v0 : ZV) (L st : List ZV) (h : PH), zev kJ4_fixAfterDeletion 187 L (v0 :: st) h = if zcat st ≤ 8 then zk kJ4_fixAfterDeletion 187 190 L st (mJ4_parentOf [v0] h) else none) ∧
  (∀ (v0 : ZV) (L st : List ZV) (h : PH), zev kJ4_fixAfterDeletion 190 L (v0 :: st) h = if zcat st ≤ 8 then zk kJ4_fixAfterDeletion 190 193 L st (mJ4_leftOf [v0] h) else none) ∧
  (∀ (x0 x1 x2 : ZV) (a : Option Nat) (L st : List ZV) (h : PH) (hx : zisL x1 = false) , zev kJ4_fixAfterDeletion 193 (x0 :: x1 :: x2 :: L) (zvr a :: st) h = zev kJ4_fixAfterDeletion 194 (x0 :: x1 :: zvr a :: L) st h) ∧
  (∀ (x0 x1 : ZV) (a : Option Nat) (L st : List ZV) (h : PH), zev kJ4_fixAfterDeletion 194 (x0 :: x1 :: zvr a :: L) st h = zev kJ4_fixAfterDeletion 195 (x0 :: x1 :: zvr a :: L) (zvr a :: st) h) ∧
  (∀ (v0 : ZV) (L st : List ZV) (h : PH), zev kJ4_fixAfterDeletion 195 L (v0 :: st) h = if zcat st ≤ 8 then zk kJ4_fixAfterDeletion 195 198 L st (mJ4_colorOf [v0] h) else none) ∧
  (∀ (a : Int) (L st : List ZV) (h : PH), zev kJ4_fixAfterDeletion 198 L (zvi a :: st) h = if a ≠ 0 then zev kJ4_fixAfterDeletion 230 L st h else zev kJ4_fixAfterDeletion 201 L st h) ∧
  (∀ (x0 x1 : ZV) (a : Option Nat) (L st : List ZV) (h : PH), zev kJ4_fixAfterDeletion 201 (x0 :: x1 :: zvr a :: L) st h = zev kJ4_fixAfterDeletion 202 (x0 :: x1 :: zvr a :: L) (zvr a :: st) h) ∧
  (∀ (L st : List ZV) (h : PH), zev kJ4_fixAfterDeletion 202 L st h = zev kJ4_fixAfterDeletion 203 L (zvi 1 :: st) h) ∧
  (∀ (v0 v1 : ZV) (L st : List ZV) (h : PH), zev kJ4_fixAfterDeletion 203 L (v1 :: v0 :: st) h = if zcat st ≤ 8 then zk kJ4_fixAfterDeletion 203 206 L st (mJ4_setColor [v0, v1] h) else none) ∧
  (∀ (x0 : ZV) (a : Option Nat) (L st : List ZV) (h : PH), zev kJ4_fixAfterDeletion 206 (x0 :: zvr a :: L) st h = zev kJ4_fixAfterDeletion 207 (x0 :: zvr a :: L) (zvr a :: st) h) ∧
  (∀ (v0 : ZV) (L st : List ZV) (h : PH), zev kJ4_fixAfterDeletion 207 L (v0 :: st) h = if zcat st ≤ 8 then zk kJ4_fixAfterDeletion 207 210 L st (mJ4_parentOf [v0] h) else none) ∧
  (∀ (L st : List ZV) (h : PH), zev kJ4_fixAfterDeletion 210 L st h = zev kJ4_fixAfterDeletion 211 L (zvi 0 :: st) h) ∧
  (∀ (v0 v1 : ZV) (L st : List ZV) (h : PH), zev kJ4_fixAfterDeletion 211 L (v1 :: v0 :: st) h = if zcat st ≤ 8 then zk kJ4_fixAfterDeletion 211 214 L st (mJ4_setColor [v0, v1] h) else none) ∧
  (∀ (a : Option Nat) (L st : List ZV) (h : PH), zev kJ4_fixAfterDeletion 214 (zvr a :: L) st h = zev kJ4_fixAfterDeletion 215 (zvr a :: L) (zvr a :: st) h) ∧
  (∀ (x0 : ZV) (a : Option Nat) (L st : List ZV) (h : PH), zev kJ4_fixAfterDeletion 215 (x0 :: zvr a :: L) st h = zev kJ4_fixAfterDeletion 216 (x0 :: zvr a :: L) (zvr a :: st) h) ∧
  (∀ (v0 : ZV) (L st : List ZV) (h : PH), zev kJ4_fixAfterDeletion 216 L (v0 :: st) h = if zcat st ≤ 8 then zk kJ4_fixAfterDeletion 216 219 L st (mJ4_parentOf [v0] h) else none) ∧
  (∀ (v0 : ZV) (q : Nat) (L st : List ZV) (h : PH), zev kJ4_fixAfterDeletion 219 L (v0 :: zvr (some q) :: st) h = if (ph_K h q).1 % 1000 = 32 ∧ zcat st ≤ 8 then zk kJ4_fixAfterDeletion 219 222 L st (mJ4_rotateRight [zvr (some q), v0] h) else none) ∧
  (∀ (x0 : ZV) (a : Option Nat) (L st : List ZV) (h : PH), zev kJ4_fixAfterDeletion 222 (x0 :: zvr a :: L) st h = zev kJ4_fixAfterDeletion 223 (x0 :: zvr a :: L) (zvr a :: st) h) ∧
  (∀ (v0 : ZV) (L st : List ZV) (h : PH), zev kJ4_fixAfterDeletion 223 L (v0 :: st) h = if zcat st ≤ 8 then zk kJ4_fixAfterDeletion 223 226 L st (mJ4_parentOf [v0] h) else none) ∧
  (∀ (v0 : ZV) (L st : List ZV) (h : PH), zev kJ4_fixAfterDeletion 226 L (v0 :: st) h = if zcat st ≤ 8 then zk kJ4_fixAfterDeletion 226 229 L st (mJ4_leftOf [v0] h) else none) ∧
  (∀ (x0 x1 x2 : ZV) (a : Option Nat) (L st : List ZV) (h : PH) (hx : zisL x1 = false) , zev kJ4_fixAfterDeletion 229 (x0 :: x1 :: x2 :: L) (zvr a :: st) h = zev kJ4_fixAfterDeletion 230 (x0 :: x1 :: zvr a :: L) st h) ∧
  (∀ (x0 x1 : ZV) (a : Option Nat) (L st : List ZV) (h : PH), zev kJ4_fixAfterDeletion 230 (x0 :: x1 :: zvr a :: L) st h = zev kJ4_fixAfterDeletion 231 (x0 :: x1 :: zvr a :: L) (zvr a :: st) h) ∧
  (∀ (v0 : ZV) (L st : List ZV) (h : PH), zev kJ4_fixAfterDeletion 231 L (v0 :: st) h = if zcat st ≤ 8 then zk kJ4_fixAfterDeletion 231 234 L st (mJ4_rightOf [v0] h) else none) ∧
  (∀ (v0 : ZV) (L st : List ZV) (h : PH), zev kJ4_fixAfterDeletion 234 L (v0 :: st) h = if zcat st ≤ 8 then zk kJ4_fixAfterDeletion 234 237 L st (mJ4_colorOf [v0] h) else none) ∧
  (∀ (L st : List ZV) (h : PH), zev kJ4_fixAfterDeletion 237 L st h = zev kJ4_fixAfterDeletion 238 L (zvi 1 :: st) h) ∧
  (∀ (a b : Int) (L st : List ZV) (h : PH), zev kJ4_fixAfterDeletion 238 L (zvi b :: zvi a :: st) h = if a ≠ b then zev kJ4_fixAfterDeletion 265 L st h else zev kJ4_fixAfterDeletion 241 L st h) ∧
  (∀ (x0 x1 : ZV) (a : Option Nat) (L st : List ZV) (h : PH), zev kJ4_fixAfterDeletion 241 (x0 :: x1 :: zvr a :: L) st h = zev kJ4_fixAfterDeletion 242 (x0 :: x1 :: zvr a :: L) (zvr a :: st) h) ∧
  (∀ (v0 : ZV) (L st : List ZV) (h : PH), zev kJ4_fixAfterDeletion 242 L (v0 :: st) h = if zcat st ≤ 8 then zk kJ4_fixAfterDeletion 242 245 L st (mJ4_leftOf [v0] h) else none) ∧
  (∀ (v0 : ZV) (L st : List ZV) (h : PH), zev kJ4_fixAfterDeletion 245 L (v0 :: st) h = if zcat st ≤ 8 then zk kJ4_fixAfterDeletion 245 248 L st (mJ4_colorOf [v0] h) else none) ∧
  (∀ (L st : List ZV) (h : PH), zev kJ4_fixAfterDeletion 248 L st h = zev kJ4_fixAfterDeletion 249 L (zvi 1 :: st) h) ∧
  (∀ (a b : Int) (L st : List ZV) (h : PH), zev kJ4_fixAfterDeletion 249 L (zvi b :: zvi a :: st) h = if a ≠ b then zev kJ4_fixAfterDeletion 265 L st h else zev kJ4_fixAfterDeletion 252 L st h) ∧
  (∀ (x0 x1 : ZV) (a : Option Nat) (L st : List ZV) (h : PH), zev kJ4_fixAfterDeletion 252 (x0 :: x1 :: zvr a :: L) st h = zev kJ4_fixAfterDeletion 253 (x0 :: x1 :: zvr a :: L) (zvr a :: st) h) ∧
  (∀ (L st : List ZV) (h : PH), zev kJ4_fixAfterDeletion 253 L st h = zev kJ4_fixAfterDeletion 254 L (zvi 0 :: st) h) ∧
  (∀ (v0 v1 : ZV) (L st : List ZV) (h : PH), zev kJ4_fixAfterDeletion 254 L (v1 :: v0 :: st) h = if zcat st ≤ 8 then zk kJ4_fixAfterDeletion 254 257 L st (mJ4_setColor [v0, v1] h) else none) ∧
  (∀ (x0 : ZV) (a : Option Nat) (L st : List ZV) (h : PH), zev kJ4_fixAfterDeletion 257 (x0 :: zvr a :: L) st h = zev kJ4_fixAfterDeletion 258 (x0 :: zvr a :: L) (zvr a :: st) h) ∧
  (∀ (v0 : ZV) (L st : List ZV) (h : PH), zev kJ4_fixAfterDeletion 258 L (v0 :: st) h = if zcat st ≤ 8 then zk kJ4_fixAfterDeletion 258 261 L st (mJ4_parentOf [v0] h) else none) ∧
  (∀ (x0 x1 : ZV) (a : Option Nat) (L st : List ZV) (h : PH) (hx : zisL x0 = false) , zev kJ4_fixAfterDeletion 261 (x0 :: x1 :: L) (zvr a :: st) h = zev kJ4_fixAfterDeletion 262 (x0 :: zvr a :: L) st h) ∧
  (∀ (L st : List ZV) (h : PH), zev kJ4_fixAfterDeletion 262 L st h = zev kJ4_fixAfterDeletion 342 L st h) ∧
  (∀ (x0 x1 : ZV) (a : Option Nat) (L st : List ZV) (h : PH), zev kJ4_fixAfterDeletion 265 (x0 :: x1 :: zvr a :: L) st h = zev kJ4_fixAfterDeletion 266 (x0 :: x1 :: zvr a :: L) (zvr a :: st) h) ∧
  (∀ (v0 : ZV) (L st : List ZV) (h : PH), zev kJ4_fixAfterDeletion 266 L (v0 :: st) h = if zcat st ≤ 8 then zk kJ4_fixAfterDeletion 266 269 L st (mJ4_leftOf [v0] h) else none) ∧
  (∀ (v0 : ZV) (L st : List ZV) (h : PH), zev kJ4_fixAfterDeletion 269 L (v0 :: st) h = if zcat st ≤ 8 then zk kJ4_fixAfterDeletion 269 272 L st (mJ4_colorOf [v0] h) else none) ∧
  (∀ (L st : List ZV) (h : PH), zev kJ4_fixAfterDeletion 272 L st h = zev kJ4_fixAfterDeletion 273 L (zvi 1 :: st) h) ∧
  (∀ (a b : Int) (L st : List ZV) (h : PH), zev kJ4_fixAfterDeletion 273 L (zvi b :: zvi a :: st) h = if a ≠ b then zev kJ4_fixAfterDeletion 302 L st h else zev kJ4_fixAfterDeletion 276 L st h) ∧
  (∀ (x0 x1 : ZV) (a : Option Nat) (L st : List ZV) (h : PH), zev kJ4_fixAfterDeletion 276 (x0 :: x1 :: zvr a :: L) st h = zev kJ4_fixAfterDeletion 277 (x0 :: x1 :: zvr a :: L) (zvr a :: st) h) ∧
  (∀ (v0 : ZV) (L st : List ZV) (h : PH), zev kJ4_fixAfterDeletion 277 L (v0 :: st) h = if zcat st ≤ 8 then zk kJ4_fixAfterDeletion 277 280 L st (mJ4_rightOf [v0] h) else none) ∧
  (∀ (L st : List ZV) (h : PH), zev kJ4_fixAfterDeletion 280 L st h = zev kJ4_fixAfterDeletion 281 L (zvi 1 :: st) h) ∧
  (∀ (v0 v1 : ZV) (L st : List ZV) (h : PH), zev kJ4_fixAfterDeletion 281 L (v1 :: v0 :: st) h = if zcat st ≤ 8 then zk kJ4_fixAfterDeletion 281 284 L st (mJ4_setColor [v0, v1] h) else none) ∧
  (∀ (x0 x1 : ZV) (a : Option Nat) (L st : List ZV) (h : PH), zev kJ4_fixAfterDeletion 284 (x0 :: x1 :: zvr a :: L) st h = zev kJ4_fixAfterDeletion 285 (x0 :: x1 :: zvr a :: L) (zvr a :: st) h) ∧
  (∀ (L st : List ZV) (h : PH), zev kJ4_fixAfterDeletion 285 L st h = zev kJ4_fixAfterDeletion 286 L (zvi 0 :: st) h) ∧
  (∀ (v0 v1 : ZV) (L st : List ZV) (h : PH), zev kJ4_fixAfterDeletion 286 L (v1 :: v0 :: st) h = if zcat st ≤ 8 then zk kJ4_fixAfterDeletion 286 289 L st (mJ4_setColor [v0, v1] h) else none) ∧
  (∀ (a : Option Nat) (L st : List ZV) (h : PH), zev kJ4_fixAfterDeletion 289 (zvr a :: L) st h = zev kJ4_fixAfterDeletion 290 (zvr a :: L) (zvr a :: st) h) ∧
  (∀ (x0 x1 : ZV) (a : Option Nat) (L st : List ZV) (h : PH), zev kJ4_fixAfterDeletion 290 (x0 :: x1 :: zvr a :: L) st h = zev kJ4_fixAfterDeletion 291 (x0 :: x1 :: zvr a :: L) (zvr a :: st) h) ∧
  (∀ (v0 : ZV) (q : Nat) (L st : List ZV) (h : PH), zev kJ4_fixAfterDeletion 291 L (v0 :: zvr (some q) :: st) h = if (ph_K h q).1 % 1000 = 32 ∧ zcat st ≤ 8 then zk kJ4_fixAfterDeletion 291 294 L st (mJ4_rotateLeft [zvr (some q), v0] h) else none) ∧
  (∀ (x0 : ZV) (a : Option Nat) (L st : List ZV) (h : PH), zev kJ4_fixAfterDeletion 294 (x0 :: zvr a :: L) st h = zev kJ4_fixAfterDeletion 295 (x0 :: zvr a :: L) (zvr a :: st) h) ∧
  (∀ (v0 : ZV) (L st : List ZV) (h : PH), zev kJ4_fixAfterDeletion 295 L (v0 :: st) h = if zcat st ≤ 8 then zk kJ4_fixAfterDeletion 295 298 L st (mJ4_parentOf [v0] h) else none) ∧
  (∀ (v0 : ZV) (L st : List ZV) (h : PH), zev kJ4_fixAfterDeletion 298 L (v0 :: st) h = if zcat st ≤ 8 then zk kJ4_fixAfterDeletion 298 301 L st (mJ4_leftOf [v0] h) else none) ∧
  (∀ (x0 x1 x2 : ZV) (a : Option Nat) (L st : List ZV) (h : PH) (hx : zisL x1 = false) , zev kJ4_fixAfterDeletion 301 (x0 :: x1 :: x2 :: L) (zvr a :: st) h = zev kJ4_fixAfterDeletion 302 (x0 :: x1 :: zvr a :: L) st h) ∧
  (∀ (x0 x1 : ZV) (a : Option Nat) (L st : List ZV) (h : PH), zev kJ4_fixAfterDeletion 302 (x0 :: x1 :: zvr a :: L) st h = zev kJ4_fixAfterDeletion 303 (x0 :: x1 :: zvr a :: L) (zvr a :: st) h) ∧
  (∀ (x0 : ZV) (a : Option Nat) (L st : List ZV) (h : PH), zev kJ4_fixAfterDeletion 303 (x0 :: zvr a :: L) st h = zev kJ4_fixAfterDeletion 304 (x0 :: zvr a :: L) (zvr a :: st) h) ∧
  (∀ (v0 : ZV) (L st : List ZV) (h : PH), zev kJ4_fixAfterDeletion 304 L (v0 :: st) h = if zcat st ≤ 8 then zk kJ4_fixAfterDeletion 304 307 L st (mJ4_parentOf [v0] h) else none) ∧
  (∀ (v0 : ZV) (L st : List ZV) (h : PH), zev kJ4_fixAfterDeletion 307 L (v0 :: st) h = if zcat st ≤ 8 then zk kJ4_fixAfterDeletion 307 310 L st (mJ4_colorOf [v0] h) else none) ∧
  (∀ (v0 v1 : ZV) (L st : List ZV) (h : PH), zev kJ4_fixAfterDeletion 310 L (v1 :: v0 :: st) h = if zcat st ≤ 8 then zk kJ4_fixAfterDeletion 310 313 L st (mJ4_setColor [v0, v1] h) else none) ∧
  (∀ (x0 : ZV) (a : Option Nat) (L st : List ZV) (h : PH), zev kJ4_fixAfterDeletion 313 (x0 :: zvr a :: L) st h = zev kJ4_fixAfterDeletion 314 (x0 :: zvr a :: L) (zvr a :: st) h) ∧
  (∀ (v0 : ZV) (L st : List ZV) (h : PH), zev kJ4_fixAfterDeletion 314 L (v0 :: st) h = if zcat st ≤ 8 then zk kJ4_fixAfterDeletion 314 317 L st (mJ4_parentOf [v0] h) else none) ∧
  (∀ (L st : List ZV) (h : PH), zev kJ4_fixAfterDeletion 317 L st h = zev kJ4_fixAfterDeletion 318 L (zvi 1 :: st) h) ∧
  (∀ (v0 v1 : ZV) (L st : List ZV) (h : PH), zev kJ4_fixAfterDeletion 318 L (v1 :: v0 :: st) h = if zcat st ≤ 8 then zk kJ4_fixAfterDeletion 318 321 L st (mJ4_setColor [v0, v1] h) else none) ∧
  (∀ (x0 x1 : ZV) (a : Option Nat) (L st : List ZV) (h : PH), zev kJ4_fixAfterDeletion 321 (x0 :: x1 :: zvr a :: L) st h = zev kJ4_fixAfterDeletion 322 (x0 :: x1 :: zvr a :: L) (zvr a :: st) h) ∧
  (∀ (v0 : ZV) (L st : List ZV) (h : PH), zev kJ4_fixAfterDeletion 322 L (v0 :: st) h = if zcat st ≤ 8 then zk kJ4_fixAfterDeletion 322 325 L st (mJ4_leftOf [v0] h) else none) ∧
  (∀ (L st : List ZV) (h : PH), zev kJ4_fixAfterDeletion 325 L st h = zev kJ4_fixAfterDeletion 326 L (zvi 1 :: st) h) ∧
  (∀ (v0 v1 : ZV) (L st : List ZV) (h : PH), zev kJ4_fixAfterDeletion 326 L (v1 :: v0 :: st) h = if zcat st ≤ 8 then zk kJ4_fixAfterDeletion 326 329 L st (mJ4_setColor [v0, v1] h) else none) ∧
  (∀ (a : Option Nat) (L st : List ZV) (h : PH), zev kJ4_fixAfterDeletion 329 (zvr a :: L) st h = zev kJ4_fixAfterDeletion 330 (zvr a :: L) (zvr a :: st) h) ∧
  (∀ (x0 : ZV) (a : Option Nat) (L st : List ZV) (h : PH), zev kJ4_fixAfterDeletion 330 (x0 :: zvr a :: L) st h = zev kJ4_fixAfterDeletion 331 (x0 :: zvr a :: L) (zvr a :: st) h) ∧
  (∀ (v0 : ZV) (L st : List ZV) (h : PH), zev kJ4_fixAfterDeletion 331 L (v0 :: st) h = if zcat st ≤ 8 then zk kJ4_fixAfterDeletion 331 334 L st (mJ4_parentOf [v0] h) else none) ∧
  (∀ (v0 : ZV) (q : Nat) (L st : List ZV) (h : PH), zev kJ4_fixAfterDeletion 334 L (v0 :: zvr (some q) :: st) h = if (ph_K h q).1 % 1000 = 32 ∧ zcat st ≤ 8 then zk kJ4_fixAfterDeletion 334 337 L st (mJ4_rotateRight [zvr (some q), v0] h) else none) ∧
  (∀ (a : Option Nat) (L st : List ZV) (h : PH), zev kJ4_fixAfterDeletion 337 (zvr a :: L) st h = zev kJ4_fixAfterDeletion 338 (zvr a :: L) (zvr a :: st) h) ∧
  (∀ (q : Nat) (L st : List ZV) (h : PH), zev kJ4_fixAfterDeletion 338 L (zvr (some q) :: st) h = if (ph_K h q).1 % 1000 = 32 then zev kJ4_fixAfterDeletion 341 L (zvr (ph_R h q 3) :: st) h else none) ∧
  (∀ (x0 x1 : ZV) (a : Option Nat) (L st : List ZV) (h : PH) (hx : zisL x0 = false) , zev kJ4_fixAfterDeletion 341 (x0 :: x1 :: L) (zvr a :: st) h = zev kJ4_fixAfterDeletion 342 (x0 :: zvr a :: L) st h) ∧
  (∀ (L st : List ZV) (h : PH), zev kJ4_fixAfterDeletion 342 L st h = zev kJ4_fixAfterDeletion 0 L st h) ∧
  (∀ (x0 : ZV) (a : Option Nat) (L st : List ZV) (h : PH), zev kJ4_fixAfterDeletion 345 (x0 :: zvr a :: L) st h = zev kJ4_fixAfterDeletion 346 (x0 :: zvr a :: L) (zvr a :: st) h) ∧
  (∀ (L st : List ZV) (h : PH), zev kJ4_fixAfterDeletion 346 L st h = zev kJ4_fixAfterDeletion 347 L (zvi 1 :: st) h) ∧
  (∀ (v0 v1 : ZV) (L st : List ZV) (h : PH), zev kJ4_fixAfterDeletion 347 L (v1 :: v0 :: st) h = if zcat st ≤ 8 then zk kJ4_fixAfterDeletion 347 350 L st (mJ4_setColor [v0, v1] h) else none) ∧
  (∀ (L : List ZV) (h : PH), zev kJ4_fixAfterDeletion 350 L [] h = zr0 h) :=
  ⟨fun a L st h => e_ld0R (n := 2) rfl,
  fun q L st h => e_getR (kd := 32) (k := 3) (n := 5) rfl,
  fun a b L st h => e_acmp (t := 345) (n := 8) rfl,
  fun x0 a L st h => e_ld1R (n := 9) rfl,
  fun v0 L st h => e_callS1 (F := mJ4_colorOf) (n := 12) rfl,
  fun L st h => e_push (v := zvi 1) (n := 13) rfl,
  fun a b L st h => e_cmpne (t := 345) (n := 16) rfl,
  fun x0 a L st h => e_ld1R (n := 17) rfl,
  fun x0 a L st h => e_ld1R (n := 18) rfl,
  fun v0 L st h => e_callS1 (F := mJ4_parentOf) (n := 21) rfl,
  fun v0 L st h => e_callS1 (F := mJ4_leftOf) (n := 24) rfl,
  fun a b L st h => e_acmp (t := 27) (n := 186) rfl,
  fun x0 a L st h => e_ld1R (n := 28) rfl,
  fun v0 L st h => e_callS1 (F := mJ4_parentOf) (n := 31) rfl,
  fun v0 L st h => e_callS1 (F := mJ4_rightOf) (n := 34) rfl,
  fun x0 x1 x2 a L st h hx => e_st2R (n := 35) rfl hx,
  fun x0 x1 a L st h => e_ld2R (n := 36) rfl,
  fun v0 L st h => e_callS1 (F := mJ4_colorOf) (n := 39) rfl,
  fun a L st h => e_ifne (t := 71) (n := 42) rfl,
  fun x0 x1 a L st h => e_ld2R (n := 43) rfl,
  fun L st h => e_push (v := zvi 1) (n := 44) rfl,
  fun v0 v1 L st h => e_callS2 (F := mJ4_setColor) (n := 47) rfl,
  fun x0 a L st h => e_ld1R (n := 48) rfl,
  fun v0 L st h => e_callS1 (F := mJ4_parentOf) (n := 51) rfl,
  fun L st h => e_push (v := zvi 0) (n := 52) rfl,
  fun v0 v1 L st h => e_callS2 (F := mJ4_setColor) (n := 55) rfl,
  fun a L st h => e_ld0R (n := 56) rfl,
  fun x0 a L st h => e_ld1R (n := 57) rfl,
  fun v0 L st h => e_callS1 (F := mJ4_parentOf) (n := 60) rfl,
  fun v0 q L st h => e_callV2 (F := mJ4_rotateLeft) (kd := 32) (n := 63) rfl,
  fun x0 a L st h => e_ld1R (n := 64) rfl,
  fun v0 L st h => e_callS1 (F := mJ4_parentOf) (n := 67) rfl,
  fun v0 L st h => e_callS1 (F := mJ4_rightOf) (n := 70) rfl,
  fun x0 x1 x2 a L st h hx => e_st2R (n := 71) rfl hx,
  fun x0 x1 a L st h => e_ld2R (n := 72) rfl,
  fun v0 L st h => e_callS1 (F := mJ4_leftOf) (n := 75) rfl,
  fun v0 L st h => e_callS1 (F := mJ4_colorOf) (n := 78) rfl,
  fun L st h => e_push (v := zvi 1) (n := 79) rfl,
  fun a b L st h => e_cmpne (t := 106) (n := 82) rfl,
  fun x0 x1 a L st h => e_ld2R (n := 83) rfl,
  fun v0 L st h => e_callS1 (F := mJ4_rightOf) (n := 86) rfl,
  fun v0 L st h => e_callS1 (F := mJ4_colorOf) (n := 89) rfl,
  fun L st h => e_push (v := zvi 1) (n := 90) rfl,
  fun a b L st h => e_cmpne (t := 106) (n := 93) rfl,
  fun x0 x1 a L st h => e_ld2R (n := 94) rfl,
  fun L st h => e_push (v := zvi 0) (n := 95) rfl,
  fun v0 v1 L st h => e_callS2 (F := mJ4_setColor) (n := 98) rfl,
  fun x0 a L st h => e_ld1R (n := 99) rfl,
  fun v0 L st h => e_callS1 (F := mJ4_parentOf) (n := 102) rfl,
  fun x0 x1 a L st h hx => e_st1R (n := 103) rfl hx,
  fun L st h => e_goto (t := 183) rfl,
  fun x0 x1 a L st h => e_ld2R (n := 107) rfl,
  fun v0 L st h => e_callS1 (F := mJ4_rightOf) (n := 110) rfl,
  fun v0 L st h => e_callS1 (F := mJ4_colorOf) (n := 113) rfl,
  fun L st h => e_push (v := zvi 1) (n := 114) rfl,
  fun a b L st h => e_cmpne (t := 143) (n := 117) rfl,
  fun x0 x1 a L st h => e_ld2R (n := 118) rfl,
  fun v0 L st h => e_callS1 (F := mJ4_leftOf) (n := 121) rfl,
  fun L st h => e_push (v := zvi 1) (n := 122) rfl,
  fun v0 v1 L st h => e_callS2 (F := mJ4_setColor) (n := 125) rfl,
  fun x0 x1 a L st h => e_ld2R (n := 126) rfl,
  fun L st h => e_push (v := zvi 0) (n := 127) rfl,
  fun v0 v1 L st h => e_callS2 (F := mJ4_setColor) (n := 130) rfl,
  fun a L st h => e_ld0R (n := 131) rfl,
  fun x0 x1 a L st h => e_ld2R (n := 132) rfl,
  fun v0 q L st h => e_callV2 (F := mJ4_rotateRight) (kd := 32) (n := 135) rfl,
  fun x0 a L st h => e_ld1R (n := 136) rfl,
  fun v0 L st h => e_callS1 (F := mJ4_parentOf) (n := 139) rfl,
  fun v0 L st h => e_callS1 (F := mJ4_rightOf) (n := 142) rfl,
  fun x0 x1 x2 a L st h hx => e_st2R (n := 143) rfl hx,
  fun x0 x1 a L st h => e_ld2R (n := 144) rfl,
  fun x0 a L st h => e_ld1R (n := 145) rfl,
  fun v0 L st h => e_callS1 (F := mJ4_parentOf) (n := 148) rfl,
  fun v0 L st h => e_callS1 (F := mJ4_colorOf) (n := 151) rfl,
  fun v0 v1 L st h => e_callS2 (F := mJ4_setColor) (n := 154) rfl,
  fun x0 a L st h => e_ld1R (n := 155) rfl,
  fun v0 L st h => e_callS1 (F := mJ4_parentOf) (n := 158) rfl,
  fun L st h => e_push (v := zvi 1) (n := 159) rfl,
  fun v0 v1 L st h => e_callS2 (F := mJ4_setColor) (n := 162) rfl,
  fun x0 x1 a L st h => e_ld2R (n := 163) rfl,
  fun v0 L st h => e_callS1 (F := mJ4_rightOf) (n := 166) rfl,
  fun L st h => e_push (v := zvi 1) (n := 167) rfl,
  fun v0 v1 L st h => e_callS2 (F := mJ4_setColor) (n := 170) rfl,
  fun a L st h => e_ld0R (n := 171) rfl,
  fun x0 a L st h => e_ld1R (n := 172) rfl,
  fun v0 L st h => e_callS1 (F := mJ4_parentOf) (n := 175) rfl,
  fun v0 q L st h => e_callV2 (F := mJ4_rotateLeft) (kd := 32) (n := 178) rfl,
  fun a L st h => e_ld0R (n := 179) rfl,
  fun q L st h => e_getR (kd := 32) (k := 3) (n := 182) rfl,
  fun x0 x1 a L st h hx => e_st1R (n := 183) rfl hx,
  fun L st h => e_goto (t := 0) rfl,
  fun x0 a L st h => e_ld1R (n := 187) rfl,
  fun v0 L st h => e_callS1 (F := mJ4_parentOf) (n := 190) rfl,
  fun v0 L st h => e_callS1 (F := mJ4_leftOf) (n := 193) rfl,
  fun x0 x1 x2 a L st h hx => e_st2R (n := 194) rfl hx,
  fun x0 x1 a L st h => e_ld2R (n := 195) rfl,
  fun v0 L st h => e_callS1 (F := mJ4_colorOf) (n := 198) rfl,
  fun a L st h => e_ifne (t := 230) (n := 201) rfl,
  fun x0 x1 a L st h => e_ld2R (n := 202) rfl,
  fun L st h => e_push (v := zvi 1) (n := 203) rfl,
  fun v0 v1 L st h => e_callS2 (F := mJ4_setColor) (n := 206) rfl,
  fun x0 a L st h => e_ld1R (n := 207) rfl,
  fun v0 L st h => e_callS1 (F := mJ4_parentOf) (n := 210) rfl,
  fun L st h => e_push (v := zvi 0) (n := 211) rfl,
  fun v0 v1 L st h => e_callS2 (F := mJ4_setColor) (n := 214) rfl,
  fun a L st h => e_ld0R (n := 215) rfl,
  fun x0 a L st h => e_ld1R (n := 216) rfl,
  fun v0 L st h => e_callS1 (F := mJ4_parentOf) (n := 219) rfl,
  fun v0 q L st h => e_callV2 (F := mJ4_rotateRight) (kd := 32) (n := 222) rfl,
  fun x0 a L st h => e_ld1R (n := 223) rfl,
  fun v0 L st h => e_callS1 (F := mJ4_parentOf) (n := 226) rfl,
  fun v0 L st h => e_callS1 (F := mJ4_leftOf) (n := 229) rfl,
  fun x0 x1 x2 a L st h hx => e_st2R (n := 230) rfl hx,
  fun x0 x1 a L st h => e_ld2R (n := 231) rfl,
  fun v0 L st h => e_callS1 (F := mJ4_rightOf) (n := 234) rfl,
  fun v0 L st h => e_callS1 (F := mJ4_colorOf) (n := 237) rfl,
  fun L st h => e_push (v := zvi 1) (n := 238) rfl,
  fun a b L st h => e_cmpne (t := 265) (n := 241) rfl,
  fun x0 x1 a L st h => e_ld2R (n := 242) rfl,
  fun v0 L st h => e_callS1 (F := mJ4_leftOf) (n := 245) rfl,
  fun v0 L st h => e_callS1 (F := mJ4_colorOf) (n := 248) rfl,
  fun L st h => e_push (v := zvi 1) (n := 249) rfl,
  fun a b L st h => e_cmpne (t := 265) (n := 252) rfl,
  fun x0 x1 a L st h => e_ld2R (n := 253) rfl,
  fun L st h => e_push (v := zvi 0) (n := 254) rfl,
  fun v0 v1 L st h => e_callS2 (F := mJ4_setColor) (n := 257) rfl,
  fun x0 a L st h => e_ld1R (n := 258) rfl,
  fun v0 L st h => e_callS1 (F := mJ4_parentOf) (n := 261) rfl,
  fun x0 x1 a L st h hx => e_st1R (n := 262) rfl hx,
  fun L st h => e_goto (t := 342) rfl,
  fun x0 x1 a L st h => e_ld2R (n := 266) rfl,
  fun v0 L st h => e_callS1 (F := mJ4_leftOf) (n := 269) rfl,
  fun v0 L st h => e_callS1 (F := mJ4_colorOf) (n := 272) rfl,
  fun L st h => e_push (v := zvi 1) (n := 273) rfl,
  fun a b L st h => e_cmpne (t := 302) (n := 276) rfl,
  fun x0 x1 a L st h => e_ld2R (n := 277) rfl,
  fun v0 L st h => e_callS1 (F := mJ4_rightOf) (n := 280) rfl,
  fun L st h => e_push (v := zvi 1) (n := 281) rfl,
  fun v0 v1 L st h => e_callS2 (F := mJ4_setColor) (n := 284) rfl,
  fun x0 x1 a L st h => e_ld2R (n := 285) rfl,
  fun L st h => e_push (v := zvi 0) (n := 286) rfl,
  fun v0 v1 L st h => e_callS2 (F := mJ4_setColor) (n := 289) rfl,
  fun a L st h => e_ld0R (n := 290) rfl,
  fun x0 x1 a L st h => e_ld2R (n := 291) rfl,
  fun v0 q L st h => e_callV2 (F := mJ4_rotateLeft) (kd := 32) (n := 294) rfl,
  fun x0 a L st h => e_ld1R (n := 295) rfl,
  fun v0 L st h => e_callS1 (F := mJ4_parentOf) (n := 298) rfl,
  fun v0 L st h => e_callS1 (F := mJ4_leftOf) (n := 301) rfl,
  fun x0 x1 x2 a L st h hx => e_st2R (n := 302) rfl hx,
  fun x0 x1 a L st h => e_ld2R (n := 303) rfl,
  fun x0 a L st h => e_ld1R (n := 304) rfl,
  fun v0 L st h => e_callS1 (F := mJ4_parentOf) (n := 307) rfl,
  fun v0 L st h => e_callS1 (F := mJ4_colorOf) (n := 310) rfl,
  fun v0 v1 L st h => e_callS2 (F := mJ4_setColor) (n := 313) rfl,
  fun x0 a L st h => e_ld1R (n := 314) rfl,
  fun v0 L st h => e_callS1 (F := mJ4_parentOf) (n := 317) rfl,
  fun L st h => e_push (v := zvi 1) (n := 318) rfl,
  fun v0 v1 L st h => e_callS2 (F := mJ4_setColor) (n := 321) rfl,
  fun x0 x1 a L st h => e_ld2R (n := 322) rfl,
  fun v0 L st h => e_callS1 (F := mJ4_leftOf) (n := 325) rfl,
  fun L st h => e_push (v := zvi 1) (n := 326) rfl,
  fun v0 v1 L st h => e_callS2 (F := mJ4_setColor) (n := 329) rfl,
  fun a L st h => e_ld0R (n := 330) rfl,
  fun x0 a L st h => e_ld1R (n := 331) rfl,
  fun v0 L st h => e_callS1 (F := mJ4_parentOf) (n := 334) rfl,
  fun v0 q L st h => e_callV2 (F := mJ4_rotateRight) (kd := 32) (n := 337) rfl,
  fun a L st h => e_ld0R (n := 338) rfl,
  fun q L st h => e_getR (kd := 32) (k := 3) (n := 341) rfl,
  fun x0 x1 a L st h hx => e_st1R (n := 342) rfl hx,
  fun L st h => e_goto (t := 0) rfl,
  fun x0 a L st h => e_ld1R (n := 346) rfl,
  fun L st h => e_push (v := zvi 1) (n := 347) rfl,
  fun v0 v1 L st h => e_callS2 (F := mJ4_setColor) (n := 350) rfl,
  fun L h => e_ret rfl⟩
theorem allJ4_fixAfterDeletion : zall yJ4_fixAfterDeletion cJ4_fixAfterDeletion 3 none 2 kJ4_fixAfterDeletion.1 :=
  ⟨k_aload_n dJ4_fixAfterDeletion_0,
  k_aload_n dJ4_fixAfterDeletion_1,
  k_getR (C := RJ4) (T := TJ4) (N := 9) (ci := 16) (k := 3) (ref := "java/util/TreeMap") dJ4_fixAfterDeletion_2 rfl in_J4 (by decide) q202 (Or.inl rfl) (fun _ _ _ => rfl),
  k_acmpeq (t := 345) dJ4_fixAfterDeletion_5 (by decide),
  k_aload_n dJ4_fixAfterDeletion_8,
  k_callS (y2 := yJ4_colorOf) dJ4_fixAfterDeletion_9 sndJ4_colorOf q1197 q1198 q134 q1199 (by decide +kernel) ⟨by decide, by decide⟩ (by decide) (by decide),
  k_iconst dJ4_fixAfterDeletion_12,
  k_cmpne (t := 345) dJ4_fixAfterDeletion_13 (by decide),
  k_aload_n dJ4_fixAfterDeletion_16,
  k_aload_n dJ4_fixAfterDeletion_17,
  k_callS (y2 := yJ4_parentOf) dJ4_fixAfterDeletion_18 sndJ4_parentOf q1188 q1189 q134 q1190 (by decide +kernel) ⟨by decide, by decide⟩ (by decide) (by decide),
  k_callS (y2 := yJ4_leftOf) dJ4_fixAfterDeletion_21 sndJ4_leftOf q1191 q1192 q134 q1193 (by decide +kernel) ⟨by decide, by decide⟩ (by decide) (by decide),
  k_acmpne (t := 186) dJ4_fixAfterDeletion_24 (by decide),
  k_aload_n dJ4_fixAfterDeletion_27,
  k_callS (y2 := yJ4_parentOf) dJ4_fixAfterDeletion_28 sndJ4_parentOf q1188 q1189 q134 q1190 (by decide +kernel) ⟨by decide, by decide⟩ (by decide) (by decide),
  k_callS (y2 := yJ4_rightOf) dJ4_fixAfterDeletion_31 sndJ4_rightOf q1194 q1195 q134 q1196 (by decide +kernel) ⟨by decide, by decide⟩ (by decide) (by decide),
  k_astore_n dJ4_fixAfterDeletion_34,
  k_aload_n dJ4_fixAfterDeletion_35,
  k_callS (y2 := yJ4_colorOf) dJ4_fixAfterDeletion_36 sndJ4_colorOf q1197 q1198 q134 q1199 (by decide +kernel) ⟨by decide, by decide⟩ (by decide) (by decide),
  k_ifne (t := 71) dJ4_fixAfterDeletion_39 (by decide),
  k_aload_n dJ4_fixAfterDeletion_42,
  k_iconst dJ4_fixAfterDeletion_43,
  k_callS (y2 := yJ4_setColor) dJ4_fixAfterDeletion_44 sndJ4_setColor q1200 q1201 q134 q1202 (by decide +kernel) ⟨by decide, by decide⟩ (by decide) (by decide),
  k_aload_n dJ4_fixAfterDeletion_47,
  k_callS (y2 := yJ4_parentOf) dJ4_fixAfterDeletion_48 sndJ4_parentOf q1188 q1189 q134 q1190 (by decide +kernel) ⟨by decide, by decide⟩ (by decide) (by decide),
  k_iconst dJ4_fixAfterDeletion_51,
  k_callS (y2 := yJ4_setColor) dJ4_fixAfterDeletion_52 sndJ4_setColor q1200 q1201 q134 q1202 (by decide +kernel) ⟨by decide, by decide⟩ (by decide) (by decide),
  k_aload_n dJ4_fixAfterDeletion_55,
  k_aload_n dJ4_fixAfterDeletion_56,
  k_callS (y2 := yJ4_parentOf) dJ4_fixAfterDeletion_57 sndJ4_parentOf q1188 q1189 q134 q1190 (by decide +kernel) ⟨by decide, by decide⟩ (by decide) (by decide),
  k_callV (y2 := yJ4_rotateLeft) (C := RJ4) (T0 := TJ4) (ci := 16) dJ4_fixAfterDeletion_60 sndJ4_rotateLeft rfl q1203 q1205 qs30 q134 q1206 (by decide +kernel) ⟨by decide, by decide⟩ (by decide) (by decide),
  k_aload_n dJ4_fixAfterDeletion_63,
  k_callS (y2 := yJ4_parentOf) dJ4_fixAfterDeletion_64 sndJ4_parentOf q1188 q1189 q134 q1190 (by decide +kernel) ⟨by decide, by decide⟩ (by decide) (by decide),
  k_callS (y2 := yJ4_rightOf) dJ4_fixAfterDeletion_67 sndJ4_rightOf q1194 q1195 q134 q1196 (by decide +kernel) ⟨by decide, by decide⟩ (by decide) (by decide),
  k_astore_n dJ4_fixAfterDeletion_70,
  k_aload_n dJ4_fixAfterDeletion_71,
  k_callS (y2 := yJ4_leftOf) dJ4_fixAfterDeletion_72 sndJ4_leftOf q1191 q1192 q134 q1193 (by decide +kernel) ⟨by decide, by decide⟩ (by decide) (by decide),
  k_callS (y2 := yJ4_colorOf) dJ4_fixAfterDeletion_75 sndJ4_colorOf q1197 q1198 q134 q1199 (by decide +kernel) ⟨by decide, by decide⟩ (by decide) (by decide),
  k_iconst dJ4_fixAfterDeletion_78,
  k_cmpne (t := 106) dJ4_fixAfterDeletion_79 (by decide),
  k_aload_n dJ4_fixAfterDeletion_82,
  k_callS (y2 := yJ4_rightOf) dJ4_fixAfterDeletion_83 sndJ4_rightOf q1194 q1195 q134 q1196 (by decide +kernel) ⟨by decide, by decide⟩ (by decide) (by decide),
  k_callS (y2 := yJ4_colorOf) dJ4_fixAfterDeletion_86 sndJ4_colorOf q1197 q1198 q134 q1199 (by decide +kernel) ⟨by decide, by decide⟩ (by decide) (by decide),
  k_iconst dJ4_fixAfterDeletion_89,
  k_cmpne (t := 106) dJ4_fixAfterDeletion_90 (by decide),
  k_aload_n dJ4_fixAfterDeletion_93,
  k_iconst dJ4_fixAfterDeletion_94,
  k_callS (y2 := yJ4_setColor) dJ4_fixAfterDeletion_95 sndJ4_setColor q1200 q1201 q134 q1202 (by decide +kernel) ⟨by decide, by decide⟩ (by decide) (by decide),
  k_aload_n dJ4_fixAfterDeletion_98,
  k_callS (y2 := yJ4_parentOf) dJ4_fixAfterDeletion_99 sndJ4_parentOf q1188 q1189 q134 q1190 (by decide +kernel) ⟨by decide, by decide⟩ (by decide) (by decide),
  k_astore_n dJ4_fixAfterDeletion_102,
  k_goto (t := 183) dJ4_fixAfterDeletion_103 (by decide),
  k_aload_n dJ4_fixAfterDeletion_106,
  k_callS (y2 := yJ4_rightOf) dJ4_fixAfterDeletion_107 sndJ4_rightOf q1194 q1195 q134 q1196 (by decide +kernel) ⟨by decide, by decide⟩ (by decide) (by decide),
  k_callS (y2 := yJ4_colorOf) dJ4_fixAfterDeletion_110 sndJ4_colorOf q1197 q1198 q134 q1199 (by decide +kernel) ⟨by decide, by decide⟩ (by decide) (by decide),
  k_iconst dJ4_fixAfterDeletion_113,
  k_cmpne (t := 143) dJ4_fixAfterDeletion_114 (by decide),
  k_aload_n dJ4_fixAfterDeletion_117,
  k_callS (y2 := yJ4_leftOf) dJ4_fixAfterDeletion_118 sndJ4_leftOf q1191 q1192 q134 q1193 (by decide +kernel) ⟨by decide, by decide⟩ (by decide) (by decide),
  k_iconst dJ4_fixAfterDeletion_121,
  k_callS (y2 := yJ4_setColor) dJ4_fixAfterDeletion_122 sndJ4_setColor q1200 q1201 q134 q1202 (by decide +kernel) ⟨by decide, by decide⟩ (by decide) (by decide),
  k_aload_n dJ4_fixAfterDeletion_125,
  k_iconst dJ4_fixAfterDeletion_126,
  k_callS (y2 := yJ4_setColor) dJ4_fixAfterDeletion_127 sndJ4_setColor q1200 q1201 q134 q1202 (by decide +kernel) ⟨by decide, by decide⟩ (by decide) (by decide),
  k_aload_n dJ4_fixAfterDeletion_130,
  k_aload_n dJ4_fixAfterDeletion_131,
  k_callV (y2 := yJ4_rotateRight) (C := RJ4) (T0 := TJ4) (ci := 16) dJ4_fixAfterDeletion_132 sndJ4_rotateRight rfl q1207 q1209 qs31 q134 q1210 (by decide +kernel) ⟨by decide, by decide⟩ (by decide) (by decide),
  k_aload_n dJ4_fixAfterDeletion_135,
  k_callS (y2 := yJ4_parentOf) dJ4_fixAfterDeletion_136 sndJ4_parentOf q1188 q1189 q134 q1190 (by decide +kernel) ⟨by decide, by decide⟩ (by decide) (by decide),
  k_callS (y2 := yJ4_rightOf) dJ4_fixAfterDeletion_139 sndJ4_rightOf q1194 q1195 q134 q1196 (by decide +kernel) ⟨by decide, by decide⟩ (by decide) (by decide),
  k_astore_n dJ4_fixAfterDeletion_142,
  k_aload_n dJ4_fixAfterDeletion_143,
  k_aload_n dJ4_fixAfterDeletion_144,
  k_callS (y2 := yJ4_parentOf) dJ4_fixAfterDeletion_145 sndJ4_parentOf q1188 q1189 q134 q1190 (by decide +kernel) ⟨by decide, by decide⟩ (by decide) (by decide),
  k_callS (y2 := yJ4_colorOf) dJ4_fixAfterDeletion_148 sndJ4_colorOf q1197 q1198 q134 q1199 (by decide +kernel) ⟨by decide, by decide⟩ (by decide) (by decide),
  k_callS (y2 := yJ4_setColor) dJ4_fixAfterDeletion_151 sndJ4_setColor q1200 q1201 q134 q1202 (by decide +kernel) ⟨by decide, by decide⟩ (by decide) (by decide),
  k_aload_n dJ4_fixAfterDeletion_154,
  k_callS (y2 := yJ4_parentOf) dJ4_fixAfterDeletion_155 sndJ4_parentOf q1188 q1189 q134 q1190 (by decide +kernel) ⟨by decide, by decide⟩ (by decide) (by decide),
  k_iconst dJ4_fixAfterDeletion_158,
  k_callS (y2 := yJ4_setColor) dJ4_fixAfterDeletion_159 sndJ4_setColor q1200 q1201 q134 q1202 (by decide +kernel) ⟨by decide, by decide⟩ (by decide) (by decide),
  k_aload_n dJ4_fixAfterDeletion_162,
  k_callS (y2 := yJ4_rightOf) dJ4_fixAfterDeletion_163 sndJ4_rightOf q1194 q1195 q134 q1196 (by decide +kernel) ⟨by decide, by decide⟩ (by decide) (by decide),
  k_iconst dJ4_fixAfterDeletion_166,
  k_callS (y2 := yJ4_setColor) dJ4_fixAfterDeletion_167 sndJ4_setColor q1200 q1201 q134 q1202 (by decide +kernel) ⟨by decide, by decide⟩ (by decide) (by decide),
  k_aload_n dJ4_fixAfterDeletion_170,
  k_aload_n dJ4_fixAfterDeletion_171,
  k_callS (y2 := yJ4_parentOf) dJ4_fixAfterDeletion_172 sndJ4_parentOf q1188 q1189 q134 q1190 (by decide +kernel) ⟨by decide, by decide⟩ (by decide) (by decide),
  k_callV (y2 := yJ4_rotateLeft) (C := RJ4) (T0 := TJ4) (ci := 16) dJ4_fixAfterDeletion_175 sndJ4_rotateLeft rfl q1203 q1205 qs30 q134 q1206 (by decide +kernel) ⟨by decide, by decide⟩ (by decide) (by decide),
  k_aload_n dJ4_fixAfterDeletion_178,
  k_getR (C := RJ4) (T := TJ4) (N := 9) (ci := 16) (k := 3) (ref := "java/util/TreeMap") dJ4_fixAfterDeletion_179 rfl in_J4 (by decide) q202 (Or.inl rfl) (fun _ _ _ => rfl),
  k_astore_n dJ4_fixAfterDeletion_182,
  k_goto (t := 0) dJ4_fixAfterDeletion_183 (by decide),
  k_aload_n dJ4_fixAfterDeletion_186,
  k_callS (y2 := yJ4_parentOf) dJ4_fixAfterDeletion_187 sndJ4_parentOf q1188 q1189 q134 q1190 (by decide +kernel) ⟨by decide, by decide⟩ (by decide) (by decide),
  k_callS (y2 := yJ4_leftOf) dJ4_fixAfterDeletion_190 sndJ4_leftOf q1191 q1192 q134 q1193 (by decide +kernel) ⟨by decide, by decide⟩ (by decide) (by decide),
  k_astore_n dJ4_fixAfterDeletion_193,
  k_aload_n dJ4_fixAfterDeletion_194,
  k_callS (y2 := yJ4_colorOf) dJ4_fixAfterDeletion_195 sndJ4_colorOf q1197 q1198 q134 q1199 (by decide +kernel) ⟨by decide, by decide⟩ (by decide) (by decide),
  k_ifne (t := 230) dJ4_fixAfterDeletion_198 (by decide),
  k_aload_n dJ4_fixAfterDeletion_201,
  k_iconst dJ4_fixAfterDeletion_202,
  k_callS (y2 := yJ4_setColor) dJ4_fixAfterDeletion_203 sndJ4_setColor q1200 q1201 q134 q1202 (by decide +kernel) ⟨by decide, by decide⟩ (by decide) (by decide),
  k_aload_n dJ4_fixAfterDeletion_206,
  k_callS (y2 := yJ4_parentOf) dJ4_fixAfterDeletion_207 sndJ4_parentOf q1188 q1189 q134 q1190 (by decide +kernel) ⟨by decide, by decide⟩ (by decide) (by decide),
  k_iconst dJ4_fixAfterDeletion_210,
  k_callS (y2 := yJ4_setColor) dJ4_fixAfterDeletion_211 sndJ4_setColor q1200 q1201 q134 q1202 (by decide +kernel) ⟨by decide, by decide⟩ (by decide) (by decide),
  k_aload_n dJ4_fixAfterDeletion_214,
  k_aload_n dJ4_fixAfterDeletion_215,
  k_callS (y2 := yJ4_parentOf) dJ4_fixAfterDeletion_216 sndJ4_parentOf q1188 q1189 q134 q1190 (by decide +kernel) ⟨by decide, by decide⟩ (by decide) (by decide),
  k_callV (y2 := yJ4_rotateRight) (C := RJ4) (T0 := TJ4) (ci := 16) dJ4_fixAfterDeletion_219 sndJ4_rotateRight rfl q1207 q1209 qs31 q134 q1210 (by decide +kernel) ⟨by decide, by decide⟩ (by decide) (by decide),
  k_aload_n dJ4_fixAfterDeletion_222,
  k_callS (y2 := yJ4_parentOf) dJ4_fixAfterDeletion_223 sndJ4_parentOf q1188 q1189 q134 q1190 (by decide +kernel) ⟨by decide, by decide⟩ (by decide) (by decide),
  k_callS (y2 := yJ4_leftOf) dJ4_fixAfterDeletion_226 sndJ4_leftOf q1191 q1192 q134 q1193 (by decide +kernel) ⟨by decide, by decide⟩ (by decide) (by decide),
  k_astore_n dJ4_fixAfterDeletion_229,
  k_aload_n dJ4_fixAfterDeletion_230,
  k_callS (y2 := yJ4_rightOf) dJ4_fixAfterDeletion_231 sndJ4_rightOf q1194 q1195 q134 q1196 (by decide +kernel) ⟨by decide, by decide⟩ (by decide) (by decide),
  k_callS (y2 := yJ4_colorOf) dJ4_fixAfterDeletion_234 sndJ4_colorOf q1197 q1198 q134 q1199 (by decide +kernel) ⟨by decide, by decide⟩ (by decide) (by decide),
  k_iconst dJ4_fixAfterDeletion_237,
  k_cmpne (t := 265) dJ4_fixAfterDeletion_238 (by decide),
  k_aload_n dJ4_fixAfterDeletion_241,
  k_callS (y2 := yJ4_leftOf) dJ4_fixAfterDeletion_242 sndJ4_leftOf q1191 q1192 q134 q1193 (by decide +kernel) ⟨by decide, by decide⟩ (by decide) (by decide),
  k_callS (y2 := yJ4_colorOf) dJ4_fixAfterDeletion_245 sndJ4_colorOf q1197 q1198 q134 q1199 (by decide +kernel) ⟨by decide, by decide⟩ (by decide) (by decide),
  k_iconst dJ4_fixAfterDeletion_248,
  k_cmpne (t := 265) dJ4_fixAfterDeletion_249 (by decide),
  k_aload_n dJ4_fixAfterDeletion_252,
  k_iconst dJ4_fixAfterDeletion_253,
  k_callS (y2 := yJ4_setColor) dJ4_fixAfterDeletion_254 sndJ4_setColor q1200 q1201 q134 q1202 (by decide +kernel) ⟨by decide, by decide⟩ (by decide) (by decide),
  k_aload_n dJ4_fixAfterDeletion_257,
  k_callS (y2 := yJ4_parentOf) dJ4_fixAfterDeletion_258 sndJ4_parentOf q1188 q1189 q134 q1190 (by decide +kernel) ⟨by decide, by decide⟩ (by decide) (by decide),
  k_astore_n dJ4_fixAfterDeletion_261,
  k_goto (t := 342) dJ4_fixAfterDeletion_262 (by decide),
  k_aload_n dJ4_fixAfterDeletion_265,
  k_callS (y2 := yJ4_leftOf) dJ4_fixAfterDeletion_266 sndJ4_leftOf q1191 q1192 q134 q1193 (by decide +kernel) ⟨by decide, by decide⟩ (by decide) (by decide),
  k_callS (y2 := yJ4_colorOf) dJ4_fixAfterDeletion_269 sndJ4_colorOf q1197 q1198 q134 q1199 (by decide +kernel) ⟨by decide, by decide⟩ (by decide) (by decide),
  k_iconst dJ4_fixAfterDeletion_272,
  k_cmpne (t := 302) dJ4_fixAfterDeletion_273 (by decide),
  k_aload_n dJ4_fixAfterDeletion_276,
  k_callS (y2 := yJ4_rightOf) dJ4_fixAfterDeletion_277 sndJ4_rightOf q1194 q1195 q134 q1196 (by decide +kernel) ⟨by decide, by decide⟩ (by decide) (by decide),
  k_iconst dJ4_fixAfterDeletion_280,
  k_callS (y2 := yJ4_setColor) dJ4_fixAfterDeletion_281 sndJ4_setColor q1200 q1201 q134 q1202 (by decide +kernel) ⟨by decide, by decide⟩ (by decide) (by decide),
  k_aload_n dJ4_fixAfterDeletion_284,
  k_iconst dJ4_fixAfterDeletion_285,
  k_callS (y2 := yJ4_setColor) dJ4_fixAfterDeletion_286 sndJ4_setColor q1200 q1201 q134 q1202 (by decide +kernel) ⟨by decide, by decide⟩ (by decide) (by decide),
  k_aload_n dJ4_fixAfterDeletion_289,
  k_aload_n dJ4_fixAfterDeletion_290,
  k_callV (y2 := yJ4_rotateLeft) (C := RJ4) (T0 := TJ4) (ci := 16) dJ4_fixAfterDeletion_291 sndJ4_rotateLeft rfl q1203 q1205 qs30 q134 q1206 (by decide +kernel) ⟨by decide, by decide⟩ (by decide) (by decide),
  k_aload_n dJ4_fixAfterDeletion_294,
  k_callS (y2 := yJ4_parentOf) dJ4_fixAfterDeletion_295 sndJ4_parentOf q1188 q1189 q134 q1190 (by decide +kernel) ⟨by decide, by decide⟩ (by decide) (by decide),
  k_callS (y2 := yJ4_leftOf) dJ4_fixAfterDeletion_298 sndJ4_leftOf q1191 q1192 q134 q1193 (by decide +kernel) ⟨by decide, by decide⟩ (by decide) (by decide),
  k_astore_n dJ4_fixAfterDeletion_301,
  k_aload_n dJ4_fixAfterDeletion_302,
  k_aload_n dJ4_fixAfterDeletion_303,
  k_callS (y2 := yJ4_parentOf) dJ4_fixAfterDeletion_304 sndJ4_parentOf q1188 q1189 q134 q1190 (by decide +kernel) ⟨by decide, by decide⟩ (by decide) (by decide),
  k_callS (y2 := yJ4_colorOf) dJ4_fixAfterDeletion_307 sndJ4_colorOf q1197 q1198 q134 q1199 (by decide +kernel) ⟨by decide, by decide⟩ (by decide) (by decide),
  k_callS (y2 := yJ4_setColor) dJ4_fixAfterDeletion_310 sndJ4_setColor q1200 q1201 q134 q1202 (by decide +kernel) ⟨by decide, by decide⟩ (by decide) (by decide),
  k_aload_n dJ4_fixAfterDeletion_313,
  k_callS (y2 := yJ4_parentOf) dJ4_fixAfterDeletion_314 sndJ4_parentOf q1188 q1189 q134 q1190 (by decide +kernel) ⟨by decide, by decide⟩ (by decide) (by decide),
  k_iconst dJ4_fixAfterDeletion_317,
  k_callS (y2 := yJ4_setColor) dJ4_fixAfterDeletion_318 sndJ4_setColor q1200 q1201 q134 q1202 (by decide +kernel) ⟨by decide, by decide⟩ (by decide) (by decide),
  k_aload_n dJ4_fixAfterDeletion_321,
  k_callS (y2 := yJ4_leftOf) dJ4_fixAfterDeletion_322 sndJ4_leftOf q1191 q1192 q134 q1193 (by decide +kernel) ⟨by decide, by decide⟩ (by decide) (by decide),
  k_iconst dJ4_fixAfterDeletion_325,
  k_callS (y2 := yJ4_setColor) dJ4_fixAfterDeletion_326 sndJ4_setColor q1200 q1201 q134 q1202 (by decide +kernel) ⟨by decide, by decide⟩ (by decide) (by decide),
  k_aload_n dJ4_fixAfterDeletion_329,
  k_aload_n dJ4_fixAfterDeletion_330,
  k_callS (y2 := yJ4_parentOf) dJ4_fixAfterDeletion_331 sndJ4_parentOf q1188 q1189 q134 q1190 (by decide +kernel) ⟨by decide, by decide⟩ (by decide) (by decide),
  k_callV (y2 := yJ4_rotateRight) (C := RJ4) (T0 := TJ4) (ci := 16) dJ4_fixAfterDeletion_334 sndJ4_rotateRight rfl q1207 q1209 qs31 q134 q1210 (by decide +kernel) ⟨by decide, by decide⟩ (by decide) (by decide),
  k_aload_n dJ4_fixAfterDeletion_337,
  k_getR (C := RJ4) (T := TJ4) (N := 9) (ci := 16) (k := 3) (ref := "java/util/TreeMap") dJ4_fixAfterDeletion_338 rfl in_J4 (by decide) q202 (Or.inl rfl) (fun _ _ _ => rfl),
  k_astore_n dJ4_fixAfterDeletion_341,
  k_goto (t := 0) dJ4_fixAfterDeletion_342 (by decide),
  k_aload_n dJ4_fixAfterDeletion_345,
  k_iconst dJ4_fixAfterDeletion_346,
  k_callS (y2 := yJ4_setColor) dJ4_fixAfterDeletion_347 sndJ4_setColor q1200 q1201 q134 q1202 (by decide +kernel) ⟨by decide, by decide⟩ (by decide) (by decide),
  k_ret dJ4_fixAfterDeletion_350, trivial⟩
theorem sndJ4_fixAfterDeletion : MSound 2 yJ4_fixAfterDeletion (ws_ yJ4_fixAfterDeletion cJ4_fixAfterDeletion 3 none) mJ4_fixAfterDeletion := msound_M (by decide) allJ4_fixAfterDeletion (fun _ _ => rfl)
/-! java/util/TreeMap.deleteEntry(Ljava/util/TreeMap$Entry;)V -/
noncomputable def kJ4_deleteEntry : ZM := ([(0, zi_ld 1 0 1), (1, zi_dup 2), (2, zi_getI 32 5 5), (5, zi_push (zvi 1) 6), (6, zi_bin (fun a b => w32 (a + b)) 7), (7, zi_putI 32 5 10), (10, zi_ld 1 0 11), (11, zi_dup 12), (12, zi_getI 32 4 15), (15, zi_push (zvi 1) 16), (16, zi_bin (fun a b => w32 (a - b)) 17), (17, zi_putI 32 4 20), (20, zi_ld 1 1 21), (21, zi_getR 33 2 24), (24, zi_null 57 27), (27, zi_ld 1 1 28), (28, zi_getR 33 3 31), (31, zi_null 57 34), (34, zi_ld 1 1 35), (35, zi_callS mJ4_successor 1 38), (38, zi_st 1 2 39), (39, zi_ld 1 1 40), (40, zi_ld 1 2 41), (41, zi_getR 33 0 44), (44, zi_putR 33 0 47), (47, zi_ld 1 1 48), (48, zi_ld 1 2 49), (49, zi_getR 33 1 52), (52, zi_putR 33 1 55), (55, zi_ld 1 2 56), (56, zi_st 1 1 57), (57, zi_ld 1 1 58), (58, zi_getR 33 2 61), (61, zi_null 71 64), (64, zi_ld 1 1 65), (65, zi_getR 33 2 68), (68, zi_goto 75), (71, zi_ld 1 1 72), (72, zi_getR 33 3 75), (75, zi_st 1 2 76), (76, zi_ld 1 2 77), (77, zi_null 164 80), (80, zi_ld 1 2 81), (81, zi_ld 1 1 82), (82, zi_getR 33 4 85), (85, zi_putR 33 4 88), (88, zi_ld 1 1 89), (89, zi_getR 33 4 92), (92, zi_nonnull 103 95), (95, zi_ld 1 0 96), (96, zi_ld 1 2 97), (97, zi_putR 32 3 100), (100, zi_goto 133), (103, zi_ld 1 1 104), (104, zi_ld 1 1 105), (105, zi_getR 33 4 108), (108, zi_getR 33 2 111), (111, zi_acmp 114 125), (114, zi_ld 1 1 115), (115, zi_getR 33 4 118), (118, zi_ld 1 2 119), (119, zi_putR 33 2 122), (122, zi_goto 133), (125, zi_ld 1 1 126), (126, zi_getR 33 4 129), (129, zi_ld 1 2 130), (130, zi_putR 33 3 133), (133, zi_ld 1 1 134), (134, zi_ld 1 1 135), (135, zi_ld 1 1 136), (136, zi_push (zvr none) 137), (137, zi_dupx1 138), (138, zi_putR 33 4 141), (141, zi_dupx1 142), (142, zi_putR 33 3 145), (145, zi_putR 33 2 148), (148, zi_ld 1 1 149), (149, zi_getI 33 5 152), (152, zi_push (zvi 1) 153), (153, zi_cmp zc_ne 245 156), (156, zi_ld 1 0 157), (157, zi_ld 1 2 158), (158, zi_callV mJ4_fixAfterDeletion 32 2 161), (161, zi_goto 245), (164, zi_ld 1 1 165), (165, zi_getR 33 4 168), (168, zi_nonnull 179 171), (171, zi_ld 1 0 172), (172, zi_push (zvr none) 173), (173, zi_putR 32 3 176), (176, zi_goto 245), (179, zi_ld 1 1 180), (180, zi_getI 33 5 183), (183, zi_push (zvi 1) 184), (184, zi_cmp zc_ne 192 187), (187, zi_ld 1 0 188), (188, zi_ld 1 1 189), (189, zi_callV mJ4_fixAfterDeletion 32 2 192), (192, zi_ld 1 1 193), (193, zi_getR 33 4 196), (196, zi_null 245 199), (199, zi_ld 1 1 200), (200, zi_ld 1 1 201), (201, zi_getR 33 4 204), (204, zi_getR 33 2 207), (207, zi_acmp 210 221), (210, zi_ld 1 1 211), (211, zi_getR 33 4 214), (214, zi_push (zvr none) 215), (215, zi_putR 33 2 218), (218, zi_goto 240), (221, zi_ld 1 1 222), (222, zi_ld 1 1 223), (223, zi_getR 33 4 226), (226, zi_getR 33 3 229), (229, zi_acmp 232 240), (232, zi_ld 1 1 233), (233, zi_getR 33 4 236), (236, zi_push (zvr none) 237), (237, zi_putR 33 3 240), (240, zi_ld 1 1 241), (241, zi_push (zvr none) 242), (242, zi_putR 33 4 245), (245, zi_ret)], fun _ _ => none)
noncomputable def mJ4_deleteEntry : ZF := zrunM kJ4_deleteEntry 3
theorem enJ4_deleteEntry (x0 : Option Nat) (x1 : Option Nat) (h : PH) : mJ4_deleteEntry [zvr x0, zvr x1] h = zev kJ4_deleteEntry 0 [zvr x0, zvr x1, zvu] [] h := zrunM_eq rfl rfl
theorem rJ4_deleteEntry : (∀ (a : Option Nat) (L st : List ZV) (h : PH), zev kJ4_deleteEntry 0 (zvr a :: L) st h = zev kJ4_deleteEntry 1 (zvr a :: L) (zvr a :: st) h) ∧
  (∀ (a : Int) (L st : List ZV) (h : PH), zev kJ4_deleteEntry 1 L (zvi a :: st) h = zev kJ4_deleteEntry 2 L (zvi a :: zvi a :: st) h) ∧
  (∀ (a : Option Nat) (L st : List ZV) (h : PH), zev kJ4_deleteEntry 1 L (zvr a :: st) h = zev kJ4_deleteEntry 2 L (zvr a :: zvr a :: st) h) ∧
  (∀ (q : Nat) (L st : List ZV) (h : PH), zev kJ4_deleteEntry 2 L (zvr (some q) :: st) h = if (ph_K h q).1 % 1000 = 32 then zev kJ4_deleteEntry 5 L (zvi (ph_I h q 5) :: st) h else none) ∧
  (∀ (L st : List ZV) (h : PH), zev kJ4_deleteEntry 5 L st h = zev kJ4_deleteEntry 6 L (zvi 1 :: st) h) ∧
  (∀ (a b : Int) (L st : List ZV) (h : PH), zev kJ4_deleteEntry 6 L (zvi b :: zvi a :: st) h = zev kJ4_deleteEntry 7 L (zvi (w32 (a + b)) :: st) h) ∧
  (∀ (a : Int) (q : Nat) (L st : List ZV) (h : PH), zev kJ4_deleteEntry 7 L (zvi a :: zvr (some q) :: st) h = if (ph_K h q).1 = 32 then zev kJ4_deleteEntry 10 L st (st_I h q 5 a) else none) ∧
  (∀ (a : Option Nat) (L st : List ZV) (h : PH), zev kJ4_deleteEntry 10 (zvr a :: L) st h = zev kJ4_deleteEntry 11 (zvr a :: L) (zvr a :: st) h) ∧
  (∀ (a : Int) (L st : List ZV) (h : PH), zev kJ4_deleteEntry 11 L (zvi a :: st) h = zev kJ4_deleteEntry 12 L (zvi a :: zvi a :: st) h) ∧
  (∀ (a : Option Nat) (L st : List ZV) (h : PH), zev kJ4_deleteEntry 11 L (zvr a :: st) h = zev kJ4_deleteEntry 12 L (zvr a :: zvr a :: st) h) ∧
  (∀ (q : Nat) (L st : List ZV) (h : PH), zev kJ4_deleteEntry 12 L (zvr (some q) :: st) h = if (ph_K h q).1 % 1000 = 32 then zev kJ4_deleteEntry 15 L (zvi (ph_I h q 4) :: st) h else none) ∧
  (∀ (L st : List ZV) (h : PH), zev kJ4_deleteEntry 15 L st h = zev kJ4_deleteEntry 16 L (zvi 1 :: st) h) ∧
  (∀ (a b : Int) (L st : List ZV) (h : PH), zev kJ4_deleteEntry 16 L (zvi b :: zvi a :: st) h = zev kJ4_deleteEntry 17 L (zvi (w32 (a - b)) :: st) h) ∧
  (∀ (a : Int) (q : Nat) (L st : List ZV) (h : PH), zev kJ4_deleteEntry 17 L (zvi a :: zvr (some q) :: st) h = if (ph_K h q).1 = 32 then zev kJ4_deleteEntry 20 L st (st_I h q 4 a) else none) ∧
  (∀ (x0 : ZV) (a : Option Nat) (L st : List ZV) (h : PH), zev kJ4_deleteEntry 20 (x0 :: zvr a :: L) st h = zev kJ4_deleteEntry 21 (x0 :: zvr a :: L) (zvr a :: st) h) ∧
  (∀ (q : Nat) (L st : List ZV) (h : PH), zev kJ4_deleteEntry 21 L (zvr (some q) :: st) h = if (ph_K h q).1 % 1000 = 33 then zev kJ4_deleteEntry 24 L (zvr (ph_R h q 2) :: st) h else none) ∧
  (∀ (L st : List ZV) (h : PH), zev kJ4_deleteEntry 24 L (zvr none :: st) h = zev kJ4_deleteEntry 57 L st h) ∧
  (∀ (q : Nat) (L st : List ZV) (h : PH), zev kJ4_deleteEntry 24 L (zvr (some q) :: st) h = if (ph_K h q).1 ≠ 0 then zev kJ4_deleteEntry 27 L st h else none) ∧
  (∀ (x0 : ZV) (a : Option Nat) (L st : List ZV) (h : PH), zev kJ4_deleteEntry 27 (x0 :: zvr a :: L) st h = zev kJ4_deleteEntry 28 (x0 :: zvr a :: L) (zvr a :: st) h) ∧
  (∀ (q : Nat) (L st : List ZV) (h : PH), zev kJ4_deleteEntry 28 L (zvr (some q) :: st) h = if (ph_K h q).1 % 1000 = 33 then zev kJ4_deleteEntry 31 L (zvr (ph_R h q 3) :: st) h else none) ∧
  (∀ (L st : List ZV) (h : PH), zev kJ4_deleteEntry 31 L (zvr none :: st) h = zev kJ4_deleteEntry 57 L st h) ∧
  (∀ (q : Nat) (L st : List ZV) (h : PH), zev kJ4_deleteEntry 31 L (zvr (some q) :: st) h = if (ph_K h q).1 ≠ 0 then zev kJ4_deleteEntry 34 L st h else none) ∧
  (∀ (x0 : ZV) (a : Option Nat) (L st : List ZV) (h : PH), zev kJ4_deleteEntry 34 (x0 :: zvr a :: L) st h = zev kJ4_deleteEntry 35 (x0 :: zvr a :: L) (zvr a :: st) h) ∧
  (∀ (v0 : ZV) (L st : List ZV) (h : PH), zev kJ4_deleteEntry 35 L (v0 :: st) h = if zcat st ≤ 8 then zk kJ4_deleteEntry 35 38 L st (mJ4_successor [v0] h) else none) ∧
  (∀ (x0 x1 x2 : ZV) (a : Option Nat) (L st : List ZV) (h : PH) (hx : zisL x1 = false) , zev kJ4_deleteEntry 38 (x0 :: x1 :: x2 :: L) (zvr a :: st) h = zev kJ4_deleteEntry 39 (x0 :: x1 :: zvr a :: L) st h) ∧
  (∀ (x0 : ZV) (a : Option Nat) (L st : List ZV) (h : PH), zev kJ4_deleteEntry 39 (x0 :: zvr a :: L) st h = zev kJ4_deleteEntry 40 (x0 :: zvr a :: L) (zvr a :: st) h) ∧
  (∀ (x0 x1 : ZV) (a : Option Nat) (L st : List ZV) (h : PH), zev kJ4_deleteEntry 40 (x0 :: x1 :: zvr a :: L) st h = zev kJ4_deleteEntry 41 (x0 :: x1 :: zvr a :: L) (zvr a :: st) h) ∧
  (∀ (q : Nat) (L st : List ZV) (h : PH), zev kJ4_deleteEntry 41 L (zvr (some q) :: st) h = if (ph_K h q).1 % 1000 = 33 then zev kJ4_deleteEntry 44 L (zvr (ph_R h q 0) :: st) h else none) ∧
  (∀ (a : Option Nat) (q : Nat) (L st : List ZV) (h : PH), zev kJ4_deleteEntry 44 L (zvr a :: zvr (some q) :: st) h = if (ph_K h q).1 = 33 then zev kJ4_deleteEntry 47 L st (st_R h q 0 a) else none) ∧
  (∀ (x0 : ZV) (a : Option Nat) (L st : List ZV) (h : PH), zev kJ4_deleteEntry 47 (x0 :: zvr a :: L) st h = zev kJ4_deleteEntry 48 (x0 :: zvr a :: L) (zvr a :: st) h) ∧
  (∀ (x0 x1 : ZV) (a : Option Nat) (L st : List ZV) (h : PH), zev kJ4_deleteEntry 48 (x0 :: x1 :: zvr a :: L) st h = zev kJ4_deleteEntry 49 (x0 :: x1 :: zvr a :: L) (zvr a :: st) h) ∧
  (∀ (q : Nat) (L st : List ZV) (h : PH), zev kJ4_deleteEntry 49 L (zvr (some q) :: st) h = if (ph_K h q).1 % 1000 = 33 then zev kJ4_deleteEntry 52 L (zvr (ph_R h q 1) :: st) h else none) ∧
  (∀ (a : Option Nat) (q : Nat) (L st : List ZV) (h : PH), zev kJ4_deleteEntry 52 L (zvr a :: zvr (some q) :: st) h = if (ph_K h q).1 = 33 then zev kJ4_deleteEntry 55 L st (st_R h q 1 a) else none) ∧
  (∀ (x0 x1 : ZV) (a : Option Nat) (L st : List ZV) (h : PH), zev kJ4_deleteEntry 55 (x0 :: x1 :: zvr a :: L) st h = zev kJ4_deleteEntry 56 (x0 :: x1 :: zvr a :: L) (zvr a :: st) h) ∧
  (∀ (x0 x1 : ZV) (a : Option Nat) (L st : List ZV) (h : PH) (hx : zisL x0 = false) , zev kJ4_deleteEntry 56 (x0 :: x1 :: L) (zvr a :: st) h = zev kJ4_deleteEntry 57 (x0 :: zvr a :: L) st h) ∧
  (∀ (x0 : ZV) (a : Option Nat) (L st : List ZV) (h : PH), zev kJ4_deleteEntry 57 (x0 :: zvr a :: L) st h = zev kJ4_deleteEntry 58 (x0 :: zvr a :: L) (zvr a :: st) h) ∧
  (∀ (q : Nat) (L st : List ZV) (h : PH), zev kJ4_deleteEntry 58 L (zvr (some q) :: st) h = if (ph_K h q).1 % 1000 = 33 then zev kJ4_deleteEntry 61 L (zvr (ph_R h q 2) :: st) h else none) ∧
  (∀ (L st : List ZV) (h : PH), zev kJ4_deleteEntry 61 L (zvr none :: st) h = zev kJ4_deleteEntry 71 L st h) ∧
  (∀ (q : Nat) (L st : List ZV) (h : PH), zev kJ4_deleteEntry 61 L (zvr (some q) :: st) h = if (ph_K h q).1 ≠ 0 then zev kJ4_deleteEntry 64 L st h else none) ∧
  (∀ (x0 : ZV) (a : Option Nat) (L st : List ZV) (h : PH), zev kJ4_deleteEntry 64 (x0 :: zvr a :: L) st h = zev kJ4_deleteEntry 65 (x0 :: zvr a :: L) (zvr a :: st) h) ∧
  (∀ (q : Nat) (L st : List ZV) (h : PH), zev kJ4_deleteEntry 65 L (zvr (some q) :: st) h = if (ph_K h q).1 % 1000 = 33 then zev kJ4_deleteEntry 68 L (zvr (ph_R h q 2) :: st) h else none) ∧
  (∀ (L st : List ZV) (h : PH), zev kJ4_deleteEntry 68 L st h = zev kJ4_deleteEntry 75 L st h) ∧
  (∀ (x0 : ZV) (a : Option Nat) (L st : List ZV) (h : PH), zev kJ4_deleteEntry 71 (x0 :: zvr a :: L) st h = zev kJ4_deleteEntry 72 (x0 :: zvr a :: L) (zvr a :: st) h) ∧
  (∀ (q : Nat) (L st : List ZV) (h : PH), zev kJ4_deleteEntry 72 L (zvr (some q) :: st) h = if (ph_K h q).1 % 1000 = 33 then zev kJ4_deleteEntry 75 L (zvr (ph_R h q 3) :: st) h else none) ∧
  (∀ (x0 x1 x2 : ZV) (a : Option Nat) (L st : List ZV) (h : PH) (hx : zisL x1 = false) , zev kJ4_deleteEntry 75 (x0 :: x1 :: x2 :: L) (zvr a :: st) h = zev kJ4_deleteEntry 76 (x0 :: x1 :: zvr a :: L) st h) ∧
  (∀ (x0 x1 : ZV) (a : Option Nat) (L st : List ZV) (h : PH), zev kJ4_deleteEntry 76 (x0 :: x1 :: zvr a :: L) st h = zev kJ4_deleteEntry 77 (x0 :: x1 :: zvr a :: L) (zvr a :: st) h) ∧
  (∀ (L st : List ZV) (h : PH), zev kJ4_deleteEntry 77 L (zvr none :: st) h = zev kJ4_deleteEntry 164 L st h) ∧
  (∀ (q : Nat) (L st : List ZV) (h : PH), zev kJ4_deleteEntry 77 L (zvr (some q) :: st) h = if (ph_K h q).1 ≠ 0 then zev kJ4_deleteEntry 80 L st h else none) ∧
  (∀ (x0 x1 : ZV) (a : Option Nat) (L st : List ZV) (h : PH), zev kJ4_deleteEntry 80 (x0 :: x1 :: zvr a :: L) st h = zev kJ4_deleteEntry 81 (x0 :: x1 :: zvr a :: L) (zvr a :: st) h) ∧
  (∀ (x0 : ZV) (a : Option Nat) (L st : List ZV) (h : PH), zev kJ4_deleteEntry 81 (x0 :: zvr a :: L) st h = zev kJ4_deleteEntry 82 (x0 :: zvr a :: L) (zvr a :: st) h) ∧
  (∀ (q : Nat) (L st : List ZV) (h : PH), zev kJ4_deleteEntry 82 L (zvr (some q) :: st) h = if (ph_K h q).1 % 1000 = 33 then zev kJ4_deleteEntry 85 L (zvr (ph_R h q 4) :: st) h else none) ∧
  (∀ (a : Option Nat) (q : Nat) (L st : List ZV) (h : PH), zev kJ4_deleteEntry 85 L (zvr a :: zvr (some q) :: st) h = if (ph_K h q).1 = 33 then zev kJ4_deleteEntry 88 L st (st_R h q 4 a) else none) ∧
  (∀ (x0 : ZV) (a : Option Nat) (L st : List ZV) (h : PH), zev kJ4_deleteEntry 88 (x0 :: zvr a :: L) st h = zev kJ4_deleteEntry 89 (x0 :: zvr a :: L) (zvr a :: st) h) ∧
  (∀ (q : Nat) (L st : List ZV) (h : PH), zev kJ4_deleteEntry 89 L (zvr (some q) :: st) h = if (ph_K h q).1 % 1000 = 33 then zev kJ4_deleteEntry 92 L (zvr (ph_R h q 4) :: st) h else none) ∧
  (∀ (L st : List ZV) (h : PH), zev kJ4_deleteEntry 92 L (zvr none :: st) h = zev kJ4_deleteEntry 95 L st h) ∧
  (∀ (q : Nat) (L st : List ZV) (h : PH), zev kJ4_deleteEntry 92 L (zvr (some q) :: st) h = if (ph_K h q).1 ≠ 0 then zev kJ4_deleteEntry 103 L st h else none) ∧
  (∀ (a : Option Nat) (L st : List ZV) (h : PH), zev kJ4_deleteEntry 95 (zvr a :: L) st h = zev kJ4_deleteEntry 96 (zvr a :: L) (zvr a :: st) h) ∧
  (∀ (x0 x1 : ZV) (a : Option Nat) (L st : List ZV) (h : PH), zev kJ4_deleteEntry 96 (x0 :: x1 :: zvr a :: L) st h = zev kJ4_deleteEntry 97 (x0 :: x1 :: zvr a :: L) (zvr a :: st) h) ∧
  (∀ (a : Option Nat) (q : Nat) (L st : List ZV) (h : PH), zev kJ4_deleteEntry 97 L (zvr a :: zvr (some q) :: st) h = if (ph_K h q).1 = 32 then zev kJ4_deleteEntry 100 L st (st_R h q 3 a) else none) ∧
  (∀ (L st : List ZV) (h : PH), zev kJ4_deleteEntry 100 L st h = zev kJ4_deleteEntry 133 L st h) ∧
  (∀ (x0 : ZV) (a : Option Nat) (L st : List ZV) (h : PH), zev kJ4_deleteEntry 103 (x0 :: zvr a :: L) st h = zev kJ4_deleteEntry 104 (x0 :: zvr a :: L) (zvr a :: st) h) ∧
  (∀ (x0 : ZV) (a : Option Nat) (L st : List ZV) (h : PH), zev kJ4_deleteEntry 104 (x0 :: zvr a :: L) st h = zev kJ4_deleteEntry 105 (x0 :: zvr a :: L) (zvr a :: st) h) ∧
  (∀ (q : Nat) (L st : List ZV) (h : PH), zev kJ4_deleteEntry 105 L (zvr (some q) :: st) h = if (ph_K h q).1 % 1000 = 33 then zev kJ4_deleteEntry 108 L (zvr (ph_R h q 4) :: st) h else none) ∧
  (∀ (q : Nat) (L st : List ZV) (h : PH), zev kJ4_deleteEntry 108 L (zvr (some q) :: st) h = if (ph_K h q).1 % 1000 = 33 then zev kJ4_deleteEntry 111 L (zvr (ph_R h q 2) :: st) h else none) ∧
  (∀ (a b : Option Nat) (L st : List ZV) (h : PH), zev kJ4_deleteEntry 111 L (zvr b :: zvr a :: st) h = if zcomp h a b = true then (if a = b then zev kJ4_deleteEntry 114 L st h else zev kJ4_deleteEntry 125 L st h) else none) ∧
  (∀ (x0 : ZV) (a : Option Nat) (L st : List ZV) (h : PH), zev kJ4_deleteEntry 114 (x0 :: zvr a :: L) st h = zev kJ4_deleteEntry 115 (x0 :: zvr a :: L) (zvr a :: st) h) ∧
  (∀ (q : Nat) (L st : List ZV) (h : PH), zev kJ4_deleteEntry 115 L (zvr (some q) :: st) h = if (ph_K h q).1 % 1000 = 33 then zev kJ4_deleteEntry 118 L (zvr (ph_R h q 4) :: st) h else none) ∧
  (∀ (x0 x1 : ZV) (a : Option Nat) (L st : List ZV) (h : PH), zev kJ4_deleteEntry 118 (x0 :: x1 :: zvr a :: L) st h = zev kJ4_deleteEntry 119 (x0 :: x1 :: zvr a :: L) (zvr a :: st) h) ∧
  (∀ (a : Option Nat) (q : Nat) (L st : List ZV) (h : PH), zev kJ4_deleteEntry 119 L (zvr a :: zvr (some q) :: st) h = if (ph_K h q).1 = 33 then zev kJ4_deleteEntry 122 L st (st_R h q 2 a) else none) ∧
  (∀ (L st : List ZV) (h : PH), zev kJ4_deleteEntry 122 L st h = zev kJ4_deleteEntry 133 L st h) ∧
  (∀ (x0 : ZV) (a : Option Nat) (L st : List ZV) (h : PH), zev kJ4_deleteEntry 125 (x0 :: zvr a :: L) st h = zev kJ4_deleteEntry 126 (x0 :: zvr a :: L) (zvr a :: st) h) ∧
  (∀ (q : Nat) (L st : List ZV) (h : PH), zev kJ4_deleteEntry 126 L (zvr (some q) :: st) h = if (ph_K h q).1 % 1000 = 33 then zev kJ4_deleteEntry 129 L (zvr (ph_R h q 4) :: st) h else none) ∧
  (∀ (x0 x1 : ZV) (a : Option Nat) (L st : List ZV) (h : PH), zev kJ4_deleteEntry 129 (x0 :: x1 :: zvr a :: L) st h = zev kJ4_deleteEntry 130 (x0 :: x1 :: zvr a :: L) (zvr a :: st) h) ∧
  (∀ (a : Option Nat) (q : Nat) (L st : List ZV) (h : PH), zev kJ4_deleteEntry 130 L (zvr a :: zvr (some q) :: st) h = if (ph_K h q).1 = 33 then zev kJ4_deleteEntry 133 L st (st_R h q 3 a) else none) ∧
  (∀ (x0 : ZV) (a : Option Nat) (L st : List ZV) (h : PH), zev kJ4_deleteEntry 133 (x0 :: zvr a :: L) st h = zev kJ4_deleteEntry 134 (x0 :: zvr a :: L) (zvr a :: st) h) ∧
  (∀ (x0 : ZV) (a : Option Nat) (L st : List ZV) (h : PH), zev kJ4_deleteEntry 134 (x0 :: zvr a :: L) st h = zev kJ4_deleteEntry 135 (x0 :: zvr a :: L) (zvr a :: st) h) ∧
  (∀ (x0 : ZV) (a : Option Nat) (L st : List ZV) (h : PH), zev kJ4_deleteEntry 135 (x0 :: zvr a :: L) st h = zev kJ4_deleteEntry 136 (x0 :: zvr a :: L) (zvr a :: st) h) ∧
  (∀ (L st : List ZV) (h : PH), zev kJ4_deleteEntry 136 L st h = zev kJ4_deleteEntry 137 L (zvr none :: st) h) ∧
  (∀ (a : Int) (b : Int) (L st : List ZV) (h : PH), zev kJ4_deleteEntry 137 L (zvi a :: zvi b :: st) h = zev kJ4_deleteEntry 138 L (zvi a :: zvi b :: zvi a :: st) h) ∧
  (∀ (a : Int) (b : Option Nat) (L st : List ZV) (h : PH), zev kJ4_deleteEntry 137 L (zvi a :: zvr b :: st) h = zev kJ4_deleteEntry 138 L (zvi a :: zvr b :: zvi a :: st) h) ∧
  (∀ (a : Option Nat) (b : Int) (L st : List ZV) (h : PH), zev kJ4_deleteEntry 137 L (zvr a :: zvi b :: st) h = zev kJ4_deleteEntry 138 L (zvr a :: zvi b :: zvr a :: st) h) ∧
  (∀ (a : Option Nat) (b : Option Nat) (L st : List ZV) (h : PH), zev kJ4_deleteEntry 137 L (zvr a :: zvr b :: st) h = zev kJ4_deleteEntry 138 L (zvr a :: zvr b :: zvr a :: st) h) ∧
  (∀ (a : Option Nat) (q : Nat) (L st : List ZV) (h : PH), zev kJ4_deleteEntry 138 L (zvr a :: zvr (some q) :: st) h = if (ph_K h q).1 = 33 then zev kJ4_deleteEntry 141 L st (st_R h q 4 a) else none) ∧
  (∀ (a : Int) (b : Int) (L st : List ZV) (h : PH), zev kJ4_deleteEntry 141 L (zvi a :: zvi b :: st) h = zev kJ4_deleteEntry 142 L (zvi a :: zvi b :: zvi a :: st) h) ∧
  (∀ (a : Int) (b : Option Nat) (L st : List ZV) (h : PH), zev kJ4_deleteEntry 141 L (zvi a :: zvr b :: st) h = zev kJ4_deleteEntry 142 L (zvi a :: zvr b :: zvi a :: st) h) ∧
  (∀ (a : Option Nat) (b : Int) (L st : List ZV) (h : PH), zev kJ4_deleteEntry 141 L (zvr a :: zvi b :: st) h = zev kJ4_deleteEntry 142 L (zvr a :: zvi b :: zvr a :: st) h) ∧
  (∀ (a : Option Nat) (b : Option Nat) (L st : List ZV) (h : PH), zev kJ4_deleteEntry 141 L (zvr a :: zvr b :: st) h = zev kJ4_deleteEntry 142 L (zvr a :: zvr b :: zvr a :: st) h) ∧
  (∀ (a : Option Nat) (q : Nat) (L st : List ZV) (h : PH), zev kJ4_deleteEntry 142 L (zvr a :: zvr (some q) :: st) h = if (ph_K h q).1 = 33 then zev kJ4_deleteEntry 145 L st (st_R h q 3 a) else none) ∧
  (∀ (a : Option Nat) (q : Nat) (L st : List ZV) (h : PH), zev kJ4_deleteEntry 145 L (zvr a :: zvr (some q) :: st) h = if (ph_K h q).1 = 33 then zev kJ4_deleteEntry 148 L st (st_R h q 2 a) else none) ∧
  (∀ (x0 : ZV) (a : Option Nat) (L st : List ZV) (h : PH), zev kJ4_deleteEntry 148 (x0 :: zvr a :: L) st h = zev kJ4_deleteEntry 149 (x0 :: zvr a :: L) (zvr a :: st) h) ∧
  (∀ (q : Nat) (L st : List ZV) (h : PH), zev kJ4_deleteEntry 149 L (zvr (some q) :: st) h = if (ph_K h q).1 % 1000 = 33 then zev kJ4_deleteEntry 152 L (zvi (ph_I h q 5) :: st) h else none) ∧
  (∀ (L st : List ZV) (h : PH), zev kJ4_deleteEntry 152 L st h = zev kJ4_deleteEntry 153 L (zvi 1 :: st) h) ∧
  (∀ (a b : Int) (L st : List ZV) (h : PH), zev kJ4_deleteEntry 153 L (zvi b :: zvi a :: st) h = if a ≠ b then zev kJ4_deleteEntry 245 L st h else zev kJ4_deleteEntry 156 L st h) ∧
  (∀ (a : Option Nat) (L st : List ZV) (h : PH), zev kJ4_deleteEntry 156 (zvr a :: L) st h = zev kJ4_deleteEntry 157 (zvr a :: L) (zvr a :: st) h) ∧
  (∀ (x0 x1 : ZV) (a : Option Nat) (L st : List ZV) (h : PH), zev kJ4_deleteEntry 157 (x0 :: x1 :: zvr a :: L) st h = zev kJ4_deleteEntry 158 (x0 :: x1 :: zvr a :: L) (zvr a :: st) h) ∧
  (∀ (v0 : ZV) (q : Nat) (L st : List ZV) (h : PH), zev kJ4_deleteEntry 158 L (v0 :: zvr (some q) :: st) h = if (ph_K h q).1 % 1000 = 32 ∧ zcat st ≤ 8 then zk kJ4_deleteEntry 158 161 L st (mJ4_fixAfterDeletion [zvr (some q), v0] h) else none) ∧
  (∀ (L st : List ZV) (h : PH), zev kJ4_deleteEntry 161 L st h = zev kJ4_deleteEntry 245 L st h) ∧
  (∀ (x0 : ZV) (a : Option Nat) (L st : List ZV) (h : PH), zev kJ4_deleteEntry 164 (x0 :: zvr a :: L) st h = zev kJ4_deleteEntry 165 (x0 :: zvr a :: L) (zvr a :: st) h) ∧
  (∀ (q : Nat) (L st : List ZV) (h : PH), zev kJ4_deleteEntry 165 L (zvr (some q) :: st) h = if (ph_K h q).1 % 1000 = 33 then zev kJ4_deleteEntry 168 L (zvr (ph_R h q 4) :: st) h else none) ∧
  (∀ (L st : List ZV) (h : PH), zev kJ4_deleteEntry 168 L (zvr none :: st) h = zev kJ4_deleteEntry 171 L st h) ∧
  (∀ (q : Nat) (L st : List ZV) (h : PH), zev kJ4_deleteEntry 168 L (zvr (some q) :: st) h = if (ph_K h q).1 ≠ 0 then zev kJ4_deleteEntry 179 L st h else none) ∧
  (∀ (a : Option Nat) (L st : List ZV) (h : PH), zev kJ4_deleteEntry 171 (zvr a :: L) st h = zev kJ4_deleteEntry 172 (zvr a :: L) (zvr a :: st) h) ∧
  (∀ (L st : List ZV) (h : PH), zev kJ4_deleteEntry 172 L st h = zev kJ4_deleteEntry 173 L (zvr none :: st) h) ∧
  (∀ (a : Option Nat) (q : Nat) (L st : List ZV) (h : PH), zev kJ4_deleteEntry 173 L (zvr a :: zvr (some q) :: st) h = if (ph_K h q).1 = 32 then zev kJ4_deleteEntry 176 L st (st_R h q 3 a) else none) ∧
  (∀ (L st : List ZV) (h : PH), zev kJ4_deleteEntry 176 L st h = zev kJ4_deleteEntry 245 L st h) ∧
  (∀ (x0 : ZV) (a : Option Nat) (L st : List ZV) (h : PH), zev kJ4_deleteEntry 179 (x0 :: zvr a :: L) st h = zev kJ4_deleteEntry 180 (x0 :: zvr a :: L) (zvr a :: st) h) ∧
  (∀ (q : Nat) (L st : List ZV) (h : PH), zev kJ4_deleteEntry 180 L (zvr (some q) :: st) h = if (ph_K h q).1 % 1000 = 33 then zev kJ4_deleteEntry 183 L (zvi (ph_I h q 5) :: st) h else none) ∧
  (∀ (L st : List ZV) (h : PH), zev kJ4_deleteEntry 183 L st h = zev kJ4_deleteEntry 184 L (zvi 1 :: st) h) ∧
  (∀ (a b : Int) (L st : List ZV) (h : PH), zev kJ4_deleteEntry 184 L (zvi b :: zvi a :: st) h = if a ≠ b then zev kJ4_deleteEntry 192 L st h else zev kJ4_deleteEntry 187 L st h) ∧
  (∀ (a : Option Nat) (L st : List ZV) (h : PH), zev kJ4_deleteEntry 187 (zvr a :: L) st h = zev kJ4_deleteEntry 188 (zvr a :: L) (zvr a :: st) h) ∧
  (∀ (x0 : ZV) (a : Option Nat) (L st : List ZV) (h : PH), zev kJ4_deleteEntry 188 (x0 :: zvr a :: L) st h = zev kJ4_deleteEntry 189 (x0 :: zvr a :: L) (zvr a :: st) h) ∧
  (∀ (v0 : ZV) (q : Nat) (L st : List ZV) (h : PH), zev kJ4_deleteEntry 189 L (v0 :: zvr (some q) :: st) h = if (ph_K h q).1 % 1000 = 32 ∧ zcat st ≤ 8 then zk kJ4_deleteEntry 189 192 L st (mJ4_fixAfterDeletion [zvr (some q), v0] h) else none) ∧
  (∀ (x0 : ZV) (a : Option Nat) (L st : List ZV) (h : PH), zev kJ4_deleteEntry 192 (x0 :: zvr a :: L) st h = zev kJ4_deleteEntry 193 (x0 :: zvr a :: L) (zvr a :: st) h) ∧
  (∀ (q : Nat) (L st : List ZV) (h : PH), zev kJ4_deleteEntry 193 L (zvr (some q) :: st) h = if (ph_K h q).1 % 1000 = 33 then zev kJ4_deleteEntry 196 L (zvr (ph_R h q 4) :: st) h else none) ∧
  (∀ (L st : List ZV) (h : PH), zev kJ4_deleteEntry 196 L (zvr none :: st) h = zev kJ4_deleteEntry 245 L st h) ∧
  (∀ (q : Nat) (L st : List ZV) (h : PH), zev kJ4_deleteEntry 196 L (zvr (some q) :: st) h = if (ph_K h q).1 ≠ 0 then zev kJ4_deleteEntry 199 L st h else none) ∧
  (∀ (x0 : ZV) (a : Option Nat) (L st : List ZV) (h : PH), zev kJ4_deleteEntry 199 (x0 :: zvr a :: L) st h = zev kJ4_deleteEntry 200 (x0 :: zvr a :: L) (zvr a :: st) h) ∧
  (∀ (x0 : ZV) (a : Option Nat) (L st : List ZV) (h : PH), zev kJ4_deleteEntry 200 (x0 :: zvr a :: L) st h = zev kJ4_deleteEntry 201 (x0 :: zvr a :: L) (zvr a :: st) h) ∧
  (∀ (q : Nat) (L st : List ZV) (h : PH), zev kJ4_deleteEntry 201 L (zvr (some q) :: st) h = if (ph_K h q).1 % 1000 = 33 then zev kJ4_deleteEntry 204 L (zvr (ph_R h q 4) :: st) h else none) ∧
  (∀ (q : Nat) (L st : List ZV) (h : PH), zev kJ4_deleteEntry 204 L (zvr (some q) :: st) h = if (ph_K h q).1 % 1000 = 33 then zev kJ4_deleteEntry 207 L (zvr (ph_R h q 2) :: st) h else none) ∧
  (∀ (a b : Option Nat) (L st : List ZV) (h : PH), zev kJ4_deleteEntry 207 L (zvr b :: zvr a :: st) h = if zcomp h a b = true then (if a = b then zev kJ4_deleteEntry 210 L st h else zev kJ4_deleteEntry 221 L st h) else none) ∧
  (∀ (x0 : ZV) (a : Option Nat) (L st : List ZV) (h : PH), zev kJ4_deleteEntry 210 (x0 :: zvr a :: L) st h = zev kJ4_deleteEntry 211 (x0 :: zvr a :: L) (zvr a :: st) h) ∧
  (∀ (q : Nat) (L st : List ZV) (h : PH), zev kJ4_deleteEntry 211 L (zvr (some q) :: st) h = if (ph_K h q).1 % 1000 = 33 then zev kJ4_deleteEntry 214 L (zvr (ph_R h q 4) :: st) h else none) ∧
  (∀ (L st : List ZV) (h : PH), zev kJ4_deleteEntry 214 L st h = zev kJ4_deleteEntry 215 L (zvr none :: st) h) ∧
  (∀ (a : Option Nat) (q : Nat) (L st : List ZV) (h : PH), zev kJ4_deleteEntry 215 L (zvr a :: zvr (some q) :: st) h = if (ph_K h q).1 = 33 then zev kJ4_deleteEntry 218 L st (st_R h q 2 a) else none) ∧
  (∀ (L st : List ZV) (h : PH), zev kJ4_deleteEntry 218 L st h = zev kJ4_deleteEntry 240 L st h) ∧
  (∀ (x0 : ZV) (a : Option Nat) (L st : List ZV) (h : PH), zev kJ4_deleteEntry 221 (x0 :: zvr a :: L) st h = zev kJ4_deleteEntry 222 (x0 :: zvr a :: L) (zvr a :: st) h) ∧
  (∀ (x0 : ZV) (a : Option Nat) (L st : List ZV) (h : PH), zev kJ4_deleteEntry 222 (x0 :: zvr a :: L) st h = zev kJ4_deleteEntry 223 (x0 :: zvr a :: L) (zvr a :: st) h) ∧
  (∀ (q : Nat) (L st : List ZV) (h : PH), zev kJ4_deleteEntry 223 L (zvr (some q) :: st) h = if (ph_K h q).1 % 1000 = 33 then zev kJ4_deleteEntry 226 L (zvr (ph_R h q 4) :: st) h else none) ∧
  (∀ (q : Nat) (L st : List ZV) (h : PH), zev kJ4_deleteEntry 226 L (zvr (some q) :: st) h = if (ph_K h q).1 % 1000 = 33 then zev kJ4_deleteEntry 229 L (zvr (ph_R h q 3) :: st) h else none) ∧
  (∀ (a b : Option Nat) (L st : List ZV) (h : PH), zev kJ4_deleteEntry 229 L (zvr b :: zvr a :: st) h = if zcomp h a b = true then (if a = b then zev kJ4_deleteEntry 232 L st h else zev kJ4_deleteEntry 240 L st h) else none) ∧
  (∀ (x0 : ZV) (a : Option Nat) (L st : List ZV) (h : PH), zev kJ4_deleteEntry 232 (x0 :: zvr a :: L) st h = zev kJ4_deleteEntry 233 (x0 :: zvr a :: L) (zvr a :: st) h) ∧
  (∀ (q : Nat) (L st : List ZV) (h : PH), zev kJ4_deleteEntry 233 L (zvr (some q) :: st) h = if (ph_K h q).1 % 1000 = 33 then zev kJ4_deleteEntry 236 L (zvr (ph_R h q 4) :: st) h else none) ∧
  (∀ (L st : List ZV) (h : PH), zev kJ4_deleteEntry 236 L st h = zev kJ4_deleteEntry 237 L (zvr none :: st) h) ∧
  (∀ (a : Option Nat) (q : Nat) (L st : List ZV) (h : PH), zev kJ4_deleteEntry 237 L (zvr a :: zvr (some q) :: st) h = if (ph_K h q).1 = 33 then zev kJ4_deleteEntry 240 L st (st_R h q 3 a) else none) ∧
  (∀ (x0 : ZV) (a : Option Nat) (L st : List ZV) (h : PH), zev kJ4_deleteEntry 240 (x0 :: zvr a :: L) st h = zev kJ4_deleteEntry 241 (x0 :: zvr a :: L) (zvr a :: st) h) ∧
  (∀ (L st : List ZV) (h : PH), zev kJ4_deleteEntry 241 L st h = zev kJ4_deleteEntry 242 L (zvr none :: st) h) ∧
  (∀ (a : Option Nat) (q : Nat) (L st : List ZV) (h : PH), zev kJ4_deleteEntry 242 L (zvr a :: zvr (some q) :: st) h = if (ph_K h q).1 = 33 then zev kJ4_deleteEntry 245 L st (st_R h q 4 a) else none) ∧
  (∀ (L : List ZV) (h : PH), zev kJ4_deleteEntry 245 L [] h = zr0 h) :=
  ⟨fun a L st h => e_ld0R (n := 1) rfl,
  fun a L st h => e_dupI (n := 2) rfl,
  fun a L st h => e_dupR (n := 2) rfl,
  fun q L st h => e_getI (kd := 32) (k := 5) (n := 5) rfl,
  fun L st h => e_push (v := zvi 1) (n := 6) rfl,
  fun a b L st h => e_bin (f := (fun a b => w32 (a + b))) (n := 7) rfl,
  fun a q L st h => e_putI (kd := 32) (k := 5) (n := 10) rfl,
  fun a L st h => e_ld0R (n := 11) rfl,
  fun a L st h => e_dupI (n := 12) rfl,
  fun a L st h => e_dupR (n := 12) rfl,
  fun q L st h => e_getI (kd := 32) (k := 4) (n := 15) rfl,
  fun L st h => e_push (v := zvi 1) (n := 16) rfl,
  fun a b L st h => e_bin (f := (fun a b => w32 (a - b))) (n := 17) rfl,
  fun a q L st h => e_putI (kd := 32) (k := 4) (n := 20) rfl,
  fun x0 a L st h => e_ld1R (n := 21) rfl,
  fun q L st h => e_getR (kd := 33) (k := 2) (n := 24) rfl,
  fun L st h => e_null0 (t := 57) (n := 27) rfl,
  fun q L st h => e_null1 (t := 57) (n := 27) rfl,
  fun x0 a L st h => e_ld1R (n := 28) rfl,
  fun q L st h => e_getR (kd := 33) (k := 3) (n := 31) rfl,
  fun L st h => e_null0 (t := 57) (n := 34) rfl,
  fun q L st h => e_null1 (t := 57) (n := 34) rfl,
  fun x0 a L st h => e_ld1R (n := 35) rfl,
  fun v0 L st h => e_callS1 (F := mJ4_successor) (n := 38) rfl,
  fun x0 x1 x2 a L st h hx => e_st2R (n := 39) rfl hx,
  fun x0 a L st h => e_ld1R (n := 40) rfl,
  fun x0 x1 a L st h => e_ld2R (n := 41) rfl,
  fun q L st h => e_getR (kd := 33) (k := 0) (n := 44) rfl,
  fun a q L st h => e_putR (kd := 33) (k := 0) (n := 47) rfl,
  fun x0 a L st h => e_ld1R (n := 48) rfl,
  fun x0 x1 a L st h => e_ld2R (n := 49) rfl,
  fun q L st h => e_getR (kd := 33) (k := 1) (n := 52) rfl,
  fun a q L st h => e_putR (kd := 33) (k := 1) (n := 55) rfl,
  fun x0 x1 a L st h => e_ld2R (n := 56) rfl,
  fun x0 x1 a L st h hx => e_st1R (n := 57) rfl hx,
  fun x0 a L st h => e_ld1R (n := 58) rfl,
  fun q L st h => e_getR (kd := 33) (k := 2) (n := 61) rfl,
  fun L st h => e_null0 (t := 71) (n := 64) rfl,
  fun q L st h => e_null1 (t := 71) (n := 64) rfl,
  fun x0 a L st h => e_ld1R (n := 65) rfl,
  fun q L st h => e_getR (kd := 33) (k := 2) (n := 68) rfl,
  fun L st h => e_goto (t := 75) rfl,
  fun x0 a L st h => e_ld1R (n := 72) rfl,
  fun q L st h => e_getR (kd := 33) (k := 3) (n := 75) rfl,
  fun x0 x1 x2 a L st h hx => e_st2R (n := 76) rfl hx,
  fun x0 x1 a L st h => e_ld2R (n := 77) rfl,
  fun L st h => e_null0 (t := 164) (n := 80) rfl,
  fun q L st h => e_null1 (t := 164) (n := 80) rfl,
  fun x0 x1 a L st h => e_ld2R (n := 81) rfl,
  fun x0 a L st h => e_ld1R (n := 82) rfl,
  fun q L st h => e_getR (kd := 33) (k := 4) (n := 85) rfl,
  fun a q L st h => e_putR (kd := 33) (k := 4) (n := 88) rfl,
  fun x0 a L st h => e_ld1R (n := 89) rfl,
  fun q L st h => e_getR (kd := 33) (k := 4) (n := 92) rfl,
  fun L st h => e_nonnull0 (t := 103) (n := 95) rfl,
  fun q L st h => e_nonnull1 (t := 103) (n := 95) rfl,
  fun a L st h => e_ld0R (n := 96) rfl,
  fun x0 x1 a L st h => e_ld2R (n := 97) rfl,
  fun a q L st h => e_putR (kd := 32) (k := 3) (n := 100) rfl,
  fun L st h => e_goto (t := 133) rfl,
  fun x0 a L st h => e_ld1R (n := 104) rfl,
  fun x0 a L st h => e_ld1R (n := 105) rfl,
  fun q L st h => e_getR (kd := 33) (k := 4) (n := 108) rfl,
  fun q L st h => e_getR (kd := 33) (k := 2) (n := 111) rfl,
  fun a b L st h => e_acmp (t := 114) (n := 125) rfl,
  fun x0 a L st h => e_ld1R (n := 115) rfl,
  fun q L st h => e_getR (kd := 33) (k := 4) (n := 118) rfl,
  fun x0 x1 a L st h => e_ld2R (n := 119) rfl,
  fun a q L st h => e_putR (kd := 33) (k := 2) (n := 122) rfl,
  fun L st h => e_goto (t := 133) rfl,
  fun x0 a L st h => e_ld1R (n := 126) rfl,
  fun q L st h => e_getR (kd := 33) (k := 4) (n := 129) rfl,
  fun x0 x1 a L st h => e_ld2R (n := 130) rfl,
  fun a q L st h => e_putR (kd := 33) (k := 3) (n := 133) rfl,
  fun x0 a L st h => e_ld1R (n := 134) rfl,
  fun x0 a L st h => e_ld1R (n := 135) rfl,
  fun x0 a L st h => e_ld1R (n := 136) rfl,
  fun L st h => e_push (v := zvr none) (n := 137) rfl,
  fun a b L st h => e_dupx1II (n := 138) rfl,
  fun a b L st h => e_dupx1IR (n := 138) rfl,
  fun a b L st h => e_dupx1RI (n := 138) rfl,
  fun a b L st h => e_dupx1RR (n := 138) rfl,
  fun a q L st h => e_putR (kd := 33) (k := 4) (n := 141) rfl,
  fun a b L st h => e_dupx1II (n := 142) rfl,
  fun a b L st h => e_dupx1IR (n := 142) rfl,
  fun a b L st h => e_dupx1RI (n := 142) rfl,
  fun a b L st h => e_dupx1RR (n := 142) rfl,
  fun a q L st h => e_putR (kd := 33) (k := 3) (n := 145) rfl,
  fun a q L st h => e_putR (kd := 33) (k := 2) (n := 148) rfl,
  fun x0 a L st h => e_ld1R (n := 149) rfl,
  fun q L st h => e_getI (kd := 33) (k := 5) (n := 152) rfl,
  fun L st h => e_push (v := zvi 1) (n := 153) rfl,
  fun a b L st h => e_cmpne (t := 245) (n := 156) rfl,
  fun a L st h => e_ld0R (n := 157) rfl,
  fun x0 x1 a L st h => e_ld2R (n := 158) rfl,
  fun v0 q L st h => e_callV2 (F := mJ4_fixAfterDeletion) (kd := 32) (n := 161) rfl,
  fun L st h => e_goto (t := 245) rfl,
  fun x0 a L st h => e_ld1R (n := 165) rfl,
  fun q L st h => e_getR (kd := 33) (k := 4) (n := 168) rfl,
  fun L st h => e_nonnull0 (t := 179) (n := 171) rfl,
  fun q L st h => e_nonnull1 (t := 179) (n := 171) rfl,
  fun a L st h => e_ld0R (n := 172) rfl,
  fun L st h => e_push (v := zvr none) (n := 173) rfl,
  fun a q L st h => e_putR (kd := 32) (k := 3) (n := 176) rfl,
  fun L st h => e_goto (t := 245) rfl,
  fun x0 a L st h => e_ld1R (n := 180) rfl,
  fun q L st h => e_getI (kd := 33) (k := 5) (n := 183) rfl,
  fun L st h => e_push (v := zvi 1) (n := 184) rfl,
  fun a b L st h => e_cmpne (t := 192) (n := 187) rfl,
  fun a L st h => e_ld0R (n := 188) rfl,
  fun x0 a L st h => e_ld1R (n := 189) rfl,
  fun v0 q L st h => e_callV2 (F := mJ4_fixAfterDeletion) (kd := 32) (n := 192) rfl,
  fun x0 a L st h => e_ld1R (n := 193) rfl,
  fun q L st h => e_getR (kd := 33) (k := 4) (n := 196) rfl,
  fun L st h => e_null0 (t := 245) (n := 199) rfl,
  fun q L st h => e_null1 (t := 245) (n := 199) rfl,
  fun x0 a L st h => e_ld1R (n := 200) rfl,
  fun x0 a L st h => e_ld1R (n := 201) rfl,
  fun q L st h => e_getR (kd := 33) (k := 4) (n := 204) rfl,
  fun q L st h => e_getR (kd := 33) (k := 2) (n := 207) rfl,
  fun a b L st h => e_acmp (t := 210) (n := 221) rfl,
  fun x0 a L st h => e_ld1R (n := 211) rfl,
  fun q L st h => e_getR (kd := 33) (k := 4) (n := 214) rfl,
  fun L st h => e_push (v := zvr none) (n := 215) rfl,
  fun a q L st h => e_putR (kd := 33) (k := 2) (n := 218) rfl,
  fun L st h => e_goto (t := 240) rfl,
  fun x0 a L st h => e_ld1R (n := 222) rfl,
  fun x0 a L st h => e_ld1R (n := 223) rfl,
  fun q L st h => e_getR (kd := 33) (k := 4) (n := 226) rfl,
  fun q L st h => e_getR (kd := 33) (k := 3) (n := 229) rfl,
  fun a b L st h => e_acmp (t := 232) (n := 240) rfl,
  fun x0 a L st h => e_ld1R (n := 233) rfl,
  fun q L st h => e_getR (kd := 33) (k := 4) (n := 236) rfl,
  fun L st h => e_push (v := zvr none) (n := 237) rfl,
  fun a q L st h => e_putR (kd := 33) (k := 3) (n := 240) rfl,
  fun x0 a L st h => e_ld1R (n := 241) rfl,
  fun L st h => e_push (v := zvr none) (n := 242) rfl,
  fun a q L st h => e_putR (kd := 33) (k := 4) (n := 245) rfl,
  fun L h => e_ret rfl⟩
theorem allJ4_deleteEntry : zall yJ4_deleteEntry cJ4_deleteEntry 3 none 3 kJ4_deleteEntry.1 :=
  ⟨k_aload_n dJ4_deleteEntry_0,
  k_dup dJ4_deleteEntry_1,
  k_getI (C := RJ4) (T := TJ4) (N := 9) (ci := 16) (k := 5) (ref := "java/util/TreeMap") dJ4_deleteEntry_2 rfl in_J4 (by decide) q204 (Or.inl rfl) (fun _ _ _ => rfl),
  k_iconst dJ4_deleteEntry_5,
  k_iadd dJ4_deleteEntry_6,
  k_putI (C := RJ4) (T := TJ4) (N := 9) (ci := 16) (k := 5) (ref := "java/util/TreeMap") dJ4_deleteEntry_7 rfl in_J4 tyJ4 tyJ4_ok nmJ4 (by decide) (Or.inl q204) (Or.inl rfl) (Or.inl rfl) (tyJ4_ok 5 (by decide)) (fun _ _ _ => rfl),
  k_aload_n dJ4_deleteEntry_10,
  k_dup dJ4_deleteEntry_11,
  k_getI (C := RJ4) (T := TJ4) (N := 9) (ci := 16) (k := 4) (ref := "java/util/TreeMap") dJ4_deleteEntry_12 rfl in_J4 (by decide) q203 (Or.inl rfl) (fun _ _ _ => rfl),
  k_iconst dJ4_deleteEntry_15,
  k_isub dJ4_deleteEntry_16,
  k_putI (C := RJ4) (T := TJ4) (N := 9) (ci := 16) (k := 4) (ref := "java/util/TreeMap") dJ4_deleteEntry_17 rfl in_J4 tyJ4 tyJ4_ok nmJ4 (by decide) (Or.inl q203) (Or.inl rfl) (Or.inl rfl) (tyJ4_ok 4 (by decide)) (fun _ _ _ => rfl),
  k_aload_n dJ4_deleteEntry_20,
  k_getR (C := RJ22) (T := TJ22) (N := 6) (ci := 17) (k := 2) (ref := "java/util/TreeMap$Entry") dJ4_deleteEntry_21 rfl in_J22 (by decide) q1158 (Or.inl rfl) (fun _ _ _ => rfl),
  k_null (t := 57) dJ4_deleteEntry_24 (by decide),
  k_aload_n dJ4_deleteEntry_27,
  k_getR (C := RJ22) (T := TJ22) (N := 6) (ci := 17) (k := 3) (ref := "java/util/TreeMap$Entry") dJ4_deleteEntry_28 rfl in_J22 (by decide) q1159 (Or.inl rfl) (fun _ _ _ => rfl),
  k_null (t := 57) dJ4_deleteEntry_31 (by decide),
  k_aload_n dJ4_deleteEntry_34,
  k_callS (y2 := yJ4_successor) dJ4_deleteEntry_35 sndJ4_successor q1698 q1699 q134 q1700 (by decide +kernel) ⟨by decide, by decide⟩ (by decide) (by decide),
  k_astore_n dJ4_deleteEntry_38,
  k_aload_n dJ4_deleteEntry_39,
  k_aload_n dJ4_deleteEntry_40,
  k_getR (C := RJ22) (T := TJ22) (N := 6) (ci := 17) (k := 0) (ref := "java/util/TreeMap$Entry") dJ4_deleteEntry_41 rfl in_J22 (by decide) q1155 (Or.inl rfl) (fun _ _ _ => rfl),
  k_putR (C := RJ22) (T := TJ22) (N := 6) (ci := 17) (k := 0) (ref := "java/util/TreeMap$Entry") dJ4_deleteEntry_44 rfl in_J22 tyJ22 tyJ22_ok nmJ22 (by decide) (Or.inl q1155) (Or.inl rfl) (Or.inl rfl) (tyJ22_ok 0 (by decide)) (Or.inl ⟨_, rfl⟩) (fun _ _ _ => rfl),
  k_aload_n dJ4_deleteEntry_47,
  k_aload_n dJ4_deleteEntry_48,
  k_getR (C := RJ22) (T := TJ22) (N := 6) (ci := 17) (k := 1) (ref := "java/util/TreeMap$Entry") dJ4_deleteEntry_49 rfl in_J22 (by decide) q1157 (Or.inl rfl) (fun _ _ _ => rfl),
  k_putR (C := RJ22) (T := TJ22) (N := 6) (ci := 17) (k := 1) (ref := "java/util/TreeMap$Entry") dJ4_deleteEntry_52 rfl in_J22 tyJ22 tyJ22_ok nmJ22 (by decide) (Or.inl q1157) (Or.inl rfl) (Or.inl rfl) (tyJ22_ok 1 (by decide)) (Or.inl ⟨_, rfl⟩) (fun _ _ _ => rfl),
  k_aload_n dJ4_deleteEntry_55,
  k_astore_n dJ4_deleteEntry_56,
  k_aload_n dJ4_deleteEntry_57,
  k_getR (C := RJ22) (T := TJ22) (N := 6) (ci := 17) (k := 2) (ref := "java/util/TreeMap$Entry") dJ4_deleteEntry_58 rfl in_J22 (by decide) q1158 (Or.inl rfl) (fun _ _ _ => rfl),
  k_null (t := 71) dJ4_deleteEntry_61 (by decide),
  k_aload_n dJ4_deleteEntry_64,
  k_getR (C := RJ22) (T := TJ22) (N := 6) (ci := 17) (k := 2) (ref := "java/util/TreeMap$Entry") dJ4_deleteEntry_65 rfl in_J22 (by decide) q1158 (Or.inl rfl) (fun _ _ _ => rfl),
  k_goto (t := 75) dJ4_deleteEntry_68 (by decide),
  k_aload_n dJ4_deleteEntry_71,
  k_getR (C := RJ22) (T := TJ22) (N := 6) (ci := 17) (k := 3) (ref := "java/util/TreeMap$Entry") dJ4_deleteEntry_72 rfl in_J22 (by decide) q1159 (Or.inl rfl) (fun _ _ _ => rfl),
  k_astore_n dJ4_deleteEntry_75,
  k_aload_n dJ4_deleteEntry_76,
  k_null (t := 164) dJ4_deleteEntry_77 (by decide),
  k_aload_n dJ4_deleteEntry_80,
  k_aload_n dJ4_deleteEntry_81,
  k_getR (C := RJ22) (T := TJ22) (N := 6) (ci := 17) (k := 4) (ref := "java/util/TreeMap$Entry") dJ4_deleteEntry_82 rfl in_J22 (by decide) q1161 (Or.inl rfl) (fun _ _ _ => rfl),
  k_putR (C := RJ22) (T := TJ22) (N := 6) (ci := 17) (k := 4) (ref := "java/util/TreeMap$Entry") dJ4_deleteEntry_85 rfl in_J22 tyJ22 tyJ22_ok nmJ22 (by decide) (Or.inl q1161) (Or.inl rfl) (Or.inl rfl) (tyJ22_ok 4 (by decide)) (Or.inl ⟨_, rfl⟩) (fun _ _ _ => rfl),
  k_aload_n dJ4_deleteEntry_88,
  k_getR (C := RJ22) (T := TJ22) (N := 6) (ci := 17) (k := 4) (ref := "java/util/TreeMap$Entry") dJ4_deleteEntry_89 rfl in_J22 (by decide) q1161 (Or.inl rfl) (fun _ _ _ => rfl),
  k_nonnull (t := 103) dJ4_deleteEntry_92 (by decide),
  k_aload_n dJ4_deleteEntry_95,
  k_aload_n dJ4_deleteEntry_96,
  k_putR (C := RJ4) (T := TJ4) (N := 9) (ci := 16) (k := 3) (ref := "java/util/TreeMap") dJ4_deleteEntry_97 rfl in_J4 tyJ4 tyJ4_ok nmJ4 (by decide) (Or.inl q202) (Or.inl rfl) (Or.inl rfl) (tyJ4_ok 3 (by decide)) (Or.inl ⟨_, rfl⟩) (fun _ _ _ => rfl),
  k_goto (t := 133) dJ4_deleteEntry_100 (by decide),
  k_aload_n dJ4_deleteEntry_103,
  k_aload_n dJ4_deleteEntry_104,
  k_getR (C := RJ22) (T := TJ22) (N := 6) (ci := 17) (k := 4) (ref := "java/util/TreeMap$Entry") dJ4_deleteEntry_105 rfl in_J22 (by decide) q1161 (Or.inl rfl) (fun _ _ _ => rfl),
  k_getR (C := RJ22) (T := TJ22) (N := 6) (ci := 17) (k := 2) (ref := "java/util/TreeMap$Entry") dJ4_deleteEntry_108 rfl in_J22 (by decide) q1158 (Or.inl rfl) (fun _ _ _ => rfl),
  k_acmpne (t := 125) dJ4_deleteEntry_111 (by decide),
  k_aload_n dJ4_deleteEntry_114,
  k_getR (C := RJ22) (T := TJ22) (N := 6) (ci := 17) (k := 4) (ref := "java/util/TreeMap$Entry") dJ4_deleteEntry_115 rfl in_J22 (by decide) q1161 (Or.inl rfl) (fun _ _ _ => rfl),
  k_aload_n dJ4_deleteEntry_118,
  k_putR (C := RJ22) (T := TJ22) (N := 6) (ci := 17) (k := 2) (ref := "java/util/TreeMap$Entry") dJ4_deleteEntry_119 rfl in_J22 tyJ22 tyJ22_ok nmJ22 (by decide) (Or.inl q1158) (Or.inl rfl) (Or.inl rfl) (tyJ22_ok 2 (by decide)) (Or.inl ⟨_, rfl⟩) (fun _ _ _ => rfl),
  k_goto (t := 133) dJ4_deleteEntry_122 (by decide),
  k_aload_n dJ4_deleteEntry_125,
  k_getR (C := RJ22) (T := TJ22) (N := 6) (ci := 17) (k := 4) (ref := "java/util/TreeMap$Entry") dJ4_deleteEntry_126 rfl in_J22 (by decide) q1161 (Or.inl rfl) (fun _ _ _ => rfl),
  k_aload_n dJ4_deleteEntry_129,
  k_putR (C := RJ22) (T := TJ22) (N := 6) (ci := 17) (k := 3) (ref := "java/util/TreeMap$Entry") dJ4_deleteEntry_130 rfl in_J22 tyJ22 tyJ22_ok nmJ22 (by decide) (Or.inl q1159) (Or.inl rfl) (Or.inl rfl) (tyJ22_ok 3 (by decide)) (Or.inl ⟨_, rfl⟩) (fun _ _ _ => rfl),
  k_aload_n dJ4_deleteEntry_133,
  k_aload_n dJ4_deleteEntry_134,
  k_aload_n dJ4_deleteEntry_135,
  k_anull dJ4_deleteEntry_136,
  k_dupx1 dJ4_deleteEntry_137,
  k_putR (C := RJ22) (T := TJ22) (N := 6) (ci := 17) (k := 4) (ref := "java/util/TreeMap$Entry") dJ4_deleteEntry_138 rfl in_J22 tyJ22 tyJ22_ok nmJ22 (by decide) (Or.inl q1161) (Or.inl rfl) (Or.inl rfl) (tyJ22_ok 4 (by decide)) (Or.inl ⟨_, rfl⟩) (fun _ _ _ => rfl),
  k_dupx1 dJ4_deleteEntry_141,
  k_putR (C := RJ22) (T := TJ22) (N := 6) (ci := 17) (k := 3) (ref := "java/util/TreeMap$Entry") dJ4_deleteEntry_142 rfl in_J22 tyJ22 tyJ22_ok nmJ22 (by decide) (Or.inl q1159) (Or.inl rfl) (Or.inl rfl) (tyJ22_ok 3 (by decide)) (Or.inl ⟨_, rfl⟩) (fun _ _ _ => rfl),
  k_putR (C := RJ22) (T := TJ22) (N := 6) (ci := 17) (k := 2) (ref := "java/util/TreeMap$Entry") dJ4_deleteEntry_145 rfl in_J22 tyJ22 tyJ22_ok nmJ22 (by decide) (Or.inl q1158) (Or.inl rfl) (Or.inl rfl) (tyJ22_ok 2 (by decide)) (Or.inl ⟨_, rfl⟩) (fun _ _ _ => rfl),
  k_aload_n dJ4_deleteEntry_148,
  k_getI (C := RJ22) (T := TJ22) (N := 6) (ci := 17) (k := 5) (ref := "java/util/TreeMap$Entry") dJ4_deleteEntry_149 rfl in_J22 (by decide) q1163 (Or.inl rfl) (fun _ _ _ => rfl),
  k_iconst dJ4_deleteEntry_152,
  k_cmpne (t := 245) dJ4_deleteEntry_153 (by decide),
  k_aload_n dJ4_deleteEntry_156,
  k_aload_n dJ4_deleteEntry_157,
  k_callV (y2 := yJ4_fixAfterDeletion) (C := RJ4) (T0 := TJ4) (ci := 16) dJ4_deleteEntry_158 sndJ4_fixAfterDeletion rfl q1701 q1703 qs65 q134 q1704 (by decide +kernel) ⟨by decide, by decide⟩ (by decide) (by decide),
  k_goto (t := 245) dJ4_deleteEntry_161 (by decide),
  k_aload_n dJ4_deleteEntry_164,
  k_getR (C := RJ22) (T := TJ22) (N := 6) (ci := 17) (k := 4) (ref := "java/util/TreeMap$Entry") dJ4_deleteEntry_165 rfl in_J22 (by decide) q1161 (Or.inl rfl) (fun _ _ _ => rfl),
  k_nonnull (t := 179) dJ4_deleteEntry_168 (by decide),
  k_aload_n dJ4_deleteEntry_171,
  k_anull dJ4_deleteEntry_172,
  k_putR (C := RJ4) (T := TJ4) (N := 9) (ci := 16) (k := 3) (ref := "java/util/TreeMap") dJ4_deleteEntry_173 rfl in_J4 tyJ4 tyJ4_ok nmJ4 (by decide) (Or.inl q202) (Or.inl rfl) (Or.inl rfl) (tyJ4_ok 3 (by decide)) (Or.inl ⟨_, rfl⟩) (fun _ _ _ => rfl),
  k_goto (t := 245) dJ4_deleteEntry_176 (by decide),
  k_aload_n dJ4_deleteEntry_179,
  k_getI (C := RJ22) (T := TJ22) (N := 6) (ci := 17) (k := 5) (ref := "java/util/TreeMap$Entry") dJ4_deleteEntry_180 rfl in_J22 (by decide) q1163 (Or.inl rfl) (fun _ _ _ => rfl),
  k_iconst dJ4_deleteEntry_183,
  k_cmpne (t := 192) dJ4_deleteEntry_184 (by decide),
  k_aload_n dJ4_deleteEntry_187,
  k_aload_n dJ4_deleteEntry_188,
  k_callV (y2 := yJ4_fixAfterDeletion) (C := RJ4) (T0 := TJ4) (ci := 16) dJ4_deleteEntry_189 sndJ4_fixAfterDeletion rfl q1701 q1703 qs65 q134 q1704 (by decide +kernel) ⟨by decide, by decide⟩ (by decide) (by decide),
  k_aload_n dJ4_deleteEntry_192,
  k_getR (C := RJ22) (T := TJ22) (N := 6) (ci := 17) (k := 4) (ref := "java/util/TreeMap$Entry") dJ4_deleteEntry_193 rfl in_J22 (by decide) q1161 (Or.inl rfl) (fun _ _ _ => rfl),
  k_null (t := 245) dJ4_deleteEntry_196 (by decide),
  k_aload_n dJ4_deleteEntry_199,
  k_aload_n dJ4_deleteEntry_200,
  k_getR (C := RJ22) (T := TJ22) (N := 6) (ci := 17) (k := 4) (ref := "java/util/TreeMap$Entry") dJ4_deleteEntry_201 rfl in_J22 (by decide) q1161 (Or.inl rfl) (fun _ _ _ => rfl),
  k_getR (C := RJ22) (T := TJ22) (N := 6) (ci := 17) (k := 2) (ref := "java/util/TreeMap$Entry") dJ4_deleteEntry_204 rfl in_J22 (by decide) q1158 (Or.inl rfl) (fun _ _ _ => rfl),
  k_acmpne (t := 221) dJ4_deleteEntry_207 (by decide),
  k_aload_n dJ4_deleteEntry_210,
  k_getR (C := RJ22) (T := TJ22) (N := 6) (ci := 17) (k := 4) (ref := "java/util/TreeMap$Entry") dJ4_deleteEntry_211 rfl in_J22 (by decide) q1161 (Or.inl rfl) (fun _ _ _ => rfl),
  k_anull dJ4_deleteEntry_214,
  k_putR (C := RJ22) (T := TJ22) (N := 6) (ci := 17) (k := 2) (ref := "java/util/TreeMap$Entry") dJ4_deleteEntry_215 rfl in_J22 tyJ22 tyJ22_ok nmJ22 (by decide) (Or.inl q1158) (Or.inl rfl) (Or.inl rfl) (tyJ22_ok 2 (by decide)) (Or.inl ⟨_, rfl⟩) (fun _ _ _ => rfl),
  k_goto (t := 240) dJ4_deleteEntry_218 (by decide),
  k_aload_n dJ4_deleteEntry_221,
  k_aload_n dJ4_deleteEntry_222,
  k_getR (C := RJ22) (T := TJ22) (N := 6) (ci := 17) (k := 4) (ref := "java/util/TreeMap$Entry") dJ4_deleteEntry_223 rfl in_J22 (by decide) q1161 (Or.inl rfl) (fun _ _ _ => rfl),
  k_getR (C := RJ22) (T := TJ22) (N := 6) (ci := 17) (k := 3) (ref := "java/util/TreeMap$Entry") dJ4_deleteEntry_226 rfl in_J22 (by decide) q1159 (Or.inl rfl) (fun _ _ _ => rfl),
  k_acmpne (t := 240) dJ4_deleteEntry_229 (by decide),
  k_aload_n dJ4_deleteEntry_232,
  k_getR (C := RJ22) (T := TJ22) (N := 6) (ci := 17) (k := 4) (ref := "java/util/TreeMap$Entry") dJ4_deleteEntry_233 rfl in_J22 (by decide) q1161 (Or.inl rfl) (fun _ _ _ => rfl),
  k_anull dJ4_deleteEntry_236,
  k_putR (C := RJ22) (T := TJ22) (N := 6) (ci := 17) (k := 3) (ref := "java/util/TreeMap$Entry") dJ4_deleteEntry_237 rfl in_J22 tyJ22 tyJ22_ok nmJ22 (by decide) (Or.inl q1159) (Or.inl rfl) (Or.inl rfl) (tyJ22_ok 3 (by decide)) (Or.inl ⟨_, rfl⟩) (fun _ _ _ => rfl),
  k_aload_n dJ4_deleteEntry_240,
  k_anull dJ4_deleteEntry_241,
  k_putR (C := RJ22) (T := TJ22) (N := 6) (ci := 17) (k := 4) (ref := "java/util/TreeMap$Entry") dJ4_deleteEntry_242 rfl in_J22 tyJ22 tyJ22_ok nmJ22 (by decide) (Or.inl q1161) (Or.inl rfl) (Or.inl rfl) (tyJ22_ok 4 (by decide)) (Or.inl ⟨_, rfl⟩) (fun _ _ _ => rfl),
  k_ret dJ4_deleteEntry_245, trivial⟩
theorem sndJ4_deleteEntry : MSound 3 yJ4_deleteEntry (ws_ yJ4_deleteEntry cJ4_deleteEntry 3 none) mJ4_deleteEntry := msound_M (by decide) allJ4_deleteEntry (fun _ _ => rfl)
/-! java/util/TreeMap.remove(Ljava/lang/Object;)Ljava/lang/Object; -/
noncomputable def kJ4_remove : ZM := ([(0, zi_ld 1 0 1), (1, zi_ld 1 1 2), (2, zi_callV mJ4_getEntry 32 2 5), (5, zi_st 1 2 6), (6, zi_ld 1 2 7), (7, zi_nonnull 12 10), (10, zi_push (zvr none) 11), (11, zi_retv 1), (12, zi_ld 1 2 13), (13, zi_getR 33 1 16), (16, zi_st 1 3 17), (17, zi_ld 1 0 18), (18, zi_ld 1 2 19), (19, zi_callV mJ4_deleteEntry 32 2 22), (22, zi_ld 1 3 23), (23, zi_retv 1)], fun _ _ => none)
noncomputable def mJ4_remove : ZF := zrunM kJ4_remove 4
theorem enJ4_remove (x0 : Option Nat) (x1 : Option Nat) (h : PH) : mJ4_remove [zvr x0, zvr x1] h = zev kJ4_remove 0 [zvr x0, zvr x1, zvu, zvu] [] h := zrunM_eq rfl rfl
theorem rJ4_remove : (∀ (a : Option Nat) (L st : List ZV) (h : PH), zev kJ4_remove 0 (zvr a :: L) st h = zev kJ4_remove 1 (zvr a :: L) (zvr a :: st) h) ∧
  (∀ (x0 : ZV) (a : Option Nat) (L st : List ZV) (h : PH), zev kJ4_remove 1 (x0 :: zvr a :: L) st h = zev kJ4_remove 2 (x0 :: zvr a :: L) (zvr a :: st) h) ∧
  (∀ (v0 : ZV) (q : Nat) (L st : List ZV) (h : PH), zev kJ4_remove 2 L (v0 :: zvr (some q) :: st) h = if (ph_K h q).1 % 1000 = 32 ∧ zcat st ≤ 8 then zk kJ4_remove 2 5 L st (mJ4_getEntry [zvr (some q), v0] h) else none) ∧
  (∀ (x0 x1 x2 : ZV) (a : Option Nat) (L st : List ZV) (h : PH) (hx : zisL x1 = false) , zev kJ4_remove 5 (x0 :: x1 :: x2 :: L) (zvr a :: st) h = zev kJ4_remove 6 (x0 :: x1 :: zvr a :: L) st h) ∧
  (∀ (x0 x1 : ZV) (a : Option Nat) (L st : List ZV) (h : PH), zev kJ4_remove 6 (x0 :: x1 :: zvr a :: L) st h = zev kJ4_remove 7 (x0 :: x1 :: zvr a :: L) (zvr a :: st) h) ∧
  (∀ (L st : List ZV) (h : PH), zev kJ4_remove 7 L (zvr none :: st) h = zev kJ4_remove 10 L st h) ∧
  (∀ (q : Nat) (L st : List ZV) (h : PH), zev kJ4_remove 7 L (zvr (some q) :: st) h = if (ph_K h q).1 ≠ 0 then zev kJ4_remove 12 L st h else none) ∧
  (∀ (L st : List ZV) (h : PH), zev kJ4_remove 10 L st h = zev kJ4_remove 11 L (zvr none :: st) h) ∧
  (∀ (a : Option Nat) (L : List ZV) (h : PH), zev kJ4_remove 11 L [zvr a] h = zrv (zvr a) h) ∧
  (∀ (x0 x1 : ZV) (a : Option Nat) (L st : List ZV) (h : PH), zev kJ4_remove 12 (x0 :: x1 :: zvr a :: L) st h = zev kJ4_remove 13 (x0 :: x1 :: zvr a :: L) (zvr a :: st) h) ∧
  (∀ (q : Nat) (L st : List ZV) (h : PH), zev kJ4_remove 13 L (zvr (some q) :: st) h = if (ph_K h q).1 % 1000 = 33 then zev kJ4_remove 16 L (zvr (ph_R h q 1) :: st) h else none) ∧
  (∀ (x0 x1 x2 x3 : ZV) (a : Option Nat) (L st : List ZV) (h : PH) (hx : zisL x2 = false) , zev kJ4_remove 16 (x0 :: x1 :: x2 :: x3 :: L) (zvr a :: st) h = zev kJ4_remove 17 (x0 :: x1 :: x2 :: zvr a :: L) st h) ∧
  (∀ (a : Option Nat) (L st : List ZV) (h : PH), zev kJ4_remove 17 (zvr a :: L) st h = zev kJ4_remove 18 (zvr a :: L) (zvr a :: st) h) ∧
  (∀ (x0 x1 : ZV) (a : Option Nat) (L st : List ZV) (h : PH), zev kJ4_remove 18 (x0 :: x1 :: zvr a :: L) st h = zev kJ4_remove 19 (x0 :: x1 :: zvr a :: L) (zvr a :: st) h) ∧
  (∀ (v0 : ZV) (q : Nat) (L st : List ZV) (h : PH), zev kJ4_remove 19 L (v0 :: zvr (some q) :: st) h = if (ph_K h q).1 % 1000 = 32 ∧ zcat st ≤ 8 then zk kJ4_remove 19 22 L st (mJ4_deleteEntry [zvr (some q), v0] h) else none) ∧
  (∀ (x0 x1 x2 : ZV) (a : Option Nat) (L st : List ZV) (h : PH), zev kJ4_remove 22 (x0 :: x1 :: x2 :: zvr a :: L) st h = zev kJ4_remove 23 (x0 :: x1 :: x2 :: zvr a :: L) (zvr a :: st) h) ∧
  (∀ (a : Option Nat) (L : List ZV) (h : PH), zev kJ4_remove 23 L [zvr a] h = zrv (zvr a) h) :=
  ⟨fun a L st h => e_ld0R (n := 1) rfl,
  fun x0 a L st h => e_ld1R (n := 2) rfl,
  fun v0 q L st h => e_callV2 (F := mJ4_getEntry) (kd := 32) (n := 5) rfl,
  fun x0 x1 x2 a L st h hx => e_st2R (n := 6) rfl hx,
  fun x0 x1 a L st h => e_ld2R (n := 7) rfl,
  fun L st h => e_nonnull0 (t := 12) (n := 10) rfl,
  fun q L st h => e_nonnull1 (t := 12) (n := 10) rfl,
  fun L st h => e_push (v := zvr none) (n := 11) rfl,
  fun a L h => e_retR rfl,
  fun x0 x1 a L st h => e_ld2R (n := 13) rfl,
  fun q L st h => e_getR (kd := 33) (k := 1) (n := 16) rfl,
  fun x0 x1 x2 x3 a L st h hx => e_st3R (n := 17) rfl hx,
  fun a L st h => e_ld0R (n := 18) rfl,
  fun x0 x1 a L st h => e_ld2R (n := 19) rfl,
  fun v0 q L st h => e_callV2 (F := mJ4_deleteEntry) (kd := 32) (n := 22) rfl,
  fun x0 x1 x2 a L st h => e_ld3R (n := 23) rfl,
  fun a L h => e_retR rfl⟩
theorem allJ4_remove : zall yJ4_remove cJ4_remove 4 (some (.object "java/lang/Object")) 6 kJ4_remove.1 :=
  ⟨k_aload_n dJ4_remove_0,
  k_aload_n dJ4_remove_1,
  k_callV (y2 := yJ4_getEntry) (C := RJ4) (T0 := TJ4) (ci := 16) dJ4_remove_2 sndJ4_getEntry rfl q1686 q1687 q1688 q134 q1689 (by decide +kernel) ⟨by decide, by decide⟩ (by decide) (by decide),
  k_astore_n dJ4_remove_5,
  k_aload_n dJ4_remove_6,
  k_nonnull (t := 12) dJ4_remove_7 (by decide),
  k_anull dJ4_remove_10,
  k_aret dJ4_remove_11 rfl (Or.inl ⟨_, rfl⟩),
  k_aload_n dJ4_remove_12,
  k_getR (C := RJ22) (T := TJ22) (N := 6) (ci := 17) (k := 1) (ref := "java/util/TreeMap$Entry") dJ4_remove_13 rfl in_J22 (by decide) q1157 (Or.inl rfl) (fun _ _ _ => rfl),
  k_astore_n dJ4_remove_16,
  k_aload_n dJ4_remove_17,
  k_aload_n dJ4_remove_18,
  k_callV (y2 := yJ4_deleteEntry) (C := RJ4) (T0 := TJ4) (ci := 16) dJ4_remove_19 sndJ4_deleteEntry rfl q1694 q1696 qs64 q134 q1697 (by decide +kernel) ⟨by decide, by decide⟩ (by decide) (by decide),
  k_aload_n dJ4_remove_22,
  k_aret dJ4_remove_23 rfl (Or.inl ⟨_, rfl⟩), trivial⟩
theorem sndJ4_remove : MSound 6 yJ4_remove (ws_ yJ4_remove cJ4_remove 4 (some (.object "java/lang/Object"))) mJ4_remove := msound_M (by decide) allJ4_remove (fun _ _ => rfl)
