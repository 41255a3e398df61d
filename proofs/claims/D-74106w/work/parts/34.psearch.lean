set_option maxRecDepth 100000
/-! Z program: java/util/ArrayList (written by gen/gen_prog.py) -/
set_option maxRecDepth 100000
/-! java/util/ArrayList.<init>()V -/
noncomputable def kJ7_init : ZM := ([(0, zi_ld 1 0 1), (1, zi_callV mJ6_init_v13 29 1 4), (4, zi_ld 1 0 5), (5, zi_push (zvr (some 1000000001)) 8), (8, zi_putR 29 1 11), (11, zi_ret)], fun _ _ => none)
noncomputable def mJ7_init : ZF := zrunM kJ7_init 1
theorem enJ7_init (x0 : Option Nat) (h : PH) : mJ7_init [zvr x0] h = zev kJ7_init 0 [zvr x0] [] h := zrunM_eq rfl rfl
theorem rJ7_init : (∀ (a : Option Nat) (L st : List ZV) (h : PH), zev kJ7_init 0 (zvr a :: L) st h = zev kJ7_init 1 (zvr a :: L) (zvr a :: st) h) ∧
  (∀ (q : Nat) (L st : List ZV) (h : PH), zev kJ7_init 1 L (zvr (some q) :: st) h = if (ph_K h q).1 % 1000 = 29 ∧ zcat st ≤ 8 then zk kJ7_init 1 4 L st (mJ6_init_v13 [zvr (some q)] h) else none) ∧
  (∀ (a : Option Nat) (L st : List ZV) (h : PH), zev kJ7_init 4 (zvr a :: L) st h = zev kJ7_init 5 (zvr a :: L) (zvr a :: st) h) ∧
  (∀ (L st : List ZV) (h : PH), zev kJ7_init 5 L st h = zev kJ7_init 8 L (zvr (some 1000000001) :: st) h) ∧
  (∀ (a : Option Nat) (q : Nat) (L st : List ZV) (h : PH), zev kJ7_init 8 L (zvr a :: zvr (some q) :: st) h = if (ph_K h q).1 = 29 then zev kJ7_init 11 L st (st_R h q 1 a) else none) ∧
  (∀ (L : List ZV) (h : PH), zev kJ7_init 11 L [] h = zr0 h) :=
  ⟨fun a L st h => e_ld0R (n := 1) rfl,
  fun q L st h => e_callV1 (F := mJ6_init_v13) (kd := 29) (n := 4) rfl,
  fun a L st h => e_ld0R (n := 5) rfl,
  fun L st h => e_push (v := zvr (some 1000000001)) (n := 8) rfl,
  fun a q L st h => e_putR (kd := 29) (k := 1) (n := 11) rfl,
  fun L h => e_ret rfl⟩
theorem allJ7_init : zall yJ7_init cJ7_init 1 none 4 kJ7_init.1 :=
  ⟨k_aload_n dJ7_init_0,
  k_callI (y2 := yJ6_init) (C := RJ7) (T0 := TJ7) (ci := 13) dJ7_init_1 sndJ6_init_v13 rfl q399 q400 q140 q401 rfl (by decide +kernel) ⟨by decide, by decide⟩ (by decide) (by decide),
  k_aload_n dJ7_init_4,
  k_gets (C := "java/util/ArrayList") dJ7_init_5 (List.mem_of_getElem? (i := 0) rfl) q403 rfl trivial,
  k_putR (C := RJ7) (T := TJ7) (N := 3) (ci := 13) (k := 1) (ref := "java/util/ArrayList") dJ7_init_8 rfl in_J7 tyJ7 tyJ7_ok nmJ7 (by decide) (Or.inl q405) (Or.inl rfl) (Or.inl rfl) (tyJ7_ok 1 (by decide)) (Or.inr ⟨_, rfl⟩) (fun _ _ _ => rfl),
  k_ret dJ7_init_11, trivial⟩
theorem sndJ7_init : MSound 4 yJ7_init (ws_ yJ7_init cJ7_init 1 none) mJ7_init := msound_M (by decide) allJ7_init (fun _ _ => rfl)
/-! java/util/ArrayList.size()I -/
noncomputable def kJ7_size : ZM := ([(0, zi_ld 1 0 1), (1, zi_getI 29 2 4), (4, zi_retv 0)], fun _ _ => none)
noncomputable def mJ7_size : ZF := zrunM kJ7_size 1
theorem enJ7_size (x0 : Option Nat) (h : PH) : mJ7_size [zvr x0] h = zev kJ7_size 0 [zvr x0] [] h := zrunM_eq rfl rfl
theorem rJ7_size : (∀ (a : Option Nat) (L st : List ZV) (h : PH), zev kJ7_size 0 (zvr a :: L) st h = zev kJ7_size 1 (zvr a :: L) (zvr a :: st) h) ∧
  (∀ (q : Nat) (L st : List ZV) (h : PH), zev kJ7_size 1 L (zvr (some q) :: st) h = if (ph_K h q).1 % 1000 = 29 then zev kJ7_size 4 L (zvi (ph_I h q 2) :: st) h else none) ∧
  (∀ (a : Int) (L : List ZV) (h : PH), zev kJ7_size 4 L [zvi a] h = zrv (zvi a) h) :=
  ⟨fun a L st h => e_ld0R (n := 1) rfl,
  fun q L st h => e_getI (kd := 29) (k := 2) (n := 4) rfl,
  fun a L h => e_retI rfl⟩
theorem allJ7_size : zall yJ7_size cJ7_size 1 (some .int) 1 kJ7_size.1 :=
  ⟨k_aload_n dJ7_size_0,
  k_getI (C := RJ7) (T := TJ7) (N := 3) (ci := 13) (k := 2) (ref := "java/util/ArrayList") dJ7_size_1 rfl in_J7 (by decide) q406 (Or.inl rfl) (fun _ _ _ => rfl),
  k_iret dJ7_size_4, trivial⟩
theorem sndJ7_size : MSound 1 yJ7_size (ws_ yJ7_size cJ7_size 1 (some .int)) mJ7_size := msound_M (by decide) allJ7_size (fun _ _ => rfl)
/-! java/util/ArrayList.elementData(I)Ljava/lang/Object; -/
noncomputable def kJ7_elementData : ZM := ([(0, zi_ld 1 0 1), (1, zi_getR 29 1 4), (4, zi_ld 0 1 5), (5, zi_aldR 6), (6, zi_retv 1)], fun _ _ => none)
noncomputable def mJ7_elementData : ZF := zrunM kJ7_elementData 2
theorem enJ7_elementData (x0 : Option Nat) (x1 : Int) (h : PH) : mJ7_elementData [zvr x0, zvi x1] h = zev kJ7_elementData 0 [zvr x0, zvi x1] [] h := zrunM_eq rfl rfl
theorem rJ7_elementData : (∀ (a : Option Nat) (L st : List ZV) (h : PH), zev kJ7_elementData 0 (zvr a :: L) st h = zev kJ7_elementData 1 (zvr a :: L) (zvr a :: st) h) ∧
  (∀ (q : Nat) (L st : List ZV) (h : PH), zev kJ7_elementData 1 L (zvr (some q) :: st) h = if (ph_K h q).1 % 1000 = 29 then zev kJ7_elementData 4 L (zvr (ph_R h q 1) :: st) h else none) ∧
  (∀ (x0 : ZV) (a : Int) (L st : List ZV) (h : PH), zev kJ7_elementData 4 (x0 :: zvi a :: L) st h = zev kJ7_elementData 5 (x0 :: zvi a :: L) (zvi a :: st) h) ∧
  (∀ (j : Int) (q : Nat) (L st : List ZV) (h : PH), zev kJ7_elementData 5 L (zvi j :: zvr (some q) :: st) h = if 5 ≤ (ph_K h q).1 % 1000 ∧ (ph_K h q).1 % 1000 ≤ 7 ∧ 0 ≤ j ∧ j < (ph_K h q).2 then zev kJ7_elementData 6 L (zvr (ph_R h q j) :: st) h else none) ∧
  (∀ (a : Option Nat) (L : List ZV) (h : PH), zev kJ7_elementData 6 L [zvr a] h = zrv (zvr a) h) :=
  ⟨fun a L st h => e_ld0R (n := 1) rfl,
  fun q L st h => e_getR (kd := 29) (k := 1) (n := 4) rfl,
  fun x0 a L st h => e_ld1I (n := 5) rfl,
  fun j q L st h => e_aldR (n := 6) rfl,
  fun a L h => e_retR rfl⟩
theorem allJ7_elementData : zall yJ7_elementData cJ7_elementData 2 (some (.object "java/lang/Object")) 1 kJ7_elementData.1 :=
  ⟨k_aload_n dJ7_elementData_0,
  k_getR (C := RJ7) (T := TJ7) (N := 3) (ci := 13) (k := 1) (ref := "java/util/ArrayList") dJ7_elementData_1 rfl in_J7 (by decide) q405 (Or.inl rfl) (fun _ _ _ => rfl),
  k_iload_n dJ7_elementData_4,
  k_aald dJ7_elementData_5,
  k_aret dJ7_elementData_6 rfl (Or.inl ⟨_, rfl⟩), trivial⟩
theorem sndJ7_elementData : MSound 1 yJ7_elementData (ws_ yJ7_elementData cJ7_elementData 2 (some (.object "java/lang/Object"))) mJ7_elementData := msound_M (by decide) allJ7_elementData (fun _ _ => rfl)
/-! java/util/ArrayList.get(I)Ljava/lang/Object; -/
noncomputable def kJ7_get : ZM := ([(0, zi_ld 0 1 1), (1, zi_ld 1 0 2), (2, zi_getI 29 2 5), (5, zi_callS mJ14_checkIndex 2 8), (8, zi_pop 9), (9, zi_ld 1 0 10), (10, zi_ld 0 1 11), (11, zi_callV mJ7_elementData 29 2 14), (14, zi_retv 1)], fun _ _ => none)
noncomputable def mJ7_get : ZF := zrunM kJ7_get 2
theorem enJ7_get (x0 : Option Nat) (x1 : Int) (h : PH) : mJ7_get [zvr x0, zvi x1] h = zev kJ7_get 0 [zvr x0, zvi x1] [] h := zrunM_eq rfl rfl
theorem rJ7_get : (∀ (x0 : ZV) (a : Int) (L st : List ZV) (h : PH), zev kJ7_get 0 (x0 :: zvi a :: L) st h = zev kJ7_get 1 (x0 :: zvi a :: L) (zvi a :: st) h) ∧
  (∀ (a : Option Nat) (L st : List ZV) (h : PH), zev kJ7_get 1 (zvr a :: L) st h = zev kJ7_get 2 (zvr a :: L) (zvr a :: st) h) ∧
  (∀ (q : Nat) (L st : List ZV) (h : PH), zev kJ7_get 2 L (zvr (some q) :: st) h = if (ph_K h q).1 % 1000 = 29 then zev kJ7_get 5 L (zvi (ph_I h q 2) :: st) h else none) ∧
  (∀ (v0 v1 : ZV) (L st : List ZV) (h : PH), zev kJ7_get 5 L (v1 :: v0 :: st) h = if zcat st ≤ 8 then zk kJ7_get 5 8 L st (mJ14_checkIndex [v0, v1] h) else none) ∧
  (∀ (a : Int) (L st : List ZV) (h : PH), zev kJ7_get 8 L (zvi a :: st) h = zev kJ7_get 9 L st h) ∧
  (∀ (a : Option Nat) (L st : List ZV) (h : PH), zev kJ7_get 8 L (zvr a :: st) h = zev kJ7_get 9 L st h) ∧
  (∀ (a : Option Nat) (L st : List ZV) (h : PH), zev kJ7_get 9 (zvr a :: L) st h = zev kJ7_get 10 (zvr a :: L) (zvr a :: st) h) ∧
  (∀ (x0 : ZV) (a : Int) (L st : List ZV) (h : PH), zev kJ7_get 10 (x0 :: zvi a :: L) st h = zev kJ7_get 11 (x0 :: zvi a :: L) (zvi a :: st) h) ∧
  (∀ (v0 : ZV) (q : Nat) (L st : List ZV) (h : PH), zev kJ7_get 11 L (v0 :: zvr (some q) :: st) h = if (ph_K h q).1 % 1000 = 29 ∧ zcat st ≤ 8 then zk kJ7_get 11 14 L st (mJ7_elementData [zvr (some q), v0] h) else none) ∧
  (∀ (a : Option Nat) (L : List ZV) (h : PH), zev kJ7_get 14 L [zvr a] h = zrv (zvr a) h) :=
  ⟨fun x0 a L st h => e_ld1I (n := 1) rfl,
  fun a L st h => e_ld0R (n := 2) rfl,
  fun q L st h => e_getI (kd := 29) (k := 2) (n := 5) rfl,
  fun v0 v1 L st h => e_callS2 (F := mJ14_checkIndex) (n := 8) rfl,
  fun a L st h => e_popI (n := 9) rfl,
  fun a L st h => e_popR (n := 9) rfl,
  fun a L st h => e_ld0R (n := 10) rfl,
  fun x0 a L st h => e_ld1I (n := 11) rfl,
  fun v0 q L st h => e_callV2 (F := mJ7_elementData) (kd := 29) (n := 14) rfl,
  fun a L h => e_retR rfl⟩
theorem allJ7_get : zall yJ7_get cJ7_get 2 (some (.object "java/lang/Object")) 3 kJ7_get.1 :=
  ⟨k_iload_n dJ7_get_0,
  k_aload_n dJ7_get_1,
  k_getI (C := RJ7) (T := TJ7) (N := 3) (ci := 13) (k := 2) (ref := "java/util/ArrayList") dJ7_get_2 rfl in_J7 (by decide) q406 (Or.inl rfl) (fun _ _ _ => rfl),
  k_callS (y2 := yJ14_checkIndex) dJ7_get_5 sndJ14_checkIndex q698 q699 q151 q700 (by decide +kernel) ⟨by decide, by decide⟩ (by decide) (by decide),
  k_pop dJ7_get_8,
  k_aload_n dJ7_get_9,
  k_iload_n dJ7_get_10,
  k_callV (y2 := yJ7_elementData) (C := RJ7) (T0 := TJ7) (ci := 13) dJ7_get_11 sndJ7_elementData rfl q702 q703 q704 q141 q705 (by decide +kernel) ⟨by decide, by decide⟩ (by decide) (by decide),
  k_aret dJ7_get_14 rfl (Or.inl ⟨_, rfl⟩), trivial⟩
theorem sndJ7_get : MSound 3 yJ7_get (ws_ yJ7_get cJ7_get 2 (some (.object "java/lang/Object"))) mJ7_get := msound_M (by decide) allJ7_get (fun _ _ => rfl)
/-! java/util/ArrayList.isEmpty()Z -/
noncomputable def kJ7_isEmpty : ZM := ([(0, zi_ld 1 0 1), (1, zi_getI 29 2 4), (4, zi_if (fun a => zc_ne a 0) 11 7), (7, zi_push (zvi 1) 8), (8, zi_goto 12), (11, zi_push (zvi 0) 12), (12, zi_retz)], fun _ _ => none)
noncomputable def mJ7_isEmpty : ZF := zrunM kJ7_isEmpty 1
theorem enJ7_isEmpty (x0 : Option Nat) (h : PH) : mJ7_isEmpty [zvr x0] h = zev kJ7_isEmpty 0 [zvr x0] [] h := zrunM_eq rfl rfl
theorem rJ7_isEmpty : (∀ (a : Option Nat) (L st : List ZV) (h : PH), zev kJ7_isEmpty 0 (zvr a :: L) st h = zev kJ7_isEmpty 1 (zvr a :: L) (zvr a :: st) h) ∧
  (∀ (q : Nat) (L st : List ZV) (h : PH), zev kJ7_isEmpty 1 L (zvr (some q) :: st) h = if (ph_K h q).1 % 1000 = 29 then zev kJ7_isEmpty 4 L (zvi (ph_I h q 2) :: st) h else none) ∧
  (∀ (a : Int) (L st : List ZV) (h : PH), zev kJ7_isEmpty 4 L (zvi a :: st) h = if a ≠ 0 then zev kJ7_isEmpty 11 L st h else zev kJ7_isEmpty 7 L st h) ∧
  (∀ (L st : List ZV) (h : PH), zev kJ7_isEmpty 7 L st h = zev kJ7_isEmpty 8 L (zvi 1 :: st) h) ∧
  (∀ (L st : List ZV) (h : PH), zev kJ7_isEmpty 8 L st h = zev kJ7_isEmpty 12 L st h) ∧
  (∀ (L st : List ZV) (h : PH), zev kJ7_isEmpty 11 L st h = zev kJ7_isEmpty 12 L (zvi 0 :: st) h) ∧
  (∀ (a : Int) (L : List ZV) (h : PH), zev kJ7_isEmpty 12 L [zvi a] h = if a = 0 ∨ a = 1 then zrv (zvi a) h else none) :=
  ⟨fun a L st h => e_ld0R (n := 1) rfl,
  fun q L st h => e_getI (kd := 29) (k := 2) (n := 4) rfl,
  fun a L st h => e_ifne (t := 11) (n := 7) rfl,
  fun L st h => e_push (v := zvi 1) (n := 8) rfl,
  fun L st h => e_goto (t := 12) rfl,
  fun L st h => e_push (v := zvi 0) (n := 12) rfl,
  fun a L h => e_retz rfl⟩
theorem allJ7_isEmpty : zall yJ7_isEmpty cJ7_isEmpty 1 (some .boolean) 1 kJ7_isEmpty.1 :=
  ⟨k_aload_n dJ7_isEmpty_0,
  k_getI (C := RJ7) (T := TJ7) (N := 3) (ci := 13) (k := 2) (ref := "java/util/ArrayList") dJ7_isEmpty_1 rfl in_J7 (by decide) q406 (Or.inl rfl) (fun _ _ _ => rfl),
  k_ifne (t := 11) dJ7_isEmpty_4 (by decide),
  k_iconst dJ7_isEmpty_7,
  k_goto (t := 12) dJ7_isEmpty_8 (by decide),
  k_iconst dJ7_isEmpty_11,
  k_zret dJ7_isEmpty_12, trivial⟩
theorem sndJ7_isEmpty : MSound 1 yJ7_isEmpty (ws_ yJ7_isEmpty cJ7_isEmpty 1 (some .boolean)) mJ7_isEmpty := msound_M (by decide) allJ7_isEmpty (fun _ _ => rfl)
/-! Z program: LinkTimes$Desk (written by gen/gen_prog.py) -/
set_option maxRecDepth 100000
/-! LinkTimes$Desk.<init>()V -/
noncomputable def kX6_init : ZM := ([(0, zi_ld 1 0 1), (1, zi_objI 20 4), (4, zi_ld 1 0 5), (5, zi_new 29 3 8), (8, zi_dup 9), (9, zi_callV mJ7_init 29 1 12), (12, zi_putR 20 2 15), (15, zi_ld 1 0 16), (16, zi_new 29 3 19), (19, zi_dup 20), (20, zi_callV mJ7_init 29 1 23), (23, zi_putR 20 3 26), (26, zi_ld 1 0 27), (27, zi_new 29 3 30), (30, zi_dup 31), (31, zi_callV mJ7_init 29 1 34), (34, zi_putR 20 4 37), (37, zi_ret)], fun _ _ => none)
noncomputable def mX6_init : ZF := zrunM kX6_init 1
theorem enX6_init (x0 : Option Nat) (h : PH) : mX6_init [zvr x0] h = zev kX6_init 0 [zvr x0] [] h := zrunM_eq rfl rfl
theorem rX6_init : (∀ (a : Option Nat) (L st : List ZV) (h : PH), zev kX6_init 0 (zvr a :: L) st h = zev kX6_init 1 (zvr a :: L) (zvr a :: st) h) ∧
  (∀ (q : Nat) (L st : List ZV) (h : PH), zev kX6_init 1 L (zvr (some q) :: st) h = if (ph_K h q).1 % 1000 = 20 ∧ zcat st ≤ 8 then zev kX6_init 4 L st h else none) ∧
  (∀ (a : Option Nat) (L st : List ZV) (h : PH), zev kX6_init 4 (zvr a :: L) st h = zev kX6_init 5 (zvr a :: L) (zvr a :: st) h) ∧
  (∀ (L st : List ZV) (h : PH), zev kX6_init 5 L st h = zev kX6_init 8 L (zvr (some (ph_N h)) :: st) (al_ h 29 0 3)) ∧
  (∀ (a : Int) (L st : List ZV) (h : PH), zev kX6_init 8 L (zvi a :: st) h = zev kX6_init 9 L (zvi a :: zvi a :: st) h) ∧
  (∀ (a : Option Nat) (L st : List ZV) (h : PH), zev kX6_init 8 L (zvr a :: st) h = zev kX6_init 9 L (zvr a :: zvr a :: st) h) ∧
  (∀ (q : Nat) (L st : List ZV) (h : PH), zev kX6_init 9 L (zvr (some q) :: st) h = if (ph_K h q).1 % 1000 = 29 ∧ zcat st ≤ 8 then zk kX6_init 9 12 L st (mJ7_init [zvr (some q)] h) else none) ∧
  (∀ (a : Option Nat) (q : Nat) (L st : List ZV) (h : PH), zev kX6_init 12 L (zvr a :: zvr (some q) :: st) h = if (ph_K h q).1 = 20 then zev kX6_init 15 L st (st_R h q 2 a) else none) ∧
  (∀ (a : Option Nat) (L st : List ZV) (h : PH), zev kX6_init 15 (zvr a :: L) st h = zev kX6_init 16 (zvr a :: L) (zvr a :: st) h) ∧
  (∀ (L st : List ZV) (h : PH), zev kX6_init 16 L st h = zev kX6_init 19 L (zvr (some (ph_N h)) :: st) (al_ h 29 0 3)) ∧
  (∀ (a : Int) (L st : List ZV) (h : PH), zev kX6_init 19 L (zvi a :: st) h = zev kX6_init 20 L (zvi a :: zvi a :: st) h) ∧
  (∀ (a : Option Nat) (L st : List ZV) (h : PH), zev kX6_init 19 L (zvr a :: st) h = zev kX6_init 20 L (zvr a :: zvr a :: st) h) ∧
  (∀ (q : Nat) (L st : List ZV) (h : PH), zev kX6_init 20 L (zvr (some q) :: st) h = if (ph_K h q).1 % 1000 = 29 ∧ zcat st ≤ 8 then zk kX6_init 20 23 L st (mJ7_init [zvr (some q)] h) else none) ∧
  (∀ (a : Option Nat) (q : Nat) (L st : List ZV) (h : PH), zev kX6_init 23 L (zvr a :: zvr (some q) :: st) h = if (ph_K h q).1 = 20 then zev kX6_init 26 L st (st_R h q 3 a) else none) ∧
  (∀ (a : Option Nat) (L st : List ZV) (h : PH), zev kX6_init 26 (zvr a :: L) st h = zev kX6_init 27 (zvr a :: L) (zvr a :: st) h) ∧
  (∀ (L st : List ZV) (h : PH), zev kX6_init 27 L st h = zev kX6_init 30 L (zvr (some (ph_N h)) :: st) (al_ h 29 0 3)) ∧
  (∀ (a : Int) (L st : List ZV) (h : PH), zev kX6_init 30 L (zvi a :: st) h = zev kX6_init 31 L (zvi a :: zvi a :: st) h) ∧
  (∀ (a : Option Nat) (L st : List ZV) (h : PH), zev kX6_init 30 L (zvr a :: st) h = zev kX6_init 31 L (zvr a :: zvr a :: st) h) ∧
  (∀ (q : Nat) (L st : List ZV) (h : PH), zev kX6_init 31 L (zvr (some q) :: st) h = if (ph_K h q).1 % 1000 = 29 ∧ zcat st ≤ 8 then zk kX6_init 31 34 L st (mJ7_init [zvr (some q)] h) else none) ∧
  (∀ (a : Option Nat) (q : Nat) (L st : List ZV) (h : PH), zev kX6_init 34 L (zvr a :: zvr (some q) :: st) h = if (ph_K h q).1 = 20 then zev kX6_init 37 L st (st_R h q 4 a) else none) ∧
  (∀ (L : List ZV) (h : PH), zev kX6_init 37 L [] h = zr0 h) :=
  ⟨fun a L st h => e_ld0R (n := 1) rfl,
  fun q L st h => e_objI (kd := 20) (n := 4) rfl,
  fun a L st h => e_ld0R (n := 5) rfl,
  fun L st h => e_new (kd := 29) (sl := 3) (n := 8) rfl,
  fun a L st h => e_dupI (n := 9) rfl,
  fun a L st h => e_dupR (n := 9) rfl,
  fun q L st h => e_callV1 (F := mJ7_init) (kd := 29) (n := 12) rfl,
  fun a q L st h => e_putR (kd := 20) (k := 2) (n := 15) rfl,
  fun a L st h => e_ld0R (n := 16) rfl,
  fun L st h => e_new (kd := 29) (sl := 3) (n := 19) rfl,
  fun a L st h => e_dupI (n := 20) rfl,
  fun a L st h => e_dupR (n := 20) rfl,
  fun q L st h => e_callV1 (F := mJ7_init) (kd := 29) (n := 23) rfl,
  fun a q L st h => e_putR (kd := 20) (k := 3) (n := 26) rfl,
  fun a L st h => e_ld0R (n := 27) rfl,
  fun L st h => e_new (kd := 29) (sl := 3) (n := 30) rfl,
  fun a L st h => e_dupI (n := 31) rfl,
  fun a L st h => e_dupR (n := 31) rfl,
  fun q L st h => e_callV1 (F := mJ7_init) (kd := 29) (n := 34) rfl,
  fun a q L st h => e_putR (kd := 20) (k := 4) (n := 37) rfl,
  fun L h => e_ret rfl⟩
theorem allX6_init : zall yX6_init cX6_init 1 none 5 kX6_init.1 :=
  ⟨k_aload_n dX6_init_0,
  k_objI (C := RX6) (T0 := TX6) (ci := 4) dX6_init_1 rfl q393 q177 q178 (by decide),
  k_aload_n dX6_init_4,
  k_new (C := RJ7) (T := TJ7) (N := 3) (ci := 13) dX6_init_5 rfl in_J7 tyJ7 tyJ7_ok rfl (by decide) q394 q395 q141,
  k_dup dX6_init_8,
  k_callI (y2 := yJ7_init) (C := RJ7) (T0 := TJ7) (ci := 13) dX6_init_9 sndJ7_init rfl q396 q397 q141 q398 rfl (by decide +kernel) ⟨by decide, by decide⟩ (by decide) (by decide),
  k_putR (C := RX6) (T := TX6) (N := 5) (ci := 4) (k := 2) (ref := "LinkTimes$Desk") dX6_init_12 rfl in_X6 tyX6 tyX6_ok nmX6 (by decide) (Or.inl q421) (Or.inl rfl) (Or.inr ⟨rfl, rfl, rfl, q421⟩) (tyX6_ok 2 (by decide)) (Or.inl ⟨_, rfl⟩) (fun _ _ _ => rfl),
  k_aload_n dX6_init_15,
  k_new (C := RJ7) (T := TJ7) (N := 3) (ci := 13) dX6_init_16 rfl in_J7 tyJ7 tyJ7_ok rfl (by decide) q394 q395 q141,
  k_dup dX6_init_19,
  k_callI (y2 := yJ7_init) (C := RJ7) (T0 := TJ7) (ci := 13) dX6_init_20 sndJ7_init rfl q396 q397 q141 q398 rfl (by decide +kernel) ⟨by decide, by decide⟩ (by decide) (by decide),
  k_putR (C := RX6) (T := TX6) (N := 5) (ci := 4) (k := 3) (ref := "LinkTimes$Desk") dX6_init_23 rfl in_X6 tyX6 tyX6_ok nmX6 (by decide) (Or.inl q425) (Or.inl rfl) (Or.inr ⟨rfl, rfl, rfl, q425⟩) (tyX6_ok 3 (by decide)) (Or.inl ⟨_, rfl⟩) (fun _ _ _ => rfl),
  k_aload_n dX6_init_26,
  k_new (C := RJ7) (T := TJ7) (N := 3) (ci := 13) dX6_init_27 rfl in_J7 tyJ7 tyJ7_ok rfl (by decide) q394 q395 q141,
  k_dup dX6_init_30,
  k_callI (y2 := yJ7_init) (C := RJ7) (T0 := TJ7) (ci := 13) dX6_init_31 sndJ7_init rfl q396 q397 q141 q398 rfl (by decide +kernel) ⟨by decide, by decide⟩ (by decide) (by decide),
  k_putR (C := RX6) (T := TX6) (N := 5) (ci := 4) (k := 4) (ref := "LinkTimes$Desk") dX6_init_34 rfl in_X6 tyX6 tyX6_ok nmX6 (by decide) (Or.inl q428) (Or.inl rfl) (Or.inr ⟨rfl, rfl, rfl, q428⟩) (tyX6_ok 4 (by decide)) (Or.inl ⟨_, rfl⟩) (fun _ _ _ => rfl),
  k_ret dX6_init_37, trivial⟩
theorem sndX6_init : MSound 5 yX6_init (ws_ yX6_init cX6_init 1 none) mX6_init := msound_M (by decide) allX6_init (fun _ _ => rfl)
/-! LinkTimes$Desk.findSpot(J)I -/
noncomputable def kX6_findSpot : ZM := ([(0, zi_push (zvi 0) 1), (1, zi_st 0 3 2), (2, zi_ld 0 3 3), (3, zi_ld 1 0 4), (4, zi_getR 20 2 7), (7, zi_callV mJ7_size 29 1 10), (10, zi_cmp zc_ge 40 13), (13, zi_ld 1 0 14), (14, zi_getR 20 2 17), (17, zi_ld 0 3 18), (18, zi_callV mJ7_get 29 2 21), (21, zi_cast zokSpot 24), (24, zi_getJ 21 0 27), (27, zi_ld 2 1 28), (28, zi_lcmp 29), (29, zi_if (fun a => zc_ne a 0) 34 32), (32, zi_ld 0 3 33), (33, zi_retv 0), (34, zi_iinc 3 1 37), (37, zi_goto 2), (40, zi_push (zvi (-1)) 41), (41, zi_retv 0)], fun _ _ => none)
noncomputable def mX6_findSpot : ZF := zrunM kX6_findSpot 4
theorem enX6_findSpot (x0 : Option Nat) (x1 : Int) (h : PH) : mX6_findSpot [zvr x0, zvl x1] h = zev kX6_findSpot 0 [zvr x0, zvl x1, zvu, zvu] [] h := zrunM_eq rfl rfl
theorem hdX6_findSpot_2 (x0 x1 x2 : ZV) (a : Int) (L st : List ZV) (h : PH) : zev kX6_findSpot 2 (x0 :: x1 :: x2 :: zvi a :: L) st h = zev kX6_findSpot 3 (x0 :: x1 :: x2 :: zvi a :: L) (zvi a :: st) h := e_ld3I (n := 3) rfl
theorem rX6_findSpot : (∀ (L st : List ZV) (h : PH), zev kX6_findSpot 0 L st h = zev kX6_findSpot 1 L (zvi 0 :: st) h) ∧
  (∀ (x0 x1 x2 x3 : ZV) (a : Int) (L st : List ZV) (h : PH) (hx : zisL x2 = false) , zev kX6_findSpot 1 (x0 :: x1 :: x2 :: x3 :: L) (zvi a :: st) h = zev kX6_findSpot 2 (x0 :: x1 :: x2 :: zvi a :: L) st h) ∧
  (∀ (a : Option Nat) (L st : List ZV) (h : PH), zev kX6_findSpot 3 (zvr a :: L) st h = zev kX6_findSpot 4 (zvr a :: L) (zvr a :: st) h) ∧
  (∀ (q : Nat) (L st : List ZV) (h : PH), zev kX6_findSpot 4 L (zvr (some q) :: st) h = if (ph_K h q).1 % 1000 = 20 then zev kX6_findSpot 7 L (zvr (ph_R h q 2) :: st) h else none) ∧
  (∀ (q : Nat) (L st : List ZV) (h : PH), zev kX6_findSpot 7 L (zvr (some q) :: st) h = if (ph_K h q).1 % 1000 = 29 ∧ zcat st ≤ 8 then zk kX6_findSpot 7 10 L st (mJ7_size [zvr (some q)] h) else none) ∧
  (∀ (a b : Int) (L st : List ZV) (h : PH), zev kX6_findSpot 10 L (zvi b :: zvi a :: st) h = if a ≥ b then zev kX6_findSpot 40 L st h else zev kX6_findSpot 13 L st h) ∧
  (∀ (a : Option Nat) (L st : List ZV) (h : PH), zev kX6_findSpot 13 (zvr a :: L) st h = zev kX6_findSpot 14 (zvr a :: L) (zvr a :: st) h) ∧
  (∀ (q : Nat) (L st : List ZV) (h : PH), zev kX6_findSpot 14 L (zvr (some q) :: st) h = if (ph_K h q).1 % 1000 = 20 then zev kX6_findSpot 17 L (zvr (ph_R h q 2) :: st) h else none) ∧
  (∀ (x0 x1 x2 : ZV) (a : Int) (L st : List ZV) (h : PH), zev kX6_findSpot 17 (x0 :: x1 :: x2 :: zvi a :: L) st h = zev kX6_findSpot 18 (x0 :: x1 :: x2 :: zvi a :: L) (zvi a :: st) h) ∧
  (∀ (v0 : ZV) (q : Nat) (L st : List ZV) (h : PH), zev kX6_findSpot 18 L (v0 :: zvr (some q) :: st) h = if (ph_K h q).1 % 1000 = 29 ∧ zcat st ≤ 8 then zk kX6_findSpot 18 21 L st (mJ7_get [zvr (some q), v0] h) else none) ∧
  (∀ (L st : List ZV) (h : PH), zev kX6_findSpot 21 L (zvr none :: st) h = zev kX6_findSpot 24 L (zvr none :: st) h) ∧
  (∀ (q : Nat) (L st : List ZV) (h : PH), zev kX6_findSpot 21 L (zvr (some q) :: st) h = if zokSpot (ph_K h q).1 = true then zev kX6_findSpot 24 L (zvr (some q) :: st) h else none) ∧
  (∀ (q : Nat) (L st : List ZV) (h : PH), zev kX6_findSpot 24 L (zvr (some q) :: st) h = if (ph_K h q).1 % 1000 = 21 then zev kX6_findSpot 27 L (zvl (ph_J h q 0) :: st) h else none) ∧
  (∀ (x0 : ZV) (a : Int) (L st : List ZV) (h : PH), zev kX6_findSpot 27 (x0 :: zvl a :: L) st h = zev kX6_findSpot 28 (x0 :: zvl a :: L) (zvl a :: st) h) ∧
  (∀ (a b : Int) (L st : List ZV) (h : PH), zev kX6_findSpot 28 L (zvl b :: zvl a :: st) h = zev kX6_findSpot 29 L (zvi (zlcmp a b) :: st) h) ∧
  (∀ (a : Int) (L st : List ZV) (h : PH), zev kX6_findSpot 29 L (zvi a :: st) h = if a ≠ 0 then zev kX6_findSpot 34 L st h else zev kX6_findSpot 32 L st h) ∧
  (∀ (x0 x1 x2 : ZV) (a : Int) (L st : List ZV) (h : PH), zev kX6_findSpot 32 (x0 :: x1 :: x2 :: zvi a :: L) st h = zev kX6_findSpot 33 (x0 :: x1 :: x2 :: zvi a :: L) (zvi a :: st) h) ∧
  (∀ (a : Int) (L : List ZV) (h : PH), zev kX6_findSpot 33 L [zvi a] h = zrv (zvi a) h) ∧
  (∀ (x0 x1 x2 : ZV) (a : Int) (L st : List ZV) (h : PH) (hx : zisL x2 = false) , zev kX6_findSpot 34 (x0 :: x1 :: x2 :: zvi a :: L) st h = zev kX6_findSpot 37 (x0 :: x1 :: x2 :: zvi (w32 (a + 1)) :: L) st h) ∧
  (∀ (L st : List ZV) (h : PH), zev kX6_findSpot 37 L st h = zev kX6_findSpot 2 L st h) ∧
  (∀ (L st : List ZV) (h : PH), zev kX6_findSpot 40 L st h = zev kX6_findSpot 41 L (zvi (-1) :: st) h) ∧
  (∀ (a : Int) (L : List ZV) (h : PH), zev kX6_findSpot 41 L [zvi a] h = zrv (zvi a) h) :=
  ⟨fun L st h => e_push (v := zvi 0) (n := 1) rfl,
  fun x0 x1 x2 x3 a L st h hx => e_st3I (n := 2) rfl hx,
  fun a L st h => e_ld0R (n := 4) rfl,
  fun q L st h => e_getR (kd := 20) (k := 2) (n := 7) rfl,
  fun q L st h => e_callV1 (F := mJ7_size) (kd := 29) (n := 10) rfl,
  fun a b L st h => e_cmpge (t := 40) (n := 13) rfl,
  fun a L st h => e_ld0R (n := 14) rfl,
  fun q L st h => e_getR (kd := 20) (k := 2) (n := 17) rfl,
  fun x0 x1 x2 a L st h => e_ld3I (n := 18) rfl,
  fun v0 q L st h => e_callV2 (F := mJ7_get) (kd := 29) (n := 21) rfl,
  fun L st h => e_cast0 (ok := zokSpot) (n := 24) rfl,
  fun q L st h => e_cast1 (ok := zokSpot) (n := 24) rfl,
  fun q L st h => e_getJ (kd := 21) (k := 0) (n := 27) rfl,
  fun x0 a L st h => e_ld1J (n := 28) rfl,
  fun a b L st h => e_lcmp (n := 29) rfl,
  fun a L st h => e_ifne (t := 34) (n := 32) rfl,
  fun x0 x1 x2 a L st h => e_ld3I (n := 33) rfl,
  fun a L h => e_retI rfl,
  fun x0 x1 x2 a L st h hx => e_iinc3 (d := 1) (n := 37) rfl hx,
  fun L st h => e_goto (t := 2) rfl,
  fun L st h => e_push (v := zvi (-1)) (n := 41) rfl,
  fun a L h => e_retI rfl⟩
theorem allX6_findSpot : zall yX6_findSpot cX6_findSpot 4 (some .int) 4 kX6_findSpot.1 :=
  ⟨k_iconst dX6_findSpot_0,
  k_istore_n dX6_findSpot_1,
  k_iload_n dX6_findSpot_2,
  k_aload_n dX6_findSpot_3,
  k_getR (C := RX6) (T := TX6) (N := 5) (ci := 4) (k := 2) (ref := "LinkTimes$Desk") dX6_findSpot_4 rfl in_X6 (by decide) q421 (Or.inl rfl) (fun _ _ _ => rfl),
  k_callV (y2 := yJ7_size) (C := RJ7) (T0 := TJ7) (ci := 13) dX6_findSpot_7 sndJ7_size rfl q693 q652 q653 q141 q654 (by decide +kernel) ⟨by decide, by decide⟩ (by decide) (by decide),
  k_cmpge (t := 40) dX6_findSpot_10 (by decide),
  k_aload_n dX6_findSpot_13,
  k_getR (C := RX6) (T := TX6) (N := 5) (ci := 4) (k := 2) (ref := "LinkTimes$Desk") dX6_findSpot_14 rfl in_X6 (by decide) q421 (Or.inl rfl) (fun _ _ _ => rfl),
  k_iload_n dX6_findSpot_17,
  k_callV (y2 := yJ7_get) (C := RJ7) (T0 := TJ7) (ci := 13) dX6_findSpot_18 sndJ7_get rfl q694 q695 q696 q141 q697 (by decide +kernel) ⟨by decide, by decide⟩ (by decide) (by decide),
  k_cast (nm := "LinkTimes$Spot") dX6_findSpot_21 q706 zokSpot_can,
  k_getJN (C := RX10) (T := TX10) (N := 3) (ci := 5) (k := 0) (ref := "LinkTimes$Spot") dX6_findSpot_24 rfl in_X10 (by decide) q725 (Or.inl rfl) (fun _ _ _ => rfl),
  k_lload_n dX6_findSpot_27,
  k_lcmp dX6_findSpot_28,
  k_ifne (t := 34) dX6_findSpot_29 (by decide),
  k_iload_n dX6_findSpot_32,
  k_iret dX6_findSpot_33,
  k_iinc dX6_findSpot_34,
  k_goto (t := 2) dX6_findSpot_37 (by decide),
  k_iconst dX6_findSpot_40,
  k_iret dX6_findSpot_41, trivial⟩
theorem sndX6_findSpot : MSound 4 yX6_findSpot (ws_ yX6_findSpot cX6_findSpot 4 (some .int)) mX6_findSpot := msound_M (by decide) allX6_findSpot (fun _ _ => rfl)
/-! LinkTimes$Desk.findLine(J)I -/
noncomputable def kX6_findLine : ZM := ([(0, zi_push (zvi 0) 1), (1, zi_st 0 3 2), (2, zi_ld 0 3 3), (3, zi_ld 1 0 4), (4, zi_getR 20 3 7), (7, zi_callV mJ7_size 29 1 10), (10, zi_cmp zc_ge 40 13), (13, zi_ld 1 0 14), (14, zi_getR 20 3 17), (17, zi_ld 0 3 18), (18, zi_callV mJ7_get 29 2 21), (21, zi_cast zokLong 24), (24, zi_callV mJ19_longValue 34 1 27), (27, zi_ld 2 1 28), (28, zi_lcmp 29), (29, zi_if (fun a => zc_ne a 0) 34 32), (32, zi_ld 0 3 33), (33, zi_retv 0), (34, zi_iinc 3 1 37), (37, zi_goto 2), (40, zi_push (zvi (-1)) 41), (41, zi_retv 0)], fun _ _ => none)
noncomputable def mX6_findLine : ZF := zrunM kX6_findLine 4
theorem enX6_findLine (x0 : Option Nat) (x1 : Int) (h : PH) : mX6_findLine [zvr x0, zvl x1] h = zev kX6_findLine 0 [zvr x0, zvl x1, zvu, zvu] [] h := zrunM_eq rfl rfl
theorem hdX6_findLine_2 (x0 x1 x2 : ZV) (a : Int) (L st : List ZV) (h : PH) : zev kX6_findLine 2 (x0 :: x1 :: x2 :: zvi a :: L) st h = zev kX6_findLine 3 (x0 :: x1 :: x2 :: zvi a :: L) (zvi a :: st) h := e_ld3I (n := 3) rfl
theorem rX6_findLine : (∀ (L st : List ZV) (h : PH), zev kX6_findLine 0 L st h = zev kX6_findLine 1 L (zvi 0 :: st) h) ∧
  (∀ (x0 x1 x2 x3 : ZV) (a : Int) (L st : List ZV) (h : PH) (hx : zisL x2 = false) , zev kX6_findLine 1 (x0 :: x1 :: x2 :: x3 :: L) (zvi a :: st) h = zev kX6_findLine 2 (x0 :: x1 :: x2 :: zvi a :: L) st h) ∧
  (∀ (a : Option Nat) (L st : List ZV) (h : PH), zev kX6_findLine 3 (zvr a :: L) st h = zev kX6_findLine 4 (zvr a :: L) (zvr a :: st) h) ∧
  (∀ (q : Nat) (L st : List ZV) (h : PH), zev kX6_findLine 4 L (zvr (some q) :: st) h = if (ph_K h q).1 % 1000 = 20 then zev kX6_findLine 7 L (zvr (ph_R h q 3) :: st) h else none) ∧
  (∀ (q : Nat) (L st : List ZV) (h : PH), zev kX6_findLine 7 L (zvr (some q) :: st) h = if (ph_K h q).1 % 1000 = 29 ∧ zcat st ≤ 8 then zk kX6_findLine 7 10 L st (mJ7_size [zvr (some q)] h) else none) ∧
  (∀ (a b : Int) (L st : List ZV) (h : PH), zev kX6_findLine 10 L (zvi b :: zvi a :: st) h = if a ≥ b then zev kX6_findLine 40 L st h else zev kX6_findLine 13 L st h) ∧
  (∀ (a : Option Nat) (L st : List ZV) (h : PH), zev kX6_findLine 13 (zvr a :: L) st h = zev kX6_findLine 14 (zvr a :: L) (zvr a :: st) h) ∧
  (∀ (q : Nat) (L st : List ZV) (h : PH), zev kX6_findLine 14 L (zvr (some q) :: st) h = if (ph_K h q).1 % 1000 = 20 then zev kX6_findLine 17 L (zvr (ph_R h q 3) :: st) h else none) ∧
  (∀ (x0 x1 x2 : ZV) (a : Int) (L st : List ZV) (h : PH), zev kX6_findLine 17 (x0 :: x1 :: x2 :: zvi a :: L) st h = zev kX6_findLine 18 (x0 :: x1 :: x2 :: zvi a :: L) (zvi a :: st) h) ∧
  (∀ (v0 : ZV) (q : Nat) (L st : List ZV) (h : PH), zev kX6_findLine 18 L (v0 :: zvr (some q) :: st) h = if (ph_K h q).1 % 1000 = 29 ∧ zcat st ≤ 8 then zk kX6_findLine 18 21 L st (mJ7_get [zvr (some q), v0] h) else none) ∧
  (∀ (L st : List ZV) (h : PH), zev kX6_findLine 21 L (zvr none :: st) h = zev kX6_findLine 24 L (zvr none :: st) h) ∧
  (∀ (q : Nat) (L st : List ZV) (h : PH), zev kX6_findLine 21 L (zvr (some q) :: st) h = if zokLong (ph_K h q).1 = true then zev kX6_findLine 24 L (zvr (some q) :: st) h else none) ∧
  (∀ (q : Nat) (L st : List ZV) (h : PH), zev kX6_findLine 24 L (zvr (some q) :: st) h = if (ph_K h q).1 % 1000 = 34 ∧ zcat st ≤ 8 then zk kX6_findLine 24 27 L st (mJ19_longValue [zvr (some q)] h) else none) ∧
  (∀ (x0 : ZV) (a : Int) (L st : List ZV) (h : PH), zev kX6_findLine 27 (x0 :: zvl a :: L) st h = zev kX6_findLine 28 (x0 :: zvl a :: L) (zvl a :: st) h) ∧
  (∀ (a b : Int) (L st : List ZV) (h : PH), zev kX6_findLine 28 L (zvl b :: zvl a :: st) h = zev kX6_findLine 29 L (zvi (zlcmp a b) :: st) h) ∧
  (∀ (a : Int) (L st : List ZV) (h : PH), zev kX6_findLine 29 L (zvi a :: st) h = if a ≠ 0 then zev kX6_findLine 34 L st h else zev kX6_findLine 32 L st h) ∧
  (∀ (x0 x1 x2 : ZV) (a : Int) (L st : List ZV) (h : PH), zev kX6_findLine 32 (x0 :: x1 :: x2 :: zvi a :: L) st h = zev kX6_findLine 33 (x0 :: x1 :: x2 :: zvi a :: L) (zvi a :: st) h) ∧
  (∀ (a : Int) (L : List ZV) (h : PH), zev kX6_findLine 33 L [zvi a] h = zrv (zvi a) h) ∧
  (∀ (x0 x1 x2 : ZV) (a : Int) (L st : List ZV) (h : PH) (hx : zisL x2 = false) , zev kX6_findLine 34 (x0 :: x1 :: x2 :: zvi a :: L) st h = zev kX6_findLine 37 (x0 :: x1 :: x2 :: zvi (w32 (a + 1)) :: L) st h) ∧
  (∀ (L st : List ZV) (h : PH), zev kX6_findLine 37 L st h = zev kX6_findLine 2 L st h) ∧
  (∀ (L st : List ZV) (h : PH), zev kX6_findLine 40 L st h = zev kX6_findLine 41 L (zvi (-1) :: st) h) ∧
  (∀ (a : Int) (L : List ZV) (h : PH), zev kX6_findLine 41 L [zvi a] h = zrv (zvi a) h) :=
  ⟨fun L st h => e_push (v := zvi 0) (n := 1) rfl,
  fun x0 x1 x2 x3 a L st h hx => e_st3I (n := 2) rfl hx,
  fun a L st h => e_ld0R (n := 4) rfl,
  fun q L st h => e_getR (kd := 20) (k := 3) (n := 7) rfl,
  fun q L st h => e_callV1 (F := mJ7_size) (kd := 29) (n := 10) rfl,
  fun a b L st h => e_cmpge (t := 40) (n := 13) rfl,
  fun a L st h => e_ld0R (n := 14) rfl,
  fun q L st h => e_getR (kd := 20) (k := 3) (n := 17) rfl,
  fun x0 x1 x2 a L st h => e_ld3I (n := 18) rfl,
  fun v0 q L st h => e_callV2 (F := mJ7_get) (kd := 29) (n := 21) rfl,
  fun L st h => e_cast0 (ok := zokLong) (n := 24) rfl,
  fun q L st h => e_cast1 (ok := zokLong) (n := 24) rfl,
  fun q L st h => e_callV1 (F := mJ19_longValue) (kd := 34) (n := 27) rfl,
  fun x0 a L st h => e_ld1J (n := 28) rfl,
  fun a b L st h => e_lcmp (n := 29) rfl,
  fun a L st h => e_ifne (t := 34) (n := 32) rfl,
  fun x0 x1 x2 a L st h => e_ld3I (n := 33) rfl,
  fun a L h => e_retI rfl,
  fun x0 x1 x2 a L st h hx => e_iinc3 (d := 1) (n := 37) rfl hx,
  fun L st h => e_goto (t := 2) rfl,
  fun L st h => e_push (v := zvi (-1)) (n := 41) rfl,
  fun a L h => e_retI rfl⟩
theorem allX6_findLine : zall yX6_findLine cX6_findLine 4 (some .int) 4 kX6_findLine.1 :=
  ⟨k_iconst dX6_findLine_0,
  k_istore_n dX6_findLine_1,
  k_iload_n dX6_findLine_2,
  k_aload_n dX6_findLine_3,
  k_getR (C := RX6) (T := TX6) (N := 5) (ci := 4) (k := 3) (ref := "LinkTimes$Desk") dX6_findLine_4 rfl in_X6 (by decide) q425 (Or.inl rfl) (fun _ _ _ => rfl),
  k_callV (y2 := yJ7_size) (C := RJ7) (T0 := TJ7) (ci := 13) dX6_findLine_7 sndJ7_size rfl q693 q652 q653 q141 q654 (by decide +kernel) ⟨by decide, by decide⟩ (by decide) (by decide),
  k_cmpge (t := 40) dX6_findLine_10 (by decide),
  k_aload_n dX6_findLine_13,
  k_getR (C := RX6) (T := TX6) (N := 5) (ci := 4) (k := 3) (ref := "LinkTimes$Desk") dX6_findLine_14 rfl in_X6 (by decide) q425 (Or.inl rfl) (fun _ _ _ => rfl),
  k_iload_n dX6_findLine_17,
  k_callV (y2 := yJ7_get) (C := RJ7) (T0 := TJ7) (ci := 13) dX6_findLine_18 sndJ7_get rfl q694 q695 q696 q141 q697 (by decide +kernel) ⟨by decide, by decide⟩ (by decide) (by decide),
  k_cast (nm := "java/lang/Long") dX6_findLine_21 q711 zokLong_can,
  k_callV (y2 := yJ19_longValue) (C := RJ19) (T0 := TJ19) (ci := 18) dX6_findLine_24 sndJ19_longValue rfl q712 q713 q714 q158 q715 (by decide +kernel) ⟨by decide, by decide⟩ (by decide) (by decide),
  k_lload_n dX6_findLine_27,
  k_lcmp dX6_findLine_28,
  k_ifne (t := 34) dX6_findLine_29 (by decide),
  k_iload_n dX6_findLine_32,
  k_iret dX6_findLine_33,
  k_iinc dX6_findLine_34,
  k_goto (t := 2) dX6_findLine_37 (by decide),
  k_iconst dX6_findLine_40,
  k_iret dX6_findLine_41, trivial⟩
theorem sndX6_findLine : MSound 4 yX6_findLine (ws_ yX6_findLine cX6_findLine 4 (some .int)) mX6_findLine := msound_M (by decide) allX6_findLine (fun _ _ => rfl)
/-! Z program: LinkTimes$Search (written by gen/gen_prog.py) -/
set_option maxRecDepth 100000
/-! LinkTimes$Search.<init>(LLinkTimes;)V -/
noncomputable def kX3_init : ZM := ([(0, zi_ld 1 0 1), (1, zi_ld 1 1 2), (2, zi_putR 17 8 5), (5, zi_ld 1 0 6), (6, zi_objI 17 9), (9, zi_ld 1 0 10), (10, zi_push (zvi 120) 12), (12, zi_newa 6 15), (15, zi_putR 17 0 18), (18, zi_ld 1 0 19), (19, zi_push (zvi 120) 21), (21, zi_newa 1 23), (23, zi_putR 17 1 26), (26, zi_ld 1 0 27), (27, zi_push (zvi 120) 29), (29, zi_newa 1 31), (31, zi_putR 17 2 34), (34, zi_ld 1 0 35), (35, zi_push (zvi 120) 37), (37, zi_newa 1 39), (39, zi_putR 17 3 42), (42, zi_ld 1 0 43), (43, zi_push (zvi 120) 45), (45, zi_newa 1 47), (47, zi_putR 17 4 50), (50, zi_ld 1 0 51), (51, zi_push (zvi 120) 53), (53, zi_newa 1 55), (55, zi_putR 17 5 58), (58, zi_ret)], fun _ _ => none)
noncomputable def mX3_init : ZF := zrunM kX3_init 2
theorem enX3_init (x0 : Option Nat) (x1 : Option Nat) (h : PH) : mX3_init [zvr x0, zvr x1] h = zev kX3_init 0 [zvr x0, zvr x1] [] h := zrunM_eq rfl rfl
theorem rX3_init : (∀ (a : Option Nat) (L st : List ZV) (h : PH), zev kX3_init 0 (zvr a :: L) st h = zev kX3_init 1 (zvr a :: L) (zvr a :: st) h) ∧
  (∀ (x0 : ZV) (a : Option Nat) (L st : List ZV) (h : PH), zev kX3_init 1 (x0 :: zvr a :: L) st h = zev kX3_init 2 (x0 :: zvr a :: L) (zvr a :: st) h) ∧
  (∀ (a : Option Nat) (q : Nat) (L st : List ZV) (h : PH), zev kX3_init 2 L (zvr a :: zvr (some q) :: st) h = if (ph_K h q).1 = 17 then zev kX3_init 5 L st (st_R h q 8 a) else none) ∧
  (∀ (a : Option Nat) (L st : List ZV) (h : PH), zev kX3_init 5 (zvr a :: L) st h = zev kX3_init 6 (zvr a :: L) (zvr a :: st) h) ∧
  (∀ (q : Nat) (L st : List ZV) (h : PH), zev kX3_init 6 L (zvr (some q) :: st) h = if (ph_K h q).1 % 1000 = 17 ∧ zcat st ≤ 8 then zev kX3_init 9 L st h else none) ∧
  (∀ (a : Option Nat) (L st : List ZV) (h : PH), zev kX3_init 9 (zvr a :: L) st h = zev kX3_init 10 (zvr a :: L) (zvr a :: st) h) ∧
  (∀ (L st : List ZV) (h : PH), zev kX3_init 10 L st h = zev kX3_init 12 L (zvi 120 :: st) h) ∧
  (∀ (a : Int) (L st : List ZV) (h : PH), zev kX3_init 12 L (zvi a :: st) h = if 0 ≤ a ∧ a ≤ 100000 then zev kX3_init 15 L (zvr (some (ph_N h)) :: st) (al_ h 6 a.toNat a.toNat) else none) ∧
  (∀ (a : Option Nat) (q : Nat) (L st : List ZV) (h : PH), zev kX3_init 15 L (zvr a :: zvr (some q) :: st) h = if (ph_K h q).1 = 17 then zev kX3_init 18 L st (st_R h q 0 a) else none) ∧
  (∀ (a : Option Nat) (L st : List ZV) (h : PH), zev kX3_init 18 (zvr a :: L) st h = zev kX3_init 19 (zvr a :: L) (zvr a :: st) h) ∧
  (∀ (L st : List ZV) (h : PH), zev kX3_init 19 L st h = zev kX3_init 21 L (zvi 120 :: st) h) ∧
  (∀ (a : Int) (L st : List ZV) (h : PH), zev kX3_init 21 L (zvi a :: st) h = if 0 ≤ a ∧ a ≤ 100000 then zev kX3_init 23 L (zvr (some (ph_N h)) :: st) (al_ h 1 a.toNat a.toNat) else none) ∧
  (∀ (a : Option Nat) (q : Nat) (L st : List ZV) (h : PH), zev kX3_init 23 L (zvr a :: zvr (some q) :: st) h = if (ph_K h q).1 = 17 then zev kX3_init 26 L st (st_R h q 1 a) else none) ∧
  (∀ (a : Option Nat) (L st : List ZV) (h : PH), zev kX3_init 26 (zvr a :: L) st h = zev kX3_init 27 (zvr a :: L) (zvr a :: st) h) ∧
  (∀ (L st : List ZV) (h : PH), zev kX3_init 27 L st h = zev kX3_init 29 L (zvi 120 :: st) h) ∧
  (∀ (a : Int) (L st : List ZV) (h : PH), zev kX3_init 29 L (zvi a :: st) h = if 0 ≤ a ∧ a ≤ 100000 then zev kX3_init 31 L (zvr (some (ph_N h)) :: st) (al_ h 1 a.toNat a.toNat) else none) ∧
  (∀ (a : Option Nat) (q : Nat) (L st : List ZV) (h : PH), zev kX3_init 31 L (zvr a :: zvr (some q) :: st) h = if (ph_K h q).1 = 17 then zev kX3_init 34 L st (st_R h q 2 a) else none) ∧
  (∀ (a : Option Nat) (L st : List ZV) (h : PH), zev kX3_init 34 (zvr a :: L) st h = zev kX3_init 35 (zvr a :: L) (zvr a :: st) h) ∧
  (∀ (L st : List ZV) (h : PH), zev kX3_init 35 L st h = zev kX3_init 37 L (zvi 120 :: st) h) ∧
  (∀ (a : Int) (L st : List ZV) (h : PH), zev kX3_init 37 L (zvi a :: st) h = if 0 ≤ a ∧ a ≤ 100000 then zev kX3_init 39 L (zvr (some (ph_N h)) :: st) (al_ h 1 a.toNat a.toNat) else none) ∧
  (∀ (a : Option Nat) (q : Nat) (L st : List ZV) (h : PH), zev kX3_init 39 L (zvr a :: zvr (some q) :: st) h = if (ph_K h q).1 = 17 then zev kX3_init 42 L st (st_R h q 3 a) else none) ∧
  (∀ (a : Option Nat) (L st : List ZV) (h : PH), zev kX3_init 42 (zvr a :: L) st h = zev kX3_init 43 (zvr a :: L) (zvr a :: st) h) ∧
  (∀ (L st : List ZV) (h : PH), zev kX3_init 43 L st h = zev kX3_init 45 L (zvi 120 :: st) h) ∧
  (∀ (a : Int) (L st : List ZV) (h : PH), zev kX3_init 45 L (zvi a :: st) h = if 0 ≤ a ∧ a ≤ 100000 then zev kX3_init 47 L (zvr (some (ph_N h)) :: st) (al_ h 1 a.toNat a.toNat) else none) ∧
  (∀ (a : Option Nat) (q : Nat) (L st : List ZV) (h : PH), zev kX3_init 47 L (zvr a :: zvr (some q) :: st) h = if (ph_K h q).1 = 17 then zev kX3_init 50 L st (st_R h q 4 a) else none) ∧
  (∀ (a : Option Nat) (L st : List ZV) (h : PH), zev kX3_init 50 (zvr a :: L) st h = zev kX3_init 51 (zvr a :: L) (zvr a :: st) h) ∧
  (∀ (L st : List ZV) (h : PH), zev kX3_init 51 L st h = zev kX3_init 53 L (zvi 120 :: st) h) ∧
  (∀ (a : Int) (L st : List ZV) (h : PH), zev kX3_init 53 L (zvi a :: st) h = if 0 ≤ a ∧ a ≤ 100000 then zev kX3_init 55 L (zvr (some (ph_N h)) :: st) (al_ h 1 a.toNat a.toNat) else none) ∧
  (∀ (a : Option Nat) (q : Nat) (L st : List ZV) (h : PH), zev kX3_init 55 L (zvr a :: zvr (some q) :: st) h = if (ph_K h q).1 = 17 then zev kX3_init 58 L st (st_R h q 5 a) else none) ∧
  (∀ (L : List ZV) (h : PH), zev kX3_init 58 L [] h = zr0 h) :=
  ⟨fun a L st h => e_ld0R (n := 1) rfl,
  fun x0 a L st h => e_ld1R (n := 2) rfl,
  fun a q L st h => e_putR (kd := 17) (k := 8) (n := 5) rfl,
  fun a L st h => e_ld0R (n := 6) rfl,
  fun q L st h => e_objI (kd := 17) (n := 9) rfl,
  fun a L st h => e_ld0R (n := 10) rfl,
  fun L st h => e_push (v := zvi 120) (n := 12) rfl,
  fun a L st h => e_newa (kd := 6) (n := 15) rfl,
  fun a q L st h => e_putR (kd := 17) (k := 0) (n := 18) rfl,
  fun a L st h => e_ld0R (n := 19) rfl,
  fun L st h => e_push (v := zvi 120) (n := 21) rfl,
  fun a L st h => e_newa (kd := 1) (n := 23) rfl,
  fun a q L st h => e_putR (kd := 17) (k := 1) (n := 26) rfl,
  fun a L st h => e_ld0R (n := 27) rfl,
  fun L st h => e_push (v := zvi 120) (n := 29) rfl,
  fun a L st h => e_newa (kd := 1) (n := 31) rfl,
  fun a q L st h => e_putR (kd := 17) (k := 2) (n := 34) rfl,
  fun a L st h => e_ld0R (n := 35) rfl,
  fun L st h => e_push (v := zvi 120) (n := 37) rfl,
  fun a L st h => e_newa (kd := 1) (n := 39) rfl,
  fun a q L st h => e_putR (kd := 17) (k := 3) (n := 42) rfl,
  fun a L st h => e_ld0R (n := 43) rfl,
  fun L st h => e_push (v := zvi 120) (n := 45) rfl,
  fun a L st h => e_newa (kd := 1) (n := 47) rfl,
  fun a q L st h => e_putR (kd := 17) (k := 4) (n := 50) rfl,
  fun a L st h => e_ld0R (n := 51) rfl,
  fun L st h => e_push (v := zvi 120) (n := 53) rfl,
  fun a L st h => e_newa (kd := 1) (n := 55) rfl,
  fun a q L st h => e_putR (kd := 17) (k := 5) (n := 58) rfl,
  fun L h => e_ret rfl⟩
theorem allX3_init : zall yX3_init cX3_init 2 none 2 kX3_init.1 :=
  ⟨k_aload_n dX3_init_0,
  k_aload_n dX3_init_1,
  k_putR (C := RX3) (T := TX3) (N := 9) (ci := 1) (k := 8) (ref := "LinkTimes$Search") dX3_init_2 rfl in_X3 tyX3 tyX3_ok nmX3 (by decide) (Or.inl q280) (Or.inl rfl) (Or.inr ⟨rfl, rfl, rfl, q280⟩) (tyX3_ok 8 (by decide)) (Or.inl ⟨_, rfl⟩) (fun _ _ _ => rfl),
  k_aload_n dX3_init_5,
  k_objI (C := RX3) (T0 := TX3) (ci := 1) dX3_init_6 rfl q262 q177 q178 (by decide),
  k_aload_n dX3_init_9,
  k_bipush dX3_init_10,
  k_anew (C := "LinkTimes$Departure") (kd := 6) dX3_init_12 (by decide) rfl q263 q264,
  k_putR (C := RX3) (T := TX3) (N := 9) (ci := 1) (k := 0) (ref := "LinkTimes$Search") dX3_init_15 rfl in_X3 tyX3 tyX3_ok nmX3 (by decide) (Or.inl q265) (Or.inl rfl) (Or.inr ⟨rfl, rfl, rfl, q265⟩) (tyX3_ok 0 (by decide)) (Or.inr ⟨_, rfl⟩) (fun _ _ _ => rfl),
  k_aload_n dX3_init_18,
  k_bipush dX3_init_19,
  k_newa (kd := 1) dX3_init_21 (by decide) rfl q300,
  k_putR (C := RX3) (T := TX3) (N := 9) (ci := 1) (k := 1) (ref := "LinkTimes$Search") dX3_init_23 rfl in_X3 tyX3 tyX3_ok nmX3 (by decide) (Or.inl q267) (Or.inl rfl) (Or.inr ⟨rfl, rfl, rfl, q267⟩) (tyX3_ok 1 (by decide)) (Or.inr ⟨_, rfl⟩) (fun _ _ _ => rfl),
  k_aload_n dX3_init_26,
  k_bipush dX3_init_27,
  k_newa (kd := 1) dX3_init_29 (by decide) rfl q300,
  k_putR (C := RX3) (T := TX3) (N := 9) (ci := 1) (k := 2) (ref := "LinkTimes$Search") dX3_init_31 rfl in_X3 tyX3 tyX3_ok nmX3 (by decide) (Or.inl q269) (Or.inl rfl) (Or.inr ⟨rfl, rfl, rfl, q269⟩) (tyX3_ok 2 (by decide)) (Or.inr ⟨_, rfl⟩) (fun _ _ _ => rfl),
  k_aload_n dX3_init_34,
  k_bipush dX3_init_35,
  k_newa (kd := 1) dX3_init_37 (by decide) rfl q300,
  k_putR (C := RX3) (T := TX3) (N := 9) (ci := 1) (k := 3) (ref := "LinkTimes$Search") dX3_init_39 rfl in_X3 tyX3 tyX3_ok nmX3 (by decide) (Or.inl q271) (Or.inl rfl) (Or.inr ⟨rfl, rfl, rfl, q271⟩) (tyX3_ok 3 (by decide)) (Or.inr ⟨_, rfl⟩) (fun _ _ _ => rfl),
  k_aload_n dX3_init_42,
  k_bipush dX3_init_43,
  k_newa (kd := 1) dX3_init_45 (by decide) rfl q300,
  k_putR (C := RX3) (T := TX3) (N := 9) (ci := 1) (k := 4) (ref := "LinkTimes$Search") dX3_init_47 rfl in_X3 tyX3 tyX3_ok nmX3 (by decide) (Or.inl q273) (Or.inl rfl) (Or.inr ⟨rfl, rfl, rfl, q273⟩) (tyX3_ok 4 (by decide)) (Or.inr ⟨_, rfl⟩) (fun _ _ _ => rfl),
  k_aload_n dX3_init_50,
  k_bipush dX3_init_51,
  k_newa (kd := 1) dX3_init_53 (by decide) rfl q300,
  k_putR (C := RX3) (T := TX3) (N := 9) (ci := 1) (k := 5) (ref := "LinkTimes$Search") dX3_init_55 rfl in_X3 tyX3 tyX3_ok nmX3 (by decide) (Or.inl q275) (Or.inl rfl) (Or.inr ⟨rfl, rfl, rfl, q275⟩) (tyX3_ok 5 (by decide)) (Or.inr ⟨_, rfl⟩) (fun _ _ _ => rfl),
  k_ret dX3_init_58, trivial⟩
theorem sndX3_init : MSound 2 yX3_init (ws_ yX3_init cX3_init 2 none) mX3_init := msound_M (by decide) allX3_init (fun _ _ => rfl)
/-! LinkTimes$Search.puts(LLinkTimes$Departure;I)V -/
noncomputable def kX3_puts : ZM := ([(0, zi_ld 1 0 1), (1, zi_getI 17 6 4), (4, zi_st 0 3 5), (5, zi_ld 0 3 6), (6, zi_if (fun a => zc_le a 0) 69 9), (9, zi_ld 1 0 10), (10, zi_getR 17 1 13), (13, zi_ld 0 3 14), (14, zi_push (zvi 1) 15), (15, zi_bin (fun a b => w32 (a - b)) 16), (16, zi_ald 1 17), (17, zi_ld 0 2 18), (18, zi_cmp zc_le 69 21), (21, zi_ld 1 0 22), (22, zi_getR 17 0 25), (25, zi_ld 0 3 26), (26, zi_ld 1 0 27), (27, zi_getR 17 0 30), (30, zi_ld 0 3 31), (31, zi_push (zvi 1) 32), (32, zi_bin (fun a b => w32 (a - b)) 33), (33, zi_aldR 34), (34, zi_astR 6 zokDep 35), (35, zi_ld 1 0 36), (36, zi_getR 17 1 39), (39, zi_ld 0 3 40), (40, zi_ld 1 0 41), (41, zi_getR 17 1 44), (44, zi_ld 0 3 45), (45, zi_push (zvi 1) 46), (46, zi_bin (fun a b => w32 (a - b)) 47), (47, zi_ald 1 48), (48, zi_ast 49), (49, zi_ld 1 0 50), (50, zi_getR 17 2 53), (53, zi_ld 0 3 54), (54, zi_ld 1 0 55), (55, zi_getR 17 2 58), (58, zi_ld 0 3 59), (59, zi_push (zvi 1) 60), (60, zi_bin (fun a b => w32 (a - b)) 61), (61, zi_ald 1 62), (62, zi_ast 63), (63, zi_iinc 3 (-1) 66), (66, zi_goto 5), (69, zi_ld 1 0 70), (70, zi_getR 17 0 73), (73, zi_ld 0 3 74), (74, zi_ld 1 1 75), (75, zi_astR 6 zokDep 76), (76, zi_ld 1 0 77), (77, zi_getR 17 1 80), (80, zi_ld 0 3 81), (81, zi_ld 0 2 82), (82, zi_ast 83), (83, zi_ld 1 0 84), (84, zi_getR 17 2 87), (87, zi_ld 0 3 88), (88, zi_ld 0 2 89), (89, zi_ld 1 1 90), (90, zi_getI 22 6 93), (93, zi_bin (fun a b => w32 (a + b)) 94), (94, zi_ast 95), (95, zi_ld 1 0 96), (96, zi_dup 97), (97, zi_getI 17 6 100), (100, zi_push (zvi 1) 101), (101, zi_bin (fun a b => w32 (a + b)) 102), (102, zi_putI 17 6 105), (105, zi_ret)], fun _ _ => none)
noncomputable def mX3_puts : ZF := zrunM kX3_puts 4
theorem enX3_puts (x0 : Option Nat) (x1 : Option Nat) (x2 : Int) (h : PH) : mX3_puts [zvr x0, zvr x1, zvi x2] h = zev kX3_puts 0 [zvr x0, zvr x1, zvi x2, zvu] [] h := zrunM_eq rfl rfl
theorem hdX3_puts_5 (x0 x1 x2 : ZV) (a : Int) (L st : List ZV) (h : PH) : zev kX3_puts 5 (x0 :: x1 :: x2 :: zvi a :: L) st h = zev kX3_puts 6 (x0 :: x1 :: x2 :: zvi a :: L) (zvi a :: st) h := e_ld3I (n := 6) rfl
theorem rX3_puts : (∀ (a : Option Nat) (L st : List ZV) (h : PH), zev kX3_puts 0 (zvr a :: L) st h = zev kX3_puts 1 (zvr a :: L) (zvr a :: st) h) ∧
  (∀ (q : Nat) (L st : List ZV) (h : PH), zev kX3_puts 1 L (zvr (some q) :: st) h = if (ph_K h q).1 % 1000 = 17 then zev kX3_puts 4 L (zvi (ph_I h q 6) :: st) h else none) ∧
  (∀ (x0 x1 x2 x3 : ZV) (a : Int) (L st : List ZV) (h : PH) (hx : zisL x2 = false) , zev kX3_puts 4 (x0 :: x1 :: x2 :: x3 :: L) (zvi a :: st) h = zev kX3_puts 5 (x0 :: x1 :: x2 :: zvi a :: L) st h) ∧
  (∀ (a : Int) (L st : List ZV) (h : PH), zev kX3_puts 6 L (zvi a :: st) h = if a ≤ 0 then zev kX3_puts 69 L st h else zev kX3_puts 9 L st h) ∧
  (∀ (a : Option Nat) (L st : List ZV) (h : PH), zev kX3_puts 9 (zvr a :: L) st h = zev kX3_puts 10 (zvr a :: L) (zvr a :: st) h) ∧
  (∀ (q : Nat) (L st : List ZV) (h : PH), zev kX3_puts 10 L (zvr (some q) :: st) h = if (ph_K h q).1 % 1000 = 17 then zev kX3_puts 13 L (zvr (ph_R h q 1) :: st) h else none) ∧
  (∀ (x0 x1 x2 : ZV) (a : Int) (L st : List ZV) (h : PH), zev kX3_puts 13 (x0 :: x1 :: x2 :: zvi a :: L) st h = zev kX3_puts 14 (x0 :: x1 :: x2 :: zvi a :: L) (zvi a :: st) h) ∧
  (∀ (L st : List ZV) (h : PH), zev kX3_puts 14 L st h = zev kX3_puts 15 L (zvi 1 :: st) h) ∧
  (∀ (a b : Int) (L st : List ZV) (h : PH), zev kX3_puts 15 L (zvi b :: zvi a :: st) h = zev kX3_puts 16 L (zvi (w32 (a - b)) :: st) h) ∧
  (∀ (j : Int) (q : Nat) (L st : List ZV) (h : PH), zev kX3_puts 16 L (zvi j :: zvr (some q) :: st) h = if (ph_K h q).1 % 1000 = 1 ∧ 0 ≤ j ∧ j < (ph_K h q).2 then zev kX3_puts 17 L (zvi (ph_I h q j) :: st) h else none) ∧
  (∀ (x0 x1 : ZV) (a : Int) (L st : List ZV) (h : PH), zev kX3_puts 17 (x0 :: x1 :: zvi a :: L) st h = zev kX3_puts 18 (x0 :: x1 :: zvi a :: L) (zvi a :: st) h) ∧
  (∀ (a b : Int) (L st : List ZV) (h : PH), zev kX3_puts 18 L (zvi b :: zvi a :: st) h = if a ≤ b then zev kX3_puts 69 L st h else zev kX3_puts 21 L st h) ∧
  (∀ (a : Option Nat) (L st : List ZV) (h : PH), zev kX3_puts 21 (zvr a :: L) st h = zev kX3_puts 22 (zvr a :: L) (zvr a :: st) h) ∧
  (∀ (q : Nat) (L st : List ZV) (h : PH), zev kX3_puts 22 L (zvr (some q) :: st) h = if (ph_K h q).1 % 1000 = 17 then zev kX3_puts 25 L (zvr (ph_R h q 0) :: st) h else none) ∧
  (∀ (x0 x1 x2 : ZV) (a : Int) (L st : List ZV) (h : PH), zev kX3_puts 25 (x0 :: x1 :: x2 :: zvi a :: L) st h = zev kX3_puts 26 (x0 :: x1 :: x2 :: zvi a :: L) (zvi a :: st) h) ∧
  (∀ (a : Option Nat) (L st : List ZV) (h : PH), zev kX3_puts 26 (zvr a :: L) st h = zev kX3_puts 27 (zvr a :: L) (zvr a :: st) h) ∧
  (∀ (q : Nat) (L st : List ZV) (h : PH), zev kX3_puts 27 L (zvr (some q) :: st) h = if (ph_K h q).1 % 1000 = 17 then zev kX3_puts 30 L (zvr (ph_R h q 0) :: st) h else none) ∧
  (∀ (x0 x1 x2 : ZV) (a : Int) (L st : List ZV) (h : PH), zev kX3_puts 30 (x0 :: x1 :: x2 :: zvi a :: L) st h = zev kX3_puts 31 (x0 :: x1 :: x2 :: zvi a :: L) (zvi a :: st) h) ∧
  (∀ (L st : List ZV) (h : PH), zev kX3_puts 31 L st h = zev kX3_puts 32 L (zvi 1 :: st) h) ∧
  (∀ (a b : Int) (L st : List ZV) (h : PH), zev kX3_puts 32 L (zvi b :: zvi a :: st) h = zev kX3_puts 33 L (zvi (w32 (a - b)) :: st) h) ∧
  (∀ (j : Int) (q : Nat) (L st : List ZV) (h : PH), zev kX3_puts 33 L (zvi j :: zvr (some q) :: st) h = if 5 ≤ (ph_K h q).1 % 1000 ∧ (ph_K h q).1 % 1000 ≤ 7 ∧ 0 ≤ j ∧ j < (ph_K h q).2 then zev kX3_puts 34 L (zvr (ph_R h q j) :: st) h else none) ∧
  (∀ (j : Int) (q : Nat) (L st : List ZV) (h : PH), zev kX3_puts 34 L (zvr none :: zvi j :: zvr (some q) :: st) h = if (ph_K h q).1 = 6 ∧ 0 ≤ j ∧ j < (ph_K h q).2 then zev kX3_puts 35 L st (st_R h q j none) else none) ∧
  (∀ (a : Nat) (j : Int) (q : Nat) (L st : List ZV) (h : PH), zev kX3_puts 34 L (zvr (some a) :: zvi j :: zvr (some q) :: st) h = if (ph_K h q).1 = 6 ∧ 0 ≤ j ∧ j < (ph_K h q).2 ∧ zokDep (ph_K h a).1 = true then zev kX3_puts 35 L st (st_R h q j (some a)) else none) ∧
  (∀ (a : Option Nat) (L st : List ZV) (h : PH), zev kX3_puts 35 (zvr a :: L) st h = zev kX3_puts 36 (zvr a :: L) (zvr a :: st) h) ∧
  (∀ (q : Nat) (L st : List ZV) (h : PH), zev kX3_puts 36 L (zvr (some q) :: st) h = if (ph_K h q).1 % 1000 = 17 then zev kX3_puts 39 L (zvr (ph_R h q 1) :: st) h else none) ∧
  (∀ (x0 x1 x2 : ZV) (a : Int) (L st : List ZV) (h : PH), zev kX3_puts 39 (x0 :: x1 :: x2 :: zvi a :: L) st h = zev kX3_puts 40 (x0 :: x1 :: x2 :: zvi a :: L) (zvi a :: st) h) ∧
  (∀ (a : Option Nat) (L st : List ZV) (h : PH), zev kX3_puts 40 (zvr a :: L) st h = zev kX3_puts 41 (zvr a :: L) (zvr a :: st) h) ∧
  (∀ (q : Nat) (L st : List ZV) (h : PH), zev kX3_puts 41 L (zvr (some q) :: st) h = if (ph_K h q).1 % 1000 = 17 then zev kX3_puts 44 L (zvr (ph_R h q 1) :: st) h else none) ∧
  (∀ (x0 x1 x2 : ZV) (a : Int) (L st : List ZV) (h : PH), zev kX3_puts 44 (x0 :: x1 :: x2 :: zvi a :: L) st h = zev kX3_puts 45 (x0 :: x1 :: x2 :: zvi a :: L) (zvi a :: st) h) ∧
  (∀ (L st : List ZV) (h : PH), zev kX3_puts 45 L st h = zev kX3_puts 46 L (zvi 1 :: st) h) ∧
  (∀ (a b : Int) (L st : List ZV) (h : PH), zev kX3_puts 46 L (zvi b :: zvi a :: st) h = zev kX3_puts 47 L (zvi (w32 (a - b)) :: st) h) ∧
  (∀ (j : Int) (q : Nat) (L st : List ZV) (h : PH), zev kX3_puts 47 L (zvi j :: zvr (some q) :: st) h = if (ph_K h q).1 % 1000 = 1 ∧ 0 ≤ j ∧ j < (ph_K h q).2 then zev kX3_puts 48 L (zvi (ph_I h q j) :: st) h else none) ∧
  (∀ (x j : Int) (q : Nat) (L st : List ZV) (h : PH), zev kX3_puts 48 L (zvi x :: zvi j :: zvr (some q) :: st) h = if (ph_K h q).1 = 1 ∧ 0 ≤ j ∧ j < (ph_K h q).2 then zev kX3_puts 49 L st (st_I h q j x) else none) ∧
  (∀ (a : Option Nat) (L st : List ZV) (h : PH), zev kX3_puts 49 (zvr a :: L) st h = zev kX3_puts 50 (zvr a :: L) (zvr a :: st) h) ∧
  (∀ (q : Nat) (L st : List ZV) (h : PH), zev kX3_puts 50 L (zvr (some q) :: st) h = if (ph_K h q).1 % 1000 = 17 then zev kX3_puts 53 L (zvr (ph_R h q 2) :: st) h else none) ∧
  (∀ (x0 x1 x2 : ZV) (a : Int) (L st : List ZV) (h : PH), zev kX3_puts 53 (x0 :: x1 :: x2 :: zvi a :: L) st h = zev kX3_puts 54 (x0 :: x1 :: x2 :: zvi a :: L) (zvi a :: st) h) ∧
  (∀ (a : Option Nat) (L st : List ZV) (h : PH), zev kX3_puts 54 (zvr a :: L) st h = zev kX3_puts 55 (zvr a :: L) (zvr a :: st) h) ∧
  (∀ (q : Nat) (L st : List ZV) (h : PH), zev kX3_puts 55 L (zvr (some q) :: st) h = if (ph_K h q).1 % 1000 = 17 then zev kX3_puts 58 L (zvr (ph_R h q 2) :: st) h else none) ∧
  (∀ (x0 x1 x2 : ZV) (a : Int) (L st : List ZV) (h : PH), zev kX3_puts 58 (x0 :: x1 :: x2 :: zvi a :: L) st h = zev kX3_puts 59 (x0 :: x1 :: x2 :: zvi a :: L) (zvi a :: st) h) ∧
  (∀ (L st : List ZV) (h : PH), zev kX3_puts 59 L st h = zev kX3_puts 60 L (zvi 1 :: st) h) ∧
  (∀ (a b : Int) (L st : List ZV) (h : PH), zev kX3_puts 60 L (zvi b :: zvi a :: st) h = zev kX3_puts 61 L (zvi (w32 (a - b)) :: st) h) ∧
  (∀ (j : Int) (q : Nat) (L st : List ZV) (h : PH), zev kX3_puts 61 L (zvi j :: zvr (some q) :: st) h = if (ph_K h q).1 % 1000 = 1 ∧ 0 ≤ j ∧ j < (ph_K h q).2 then zev kX3_puts 62 L (zvi (ph_I h q j) :: st) h else none) ∧
  (∀ (x j : Int) (q : Nat) (L st : List ZV) (h : PH), zev kX3_puts 62 L (zvi x :: zvi j :: zvr (some q) :: st) h = if (ph_K h q).1 = 1 ∧ 0 ≤ j ∧ j < (ph_K h q).2 then zev kX3_puts 63 L st (st_I h q j x) else none) ∧
  (∀ (x0 x1 x2 : ZV) (a : Int) (L st : List ZV) (h : PH) (hx : zisL x2 = false) , zev kX3_puts 63 (x0 :: x1 :: x2 :: zvi a :: L) st h = zev kX3_puts 66 (x0 :: x1 :: x2 :: zvi (w32 (a + (-1))) :: L) st h) ∧
  (∀ (L st : List ZV) (h : PH), zev kX3_puts 66 L st h = zev kX3_puts 5 L st h) ∧
  (∀ (a : Option Nat) (L st : List ZV) (h : PH), zev kX3_puts 69 (zvr a :: L) st h = zev kX3_puts 70 (zvr a :: L) (zvr a :: st) h) ∧
  (∀ (q : Nat) (L st : List ZV) (h : PH), zev kX3_puts 70 L (zvr (some q) :: st) h = if (ph_K h q).1 % 1000 = 17 then zev kX3_puts 73 L (zvr (ph_R h q 0) :: st) h else none) ∧
  (∀ (x0 x1 x2 : ZV) (a : Int) (L st : List ZV) (h : PH), zev kX3_puts 73 (x0 :: x1 :: x2 :: zvi a :: L) st h = zev kX3_puts 74 (x0 :: x1 :: x2 :: zvi a :: L) (zvi a :: st) h) ∧
  (∀ (x0 : ZV) (a : Option Nat) (L st : List ZV) (h : PH), zev kX3_puts 74 (x0 :: zvr a :: L) st h = zev kX3_puts 75 (x0 :: zvr a :: L) (zvr a :: st) h) ∧
  (∀ (j : Int) (q : Nat) (L st : List ZV) (h : PH), zev kX3_puts 75 L (zvr none :: zvi j :: zvr (some q) :: st) h = if (ph_K h q).1 = 6 ∧ 0 ≤ j ∧ j < (ph_K h q).2 then zev kX3_puts 76 L st (st_R h q j none) else none) ∧
  (∀ (a : Nat) (j : Int) (q : Nat) (L st : List ZV) (h : PH), zev kX3_puts 75 L (zvr (some a) :: zvi j :: zvr (some q) :: st) h = if (ph_K h q).1 = 6 ∧ 0 ≤ j ∧ j < (ph_K h q).2 ∧ zokDep (ph_K h a).1 = true then zev kX3_puts 76 L st (st_R h q j (some a)) else none) ∧
  (∀ (a : Option Nat) (L st : List ZV) (h : PH), zev kX3_puts 76 (zvr a :: L) st h = zev kX3_puts 77 (zvr a :: L) (zvr a :: st) h) ∧
  (∀ (q : Nat) (L st : List ZV) (h : PH), zev kX3_puts 77 L (zvr (some q) :: st) h = if (ph_K h q).1 % 1000 = 17 then zev kX3_puts 80 L (zvr (ph_R h q 1) :: st) h else none) ∧
  (∀ (x0 x1 x2 : ZV) (a : Int) (L st : List ZV) (h : PH), zev kX3_puts 80 (x0 :: x1 :: x2 :: zvi a :: L) st h = zev kX3_puts 81 (x0 :: x1 :: x2 :: zvi a :: L) (zvi a :: st) h) ∧
  (∀ (x0 x1 : ZV) (a : Int) (L st : List ZV) (h : PH), zev kX3_puts 81 (x0 :: x1 :: zvi a :: L) st h = zev kX3_puts 82 (x0 :: x1 :: zvi a :: L) (zvi a :: st) h) ∧
  (∀ (x j : Int) (q : Nat) (L st : List ZV) (h : PH), zev kX3_puts 82 L (zvi x :: zvi j :: zvr (some q) :: st) h = if (ph_K h q).1 = 1 ∧ 0 ≤ j ∧ j < (ph_K h q).2 then zev kX3_puts 83 L st (st_I h q j x) else none) ∧
  (∀ (a : Option Nat) (L st : List ZV) (h : PH), zev kX3_puts 83 (zvr a :: L) st h = zev kX3_puts 84 (zvr a :: L) (zvr a :: st) h) ∧
  (∀ (q : Nat) (L st : List ZV) (h : PH), zev kX3_puts 84 L (zvr (some q) :: st) h = if (ph_K h q).1 % 1000 = 17 then zev kX3_puts 87 L (zvr (ph_R h q 2) :: st) h else none) ∧
  (∀ (x0 x1 x2 : ZV) (a : Int) (L st : List ZV) (h : PH), zev kX3_puts 87 (x0 :: x1 :: x2 :: zvi a :: L) st h = zev kX3_puts 88 (x0 :: x1 :: x2 :: zvi a :: L) (zvi a :: st) h) ∧
  (∀ (x0 x1 : ZV) (a : Int) (L st : List ZV) (h : PH), zev kX3_puts 88 (x0 :: x1 :: zvi a :: L) st h = zev kX3_puts 89 (x0 :: x1 :: zvi a :: L) (zvi a :: st) h) ∧
  (∀ (x0 : ZV) (a : Option Nat) (L st : List ZV) (h : PH), zev kX3_puts 89 (x0 :: zvr a :: L) st h = zev kX3_puts 90 (x0 :: zvr a :: L) (zvr a :: st) h) ∧
  (∀ (q : Nat) (L st : List ZV) (h : PH), zev kX3_puts 90 L (zvr (some q) :: st) h = if (ph_K h q).1 % 1000 = 22 then zev kX3_puts 93 L (zvi (ph_I h q 6) :: st) h else none) ∧
  (∀ (a b : Int) (L st : List ZV) (h : PH), zev kX3_puts 93 L (zvi b :: zvi a :: st) h = zev kX3_puts 94 L (zvi (w32 (a + b)) :: st) h) ∧
  (∀ (x j : Int) (q : Nat) (L st : List ZV) (h : PH), zev kX3_puts 94 L (zvi x :: zvi j :: zvr (some q) :: st) h = if (ph_K h q).1 = 1 ∧ 0 ≤ j ∧ j < (ph_K h q).2 then zev kX3_puts 95 L st (st_I h q j x) else none) ∧
  (∀ (a : Option Nat) (L st : List ZV) (h : PH), zev kX3_puts 95 (zvr a :: L) st h = zev kX3_puts 96 (zvr a :: L) (zvr a :: st) h) ∧
  (∀ (a : Int) (L st : List ZV) (h : PH), zev kX3_puts 96 L (zvi a :: st) h = zev kX3_puts 97 L (zvi a :: zvi a :: st) h) ∧
  (∀ (a : Option Nat) (L st : List ZV) (h : PH), zev kX3_puts 96 L (zvr a :: st) h = zev kX3_puts 97 L (zvr a :: zvr a :: st) h) ∧
  (∀ (q : Nat) (L st : List ZV) (h : PH), zev kX3_puts 97 L (zvr (some q) :: st) h = if (ph_K h q).1 % 1000 = 17 then zev kX3_puts 100 L (zvi (ph_I h q 6) :: st) h else none) ∧
  (∀ (L st : List ZV) (h : PH), zev kX3_puts 100 L st h = zev kX3_puts 101 L (zvi 1 :: st) h) ∧
  (∀ (a b : Int) (L st : List ZV) (h : PH), zev kX3_puts 101 L (zvi b :: zvi a :: st) h = zev kX3_puts 102 L (zvi (w32 (a + b)) :: st) h) ∧
  (∀ (a : Int) (q : Nat) (L st : List ZV) (h : PH), zev kX3_puts 102 L (zvi a :: zvr (some q) :: st) h = if (ph_K h q).1 = 17 then zev kX3_puts 105 L st (st_I h q 6 a) else none) ∧
  (∀ (L : List ZV) (h : PH), zev kX3_puts 105 L [] h = zr0 h) :=
  ⟨fun a L st h => e_ld0R (n := 1) rfl,
  fun q L st h => e_getI (kd := 17) (k := 6) (n := 4) rfl,
  fun x0 x1 x2 x3 a L st h hx => e_st3I (n := 5) rfl hx,
  fun a L st h => e_ifle (t := 69) (n := 9) rfl,
  fun a L st h => e_ld0R (n := 10) rfl,
  fun q L st h => e_getR (kd := 17) (k := 1) (n := 13) rfl,
  fun x0 x1 x2 a L st h => e_ld3I (n := 14) rfl,
  fun L st h => e_push (v := zvi 1) (n := 15) rfl,
  fun a b L st h => e_bin (f := (fun a b => w32 (a - b))) (n := 16) rfl,
  fun j q L st h => e_ald (kd := 1) (n := 17) rfl,
  fun x0 x1 a L st h => e_ld2I (n := 18) rfl,
  fun a b L st h => e_cmple (t := 69) (n := 21) rfl,
  fun a L st h => e_ld0R (n := 22) rfl,
  fun q L st h => e_getR (kd := 17) (k := 0) (n := 25) rfl,
  fun x0 x1 x2 a L st h => e_ld3I (n := 26) rfl,
  fun a L st h => e_ld0R (n := 27) rfl,
  fun q L st h => e_getR (kd := 17) (k := 0) (n := 30) rfl,
  fun x0 x1 x2 a L st h => e_ld3I (n := 31) rfl,
  fun L st h => e_push (v := zvi 1) (n := 32) rfl,
  fun a b L st h => e_bin (f := (fun a b => w32 (a - b))) (n := 33) rfl,
  fun j q L st h => e_aldR (n := 34) rfl,
  fun j q L st h => e_astR0 (kd := 6) (ok := zokDep) (n := 35) rfl,
  fun a j q L st h => e_astR1 (kd := 6) (ok := zokDep) (n := 35) rfl,
  fun a L st h => e_ld0R (n := 36) rfl,
  fun q L st h => e_getR (kd := 17) (k := 1) (n := 39) rfl,
  fun x0 x1 x2 a L st h => e_ld3I (n := 40) rfl,
  fun a L st h => e_ld0R (n := 41) rfl,
  fun q L st h => e_getR (kd := 17) (k := 1) (n := 44) rfl,
  fun x0 x1 x2 a L st h => e_ld3I (n := 45) rfl,
  fun L st h => e_push (v := zvi 1) (n := 46) rfl,
  fun a b L st h => e_bin (f := (fun a b => w32 (a - b))) (n := 47) rfl,
  fun j q L st h => e_ald (kd := 1) (n := 48) rfl,
  fun x j q L st h => e_ast (n := 49) rfl,
  fun a L st h => e_ld0R (n := 50) rfl,
  fun q L st h => e_getR (kd := 17) (k := 2) (n := 53) rfl,
  fun x0 x1 x2 a L st h => e_ld3I (n := 54) rfl,
  fun a L st h => e_ld0R (n := 55) rfl,
  fun q L st h => e_getR (kd := 17) (k := 2) (n := 58) rfl,
  fun x0 x1 x2 a L st h => e_ld3I (n := 59) rfl,
  fun L st h => e_push (v := zvi 1) (n := 60) rfl,
  fun a b L st h => e_bin (f := (fun a b => w32 (a - b))) (n := 61) rfl,
  fun j q L st h => e_ald (kd := 1) (n := 62) rfl,
  fun x j q L st h => e_ast (n := 63) rfl,
  fun x0 x1 x2 a L st h hx => e_iinc3 (d := (-1)) (n := 66) rfl hx,
  fun L st h => e_goto (t := 5) rfl,
  fun a L st h => e_ld0R (n := 70) rfl,
  fun q L st h => e_getR (kd := 17) (k := 0) (n := 73) rfl,
  fun x0 x1 x2 a L st h => e_ld3I (n := 74) rfl,
  fun x0 a L st h => e_ld1R (n := 75) rfl,
  fun j q L st h => e_astR0 (kd := 6) (ok := zokDep) (n := 76) rfl,
  fun a j q L st h => e_astR1 (kd := 6) (ok := zokDep) (n := 76) rfl,
  fun a L st h => e_ld0R (n := 77) rfl,
  fun q L st h => e_getR (kd := 17) (k := 1) (n := 80) rfl,
  fun x0 x1 x2 a L st h => e_ld3I (n := 81) rfl,
  fun x0 x1 a L st h => e_ld2I (n := 82) rfl,
  fun x j q L st h => e_ast (n := 83) rfl,
  fun a L st h => e_ld0R (n := 84) rfl,
  fun q L st h => e_getR (kd := 17) (k := 2) (n := 87) rfl,
  fun x0 x1 x2 a L st h => e_ld3I (n := 88) rfl,
  fun x0 x1 a L st h => e_ld2I (n := 89) rfl,
  fun x0 a L st h => e_ld1R (n := 90) rfl,
  fun q L st h => e_getI (kd := 22) (k := 6) (n := 93) rfl,
  fun a b L st h => e_bin (f := (fun a b => w32 (a + b))) (n := 94) rfl,
  fun x j q L st h => e_ast (n := 95) rfl,
  fun a L st h => e_ld0R (n := 96) rfl,
  fun a L st h => e_dupI (n := 97) rfl,
  fun a L st h => e_dupR (n := 97) rfl,
  fun q L st h => e_getI (kd := 17) (k := 6) (n := 100) rfl,
  fun L st h => e_push (v := zvi 1) (n := 101) rfl,
  fun a b L st h => e_bin (f := (fun a b => w32 (a + b))) (n := 102) rfl,
  fun a q L st h => e_putI (kd := 17) (k := 6) (n := 105) rfl,
  fun L h => e_ret rfl⟩
theorem allX3_puts : zall yX3_puts cX3_puts 4 none 1 kX3_puts.1 :=
  ⟨k_aload_n dX3_puts_0,
  k_getI (C := RX3) (T := TX3) (N := 9) (ci := 1) (k := 6) (ref := "LinkTimes$Search") dX3_puts_1 rfl in_X3 (by decide) q277 (Or.inl rfl) (fun _ _ _ => rfl),
  k_istore_n dX3_puts_4,
  k_iload_n dX3_puts_5,
  k_ifle (t := 69) dX3_puts_6 (by decide),
  k_aload_n dX3_puts_9,
  k_getR (C := RX3) (T := TX3) (N := 9) (ci := 1) (k := 1) (ref := "LinkTimes$Search") dX3_puts_10 rfl in_X3 (by decide) q267 (Or.inl rfl) (fun _ _ _ => rfl),
  k_iload_n dX3_puts_13,
  k_iconst dX3_puts_14,
  k_isub dX3_puts_15,
  k_iald dX3_puts_16,
  k_iload_n dX3_puts_17,
  k_cmple (t := 69) dX3_puts_18 (by decide),
  k_aload_n dX3_puts_21,
  k_getR (C := RX3) (T := TX3) (N := 9) (ci := 1) (k := 0) (ref := "LinkTimes$Search") dX3_puts_22 rfl in_X3 (by decide) q265 (Or.inl rfl) (fun _ _ _ => rfl),
  k_iload_n dX3_puts_25,
  k_aload_n dX3_puts_26,
  k_getR (C := RX3) (T := TX3) (N := 9) (ci := 1) (k := 0) (ref := "LinkTimes$Search") dX3_puts_27 rfl in_X3 (by decide) q265 (Or.inl rfl) (fun _ _ _ => rfl),
  k_iload_n dX3_puts_30,
  k_iconst dX3_puts_31,
  k_isub dX3_puts_32,
  k_aald dX3_puts_33,
  k_aast (kd := 6) (nm := "LinkTimes$Departure") dX3_puts_34 (by decide) rfl zokDep_can,
  k_aload_n dX3_puts_35,
  k_getR (C := RX3) (T := TX3) (N := 9) (ci := 1) (k := 1) (ref := "LinkTimes$Search") dX3_puts_36 rfl in_X3 (by decide) q267 (Or.inl rfl) (fun _ _ _ => rfl),
  k_iload_n dX3_puts_39,
  k_aload_n dX3_puts_40,
  k_getR (C := RX3) (T := TX3) (N := 9) (ci := 1) (k := 1) (ref := "LinkTimes$Search") dX3_puts_41 rfl in_X3 (by decide) q267 (Or.inl rfl) (fun _ _ _ => rfl),
  k_iload_n dX3_puts_44,
  k_iconst dX3_puts_45,
  k_isub dX3_puts_46,
  k_iald dX3_puts_47,
  k_iast dX3_puts_48,
  k_aload_n dX3_puts_49,
  k_getR (C := RX3) (T := TX3) (N := 9) (ci := 1) (k := 2) (ref := "LinkTimes$Search") dX3_puts_50 rfl in_X3 (by decide) q269 (Or.inl rfl) (fun _ _ _ => rfl),
  k_iload_n dX3_puts_53,
  k_aload_n dX3_puts_54,
  k_getR (C := RX3) (T := TX3) (N := 9) (ci := 1) (k := 2) (ref := "LinkTimes$Search") dX3_puts_55 rfl in_X3 (by decide) q269 (Or.inl rfl) (fun _ _ _ => rfl),
  k_iload_n dX3_puts_58,
  k_iconst dX3_puts_59,
  k_isub dX3_puts_60,
  k_iald dX3_puts_61,
  k_iast dX3_puts_62,
  k_iinc dX3_puts_63,
  k_goto (t := 5) dX3_puts_66 (by decide),
  k_aload_n dX3_puts_69,
  k_getR (C := RX3) (T := TX3) (N := 9) (ci := 1) (k := 0) (ref := "LinkTimes$Search") dX3_puts_70 rfl in_X3 (by decide) q265 (Or.inl rfl) (fun _ _ _ => rfl),
  k_iload_n dX3_puts_73,
  k_aload_n dX3_puts_74,
  k_aast (kd := 6) (nm := "LinkTimes$Departure") dX3_puts_75 (by decide) rfl zokDep_can,
  k_aload_n dX3_puts_76,
  k_getR (C := RX3) (T := TX3) (N := 9) (ci := 1) (k := 1) (ref := "LinkTimes$Search") dX3_puts_77 rfl in_X3 (by decide) q267 (Or.inl rfl) (fun _ _ _ => rfl),
  k_iload_n dX3_puts_80,
  k_iload_n dX3_puts_81,
  k_iast dX3_puts_82,
  k_aload_n dX3_puts_83,
  k_getR (C := RX3) (T := TX3) (N := 9) (ci := 1) (k := 2) (ref := "LinkTimes$Search") dX3_puts_84 rfl in_X3 (by decide) q269 (Or.inl rfl) (fun _ _ _ => rfl),
  k_iload_n dX3_puts_87,
  k_iload_n dX3_puts_88,
  k_aload_n dX3_puts_89,
  k_getIN (C := RX11) (T := TX11) (N := 9) (ci := 6) (k := 6) (ref := "LinkTimes$Departure") dX3_puts_90 rfl in_X11 (by decide) q866 (Or.inl rfl) (fun _ _ _ => rfl),
  k_iadd dX3_puts_93,
  k_iast dX3_puts_94,
  k_aload_n dX3_puts_95,
  k_dup dX3_puts_96,
  k_getI (C := RX3) (T := TX3) (N := 9) (ci := 1) (k := 6) (ref := "LinkTimes$Search") dX3_puts_97 rfl in_X3 (by decide) q277 (Or.inl rfl) (fun _ _ _ => rfl),
  k_iconst dX3_puts_100,
  k_iadd dX3_puts_101,
  k_putI (C := RX3) (T := TX3) (N := 9) (ci := 1) (k := 6) (ref := "LinkTimes$Search") dX3_puts_102 rfl in_X3 tyX3 tyX3_ok nmX3 (by decide) (Or.inl q277) (Or.inl rfl) (Or.inl rfl) (tyX3_ok 6 (by decide)) (fun _ _ _ => rfl),
  k_ret dX3_puts_105, trivial⟩
theorem sndX3_puts : MSound 1 yX3_puts (ws_ yX3_puts cX3_puts 4 none) mX3_puts := msound_M (by decide) allX3_puts (fun _ _ => rfl)
/-! LinkTimes$Search.lays(III)LLinkTimes$Search; -/
noncomputable def kX3_lays : ZM := ([(0, zi_ld 1 0 1), (1, zi_push (zvi 0) 2), (2, zi_putI 17 7 5), (5, zi_ld 1 0 6), (6, zi_push (zvi 0) 7), (7, zi_putI 17 6 10), (10, zi_push (zvi 0) 11), (11, zi_st 0 4 13), (13, zi_ld 0 4 15), (15, zi_ld 1 0 16), (16, zi_getR 17 8 19), (19, zi_getR 16 5 22), (22, zi_getR 20 4 25), (25, zi_callV mJ7_size 29 1 28), (28, zi_cmp zc_ge 94 31), (31, zi_ld 1 0 32), (32, zi_getR 17 8 35), (35, zi_getR 16 5 38), (38, zi_getR 20 4 41), (41, zi_ld 0 4 43), (43, zi_callV mJ7_get 29 2 46), (46, zi_cast zokDep 49), (49, zi_st 1 5 51), (51, zi_ld 1 5 53), (53, zi_getI 22 8 56), (56, zi_if (fun a => zc_eq a 0) 88 59), (59, zi_ld 0 4 61), (61, zi_ld 0 1 62), (62, zi_cmp zc_eq 88 65), (65, zi_ld 1 0 66), (66, zi_ld 1 5 68), (68, zi_ld 1 5 70), (70, zi_callV mX11_leaves 22 1 73), (73, zi_ld 0 4 75), (75, zi_ld 0 2 76), (76, zi_cmp zc_ne 83 79), (79, zi_ld 0 3 80), (80, zi_goto 84), (83, zi_push (zvi 0) 84), (84, zi_bin (fun a b => w32 (a + b)) 85), (85, zi_callV mX3_puts 17 3 88), (88, zi_iinc 4 1 91), (91, zi_goto 13), (94, zi_ld 1 0 95), (95, zi_retv 1)], fun _ _ => none)
noncomputable def mX3_lays : ZF := zrunM kX3_lays 6
theorem enX3_lays (x0 : Option Nat) (x1 : Int) (x2 : Int) (x3 : Int) (h : PH) : mX3_lays [zvr x0, zvi x1, zvi x2, zvi x3] h = zev kX3_lays 0 [zvr x0, zvi x1, zvi x2, zvi x3, zvu, zvu] [] h := zrunM_eq rfl rfl
theorem hdX3_lays_13 (x0 x1 x2 x3 : ZV) (a : Int) (L st : List ZV) (h : PH) : zev kX3_lays 13 (x0 :: x1 :: x2 :: x3 :: zvi a :: L) st h = zev kX3_lays 15 (x0 :: x1 :: x2 :: x3 :: zvi a :: L) (zvi a :: st) h := e_ld4I (n := 15) rfl
theorem rX3_lays : (∀ (a : Option Nat) (L st : List ZV) (h : PH), zev kX3_lays 0 (zvr a :: L) st h = zev kX3_lays 1 (zvr a :: L) (zvr a :: st) h) ∧
  (∀ (L st : List ZV) (h : PH), zev kX3_lays 1 L st h = zev kX3_lays 2 L (zvi 0 :: st) h) ∧
  (∀ (a : Int) (q : Nat) (L st : List ZV) (h : PH), zev kX3_lays 2 L (zvi a :: zvr (some q) :: st) h = if (ph_K h q).1 = 17 then zev kX3_lays 5 L st (st_I h q 7 a) else none) ∧
  (∀ (a : Option Nat) (L st : List ZV) (h : PH), zev kX3_lays 5 (zvr a :: L) st h = zev kX3_lays 6 (zvr a :: L) (zvr a :: st) h) ∧
  (∀ (L st : List ZV) (h : PH), zev kX3_lays 6 L st h = zev kX3_lays 7 L (zvi 0 :: st) h) ∧
  (∀ (a : Int) (q : Nat) (L st : List ZV) (h : PH), zev kX3_lays 7 L (zvi a :: zvr (some q) :: st) h = if (ph_K h q).1 = 17 then zev kX3_lays 10 L st (st_I h q 6 a) else none) ∧
  (∀ (L st : List ZV) (h : PH), zev kX3_lays 10 L st h = zev kX3_lays 11 L (zvi 0 :: st) h) ∧
  (∀ (x0 x1 x2 x3 x4 : ZV) (a : Int) (L st : List ZV) (h : PH) (hx : zisL x3 = false) , zev kX3_lays 11 (x0 :: x1 :: x2 :: x3 :: x4 :: L) (zvi a :: st) h = zev kX3_lays 13 (x0 :: x1 :: x2 :: x3 :: zvi a :: L) st h) ∧
  (∀ (a : Option Nat) (L st : List ZV) (h : PH), zev kX3_lays 15 (zvr a :: L) st h = zev kX3_lays 16 (zvr a :: L) (zvr a :: st) h) ∧
  (∀ (q : Nat) (L st : List ZV) (h : PH), zev kX3_lays 16 L (zvr (some q) :: st) h = if (ph_K h q).1 % 1000 = 17 then zev kX3_lays 19 L (zvr (ph_R h q 8) :: st) h else none) ∧
  (∀ (q : Nat) (L st : List ZV) (h : PH), zev kX3_lays 19 L (zvr (some q) :: st) h = if (ph_K h q).1 % 1000 = 16 then zev kX3_lays 22 L (zvr (ph_R h q 5) :: st) h else none) ∧
  (∀ (q : Nat) (L st : List ZV) (h : PH), zev kX3_lays 22 L (zvr (some q) :: st) h = if (ph_K h q).1 % 1000 = 20 then zev kX3_lays 25 L (zvr (ph_R h q 4) :: st) h else none) ∧
  (∀ (q : Nat) (L st : List ZV) (h : PH), zev kX3_lays 25 L (zvr (some q) :: st) h = if (ph_K h q).1 % 1000 = 29 ∧ zcat st ≤ 8 then zk kX3_lays 25 28 L st (mJ7_size [zvr (some q)] h) else none) ∧
  (∀ (a b : Int) (L st : List ZV) (h : PH), zev kX3_lays 28 L (zvi b :: zvi a :: st) h = if a ≥ b then zev kX3_lays 94 L st h else zev kX3_lays 31 L st h) ∧
  (∀ (a : Option Nat) (L st : List ZV) (h : PH), zev kX3_lays 31 (zvr a :: L) st h = zev kX3_lays 32 (zvr a :: L) (zvr a :: st) h) ∧
  (∀ (q : Nat) (L st : List ZV) (h : PH), zev kX3_lays 32 L (zvr (some q) :: st) h = if (ph_K h q).1 % 1000 = 17 then zev kX3_lays 35 L (zvr (ph_R h q 8) :: st) h else none) ∧
  (∀ (q : Nat) (L st : List ZV) (h : PH), zev kX3_lays 35 L (zvr (some q) :: st) h = if (ph_K h q).1 % 1000 = 16 then zev kX3_lays 38 L (zvr (ph_R h q 5) :: st) h else none) ∧
  (∀ (q : Nat) (L st : List ZV) (h : PH), zev kX3_lays 38 L (zvr (some q) :: st) h = if (ph_K h q).1 % 1000 = 20 then zev kX3_lays 41 L (zvr (ph_R h q 4) :: st) h else none) ∧
  (∀ (x0 x1 x2 x3 : ZV) (a : Int) (L st : List ZV) (h : PH), zev kX3_lays 41 (x0 :: x1 :: x2 :: x3 :: zvi a :: L) st h = zev kX3_lays 43 (x0 :: x1 :: x2 :: x3 :: zvi a :: L) (zvi a :: st) h) ∧
  (∀ (v0 : ZV) (q : Nat) (L st : List ZV) (h : PH), zev kX3_lays 43 L (v0 :: zvr (some q) :: st) h = if (ph_K h q).1 % 1000 = 29 ∧ zcat st ≤ 8 then zk kX3_lays 43 46 L st (mJ7_get [zvr (some q), v0] h) else none) ∧
  (∀ (L st : List ZV) (h : PH), zev kX3_lays 46 L (zvr none :: st) h = zev kX3_lays 49 L (zvr none :: st) h) ∧
  (∀ (q : Nat) (L st : List ZV) (h : PH), zev kX3_lays 46 L (zvr (some q) :: st) h = if zokDep (ph_K h q).1 = true then zev kX3_lays 49 L (zvr (some q) :: st) h else none) ∧
  (∀ (x0 x1 x2 x3 x4 x5 : ZV) (a : Option Nat) (L st : List ZV) (h : PH) (hx : zisL x4 = false) , zev kX3_lays 49 (x0 :: x1 :: x2 :: x3 :: x4 :: x5 :: L) (zvr a :: st) h = zev kX3_lays 51 (x0 :: x1 :: x2 :: x3 :: x4 :: zvr a :: L) st h) ∧
  (∀ (x0 x1 x2 x3 x4 : ZV) (a : Option Nat) (L st : List ZV) (h : PH), zev kX3_lays 51 (x0 :: x1 :: x2 :: x3 :: x4 :: zvr a :: L) st h = zev kX3_lays 53 (x0 :: x1 :: x2 :: x3 :: x4 :: zvr a :: L) (zvr a :: st) h) ∧
  (∀ (q : Nat) (L st : List ZV) (h : PH), zev kX3_lays 53 L (zvr (some q) :: st) h = if (ph_K h q).1 % 1000 = 22 then zev kX3_lays 56 L (zvi (ph_I h q 8) :: st) h else none) ∧
  (∀ (a : Int) (L st : List ZV) (h : PH), zev kX3_lays 56 L (zvi a :: st) h = if a = 0 then zev kX3_lays 88 L st h else zev kX3_lays 59 L st h) ∧
  (∀ (x0 x1 x2 x3 : ZV) (a : Int) (L st : List ZV) (h : PH), zev kX3_lays 59 (x0 :: x1 :: x2 :: x3 :: zvi a :: L) st h = zev kX3_lays 61 (x0 :: x1 :: x2 :: x3 :: zvi a :: L) (zvi a :: st) h) ∧
  (∀ (x0 : ZV) (a : Int) (L st : List ZV) (h : PH), zev kX3_lays 61 (x0 :: zvi a :: L) st h = zev kX3_lays 62 (x0 :: zvi a :: L) (zvi a :: st) h) ∧
  (∀ (a b : Int) (L st : List ZV) (h : PH), zev kX3_lays 62 L (zvi b :: zvi a :: st) h = if a = b then zev kX3_lays 88 L st h else zev kX3_lays 65 L st h) ∧
  (∀ (a : Option Nat) (L st : List ZV) (h : PH), zev kX3_lays 65 (zvr a :: L) st h = zev kX3_lays 66 (zvr a :: L) (zvr a :: st) h) ∧
  (∀ (x0 x1 x2 x3 x4 : ZV) (a : Option Nat) (L st : List ZV) (h : PH), zev kX3_lays 66 (x0 :: x1 :: x2 :: x3 :: x4 :: zvr a :: L) st h = zev kX3_lays 68 (x0 :: x1 :: x2 :: x3 :: x4 :: zvr a :: L) (zvr a :: st) h) ∧
  (∀ (x0 x1 x2 x3 x4 : ZV) (a : Option Nat) (L st : List ZV) (h : PH), zev kX3_lays 68 (x0 :: x1 :: x2 :: x3 :: x4 :: zvr a :: L) st h = zev kX3_lays 70 (x0 :: x1 :: x2 :: x3 :: x4 :: zvr a :: L) (zvr a :: st) h) ∧
  (∀ (q : Nat) (L st : List ZV) (h : PH), zev kX3_lays 70 L (zvr (some q) :: st) h = if (ph_K h q).1 % 1000 = 22 ∧ zcat st ≤ 8 then zk kX3_lays 70 73 L st (mX11_leaves [zvr (some q)] h) else none) ∧
  (∀ (x0 x1 x2 x3 : ZV) (a : Int) (L st : List ZV) (h : PH), zev kX3_lays 73 (x0 :: x1 :: x2 :: x3 :: zvi a :: L) st h = zev kX3_lays 75 (x0 :: x1 :: x2 :: x3 :: zvi a :: L) (zvi a :: st) h) ∧
  (∀ (x0 x1 : ZV) (a : Int) (L st : List ZV) (h : PH), zev kX3_lays 75 (x0 :: x1 :: zvi a :: L) st h = zev kX3_lays 76 (x0 :: x1 :: zvi a :: L) (zvi a :: st) h) ∧
  (∀ (a b : Int) (L st : List ZV) (h : PH), zev kX3_lays 76 L (zvi b :: zvi a :: st) h = if a ≠ b then zev kX3_lays 83 L st h else zev kX3_lays 79 L st h) ∧
  (∀ (x0 x1 x2 : ZV) (a : Int) (L st : List ZV) (h : PH), zev kX3_lays 79 (x0 :: x1 :: x2 :: zvi a :: L) st h = zev kX3_lays 80 (x0 :: x1 :: x2 :: zvi a :: L) (zvi a :: st) h) ∧
  (∀ (L st : List ZV) (h : PH), zev kX3_lays 80 L st h = zev kX3_lays 84 L st h) ∧
  (∀ (L st : List ZV) (h : PH), zev kX3_lays 83 L st h = zev kX3_lays 84 L (zvi 0 :: st) h) ∧
  (∀ (a b : Int) (L st : List ZV) (h : PH), zev kX3_lays 84 L (zvi b :: zvi a :: st) h = zev kX3_lays 85 L (zvi (w32 (a + b)) :: st) h) ∧
  (∀ (v0 v1 : ZV) (q : Nat) (L st : List ZV) (h : PH), zev kX3_lays 85 L (v1 :: v0 :: zvr (some q) :: st) h = if (ph_K h q).1 % 1000 = 17 ∧ zcat st ≤ 8 then zk kX3_lays 85 88 L st (mX3_puts [zvr (some q), v0, v1] h) else none) ∧
  (∀ (x0 x1 x2 x3 : ZV) (a : Int) (L st : List ZV) (h : PH) (hx : zisL x3 = false) , zev kX3_lays 88 (x0 :: x1 :: x2 :: x3 :: zvi a :: L) st h = zev kX3_lays 91 (x0 :: x1 :: x2 :: x3 :: zvi (w32 (a + 1)) :: L) st h) ∧
  (∀ (L st : List ZV) (h : PH), zev kX3_lays 91 L st h = zev kX3_lays 13 L st h) ∧
  (∀ (a : Option Nat) (L st : List ZV) (h : PH), zev kX3_lays 94 (zvr a :: L) st h = zev kX3_lays 95 (zvr a :: L) (zvr a :: st) h) ∧
  (∀ (a : Option Nat) (L : List ZV) (h : PH), zev kX3_lays 95 L [zvr a] h = zrv (zvr a) h) :=
  ⟨fun a L st h => e_ld0R (n := 1) rfl,
  fun L st h => e_push (v := zvi 0) (n := 2) rfl,
  fun a q L st h => e_putI (kd := 17) (k := 7) (n := 5) rfl,
  fun a L st h => e_ld0R (n := 6) rfl,
  fun L st h => e_push (v := zvi 0) (n := 7) rfl,
  fun a q L st h => e_putI (kd := 17) (k := 6) (n := 10) rfl,
  fun L st h => e_push (v := zvi 0) (n := 11) rfl,
  fun x0 x1 x2 x3 x4 a L st h hx => e_st4I (n := 13) rfl hx,
  fun a L st h => e_ld0R (n := 16) rfl,
  fun q L st h => e_getR (kd := 17) (k := 8) (n := 19) rfl,
  fun q L st h => e_getR (kd := 16) (k := 5) (n := 22) rfl,
  fun q L st h => e_getR (kd := 20) (k := 4) (n := 25) rfl,
  fun q L st h => e_callV1 (F := mJ7_size) (kd := 29) (n := 28) rfl,
  fun a b L st h => e_cmpge (t := 94) (n := 31) rfl,
  fun a L st h => e_ld0R (n := 32) rfl,
  fun q L st h => e_getR (kd := 17) (k := 8) (n := 35) rfl,
  fun q L st h => e_getR (kd := 16) (k := 5) (n := 38) rfl,
  fun q L st h => e_getR (kd := 20) (k := 4) (n := 41) rfl,
  fun x0 x1 x2 x3 a L st h => e_ld4I (n := 43) rfl,
  fun v0 q L st h => e_callV2 (F := mJ7_get) (kd := 29) (n := 46) rfl,
  fun L st h => e_cast0 (ok := zokDep) (n := 49) rfl,
  fun q L st h => e_cast1 (ok := zokDep) (n := 49) rfl,
  fun x0 x1 x2 x3 x4 x5 a L st h hx => e_st5R (n := 51) rfl hx,
  fun x0 x1 x2 x3 x4 a L st h => e_ld5R (n := 53) rfl,
  fun q L st h => e_getI (kd := 22) (k := 8) (n := 56) rfl,
  fun a L st h => e_ifeq (t := 88) (n := 59) rfl,
  fun x0 x1 x2 x3 a L st h => e_ld4I (n := 61) rfl,
  fun x0 a L st h => e_ld1I (n := 62) rfl,
  fun a b L st h => e_cmpeq (t := 88) (n := 65) rfl,
  fun a L st h => e_ld0R (n := 66) rfl,
  fun x0 x1 x2 x3 x4 a L st h => e_ld5R (n := 68) rfl,
  fun x0 x1 x2 x3 x4 a L st h => e_ld5R (n := 70) rfl,
  fun q L st h => e_callV1 (F := mX11_leaves) (kd := 22) (n := 73) rfl,
  fun x0 x1 x2 x3 a L st h => e_ld4I (n := 75) rfl,
  fun x0 x1 a L st h => e_ld2I (n := 76) rfl,
  fun a b L st h => e_cmpne (t := 83) (n := 79) rfl,
  fun x0 x1 x2 a L st h => e_ld3I (n := 80) rfl,
  fun L st h => e_goto (t := 84) rfl,
  fun L st h => e_push (v := zvi 0) (n := 84) rfl,
  fun a b L st h => e_bin (f := (fun a b => w32 (a + b))) (n := 85) rfl,
  fun v0 v1 q L st h => e_callV3 (F := mX3_puts) (kd := 17) (n := 88) rfl,
  fun x0 x1 x2 x3 a L st h hx => e_iinc4 (d := 1) (n := 91) rfl hx,
  fun L st h => e_goto (t := 13) rfl,
  fun a L st h => e_ld0R (n := 95) rfl,
  fun a L h => e_retR rfl⟩
theorem allX3_lays : zall yX3_lays cX3_lays 6 (some (.object "LinkTimes$Search")) 4 kX3_lays.1 :=
  ⟨k_aload_n dX3_lays_0,
  k_iconst dX3_lays_1,
  k_putI (C := RX3) (T := TX3) (N := 9) (ci := 1) (k := 7) (ref := "LinkTimes$Search") dX3_lays_2 rfl in_X3 tyX3 tyX3_ok nmX3 (by decide) (Or.inl q279) (Or.inl rfl) (Or.inl rfl) (tyX3_ok 7 (by decide)) (fun _ _ _ => rfl),
  k_aload_n dX3_lays_5,
  k_iconst dX3_lays_6,
  k_putI (C := RX3) (T := TX3) (N := 9) (ci := 1) (k := 6) (ref := "LinkTimes$Search") dX3_lays_7 rfl in_X3 tyX3 tyX3_ok nmX3 (by decide) (Or.inl q277) (Or.inl rfl) (Or.inl rfl) (tyX3_ok 6 (by decide)) (fun _ _ _ => rfl),
  k_iconst dX3_lays_10,
  k_istore dX3_lays_11,
  k_iload dX3_lays_13,
  k_aload_n dX3_lays_15,
  k_getR (C := RX3) (T := TX3) (N := 9) (ci := 1) (k := 8) (ref := "LinkTimes$Search") dX3_lays_16 rfl in_X3 (by decide) q280 (Or.inl rfl) (fun _ _ _ => rfl),
  k_getRN (C := RX1) (T := TX1) (N := 19) (ci := 0) (k := 5) (ref := "LinkTimes") dX3_lays_19 rfl in_X1 (by decide) q307 (Or.inl rfl) (fun _ _ _ => rfl),
  k_getRN (C := RX6) (T := TX6) (N := 5) (ci := 4) (k := 4) (ref := "LinkTimes$Desk") dX3_lays_22 rfl in_X6 (by decide) q429 (Or.inl rfl) (fun _ _ _ => rfl),
  k_callV (y2 := yJ7_size) (C := RJ7) (T0 := TJ7) (ci := 13) dX3_lays_25 sndJ7_size rfl q1346 q652 q653 q141 q654 (by decide +kernel) ⟨by decide, by decide⟩ (by decide) (by decide),
  k_cmpge (t := 94) dX3_lays_28 (by decide),
  k_aload_n dX3_lays_31,
  k_getR (C := RX3) (T := TX3) (N := 9) (ci := 1) (k := 8) (ref := "LinkTimes$Search") dX3_lays_32 rfl in_X3 (by decide) q280 (Or.inl rfl) (fun _ _ _ => rfl),
  k_getRN (C := RX1) (T := TX1) (N := 19) (ci := 0) (k := 5) (ref := "LinkTimes") dX3_lays_35 rfl in_X1 (by decide) q307 (Or.inl rfl) (fun _ _ _ => rfl),
  k_getRN (C := RX6) (T := TX6) (N := 5) (ci := 4) (k := 4) (ref := "LinkTimes$Desk") dX3_lays_38 rfl in_X6 (by decide) q429 (Or.inl rfl) (fun _ _ _ => rfl),
  k_iload dX3_lays_41,
  k_callV (y2 := yJ7_get) (C := RJ7) (T0 := TJ7) (ci := 13) dX3_lays_43 sndJ7_get rfl q1347 q695 q696 q141 q697 (by decide +kernel) ⟨by decide, by decide⟩ (by decide) (by decide),
  k_cast (nm := "LinkTimes$Departure") dX3_lays_46 q263 zokDep_can,
  k_astore dX3_lays_49,
  k_aload dX3_lays_51,
  k_getIN (C := RX11) (T := TX11) (N := 9) (ci := 6) (k := 8) (ref := "LinkTimes$Departure") dX3_lays_53 rfl in_X11 (by decide) q870 (Or.inl rfl) (fun _ _ _ => rfl),
  k_ifeq (t := 88) dX3_lays_56 (by decide),
  k_iload dX3_lays_59,
  k_iload_n dX3_lays_61,
  k_cmpeq (t := 88) dX3_lays_62 (by decide),
  k_aload_n dX3_lays_65,
  k_aload dX3_lays_66,
  k_aload dX3_lays_68,
  k_callV (y2 := yX11_leaves) (C := RX11) (T0 := TX11) (ci := 6) dX3_lays_70 sndX11_leaves rfl q1348 q1145 q1146 q160 q1147 (by decide +kernel) ⟨by decide, by decide⟩ (by decide) (by decide),
  k_iload dX3_lays_73,
  k_iload_n dX3_lays_75,
  k_cmpne (t := 83) dX3_lays_76 (by decide),
  k_iload_n dX3_lays_79,
  k_goto (t := 84) dX3_lays_80 (by decide),
  k_iconst dX3_lays_83,
  k_iadd dX3_lays_84,
  k_callV (y2 := yX3_puts) (C := RX3) (T0 := TX3) (ci := 1) dX3_lays_85 sndX3_puts rfl q1349 q1351 qs38 q136 q1352 (by decide +kernel) ⟨by decide, by decide⟩ (by decide) (by decide),
  k_iinc dX3_lays_88,
  k_goto (t := 13) dX3_lays_91 (by decide),
  k_aload_n dX3_lays_94,
  k_aret dX3_lays_95 rfl (Or.inl ⟨_, rfl⟩), trivial⟩
theorem sndX3_lays : MSound 4 yX3_lays (ws_ yX3_lays cX3_lays 6 (some (.object "LinkTimes$Search"))) mX3_lays := msound_M (by decide) allX3_lays (fun _ _ => rfl)
/-! LinkTimes$Search.changed(II)I -/
noncomputable def kX3_changed : ZM := ([(0, zi_ld 1 0 1), (1, zi_getR 17 0 4), (4, zi_ld 0 1 5), (5, zi_aldR 6), (6, zi_getI 22 2 9), (9, zi_ld 1 0 10), (10, zi_getR 17 0 13), (13, zi_ld 0 2 14), (14, zi_aldR 15), (15, zi_getI 22 2 18), (18, zi_cmp zc_ne 25 21), (21, zi_push (zvi 0) 22), (22, zi_goto 26), (25, zi_push (zvi 1) 26), (26, zi_retv 0)], fun _ _ => none)
noncomputable def mX3_changed : ZF := zrunM kX3_changed 3
theorem enX3_changed (x0 : Option Nat) (x1 : Int) (x2 : Int) (h : PH) : mX3_changed [zvr x0, zvi x1, zvi x2] h = zev kX3_changed 0 [zvr x0, zvi x1, zvi x2] [] h := zrunM_eq rfl rfl
theorem rX3_changed : (∀ (a : Option Nat) (L st : List ZV) (h : PH), zev kX3_changed 0 (zvr a :: L) st h = zev kX3_changed 1 (zvr a :: L) (zvr a :: st) h) ∧
  (∀ (q : Nat) (L st : List ZV) (h : PH), zev kX3_changed 1 L (zvr (some q) :: st) h = if (ph_K h q).1 % 1000 = 17 then zev kX3_changed 4 L (zvr (ph_R h q 0) :: st) h else none) ∧
  (∀ (x0 : ZV) (a : Int) (L st : List ZV) (h : PH), zev kX3_changed 4 (x0 :: zvi a :: L) st h = zev kX3_changed 5 (x0 :: zvi a :: L) (zvi a :: st) h) ∧
  (∀ (j : Int) (q : Nat) (L st : List ZV) (h : PH), zev kX3_changed 5 L (zvi j :: zvr (some q) :: st) h = if 5 ≤ (ph_K h q).1 % 1000 ∧ (ph_K h q).1 % 1000 ≤ 7 ∧ 0 ≤ j ∧ j < (ph_K h q).2 then zev kX3_changed 6 L (zvr (ph_R h q j) :: st) h else none) ∧
  (∀ (q : Nat) (L st : List ZV) (h : PH), zev kX3_changed 6 L (zvr (some q) :: st) h = if (ph_K h q).1 % 1000 = 22 then zev kX3_changed 9 L (zvi (ph_I h q 2) :: st) h else none) ∧
  (∀ (a : Option Nat) (L st : List ZV) (h : PH), zev kX3_changed 9 (zvr a :: L) st h = zev kX3_changed 10 (zvr a :: L) (zvr a :: st) h) ∧
  (∀ (q : Nat) (L st : List ZV) (h : PH), zev kX3_changed 10 L (zvr (some q) :: st) h = if (ph_K h q).1 % 1000 = 17 then zev kX3_changed 13 L (zvr (ph_R h q 0) :: st) h else none) ∧
  (∀ (x0 x1 : ZV) (a : Int) (L st : List ZV) (h : PH), zev kX3_changed 13 (x0 :: x1 :: zvi a :: L) st h = zev kX3_changed 14 (x0 :: x1 :: zvi a :: L) (zvi a :: st) h) ∧
  (∀ (j : Int) (q : Nat) (L st : List ZV) (h : PH), zev kX3_changed 14 L (zvi j :: zvr (some q) :: st) h = if 5 ≤ (ph_K h q).1 % 1000 ∧ (ph_K h q).1 % 1000 ≤ 7 ∧ 0 ≤ j ∧ j < (ph_K h q).2 then zev kX3_changed 15 L (zvr (ph_R h q j) :: st) h else none) ∧
  (∀ (q : Nat) (L st : List ZV) (h : PH), zev kX3_changed 15 L (zvr (some q) :: st) h = if (ph_K h q).1 % 1000 = 22 then zev kX3_changed 18 L (zvi (ph_I h q 2) :: st) h else none) ∧
  (∀ (a b : Int) (L st : List ZV) (h : PH), zev kX3_changed 18 L (zvi b :: zvi a :: st) h = if a ≠ b then zev kX3_changed 25 L st h else zev kX3_changed 21 L st h) ∧
  (∀ (L st : List ZV) (h : PH), zev kX3_changed 21 L st h = zev kX3_changed 22 L (zvi 0 :: st) h) ∧
  (∀ (L st : List ZV) (h : PH), zev kX3_changed 22 L st h = zev kX3_changed 26 L st h) ∧
  (∀ (L st : List ZV) (h : PH), zev kX3_changed 25 L st h = zev kX3_changed 26 L (zvi 1 :: st) h) ∧
  (∀ (a : Int) (L : List ZV) (h : PH), zev kX3_changed 26 L [zvi a] h = zrv (zvi a) h) :=
  ⟨fun a L st h => e_ld0R (n := 1) rfl,
  fun q L st h => e_getR (kd := 17) (k := 0) (n := 4) rfl,
  fun x0 a L st h => e_ld1I (n := 5) rfl,
  fun j q L st h => e_aldR (n := 6) rfl,
  fun q L st h => e_getI (kd := 22) (k := 2) (n := 9) rfl,
  fun a L st h => e_ld0R (n := 10) rfl,
  fun q L st h => e_getR (kd := 17) (k := 0) (n := 13) rfl,
  fun x0 x1 a L st h => e_ld2I (n := 14) rfl,
  fun j q L st h => e_aldR (n := 15) rfl,
  fun q L st h => e_getI (kd := 22) (k := 2) (n := 18) rfl,
  fun a b L st h => e_cmpne (t := 25) (n := 21) rfl,
  fun L st h => e_push (v := zvi 0) (n := 22) rfl,
  fun L st h => e_goto (t := 26) rfl,
  fun L st h => e_push (v := zvi 1) (n := 26) rfl,
  fun a L h => e_retI rfl⟩
theorem allX3_changed : zall yX3_changed cX3_changed 3 (some .int) 1 kX3_changed.1 :=
  ⟨k_aload_n dX3_changed_0,
  k_getR (C := RX3) (T := TX3) (N := 9) (ci := 1) (k := 0) (ref := "LinkTimes$Search") dX3_changed_1 rfl in_X3 (by decide) q265 (Or.inl rfl) (fun _ _ _ => rfl),
  k_iload_n dX3_changed_4,
  k_aald dX3_changed_5,
  k_getIN (C := RX11) (T := TX11) (N := 9) (ci := 6) (k := 2) (ref := "LinkTimes$Departure") dX3_changed_6 rfl in_X11 (by decide) q855 (Or.inl rfl) (fun _ _ _ => rfl),
  k_aload_n dX3_changed_9,
  k_getR (C := RX3) (T := TX3) (N := 9) (ci := 1) (k := 0) (ref := "LinkTimes$Search") dX3_changed_10 rfl in_X3 (by decide) q265 (Or.inl rfl) (fun _ _ _ => rfl),
  k_iload_n dX3_changed_13,
  k_aald dX3_changed_14,
  k_getIN (C := RX11) (T := TX11) (N := 9) (ci := 6) (k := 2) (ref := "LinkTimes$Departure") dX3_changed_15 rfl in_X11 (by decide) q855 (Or.inl rfl) (fun _ _ _ => rfl),
  k_cmpne (t := 25) dX3_changed_18 (by decide),
  k_iconst dX3_changed_21,
  k_goto (t := 26) dX3_changed_22 (by decide),
  k_iconst dX3_changed_25,
  k_iret dX3_changed_26, trivial⟩
theorem sndX3_changed : MSound 1 yX3_changed (ws_ yX3_changed cX3_changed 3 (some .int)) mX3_changed := msound_M (by decide) allX3_changed (fun _ _ => rfl)
/-! LinkTimes$Search.goesOn(II)Z -/
noncomputable def kX3_goesOn : ZM := ([(0, zi_ld 1 0 1), (1, zi_getR 17 1 4), (4, zi_ld 0 2 5), (5, zi_ald 1 6), (6, zi_ld 1 0 7), (7, zi_getR 17 2 10), (10, zi_ld 0 1 11), (11, zi_ald 1 12), (12, zi_bin (fun a b => w32 (a - b)) 13), (13, zi_st 0 3 14), (14, zi_ld 1 0 15), (15, zi_getR 17 0 18), (18, zi_ld 0 1 19), (19, zi_aldR 20), (20, zi_getI 22 4 23), (23, zi_ld 1 0 24), (24, zi_getR 17 0 27), (27, zi_ld 0 2 28), (28, zi_aldR 29), (29, zi_getI 22 3 32), (32, zi_cmp zc_ne 39 35), (35, zi_ld 0 3 36), (36, zi_if (fun a => zc_ge a 0) 41 39), (39, zi_push (zvi 0) 40), (40, zi_retz), (41, zi_ld 1 0 42), (42, zi_getI 17 7 45), (45, zi_push (zvi 2) 46), (46, zi_cmp zc_ne 51 49), (49, zi_push (zvi 1) 50), (50, zi_retz), (51, zi_ld 1 0 52), (52, zi_getR 17 8 55), (55, zi_getR 16 5 58), (58, zi_getR 20 2 61), (61, zi_ld 1 0 62), (62, zi_getR 17 0 65), (65, zi_ld 0 2 66), (66, zi_aldR 67), (67, zi_getI 22 3 70), (70, zi_callV mJ7_get 29 2 73), (73, zi_cast zokSpot 76), (76, zi_st 1 4 78), (78, zi_ld 0 3 79), (79, zi_ld 1 0 80), (80, zi_ld 0 1 81), (81, zi_ld 0 2 82), (82, zi_callV mX3_changed 17 3 85), (85, zi_ld 1 4 87), (87, zi_getI 21 1 90), (90, zi_bin (fun a b => w32 (a * b)) 91), (91, zi_cmp zc_lt 117 94), (94, zi_ld 1 4 96), (96, zi_getI 21 2 99), (99, zi_push (zvi (-2)) 101), (101, zi_cmp zc_eq 113 104), (104, zi_ld 0 3 105), (105, zi_ld 1 4 107), (107, zi_getI 21 2 110), (110, zi_cmp zc_gt 117 113), (113, zi_push (zvi 1) 114), (114, zi_goto 118), (117, zi_push (zvi 0) 118), (118, zi_retz)], fun _ _ => none)
noncomputable def mX3_goesOn : ZF := zrunM kX3_goesOn 5
theorem enX3_goesOn (x0 : Option Nat) (x1 : Int) (x2 : Int) (h : PH) : mX3_goesOn [zvr x0, zvi x1, zvi x2] h = zev kX3_goesOn 0 [zvr x0, zvi x1, zvi x2, zvu, zvu] [] h := zrunM_eq rfl rfl
theorem rX3_goesOn : (∀ (a : Option Nat) (L st : List ZV) (h : PH), zev kX3_goesOn 0 (zvr a :: L) st h = zev kX3_goesOn 1 (zvr a :: L) (zvr a :: st) h) ∧
  (∀ (q : Nat) (L st : List ZV) (h : PH), zev kX3_goesOn 1 L (zvr (some q) :: st) h = if (ph_K h q).1 % 1000 = 17 then zev kX3_goesOn 4 L (zvr (ph_R h q 1) :: st) h else none) ∧
  (∀ (x0 x1 : ZV) (a : Int) (L st : List ZV) (h : PH), zev kX3_goesOn 4 (x0 :: x1 :: zvi a :: L) st h = zev kX3_goesOn 5 (x0 :: x1 :: zvi a :: L) (zvi a :: st) h) ∧
  (∀ (j : Int) (q : Nat) (L st : List ZV) (h : PH), zev kX3_goesOn 5 L (zvi j :: zvr (some q) :: st) h = if (ph_K h q).1 % 1000 = 1 ∧ 0 ≤ j ∧ j < (ph_K h q).2 then zev kX3_goesOn 6 L (zvi (ph_I h q j) :: st) h else none) ∧
  (∀ (a : Option Nat) (L st : List ZV) (h : PH), zev kX3_goesOn 6 (zvr a :: L) st h = zev kX3_goesOn 7 (zvr a :: L) (zvr a :: st) h) ∧
  (∀ (q : Nat) (L st : List ZV) (h : PH), zev kX3_goesOn 7 L (zvr (some q) :: st) h = if (ph_K h q).1 % 1000 = 17 then zev kX3_goesOn 10 L (zvr (ph_R h q 2) :: st) h else none) ∧
  (∀ (x0 : ZV) (a : Int) (L st : List ZV) (h : PH), zev kX3_goesOn 10 (x0 :: zvi a :: L) st h = zev kX3_goesOn 11 (x0 :: zvi a :: L) (zvi a :: st) h) ∧
  (∀ (j : Int) (q : Nat) (L st : List ZV) (h : PH), zev kX3_goesOn 11 L (zvi j :: zvr (some q) :: st) h = if (ph_K h q).1 % 1000 = 1 ∧ 0 ≤ j ∧ j < (ph_K h q).2 then zev kX3_goesOn 12 L (zvi (ph_I h q j) :: st) h else none) ∧
  (∀ (a b : Int) (L st : List ZV) (h : PH), zev kX3_goesOn 12 L (zvi b :: zvi a :: st) h = zev kX3_goesOn 13 L (zvi (w32 (a - b)) :: st) h) ∧
  (∀ (x0 x1 x2 x3 : ZV) (a : Int) (L st : List ZV) (h : PH) (hx : zisL x2 = false) , zev kX3_goesOn 13 (x0 :: x1 :: x2 :: x3 :: L) (zvi a :: st) h = zev kX3_goesOn 14 (x0 :: x1 :: x2 :: zvi a :: L) st h) ∧
  (∀ (a : Option Nat) (L st : List ZV) (h : PH), zev kX3_goesOn 14 (zvr a :: L) st h = zev kX3_goesOn 15 (zvr a :: L) (zvr a :: st) h) ∧
  (∀ (q : Nat) (L st : List ZV) (h : PH), zev kX3_goesOn 15 L (zvr (some q) :: st) h = if (ph_K h q).1 % 1000 = 17 then zev kX3_goesOn 18 L (zvr (ph_R h q 0) :: st) h else none) ∧
  (∀ (x0 : ZV) (a : Int) (L st : List ZV) (h : PH), zev kX3_goesOn 18 (x0 :: zvi a :: L) st h = zev kX3_goesOn 19 (x0 :: zvi a :: L) (zvi a :: st) h) ∧
  (∀ (j : Int) (q : Nat) (L st : List ZV) (h : PH), zev kX3_goesOn 19 L (zvi j :: zvr (some q) :: st) h = if 5 ≤ (ph_K h q).1 % 1000 ∧ (ph_K h q).1 % 1000 ≤ 7 ∧ 0 ≤ j ∧ j < (ph_K h q).2 then zev kX3_goesOn 20 L (zvr (ph_R h q j) :: st) h else none) ∧
  (∀ (q : Nat) (L st : List ZV) (h : PH), zev kX3_goesOn 20 L (zvr (some q) :: st) h = if (ph_K h q).1 % 1000 = 22 then zev kX3_goesOn 23 L (zvi (ph_I h q 4) :: st) h else none) ∧
  (∀ (a : Option Nat) (L st : List ZV) (h : PH), zev kX3_goesOn 23 (zvr a :: L) st h = zev kX3_goesOn 24 (zvr a :: L) (zvr a :: st) h) ∧
  (∀ (q : Nat) (L st : List ZV) (h : PH), zev kX3_goesOn 24 L (zvr (some q) :: st) h = if (ph_K h q).1 % 1000 = 17 then zev kX3_goesOn 27 L (zvr (ph_R h q 0) :: st) h else none) ∧
  (∀ (x0 x1 : ZV) (a : Int) (L st : List ZV) (h : PH), zev kX3_goesOn 27 (x0 :: x1 :: zvi a :: L) st h = zev kX3_goesOn 28 (x0 :: x1 :: zvi a :: L) (zvi a :: st) h) ∧
  (∀ (j : Int) (q : Nat) (L st : List ZV) (h : PH), zev kX3_goesOn 28 L (zvi j :: zvr (some q) :: st) h = if 5 ≤ (ph_K h q).1 % 1000 ∧ (ph_K h q).1 % 1000 ≤ 7 ∧ 0 ≤ j ∧ j < (ph_K h q).2 then zev kX3_goesOn 29 L (zvr (ph_R h q j) :: st) h else none) ∧
  (∀ (q : Nat) (L st : List ZV) (h : PH), zev kX3_goesOn 29 L (zvr (some q) :: st) h = if (ph_K h q).1 % 1000 = 22 then zev kX3_goesOn 32 L (zvi (ph_I h q 3) :: st) h else none) ∧
  (∀ (a b : Int) (L st : List ZV) (h : PH), zev kX3_goesOn 32 L (zvi b :: zvi a :: st) h = if a ≠ b then zev kX3_goesOn 39 L st h else zev kX3_goesOn 35 L st h) ∧
  (∀ (x0 x1 x2 : ZV) (a : Int) (L st : List ZV) (h : PH), zev kX3_goesOn 35 (x0 :: x1 :: x2 :: zvi a :: L) st h = zev kX3_goesOn 36 (x0 :: x1 :: x2 :: zvi a :: L) (zvi a :: st) h) ∧
  (∀ (a : Int) (L st : List ZV) (h : PH), zev kX3_goesOn 36 L (zvi a :: st) h = if a ≥ 0 then zev kX3_goesOn 41 L st h else zev kX3_goesOn 39 L st h) ∧
  (∀ (L st : List ZV) (h : PH), zev kX3_goesOn 39 L st h = zev kX3_goesOn 40 L (zvi 0 :: st) h) ∧
  (∀ (a : Int) (L : List ZV) (h : PH), zev kX3_goesOn 40 L [zvi a] h = if a = 0 ∨ a = 1 then zrv (zvi a) h else none) ∧
  (∀ (a : Option Nat) (L st : List ZV) (h : PH), zev kX3_goesOn 41 (zvr a :: L) st h = zev kX3_goesOn 42 (zvr a :: L) (zvr a :: st) h) ∧
  (∀ (q : Nat) (L st : List ZV) (h : PH), zev kX3_goesOn 42 L (zvr (some q) :: st) h = if (ph_K h q).1 % 1000 = 17 then zev kX3_goesOn 45 L (zvi (ph_I h q 7) :: st) h else none) ∧
  (∀ (L st : List ZV) (h : PH), zev kX3_goesOn 45 L st h = zev kX3_goesOn 46 L (zvi 2 :: st) h) ∧
  (∀ (a b : Int) (L st : List ZV) (h : PH), zev kX3_goesOn 46 L (zvi b :: zvi a :: st) h = if a ≠ b then zev kX3_goesOn 51 L st h else zev kX3_goesOn 49 L st h) ∧
  (∀ (L st : List ZV) (h : PH), zev kX3_goesOn 49 L st h = zev kX3_goesOn 50 L (zvi 1 :: st) h) ∧
  (∀ (a : Int) (L : List ZV) (h : PH), zev kX3_goesOn 50 L [zvi a] h = if a = 0 ∨ a = 1 then zrv (zvi a) h else none) ∧
  (∀ (a : Option Nat) (L st : List ZV) (h : PH), zev kX3_goesOn 51 (zvr a :: L) st h = zev kX3_goesOn 52 (zvr a :: L) (zvr a :: st) h) ∧
  (∀ (q : Nat) (L st : List ZV) (h : PH), zev kX3_goesOn 52 L (zvr (some q) :: st) h = if (ph_K h q).1 % 1000 = 17 then zev kX3_goesOn 55 L (zvr (ph_R h q 8) :: st) h else none) ∧
  (∀ (q : Nat) (L st : List ZV) (h : PH), zev kX3_goesOn 55 L (zvr (some q) :: st) h = if (ph_K h q).1 % 1000 = 16 then zev kX3_goesOn 58 L (zvr (ph_R h q 5) :: st) h else none) ∧
  (∀ (q : Nat) (L st : List ZV) (h : PH), zev kX3_goesOn 58 L (zvr (some q) :: st) h = if (ph_K h q).1 % 1000 = 20 then zev kX3_goesOn 61 L (zvr (ph_R h q 2) :: st) h else none) ∧
  (∀ (a : Option Nat) (L st : List ZV) (h : PH), zev kX3_goesOn 61 (zvr a :: L) st h = zev kX3_goesOn 62 (zvr a :: L) (zvr a :: st) h) ∧
  (∀ (q : Nat) (L st : List ZV) (h : PH), zev kX3_goesOn 62 L (zvr (some q) :: st) h = if (ph_K h q).1 % 1000 = 17 then zev kX3_goesOn 65 L (zvr (ph_R h q 0) :: st) h else none) ∧
  (∀ (x0 x1 : ZV) (a : Int) (L st : List ZV) (h : PH), zev kX3_goesOn 65 (x0 :: x1 :: zvi a :: L) st h = zev kX3_goesOn 66 (x0 :: x1 :: zvi a :: L) (zvi a :: st) h) ∧
  (∀ (j : Int) (q : Nat) (L st : List ZV) (h : PH), zev kX3_goesOn 66 L (zvi j :: zvr (some q) :: st) h = if 5 ≤ (ph_K h q).1 % 1000 ∧ (ph_K h q).1 % 1000 ≤ 7 ∧ 0 ≤ j ∧ j < (ph_K h q).2 then zev kX3_goesOn 67 L (zvr (ph_R h q j) :: st) h else none) ∧
  (∀ (q : Nat) (L st : List ZV) (h : PH), zev kX3_goesOn 67 L (zvr (some q) :: st) h = if (ph_K h q).1 % 1000 = 22 then zev kX3_goesOn 70 L (zvi (ph_I h q 3) :: st) h else none) ∧
  (∀ (v0 : ZV) (q : Nat) (L st : List ZV) (h : PH), zev kX3_goesOn 70 L (v0 :: zvr (some q) :: st) h = if (ph_K h q).1 % 1000 = 29 ∧ zcat st ≤ 8 then zk kX3_goesOn 70 73 L st (mJ7_get [zvr (some q), v0] h) else none) ∧
  (∀ (L st : List ZV) (h : PH), zev kX3_goesOn 73 L (zvr none :: st) h = zev kX3_goesOn 76 L (zvr none :: st) h) ∧
  (∀ (q : Nat) (L st : List ZV) (h : PH), zev kX3_goesOn 73 L (zvr (some q) :: st) h = if zokSpot (ph_K h q).1 = true then zev kX3_goesOn 76 L (zvr (some q) :: st) h else none) ∧
  (∀ (x0 x1 x2 x3 x4 : ZV) (a : Option Nat) (L st : List ZV) (h : PH) (hx : zisL x3 = false) , zev kX3_goesOn 76 (x0 :: x1 :: x2 :: x3 :: x4 :: L) (zvr a :: st) h = zev kX3_goesOn 78 (x0 :: x1 :: x2 :: x3 :: zvr a :: L) st h) ∧
  (∀ (x0 x1 x2 : ZV) (a : Int) (L st : List ZV) (h : PH), zev kX3_goesOn 78 (x0 :: x1 :: x2 :: zvi a :: L) st h = zev kX3_goesOn 79 (x0 :: x1 :: x2 :: zvi a :: L) (zvi a :: st) h) ∧
  (∀ (a : Option Nat) (L st : List ZV) (h : PH), zev kX3_goesOn 79 (zvr a :: L) st h = zev kX3_goesOn 80 (zvr a :: L) (zvr a :: st) h) ∧
  (∀ (x0 : ZV) (a : Int) (L st : List ZV) (h : PH), zev kX3_goesOn 80 (x0 :: zvi a :: L) st h = zev kX3_goesOn 81 (x0 :: zvi a :: L) (zvi a :: st) h) ∧
  (∀ (x0 x1 : ZV) (a : Int) (L st : List ZV) (h : PH), zev kX3_goesOn 81 (x0 :: x1 :: zvi a :: L) st h = zev kX3_goesOn 82 (x0 :: x1 :: zvi a :: L) (zvi a :: st) h) ∧
  (∀ (v0 v1 : ZV) (q : Nat) (L st : List ZV) (h : PH), zev kX3_goesOn 82 L (v1 :: v0 :: zvr (some q) :: st) h = if (ph_K h q).1 % 1000 = 17 ∧ zcat st ≤ 8 then zk kX3_goesOn 82 85 L st (mX3_changed [zvr (some q), v0, v1] h) else none) ∧
  (∀ (x0 x1 x2 x3 : ZV) (a : Option Nat) (L st : List ZV) (h : PH), zev kX3_goesOn 85 (x0 :: x1 :: x2 :: x3 :: zvr a :: L) st h = zev kX3_goesOn 87 (x0 :: x1 :: x2 :: x3 :: zvr a :: L) (zvr a :: st) h) ∧
  (∀ (q : Nat) (L st : List ZV) (h : PH), zev kX3_goesOn 87 L (zvr (some q) :: st) h = if (ph_K h q).1 % 1000 = 21 then zev kX3_goesOn 90 L (zvi (ph_I h q 1) :: st) h else none) ∧
  (∀ (a b : Int) (L st : List ZV) (h : PH), zev kX3_goesOn 90 L (zvi b :: zvi a :: st) h = zev kX3_goesOn 91 L (zvi (w32 (a * b)) :: st) h) ∧
  (∀ (a b : Int) (L st : List ZV) (h : PH), zev kX3_goesOn 91 L (zvi b :: zvi a :: st) h = if a < b then zev kX3_goesOn 117 L st h else zev kX3_goesOn 94 L st h) ∧
  (∀ (x0 x1 x2 x3 : ZV) (a : Option Nat) (L st : List ZV) (h : PH), zev kX3_goesOn 94 (x0 :: x1 :: x2 :: x3 :: zvr a :: L) st h = zev kX3_goesOn 96 (x0 :: x1 :: x2 :: x3 :: zvr a :: L) (zvr a :: st) h) ∧
  (∀ (q : Nat) (L st : List ZV) (h : PH), zev kX3_goesOn 96 L (zvr (some q) :: st) h = if (ph_K h q).1 % 1000 = 21 then zev kX3_goesOn 99 L (zvi (ph_I h q 2) :: st) h else none) ∧
  (∀ (L st : List ZV) (h : PH), zev kX3_goesOn 99 L st h = zev kX3_goesOn 101 L (zvi (-2) :: st) h) ∧
  (∀ (a b : Int) (L st : List ZV) (h : PH), zev kX3_goesOn 101 L (zvi b :: zvi a :: st) h = if a = b then zev kX3_goesOn 113 L st h else zev kX3_goesOn 104 L st h) ∧
  (∀ (x0 x1 x2 : ZV) (a : Int) (L st : List ZV) (h : PH), zev kX3_goesOn 104 (x0 :: x1 :: x2 :: zvi a :: L) st h = zev kX3_goesOn 105 (x0 :: x1 :: x2 :: zvi a :: L) (zvi a :: st) h) ∧
  (∀ (x0 x1 x2 x3 : ZV) (a : Option Nat) (L st : List ZV) (h : PH), zev kX3_goesOn 105 (x0 :: x1 :: x2 :: x3 :: zvr a :: L) st h = zev kX3_goesOn 107 (x0 :: x1 :: x2 :: x3 :: zvr a :: L) (zvr a :: st) h) ∧
  (∀ (q : Nat) (L st : List ZV) (h : PH), zev kX3_goesOn 107 L (zvr (some q) :: st) h = if (ph_K h q).1 % 1000 = 21 then zev kX3_goesOn 110 L (zvi (ph_I h q 2) :: st) h else none) ∧
  (∀ (a b : Int) (L st : List ZV) (h : PH), zev kX3_goesOn 110 L (zvi b :: zvi a :: st) h = if a > b then zev kX3_goesOn 117 L st h else zev kX3_goesOn 113 L st h) ∧
  (∀ (L st : List ZV) (h : PH), zev kX3_goesOn 113 L st h = zev kX3_goesOn 114 L (zvi 1 :: st) h) ∧
  (∀ (L st : List ZV) (h : PH), zev kX3_goesOn 114 L st h = zev kX3_goesOn 118 L st h) ∧
  (∀ (L st : List ZV) (h : PH), zev kX3_goesOn 117 L st h = zev kX3_goesOn 118 L (zvi 0 :: st) h) ∧
  (∀ (a : Int) (L : List ZV) (h : PH), zev kX3_goesOn 118 L [zvi a] h = if a = 0 ∨ a = 1 then zrv (zvi a) h else none) :=
  ⟨fun a L st h => e_ld0R (n := 1) rfl,
  fun q L st h => e_getR (kd := 17) (k := 1) (n := 4) rfl,
  fun x0 x1 a L st h => e_ld2I (n := 5) rfl,
  fun j q L st h => e_ald (kd := 1) (n := 6) rfl,
  fun a L st h => e_ld0R (n := 7) rfl,
  fun q L st h => e_getR (kd := 17) (k := 2) (n := 10) rfl,
  fun x0 a L st h => e_ld1I (n := 11) rfl,
  fun j q L st h => e_ald (kd := 1) (n := 12) rfl,
  fun a b L st h => e_bin (f := (fun a b => w32 (a - b))) (n := 13) rfl,
  fun x0 x1 x2 x3 a L st h hx => e_st3I (n := 14) rfl hx,
  fun a L st h => e_ld0R (n := 15) rfl,
  fun q L st h => e_getR (kd := 17) (k := 0) (n := 18) rfl,
  fun x0 a L st h => e_ld1I (n := 19) rfl,
  fun j q L st h => e_aldR (n := 20) rfl,
  fun q L st h => e_getI (kd := 22) (k := 4) (n := 23) rfl,
  fun a L st h => e_ld0R (n := 24) rfl,
  fun q L st h => e_getR (kd := 17) (k := 0) (n := 27) rfl,
  fun x0 x1 a L st h => e_ld2I (n := 28) rfl,
  fun j q L st h => e_aldR (n := 29) rfl,
  fun q L st h => e_getI (kd := 22) (k := 3) (n := 32) rfl,
  fun a b L st h => e_cmpne (t := 39) (n := 35) rfl,
  fun x0 x1 x2 a L st h => e_ld3I (n := 36) rfl,
  fun a L st h => e_ifge (t := 41) (n := 39) rfl,
  fun L st h => e_push (v := zvi 0) (n := 40) rfl,
  fun a L h => e_retz rfl,
  fun a L st h => e_ld0R (n := 42) rfl,
  fun q L st h => e_getI (kd := 17) (k := 7) (n := 45) rfl,
  fun L st h => e_push (v := zvi 2) (n := 46) rfl,
  fun a b L st h => e_cmpne (t := 51) (n := 49) rfl,
  fun L st h => e_push (v := zvi 1) (n := 50) rfl,
  fun a L h => e_retz rfl,
  fun a L st h => e_ld0R (n := 52) rfl,
  fun q L st h => e_getR (kd := 17) (k := 8) (n := 55) rfl,
  fun q L st h => e_getR (kd := 16) (k := 5) (n := 58) rfl,
  fun q L st h => e_getR (kd := 20) (k := 2) (n := 61) rfl,
  fun a L st h => e_ld0R (n := 62) rfl,
  fun q L st h => e_getR (kd := 17) (k := 0) (n := 65) rfl,
  fun x0 x1 a L st h => e_ld2I (n := 66) rfl,
  fun j q L st h => e_aldR (n := 67) rfl,
  fun q L st h => e_getI (kd := 22) (k := 3) (n := 70) rfl,
  fun v0 q L st h => e_callV2 (F := mJ7_get) (kd := 29) (n := 73) rfl,
  fun L st h => e_cast0 (ok := zokSpot) (n := 76) rfl,
  fun q L st h => e_cast1 (ok := zokSpot) (n := 76) rfl,
  fun x0 x1 x2 x3 x4 a L st h hx => e_st4R (n := 78) rfl hx,
  fun x0 x1 x2 a L st h => e_ld3I (n := 79) rfl,
  fun a L st h => e_ld0R (n := 80) rfl,
  fun x0 a L st h => e_ld1I (n := 81) rfl,
  fun x0 x1 a L st h => e_ld2I (n := 82) rfl,
  fun v0 v1 q L st h => e_callV3 (F := mX3_changed) (kd := 17) (n := 85) rfl,
  fun x0 x1 x2 x3 a L st h => e_ld4R (n := 87) rfl,
  fun q L st h => e_getI (kd := 21) (k := 1) (n := 90) rfl,
  fun a b L st h => e_bin (f := (fun a b => w32 (a * b))) (n := 91) rfl,
  fun a b L st h => e_cmplt (t := 117) (n := 94) rfl,
  fun x0 x1 x2 x3 a L st h => e_ld4R (n := 96) rfl,
  fun q L st h => e_getI (kd := 21) (k := 2) (n := 99) rfl,
  fun L st h => e_push (v := zvi (-2)) (n := 101) rfl,
  fun a b L st h => e_cmpeq (t := 113) (n := 104) rfl,
  fun x0 x1 x2 a L st h => e_ld3I (n := 105) rfl,
  fun x0 x1 x2 x3 a L st h => e_ld4R (n := 107) rfl,
  fun q L st h => e_getI (kd := 21) (k := 2) (n := 110) rfl,
  fun a b L st h => e_cmpgt (t := 117) (n := 113) rfl,
  fun L st h => e_push (v := zvi 1) (n := 114) rfl,
  fun L st h => e_goto (t := 118) rfl,
  fun L st h => e_push (v := zvi 0) (n := 118) rfl,
  fun a L h => e_retz rfl⟩
theorem allX3_goesOn : zall yX3_goesOn cX3_goesOn 5 (some .boolean) 4 kX3_goesOn.1 :=
  ⟨k_aload_n dX3_goesOn_0,
  k_getR (C := RX3) (T := TX3) (N := 9) (ci := 1) (k := 1) (ref := "LinkTimes$Search") dX3_goesOn_1 rfl in_X3 (by decide) q267 (Or.inl rfl) (fun _ _ _ => rfl),
  k_iload_n dX3_goesOn_4,
  k_iald dX3_goesOn_5,
  k_aload_n dX3_goesOn_6,
  k_getR (C := RX3) (T := TX3) (N := 9) (ci := 1) (k := 2) (ref := "LinkTimes$Search") dX3_goesOn_7 rfl in_X3 (by decide) q269 (Or.inl rfl) (fun _ _ _ => rfl),
  k_iload_n dX3_goesOn_10,
  k_iald dX3_goesOn_11,
  k_isub dX3_goesOn_12,
  k_istore_n dX3_goesOn_13,
  k_aload_n dX3_goesOn_14,
  k_getR (C := RX3) (T := TX3) (N := 9) (ci := 1) (k := 0) (ref := "LinkTimes$Search") dX3_goesOn_15 rfl in_X3 (by decide) q265 (Or.inl rfl) (fun _ _ _ => rfl),
  k_iload_n dX3_goesOn_18,
  k_aald dX3_goesOn_19,
  k_getIN (C := RX11) (T := TX11) (N := 9) (ci := 6) (k := 4) (ref := "LinkTimes$Departure") dX3_goesOn_20 rfl in_X11 (by decide) q861 (Or.inl rfl) (fun _ _ _ => rfl),
  k_aload_n dX3_goesOn_23,
  k_getR (C := RX3) (T := TX3) (N := 9) (ci := 1) (k := 0) (ref := "LinkTimes$Search") dX3_goesOn_24 rfl in_X3 (by decide) q265 (Or.inl rfl) (fun _ _ _ => rfl),
  k_iload_n dX3_goesOn_27,
  k_aald dX3_goesOn_28,
  k_getIN (C := RX11) (T := TX11) (N := 9) (ci := 6) (k := 3) (ref := "LinkTimes$Departure") dX3_goesOn_29 rfl in_X11 (by decide) q858 (Or.inl rfl) (fun _ _ _ => rfl),
  k_cmpne (t := 39) dX3_goesOn_32 (by decide),
  k_iload_n dX3_goesOn_35,
  k_ifge (t := 41) dX3_goesOn_36 (by decide),
  k_iconst dX3_goesOn_39,
  k_zret dX3_goesOn_40,
  k_aload_n dX3_goesOn_41,
  k_getI (C := RX3) (T := TX3) (N := 9) (ci := 1) (k := 7) (ref := "LinkTimes$Search") dX3_goesOn_42 rfl in_X3 (by decide) q279 (Or.inl rfl) (fun _ _ _ => rfl),
  k_iconst dX3_goesOn_45,
  k_cmpne (t := 51) dX3_goesOn_46 (by decide),
  k_iconst dX3_goesOn_49,
  k_zret dX3_goesOn_50,
  k_aload_n dX3_goesOn_51,
  k_getR (C := RX3) (T := TX3) (N := 9) (ci := 1) (k := 8) (ref := "LinkTimes$Search") dX3_goesOn_52 rfl in_X3 (by decide) q280 (Or.inl rfl) (fun _ _ _ => rfl),
  k_getRN (C := RX1) (T := TX1) (N := 19) (ci := 0) (k := 5) (ref := "LinkTimes") dX3_goesOn_55 rfl in_X1 (by decide) q307 (Or.inl rfl) (fun _ _ _ => rfl),
  k_getRN (C := RX6) (T := TX6) (N := 5) (ci := 4) (k := 2) (ref := "LinkTimes$Desk") dX3_goesOn_58 rfl in_X6 (by decide) q422 (Or.inl rfl) (fun _ _ _ => rfl),
  k_aload_n dX3_goesOn_61,
  k_getR (C := RX3) (T := TX3) (N := 9) (ci := 1) (k := 0) (ref := "LinkTimes$Search") dX3_goesOn_62 rfl in_X3 (by decide) q265 (Or.inl rfl) (fun _ _ _ => rfl),
  k_iload_n dX3_goesOn_65,
  k_aald dX3_goesOn_66,
  k_getIN (C := RX11) (T := TX11) (N := 9) (ci := 6) (k := 3) (ref := "LinkTimes$Departure") dX3_goesOn_67 rfl in_X11 (by decide) q858 (Or.inl rfl) (fun _ _ _ => rfl),
  k_callV (y2 := yJ7_get) (C := RJ7) (T0 := TJ7) (ci := 13) dX3_goesOn_70 sndJ7_get rfl q1347 q695 q696 q141 q697 (by decide +kernel) ⟨by decide, by decide⟩ (by decide) (by decide),
  k_cast (nm := "LinkTimes$Spot") dX3_goesOn_73 q1374 zokSpot_can,
  k_astore dX3_goesOn_76,
  k_iload_n dX3_goesOn_78,
  k_aload_n dX3_goesOn_79,
  k_iload_n dX3_goesOn_80,
  k_iload_n dX3_goesOn_81,
  k_callV (y2 := yX3_changed) (C := RX3) (T0 := TX3) (ci := 1) dX3_goesOn_82 sndX3_changed rfl q1366 q1368 qs40 q136 q1369 (by decide +kernel) ⟨by decide, by decide⟩ (by decide) (by decide),
  k_aload dX3_goesOn_85,
  k_getIN (C := RX10) (T := TX10) (N := 3) (ci := 5) (k := 1) (ref := "LinkTimes$Spot") dX3_goesOn_87 rfl in_X10 (by decide) q727 (Or.inl rfl) (fun _ _ _ => rfl),
  k_imul dX3_goesOn_90,
  k_cmplt (t := 117) dX3_goesOn_91 (by decide),
  k_aload dX3_goesOn_94,
  k_getIN (C := RX10) (T := TX10) (N := 3) (ci := 5) (k := 2) (ref := "LinkTimes$Spot") dX3_goesOn_96 rfl in_X10 (by decide) q730 (Or.inl rfl) (fun _ _ _ => rfl),
  k_bipush dX3_goesOn_99,
  k_cmpeq (t := 113) dX3_goesOn_101 (by decide),
  k_iload_n dX3_goesOn_104,
  k_aload dX3_goesOn_105,
  k_getIN (C := RX10) (T := TX10) (N := 3) (ci := 5) (k := 2) (ref := "LinkTimes$Spot") dX3_goesOn_107 rfl in_X10 (by decide) q730 (Or.inl rfl) (fun _ _ _ => rfl),
  k_cmpgt (t := 117) dX3_goesOn_110 (by decide),
  k_iconst dX3_goesOn_113,
  k_goto (t := 118) dX3_goesOn_114 (by decide),
  k_iconst dX3_goesOn_117,
  k_zret dX3_goesOn_118, trivial⟩
theorem sndX3_goesOn : MSound 4 yX3_goesOn (ws_ yX3_goesOn cX3_goesOn 5 (some .boolean)) mX3_goesOn := msound_M (by decide) allX3_goesOn (fun _ _ => rfl)
/-! LinkTimes$Search.laysForwards(II)V -/
noncomputable def kX3_laysForwards : ZM := ([(0, zi_push (zvi 0) 1), (1, zi_st 0 3 2), (2, zi_ld 0 3 3), (3, zi_ld 1 0 4), (4, zi_getI 17 6 7), (7, zi_cmp zc_ge 121 10), (10, zi_ld 1 0 11), (11, zi_getR 17 3 14), (14, zi_ld 0 3 15), (15, zi_ld 1 0 16), (16, zi_getR 17 0 19), (19, zi_ld 0 3 20), (20, zi_aldR 21), (21, zi_getI 22 3 24), (24, zi_ld 0 1 25), (25, zi_cmp zc_ne 42 28), (28, zi_ld 1 0 29), (29, zi_getR 17 1 32), (32, zi_ld 0 3 33), (33, zi_ald 1 34), (34, zi_ld 0 2 35), (35, zi_cmp zc_lt 42 38), (38, zi_push (zvi 0) 39), (39, zi_goto 44), (42, zi_push (zvi 99999) 44), (44, zi_ast 45), (45, zi_push (zvi 0) 46), (46, zi_st 0 4 48), (48, zi_ld 0 4 50), (50, zi_ld 0 3 51), (51, zi_cmp zc_ge 115 54), (54, zi_ld 1 0 55), (55, zi_getR 17 3 58), (58, zi_ld 0 4 60), (60, zi_ald 1 61), (61, zi_ld 1 0 62), (62, zi_ld 0 4 64), (64, zi_ld 0 3 65), (65, zi_callV mX3_changed 17 3 68), (68, zi_bin (fun a b => w32 (a + b)) 69), (69, zi_ld 1 0 70), (70, zi_getR 17 3 73), (73, zi_ld 0 3 74), (74, zi_ald 1 75), (75, zi_cmp zc_ge 109 78), (78, zi_ld 1 0 79), (79, zi_ld 0 4 81), (81, zi_ld 0 3 82), (82, zi_callV mX3_goesOn 17 3 85), (85, zi_if (fun a => zc_eq a 0) 109 88), (88, zi_ld 1 0 89), (89, zi_getR 17 3 92), (92, zi_ld 0 3 93), (93, zi_ld 1 0 94), (94, zi_getR 17 3 97), (97, zi_ld 0 4 99), (99, zi_ald 1 100), (100, zi_ld 1 0 101), (101, zi_ld 0 4 103), (103, zi_ld 0 3 104), (104, zi_callV mX3_changed 17 3 107), (107, zi_bin (fun a b => w32 (a + b)) 108), (108, zi_ast 109), (109, zi_iinc 4 1 112), (112, zi_goto 48), (115, zi_iinc 3 1 118), (118, zi_goto 2), (121, zi_ret)], fun _ _ => none)
noncomputable def mX3_laysForwards : ZF := zrunM kX3_laysForwards 5
theorem enX3_laysForwards (x0 : Option Nat) (x1 : Int) (x2 : Int) (h : PH) : mX3_laysForwards [zvr x0, zvi x1, zvi x2] h = zev kX3_laysForwards 0 [zvr x0, zvi x1, zvi x2, zvu, zvu] [] h := zrunM_eq rfl rfl
theorem hdX3_laysForwards_2 (x0 x1 x2 : ZV) (a : Int) (L st : List ZV) (h : PH) : zev kX3_laysForwards 2 (x0 :: x1 :: x2 :: zvi a :: L) st h = zev kX3_laysForwards 3 (x0 :: x1 :: x2 :: zvi a :: L) (zvi a :: st) h := e_ld3I (n := 3) rfl
theorem hdX3_laysForwards_48 (x0 x1 x2 x3 : ZV) (a : Int) (L st : List ZV) (h : PH) : zev kX3_laysForwards 48 (x0 :: x1 :: x2 :: x3 :: zvi a :: L) st h = zev kX3_laysForwards 50 (x0 :: x1 :: x2 :: x3 :: zvi a :: L) (zvi a :: st) h := e_ld4I (n := 50) rfl
theorem rX3_laysForwards : (∀ (L st : List ZV) (h : PH), zev kX3_laysForwards 0 L st h = zev kX3_laysForwards 1 L (zvi 0 :: st) h) ∧
  (∀ (x0 x1 x2 x3 : ZV) (a : Int) (L st : List ZV) (h : PH) (hx : zisL x2 = false) , zev kX3_laysForwards 1 (x0 :: x1 :: x2 :: x3 :: L) (zvi a :: st) h = zev kX3_laysForwards 2 (x0 :: x1 :: x2 :: zvi a :: L) st h) ∧
  (∀ (a : Option Nat) (L st : List ZV) (h : PH), zev kX3_laysForwards 3 (zvr a :: L) st h = zev kX3_laysForwards 4 (zvr a :: L) (zvr a :: st) h) ∧
  (∀ (q : Nat) (L st : List ZV) (h : PH), zev kX3_laysForwards 4 L (zvr (some q) :: st) h = if (ph_K h q).1 % 1000 = 17 then zev kX3_laysForwards 7 L (zvi (ph_I h q 6) :: st) h else none) ∧
  (∀ (a b : Int) (L st : List ZV) (h : PH), zev kX3_laysForwards 7 L (zvi b :: zvi a :: st) h = if a ≥ b then zev kX3_laysForwards 121 L st h else zev kX3_laysForwards 10 L st h) ∧
  (∀ (a : Option Nat) (L st : List ZV) (h : PH), zev kX3_laysForwards 10 (zvr a :: L) st h = zev kX3_laysForwards 11 (zvr a :: L) (zvr a :: st) h) ∧
  (∀ (q : Nat) (L st : List ZV) (h : PH), zev kX3_laysForwards 11 L (zvr (some q) :: st) h = if (ph_K h q).1 % 1000 = 17 then zev kX3_laysForwards 14 L (zvr (ph_R h q 3) :: st) h else none) ∧
  (∀ (x0 x1 x2 : ZV) (a : Int) (L st : List ZV) (h : PH), zev kX3_laysForwards 14 (x0 :: x1 :: x2 :: zvi a :: L) st h = zev kX3_laysForwards 15 (x0 :: x1 :: x2 :: zvi a :: L) (zvi a :: st) h) ∧
  (∀ (a : Option Nat) (L st : List ZV) (h : PH), zev kX3_laysForwards 15 (zvr a :: L) st h = zev kX3_laysForwards 16 (zvr a :: L) (zvr a :: st) h) ∧
  (∀ (q : Nat) (L st : List ZV) (h : PH), zev kX3_laysForwards 16 L (zvr (some q) :: st) h = if (ph_K h q).1 % 1000 = 17 then zev kX3_laysForwards 19 L (zvr (ph_R h q 0) :: st) h else none) ∧
  (∀ (x0 x1 x2 : ZV) (a : Int) (L st : List ZV) (h : PH), zev kX3_laysForwards 19 (x0 :: x1 :: x2 :: zvi a :: L) st h = zev kX3_laysForwards 20 (x0 :: x1 :: x2 :: zvi a :: L) (zvi a :: st) h) ∧
  (∀ (j : Int) (q : Nat) (L st : List ZV) (h : PH), zev kX3_laysForwards 20 L (zvi j :: zvr (some q) :: st) h = if 5 ≤ (ph_K h q).1 % 1000 ∧ (ph_K h q).1 % 1000 ≤ 7 ∧ 0 ≤ j ∧ j < (ph_K h q).2 then zev kX3_laysForwards 21 L (zvr (ph_R h q j) :: st) h else none) ∧
  (∀ (q : Nat) (L st : List ZV) (h : PH), zev kX3_laysForwards 21 L (zvr (some q) :: st) h = if (ph_K h q).1 % 1000 = 22 then zev kX3_laysForwards 24 L (zvi (ph_I h q 3) :: st) h else none) ∧
  (∀ (x0 : ZV) (a : Int) (L st : List ZV) (h : PH), zev kX3_laysForwards 24 (x0 :: zvi a :: L) st h = zev kX3_laysForwards 25 (x0 :: zvi a :: L) (zvi a :: st) h) ∧
  (∀ (a b : Int) (L st : List ZV) (h : PH), zev kX3_laysForwards 25 L (zvi b :: zvi a :: st) h = if a ≠ b then zev kX3_laysForwards 42 L st h else zev kX3_laysForwards 28 L st h) ∧
  (∀ (a : Option Nat) (L st : List ZV) (h : PH), zev kX3_laysForwards 28 (zvr a :: L) st h = zev kX3_laysForwards 29 (zvr a :: L) (zvr a :: st) h) ∧
  (∀ (q : Nat) (L st : List ZV) (h : PH), zev kX3_laysForwards 29 L (zvr (some q) :: st) h = if (ph_K h q).1 % 1000 = 17 then zev kX3_laysForwards 32 L (zvr (ph_R h q 1) :: st) h else none) ∧
  (∀ (x0 x1 x2 : ZV) (a : Int) (L st : List ZV) (h : PH), zev kX3_laysForwards 32 (x0 :: x1 :: x2 :: zvi a :: L) st h = zev kX3_laysForwards 33 (x0 :: x1 :: x2 :: zvi a :: L) (zvi a :: st) h) ∧
  (∀ (j : Int) (q : Nat) (L st : List ZV) (h : PH), zev kX3_laysForwards 33 L (zvi j :: zvr (some q) :: st) h = if (ph_K h q).1 % 1000 = 1 ∧ 0 ≤ j ∧ j < (ph_K h q).2 then zev kX3_laysForwards 34 L (zvi (ph_I h q j) :: st) h else none) ∧
  (∀ (x0 x1 : ZV) (a : Int) (L st : List ZV) (h : PH), zev kX3_laysForwards 34 (x0 :: x1 :: zvi a :: L) st h = zev kX3_laysForwards 35 (x0 :: x1 :: zvi a :: L) (zvi a :: st) h) ∧
  (∀ (a b : Int) (L st : List ZV) (h : PH), zev kX3_laysForwards 35 L (zvi b :: zvi a :: st) h = if a < b then zev kX3_laysForwards 42 L st h else zev kX3_laysForwards 38 L st h) ∧
  (∀ (L st : List ZV) (h : PH), zev kX3_laysForwards 38 L st h = zev kX3_laysForwards 39 L (zvi 0 :: st) h) ∧
  (∀ (L st : List ZV) (h : PH), zev kX3_laysForwards 39 L st h = zev kX3_laysForwards 44 L st h) ∧
  (∀ (L st : List ZV) (h : PH), zev kX3_laysForwards 42 L st h = zev kX3_laysForwards 44 L (zvi 99999 :: st) h) ∧
  (∀ (x j : Int) (q : Nat) (L st : List ZV) (h : PH), zev kX3_laysForwards 44 L (zvi x :: zvi j :: zvr (some q) :: st) h = if (ph_K h q).1 = 1 ∧ 0 ≤ j ∧ j < (ph_K h q).2 then zev kX3_laysForwards 45 L st (st_I h q j x) else none) ∧
  (∀ (L st : List ZV) (h : PH), zev kX3_laysForwards 45 L st h = zev kX3_laysForwards 46 L (zvi 0 :: st) h) ∧
  (∀ (x0 x1 x2 x3 x4 : ZV) (a : Int) (L st : List ZV) (h : PH) (hx : zisL x3 = false) , zev kX3_laysForwards 46 (x0 :: x1 :: x2 :: x3 :: x4 :: L) (zvi a :: st) h = zev kX3_laysForwards 48 (x0 :: x1 :: x2 :: x3 :: zvi a :: L) st h) ∧
  (∀ (x0 x1 x2 : ZV) (a : Int) (L st : List ZV) (h : PH), zev kX3_laysForwards 50 (x0 :: x1 :: x2 :: zvi a :: L) st h = zev kX3_laysForwards 51 (x0 :: x1 :: x2 :: zvi a :: L) (zvi a :: st) h) ∧
  (∀ (a b : Int) (L st : List ZV) (h : PH), zev kX3_laysForwards 51 L (zvi b :: zvi a :: st) h = if a ≥ b then zev kX3_laysForwards 115 L st h else zev kX3_laysForwards 54 L st h) ∧
  (∀ (a : Option Nat) (L st : List ZV) (h : PH), zev kX3_laysForwards 54 (zvr a :: L) st h = zev kX3_laysForwards 55 (zvr a :: L) (zvr a :: st) h) ∧
  (∀ (q : Nat) (L st : List ZV) (h : PH), zev kX3_laysForwards 55 L (zvr (some q) :: st) h = if (ph_K h q).1 % 1000 = 17 then zev kX3_laysForwards 58 L (zvr (ph_R h q 3) :: st) h else none) ∧
  (∀ (x0 x1 x2 x3 : ZV) (a : Int) (L st : List ZV) (h : PH), zev kX3_laysForwards 58 (x0 :: x1 :: x2 :: x3 :: zvi a :: L) st h = zev kX3_laysForwards 60 (x0 :: x1 :: x2 :: x3 :: zvi a :: L) (zvi a :: st) h) ∧
  (∀ (j : Int) (q : Nat) (L st : List ZV) (h : PH), zev kX3_laysForwards 60 L (zvi j :: zvr (some q) :: st) h = if (ph_K h q).1 % 1000 = 1 ∧ 0 ≤ j ∧ j < (ph_K h q).2 then zev kX3_laysForwards 61 L (zvi (ph_I h q j) :: st) h else none) ∧
  (∀ (a : Option Nat) (L st : List ZV) (h : PH), zev kX3_laysForwards 61 (zvr a :: L) st h = zev kX3_laysForwards 62 (zvr a :: L) (zvr a :: st) h) ∧
  (∀ (x0 x1 x2 x3 : ZV) (a : Int) (L st : List ZV) (h : PH), zev kX3_laysForwards 62 (x0 :: x1 :: x2 :: x3 :: zvi a :: L) st h = zev kX3_laysForwards 64 (x0 :: x1 :: x2 :: x3 :: zvi a :: L) (zvi a :: st) h) ∧
  (∀ (x0 x1 x2 : ZV) (a : Int) (L st : List ZV) (h : PH), zev kX3_laysForwards 64 (x0 :: x1 :: x2 :: zvi a :: L) st h = zev kX3_laysForwards 65 (x0 :: x1 :: x2 :: zvi a :: L) (zvi a :: st) h) ∧
  (∀ (v0 v1 : ZV) (q : Nat) (L st : List ZV) (h : PH), zev kX3_laysForwards 65 L (v1 :: v0 :: zvr (some q) :: st) h = if (ph_K h q).1 % 1000 = 17 ∧ zcat st ≤ 8 then zk kX3_laysForwards 65 68 L st (mX3_changed [zvr (some q), v0, v1] h) else none) ∧
  (∀ (a b : Int) (L st : List ZV) (h : PH), zev kX3_laysForwards 68 L (zvi b :: zvi a :: st) h = zev kX3_laysForwards 69 L (zvi (w32 (a + b)) :: st) h) ∧
  (∀ (a : Option Nat) (L st : List ZV) (h : PH), zev kX3_laysForwards 69 (zvr a :: L) st h = zev kX3_laysForwards 70 (zvr a :: L) (zvr a :: st) h) ∧
  (∀ (q : Nat) (L st : List ZV) (h : PH), zev kX3_laysForwards 70 L (zvr (some q) :: st) h = if (ph_K h q).1 % 1000 = 17 then zev kX3_laysForwards 73 L (zvr (ph_R h q 3) :: st) h else none) ∧
  (∀ (x0 x1 x2 : ZV) (a : Int) (L st : List ZV) (h : PH), zev kX3_laysForwards 73 (x0 :: x1 :: x2 :: zvi a :: L) st h = zev kX3_laysForwards 74 (x0 :: x1 :: x2 :: zvi a :: L) (zvi a :: st) h) ∧
  (∀ (j : Int) (q : Nat) (L st : List ZV) (h : PH), zev kX3_laysForwards 74 L (zvi j :: zvr (some q) :: st) h = if (ph_K h q).1 % 1000 = 1 ∧ 0 ≤ j ∧ j < (ph_K h q).2 then zev kX3_laysForwards 75 L (zvi (ph_I h q j) :: st) h else none) ∧
  (∀ (a b : Int) (L st : List ZV) (h : PH), zev kX3_laysForwards 75 L (zvi b :: zvi a :: st) h = if a ≥ b then zev kX3_laysForwards 109 L st h else zev kX3_laysForwards 78 L st h) ∧
  (∀ (a : Option Nat) (L st : List ZV) (h : PH), zev kX3_laysForwards 78 (zvr a :: L) st h = zev kX3_laysForwards 79 (zvr a :: L) (zvr a :: st) h) ∧
  (∀ (x0 x1 x2 x3 : ZV) (a : Int) (L st : List ZV) (h : PH), zev kX3_laysForwards 79 (x0 :: x1 :: x2 :: x3 :: zvi a :: L) st h = zev kX3_laysForwards 81 (x0 :: x1 :: x2 :: x3 :: zvi a :: L) (zvi a :: st) h) ∧
  (∀ (x0 x1 x2 : ZV) (a : Int) (L st : List ZV) (h : PH), zev kX3_laysForwards 81 (x0 :: x1 :: x2 :: zvi a :: L) st h = zev kX3_laysForwards 82 (x0 :: x1 :: x2 :: zvi a :: L) (zvi a :: st) h) ∧
  (∀ (v0 v1 : ZV) (q : Nat) (L st : List ZV) (h : PH), zev kX3_laysForwards 82 L (v1 :: v0 :: zvr (some q) :: st) h = if (ph_K h q).1 % 1000 = 17 ∧ zcat st ≤ 8 then zk kX3_laysForwards 82 85 L st (mX3_goesOn [zvr (some q), v0, v1] h) else none) ∧
  (∀ (a : Int) (L st : List ZV) (h : PH), zev kX3_laysForwards 85 L (zvi a :: st) h = if a = 0 then zev kX3_laysForwards 109 L st h else zev kX3_laysForwards 88 L st h) ∧
  (∀ (a : Option Nat) (L st : List ZV) (h : PH), zev kX3_laysForwards 88 (zvr a :: L) st h = zev kX3_laysForwards 89 (zvr a :: L) (zvr a :: st) h) ∧
  (∀ (q : Nat) (L st : List ZV) (h : PH), zev kX3_laysForwards 89 L (zvr (some q) :: st) h = if (ph_K h q).1 % 1000 = 17 then zev kX3_laysForwards 92 L (zvr (ph_R h q 3) :: st) h else none) ∧
  (∀ (x0 x1 x2 : ZV) (a : Int) (L st : List ZV) (h : PH), zev kX3_laysForwards 92 (x0 :: x1 :: x2 :: zvi a :: L) st h = zev kX3_laysForwards 93 (x0 :: x1 :: x2 :: zvi a :: L) (zvi a :: st) h) ∧
  (∀ (a : Option Nat) (L st : List ZV) (h : PH), zev kX3_laysForwards 93 (zvr a :: L) st h = zev kX3_laysForwards 94 (zvr a :: L) (zvr a :: st) h) ∧
  (∀ (q : Nat) (L st : List ZV) (h : PH), zev kX3_laysForwards 94 L (zvr (some q) :: st) h = if (ph_K h q).1 % 1000 = 17 then zev kX3_laysForwards 97 L (zvr (ph_R h q 3) :: st) h else none) ∧
  (∀ (x0 x1 x2 x3 : ZV) (a : Int) (L st : List ZV) (h : PH), zev kX3_laysForwards 97 (x0 :: x1 :: x2 :: x3 :: zvi a :: L) st h = zev kX3_laysForwards 99 (x0 :: x1 :: x2 :: x3 :: zvi a :: L) (zvi a :: st) h) ∧
  (∀ (j : Int) (q : Nat) (L st : List ZV) (h : PH), zev kX3_laysForwards 99 L (zvi j :: zvr (some q) :: st) h = if (ph_K h q).1 % 1000 = 1 ∧ 0 ≤ j ∧ j < (ph_K h q).2 then zev kX3_laysForwards 100 L (zvi (ph_I h q j) :: st) h else none) ∧
  (∀ (a : Option Nat) (L st : List ZV) (h : PH), zev kX3_laysForwards 100 (zvr a :: L) st h = zev kX3_laysForwards 101 (zvr a :: L) (zvr a :: st) h) ∧
  (∀ (x0 x1 x2 x3 : ZV) (a : Int) (L st : List ZV) (h : PH), zev kX3_laysForwards 101 (x0 :: x1 :: x2 :: x3 :: zvi a :: L) st h = zev kX3_laysForwards 103 (x0 :: x1 :: x2 :: x3 :: zvi a :: L) (zvi a :: st) h) ∧
  (∀ (x0 x1 x2 : ZV) (a : Int) (L st : List ZV) (h : PH), zev kX3_laysForwards 103 (x0 :: x1 :: x2 :: zvi a :: L) st h = zev kX3_laysForwards 104 (x0 :: x1 :: x2 :: zvi a :: L) (zvi a :: st) h) ∧
  (∀ (v0 v1 : ZV) (q : Nat) (L st : List ZV) (h : PH), zev kX3_laysForwards 104 L (v1 :: v0 :: zvr (some q) :: st) h = if (ph_K h q).1 % 1000 = 17 ∧ zcat st ≤ 8 then zk kX3_laysForwards 104 107 L st (mX3_changed [zvr (some q), v0, v1] h) else none) ∧
  (∀ (a b : Int) (L st : List ZV) (h : PH), zev kX3_laysForwards 107 L (zvi b :: zvi a :: st) h = zev kX3_laysForwards 108 L (zvi (w32 (a + b)) :: st) h) ∧
  (∀ (x j : Int) (q : Nat) (L st : List ZV) (h : PH), zev kX3_laysForwards 108 L (zvi x :: zvi j :: zvr (some q) :: st) h = if (ph_K h q).1 = 1 ∧ 0 ≤ j ∧ j < (ph_K h q).2 then zev kX3_laysForwards 109 L st (st_I h q j x) else none) ∧
  (∀ (x0 x1 x2 x3 : ZV) (a : Int) (L st : List ZV) (h : PH) (hx : zisL x3 = false) , zev kX3_laysForwards 109 (x0 :: x1 :: x2 :: x3 :: zvi a :: L) st h = zev kX3_laysForwards 112 (x0 :: x1 :: x2 :: x3 :: zvi (w32 (a + 1)) :: L) st h) ∧
  (∀ (L st : List ZV) (h : PH), zev kX3_laysForwards 112 L st h = zev kX3_laysForwards 48 L st h) ∧
  (∀ (x0 x1 x2 : ZV) (a : Int) (L st : List ZV) (h : PH) (hx : zisL x2 = false) , zev kX3_laysForwards 115 (x0 :: x1 :: x2 :: zvi a :: L) st h = zev kX3_laysForwards 118 (x0 :: x1 :: x2 :: zvi (w32 (a + 1)) :: L) st h) ∧
  (∀ (L st : List ZV) (h : PH), zev kX3_laysForwards 118 L st h = zev kX3_laysForwards 2 L st h) ∧
  (∀ (L : List ZV) (h : PH), zev kX3_laysForwards 121 L [] h = zr0 h) :=
  ⟨fun L st h => e_push (v := zvi 0) (n := 1) rfl,
  fun x0 x1 x2 x3 a L st h hx => e_st3I (n := 2) rfl hx,
  fun a L st h => e_ld0R (n := 4) rfl,
  fun q L st h => e_getI (kd := 17) (k := 6) (n := 7) rfl,
  fun a b L st h => e_cmpge (t := 121) (n := 10) rfl,
  fun a L st h => e_ld0R (n := 11) rfl,
  fun q L st h => e_getR (kd := 17) (k := 3) (n := 14) rfl,
  fun x0 x1 x2 a L st h => e_ld3I (n := 15) rfl,
  fun a L st h => e_ld0R (n := 16) rfl,
  fun q L st h => e_getR (kd := 17) (k := 0) (n := 19) rfl,
  fun x0 x1 x2 a L st h => e_ld3I (n := 20) rfl,
  fun j q L st h => e_aldR (n := 21) rfl,
  fun q L st h => e_getI (kd := 22) (k := 3) (n := 24) rfl,
  fun x0 a L st h => e_ld1I (n := 25) rfl,
  fun a b L st h => e_cmpne (t := 42) (n := 28) rfl,
  fun a L st h => e_ld0R (n := 29) rfl,
  fun q L st h => e_getR (kd := 17) (k := 1) (n := 32) rfl,
  fun x0 x1 x2 a L st h => e_ld3I (n := 33) rfl,
  fun j q L st h => e_ald (kd := 1) (n := 34) rfl,
  fun x0 x1 a L st h => e_ld2I (n := 35) rfl,
  fun a b L st h => e_cmplt (t := 42) (n := 38) rfl,
  fun L st h => e_push (v := zvi 0) (n := 39) rfl,
  fun L st h => e_goto (t := 44) rfl,
  fun L st h => e_push (v := zvi 99999) (n := 44) rfl,
  fun x j q L st h => e_ast (n := 45) rfl,
  fun L st h => e_push (v := zvi 0) (n := 46) rfl,
  fun x0 x1 x2 x3 x4 a L st h hx => e_st4I (n := 48) rfl hx,
  fun x0 x1 x2 a L st h => e_ld3I (n := 51) rfl,
  fun a b L st h => e_cmpge (t := 115) (n := 54) rfl,
  fun a L st h => e_ld0R (n := 55) rfl,
  fun q L st h => e_getR (kd := 17) (k := 3) (n := 58) rfl,
  fun x0 x1 x2 x3 a L st h => e_ld4I (n := 60) rfl,
  fun j q L st h => e_ald (kd := 1) (n := 61) rfl,
  fun a L st h => e_ld0R (n := 62) rfl,
  fun x0 x1 x2 x3 a L st h => e_ld4I (n := 64) rfl,
  fun x0 x1 x2 a L st h => e_ld3I (n := 65) rfl,
  fun v0 v1 q L st h => e_callV3 (F := mX3_changed) (kd := 17) (n := 68) rfl,
  fun a b L st h => e_bin (f := (fun a b => w32 (a + b))) (n := 69) rfl,
  fun a L st h => e_ld0R (n := 70) rfl,
  fun q L st h => e_getR (kd := 17) (k := 3) (n := 73) rfl,
  fun x0 x1 x2 a L st h => e_ld3I (n := 74) rfl,
  fun j q L st h => e_ald (kd := 1) (n := 75) rfl,
  fun a b L st h => e_cmpge (t := 109) (n := 78) rfl,
  fun a L st h => e_ld0R (n := 79) rfl,
  fun x0 x1 x2 x3 a L st h => e_ld4I (n := 81) rfl,
  fun x0 x1 x2 a L st h => e_ld3I (n := 82) rfl,
  fun v0 v1 q L st h => e_callV3 (F := mX3_goesOn) (kd := 17) (n := 85) rfl,
  fun a L st h => e_ifeq (t := 109) (n := 88) rfl,
  fun a L st h => e_ld0R (n := 89) rfl,
  fun q L st h => e_getR (kd := 17) (k := 3) (n := 92) rfl,
  fun x0 x1 x2 a L st h => e_ld3I (n := 93) rfl,
  fun a L st h => e_ld0R (n := 94) rfl,
  fun q L st h => e_getR (kd := 17) (k := 3) (n := 97) rfl,
  fun x0 x1 x2 x3 a L st h => e_ld4I (n := 99) rfl,
  fun j q L st h => e_ald (kd := 1) (n := 100) rfl,
  fun a L st h => e_ld0R (n := 101) rfl,
  fun x0 x1 x2 x3 a L st h => e_ld4I (n := 103) rfl,
  fun x0 x1 x2 a L st h => e_ld3I (n := 104) rfl,
  fun v0 v1 q L st h => e_callV3 (F := mX3_changed) (kd := 17) (n := 107) rfl,
  fun a b L st h => e_bin (f := (fun a b => w32 (a + b))) (n := 108) rfl,
  fun x j q L st h => e_ast (n := 109) rfl,
  fun x0 x1 x2 x3 a L st h hx => e_iinc4 (d := 1) (n := 112) rfl hx,
  fun L st h => e_goto (t := 48) rfl,
  fun x0 x1 x2 a L st h hx => e_iinc3 (d := 1) (n := 118) rfl hx,
  fun L st h => e_goto (t := 2) rfl,
  fun L h => e_ret rfl⟩
theorem allX3_laysForwards : zall yX3_laysForwards cX3_laysForwards 5 none 5 kX3_laysForwards.1 :=
  ⟨k_iconst dX3_laysForwards_0,
  k_istore_n dX3_laysForwards_1,
  k_iload_n dX3_laysForwards_2,
  k_aload_n dX3_laysForwards_3,
  k_getI (C := RX3) (T := TX3) (N := 9) (ci := 1) (k := 6) (ref := "LinkTimes$Search") dX3_laysForwards_4 rfl in_X3 (by decide) q277 (Or.inl rfl) (fun _ _ _ => rfl),
  k_cmpge (t := 121) dX3_laysForwards_7 (by decide),
  k_aload_n dX3_laysForwards_10,
  k_getR (C := RX3) (T := TX3) (N := 9) (ci := 1) (k := 3) (ref := "LinkTimes$Search") dX3_laysForwards_11 rfl in_X3 (by decide) q271 (Or.inl rfl) (fun _ _ _ => rfl),
  k_iload_n dX3_laysForwards_14,
  k_aload_n dX3_laysForwards_15,
  k_getR (C := RX3) (T := TX3) (N := 9) (ci := 1) (k := 0) (ref := "LinkTimes$Search") dX3_laysForwards_16 rfl in_X3 (by decide) q265 (Or.inl rfl) (fun _ _ _ => rfl),
  k_iload_n dX3_laysForwards_19,
  k_aald dX3_laysForwards_20,
  k_getIN (C := RX11) (T := TX11) (N := 9) (ci := 6) (k := 3) (ref := "LinkTimes$Departure") dX3_laysForwards_21 rfl in_X11 (by decide) q858 (Or.inl rfl) (fun _ _ _ => rfl),
  k_iload_n dX3_laysForwards_24,
  k_cmpne (t := 42) dX3_laysForwards_25 (by decide),
  k_aload_n dX3_laysForwards_28,
  k_getR (C := RX3) (T := TX3) (N := 9) (ci := 1) (k := 1) (ref := "LinkTimes$Search") dX3_laysForwards_29 rfl in_X3 (by decide) q267 (Or.inl rfl) (fun _ _ _ => rfl),
  k_iload_n dX3_laysForwards_32,
  k_iald dX3_laysForwards_33,
  k_iload_n dX3_laysForwards_34,
  k_cmplt (t := 42) dX3_laysForwards_35 (by decide),
  k_iconst dX3_laysForwards_38,
  k_goto (t := 44) dX3_laysForwards_39 (by decide),
  k_ldc dX3_laysForwards_42 q1365,
  k_iast dX3_laysForwards_44,
  k_iconst dX3_laysForwards_45,
  k_istore dX3_laysForwards_46,
  k_iload dX3_laysForwards_48,
  k_iload_n dX3_laysForwards_50,
  k_cmpge (t := 115) dX3_laysForwards_51 (by decide),
  k_aload_n dX3_laysForwards_54,
  k_getR (C := RX3) (T := TX3) (N := 9) (ci := 1) (k := 3) (ref := "LinkTimes$Search") dX3_laysForwards_55 rfl in_X3 (by decide) q271 (Or.inl rfl) (fun _ _ _ => rfl),
  k_iload dX3_laysForwards_58,
  k_iald dX3_laysForwards_60,
  k_aload_n dX3_laysForwards_61,
  k_iload dX3_laysForwards_62,
  k_iload_n dX3_laysForwards_64,
  k_callV (y2 := yX3_changed) (C := RX3) (T0 := TX3) (ci := 1) dX3_laysForwards_65 sndX3_changed rfl q1366 q1368 qs40 q136 q1369 (by decide +kernel) ⟨by decide, by decide⟩ (by decide) (by decide),
  k_iadd dX3_laysForwards_68,
  k_aload_n dX3_laysForwards_69,
  k_getR (C := RX3) (T := TX3) (N := 9) (ci := 1) (k := 3) (ref := "LinkTimes$Search") dX3_laysForwards_70 rfl in_X3 (by decide) q271 (Or.inl rfl) (fun _ _ _ => rfl),
  k_iload_n dX3_laysForwards_73,
  k_iald dX3_laysForwards_74,
  k_cmpge (t := 109) dX3_laysForwards_75 (by decide),
  k_aload_n dX3_laysForwards_78,
  k_iload dX3_laysForwards_79,
  k_iload_n dX3_laysForwards_81,
  k_callV (y2 := yX3_goesOn) (C := RX3) (T0 := TX3) (ci := 1) dX3_laysForwards_82 sndX3_goesOn rfl q1370 q1372 qs41 q136 q1373 (by decide +kernel) ⟨by decide, by decide⟩ (by decide) (by decide),
  k_ifeq (t := 109) dX3_laysForwards_85 (by decide),
  k_aload_n dX3_laysForwards_88,
  k_getR (C := RX3) (T := TX3) (N := 9) (ci := 1) (k := 3) (ref := "LinkTimes$Search") dX3_laysForwards_89 rfl in_X3 (by decide) q271 (Or.inl rfl) (fun _ _ _ => rfl),
  k_iload_n dX3_laysForwards_92,
  k_aload_n dX3_laysForwards_93,
  k_getR (C := RX3) (T := TX3) (N := 9) (ci := 1) (k := 3) (ref := "LinkTimes$Search") dX3_laysForwards_94 rfl in_X3 (by decide) q271 (Or.inl rfl) (fun _ _ _ => rfl),
  k_iload dX3_laysForwards_97,
  k_iald dX3_laysForwards_99,
  k_aload_n dX3_laysForwards_100,
  k_iload dX3_laysForwards_101,
  k_iload_n dX3_laysForwards_103,
  k_callV (y2 := yX3_changed) (C := RX3) (T0 := TX3) (ci := 1) dX3_laysForwards_104 sndX3_changed rfl q1366 q1368 qs40 q136 q1369 (by decide +kernel) ⟨by decide, by decide⟩ (by decide) (by decide),
  k_iadd dX3_laysForwards_107,
  k_iast dX3_laysForwards_108,
  k_iinc dX3_laysForwards_109,
  k_goto (t := 48) dX3_laysForwards_112 (by decide),
  k_iinc dX3_laysForwards_115,
  k_goto (t := 2) dX3_laysForwards_118 (by decide),
  k_ret dX3_laysForwards_121, trivial⟩
theorem sndX3_laysForwards : MSound 5 yX3_laysForwards (ws_ yX3_laysForwards cX3_laysForwards 5 none) mX3_laysForwards := msound_M (by decide) allX3_laysForwards (fun _ _ => rfl)
/-! LinkTimes$Search.arrivesBy(IIII)I -/
noncomputable def kX3_arrivesBy : ZM := ([(0, zi_ld 0 1 1), (1, zi_ld 0 2 2), (2, zi_cmp zc_ne 7 5), (5, zi_ld 0 3 6), (6, zi_retv 0), (7, zi_ld 1 0 8), (8, zi_ld 0 1 9), (9, zi_ld 0 3 10), (10, zi_callV mX3_laysForwards 17 3 13), (13, zi_push (zvi 99999) 15), (15, zi_st 0 5 17), (17, zi_push (zvi 0) 18), (18, zi_st 0 6 20), (20, zi_ld 0 6 22), (22, zi_ld 1 0 23), (23, zi_getI 17 6 26), (26, zi_cmp zc_ge 75 29), (29, zi_ld 1 0 30), (30, zi_getR 17 0 33), (33, zi_ld 0 6 35), (35, zi_aldR 36), (36, zi_getI 22 4 39), (39, zi_ld 0 2 40), (40, zi_cmp zc_ne 69 43), (43, zi_ld 1 0 44), (44, zi_getR 17 3 47), (47, zi_ld 0 6 49), (49, zi_ald 1 50), (50, zi_ld 0 4 52), (52, zi_cmp zc_gt 69 55), (55, zi_ld 0 5 57), (57, zi_ld 1 0 58), (58, zi_getR 17 2 61), (61, zi_ld 0 6 63), (63, zi_ald 1 64), (64, zi_mm zmin 67), (67, zi_st 0 5 69), (69, zi_iinc 6 1 72), (72, zi_goto 20), (75, zi_ld 0 5 77), (77, zi_push (zvi 99999) 79), (79, zi_cmp zc_ne 87 82), (82, zi_push (zvi (-2)) 84), (84, zi_goto 89), (87, zi_ld 0 5 89), (89, zi_retv 0)], fun _ _ => none)
noncomputable def mX3_arrivesBy : ZF := zrunM kX3_arrivesBy 7
theorem enX3_arrivesBy (x0 : Option Nat) (x1 : Int) (x2 : Int) (x3 : Int) (x4 : Int) (h : PH) : mX3_arrivesBy [zvr x0, zvi x1, zvi x2, zvi x3, zvi x4] h = zev kX3_arrivesBy 0 [zvr x0, zvi x1, zvi x2, zvi x3, zvi x4, zvu, zvu] [] h := zrunM_eq rfl rfl
theorem hdX3_arrivesBy_20 (x0 x1 x2 x3 x4 x5 : ZV) (a : Int) (L st : List ZV) (h : PH) : zev kX3_arrivesBy 20 (x0 :: x1 :: x2 :: x3 :: x4 :: x5 :: zvi a :: L) st h = zev kX3_arrivesBy 22 (x0 :: x1 :: x2 :: x3 :: x4 :: x5 :: zvi a :: L) (zvi a :: st) h := e_ld6I (n := 22) rfl
theorem rX3_arrivesBy : (∀ (x0 : ZV) (a : Int) (L st : List ZV) (h : PH), zev kX3_arrivesBy 0 (x0 :: zvi a :: L) st h = zev kX3_arrivesBy 1 (x0 :: zvi a :: L) (zvi a :: st) h) ∧
  (∀ (x0 x1 : ZV) (a : Int) (L st : List ZV) (h : PH), zev kX3_arrivesBy 1 (x0 :: x1 :: zvi a :: L) st h = zev kX3_arrivesBy 2 (x0 :: x1 :: zvi a :: L) (zvi a :: st) h) ∧
  (∀ (a b : Int) (L st : List ZV) (h : PH), zev kX3_arrivesBy 2 L (zvi b :: zvi a :: st) h = if a ≠ b then zev kX3_arrivesBy 7 L st h else zev kX3_arrivesBy 5 L st h) ∧
  (∀ (x0 x1 x2 : ZV) (a : Int) (L st : List ZV) (h : PH), zev kX3_arrivesBy 5 (x0 :: x1 :: x2 :: zvi a :: L) st h = zev kX3_arrivesBy 6 (x0 :: x1 :: x2 :: zvi a :: L) (zvi a :: st) h) ∧
  (∀ (a : Int) (L : List ZV) (h : PH), zev kX3_arrivesBy 6 L [zvi a] h = zrv (zvi a) h) ∧
  (∀ (a : Option Nat) (L st : List ZV) (h : PH), zev kX3_arrivesBy 7 (zvr a :: L) st h = zev kX3_arrivesBy 8 (zvr a :: L) (zvr a :: st) h) ∧
  (∀ (x0 : ZV) (a : Int) (L st : List ZV) (h : PH), zev kX3_arrivesBy 8 (x0 :: zvi a :: L) st h = zev kX3_arrivesBy 9 (x0 :: zvi a :: L) (zvi a :: st) h) ∧
  (∀ (x0 x1 x2 : ZV) (a : Int) (L st : List ZV) (h : PH), zev kX3_arrivesBy 9 (x0 :: x1 :: x2 :: zvi a :: L) st h = zev kX3_arrivesBy 10 (x0 :: x1 :: x2 :: zvi a :: L) (zvi a :: st) h) ∧
  (∀ (v0 v1 : ZV) (q : Nat) (L st : List ZV) (h : PH), zev kX3_arrivesBy 10 L (v1 :: v0 :: zvr (some q) :: st) h = if (ph_K h q).1 % 1000 = 17 ∧ zcat st ≤ 8 then zk kX3_arrivesBy 10 13 L st (mX3_laysForwards [zvr (some q), v0, v1] h) else none) ∧
  (∀ (L st : List ZV) (h : PH), zev kX3_arrivesBy 13 L st h = zev kX3_arrivesBy 15 L (zvi 99999 :: st) h) ∧
  (∀ (x0 x1 x2 x3 x4 x5 : ZV) (a : Int) (L st : List ZV) (h : PH) (hx : zisL x4 = false) , zev kX3_arrivesBy 15 (x0 :: x1 :: x2 :: x3 :: x4 :: x5 :: L) (zvi a :: st) h = zev kX3_arrivesBy 17 (x0 :: x1 :: x2 :: x3 :: x4 :: zvi a :: L) st h) ∧
  (∀ (L st : List ZV) (h : PH), zev kX3_arrivesBy 17 L st h = zev kX3_arrivesBy 18 L (zvi 0 :: st) h) ∧
  (∀ (x0 x1 x2 x3 x4 x5 x6 : ZV) (a : Int) (L st : List ZV) (h : PH) (hx : zisL x5 = false) , zev kX3_arrivesBy 18 (x0 :: x1 :: x2 :: x3 :: x4 :: x5 :: x6 :: L) (zvi a :: st) h = zev kX3_arrivesBy 20 (x0 :: x1 :: x2 :: x3 :: x4 :: x5 :: zvi a :: L) st h) ∧
  (∀ (a : Option Nat) (L st : List ZV) (h : PH), zev kX3_arrivesBy 22 (zvr a :: L) st h = zev kX3_arrivesBy 23 (zvr a :: L) (zvr a :: st) h) ∧
  (∀ (q : Nat) (L st : List ZV) (h : PH), zev kX3_arrivesBy 23 L (zvr (some q) :: st) h = if (ph_K h q).1 % 1000 = 17 then zev kX3_arrivesBy 26 L (zvi (ph_I h q 6) :: st) h else none) ∧
  (∀ (a b : Int) (L st : List ZV) (h : PH), zev kX3_arrivesBy 26 L (zvi b :: zvi a :: st) h = if a ≥ b then zev kX3_arrivesBy 75 L st h else zev kX3_arrivesBy 29 L st h) ∧
  (∀ (a : Option Nat) (L st : List ZV) (h : PH), zev kX3_arrivesBy 29 (zvr a :: L) st h = zev kX3_arrivesBy 30 (zvr a :: L) (zvr a :: st) h) ∧
  (∀ (q : Nat) (L st : List ZV) (h : PH), zev kX3_arrivesBy 30 L (zvr (some q) :: st) h = if (ph_K h q).1 % 1000 = 17 then zev kX3_arrivesBy 33 L (zvr (ph_R h q 0) :: st) h else none) ∧
  (∀ (x0 x1 x2 x3 x4 x5 : ZV) (a : Int) (L st : List ZV) (h : PH), zev kX3_arrivesBy 33 (x0 :: x1 :: x2 :: x3 :: x4 :: x5 :: zvi a :: L) st h = zev kX3_arrivesBy 35 (x0 :: x1 :: x2 :: x3 :: x4 :: x5 :: zvi a :: L) (zvi a :: st) h) ∧
  (∀ (j : Int) (q : Nat) (L st : List ZV) (h : PH), zev kX3_arrivesBy 35 L (zvi j :: zvr (some q) :: st) h = if 5 ≤ (ph_K h q).1 % 1000 ∧ (ph_K h q).1 % 1000 ≤ 7 ∧ 0 ≤ j ∧ j < (ph_K h q).2 then zev kX3_arrivesBy 36 L (zvr (ph_R h q j) :: st) h else none) ∧
  (∀ (q : Nat) (L st : List ZV) (h : PH), zev kX3_arrivesBy 36 L (zvr (some q) :: st) h = if (ph_K h q).1 % 1000 = 22 then zev kX3_arrivesBy 39 L (zvi (ph_I h q 4) :: st) h else none) ∧
  (∀ (x0 x1 : ZV) (a : Int) (L st : List ZV) (h : PH), zev kX3_arrivesBy 39 (x0 :: x1 :: zvi a :: L) st h = zev kX3_arrivesBy 40 (x0 :: x1 :: zvi a :: L) (zvi a :: st) h) ∧
  (∀ (a b : Int) (L st : List ZV) (h : PH), zev kX3_arrivesBy 40 L (zvi b :: zvi a :: st) h = if a ≠ b then zev kX3_arrivesBy 69 L st h else zev kX3_arrivesBy 43 L st h) ∧
  (∀ (a : Option Nat) (L st : List ZV) (h : PH), zev kX3_arrivesBy 43 (zvr a :: L) st h = zev kX3_arrivesBy 44 (zvr a :: L) (zvr a :: st) h) ∧
  (∀ (q : Nat) (L st : List ZV) (h : PH), zev kX3_arrivesBy 44 L (zvr (some q) :: st) h = if (ph_K h q).1 % 1000 = 17 then zev kX3_arrivesBy 47 L (zvr (ph_R h q 3) :: st) h else none) ∧
  (∀ (x0 x1 x2 x3 x4 x5 : ZV) (a : Int) (L st : List ZV) (h : PH), zev kX3_arrivesBy 47 (x0 :: x1 :: x2 :: x3 :: x4 :: x5 :: zvi a :: L) st h = zev kX3_arrivesBy 49 (x0 :: x1 :: x2 :: x3 :: x4 :: x5 :: zvi a :: L) (zvi a :: st) h) ∧
  (∀ (j : Int) (q : Nat) (L st : List ZV) (h : PH), zev kX3_arrivesBy 49 L (zvi j :: zvr (some q) :: st) h = if (ph_K h q).1 % 1000 = 1 ∧ 0 ≤ j ∧ j < (ph_K h q).2 then zev kX3_arrivesBy 50 L (zvi (ph_I h q j) :: st) h else none) ∧
  (∀ (x0 x1 x2 x3 : ZV) (a : Int) (L st : List ZV) (h : PH), zev kX3_arrivesBy 50 (x0 :: x1 :: x2 :: x3 :: zvi a :: L) st h = zev kX3_arrivesBy 52 (x0 :: x1 :: x2 :: x3 :: zvi a :: L) (zvi a :: st) h) ∧
  (∀ (a b : Int) (L st : List ZV) (h : PH), zev kX3_arrivesBy 52 L (zvi b :: zvi a :: st) h = if a > b then zev kX3_arrivesBy 69 L st h else zev kX3_arrivesBy 55 L st h) ∧
  (∀ (x0 x1 x2 x3 x4 : ZV) (a : Int) (L st : List ZV) (h : PH), zev kX3_arrivesBy 55 (x0 :: x1 :: x2 :: x3 :: x4 :: zvi a :: L) st h = zev kX3_arrivesBy 57 (x0 :: x1 :: x2 :: x3 :: x4 :: zvi a :: L) (zvi a :: st) h) ∧
  (∀ (a : Option Nat) (L st : List ZV) (h : PH), zev kX3_arrivesBy 57 (zvr a :: L) st h = zev kX3_arrivesBy 58 (zvr a :: L) (zvr a :: st) h) ∧
  (∀ (q : Nat) (L st : List ZV) (h : PH), zev kX3_arrivesBy 58 L (zvr (some q) :: st) h = if (ph_K h q).1 % 1000 = 17 then zev kX3_arrivesBy 61 L (zvr (ph_R h q 2) :: st) h else none) ∧
  (∀ (x0 x1 x2 x3 x4 x5 : ZV) (a : Int) (L st : List ZV) (h : PH), zev kX3_arrivesBy 61 (x0 :: x1 :: x2 :: x3 :: x4 :: x5 :: zvi a :: L) st h = zev kX3_arrivesBy 63 (x0 :: x1 :: x2 :: x3 :: x4 :: x5 :: zvi a :: L) (zvi a :: st) h) ∧
  (∀ (j : Int) (q : Nat) (L st : List ZV) (h : PH), zev kX3_arrivesBy 63 L (zvi j :: zvr (some q) :: st) h = if (ph_K h q).1 % 1000 = 1 ∧ 0 ≤ j ∧ j < (ph_K h q).2 then zev kX3_arrivesBy 64 L (zvi (ph_I h q j) :: st) h else none) ∧
  (∀ (a b : Int) (L st : List ZV) (h : PH), zev kX3_arrivesBy 64 L (zvi b :: zvi a :: st) h = if zcat st ≤ 8 then zev kX3_arrivesBy 67 L (zvi (zmin a b) :: st) h else none) ∧
  (∀ (x0 x1 x2 x3 x4 x5 : ZV) (a : Int) (L st : List ZV) (h : PH) (hx : zisL x4 = false) , zev kX3_arrivesBy 67 (x0 :: x1 :: x2 :: x3 :: x4 :: x5 :: L) (zvi a :: st) h = zev kX3_arrivesBy 69 (x0 :: x1 :: x2 :: x3 :: x4 :: zvi a :: L) st h) ∧
  (∀ (x0 x1 x2 x3 x4 x5 : ZV) (a : Int) (L st : List ZV) (h : PH) (hx : zisL x5 = false) , zev kX3_arrivesBy 69 (x0 :: x1 :: x2 :: x3 :: x4 :: x5 :: zvi a :: L) st h = zev kX3_arrivesBy 72 (x0 :: x1 :: x2 :: x3 :: x4 :: x5 :: zvi (w32 (a + 1)) :: L) st h) ∧
  (∀ (L st : List ZV) (h : PH), zev kX3_arrivesBy 72 L st h = zev kX3_arrivesBy 20 L st h) ∧
  (∀ (x0 x1 x2 x3 x4 : ZV) (a : Int) (L st : List ZV) (h : PH), zev kX3_arrivesBy 75 (x0 :: x1 :: x2 :: x3 :: x4 :: zvi a :: L) st h = zev kX3_arrivesBy 77 (x0 :: x1 :: x2 :: x3 :: x4 :: zvi a :: L) (zvi a :: st) h) ∧
  (∀ (L st : List ZV) (h : PH), zev kX3_arrivesBy 77 L st h = zev kX3_arrivesBy 79 L (zvi 99999 :: st) h) ∧
  (∀ (a b : Int) (L st : List ZV) (h : PH), zev kX3_arrivesBy 79 L (zvi b :: zvi a :: st) h = if a ≠ b then zev kX3_arrivesBy 87 L st h else zev kX3_arrivesBy 82 L st h) ∧
  (∀ (L st : List ZV) (h : PH), zev kX3_arrivesBy 82 L st h = zev kX3_arrivesBy 84 L (zvi (-2) :: st) h) ∧
  (∀ (L st : List ZV) (h : PH), zev kX3_arrivesBy 84 L st h = zev kX3_arrivesBy 89 L st h) ∧
  (∀ (x0 x1 x2 x3 x4 : ZV) (a : Int) (L st : List ZV) (h : PH), zev kX3_arrivesBy 87 (x0 :: x1 :: x2 :: x3 :: x4 :: zvi a :: L) st h = zev kX3_arrivesBy 89 (x0 :: x1 :: x2 :: x3 :: x4 :: zvi a :: L) (zvi a :: st) h) ∧
  (∀ (a : Int) (L : List ZV) (h : PH), zev kX3_arrivesBy 89 L [zvi a] h = zrv (zvi a) h) :=
  ⟨fun x0 a L st h => e_ld1I (n := 1) rfl,
  fun x0 x1 a L st h => e_ld2I (n := 2) rfl,
  fun a b L st h => e_cmpne (t := 7) (n := 5) rfl,
  fun x0 x1 x2 a L st h => e_ld3I (n := 6) rfl,
  fun a L h => e_retI rfl,
  fun a L st h => e_ld0R (n := 8) rfl,
  fun x0 a L st h => e_ld1I (n := 9) rfl,
  fun x0 x1 x2 a L st h => e_ld3I (n := 10) rfl,
  fun v0 v1 q L st h => e_callV3 (F := mX3_laysForwards) (kd := 17) (n := 13) rfl,
  fun L st h => e_push (v := zvi 99999) (n := 15) rfl,
  fun x0 x1 x2 x3 x4 x5 a L st h hx => e_st5I (n := 17) rfl hx,
  fun L st h => e_push (v := zvi 0) (n := 18) rfl,
  fun x0 x1 x2 x3 x4 x5 x6 a L st h hx => e_st6I (n := 20) rfl hx,
  fun a L st h => e_ld0R (n := 23) rfl,
  fun q L st h => e_getI (kd := 17) (k := 6) (n := 26) rfl,
  fun a b L st h => e_cmpge (t := 75) (n := 29) rfl,
  fun a L st h => e_ld0R (n := 30) rfl,
  fun q L st h => e_getR (kd := 17) (k := 0) (n := 33) rfl,
  fun x0 x1 x2 x3 x4 x5 a L st h => e_ld6I (n := 35) rfl,
  fun j q L st h => e_aldR (n := 36) rfl,
  fun q L st h => e_getI (kd := 22) (k := 4) (n := 39) rfl,
  fun x0 x1 a L st h => e_ld2I (n := 40) rfl,
  fun a b L st h => e_cmpne (t := 69) (n := 43) rfl,
  fun a L st h => e_ld0R (n := 44) rfl,
  fun q L st h => e_getR (kd := 17) (k := 3) (n := 47) rfl,
  fun x0 x1 x2 x3 x4 x5 a L st h => e_ld6I (n := 49) rfl,
  fun j q L st h => e_ald (kd := 1) (n := 50) rfl,
  fun x0 x1 x2 x3 a L st h => e_ld4I (n := 52) rfl,
  fun a b L st h => e_cmpgt (t := 69) (n := 55) rfl,
  fun x0 x1 x2 x3 x4 a L st h => e_ld5I (n := 57) rfl,
  fun a L st h => e_ld0R (n := 58) rfl,
  fun q L st h => e_getR (kd := 17) (k := 2) (n := 61) rfl,
  fun x0 x1 x2 x3 x4 x5 a L st h => e_ld6I (n := 63) rfl,
  fun j q L st h => e_ald (kd := 1) (n := 64) rfl,
  fun a b L st h => e_mm (f := zmin) (n := 67) rfl,
  fun x0 x1 x2 x3 x4 x5 a L st h hx => e_st5I (n := 69) rfl hx,
  fun x0 x1 x2 x3 x4 x5 a L st h hx => e_iinc6 (d := 1) (n := 72) rfl hx,
  fun L st h => e_goto (t := 20) rfl,
  fun x0 x1 x2 x3 x4 a L st h => e_ld5I (n := 77) rfl,
  fun L st h => e_push (v := zvi 99999) (n := 79) rfl,
  fun a b L st h => e_cmpne (t := 87) (n := 82) rfl,
  fun L st h => e_push (v := zvi (-2)) (n := 84) rfl,
  fun L st h => e_goto (t := 89) rfl,
  fun x0 x1 x2 x3 x4 a L st h => e_ld5I (n := 89) rfl,
  fun a L h => e_retI rfl⟩
theorem allX3_arrivesBy : zall yX3_arrivesBy cX3_arrivesBy 7 (some .int) 6 kX3_arrivesBy.1 :=
  ⟨k_iload_n dX3_arrivesBy_0,
  k_iload_n dX3_arrivesBy_1,
  k_cmpne (t := 7) dX3_arrivesBy_2 (by decide),
  k_iload_n dX3_arrivesBy_5,
  k_iret dX3_arrivesBy_6,
  k_aload_n dX3_arrivesBy_7,
  k_iload_n dX3_arrivesBy_8,
  k_iload_n dX3_arrivesBy_9,
  k_callV (y2 := yX3_laysForwards) (C := RX3) (T0 := TX3) (ci := 1) dX3_arrivesBy_10 sndX3_laysForwards rfl q1361 q1363 qs39 q136 q1364 (by decide +kernel) ⟨by decide, by decide⟩ (by decide) (by decide),
  k_ldc dX3_arrivesBy_13 q1365,
  k_istore dX3_arrivesBy_15,
  k_iconst dX3_arrivesBy_17,
  k_istore dX3_arrivesBy_18,
  k_iload dX3_arrivesBy_20,
  k_aload_n dX3_arrivesBy_22,
  k_getI (C := RX3) (T := TX3) (N := 9) (ci := 1) (k := 6) (ref := "LinkTimes$Search") dX3_arrivesBy_23 rfl in_X3 (by decide) q277 (Or.inl rfl) (fun _ _ _ => rfl),
  k_cmpge (t := 75) dX3_arrivesBy_26 (by decide),
  k_aload_n dX3_arrivesBy_29,
  k_getR (C := RX3) (T := TX3) (N := 9) (ci := 1) (k := 0) (ref := "LinkTimes$Search") dX3_arrivesBy_30 rfl in_X3 (by decide) q265 (Or.inl rfl) (fun _ _ _ => rfl),
  k_iload dX3_arrivesBy_33,
  k_aald dX3_arrivesBy_35,
  k_getIN (C := RX11) (T := TX11) (N := 9) (ci := 6) (k := 4) (ref := "LinkTimes$Departure") dX3_arrivesBy_36 rfl in_X11 (by decide) q861 (Or.inl rfl) (fun _ _ _ => rfl),
  k_iload_n dX3_arrivesBy_39,
  k_cmpne (t := 69) dX3_arrivesBy_40 (by decide),
  k_aload_n dX3_arrivesBy_43,
  k_getR (C := RX3) (T := TX3) (N := 9) (ci := 1) (k := 3) (ref := "LinkTimes$Search") dX3_arrivesBy_44 rfl in_X3 (by decide) q271 (Or.inl rfl) (fun _ _ _ => rfl),
  k_iload dX3_arrivesBy_47,
  k_iald dX3_arrivesBy_49,
  k_iload dX3_arrivesBy_50,
  k_cmpgt (t := 69) dX3_arrivesBy_52 (by decide),
  k_iload dX3_arrivesBy_55,
  k_aload_n dX3_arrivesBy_57,
  k_getR (C := RX3) (T := TX3) (N := 9) (ci := 1) (k := 2) (ref := "LinkTimes$Search") dX3_arrivesBy_58 rfl in_X3 (by decide) q269 (Or.inl rfl) (fun _ _ _ => rfl),
  k_iload dX3_arrivesBy_61,
  k_iald dX3_arrivesBy_63,
  k_mmin dX3_arrivesBy_64 q1375 q799 q154 q800 (by decide),
  k_istore dX3_arrivesBy_67,
  k_iinc dX3_arrivesBy_69,
  k_goto (t := 20) dX3_arrivesBy_72 (by decide),
  k_iload dX3_arrivesBy_75,
  k_ldc dX3_arrivesBy_77 q1365,
  k_cmpne (t := 87) dX3_arrivesBy_79 (by decide),
  k_bipush dX3_arrivesBy_82,
  k_goto (t := 89) dX3_arrivesBy_84 (by decide),
  k_iload dX3_arrivesBy_87,
  k_iret dX3_arrivesBy_89, trivial⟩
theorem sndX3_arrivesBy : MSound 6 yX3_arrivesBy (ws_ yX3_arrivesBy cX3_arrivesBy 7 (some .int)) mX3_arrivesBy := msound_M (by decide) allX3_arrivesBy (fun _ _ => rfl)
/-! LinkTimes$Search.arrives(III)I -/
noncomputable def kX3_arrives : ZM := ([(0, zi_ld 1 0 1), (1, zi_ld 0 1 2), (2, zi_ld 0 2 3), (3, zi_ld 0 3 4), (4, zi_push (zvi 120) 6), (6, zi_callV mX3_arrivesBy 17 5 9), (9, zi_retv 0)], fun _ _ => none)
noncomputable def mX3_arrives : ZF := zrunM kX3_arrives 4
theorem enX3_arrives (x0 : Option Nat) (x1 : Int) (x2 : Int) (x3 : Int) (h : PH) : mX3_arrives [zvr x0, zvi x1, zvi x2, zvi x3] h = zev kX3_arrives 0 [zvr x0, zvi x1, zvi x2, zvi x3] [] h := zrunM_eq rfl rfl
theorem rX3_arrives : (∀ (a : Option Nat) (L st : List ZV) (h : PH), zev kX3_arrives 0 (zvr a :: L) st h = zev kX3_arrives 1 (zvr a :: L) (zvr a :: st) h) ∧
  (∀ (x0 : ZV) (a : Int) (L st : List ZV) (h : PH), zev kX3_arrives 1 (x0 :: zvi a :: L) st h = zev kX3_arrives 2 (x0 :: zvi a :: L) (zvi a :: st) h) ∧
  (∀ (x0 x1 : ZV) (a : Int) (L st : List ZV) (h : PH), zev kX3_arrives 2 (x0 :: x1 :: zvi a :: L) st h = zev kX3_arrives 3 (x0 :: x1 :: zvi a :: L) (zvi a :: st) h) ∧
  (∀ (x0 x1 x2 : ZV) (a : Int) (L st : List ZV) (h : PH), zev kX3_arrives 3 (x0 :: x1 :: x2 :: zvi a :: L) st h = zev kX3_arrives 4 (x0 :: x1 :: x2 :: zvi a :: L) (zvi a :: st) h) ∧
  (∀ (L st : List ZV) (h : PH), zev kX3_arrives 4 L st h = zev kX3_arrives 6 L (zvi 120 :: st) h) ∧
  (∀ (v0 v1 v2 v3 : ZV) (q : Nat) (L st : List ZV) (h : PH), zev kX3_arrives 6 L (v3 :: v2 :: v1 :: v0 :: zvr (some q) :: st) h = if (ph_K h q).1 % 1000 = 17 ∧ zcat st ≤ 8 then zk kX3_arrives 6 9 L st (mX3_arrivesBy [zvr (some q), v0, v1, v2, v3] h) else none) ∧
  (∀ (a : Int) (L : List ZV) (h : PH), zev kX3_arrives 9 L [zvi a] h = zrv (zvi a) h) :=
  ⟨fun a L st h => e_ld0R (n := 1) rfl,
  fun x0 a L st h => e_ld1I (n := 2) rfl,
  fun x0 x1 a L st h => e_ld2I (n := 3) rfl,
  fun x0 x1 x2 a L st h => e_ld3I (n := 4) rfl,
  fun L st h => e_push (v := zvi 120) (n := 6) rfl,
  fun v0 v1 v2 v3 q L st h => e_callV5 (F := mX3_arrivesBy) (kd := 17) (n := 9) rfl,
  fun a L h => e_retI rfl⟩
theorem allX3_arrives : zall yX3_arrives cX3_arrives 4 (some .int) 7 kX3_arrives.1 :=
  ⟨k_aload_n dX3_arrives_0,
  k_iload_n dX3_arrives_1,
  k_iload_n dX3_arrives_2,
  k_iload_n dX3_arrives_3,
  k_bipush dX3_arrives_4,
  k_callV (y2 := yX3_arrivesBy) (C := RX3) (T0 := TX3) (ci := 1) dX3_arrives_6 sndX3_arrivesBy rfl q1357 q1358 q1359 q136 q1360 (by decide +kernel) ⟨by decide, by decide⟩ (by decide) (by decide),
  k_iret dX3_arrives_9, trivial⟩
theorem sndX3_arrives : MSound 7 yX3_arrives (ws_ yX3_arrives cX3_arrives 4 (some .int)) mX3_arrives := msound_M (by decide) allX3_arrives (fun _ _ => rfl)
/-! LinkTimes$Search.isBetter(II)Z -/
noncomputable def kX3_isBetter : ZM := ([(0, zi_ld 1 0 1), (1, zi_getR 17 3 4), (4, zi_ld 0 1 5), (5, zi_ald 1 6), (6, zi_ld 1 0 7), (7, zi_ld 0 2 8), (8, zi_ld 0 1 9), (9, zi_callV mX3_changed 17 3 12), (12, zi_bin (fun a b => w32 (a + b)) 13), (13, zi_st 0 3 14), (14, zi_ld 0 3 15), (15, zi_ld 1 0 16), (16, zi_getR 17 3 19), (19, zi_ld 0 2 20), (20, zi_ald 1 21), (21, zi_cmp zc_eq 40 24), (24, zi_ld 0 3 25), (25, zi_ld 1 0 26), (26, zi_getR 17 3 29), (29, zi_ld 0 2 30), (30, zi_ald 1 31), (31, zi_cmp zc_ge 38 34), (34, zi_push (zvi 1) 35), (35, zi_goto 39), (38, zi_push (zvi 0) 39), (39, zi_retz), (40, zi_ld 1 0 41), (41, zi_getR 17 4 44), (44, zi_ld 0 1 45), (45, zi_ald 1 46), (46, zi_push (zvi 1) 47), (47, zi_bin (fun a b => w32 (a + b)) 48), (48, zi_ld 1 0 49), (49, zi_getR 17 4 52), (52, zi_ld 0 2 53), (53, zi_ald 1 54), (54, zi_cmp zc_eq 80 57), (57, zi_ld 1 0 58), (58, zi_getR 17 4 61), (61, zi_ld 0 1 62), (62, zi_ald 1 63), (63, zi_push (zvi 1) 64), (64, zi_bin (fun a b => w32 (a + b)) 65), (65, zi_ld 1 0 66), (66, zi_getR 17 4 69), (69, zi_ld 0 2 70), (70, zi_ald 1 71), (71, zi_cmp zc_ge 78 74), (74, zi_push (zvi 1) 75), (75, zi_goto 79), (78, zi_push (zvi 0) 79), (79, zi_retz), (80, zi_ld 1 0 81), (81, zi_getR 17 5 84), (84, zi_ld 0 2 85), (85, zi_ald 1 86), (86, zi_push (zvi (-1)) 87), (87, zi_cmp zc_eq 120 90), (90, zi_ld 1 0 91), (91, zi_getR 17 0 94), (94, zi_ld 0 1 95), (95, zi_aldR 96), (96, zi_getI 22 0 99), (99, zi_ld 1 0 100), (100, zi_getR 17 0 103), (103, zi_ld 1 0 104), (104, zi_getR 17 5 107), (107, zi_ld 0 2 108), (108, zi_ald 1 109), (109, zi_aldR 110), (110, zi_getI 22 0 113), (113, zi_cmp zc_ge 120 116), (116, zi_push (zvi 1) 117), (117, zi_goto 121), (120, zi_push (zvi 0) 121), (121, zi_retz)], fun _ _ => none)
noncomputable def mX3_isBetter : ZF := zrunM kX3_isBetter 4
theorem enX3_isBetter (x0 : Option Nat) (x1 : Int) (x2 : Int) (h : PH) : mX3_isBetter [zvr x0, zvi x1, zvi x2] h = zev kX3_isBetter 0 [zvr x0, zvi x1, zvi x2, zvu] [] h := zrunM_eq rfl rfl
theorem rX3_isBetter : (∀ (a : Option Nat) (L st : List ZV) (h : PH), zev kX3_isBetter 0 (zvr a :: L) st h = zev kX3_isBetter 1 (zvr a :: L) (zvr a :: st) h) ∧
  (∀ (q : Nat) (L st : List ZV) (h : PH), zev kX3_isBetter 1 L (zvr (some q) :: st) h = if (ph_K h q).1 % 1000 = 17 then zev kX3_isBetter 4 L (zvr (ph_R h q 3) :: st) h else none) ∧
  (∀ (x0 : ZV) (a : Int) (L st : List ZV) (h : PH), zev kX3_isBetter 4 (x0 :: zvi a :: L) st h = zev kX3_isBetter 5 (x0 :: zvi a :: L) (zvi a :: st) h) ∧
  (∀ (j : Int) (q : Nat) (L st : List ZV) (h : PH), zev kX3_isBetter 5 L (zvi j :: zvr (some q) :: st) h = if (ph_K h q).1 % 1000 = 1 ∧ 0 ≤ j ∧ j < (ph_K h q).2 then zev kX3_isBetter 6 L (zvi (ph_I h q j) :: st) h else none) ∧
  (∀ (a : Option Nat) (L st : List ZV) (h : PH), zev kX3_isBetter 6 (zvr a :: L) st h = zev kX3_isBetter 7 (zvr a :: L) (zvr a :: st) h) ∧
  (∀ (x0 x1 : ZV) (a : Int) (L st : List ZV) (h : PH), zev kX3_isBetter 7 (x0 :: x1 :: zvi a :: L) st h = zev kX3_isBetter 8 (x0 :: x1 :: zvi a :: L) (zvi a :: st) h) ∧
  (∀ (x0 : ZV) (a : Int) (L st : List ZV) (h : PH), zev kX3_isBetter 8 (x0 :: zvi a :: L) st h = zev kX3_isBetter 9 (x0 :: zvi a :: L) (zvi a :: st) h) ∧
  (∀ (v0 v1 : ZV) (q : Nat) (L st : List ZV) (h : PH), zev kX3_isBetter 9 L (v1 :: v0 :: zvr (some q) :: st) h = if (ph_K h q).1 % 1000 = 17 ∧ zcat st ≤ 8 then zk kX3_isBetter 9 12 L st (mX3_changed [zvr (some q), v0, v1] h) else none) ∧
  (∀ (a b : Int) (L st : List ZV) (h : PH), zev kX3_isBetter 12 L (zvi b :: zvi a :: st) h = zev kX3_isBetter 13 L (zvi (w32 (a + b)) :: st) h) ∧
  (∀ (x0 x1 x2 x3 : ZV) (a : Int) (L st : List ZV) (h : PH) (hx : zisL x2 = false) , zev kX3_isBetter 13 (x0 :: x1 :: x2 :: x3 :: L) (zvi a :: st) h = zev kX3_isBetter 14 (x0 :: x1 :: x2 :: zvi a :: L) st h) ∧
  (∀ (x0 x1 x2 : ZV) (a : Int) (L st : List ZV) (h : PH), zev kX3_isBetter 14 (x0 :: x1 :: x2 :: zvi a :: L) st h = zev kX3_isBetter 15 (x0 :: x1 :: x2 :: zvi a :: L) (zvi a :: st) h) ∧
  (∀ (a : Option Nat) (L st : List ZV) (h : PH), zev kX3_isBetter 15 (zvr a :: L) st h = zev kX3_isBetter 16 (zvr a :: L) (zvr a :: st) h) ∧
  (∀ (q : Nat) (L st : List ZV) (h : PH), zev kX3_isBetter 16 L (zvr (some q) :: st) h = if (ph_K h q).1 % 1000 = 17 then zev kX3_isBetter 19 L (zvr (ph_R h q 3) :: st) h else none) ∧
  (∀ (x0 x1 : ZV) (a : Int) (L st : List ZV) (h : PH), zev kX3_isBetter 19 (x0 :: x1 :: zvi a :: L) st h = zev kX3_isBetter 20 (x0 :: x1 :: zvi a :: L) (zvi a :: st) h) ∧
  (∀ (j : Int) (q : Nat) (L st : List ZV) (h : PH), zev kX3_isBetter 20 L (zvi j :: zvr (some q) :: st) h = if (ph_K h q).1 % 1000 = 1 ∧ 0 ≤ j ∧ j < (ph_K h q).2 then zev kX3_isBetter 21 L (zvi (ph_I h q j) :: st) h else none) ∧
  (∀ (a b : Int) (L st : List ZV) (h : PH), zev kX3_isBetter 21 L (zvi b :: zvi a :: st) h = if a = b then zev kX3_isBetter 40 L st h else zev kX3_isBetter 24 L st h) ∧
  (∀ (x0 x1 x2 : ZV) (a : Int) (L st : List ZV) (h : PH), zev kX3_isBetter 24 (x0 :: x1 :: x2 :: zvi a :: L) st h = zev kX3_isBetter 25 (x0 :: x1 :: x2 :: zvi a :: L) (zvi a :: st) h) ∧
  (∀ (a : Option Nat) (L st : List ZV) (h : PH), zev kX3_isBetter 25 (zvr a :: L) st h = zev kX3_isBetter 26 (zvr a :: L) (zvr a :: st) h) ∧
  (∀ (q : Nat) (L st : List ZV) (h : PH), zev kX3_isBetter 26 L (zvr (some q) :: st) h = if (ph_K h q).1 % 1000 = 17 then zev kX3_isBetter 29 L (zvr (ph_R h q 3) :: st) h else none) ∧
  (∀ (x0 x1 : ZV) (a : Int) (L st : List ZV) (h : PH), zev kX3_isBetter 29 (x0 :: x1 :: zvi a :: L) st h = zev kX3_isBetter 30 (x0 :: x1 :: zvi a :: L) (zvi a :: st) h) ∧
  (∀ (j : Int) (q : Nat) (L st : List ZV) (h : PH), zev kX3_isBetter 30 L (zvi j :: zvr (some q) :: st) h = if (ph_K h q).1 % 1000 = 1 ∧ 0 ≤ j ∧ j < (ph_K h q).2 then zev kX3_isBetter 31 L (zvi (ph_I h q j) :: st) h else none) ∧
  (∀ (a b : Int) (L st : List ZV) (h : PH), zev kX3_isBetter 31 L (zvi b :: zvi a :: st) h = if a ≥ b then zev kX3_isBetter 38 L st h else zev kX3_isBetter 34 L st h) ∧
  (∀ (L st : List ZV) (h : PH), zev kX3_isBetter 34 L st h = zev kX3_isBetter 35 L (zvi 1 :: st) h) ∧
  (∀ (L st : List ZV) (h : PH), zev kX3_isBetter 35 L st h = zev kX3_isBetter 39 L st h) ∧
  (∀ (L st : List ZV) (h : PH), zev kX3_isBetter 38 L st h = zev kX3_isBetter 39 L (zvi 0 :: st) h) ∧
  (∀ (a : Int) (L : List ZV) (h : PH), zev kX3_isBetter 39 L [zvi a] h = if a = 0 ∨ a = 1 then zrv (zvi a) h else none) ∧
  (∀ (a : Option Nat) (L st : List ZV) (h : PH), zev kX3_isBetter 40 (zvr a :: L) st h = zev kX3_isBetter 41 (zvr a :: L) (zvr a :: st) h) ∧
  (∀ (q : Nat) (L st : List ZV) (h : PH), zev kX3_isBetter 41 L (zvr (some q) :: st) h = if (ph_K h q).1 % 1000 = 17 then zev kX3_isBetter 44 L (zvr (ph_R h q 4) :: st) h else none) ∧
  (∀ (x0 : ZV) (a : Int) (L st : List ZV) (h : PH), zev kX3_isBetter 44 (x0 :: zvi a :: L) st h = zev kX3_isBetter 45 (x0 :: zvi a :: L) (zvi a :: st) h) ∧
  (∀ (j : Int) (q : Nat) (L st : List ZV) (h : PH), zev kX3_isBetter 45 L (zvi j :: zvr (some q) :: st) h = if (ph_K h q).1 % 1000 = 1 ∧ 0 ≤ j ∧ j < (ph_K h q).2 then zev kX3_isBetter 46 L (zvi (ph_I h q j) :: st) h else none) ∧
  (∀ (L st : List ZV) (h : PH), zev kX3_isBetter 46 L st h = zev kX3_isBetter 47 L (zvi 1 :: st) h) ∧
  (∀ (a b : Int) (L st : List ZV) (h : PH), zev kX3_isBetter 47 L (zvi b :: zvi a :: st) h = zev kX3_isBetter 48 L (zvi (w32 (a + b)) :: st) h) ∧
  (∀ (a : Option Nat) (L st : List ZV) (h : PH), zev kX3_isBetter 48 (zvr a :: L) st h = zev kX3_isBetter 49 (zvr a :: L) (zvr a :: st) h) ∧
  (∀ (q : Nat) (L st : List ZV) (h : PH), zev kX3_isBetter 49 L (zvr (some q) :: st) h = if (ph_K h q).1 % 1000 = 17 then zev kX3_isBetter 52 L (zvr (ph_R h q 4) :: st) h else none) ∧
  (∀ (x0 x1 : ZV) (a : Int) (L st : List ZV) (h : PH), zev kX3_isBetter 52 (x0 :: x1 :: zvi a :: L) st h = zev kX3_isBetter 53 (x0 :: x1 :: zvi a :: L) (zvi a :: st) h) ∧
  (∀ (j : Int) (q : Nat) (L st : List ZV) (h : PH), zev kX3_isBetter 53 L (zvi j :: zvr (some q) :: st) h = if (ph_K h q).1 % 1000 = 1 ∧ 0 ≤ j ∧ j < (ph_K h q).2 then zev kX3_isBetter 54 L (zvi (ph_I h q j) :: st) h else none) ∧
  (∀ (a b : Int) (L st : List ZV) (h : PH), zev kX3_isBetter 54 L (zvi b :: zvi a :: st) h = if a = b then zev kX3_isBetter 80 L st h else zev kX3_isBetter 57 L st h) ∧
  (∀ (a : Option Nat) (L st : List ZV) (h : PH), zev kX3_isBetter 57 (zvr a :: L) st h = zev kX3_isBetter 58 (zvr a :: L) (zvr a :: st) h) ∧
  (∀ (q : Nat) (L st : List ZV) (h : PH), zev kX3_isBetter 58 L (zvr (some q) :: st) h = if (ph_K h q).1 % 1000 = 17 then zev kX3_isBetter 61 L (zvr (ph_R h q 4) :: st) h else none) ∧
  (∀ (x0 : ZV) (a : Int) (L st : List ZV) (h : PH), zev kX3_isBetter 61 (x0 :: zvi a :: L) st h = zev kX3_isBetter 62 (x0 :: zvi a :: L) (zvi a :: st) h) ∧
  (∀ (j : Int) (q : Nat) (L st : List ZV) (h : PH), zev kX3_isBetter 62 L (zvi j :: zvr (some q) :: st) h = if (ph_K h q).1 % 1000 = 1 ∧ 0 ≤ j ∧ j < (ph_K h q).2 then zev kX3_isBetter 63 L (zvi (ph_I h q j) :: st) h else none) ∧
  (∀ (L st : List ZV) (h : PH), zev kX3_isBetter 63 L st h = zev kX3_isBetter 64 L (zvi 1 :: st) h) ∧
  (∀ (a b : Int) (L st : List ZV) (h : PH), zev kX3_isBetter 64 L (zvi b :: zvi a :: st) h = zev kX3_isBetter 65 L (zvi (w32 (a + b)) :: st) h) ∧
  (∀ (a : Option Nat) (L st : List ZV) (h : PH), zev kX3_isBetter 65 (zvr a :: L) st h = zev kX3_isBetter 66 (zvr a :: L) (zvr a :: st) h) ∧
  (∀ (q : Nat) (L st : List ZV) (h : PH), zev kX3_isBetter 66 L (zvr (some q) :: st) h = if (ph_K h q).1 % 1000 = 17 then zev kX3_isBetter 69 L (zvr (ph_R h q 4) :: st) h else none) ∧
  (∀ (x0 x1 : ZV) (a : Int) (L st : List ZV) (h : PH), zev kX3_isBetter 69 (x0 :: x1 :: zvi a :: L) st h = zev kX3_isBetter 70 (x0 :: x1 :: zvi a :: L) (zvi a :: st) h) ∧
  (∀ (j : Int) (q : Nat) (L st : List ZV) (h : PH), zev kX3_isBetter 70 L (zvi j :: zvr (some q) :: st) h = if (ph_K h q).1 % 1000 = 1 ∧ 0 ≤ j ∧ j < (ph_K h q).2 then zev kX3_isBetter 71 L (zvi (ph_I h q j) :: st) h else none) ∧
  (∀ (a b : Int) (L st : List ZV) (h : PH), zev kX3_isBetter 71 L (zvi b :: zvi a :: st) h = if a ≥ b then zev kX3_isBetter 78 L st h else zev kX3_isBetter 74 L st h) ∧
  (∀ (L st : List ZV) (h : PH), zev kX3_isBetter 74 L st h = zev kX3_isBetter 75 L (zvi 1 :: st) h) ∧
  (∀ (L st : List ZV) (h : PH), zev kX3_isBetter 75 L st h = zev kX3_isBetter 79 L st h) ∧
  (∀ (L st : List ZV) (h : PH), zev kX3_isBetter 78 L st h = zev kX3_isBetter 79 L (zvi 0 :: st) h) ∧
  (∀ (a : Int) (L : List ZV) (h : PH), zev kX3_isBetter 79 L [zvi a] h = if a = 0 ∨ a = 1 then zrv (zvi a) h else none) ∧
  (∀ (a : Option Nat) (L st : List ZV) (h : PH), zev kX3_isBetter 80 (zvr a :: L) st h = zev kX3_isBetter 81 (zvr a :: L) (zvr a :: st) h) ∧
  (∀ (q : Nat) (L st : List ZV) (h : PH), zev kX3_isBetter 81 L (zvr (some q) :: st) h = if (ph_K h q).1 % 1000 = 17 then zev kX3_isBetter 84 L (zvr (ph_R h q 5) :: st) h else none) ∧
  (∀ (x0 x1 : ZV) (a : Int) (L st : List ZV) (h : PH), zev kX3_isBetter 84 (x0 :: x1 :: zvi a :: L) st h = zev kX3_isBetter 85 (x0 :: x1 :: zvi a :: L) (zvi a :: st) h) ∧
  (∀ (j : Int) (q : Nat) (L st : List ZV) (h : PH), zev kX3_isBetter 85 L (zvi j :: zvr (some q) :: st) h = if (ph_K h q).1 % 1000 = 1 ∧ 0 ≤ j ∧ j < (ph_K h q).2 then zev kX3_isBetter 86 L (zvi (ph_I h q j) :: st) h else none) ∧
  (∀ (L st : List ZV) (h : PH), zev kX3_isBetter 86 L st h = zev kX3_isBetter 87 L (zvi (-1) :: st) h) ∧
  (∀ (a b : Int) (L st : List ZV) (h : PH), zev kX3_isBetter 87 L (zvi b :: zvi a :: st) h = if a = b then zev kX3_isBetter 120 L st h else zev kX3_isBetter 90 L st h) ∧
  (∀ (a : Option Nat) (L st : List ZV) (h : PH), zev kX3_isBetter 90 (zvr a :: L) st h = zev kX3_isBetter 91 (zvr a :: L) (zvr a :: st) h) ∧
  (∀ (q : Nat) (L st : List ZV) (h : PH), zev kX3_isBetter 91 L (zvr (some q) :: st) h = if (ph_K h q).1 % 1000 = 17 then zev kX3_isBetter 94 L (zvr (ph_R h q 0) :: st) h else none) ∧
  (∀ (x0 : ZV) (a : Int) (L st : List ZV) (h : PH), zev kX3_isBetter 94 (x0 :: zvi a :: L) st h = zev kX3_isBetter 95 (x0 :: zvi a :: L) (zvi a :: st) h) ∧
  (∀ (j : Int) (q : Nat) (L st : List ZV) (h : PH), zev kX3_isBetter 95 L (zvi j :: zvr (some q) :: st) h = if 5 ≤ (ph_K h q).1 % 1000 ∧ (ph_K h q).1 % 1000 ≤ 7 ∧ 0 ≤ j ∧ j < (ph_K h q).2 then zev kX3_isBetter 96 L (zvr (ph_R h q j) :: st) h else none) ∧
  (∀ (q : Nat) (L st : List ZV) (h : PH), zev kX3_isBetter 96 L (zvr (some q) :: st) h = if (ph_K h q).1 % 1000 = 22 then zev kX3_isBetter 99 L (zvi (ph_I h q 0) :: st) h else none) ∧
  (∀ (a : Option Nat) (L st : List ZV) (h : PH), zev kX3_isBetter 99 (zvr a :: L) st h = zev kX3_isBetter 100 (zvr a :: L) (zvr a :: st) h) ∧
  (∀ (q : Nat) (L st : List ZV) (h : PH), zev kX3_isBetter 100 L (zvr (some q) :: st) h = if (ph_K h q).1 % 1000 = 17 then zev kX3_isBetter 103 L (zvr (ph_R h q 0) :: st) h else none) ∧
  (∀ (a : Option Nat) (L st : List ZV) (h : PH), zev kX3_isBetter 103 (zvr a :: L) st h = zev kX3_isBetter 104 (zvr a :: L) (zvr a :: st) h) ∧
  (∀ (q : Nat) (L st : List ZV) (h : PH), zev kX3_isBetter 104 L (zvr (some q) :: st) h = if (ph_K h q).1 % 1000 = 17 then zev kX3_isBetter 107 L (zvr (ph_R h q 5) :: st) h else none) ∧
  (∀ (x0 x1 : ZV) (a : Int) (L st : List ZV) (h : PH), zev kX3_isBetter 107 (x0 :: x1 :: zvi a :: L) st h = zev kX3_isBetter 108 (x0 :: x1 :: zvi a :: L) (zvi a :: st) h) ∧
  (∀ (j : Int) (q : Nat) (L st : List ZV) (h : PH), zev kX3_isBetter 108 L (zvi j :: zvr (some q) :: st) h = if (ph_K h q).1 % 1000 = 1 ∧ 0 ≤ j ∧ j < (ph_K h q).2 then zev kX3_isBetter 109 L (zvi (ph_I h q j) :: st) h else none) ∧
  (∀ (j : Int) (q : Nat) (L st : List ZV) (h : PH), zev kX3_isBetter 109 L (zvi j :: zvr (some q) :: st) h = if 5 ≤ (ph_K h q).1 % 1000 ∧ (ph_K h q).1 % 1000 ≤ 7 ∧ 0 ≤ j ∧ j < (ph_K h q).2 then zev kX3_isBetter 110 L (zvr (ph_R h q j) :: st) h else none) ∧
  (∀ (q : Nat) (L st : List ZV) (h : PH), zev kX3_isBetter 110 L (zvr (some q) :: st) h = if (ph_K h q).1 % 1000 = 22 then zev kX3_isBetter 113 L (zvi (ph_I h q 0) :: st) h else none) ∧
  (∀ (a b : Int) (L st : List ZV) (h : PH), zev kX3_isBetter 113 L (zvi b :: zvi a :: st) h = if a ≥ b then zev kX3_isBetter 120 L st h else zev kX3_isBetter 116 L st h) ∧
  (∀ (L st : List ZV) (h : PH), zev kX3_isBetter 116 L st h = zev kX3_isBetter 117 L (zvi 1 :: st) h) ∧
  (∀ (L st : List ZV) (h : PH), zev kX3_isBetter 117 L st h = zev kX3_isBetter 121 L st h) ∧
  (∀ (L st : List ZV) (h : PH), zev kX3_isBetter 120 L st h = zev kX3_isBetter 121 L (zvi 0 :: st) h) ∧
  (∀ (a : Int) (L : List ZV) (h : PH), zev kX3_isBetter 121 L [zvi a] h = if a = 0 ∨ a = 1 then zrv (zvi a) h else none) :=
  ⟨fun a L st h => e_ld0R (n := 1) rfl,
  fun q L st h => e_getR (kd := 17) (k := 3) (n := 4) rfl,
  fun x0 a L st h => e_ld1I (n := 5) rfl,
  fun j q L st h => e_ald (kd := 1) (n := 6) rfl,
  fun a L st h => e_ld0R (n := 7) rfl,
  fun x0 x1 a L st h => e_ld2I (n := 8) rfl,
  fun x0 a L st h => e_ld1I (n := 9) rfl,
  fun v0 v1 q L st h => e_callV3 (F := mX3_changed) (kd := 17) (n := 12) rfl,
  fun a b L st h => e_bin (f := (fun a b => w32 (a + b))) (n := 13) rfl,
  fun x0 x1 x2 x3 a L st h hx => e_st3I (n := 14) rfl hx,
  fun x0 x1 x2 a L st h => e_ld3I (n := 15) rfl,
  fun a L st h => e_ld0R (n := 16) rfl,
  fun q L st h => e_getR (kd := 17) (k := 3) (n := 19) rfl,
  fun x0 x1 a L st h => e_ld2I (n := 20) rfl,
  fun j q L st h => e_ald (kd := 1) (n := 21) rfl,
  fun a b L st h => e_cmpeq (t := 40) (n := 24) rfl,
  fun x0 x1 x2 a L st h => e_ld3I (n := 25) rfl,
  fun a L st h => e_ld0R (n := 26) rfl,
  fun q L st h => e_getR (kd := 17) (k := 3) (n := 29) rfl,
  fun x0 x1 a L st h => e_ld2I (n := 30) rfl,
  fun j q L st h => e_ald (kd := 1) (n := 31) rfl,
  fun a b L st h => e_cmpge (t := 38) (n := 34) rfl,
  fun L st h => e_push (v := zvi 1) (n := 35) rfl,
  fun L st h => e_goto (t := 39) rfl,
  fun L st h => e_push (v := zvi 0) (n := 39) rfl,
  fun a L h => e_retz rfl,
  fun a L st h => e_ld0R (n := 41) rfl,
  fun q L st h => e_getR (kd := 17) (k := 4) (n := 44) rfl,
  fun x0 a L st h => e_ld1I (n := 45) rfl,
  fun j q L st h => e_ald (kd := 1) (n := 46) rfl,
  fun L st h => e_push (v := zvi 1) (n := 47) rfl,
  fun a b L st h => e_bin (f := (fun a b => w32 (a + b))) (n := 48) rfl,
  fun a L st h => e_ld0R (n := 49) rfl,
  fun q L st h => e_getR (kd := 17) (k := 4) (n := 52) rfl,
  fun x0 x1 a L st h => e_ld2I (n := 53) rfl,
  fun j q L st h => e_ald (kd := 1) (n := 54) rfl,
  fun a b L st h => e_cmpeq (t := 80) (n := 57) rfl,
  fun a L st h => e_ld0R (n := 58) rfl,
  fun q L st h => e_getR (kd := 17) (k := 4) (n := 61) rfl,
  fun x0 a L st h => e_ld1I (n := 62) rfl,
  fun j q L st h => e_ald (kd := 1) (n := 63) rfl,
  fun L st h => e_push (v := zvi 1) (n := 64) rfl,
  fun a b L st h => e_bin (f := (fun a b => w32 (a + b))) (n := 65) rfl,
  fun a L st h => e_ld0R (n := 66) rfl,
  fun q L st h => e_getR (kd := 17) (k := 4) (n := 69) rfl,
  fun x0 x1 a L st h => e_ld2I (n := 70) rfl,
  fun j q L st h => e_ald (kd := 1) (n := 71) rfl,
  fun a b L st h => e_cmpge (t := 78) (n := 74) rfl,
  fun L st h => e_push (v := zvi 1) (n := 75) rfl,
  fun L st h => e_goto (t := 79) rfl,
  fun L st h => e_push (v := zvi 0) (n := 79) rfl,
  fun a L h => e_retz rfl,
  fun a L st h => e_ld0R (n := 81) rfl,
  fun q L st h => e_getR (kd := 17) (k := 5) (n := 84) rfl,
  fun x0 x1 a L st h => e_ld2I (n := 85) rfl,
  fun j q L st h => e_ald (kd := 1) (n := 86) rfl,
  fun L st h => e_push (v := zvi (-1)) (n := 87) rfl,
  fun a b L st h => e_cmpeq (t := 120) (n := 90) rfl,
  fun a L st h => e_ld0R (n := 91) rfl,
  fun q L st h => e_getR (kd := 17) (k := 0) (n := 94) rfl,
  fun x0 a L st h => e_ld1I (n := 95) rfl,
  fun j q L st h => e_aldR (n := 96) rfl,
  fun q L st h => e_getI (kd := 22) (k := 0) (n := 99) rfl,
  fun a L st h => e_ld0R (n := 100) rfl,
  fun q L st h => e_getR (kd := 17) (k := 0) (n := 103) rfl,
  fun a L st h => e_ld0R (n := 104) rfl,
  fun q L st h => e_getR (kd := 17) (k := 5) (n := 107) rfl,
  fun x0 x1 a L st h => e_ld2I (n := 108) rfl,
  fun j q L st h => e_ald (kd := 1) (n := 109) rfl,
  fun j q L st h => e_aldR (n := 110) rfl,
  fun q L st h => e_getI (kd := 22) (k := 0) (n := 113) rfl,
  fun a b L st h => e_cmpge (t := 120) (n := 116) rfl,
  fun L st h => e_push (v := zvi 1) (n := 117) rfl,
  fun L st h => e_goto (t := 121) rfl,
  fun L st h => e_push (v := zvi 0) (n := 121) rfl,
  fun a L h => e_retz rfl⟩
theorem allX3_isBetter : zall yX3_isBetter cX3_isBetter 4 (some .boolean) 2 kX3_isBetter.1 :=
  ⟨k_aload_n dX3_isBetter_0,
  k_getR (C := RX3) (T := TX3) (N := 9) (ci := 1) (k := 3) (ref := "LinkTimes$Search") dX3_isBetter_1 rfl in_X3 (by decide) q271 (Or.inl rfl) (fun _ _ _ => rfl),
  k_iload_n dX3_isBetter_4,
  k_iald dX3_isBetter_5,
  k_aload_n dX3_isBetter_6,
  k_iload_n dX3_isBetter_7,
  k_iload_n dX3_isBetter_8,
  k_callV (y2 := yX3_changed) (C := RX3) (T0 := TX3) (ci := 1) dX3_isBetter_9 sndX3_changed rfl q1366 q1368 qs40 q136 q1369 (by decide +kernel) ⟨by decide, by decide⟩ (by decide) (by decide),
  k_iadd dX3_isBetter_12,
  k_istore_n dX3_isBetter_13,
  k_iload_n dX3_isBetter_14,
  k_aload_n dX3_isBetter_15,
  k_getR (C := RX3) (T := TX3) (N := 9) (ci := 1) (k := 3) (ref := "LinkTimes$Search") dX3_isBetter_16 rfl in_X3 (by decide) q271 (Or.inl rfl) (fun _ _ _ => rfl),
  k_iload_n dX3_isBetter_19,
  k_iald dX3_isBetter_20,
  k_cmpeq (t := 40) dX3_isBetter_21 (by decide),
  k_iload_n dX3_isBetter_24,
  k_aload_n dX3_isBetter_25,
  k_getR (C := RX3) (T := TX3) (N := 9) (ci := 1) (k := 3) (ref := "LinkTimes$Search") dX3_isBetter_26 rfl in_X3 (by decide) q271 (Or.inl rfl) (fun _ _ _ => rfl),
  k_iload_n dX3_isBetter_29,
  k_iald dX3_isBetter_30,
  k_cmpge (t := 38) dX3_isBetter_31 (by decide),
  k_iconst dX3_isBetter_34,
  k_goto (t := 39) dX3_isBetter_35 (by decide),
  k_iconst dX3_isBetter_38,
  k_zret dX3_isBetter_39,
  k_aload_n dX3_isBetter_40,
  k_getR (C := RX3) (T := TX3) (N := 9) (ci := 1) (k := 4) (ref := "LinkTimes$Search") dX3_isBetter_41 rfl in_X3 (by decide) q273 (Or.inl rfl) (fun _ _ _ => rfl),
  k_iload_n dX3_isBetter_44,
  k_iald dX3_isBetter_45,
  k_iconst dX3_isBetter_46,
  k_iadd dX3_isBetter_47,
  k_aload_n dX3_isBetter_48,
  k_getR (C := RX3) (T := TX3) (N := 9) (ci := 1) (k := 4) (ref := "LinkTimes$Search") dX3_isBetter_49 rfl in_X3 (by decide) q273 (Or.inl rfl) (fun _ _ _ => rfl),
  k_iload_n dX3_isBetter_52,
  k_iald dX3_isBetter_53,
  k_cmpeq (t := 80) dX3_isBetter_54 (by decide),
  k_aload_n dX3_isBetter_57,
  k_getR (C := RX3) (T := TX3) (N := 9) (ci := 1) (k := 4) (ref := "LinkTimes$Search") dX3_isBetter_58 rfl in_X3 (by decide) q273 (Or.inl rfl) (fun _ _ _ => rfl),
  k_iload_n dX3_isBetter_61,
  k_iald dX3_isBetter_62,
  k_iconst dX3_isBetter_63,
  k_iadd dX3_isBetter_64,
  k_aload_n dX3_isBetter_65,
  k_getR (C := RX3) (T := TX3) (N := 9) (ci := 1) (k := 4) (ref := "LinkTimes$Search") dX3_isBetter_66 rfl in_X3 (by decide) q273 (Or.inl rfl) (fun _ _ _ => rfl),
  k_iload_n dX3_isBetter_69,
  k_iald dX3_isBetter_70,
  k_cmpge (t := 78) dX3_isBetter_71 (by decide),
  k_iconst dX3_isBetter_74,
  k_goto (t := 79) dX3_isBetter_75 (by decide),
  k_iconst dX3_isBetter_78,
  k_zret dX3_isBetter_79,
  k_aload_n dX3_isBetter_80,
  k_getR (C := RX3) (T := TX3) (N := 9) (ci := 1) (k := 5) (ref := "LinkTimes$Search") dX3_isBetter_81 rfl in_X3 (by decide) q275 (Or.inl rfl) (fun _ _ _ => rfl),
  k_iload_n dX3_isBetter_84,
  k_iald dX3_isBetter_85,
  k_iconst dX3_isBetter_86,
  k_cmpeq (t := 120) dX3_isBetter_87 (by decide),
  k_aload_n dX3_isBetter_90,
  k_getR (C := RX3) (T := TX3) (N := 9) (ci := 1) (k := 0) (ref := "LinkTimes$Search") dX3_isBetter_91 rfl in_X3 (by decide) q265 (Or.inl rfl) (fun _ _ _ => rfl),
  k_iload_n dX3_isBetter_94,
  k_aald dX3_isBetter_95,
  k_getIN (C := RX11) (T := TX11) (N := 9) (ci := 6) (k := 0) (ref := "LinkTimes$Departure") dX3_isBetter_96 rfl in_X11 (by decide) q850 (Or.inl rfl) (fun _ _ _ => rfl),
  k_aload_n dX3_isBetter_99,
  k_getR (C := RX3) (T := TX3) (N := 9) (ci := 1) (k := 0) (ref := "LinkTimes$Search") dX3_isBetter_100 rfl in_X3 (by decide) q265 (Or.inl rfl) (fun _ _ _ => rfl),
  k_aload_n dX3_isBetter_103,
  k_getR (C := RX3) (T := TX3) (N := 9) (ci := 1) (k := 5) (ref := "LinkTimes$Search") dX3_isBetter_104 rfl in_X3 (by decide) q275 (Or.inl rfl) (fun _ _ _ => rfl),
  k_iload_n dX3_isBetter_107,
  k_iald dX3_isBetter_108,
  k_aald dX3_isBetter_109,
  k_getIN (C := RX11) (T := TX11) (N := 9) (ci := 6) (k := 0) (ref := "LinkTimes$Departure") dX3_isBetter_110 rfl in_X11 (by decide) q850 (Or.inl rfl) (fun _ _ _ => rfl),
  k_cmpge (t := 120) dX3_isBetter_113 (by decide),
  k_iconst dX3_isBetter_116,
  k_goto (t := 121) dX3_isBetter_117 (by decide),
  k_iconst dX3_isBetter_120,
  k_zret dX3_isBetter_121, trivial⟩
theorem sndX3_isBetter : MSound 2 yX3_isBetter (ws_ yX3_isBetter cX3_isBetter 4 (some .boolean)) mX3_isBetter := msound_M (by decide) allX3_isBetter (fun _ _ => rfl)
/-! LinkTimes$Search.puts(II)V -/
noncomputable def kX3_puts_2 : ZM := ([(0, zi_ld 1 0 1), (1, zi_getR 17 3 4), (4, zi_ld 0 1 5), (5, zi_ld 1 0 6), (6, zi_getR 17 3 9), (9, zi_ld 0 2 10), (10, zi_ald 1 11), (11, zi_ld 1 0 12), (12, zi_ld 0 1 13), (13, zi_ld 0 2 14), (14, zi_callV mX3_changed 17 3 17), (17, zi_bin (fun a b => w32 (a + b)) 18), (18, zi_ast 19), (19, zi_ld 1 0 20), (20, zi_getR 17 4 23), (23, zi_ld 0 1 24), (24, zi_ld 1 0 25), (25, zi_getR 17 4 28), (28, zi_ld 0 2 29), (29, zi_ald 1 30), (30, zi_push (zvi 1) 31), (31, zi_bin (fun a b => w32 (a + b)) 32), (32, zi_ast 33), (33, zi_ld 1 0 34), (34, zi_getR 17 5 37), (37, zi_ld 0 1 38), (38, zi_ld 0 2 39), (39, zi_ast 40), (40, zi_ret)], fun _ _ => none)
noncomputable def mX3_puts_2 : ZF := zrunM kX3_puts_2 3
theorem enX3_puts_2 (x0 : Option Nat) (x1 : Int) (x2 : Int) (h : PH) : mX3_puts_2 [zvr x0, zvi x1, zvi x2] h = zev kX3_puts_2 0 [zvr x0, zvi x1, zvi x2] [] h := zrunM_eq rfl rfl
theorem rX3_puts_2 : (∀ (a : Option Nat) (L st : List ZV) (h : PH), zev kX3_puts_2 0 (zvr a :: L) st h = zev kX3_puts_2 1 (zvr a :: L) (zvr a :: st) h) ∧
  (∀ (q : Nat) (L st : List ZV) (h : PH), zev kX3_puts_2 1 L (zvr (some q) :: st) h = if (ph_K h q).1 % 1000 = 17 then zev kX3_puts_2 4 L (zvr (ph_R h q 3) :: st) h else none) ∧
  (∀ (x0 : ZV) (a : Int) (L st : List ZV) (h : PH), zev kX3_puts_2 4 (x0 :: zvi a :: L) st h = zev kX3_puts_2 5 (x0 :: zvi a :: L) (zvi a :: st) h) ∧
  (∀ (a : Option Nat) (L st : List ZV) (h : PH), zev kX3_puts_2 5 (zvr a :: L) st h = zev kX3_puts_2 6 (zvr a :: L) (zvr a :: st) h) ∧
  (∀ (q : Nat) (L st : List ZV) (h : PH), zev kX3_puts_2 6 L (zvr (some q) :: st) h = if (ph_K h q).1 % 1000 = 17 then zev kX3_puts_2 9 L (zvr (ph_R h q 3) :: st) h else none) ∧
  (∀ (x0 x1 : ZV) (a : Int) (L st : List ZV) (h : PH), zev kX3_puts_2 9 (x0 :: x1 :: zvi a :: L) st h = zev kX3_puts_2 10 (x0 :: x1 :: zvi a :: L) (zvi a :: st) h) ∧
  (∀ (j : Int) (q : Nat) (L st : List ZV) (h : PH), zev kX3_puts_2 10 L (zvi j :: zvr (some q) :: st) h = if (ph_K h q).1 % 1000 = 1 ∧ 0 ≤ j ∧ j < (ph_K h q).2 then zev kX3_puts_2 11 L (zvi (ph_I h q j) :: st) h else none) ∧
  (∀ (a : Option Nat) (L st : List ZV) (h : PH), zev kX3_puts_2 11 (zvr a :: L) st h = zev kX3_puts_2 12 (zvr a :: L) (zvr a :: st) h) ∧
  (∀ (x0 : ZV) (a : Int) (L st : List ZV) (h : PH), zev kX3_puts_2 12 (x0 :: zvi a :: L) st h = zev kX3_puts_2 13 (x0 :: zvi a :: L) (zvi a :: st) h) ∧
  (∀ (x0 x1 : ZV) (a : Int) (L st : List ZV) (h : PH), zev kX3_puts_2 13 (x0 :: x1 :: zvi a :: L) st h = zev kX3_puts_2 14 (x0 :: x1 :: zvi a :: L) (zvi a :: st) h) ∧
  (∀ (v0 v1 : ZV) (q : Nat) (L st : List ZV) (h : PH), zev kX3_puts_2 14 L (v1 :: v0 :: zvr (some q) :: st) h = if (ph_K h q).1 % 1000 = 17 ∧ zcat st ≤ 8 then zk kX3_puts_2 14 17 L st (mX3_changed [zvr (some q), v0, v1] h) else none) ∧
  (∀ (a b : Int) (L st : List ZV) (h : PH), zev kX3_puts_2 17 L (zvi b :: zvi a :: st) h = zev kX3_puts_2 18 L (zvi (w32 (a + b)) :: st) h) ∧
  (∀ (x j : Int) (q : Nat) (L st : List ZV) (h : PH), zev kX3_puts_2 18 L (zvi x :: zvi j :: zvr (some q) :: st) h = if (ph_K h q).1 = 1 ∧ 0 ≤ j ∧ j < (ph_K h q).2 then zev kX3_puts_2 19 L st (st_I h q j x) else none) ∧
  (∀ (a : Option Nat) (L st : List ZV) (h : PH), zev kX3_puts_2 19 (zvr a :: L) st h = zev kX3_puts_2 20 (zvr a :: L) (zvr a :: st) h) ∧
  (∀ (q : Nat) (L st : List ZV) (h : PH), zev kX3_puts_2 20 L (zvr (some q) :: st) h = if (ph_K h q).1 % 1000 = 17 then zev kX3_puts_2 23 L (zvr (ph_R h q 4) :: st) h else none) ∧
  (∀ (x0 : ZV) (a : Int) (L st : List ZV) (h : PH), zev kX3_puts_2 23 (x0 :: zvi a :: L) st h = zev kX3_puts_2 24 (x0 :: zvi a :: L) (zvi a :: st) h) ∧
  (∀ (a : Option Nat) (L st : List ZV) (h : PH), zev kX3_puts_2 24 (zvr a :: L) st h = zev kX3_puts_2 25 (zvr a :: L) (zvr a :: st) h) ∧
  (∀ (q : Nat) (L st : List ZV) (h : PH), zev kX3_puts_2 25 L (zvr (some q) :: st) h = if (ph_K h q).1 % 1000 = 17 then zev kX3_puts_2 28 L (zvr (ph_R h q 4) :: st) h else none) ∧
  (∀ (x0 x1 : ZV) (a : Int) (L st : List ZV) (h : PH), zev kX3_puts_2 28 (x0 :: x1 :: zvi a :: L) st h = zev kX3_puts_2 29 (x0 :: x1 :: zvi a :: L) (zvi a :: st) h) ∧
  (∀ (j : Int) (q : Nat) (L st : List ZV) (h : PH), zev kX3_puts_2 29 L (zvi j :: zvr (some q) :: st) h = if (ph_K h q).1 % 1000 = 1 ∧ 0 ≤ j ∧ j < (ph_K h q).2 then zev kX3_puts_2 30 L (zvi (ph_I h q j) :: st) h else none) ∧
  (∀ (L st : List ZV) (h : PH), zev kX3_puts_2 30 L st h = zev kX3_puts_2 31 L (zvi 1 :: st) h) ∧
  (∀ (a b : Int) (L st : List ZV) (h : PH), zev kX3_puts_2 31 L (zvi b :: zvi a :: st) h = zev kX3_puts_2 32 L (zvi (w32 (a + b)) :: st) h) ∧
  (∀ (x j : Int) (q : Nat) (L st : List ZV) (h : PH), zev kX3_puts_2 32 L (zvi x :: zvi j :: zvr (some q) :: st) h = if (ph_K h q).1 = 1 ∧ 0 ≤ j ∧ j < (ph_K h q).2 then zev kX3_puts_2 33 L st (st_I h q j x) else none) ∧
  (∀ (a : Option Nat) (L st : List ZV) (h : PH), zev kX3_puts_2 33 (zvr a :: L) st h = zev kX3_puts_2 34 (zvr a :: L) (zvr a :: st) h) ∧
  (∀ (q : Nat) (L st : List ZV) (h : PH), zev kX3_puts_2 34 L (zvr (some q) :: st) h = if (ph_K h q).1 % 1000 = 17 then zev kX3_puts_2 37 L (zvr (ph_R h q 5) :: st) h else none) ∧
  (∀ (x0 : ZV) (a : Int) (L st : List ZV) (h : PH), zev kX3_puts_2 37 (x0 :: zvi a :: L) st h = zev kX3_puts_2 38 (x0 :: zvi a :: L) (zvi a :: st) h) ∧
  (∀ (x0 x1 : ZV) (a : Int) (L st : List ZV) (h : PH), zev kX3_puts_2 38 (x0 :: x1 :: zvi a :: L) st h = zev kX3_puts_2 39 (x0 :: x1 :: zvi a :: L) (zvi a :: st) h) ∧
  (∀ (x j : Int) (q : Nat) (L st : List ZV) (h : PH), zev kX3_puts_2 39 L (zvi x :: zvi j :: zvr (some q) :: st) h = if (ph_K h q).1 = 1 ∧ 0 ≤ j ∧ j < (ph_K h q).2 then zev kX3_puts_2 40 L st (st_I h q j x) else none) ∧
  (∀ (L : List ZV) (h : PH), zev kX3_puts_2 40 L [] h = zr0 h) :=
  ⟨fun a L st h => e_ld0R (n := 1) rfl,
  fun q L st h => e_getR (kd := 17) (k := 3) (n := 4) rfl,
  fun x0 a L st h => e_ld1I (n := 5) rfl,
  fun a L st h => e_ld0R (n := 6) rfl,
  fun q L st h => e_getR (kd := 17) (k := 3) (n := 9) rfl,
  fun x0 x1 a L st h => e_ld2I (n := 10) rfl,
  fun j q L st h => e_ald (kd := 1) (n := 11) rfl,
  fun a L st h => e_ld0R (n := 12) rfl,
  fun x0 a L st h => e_ld1I (n := 13) rfl,
  fun x0 x1 a L st h => e_ld2I (n := 14) rfl,
  fun v0 v1 q L st h => e_callV3 (F := mX3_changed) (kd := 17) (n := 17) rfl,
  fun a b L st h => e_bin (f := (fun a b => w32 (a + b))) (n := 18) rfl,
  fun x j q L st h => e_ast (n := 19) rfl,
  fun a L st h => e_ld0R (n := 20) rfl,
  fun q L st h => e_getR (kd := 17) (k := 4) (n := 23) rfl,
  fun x0 a L st h => e_ld1I (n := 24) rfl,
  fun a L st h => e_ld0R (n := 25) rfl,
  fun q L st h => e_getR (kd := 17) (k := 4) (n := 28) rfl,
  fun x0 x1 a L st h => e_ld2I (n := 29) rfl,
  fun j q L st h => e_ald (kd := 1) (n := 30) rfl,
  fun L st h => e_push (v := zvi 1) (n := 31) rfl,
  fun a b L st h => e_bin (f := (fun a b => w32 (a + b))) (n := 32) rfl,
  fun x j q L st h => e_ast (n := 33) rfl,
  fun a L st h => e_ld0R (n := 34) rfl,
  fun q L st h => e_getR (kd := 17) (k := 5) (n := 37) rfl,
  fun x0 a L st h => e_ld1I (n := 38) rfl,
  fun x0 x1 a L st h => e_ld2I (n := 39) rfl,
  fun x j q L st h => e_ast (n := 40) rfl,
  fun L h => e_ret rfl⟩
theorem allX3_puts_2 : zall yX3_puts_2 cX3_puts_2 3 none 2 kX3_puts_2.1 :=
  ⟨k_aload_n dX3_puts_2_0,
  k_getR (C := RX3) (T := TX3) (N := 9) (ci := 1) (k := 3) (ref := "LinkTimes$Search") dX3_puts_2_1 rfl in_X3 (by decide) q271 (Or.inl rfl) (fun _ _ _ => rfl),
  k_iload_n dX3_puts_2_4,
  k_aload_n dX3_puts_2_5,
  k_getR (C := RX3) (T := TX3) (N := 9) (ci := 1) (k := 3) (ref := "LinkTimes$Search") dX3_puts_2_6 rfl in_X3 (by decide) q271 (Or.inl rfl) (fun _ _ _ => rfl),
  k_iload_n dX3_puts_2_9,
  k_iald dX3_puts_2_10,
  k_aload_n dX3_puts_2_11,
  k_iload_n dX3_puts_2_12,
  k_iload_n dX3_puts_2_13,
  k_callV (y2 := yX3_changed) (C := RX3) (T0 := TX3) (ci := 1) dX3_puts_2_14 sndX3_changed rfl q1366 q1368 qs40 q136 q1369 (by decide +kernel) ⟨by decide, by decide⟩ (by decide) (by decide),
  k_iadd dX3_puts_2_17,
  k_iast dX3_puts_2_18,
  k_aload_n dX3_puts_2_19,
  k_getR (C := RX3) (T := TX3) (N := 9) (ci := 1) (k := 4) (ref := "LinkTimes$Search") dX3_puts_2_20 rfl in_X3 (by decide) q273 (Or.inl rfl) (fun _ _ _ => rfl),
  k_iload_n dX3_puts_2_23,
  k_aload_n dX3_puts_2_24,
  k_getR (C := RX3) (T := TX3) (N := 9) (ci := 1) (k := 4) (ref := "LinkTimes$Search") dX3_puts_2_25 rfl in_X3 (by decide) q273 (Or.inl rfl) (fun _ _ _ => rfl),
  k_iload_n dX3_puts_2_28,
  k_iald dX3_puts_2_29,
  k_iconst dX3_puts_2_30,
  k_iadd dX3_puts_2_31,
  k_iast dX3_puts_2_32,
  k_aload_n dX3_puts_2_33,
  k_getR (C := RX3) (T := TX3) (N := 9) (ci := 1) (k := 5) (ref := "LinkTimes$Search") dX3_puts_2_34 rfl in_X3 (by decide) q275 (Or.inl rfl) (fun _ _ _ => rfl),
  k_iload_n dX3_puts_2_37,
  k_iload_n dX3_puts_2_38,
  k_iast dX3_puts_2_39,
  k_ret dX3_puts_2_40, trivial⟩
theorem sndX3_puts_2 : MSound 2 yX3_puts_2 (ws_ yX3_puts_2 cX3_puts_2 3 none) mX3_puts_2 := msound_M (by decide) allX3_puts_2 (fun _ _ => rfl)
/-! LinkTimes$Search.laysBackwards(II)V -/
noncomputable def kX3_laysBackwards : ZM := ([(0, zi_ld 1 0 1), (1, zi_getI 17 6 4), (4, zi_push (zvi 1) 5), (5, zi_bin (fun a b => w32 (a - b)) 6), (6, zi_st 0 3 7), (7, zi_ld 0 3 8), (8, zi_if (fun a => zc_lt a 0) 137 11), (11, zi_ld 1 0 12), (12, zi_getR 17 0 15), (15, zi_ld 0 3 16), (16, zi_aldR 17), (17, zi_getI 22 4 20), (20, zi_ld 0 1 21), (21, zi_cmp zc_ne 38 24), (24, zi_ld 1 0 25), (25, zi_getR 17 2 28), (28, zi_ld 0 3 29), (29, zi_ald 1 30), (30, zi_ld 0 2 31), (31, zi_cmp zc_ne 38 34), (34, zi_push (zvi 1) 35), (35, zi_goto 39), (38, zi_push (zvi 0) 39), (39, zi_st 0 4 41), (41, zi_ld 1 0 42), (42, zi_getR 17 3 45), (45, zi_ld 0 3 46), (46, zi_ld 0 4 48), (48, zi_if (fun a => zc_eq a 0) 55 51), (51, zi_push (zvi 0) 52), (52, zi_goto 57), (55, zi_push (zvi 99999) 57), (57, zi_ast 58), (58, zi_ld 1 0 59), (59, zi_getR 17 4 62), (62, zi_ld 0 3 63), (63, zi_push (zvi 1) 64), (64, zi_ast 65), (65, zi_ld 1 0 66), (66, zi_getR 17 5 69), (69, zi_ld 0 3 70), (70, zi_push (zvi (-1)) 71), (71, zi_ast 72), (72, zi_ld 0 3 73), (73, zi_push (zvi 1) 74), (74, zi_bin (fun a b => w32 (a + b)) 75), (75, zi_st 0 5 77), (77, zi_ld 0 5 79), (79, zi_ld 1 0 80), (80, zi_getI 17 6 83), (83, zi_cmp zc_ge 131 86), (86, zi_ld 1 0 87), (87, zi_getR 17 3 90), (90, zi_ld 0 5 92), (92, zi_ald 1 93), (93, zi_push (zvi 99999) 95), (95, zi_cmp zc_ge 125 98), (98, zi_ld 1 0 99), (99, zi_ld 0 3 100), (100, zi_ld 0 5 102), (102, zi_callV mX3_goesOn 17 3 105), (105, zi_if (fun a => zc_eq a 0) 125 108), (108, zi_ld 1 0 109), (109, zi_ld 0 5 111), (111, zi_ld 0 3 112), (112, zi_callV mX3_isBetter 17 3 115), (115, zi_if (fun a => zc_eq a 0) 125 118), (118, zi_ld 1 0 119), (119, zi_ld 0 3 120), (120, zi_ld 0 5 122), (122, zi_callV mX3_puts_2 17 3 125), (125, zi_iinc 5 1 128), (128, zi_goto 77), (131, zi_iinc 3 (-1) 134), (134, zi_goto 7), (137, zi_ret)], fun _ _ => none)
noncomputable def mX3_laysBackwards : ZF := zrunM kX3_laysBackwards 6
theorem enX3_laysBackwards (x0 : Option Nat) (x1 : Int) (x2 : Int) (h : PH) : mX3_laysBackwards [zvr x0, zvi x1, zvi x2] h = zev kX3_laysBackwards 0 [zvr x0, zvi x1, zvi x2, zvu, zvu, zvu] [] h := zrunM_eq rfl rfl
theorem hdX3_laysBackwards_7 (x0 x1 x2 : ZV) (a : Int) (L st : List ZV) (h : PH) : zev kX3_laysBackwards 7 (x0 :: x1 :: x2 :: zvi a :: L) st h = zev kX3_laysBackwards 8 (x0 :: x1 :: x2 :: zvi a :: L) (zvi a :: st) h := e_ld3I (n := 8) rfl
theorem hdX3_laysBackwards_77 (x0 x1 x2 x3 x4 : ZV) (a : Int) (L st : List ZV) (h : PH) : zev kX3_laysBackwards 77 (x0 :: x1 :: x2 :: x3 :: x4 :: zvi a :: L) st h = zev kX3_laysBackwards 79 (x0 :: x1 :: x2 :: x3 :: x4 :: zvi a :: L) (zvi a :: st) h := e_ld5I (n := 79) rfl
theorem rX3_laysBackwards : (∀ (a : Option Nat) (L st : List ZV) (h : PH), zev kX3_laysBackwards 0 (zvr a :: L) st h = zev kX3_laysBackwards 1 (zvr a :: L) (zvr a :: st) h) ∧
  (∀ (q : Nat) (L st : List ZV) (h : PH), zev kX3_laysBackwards 1 L (zvr (some q) :: st) h = if (ph_K h q).1 % 1000 = 17 then zev kX3_laysBackwards 4 L (zvi (ph_I h q 6) :: st) h else none) ∧
  (∀ (L st : List ZV) (h : PH), zev kX3_laysBackwards 4 L st h = zev kX3_laysBackwards 5 L (zvi 1 :: st) h) ∧
  (∀ (a b : Int) (L st : List ZV) (h : PH), zev kX3_laysBackwards 5 L (zvi b :: zvi a :: st) h = zev kX3_laysBackwards 6 L (zvi (w32 (a - b)) :: st) h) ∧
  (∀ (x0 x1 x2 x3 : ZV) (a : Int) (L st : List ZV) (h : PH) (hx : zisL x2 = false) , zev kX3_laysBackwards 6 (x0 :: x1 :: x2 :: x3 :: L) (zvi a :: st) h = zev kX3_laysBackwards 7 (x0 :: x1 :: x2 :: zvi a :: L) st h) ∧
  (∀ (a : Int) (L st : List ZV) (h : PH), zev kX3_laysBackwards 8 L (zvi a :: st) h = if a < 0 then zev kX3_laysBackwards 137 L st h else zev kX3_laysBackwards 11 L st h) ∧
  (∀ (a : Option Nat) (L st : List ZV) (h : PH), zev kX3_laysBackwards 11 (zvr a :: L) st h = zev kX3_laysBackwards 12 (zvr a :: L) (zvr a :: st) h) ∧
  (∀ (q : Nat) (L st : List ZV) (h : PH), zev kX3_laysBackwards 12 L (zvr (some q) :: st) h = if (ph_K h q).1 % 1000 = 17 then zev kX3_laysBackwards 15 L (zvr (ph_R h q 0) :: st) h else none) ∧
  (∀ (x0 x1 x2 : ZV) (a : Int) (L st : List ZV) (h : PH), zev kX3_laysBackwards 15 (x0 :: x1 :: x2 :: zvi a :: L) st h = zev kX3_laysBackwards 16 (x0 :: x1 :: x2 :: zvi a :: L) (zvi a :: st) h) ∧
  (∀ (j : Int) (q : Nat) (L st : List ZV) (h : PH), zev kX3_laysBackwards 16 L (zvi j :: zvr (some q) :: st) h = if 5 ≤ (ph_K h q).1 % 1000 ∧ (ph_K h q).1 % 1000 ≤ 7 ∧ 0 ≤ j ∧ j < (ph_K h q).2 then zev kX3_laysBackwards 17 L (zvr (ph_R h q j) :: st) h else none) ∧
  (∀ (q : Nat) (L st : List ZV) (h : PH), zev kX3_laysBackwards 17 L (zvr (some q) :: st) h = if (ph_K h q).1 % 1000 = 22 then zev kX3_laysBackwards 20 L (zvi (ph_I h q 4) :: st) h else none) ∧
  (∀ (x0 : ZV) (a : Int) (L st : List ZV) (h : PH), zev kX3_laysBackwards 20 (x0 :: zvi a :: L) st h = zev kX3_laysBackwards 21 (x0 :: zvi a :: L) (zvi a :: st) h) ∧
  (∀ (a b : Int) (L st : List ZV) (h : PH), zev kX3_laysBackwards 21 L (zvi b :: zvi a :: st) h = if a ≠ b then zev kX3_laysBackwards 38 L st h else zev kX3_laysBackwards 24 L st h) ∧
  (∀ (a : Option Nat) (L st : List ZV) (h : PH), zev kX3_laysBackwards 24 (zvr a :: L) st h = zev kX3_laysBackwards 25 (zvr a :: L) (zvr a :: st) h) ∧
  (∀ (q : Nat) (L st : List ZV) (h : PH), zev kX3_laysBackwards 25 L (zvr (some q) :: st) h = if (ph_K h q).1 % 1000 = 17 then zev kX3_laysBackwards 28 L (zvr (ph_R h q 2) :: st) h else none) ∧
  (∀ (x0 x1 x2 : ZV) (a : Int) (L st : List ZV) (h : PH), zev kX3_laysBackwards 28 (x0 :: x1 :: x2 :: zvi a :: L) st h = zev kX3_laysBackwards 29 (x0 :: x1 :: x2 :: zvi a :: L) (zvi a :: st) h) ∧
  (∀ (j : Int) (q : Nat) (L st : List ZV) (h : PH), zev kX3_laysBackwards 29 L (zvi j :: zvr (some q) :: st) h = if (ph_K h q).1 % 1000 = 1 ∧ 0 ≤ j ∧ j < (ph_K h q).2 then zev kX3_laysBackwards 30 L (zvi (ph_I h q j) :: st) h else none) ∧
  (∀ (x0 x1 : ZV) (a : Int) (L st : List ZV) (h : PH), zev kX3_laysBackwards 30 (x0 :: x1 :: zvi a :: L) st h = zev kX3_laysBackwards 31 (x0 :: x1 :: zvi a :: L) (zvi a :: st) h) ∧
  (∀ (a b : Int) (L st : List ZV) (h : PH), zev kX3_laysBackwards 31 L (zvi b :: zvi a :: st) h = if a ≠ b then zev kX3_laysBackwards 38 L st h else zev kX3_laysBackwards 34 L st h) ∧
  (∀ (L st : List ZV) (h : PH), zev kX3_laysBackwards 34 L st h = zev kX3_laysBackwards 35 L (zvi 1 :: st) h) ∧
  (∀ (L st : List ZV) (h : PH), zev kX3_laysBackwards 35 L st h = zev kX3_laysBackwards 39 L st h) ∧
  (∀ (L st : List ZV) (h : PH), zev kX3_laysBackwards 38 L st h = zev kX3_laysBackwards 39 L (zvi 0 :: st) h) ∧
  (∀ (x0 x1 x2 x3 x4 : ZV) (a : Int) (L st : List ZV) (h : PH) (hx : zisL x3 = false) , zev kX3_laysBackwards 39 (x0 :: x1 :: x2 :: x3 :: x4 :: L) (zvi a :: st) h = zev kX3_laysBackwards 41 (x0 :: x1 :: x2 :: x3 :: zvi a :: L) st h) ∧
  (∀ (a : Option Nat) (L st : List ZV) (h : PH), zev kX3_laysBackwards 41 (zvr a :: L) st h = zev kX3_laysBackwards 42 (zvr a :: L) (zvr a :: st) h) ∧
  (∀ (q : Nat) (L st : List ZV) (h : PH), zev kX3_laysBackwards 42 L (zvr (some q) :: st) h = if (ph_K h q).1 % 1000 = 17 then zev kX3_laysBackwards 45 L (zvr (ph_R h q 3) :: st) h else none) ∧
  (∀ (x0 x1 x2 : ZV) (a : Int) (L st : List ZV) (h : PH), zev kX3_laysBackwards 45 (x0 :: x1 :: x2 :: zvi a :: L) st h = zev kX3_laysBackwards 46 (x0 :: x1 :: x2 :: zvi a :: L) (zvi a :: st) h) ∧
  (∀ (x0 x1 x2 x3 : ZV) (a : Int) (L st : List ZV) (h : PH), zev kX3_laysBackwards 46 (x0 :: x1 :: x2 :: x3 :: zvi a :: L) st h = zev kX3_laysBackwards 48 (x0 :: x1 :: x2 :: x3 :: zvi a :: L) (zvi a :: st) h) ∧
  (∀ (a : Int) (L st : List ZV) (h : PH), zev kX3_laysBackwards 48 L (zvi a :: st) h = if a = 0 then zev kX3_laysBackwards 55 L st h else zev kX3_laysBackwards 51 L st h) ∧
  (∀ (L st : List ZV) (h : PH), zev kX3_laysBackwards 51 L st h = zev kX3_laysBackwards 52 L (zvi 0 :: st) h) ∧
  (∀ (L st : List ZV) (h : PH), zev kX3_laysBackwards 52 L st h = zev kX3_laysBackwards 57 L st h) ∧
  (∀ (L st : List ZV) (h : PH), zev kX3_laysBackwards 55 L st h = zev kX3_laysBackwards 57 L (zvi 99999 :: st) h) ∧
  (∀ (x j : Int) (q : Nat) (L st : List ZV) (h : PH), zev kX3_laysBackwards 57 L (zvi x :: zvi j :: zvr (some q) :: st) h = if (ph_K h q).1 = 1 ∧ 0 ≤ j ∧ j < (ph_K h q).2 then zev kX3_laysBackwards 58 L st (st_I h q j x) else none) ∧
  (∀ (a : Option Nat) (L st : List ZV) (h : PH), zev kX3_laysBackwards 58 (zvr a :: L) st h = zev kX3_laysBackwards 59 (zvr a :: L) (zvr a :: st) h) ∧
  (∀ (q : Nat) (L st : List ZV) (h : PH), zev kX3_laysBackwards 59 L (zvr (some q) :: st) h = if (ph_K h q).1 % 1000 = 17 then zev kX3_laysBackwards 62 L (zvr (ph_R h q 4) :: st) h else none) ∧
  (∀ (x0 x1 x2 : ZV) (a : Int) (L st : List ZV) (h : PH), zev kX3_laysBackwards 62 (x0 :: x1 :: x2 :: zvi a :: L) st h = zev kX3_laysBackwards 63 (x0 :: x1 :: x2 :: zvi a :: L) (zvi a :: st) h) ∧
  (∀ (L st : List ZV) (h : PH), zev kX3_laysBackwards 63 L st h = zev kX3_laysBackwards 64 L (zvi 1 :: st) h) ∧
  (∀ (x j : Int) (q : Nat) (L st : List ZV) (h : PH), zev kX3_laysBackwards 64 L (zvi x :: zvi j :: zvr (some q) :: st) h = if (ph_K h q).1 = 1 ∧ 0 ≤ j ∧ j < (ph_K h q).2 then zev kX3_laysBackwards 65 L st (st_I h q j x) else none) ∧
  (∀ (a : Option Nat) (L st : List ZV) (h : PH), zev kX3_laysBackwards 65 (zvr a :: L) st h = zev kX3_laysBackwards 66 (zvr a :: L) (zvr a :: st) h) ∧
  (∀ (q : Nat) (L st : List ZV) (h : PH), zev kX3_laysBackwards 66 L (zvr (some q) :: st) h = if (ph_K h q).1 % 1000 = 17 then zev kX3_laysBackwards 69 L (zvr (ph_R h q 5) :: st) h else none) ∧
  (∀ (x0 x1 x2 : ZV) (a : Int) (L st : List ZV) (h : PH), zev kX3_laysBackwards 69 (x0 :: x1 :: x2 :: zvi a :: L) st h = zev kX3_laysBackwards 70 (x0 :: x1 :: x2 :: zvi a :: L) (zvi a :: st) h) ∧
  (∀ (L st : List ZV) (h : PH), zev kX3_laysBackwards 70 L st h = zev kX3_laysBackwards 71 L (zvi (-1) :: st) h) ∧
  (∀ (x j : Int) (q : Nat) (L st : List ZV) (h : PH), zev kX3_laysBackwards 71 L (zvi x :: zvi j :: zvr (some q) :: st) h = if (ph_K h q).1 = 1 ∧ 0 ≤ j ∧ j < (ph_K h q).2 then zev kX3_laysBackwards 72 L st (st_I h q j x) else none) ∧
  (∀ (x0 x1 x2 : ZV) (a : Int) (L st : List ZV) (h : PH), zev kX3_laysBackwards 72 (x0 :: x1 :: x2 :: zvi a :: L) st h = zev kX3_laysBackwards 73 (x0 :: x1 :: x2 :: zvi a :: L) (zvi a :: st) h) ∧
  (∀ (L st : List ZV) (h : PH), zev kX3_laysBackwards 73 L st h = zev kX3_laysBackwards 74 L (zvi 1 :: st) h) ∧
  (∀ (a b : Int) (L st : List ZV) (h : PH), zev kX3_laysBackwards 74 L (zvi b :: zvi a :: st) h = zev kX3_laysBackwards 75 L (zvi (w32 (a + b)) :: st) h) ∧
  (∀ (x0 x1 x2 x3 x4 x5 : ZV) (a : Int) (L st : List ZV) (h : PH) (hx : zisL x4 = false) , zev kX3_laysBackwards 75 (x0 :: x1 :: x2 :: x3 :: x4 :: x5 :: L) (zvi a :: st) h = zev kX3_laysBackwards 77 (x0 :: x1 :: x2 :: x3 :: x4 :: zvi a :: L) st h) ∧
  (∀ (a : Option Nat) (L st : List ZV) (h : PH), zev kX3_laysBackwards 79 (zvr a :: L) st h = zev kX3_laysBackwards 80 (zvr a :: L) (zvr a :: st) h) ∧
  (∀ (q : Nat) (L st : List ZV) (h : PH), zev kX3_laysBackwards 80 L (zvr (some q) :: st) h = if (ph_K h q).1 % 1000 = 17 then zev kX3_laysBackwards 83 L (zvi (ph_I h q 6) :: st) h else none) ∧
  (∀ (a b : Int) (L st : List ZV) (h : PH), zev kX3_laysBackwards 83 L (zvi b :: zvi a :: st) h = if a ≥ b then zev kX3_laysBackwards 131 L st h else zev kX3_laysBackwards 86 L st h) ∧
  (∀ (a : Option Nat) (L st : List ZV) (h : PH), zev kX3_laysBackwards 86 (zvr a :: L) st h = zev kX3_laysBackwards 87 (zvr a :: L) (zvr a :: st) h) ∧
  (∀ (q : Nat) (L st : List ZV) (h : PH), zev kX3_laysBackwards 87 L (zvr (some q) :: st) h = if (ph_K h q).1 % 1000 = 17 then zev kX3_laysBackwards 90 L (zvr (ph_R h q 3) :: st) h else none) ∧
  (∀ (x0 x1 x2 x3 x4 : ZV) (a : Int) (L st : List ZV) (h : PH), zev kX3_laysBackwards 90 (x0 :: x1 :: x2 :: x3 :: x4 :: zvi a :: L) st h = zev kX3_laysBackwards 92 (x0 :: x1 :: x2 :: x3 :: x4 :: zvi a :: L) (zvi a :: st) h) ∧
  (∀ (j : Int) (q : Nat) (L st : List ZV) (h : PH), zev kX3_laysBackwards 92 L (zvi j :: zvr (some q) :: st) h = if (ph_K h q).1 % 1000 = 1 ∧ 0 ≤ j ∧ j < (ph_K h q).2 then zev kX3_laysBackwards 93 L (zvi (ph_I h q j) :: st) h else none) ∧
  (∀ (L st : List ZV) (h : PH), zev kX3_laysBackwards 93 L st h = zev kX3_laysBackwards 95 L (zvi 99999 :: st) h) ∧
  (∀ (a b : Int) (L st : List ZV) (h : PH), zev kX3_laysBackwards 95 L (zvi b :: zvi a :: st) h = if a ≥ b then zev kX3_laysBackwards 125 L st h else zev kX3_laysBackwards 98 L st h) ∧
  (∀ (a : Option Nat) (L st : List ZV) (h : PH), zev kX3_laysBackwards 98 (zvr a :: L) st h = zev kX3_laysBackwards 99 (zvr a :: L) (zvr a :: st) h) ∧
  (∀ (x0 x1 x2 : ZV) (a : Int) (L st : List ZV) (h : PH), zev kX3_laysBackwards 99 (x0 :: x1 :: x2 :: zvi a :: L) st h = zev kX3_laysBackwards 100 (x0 :: x1 :: x2 :: zvi a :: L) (zvi a :: st) h) ∧
  (∀ (x0 x1 x2 x3 x4 : ZV) (a : Int) (L st : List ZV) (h : PH), zev kX3_laysBackwards 100 (x0 :: x1 :: x2 :: x3 :: x4 :: zvi a :: L) st h = zev kX3_laysBackwards 102 (x0 :: x1 :: x2 :: x3 :: x4 :: zvi a :: L) (zvi a :: st) h) ∧
  (∀ (v0 v1 : ZV) (q : Nat) (L st : List ZV) (h : PH), zev kX3_laysBackwards 102 L (v1 :: v0 :: zvr (some q) :: st) h = if (ph_K h q).1 % 1000 = 17 ∧ zcat st ≤ 8 then zk kX3_laysBackwards 102 105 L st (mX3_goesOn [zvr (some q), v0, v1] h) else none) ∧
  (∀ (a : Int) (L st : List ZV) (h : PH), zev kX3_laysBackwards 105 L (zvi a :: st) h = if a = 0 then zev kX3_laysBackwards 125 L st h else zev kX3_laysBackwards 108 L st h) ∧
  (∀ (a : Option Nat) (L st : List ZV) (h : PH), zev kX3_laysBackwards 108 (zvr a :: L) st h = zev kX3_laysBackwards 109 (zvr a :: L) (zvr a :: st) h) ∧
  (∀ (x0 x1 x2 x3 x4 : ZV) (a : Int) (L st : List ZV) (h : PH), zev kX3_laysBackwards 109 (x0 :: x1 :: x2 :: x3 :: x4 :: zvi a :: L) st h = zev kX3_laysBackwards 111 (x0 :: x1 :: x2 :: x3 :: x4 :: zvi a :: L) (zvi a :: st) h) ∧
  (∀ (x0 x1 x2 : ZV) (a : Int) (L st : List ZV) (h : PH), zev kX3_laysBackwards 111 (x0 :: x1 :: x2 :: zvi a :: L) st h = zev kX3_laysBackwards 112 (x0 :: x1 :: x2 :: zvi a :: L) (zvi a :: st) h) ∧
  (∀ (v0 v1 : ZV) (q : Nat) (L st : List ZV) (h : PH), zev kX3_laysBackwards 112 L (v1 :: v0 :: zvr (some q) :: st) h = if (ph_K h q).1 % 1000 = 17 ∧ zcat st ≤ 8 then zk kX3_laysBackwards 112 115 L st (mX3_isBetter [zvr (some q), v0, v1] h) else none) ∧
  (∀ (a : Int) (L st : List ZV) (h : PH), zev kX3_laysBackwards 115 L (zvi a :: st) h = if a = 0 then zev kX3_laysBackwards 125 L st h else zev kX3_laysBackwards 118 L st h) ∧
  (∀ (a : Option Nat) (L st : List ZV) (h : PH), zev kX3_laysBackwards 118 (zvr a :: L) st h = zev kX3_laysBackwards 119 (zvr a :: L) (zvr a :: st) h) ∧
  (∀ (x0 x1 x2 : ZV) (a : Int) (L st : List ZV) (h : PH), zev kX3_laysBackwards 119 (x0 :: x1 :: x2 :: zvi a :: L) st h = zev kX3_laysBackwards 120 (x0 :: x1 :: x2 :: zvi a :: L) (zvi a :: st) h) ∧
  (∀ (x0 x1 x2 x3 x4 : ZV) (a : Int) (L st : List ZV) (h : PH), zev kX3_laysBackwards 120 (x0 :: x1 :: x2 :: x3 :: x4 :: zvi a :: L) st h = zev kX3_laysBackwards 122 (x0 :: x1 :: x2 :: x3 :: x4 :: zvi a :: L) (zvi a :: st) h) ∧
  (∀ (v0 v1 : ZV) (q : Nat) (L st : List ZV) (h : PH), zev kX3_laysBackwards 122 L (v1 :: v0 :: zvr (some q) :: st) h = if (ph_K h q).1 % 1000 = 17 ∧ zcat st ≤ 8 then zk kX3_laysBackwards 122 125 L st (mX3_puts_2 [zvr (some q), v0, v1] h) else none) ∧
  (∀ (x0 x1 x2 x3 x4 : ZV) (a : Int) (L st : List ZV) (h : PH) (hx : zisL x4 = false) , zev kX3_laysBackwards 125 (x0 :: x1 :: x2 :: x3 :: x4 :: zvi a :: L) st h = zev kX3_laysBackwards 128 (x0 :: x1 :: x2 :: x3 :: x4 :: zvi (w32 (a + 1)) :: L) st h) ∧
  (∀ (L st : List ZV) (h : PH), zev kX3_laysBackwards 128 L st h = zev kX3_laysBackwards 77 L st h) ∧
  (∀ (x0 x1 x2 : ZV) (a : Int) (L st : List ZV) (h : PH) (hx : zisL x2 = false) , zev kX3_laysBackwards 131 (x0 :: x1 :: x2 :: zvi a :: L) st h = zev kX3_laysBackwards 134 (x0 :: x1 :: x2 :: zvi (w32 (a + (-1))) :: L) st h) ∧
  (∀ (L st : List ZV) (h : PH), zev kX3_laysBackwards 134 L st h = zev kX3_laysBackwards 7 L st h) ∧
  (∀ (L : List ZV) (h : PH), zev kX3_laysBackwards 137 L [] h = zr0 h) :=
  ⟨fun a L st h => e_ld0R (n := 1) rfl,
  fun q L st h => e_getI (kd := 17) (k := 6) (n := 4) rfl,
  fun L st h => e_push (v := zvi 1) (n := 5) rfl,
  fun a b L st h => e_bin (f := (fun a b => w32 (a - b))) (n := 6) rfl,
  fun x0 x1 x2 x3 a L st h hx => e_st3I (n := 7) rfl hx,
  fun a L st h => e_iflt (t := 137) (n := 11) rfl,
  fun a L st h => e_ld0R (n := 12) rfl,
  fun q L st h => e_getR (kd := 17) (k := 0) (n := 15) rfl,
  fun x0 x1 x2 a L st h => e_ld3I (n := 16) rfl,
  fun j q L st h => e_aldR (n := 17) rfl,
  fun q L st h => e_getI (kd := 22) (k := 4) (n := 20) rfl,
  fun x0 a L st h => e_ld1I (n := 21) rfl,
  fun a b L st h => e_cmpne (t := 38) (n := 24) rfl,
  fun a L st h => e_ld0R (n := 25) rfl,
  fun q L st h => e_getR (kd := 17) (k := 2) (n := 28) rfl,
  fun x0 x1 x2 a L st h => e_ld3I (n := 29) rfl,
  fun j q L st h => e_ald (kd := 1) (n := 30) rfl,
  fun x0 x1 a L st h => e_ld2I (n := 31) rfl,
  fun a b L st h => e_cmpne (t := 38) (n := 34) rfl,
  fun L st h => e_push (v := zvi 1) (n := 35) rfl,
  fun L st h => e_goto (t := 39) rfl,
  fun L st h => e_push (v := zvi 0) (n := 39) rfl,
  fun x0 x1 x2 x3 x4 a L st h hx => e_st4I (n := 41) rfl hx,
  fun a L st h => e_ld0R (n := 42) rfl,
  fun q L st h => e_getR (kd := 17) (k := 3) (n := 45) rfl,
  fun x0 x1 x2 a L st h => e_ld3I (n := 46) rfl,
  fun x0 x1 x2 x3 a L st h => e_ld4I (n := 48) rfl,
  fun a L st h => e_ifeq (t := 55) (n := 51) rfl,
  fun L st h => e_push (v := zvi 0) (n := 52) rfl,
  fun L st h => e_goto (t := 57) rfl,
  fun L st h => e_push (v := zvi 99999) (n := 57) rfl,
  fun x j q L st h => e_ast (n := 58) rfl,
  fun a L st h => e_ld0R (n := 59) rfl,
  fun q L st h => e_getR (kd := 17) (k := 4) (n := 62) rfl,
  fun x0 x1 x2 a L st h => e_ld3I (n := 63) rfl,
  fun L st h => e_push (v := zvi 1) (n := 64) rfl,
  fun x j q L st h => e_ast (n := 65) rfl,
  fun a L st h => e_ld0R (n := 66) rfl,
  fun q L st h => e_getR (kd := 17) (k := 5) (n := 69) rfl,
  fun x0 x1 x2 a L st h => e_ld3I (n := 70) rfl,
  fun L st h => e_push (v := zvi (-1)) (n := 71) rfl,
  fun x j q L st h => e_ast (n := 72) rfl,
  fun x0 x1 x2 a L st h => e_ld3I (n := 73) rfl,
  fun L st h => e_push (v := zvi 1) (n := 74) rfl,
  fun a b L st h => e_bin (f := (fun a b => w32 (a + b))) (n := 75) rfl,
  fun x0 x1 x2 x3 x4 x5 a L st h hx => e_st5I (n := 77) rfl hx,
  fun a L st h => e_ld0R (n := 80) rfl,
  fun q L st h => e_getI (kd := 17) (k := 6) (n := 83) rfl,
  fun a b L st h => e_cmpge (t := 131) (n := 86) rfl,
  fun a L st h => e_ld0R (n := 87) rfl,
  fun q L st h => e_getR (kd := 17) (k := 3) (n := 90) rfl,
  fun x0 x1 x2 x3 x4 a L st h => e_ld5I (n := 92) rfl,
  fun j q L st h => e_ald (kd := 1) (n := 93) rfl,
  fun L st h => e_push (v := zvi 99999) (n := 95) rfl,
  fun a b L st h => e_cmpge (t := 125) (n := 98) rfl,
  fun a L st h => e_ld0R (n := 99) rfl,
  fun x0 x1 x2 a L st h => e_ld3I (n := 100) rfl,
  fun x0 x1 x2 x3 x4 a L st h => e_ld5I (n := 102) rfl,
  fun v0 v1 q L st h => e_callV3 (F := mX3_goesOn) (kd := 17) (n := 105) rfl,
  fun a L st h => e_ifeq (t := 125) (n := 108) rfl,
  fun a L st h => e_ld0R (n := 109) rfl,
  fun x0 x1 x2 x3 x4 a L st h => e_ld5I (n := 111) rfl,
  fun x0 x1 x2 a L st h => e_ld3I (n := 112) rfl,
  fun v0 v1 q L st h => e_callV3 (F := mX3_isBetter) (kd := 17) (n := 115) rfl,
  fun a L st h => e_ifeq (t := 125) (n := 118) rfl,
  fun a L st h => e_ld0R (n := 119) rfl,
  fun x0 x1 x2 a L st h => e_ld3I (n := 120) rfl,
  fun x0 x1 x2 x3 x4 a L st h => e_ld5I (n := 122) rfl,
  fun v0 v1 q L st h => e_callV3 (F := mX3_puts_2) (kd := 17) (n := 125) rfl,
  fun x0 x1 x2 x3 x4 a L st h hx => e_iinc5 (d := 1) (n := 128) rfl hx,
  fun L st h => e_goto (t := 77) rfl,
  fun x0 x1 x2 a L st h hx => e_iinc3 (d := (-1)) (n := 134) rfl hx,
  fun L st h => e_goto (t := 7) rfl,
  fun L h => e_ret rfl⟩
theorem allX3_laysBackwards : zall yX3_laysBackwards cX3_laysBackwards 6 none 5 kX3_laysBackwards.1 :=
  ⟨k_aload_n dX3_laysBackwards_0,
  k_getI (C := RX3) (T := TX3) (N := 9) (ci := 1) (k := 6) (ref := "LinkTimes$Search") dX3_laysBackwards_1 rfl in_X3 (by decide) q277 (Or.inl rfl) (fun _ _ _ => rfl),
  k_iconst dX3_laysBackwards_4,
  k_isub dX3_laysBackwards_5,
  k_istore_n dX3_laysBackwards_6,
  k_iload_n dX3_laysBackwards_7,
  k_iflt (t := 137) dX3_laysBackwards_8 (by decide),
  k_aload_n dX3_laysBackwards_11,
  k_getR (C := RX3) (T := TX3) (N := 9) (ci := 1) (k := 0) (ref := "LinkTimes$Search") dX3_laysBackwards_12 rfl in_X3 (by decide) q265 (Or.inl rfl) (fun _ _ _ => rfl),
  k_iload_n dX3_laysBackwards_15,
  k_aald dX3_laysBackwards_16,
  k_getIN (C := RX11) (T := TX11) (N := 9) (ci := 6) (k := 4) (ref := "LinkTimes$Departure") dX3_laysBackwards_17 rfl in_X11 (by decide) q861 (Or.inl rfl) (fun _ _ _ => rfl),
  k_iload_n dX3_laysBackwards_20,
  k_cmpne (t := 38) dX3_laysBackwards_21 (by decide),
  k_aload_n dX3_laysBackwards_24,
  k_getR (C := RX3) (T := TX3) (N := 9) (ci := 1) (k := 2) (ref := "LinkTimes$Search") dX3_laysBackwards_25 rfl in_X3 (by decide) q269 (Or.inl rfl) (fun _ _ _ => rfl),
  k_iload_n dX3_laysBackwards_28,
  k_iald dX3_laysBackwards_29,
  k_iload_n dX3_laysBackwards_30,
  k_cmpne (t := 38) dX3_laysBackwards_31 (by decide),
  k_iconst dX3_laysBackwards_34,
  k_goto (t := 39) dX3_laysBackwards_35 (by decide),
  k_iconst dX3_laysBackwards_38,
  k_istore dX3_laysBackwards_39,
  k_aload_n dX3_laysBackwards_41,
  k_getR (C := RX3) (T := TX3) (N := 9) (ci := 1) (k := 3) (ref := "LinkTimes$Search") dX3_laysBackwards_42 rfl in_X3 (by decide) q271 (Or.inl rfl) (fun _ _ _ => rfl),
  k_iload_n dX3_laysBackwards_45,
  k_iload dX3_laysBackwards_46,
  k_ifeq (t := 55) dX3_laysBackwards_48 (by decide),
  k_iconst dX3_laysBackwards_51,
  k_goto (t := 57) dX3_laysBackwards_52 (by decide),
  k_ldc dX3_laysBackwards_55 q1365,
  k_iast dX3_laysBackwards_57,
  k_aload_n dX3_laysBackwards_58,
  k_getR (C := RX3) (T := TX3) (N := 9) (ci := 1) (k := 4) (ref := "LinkTimes$Search") dX3_laysBackwards_59 rfl in_X3 (by decide) q273 (Or.inl rfl) (fun _ _ _ => rfl),
  k_iload_n dX3_laysBackwards_62,
  k_iconst dX3_laysBackwards_63,
  k_iast dX3_laysBackwards_64,
  k_aload_n dX3_laysBackwards_65,
  k_getR (C := RX3) (T := TX3) (N := 9) (ci := 1) (k := 5) (ref := "LinkTimes$Search") dX3_laysBackwards_66 rfl in_X3 (by decide) q275 (Or.inl rfl) (fun _ _ _ => rfl),
  k_iload_n dX3_laysBackwards_69,
  k_iconst dX3_laysBackwards_70,
  k_iast dX3_laysBackwards_71,
  k_iload_n dX3_laysBackwards_72,
  k_iconst dX3_laysBackwards_73,
  k_iadd dX3_laysBackwards_74,
  k_istore dX3_laysBackwards_75,
  k_iload dX3_laysBackwards_77,
  k_aload_n dX3_laysBackwards_79,
  k_getI (C := RX3) (T := TX3) (N := 9) (ci := 1) (k := 6) (ref := "LinkTimes$Search") dX3_laysBackwards_80 rfl in_X3 (by decide) q277 (Or.inl rfl) (fun _ _ _ => rfl),
  k_cmpge (t := 131) dX3_laysBackwards_83 (by decide),
  k_aload_n dX3_laysBackwards_86,
  k_getR (C := RX3) (T := TX3) (N := 9) (ci := 1) (k := 3) (ref := "LinkTimes$Search") dX3_laysBackwards_87 rfl in_X3 (by decide) q271 (Or.inl rfl) (fun _ _ _ => rfl),
  k_iload dX3_laysBackwards_90,
  k_iald dX3_laysBackwards_92,
  k_ldc dX3_laysBackwards_93 q1365,
  k_cmpge (t := 125) dX3_laysBackwards_95 (by decide),
  k_aload_n dX3_laysBackwards_98,
  k_iload_n dX3_laysBackwards_99,
  k_iload dX3_laysBackwards_100,
  k_callV (y2 := yX3_goesOn) (C := RX3) (T0 := TX3) (ci := 1) dX3_laysBackwards_102 sndX3_goesOn rfl q1370 q1372 qs41 q136 q1373 (by decide +kernel) ⟨by decide, by decide⟩ (by decide) (by decide),
  k_ifeq (t := 125) dX3_laysBackwards_105 (by decide),
  k_aload_n dX3_laysBackwards_108,
  k_iload dX3_laysBackwards_109,
  k_iload_n dX3_laysBackwards_111,
  k_callV (y2 := yX3_isBetter) (C := RX3) (T0 := TX3) (ci := 1) dX3_laysBackwards_112 sndX3_isBetter rfl q1393 q1395 qs43 q136 q1396 (by decide +kernel) ⟨by decide, by decide⟩ (by decide) (by decide),
  k_ifeq (t := 125) dX3_laysBackwards_115 (by decide),
  k_aload_n dX3_laysBackwards_118,
  k_iload_n dX3_laysBackwards_119,
  k_iload dX3_laysBackwards_120,
  k_callV (y2 := yX3_puts_2) (C := RX3) (T0 := TX3) (ci := 1) dX3_laysBackwards_122 sndX3_puts_2 rfl q1397 q1399 qs44 q136 q1400 (by decide +kernel) ⟨by decide, by decide⟩ (by decide) (by decide),
  k_iinc dX3_laysBackwards_125,
  k_goto (t := 77) dX3_laysBackwards_128 (by decide),
  k_iinc dX3_laysBackwards_131,
  k_goto (t := 7) dX3_laysBackwards_134 (by decide),
  k_ret dX3_laysBackwards_137, trivial⟩
theorem sndX3_laysBackwards : MSound 5 yX3_laysBackwards (ws_ yX3_laysBackwards cX3_laysBackwards 6 none) mX3_laysBackwards := msound_M (by decide) allX3_laysBackwards (fun _ _ => rfl)
/-! LinkTimes$Search.isAhead(II)Z -/
noncomputable def kX3_isAhead : ZM := ([(0, zi_ld 1 0 1), (1, zi_getR 17 3 4), (4, zi_ld 0 1 5), (5, zi_ald 1 6), (6, zi_ld 1 0 7), (7, zi_getR 17 3 10), (10, zi_ld 0 2 11), (11, zi_ald 1 12), (12, zi_cmp zc_eq 36 15), (15, zi_ld 1 0 16), (16, zi_getR 17 3 19), (19, zi_ld 0 1 20), (20, zi_ald 1 21), (21, zi_ld 1 0 22), (22, zi_getR 17 3 25), (25, zi_ld 0 2 26), (26, zi_ald 1 27), (27, zi_cmp zc_ge 34 30), (30, zi_push (zvi 1) 31), (31, zi_goto 35), (34, zi_push (zvi 0) 35), (35, zi_retz), (36, zi_ld 1 0 37), (37, zi_getR 17 1 40), (40, zi_ld 0 1 41), (41, zi_ald 1 42), (42, zi_ld 1 0 43), (43, zi_getR 17 1 46), (46, zi_ld 0 2 47), (47, zi_ald 1 48), (48, zi_cmp zc_eq 72 51), (51, zi_ld 1 0 52), (52, zi_getR 17 1 55), (55, zi_ld 0 1 56), (56, zi_ald 1 57), (57, zi_ld 1 0 58), (58, zi_getR 17 1 61), (61, zi_ld 0 2 62), (62, zi_ald 1 63), (63, zi_cmp zc_le 70 66), (66, zi_push (zvi 1) 67), (67, zi_goto 71), (70, zi_push (zvi 0) 71), (71, zi_retz), (72, zi_ld 1 0 73), (73, zi_getR 17 4 76), (76, zi_ld 0 1 77), (77, zi_ald 1 78), (78, zi_ld 1 0 79), (79, zi_getR 17 4 82), (82, zi_ld 0 2 83), (83, zi_ald 1 84), (84, zi_cmp zc_eq 110 87), (87, zi_ld 1 0 88), (88, zi_getR 17 4 91), (91, zi_ld 0 1 92), (92, zi_ald 1 93), (93, zi_ld 1 0 94), (94, zi_getR 17 4 97), (97, zi_ld 0 2 98), (98, zi_ald 1 99), (99, zi_cmp zc_ge 106 102), (102, zi_push (zvi 1) 103), (103, zi_goto 136), (106, zi_push (zvi 0) 107), (107, zi_goto 136), (110, zi_ld 1 0 111), (111, zi_getR 17 0 114), (114, zi_ld 0 1 115), (115, zi_aldR 116), (116, zi_getI 22 0 119), (119, zi_ld 1 0 120), (120, zi_getR 17 0 123), (123, zi_ld 0 2 124), (124, zi_aldR 125), (125, zi_getI 22 0 128), (128, zi_cmp zc_ge 135 131), (131, zi_push (zvi 1) 132), (132, zi_goto 136), (135, zi_push (zvi 0) 136), (136, zi_retz)], fun _ _ => none)
noncomputable def mX3_isAhead : ZF := zrunM kX3_isAhead 3
theorem enX3_isAhead (x0 : Option Nat) (x1 : Int) (x2 : Int) (h : PH) : mX3_isAhead [zvr x0, zvi x1, zvi x2] h = zev kX3_isAhead 0 [zvr x0, zvi x1, zvi x2] [] h := zrunM_eq rfl rfl
theorem rX3_isAhead : (∀ (a : Option Nat) (L st : List ZV) (h : PH), zev kX3_isAhead 0 (zvr a :: L) st h = zev kX3_isAhead 1 (zvr a :: L) (zvr a :: st) h) ∧
  (∀ (q : Nat) (L st : List ZV) (h : PH), zev kX3_isAhead 1 L (zvr (some q) :: st) h = if (ph_K h q).1 % 1000 = 17 then zev kX3_isAhead 4 L (zvr (ph_R h q 3) :: st) h else none) ∧
  (∀ (x0 : ZV) (a : Int) (L st : List ZV) (h : PH), zev kX3_isAhead 4 (x0 :: zvi a :: L) st h = zev kX3_isAhead 5 (x0 :: zvi a :: L) (zvi a :: st) h) ∧
  (∀ (j : Int) (q : Nat) (L st : List ZV) (h : PH), zev kX3_isAhead 5 L (zvi j :: zvr (some q) :: st) h = if (ph_K h q).1 % 1000 = 1 ∧ 0 ≤ j ∧ j < (ph_K h q).2 then zev kX3_isAhead 6 L (zvi (ph_I h q j) :: st) h else none) ∧
  (∀ (a : Option Nat) (L st : List ZV) (h : PH), zev kX3_isAhead 6 (zvr a :: L) st h = zev kX3_isAhead 7 (zvr a :: L) (zvr a :: st) h) ∧
  (∀ (q : Nat) (L st : List ZV) (h : PH), zev kX3_isAhead 7 L (zvr (some q) :: st) h = if (ph_K h q).1 % 1000 = 17 then zev kX3_isAhead 10 L (zvr (ph_R h q 3) :: st) h else none) ∧
  (∀ (x0 x1 : ZV) (a : Int) (L st : List ZV) (h : PH), zev kX3_isAhead 10 (x0 :: x1 :: zvi a :: L) st h = zev kX3_isAhead 11 (x0 :: x1 :: zvi a :: L) (zvi a :: st) h) ∧
  (∀ (j : Int) (q : Nat) (L st : List ZV) (h : PH), zev kX3_isAhead 11 L (zvi j :: zvr (some q) :: st) h = if (ph_K h q).1 % 1000 = 1 ∧ 0 ≤ j ∧ j < (ph_K h q).2 then zev kX3_isAhead 12 L (zvi (ph_I h q j) :: st) h else none) ∧
  (∀ (a b : Int) (L st : List ZV) (h : PH), zev kX3_isAhead 12 L (zvi b :: zvi a :: st) h = if a = b then zev kX3_isAhead 36 L st h else zev kX3_isAhead 15 L st h) ∧
  (∀ (a : Option Nat) (L st : List ZV) (h : PH), zev kX3_isAhead 15 (zvr a :: L) st h = zev kX3_isAhead 16 (zvr a :: L) (zvr a :: st) h) ∧
  (∀ (q : Nat) (L st : List ZV) (h : PH), zev kX3_isAhead 16 L (zvr (some q) :: st) h = if (ph_K h q).1 % 1000 = 17 then zev kX3_isAhead 19 L (zvr (ph_R h q 3) :: st) h else none) ∧
  (∀ (x0 : ZV) (a : Int) (L st : List ZV) (h : PH), zev kX3_isAhead 19 (x0 :: zvi a :: L) st h = zev kX3_isAhead 20 (x0 :: zvi a :: L) (zvi a :: st) h) ∧
  (∀ (j : Int) (q : Nat) (L st : List ZV) (h : PH), zev kX3_isAhead 20 L (zvi j :: zvr (some q) :: st) h = if (ph_K h q).1 % 1000 = 1 ∧ 0 ≤ j ∧ j < (ph_K h q).2 then zev kX3_isAhead 21 L (zvi (ph_I h q j) :: st) h else none) ∧
  (∀ (a : Option Nat) (L st : List ZV) (h : PH), zev kX3_isAhead 21 (zvr a :: L) st h = zev kX3_isAhead 22 (zvr a :: L) (zvr a :: st) h) ∧
  (∀ (q : Nat) (L st : List ZV) (h : PH), zev kX3_isAhead 22 L (zvr (some q) :: st) h = if (ph_K h q).1 % 1000 = 17 then zev kX3_isAhead 25 L (zvr (ph_R h q 3) :: st) h else none) ∧
  (∀ (x0 x1 : ZV) (a : Int) (L st : List ZV) (h : PH), zev kX3_isAhead 25 (x0 :: x1 :: zvi a :: L) st h = zev kX3_isAhead 26 (x0 :: x1 :: zvi a :: L) (zvi a :: st) h) ∧
  (∀ (j : Int) (q : Nat) (L st : List ZV) (h : PH), zev kX3_isAhead 26 L (zvi j :: zvr (some q) :: st) h = if (ph_K h q).1 % 1000 = 1 ∧ 0 ≤ j ∧ j < (ph_K h q).2 then zev kX3_isAhead 27 L (zvi (ph_I h q j) :: st) h else none) ∧
  (∀ (a b : Int) (L st : List ZV) (h : PH), zev kX3_isAhead 27 L (zvi b :: zvi a :: st) h = if a ≥ b then zev kX3_isAhead 34 L st h else zev kX3_isAhead 30 L st h) ∧
  (∀ (L st : List ZV) (h : PH), zev kX3_isAhead 30 L st h = zev kX3_isAhead 31 L (zvi 1 :: st) h) ∧
  (∀ (L st : List ZV) (h : PH), zev kX3_isAhead 31 L st h = zev kX3_isAhead 35 L st h) ∧
  (∀ (L st : List ZV) (h : PH), zev kX3_isAhead 34 L st h = zev kX3_isAhead 35 L (zvi 0 :: st) h) ∧
  (∀ (a : Int) (L : List ZV) (h : PH), zev kX3_isAhead 35 L [zvi a] h = if a = 0 ∨ a = 1 then zrv (zvi a) h else none) ∧
  (∀ (a : Option Nat) (L st : List ZV) (h : PH), zev kX3_isAhead 36 (zvr a :: L) st h = zev kX3_isAhead 37 (zvr a :: L) (zvr a :: st) h) ∧
  (∀ (q : Nat) (L st : List ZV) (h : PH), zev kX3_isAhead 37 L (zvr (some q) :: st) h = if (ph_K h q).1 % 1000 = 17 then zev kX3_isAhead 40 L (zvr (ph_R h q 1) :: st) h else none) ∧
  (∀ (x0 : ZV) (a : Int) (L st : List ZV) (h : PH), zev kX3_isAhead 40 (x0 :: zvi a :: L) st h = zev kX3_isAhead 41 (x0 :: zvi a :: L) (zvi a :: st) h) ∧
  (∀ (j : Int) (q : Nat) (L st : List ZV) (h : PH), zev kX3_isAhead 41 L (zvi j :: zvr (some q) :: st) h = if (ph_K h q).1 % 1000 = 1 ∧ 0 ≤ j ∧ j < (ph_K h q).2 then zev kX3_isAhead 42 L (zvi (ph_I h q j) :: st) h else none) ∧
  (∀ (a : Option Nat) (L st : List ZV) (h : PH), zev kX3_isAhead 42 (zvr a :: L) st h = zev kX3_isAhead 43 (zvr a :: L) (zvr a :: st) h) ∧
  (∀ (q : Nat) (L st : List ZV) (h : PH), zev kX3_isAhead 43 L (zvr (some q) :: st) h = if (ph_K h q).1 % 1000 = 17 then zev kX3_isAhead 46 L (zvr (ph_R h q 1) :: st) h else none) ∧
  (∀ (x0 x1 : ZV) (a : Int) (L st : List ZV) (h : PH), zev kX3_isAhead 46 (x0 :: x1 :: zvi a :: L) st h = zev kX3_isAhead 47 (x0 :: x1 :: zvi a :: L) (zvi a :: st) h) ∧
  (∀ (j : Int) (q : Nat) (L st : List ZV) (h : PH), zev kX3_isAhead 47 L (zvi j :: zvr (some q) :: st) h = if (ph_K h q).1 % 1000 = 1 ∧ 0 ≤ j ∧ j < (ph_K h q).2 then zev kX3_isAhead 48 L (zvi (ph_I h q j) :: st) h else none) ∧
  (∀ (a b : Int) (L st : List ZV) (h : PH), zev kX3_isAhead 48 L (zvi b :: zvi a :: st) h = if a = b then zev kX3_isAhead 72 L st h else zev kX3_isAhead 51 L st h) ∧
  (∀ (a : Option Nat) (L st : List ZV) (h : PH), zev kX3_isAhead 51 (zvr a :: L) st h = zev kX3_isAhead 52 (zvr a :: L) (zvr a :: st) h) ∧
  (∀ (q : Nat) (L st : List ZV) (h : PH), zev kX3_isAhead 52 L (zvr (some q) :: st) h = if (ph_K h q).1 % 1000 = 17 then zev kX3_isAhead 55 L (zvr (ph_R h q 1) :: st) h else none) ∧
  (∀ (x0 : ZV) (a : Int) (L st : List ZV) (h : PH), zev kX3_isAhead 55 (x0 :: zvi a :: L) st h = zev kX3_isAhead 56 (x0 :: zvi a :: L) (zvi a :: st) h) ∧
  (∀ (j : Int) (q : Nat) (L st : List ZV) (h : PH), zev kX3_isAhead 56 L (zvi j :: zvr (some q) :: st) h = if (ph_K h q).1 % 1000 = 1 ∧ 0 ≤ j ∧ j < (ph_K h q).2 then zev kX3_isAhead 57 L (zvi (ph_I h q j) :: st) h else none) ∧
  (∀ (a : Option Nat) (L st : List ZV) (h : PH), zev kX3_isAhead 57 (zvr a :: L) st h = zev kX3_isAhead 58 (zvr a :: L) (zvr a :: st) h) ∧
  (∀ (q : Nat) (L st : List ZV) (h : PH), zev kX3_isAhead 58 L (zvr (some q) :: st) h = if (ph_K h q).1 % 1000 = 17 then zev kX3_isAhead 61 L (zvr (ph_R h q 1) :: st) h else none) ∧
  (∀ (x0 x1 : ZV) (a : Int) (L st : List ZV) (h : PH), zev kX3_isAhead 61 (x0 :: x1 :: zvi a :: L) st h = zev kX3_isAhead 62 (x0 :: x1 :: zvi a :: L) (zvi a :: st) h) ∧
  (∀ (j : Int) (q : Nat) (L st : List ZV) (h : PH), zev kX3_isAhead 62 L (zvi j :: zvr (some q) :: st) h = if (ph_K h q).1 % 1000 = 1 ∧ 0 ≤ j ∧ j < (ph_K h q).2 then zev kX3_isAhead 63 L (zvi (ph_I h q j) :: st) h else none) ∧
  (∀ (a b : Int) (L st : List ZV) (h : PH), zev kX3_isAhead 63 L (zvi b :: zvi a :: st) h = if a ≤ b then zev kX3_isAhead 70 L st h else zev kX3_isAhead 66 L st h) ∧
  (∀ (L st : List ZV) (h : PH), zev kX3_isAhead 66 L st h = zev kX3_isAhead 67 L (zvi 1 :: st) h) ∧
  (∀ (L st : List ZV) (h : PH), zev kX3_isAhead 67 L st h = zev kX3_isAhead 71 L st h) ∧
  (∀ (L st : List ZV) (h : PH), zev kX3_isAhead 70 L st h = zev kX3_isAhead 71 L (zvi 0 :: st) h) ∧
  (∀ (a : Int) (L : List ZV) (h : PH), zev kX3_isAhead 71 L [zvi a] h = if a = 0 ∨ a = 1 then zrv (zvi a) h else none) ∧
  (∀ (a : Option Nat) (L st : List ZV) (h : PH), zev kX3_isAhead 72 (zvr a :: L) st h = zev kX3_isAhead 73 (zvr a :: L) (zvr a :: st) h) ∧
  (∀ (q : Nat) (L st : List ZV) (h : PH), zev kX3_isAhead 73 L (zvr (some q) :: st) h = if (ph_K h q).1 % 1000 = 17 then zev kX3_isAhead 76 L (zvr (ph_R h q 4) :: st) h else none) ∧
  (∀ (x0 : ZV) (a : Int) (L st : List ZV) (h : PH), zev kX3_isAhead 76 (x0 :: zvi a :: L) st h = zev kX3_isAhead 77 (x0 :: zvi a :: L) (zvi a :: st) h) ∧
  (∀ (j : Int) (q : Nat) (L st : List ZV) (h : PH), zev kX3_isAhead 77 L (zvi j :: zvr (some q) :: st) h = if (ph_K h q).1 % 1000 = 1 ∧ 0 ≤ j ∧ j < (ph_K h q).2 then zev kX3_isAhead 78 L (zvi (ph_I h q j) :: st) h else none) ∧
  (∀ (a : Option Nat) (L st : List ZV) (h : PH), zev kX3_isAhead 78 (zvr a :: L) st h = zev kX3_isAhead 79 (zvr a :: L) (zvr a :: st) h) ∧
  (∀ (q : Nat) (L st : List ZV) (h : PH), zev kX3_isAhead 79 L (zvr (some q) :: st) h = if (ph_K h q).1 % 1000 = 17 then zev kX3_isAhead 82 L (zvr (ph_R h q 4) :: st) h else none) ∧
  (∀ (x0 x1 : ZV) (a : Int) (L st : List ZV) (h : PH), zev kX3_isAhead 82 (x0 :: x1 :: zvi a :: L) st h = zev kX3_isAhead 83 (x0 :: x1 :: zvi a :: L) (zvi a :: st) h) ∧
  (∀ (j : Int) (q : Nat) (L st : List ZV) (h : PH), zev kX3_isAhead 83 L (zvi j :: zvr (some q) :: st) h = if (ph_K h q).1 % 1000 = 1 ∧ 0 ≤ j ∧ j < (ph_K h q).2 then zev kX3_isAhead 84 L (zvi (ph_I h q j) :: st) h else none) ∧
  (∀ (a b : Int) (L st : List ZV) (h : PH), zev kX3_isAhead 84 L (zvi b :: zvi a :: st) h = if a = b then zev kX3_isAhead 110 L st h else zev kX3_isAhead 87 L st h) ∧
  (∀ (a : Option Nat) (L st : List ZV) (h : PH), zev kX3_isAhead 87 (zvr a :: L) st h = zev kX3_isAhead 88 (zvr a :: L) (zvr a :: st) h) ∧
  (∀ (q : Nat) (L st : List ZV) (h : PH), zev kX3_isAhead 88 L (zvr (some q) :: st) h = if (ph_K h q).1 % 1000 = 17 then zev kX3_isAhead 91 L (zvr (ph_R h q 4) :: st) h else none) ∧
  (∀ (x0 : ZV) (a : Int) (L st : List ZV) (h : PH), zev kX3_isAhead 91 (x0 :: zvi a :: L) st h = zev kX3_isAhead 92 (x0 :: zvi a :: L) (zvi a :: st) h) ∧
  (∀ (j : Int) (q : Nat) (L st : List ZV) (h : PH), zev kX3_isAhead 92 L (zvi j :: zvr (some q) :: st) h = if (ph_K h q).1 % 1000 = 1 ∧ 0 ≤ j ∧ j < (ph_K h q).2 then zev kX3_isAhead 93 L (zvi (ph_I h q j) :: st) h else none) ∧
  (∀ (a : Option Nat) (L st : List ZV) (h : PH), zev kX3_isAhead 93 (zvr a :: L) st h = zev kX3_isAhead 94 (zvr a :: L) (zvr a :: st) h) ∧
  (∀ (q : Nat) (L st : List ZV) (h : PH), zev kX3_isAhead 94 L (zvr (some q) :: st) h = if (ph_K h q).1 % 1000 = 17 then zev kX3_isAhead 97 L (zvr (ph_R h q 4) :: st) h else none) ∧
  (∀ (x0 x1 : ZV) (a : Int) (L st : List ZV) (h : PH), zev kX3_isAhead 97 (x0 :: x1 :: zvi a :: L) st h = zev kX3_isAhead 98 (x0 :: x1 :: zvi a :: L) (zvi a :: st) h) ∧
  (∀ (j : Int) (q : Nat) (L st : List ZV) (h : PH), zev kX3_isAhead 98 L (zvi j :: zvr (some q) :: st) h = if (ph_K h q).1 % 1000 = 1 ∧ 0 ≤ j ∧ j < (ph_K h q).2 then zev kX3_isAhead 99 L (zvi (ph_I h q j) :: st) h else none) ∧
  (∀ (a b : Int) (L st : List ZV) (h : PH), zev kX3_isAhead 99 L (zvi b :: zvi a :: st) h = if a ≥ b then zev kX3_isAhead 106 L st h else zev kX3_isAhead 102 L st h) ∧
  (∀ (L st : List ZV) (h : PH), zev kX3_isAhead 102 L st h = zev kX3_isAhead 103 L (zvi 1 :: st) h) ∧
  (∀ (L st : List ZV) (h : PH), zev kX3_isAhead 103 L st h = zev kX3_isAhead 136 L st h) ∧
  (∀ (L st : List ZV) (h : PH), zev kX3_isAhead 106 L st h = zev kX3_isAhead 107 L (zvi 0 :: st) h) ∧
  (∀ (L st : List ZV) (h : PH), zev kX3_isAhead 107 L st h = zev kX3_isAhead 136 L st h) ∧
  (∀ (a : Option Nat) (L st : List ZV) (h : PH), zev kX3_isAhead 110 (zvr a :: L) st h = zev kX3_isAhead 111 (zvr a :: L) (zvr a :: st) h) ∧
  (∀ (q : Nat) (L st : List ZV) (h : PH), zev kX3_isAhead 111 L (zvr (some q) :: st) h = if (ph_K h q).1 % 1000 = 17 then zev kX3_isAhead 114 L (zvr (ph_R h q 0) :: st) h else none) ∧
  (∀ (x0 : ZV) (a : Int) (L st : List ZV) (h : PH), zev kX3_isAhead 114 (x0 :: zvi a :: L) st h = zev kX3_isAhead 115 (x0 :: zvi a :: L) (zvi a :: st) h) ∧
  (∀ (j : Int) (q : Nat) (L st : List ZV) (h : PH), zev kX3_isAhead 115 L (zvi j :: zvr (some q) :: st) h = if 5 ≤ (ph_K h q).1 % 1000 ∧ (ph_K h q).1 % 1000 ≤ 7 ∧ 0 ≤ j ∧ j < (ph_K h q).2 then zev kX3_isAhead 116 L (zvr (ph_R h q j) :: st) h else none) ∧
  (∀ (q : Nat) (L st : List ZV) (h : PH), zev kX3_isAhead 116 L (zvr (some q) :: st) h = if (ph_K h q).1 % 1000 = 22 then zev kX3_isAhead 119 L (zvi (ph_I h q 0) :: st) h else none) ∧
  (∀ (a : Option Nat) (L st : List ZV) (h : PH), zev kX3_isAhead 119 (zvr a :: L) st h = zev kX3_isAhead 120 (zvr a :: L) (zvr a :: st) h) ∧
  (∀ (q : Nat) (L st : List ZV) (h : PH), zev kX3_isAhead 120 L (zvr (some q) :: st) h = if (ph_K h q).1 % 1000 = 17 then zev kX3_isAhead 123 L (zvr (ph_R h q 0) :: st) h else none) ∧
  (∀ (x0 x1 : ZV) (a : Int) (L st : List ZV) (h : PH), zev kX3_isAhead 123 (x0 :: x1 :: zvi a :: L) st h = zev kX3_isAhead 124 (x0 :: x1 :: zvi a :: L) (zvi a :: st) h) ∧
  (∀ (j : Int) (q : Nat) (L st : List ZV) (h : PH), zev kX3_isAhead 124 L (zvi j :: zvr (some q) :: st) h = if 5 ≤ (ph_K h q).1 % 1000 ∧ (ph_K h q).1 % 1000 ≤ 7 ∧ 0 ≤ j ∧ j < (ph_K h q).2 then zev kX3_isAhead 125 L (zvr (ph_R h q j) :: st) h else none) ∧
  (∀ (q : Nat) (L st : List ZV) (h : PH), zev kX3_isAhead 125 L (zvr (some q) :: st) h = if (ph_K h q).1 % 1000 = 22 then zev kX3_isAhead 128 L (zvi (ph_I h q 0) :: st) h else none) ∧
  (∀ (a b : Int) (L st : List ZV) (h : PH), zev kX3_isAhead 128 L (zvi b :: zvi a :: st) h = if a ≥ b then zev kX3_isAhead 135 L st h else zev kX3_isAhead 131 L st h) ∧
  (∀ (L st : List ZV) (h : PH), zev kX3_isAhead 131 L st h = zev kX3_isAhead 132 L (zvi 1 :: st) h) ∧
  (∀ (L st : List ZV) (h : PH), zev kX3_isAhead 132 L st h = zev kX3_isAhead 136 L st h) ∧
  (∀ (L st : List ZV) (h : PH), zev kX3_isAhead 135 L st h = zev kX3_isAhead 136 L (zvi 0 :: st) h) ∧
  (∀ (a : Int) (L : List ZV) (h : PH), zev kX3_isAhead 136 L [zvi a] h = if a = 0 ∨ a = 1 then zrv (zvi a) h else none) :=
  ⟨fun a L st h => e_ld0R (n := 1) rfl,
  fun q L st h => e_getR (kd := 17) (k := 3) (n := 4) rfl,
  fun x0 a L st h => e_ld1I (n := 5) rfl,
  fun j q L st h => e_ald (kd := 1) (n := 6) rfl,
  fun a L st h => e_ld0R (n := 7) rfl,
  fun q L st h => e_getR (kd := 17) (k := 3) (n := 10) rfl,
  fun x0 x1 a L st h => e_ld2I (n := 11) rfl,
  fun j q L st h => e_ald (kd := 1) (n := 12) rfl,
  fun a b L st h => e_cmpeq (t := 36) (n := 15) rfl,
  fun a L st h => e_ld0R (n := 16) rfl,
  fun q L st h => e_getR (kd := 17) (k := 3) (n := 19) rfl,
  fun x0 a L st h => e_ld1I (n := 20) rfl,
  fun j q L st h => e_ald (kd := 1) (n := 21) rfl,
  fun a L st h => e_ld0R (n := 22) rfl,
  fun q L st h => e_getR (kd := 17) (k := 3) (n := 25) rfl,
  fun x0 x1 a L st h => e_ld2I (n := 26) rfl,
  fun j q L st h => e_ald (kd := 1) (n := 27) rfl,
  fun a b L st h => e_cmpge (t := 34) (n := 30) rfl,
  fun L st h => e_push (v := zvi 1) (n := 31) rfl,
  fun L st h => e_goto (t := 35) rfl,
  fun L st h => e_push (v := zvi 0) (n := 35) rfl,
  fun a L h => e_retz rfl,
  fun a L st h => e_ld0R (n := 37) rfl,
  fun q L st h => e_getR (kd := 17) (k := 1) (n := 40) rfl,
  fun x0 a L st h => e_ld1I (n := 41) rfl,
  fun j q L st h => e_ald (kd := 1) (n := 42) rfl,
  fun a L st h => e_ld0R (n := 43) rfl,
  fun q L st h => e_getR (kd := 17) (k := 1) (n := 46) rfl,
  fun x0 x1 a L st h => e_ld2I (n := 47) rfl,
  fun j q L st h => e_ald (kd := 1) (n := 48) rfl,
  fun a b L st h => e_cmpeq (t := 72) (n := 51) rfl,
  fun a L st h => e_ld0R (n := 52) rfl,
  fun q L st h => e_getR (kd := 17) (k := 1) (n := 55) rfl,
  fun x0 a L st h => e_ld1I (n := 56) rfl,
  fun j q L st h => e_ald (kd := 1) (n := 57) rfl,
  fun a L st h => e_ld0R (n := 58) rfl,
  fun q L st h => e_getR (kd := 17) (k := 1) (n := 61) rfl,
  fun x0 x1 a L st h => e_ld2I (n := 62) rfl,
  fun j q L st h => e_ald (kd := 1) (n := 63) rfl,
  fun a b L st h => e_cmple (t := 70) (n := 66) rfl,
  fun L st h => e_push (v := zvi 1) (n := 67) rfl,
  fun L st h => e_goto (t := 71) rfl,
  fun L st h => e_push (v := zvi 0) (n := 71) rfl,
  fun a L h => e_retz rfl,
  fun a L st h => e_ld0R (n := 73) rfl,
  fun q L st h => e_getR (kd := 17) (k := 4) (n := 76) rfl,
  fun x0 a L st h => e_ld1I (n := 77) rfl,
  fun j q L st h => e_ald (kd := 1) (n := 78) rfl,
  fun a L st h => e_ld0R (n := 79) rfl,
  fun q L st h => e_getR (kd := 17) (k := 4) (n := 82) rfl,
  fun x0 x1 a L st h => e_ld2I (n := 83) rfl,
  fun j q L st h => e_ald (kd := 1) (n := 84) rfl,
  fun a b L st h => e_cmpeq (t := 110) (n := 87) rfl,
  fun a L st h => e_ld0R (n := 88) rfl,
  fun q L st h => e_getR (kd := 17) (k := 4) (n := 91) rfl,
  fun x0 a L st h => e_ld1I (n := 92) rfl,
  fun j q L st h => e_ald (kd := 1) (n := 93) rfl,
  fun a L st h => e_ld0R (n := 94) rfl,
  fun q L st h => e_getR (kd := 17) (k := 4) (n := 97) rfl,
  fun x0 x1 a L st h => e_ld2I (n := 98) rfl,
  fun j q L st h => e_ald (kd := 1) (n := 99) rfl,
  fun a b L st h => e_cmpge (t := 106) (n := 102) rfl,
  fun L st h => e_push (v := zvi 1) (n := 103) rfl,
  fun L st h => e_goto (t := 136) rfl,
  fun L st h => e_push (v := zvi 0) (n := 107) rfl,
  fun L st h => e_goto (t := 136) rfl,
  fun a L st h => e_ld0R (n := 111) rfl,
  fun q L st h => e_getR (kd := 17) (k := 0) (n := 114) rfl,
  fun x0 a L st h => e_ld1I (n := 115) rfl,
  fun j q L st h => e_aldR (n := 116) rfl,
  fun q L st h => e_getI (kd := 22) (k := 0) (n := 119) rfl,
  fun a L st h => e_ld0R (n := 120) rfl,
  fun q L st h => e_getR (kd := 17) (k := 0) (n := 123) rfl,
  fun x0 x1 a L st h => e_ld2I (n := 124) rfl,
  fun j q L st h => e_aldR (n := 125) rfl,
  fun q L st h => e_getI (kd := 22) (k := 0) (n := 128) rfl,
  fun a b L st h => e_cmpge (t := 135) (n := 131) rfl,
  fun L st h => e_push (v := zvi 1) (n := 132) rfl,
  fun L st h => e_goto (t := 136) rfl,
  fun L st h => e_push (v := zvi 0) (n := 136) rfl,
  fun a L h => e_retz rfl⟩
theorem allX3_isAhead : zall yX3_isAhead cX3_isAhead 3 (some .boolean) 1 kX3_isAhead.1 :=
  ⟨k_aload_n dX3_isAhead_0,
  k_getR (C := RX3) (T := TX3) (N := 9) (ci := 1) (k := 3) (ref := "LinkTimes$Search") dX3_isAhead_1 rfl in_X3 (by decide) q271 (Or.inl rfl) (fun _ _ _ => rfl),
  k_iload_n dX3_isAhead_4,
  k_iald dX3_isAhead_5,
  k_aload_n dX3_isAhead_6,
  k_getR (C := RX3) (T := TX3) (N := 9) (ci := 1) (k := 3) (ref := "LinkTimes$Search") dX3_isAhead_7 rfl in_X3 (by decide) q271 (Or.inl rfl) (fun _ _ _ => rfl),
  k_iload_n dX3_isAhead_10,
  k_iald dX3_isAhead_11,
  k_cmpeq (t := 36) dX3_isAhead_12 (by decide),
  k_aload_n dX3_isAhead_15,
  k_getR (C := RX3) (T := TX3) (N := 9) (ci := 1) (k := 3) (ref := "LinkTimes$Search") dX3_isAhead_16 rfl in_X3 (by decide) q271 (Or.inl rfl) (fun _ _ _ => rfl),
  k_iload_n dX3_isAhead_19,
  k_iald dX3_isAhead_20,
  k_aload_n dX3_isAhead_21,
  k_getR (C := RX3) (T := TX3) (N := 9) (ci := 1) (k := 3) (ref := "LinkTimes$Search") dX3_isAhead_22 rfl in_X3 (by decide) q271 (Or.inl rfl) (fun _ _ _ => rfl),
  k_iload_n dX3_isAhead_25,
  k_iald dX3_isAhead_26,
  k_cmpge (t := 34) dX3_isAhead_27 (by decide),
  k_iconst dX3_isAhead_30,
  k_goto (t := 35) dX3_isAhead_31 (by decide),
  k_iconst dX3_isAhead_34,
  k_zret dX3_isAhead_35,
  k_aload_n dX3_isAhead_36,
  k_getR (C := RX3) (T := TX3) (N := 9) (ci := 1) (k := 1) (ref := "LinkTimes$Search") dX3_isAhead_37 rfl in_X3 (by decide) q267 (Or.inl rfl) (fun _ _ _ => rfl),
  k_iload_n dX3_isAhead_40,
  k_iald dX3_isAhead_41,
  k_aload_n dX3_isAhead_42,
  k_getR (C := RX3) (T := TX3) (N := 9) (ci := 1) (k := 1) (ref := "LinkTimes$Search") dX3_isAhead_43 rfl in_X3 (by decide) q267 (Or.inl rfl) (fun _ _ _ => rfl),
  k_iload_n dX3_isAhead_46,
  k_iald dX3_isAhead_47,
  k_cmpeq (t := 72) dX3_isAhead_48 (by decide),
  k_aload_n dX3_isAhead_51,
  k_getR (C := RX3) (T := TX3) (N := 9) (ci := 1) (k := 1) (ref := "LinkTimes$Search") dX3_isAhead_52 rfl in_X3 (by decide) q267 (Or.inl rfl) (fun _ _ _ => rfl),
  k_iload_n dX3_isAhead_55,
  k_iald dX3_isAhead_56,
  k_aload_n dX3_isAhead_57,
  k_getR (C := RX3) (T := TX3) (N := 9) (ci := 1) (k := 1) (ref := "LinkTimes$Search") dX3_isAhead_58 rfl in_X3 (by decide) q267 (Or.inl rfl) (fun _ _ _ => rfl),
  k_iload_n dX3_isAhead_61,
  k_iald dX3_isAhead_62,
  k_cmple (t := 70) dX3_isAhead_63 (by decide),
  k_iconst dX3_isAhead_66,
  k_goto (t := 71) dX3_isAhead_67 (by decide),
  k_iconst dX3_isAhead_70,
  k_zret dX3_isAhead_71,
  k_aload_n dX3_isAhead_72,
  k_getR (C := RX3) (T := TX3) (N := 9) (ci := 1) (k := 4) (ref := "LinkTimes$Search") dX3_isAhead_73 rfl in_X3 (by decide) q273 (Or.inl rfl) (fun _ _ _ => rfl),
  k_iload_n dX3_isAhead_76,
  k_iald dX3_isAhead_77,
  k_aload_n dX3_isAhead_78,
  k_getR (C := RX3) (T := TX3) (N := 9) (ci := 1) (k := 4) (ref := "LinkTimes$Search") dX3_isAhead_79 rfl in_X3 (by decide) q273 (Or.inl rfl) (fun _ _ _ => rfl),
  k_iload_n dX3_isAhead_82,
  k_iald dX3_isAhead_83,
  k_cmpeq (t := 110) dX3_isAhead_84 (by decide),
  k_aload_n dX3_isAhead_87,
  k_getR (C := RX3) (T := TX3) (N := 9) (ci := 1) (k := 4) (ref := "LinkTimes$Search") dX3_isAhead_88 rfl in_X3 (by decide) q273 (Or.inl rfl) (fun _ _ _ => rfl),
  k_iload_n dX3_isAhead_91,
  k_iald dX3_isAhead_92,
  k_aload_n dX3_isAhead_93,
  k_getR (C := RX3) (T := TX3) (N := 9) (ci := 1) (k := 4) (ref := "LinkTimes$Search") dX3_isAhead_94 rfl in_X3 (by decide) q273 (Or.inl rfl) (fun _ _ _ => rfl),
  k_iload_n dX3_isAhead_97,
  k_iald dX3_isAhead_98,
  k_cmpge (t := 106) dX3_isAhead_99 (by decide),
  k_iconst dX3_isAhead_102,
  k_goto (t := 136) dX3_isAhead_103 (by decide),
  k_iconst dX3_isAhead_106,
  k_goto (t := 136) dX3_isAhead_107 (by decide),
  k_aload_n dX3_isAhead_110,
  k_getR (C := RX3) (T := TX3) (N := 9) (ci := 1) (k := 0) (ref := "LinkTimes$Search") dX3_isAhead_111 rfl in_X3 (by decide) q265 (Or.inl rfl) (fun _ _ _ => rfl),
  k_iload_n dX3_isAhead_114,
  k_aald dX3_isAhead_115,
  k_getIN (C := RX11) (T := TX11) (N := 9) (ci := 6) (k := 0) (ref := "LinkTimes$Departure") dX3_isAhead_116 rfl in_X11 (by decide) q850 (Or.inl rfl) (fun _ _ _ => rfl),
  k_aload_n dX3_isAhead_119,
  k_getR (C := RX3) (T := TX3) (N := 9) (ci := 1) (k := 0) (ref := "LinkTimes$Search") dX3_isAhead_120 rfl in_X3 (by decide) q265 (Or.inl rfl) (fun _ _ _ => rfl),
  k_iload_n dX3_isAhead_123,
  k_aald dX3_isAhead_124,
  k_getIN (C := RX11) (T := TX11) (N := 9) (ci := 6) (k := 0) (ref := "LinkTimes$Departure") dX3_isAhead_125 rfl in_X11 (by decide) q850 (Or.inl rfl) (fun _ _ _ => rfl),
  k_cmpge (t := 135) dX3_isAhead_128 (by decide),
  k_iconst dX3_isAhead_131,
  k_goto (t := 136) dX3_isAhead_132 (by decide),
  k_iconst dX3_isAhead_135,
  k_zret dX3_isAhead_136, trivial⟩
theorem sndX3_isAhead : MSound 1 yX3_isAhead (ws_ yX3_isAhead cX3_isAhead 3 (some .boolean)) mX3_isAhead := msound_M (by decide) allX3_isAhead (fun _ _ => rfl)
/-! LinkTimes$Search.bestBy(IIII)I -/
noncomputable def kX3_bestBy : ZM := ([(0, zi_ld 1 0 1), (1, zi_ld 0 2 2), (2, zi_ld 0 4 4), (4, zi_callV mX3_laysBackwards 17 3 7), (7, zi_push (zvi (-1)) 8), (8, zi_st 0 5 10), (10, zi_push (zvi 0) 11), (11, zi_st 0 6 13), (13, zi_ld 0 6 15), (15, zi_ld 1 0 16), (16, zi_getI 17 6 19), (19, zi_cmp zc_ge 86 22), (22, zi_ld 1 0 23), (23, zi_getR 17 0 26), (26, zi_ld 0 6 28), (28, zi_aldR 29), (29, zi_getI 22 3 32), (32, zi_ld 0 1 33), (33, zi_cmp zc_ne 80 36), (36, zi_ld 1 0 37), (37, zi_getR 17 1 40), (40, zi_ld 0 6 42), (42, zi_ald 1 43), (43, zi_ld 0 3 44), (44, zi_cmp zc_lt 80 47), (47, zi_ld 1 0 48), (48, zi_getR 17 3 51), (51, zi_ld 0 6 53), (53, zi_ald 1 54), (54, zi_push (zvi 99999) 56), (56, zi_cmp zc_ge 80 59), (59, zi_ld 0 5 61), (61, zi_push (zvi (-1)) 62), (62, zi_cmp zc_eq 76 65), (65, zi_ld 1 0 66), (66, zi_ld 0 6 68), (68, zi_ld 0 5 70), (70, zi_callV mX3_isAhead 17 3 73), (73, zi_if (fun a => zc_eq a 0) 80 76), (76, zi_ld 0 6 78), (78, zi_st 0 5 80), (80, zi_iinc 6 1 83), (83, zi_goto 13), (86, zi_ld 0 5 88), (88, zi_retv 0)], fun _ _ => none)
noncomputable def mX3_bestBy : ZF := zrunM kX3_bestBy 7
theorem enX3_bestBy (x0 : Option Nat) (x1 : Int) (x2 : Int) (x3 : Int) (x4 : Int) (h : PH) : mX3_bestBy [zvr x0, zvi x1, zvi x2, zvi x3, zvi x4] h = zev kX3_bestBy 0 [zvr x0, zvi x1, zvi x2, zvi x3, zvi x4, zvu, zvu] [] h := zrunM_eq rfl rfl
theorem hdX3_bestBy_13 (x0 x1 x2 x3 x4 x5 : ZV) (a : Int) (L st : List ZV) (h : PH) : zev kX3_bestBy 13 (x0 :: x1 :: x2 :: x3 :: x4 :: x5 :: zvi a :: L) st h = zev kX3_bestBy 15 (x0 :: x1 :: x2 :: x3 :: x4 :: x5 :: zvi a :: L) (zvi a :: st) h := e_ld6I (n := 15) rfl
theorem rX3_bestBy : (∀ (a : Option Nat) (L st : List ZV) (h : PH), zev kX3_bestBy 0 (zvr a :: L) st h = zev kX3_bestBy 1 (zvr a :: L) (zvr a :: st) h) ∧
  (∀ (x0 x1 : ZV) (a : Int) (L st : List ZV) (h : PH), zev kX3_bestBy 1 (x0 :: x1 :: zvi a :: L) st h = zev kX3_bestBy 2 (x0 :: x1 :: zvi a :: L) (zvi a :: st) h) ∧
  (∀ (x0 x1 x2 x3 : ZV) (a : Int) (L st : List ZV) (h : PH), zev kX3_bestBy 2 (x0 :: x1 :: x2 :: x3 :: zvi a :: L) st h = zev kX3_bestBy 4 (x0 :: x1 :: x2 :: x3 :: zvi a :: L) (zvi a :: st) h) ∧
  (∀ (v0 v1 : ZV) (q : Nat) (L st : List ZV) (h : PH), zev kX3_bestBy 4 L (v1 :: v0 :: zvr (some q) :: st) h = if (ph_K h q).1 % 1000 = 17 ∧ zcat st ≤ 8 then zk kX3_bestBy 4 7 L st (mX3_laysBackwards [zvr (some q), v0, v1] h) else none) ∧
  (∀ (L st : List ZV) (h : PH), zev kX3_bestBy 7 L st h = zev kX3_bestBy 8 L (zvi (-1) :: st) h) ∧
  (∀ (x0 x1 x2 x3 x4 x5 : ZV) (a : Int) (L st : List ZV) (h : PH) (hx : zisL x4 = false) , zev kX3_bestBy 8 (x0 :: x1 :: x2 :: x3 :: x4 :: x5 :: L) (zvi a :: st) h = zev kX3_bestBy 10 (x0 :: x1 :: x2 :: x3 :: x4 :: zvi a :: L) st h) ∧
  (∀ (L st : List ZV) (h : PH), zev kX3_bestBy 10 L st h = zev kX3_bestBy 11 L (zvi 0 :: st) h) ∧
  (∀ (x0 x1 x2 x3 x4 x5 x6 : ZV) (a : Int) (L st : List ZV) (h : PH) (hx : zisL x5 = false) , zev kX3_bestBy 11 (x0 :: x1 :: x2 :: x3 :: x4 :: x5 :: x6 :: L) (zvi a :: st) h = zev kX3_bestBy 13 (x0 :: x1 :: x2 :: x3 :: x4 :: x5 :: zvi a :: L) st h) ∧
  (∀ (a : Option Nat) (L st : List ZV) (h : PH), zev kX3_bestBy 15 (zvr a :: L) st h = zev kX3_bestBy 16 (zvr a :: L) (zvr a :: st) h) ∧
  (∀ (q : Nat) (L st : List ZV) (h : PH), zev kX3_bestBy 16 L (zvr (some q) :: st) h = if (ph_K h q).1 % 1000 = 17 then zev kX3_bestBy 19 L (zvi (ph_I h q 6) :: st) h else none) ∧
  (∀ (a b : Int) (L st : List ZV) (h : PH), zev kX3_bestBy 19 L (zvi b :: zvi a :: st) h = if a ≥ b then zev kX3_bestBy 86 L st h else zev kX3_bestBy 22 L st h) ∧
  (∀ (a : Option Nat) (L st : List ZV) (h : PH), zev kX3_bestBy 22 (zvr a :: L) st h = zev kX3_bestBy 23 (zvr a :: L) (zvr a :: st) h) ∧
  (∀ (q : Nat) (L st : List ZV) (h : PH), zev kX3_bestBy 23 L (zvr (some q) :: st) h = if (ph_K h q).1 % 1000 = 17 then zev kX3_bestBy 26 L (zvr (ph_R h q 0) :: st) h else none) ∧
  (∀ (x0 x1 x2 x3 x4 x5 : ZV) (a : Int) (L st : List ZV) (h : PH), zev kX3_bestBy 26 (x0 :: x1 :: x2 :: x3 :: x4 :: x5 :: zvi a :: L) st h = zev kX3_bestBy 28 (x0 :: x1 :: x2 :: x3 :: x4 :: x5 :: zvi a :: L) (zvi a :: st) h) ∧
  (∀ (j : Int) (q : Nat) (L st : List ZV) (h : PH), zev kX3_bestBy 28 L (zvi j :: zvr (some q) :: st) h = if 5 ≤ (ph_K h q).1 % 1000 ∧ (ph_K h q).1 % 1000 ≤ 7 ∧ 0 ≤ j ∧ j < (ph_K h q).2 then zev kX3_bestBy 29 L (zvr (ph_R h q j) :: st) h else none) ∧
  (∀ (q : Nat) (L st : List ZV) (h : PH), zev kX3_bestBy 29 L (zvr (some q) :: st) h = if (ph_K h q).1 % 1000 = 22 then zev kX3_bestBy 32 L (zvi (ph_I h q 3) :: st) h else none) ∧
  (∀ (x0 : ZV) (a : Int) (L st : List ZV) (h : PH), zev kX3_bestBy 32 (x0 :: zvi a :: L) st h = zev kX3_bestBy 33 (x0 :: zvi a :: L) (zvi a :: st) h) ∧
  (∀ (a b : Int) (L st : List ZV) (h : PH), zev kX3_bestBy 33 L (zvi b :: zvi a :: st) h = if a ≠ b then zev kX3_bestBy 80 L st h else zev kX3_bestBy 36 L st h) ∧
  (∀ (a : Option Nat) (L st : List ZV) (h : PH), zev kX3_bestBy 36 (zvr a :: L) st h = zev kX3_bestBy 37 (zvr a :: L) (zvr a :: st) h) ∧
  (∀ (q : Nat) (L st : List ZV) (h : PH), zev kX3_bestBy 37 L (zvr (some q) :: st) h = if (ph_K h q).1 % 1000 = 17 then zev kX3_bestBy 40 L (zvr (ph_R h q 1) :: st) h else none) ∧
  (∀ (x0 x1 x2 x3 x4 x5 : ZV) (a : Int) (L st : List ZV) (h : PH), zev kX3_bestBy 40 (x0 :: x1 :: x2 :: x3 :: x4 :: x5 :: zvi a :: L) st h = zev kX3_bestBy 42 (x0 :: x1 :: x2 :: x3 :: x4 :: x5 :: zvi a :: L) (zvi a :: st) h) ∧
  (∀ (j : Int) (q : Nat) (L st : List ZV) (h : PH), zev kX3_bestBy 42 L (zvi j :: zvr (some q) :: st) h = if (ph_K h q).1 % 1000 = 1 ∧ 0 ≤ j ∧ j < (ph_K h q).2 then zev kX3_bestBy 43 L (zvi (ph_I h q j) :: st) h else none) ∧
  (∀ (x0 x1 x2 : ZV) (a : Int) (L st : List ZV) (h : PH), zev kX3_bestBy 43 (x0 :: x1 :: x2 :: zvi a :: L) st h = zev kX3_bestBy 44 (x0 :: x1 :: x2 :: zvi a :: L) (zvi a :: st) h) ∧
  (∀ (a b : Int) (L st : List ZV) (h : PH), zev kX3_bestBy 44 L (zvi b :: zvi a :: st) h = if a < b then zev kX3_bestBy 80 L st h else zev kX3_bestBy 47 L st h) ∧
  (∀ (a : Option Nat) (L st : List ZV) (h : PH), zev kX3_bestBy 47 (zvr a :: L) st h = zev kX3_bestBy 48 (zvr a :: L) (zvr a :: st) h) ∧
  (∀ (q : Nat) (L st : List ZV) (h : PH), zev kX3_bestBy 48 L (zvr (some q) :: st) h = if (ph_K h q).1 % 1000 = 17 then zev kX3_bestBy 51 L (zvr (ph_R h q 3) :: st) h else none) ∧
  (∀ (x0 x1 x2 x3 x4 x5 : ZV) (a : Int) (L st : List ZV) (h : PH), zev kX3_bestBy 51 (x0 :: x1 :: x2 :: x3 :: x4 :: x5 :: zvi a :: L) st h = zev kX3_bestBy 53 (x0 :: x1 :: x2 :: x3 :: x4 :: x5 :: zvi a :: L) (zvi a :: st) h) ∧
  (∀ (j : Int) (q : Nat) (L st : List ZV) (h : PH), zev kX3_bestBy 53 L (zvi j :: zvr (some q) :: st) h = if (ph_K h q).1 % 1000 = 1 ∧ 0 ≤ j ∧ j < (ph_K h q).2 then zev kX3_bestBy 54 L (zvi (ph_I h q j) :: st) h else none) ∧
  (∀ (L st : List ZV) (h : PH), zev kX3_bestBy 54 L st h = zev kX3_bestBy 56 L (zvi 99999 :: st) h) ∧
  (∀ (a b : Int) (L st : List ZV) (h : PH), zev kX3_bestBy 56 L (zvi b :: zvi a :: st) h = if a ≥ b then zev kX3_bestBy 80 L st h else zev kX3_bestBy 59 L st h) ∧
  (∀ (x0 x1 x2 x3 x4 : ZV) (a : Int) (L st : List ZV) (h : PH), zev kX3_bestBy 59 (x0 :: x1 :: x2 :: x3 :: x4 :: zvi a :: L) st h = zev kX3_bestBy 61 (x0 :: x1 :: x2 :: x3 :: x4 :: zvi a :: L) (zvi a :: st) h) ∧
  (∀ (L st : List ZV) (h : PH), zev kX3_bestBy 61 L st h = zev kX3_bestBy 62 L (zvi (-1) :: st) h) ∧
  (∀ (a b : Int) (L st : List ZV) (h : PH), zev kX3_bestBy 62 L (zvi b :: zvi a :: st) h = if a = b then zev kX3_bestBy 76 L st h else zev kX3_bestBy 65 L st h) ∧
  (∀ (a : Option Nat) (L st : List ZV) (h : PH), zev kX3_bestBy 65 (zvr a :: L) st h = zev kX3_bestBy 66 (zvr a :: L) (zvr a :: st) h) ∧
  (∀ (x0 x1 x2 x3 x4 x5 : ZV) (a : Int) (L st : List ZV) (h : PH), zev kX3_bestBy 66 (x0 :: x1 :: x2 :: x3 :: x4 :: x5 :: zvi a :: L) st h = zev kX3_bestBy 68 (x0 :: x1 :: x2 :: x3 :: x4 :: x5 :: zvi a :: L) (zvi a :: st) h) ∧
  (∀ (x0 x1 x2 x3 x4 : ZV) (a : Int) (L st : List ZV) (h : PH), zev kX3_bestBy 68 (x0 :: x1 :: x2 :: x3 :: x4 :: zvi a :: L) st h = zev kX3_bestBy 70 (x0 :: x1 :: x2 :: x3 :: x4 :: zvi a :: L) (zvi a :: st) h) ∧
  (∀ (v0 v1 : ZV) (q : Nat) (L st : List ZV) (h : PH), zev kX3_bestBy 70 L (v1 :: v0 :: zvr (some q) :: st) h = if (ph_K h q).1 % 1000 = 17 ∧ zcat st ≤ 8 then zk kX3_bestBy 70 73 L st (mX3_isAhead [zvr (some q), v0, v1] h) else none) ∧
  (∀ (a : Int) (L st : List ZV) (h : PH), zev kX3_bestBy 73 L (zvi a :: st) h = if a = 0 then zev kX3_bestBy 80 L st h else zev kX3_bestBy 76 L st h) ∧
  (∀ (x0 x1 x2 x3 x4 x5 : ZV) (a : Int) (L st : List ZV) (h : PH), zev kX3_bestBy 76 (x0 :: x1 :: x2 :: x3 :: x4 :: x5 :: zvi a :: L) st h = zev kX3_bestBy 78 (x0 :: x1 :: x2 :: x3 :: x4 :: x5 :: zvi a :: L) (zvi a :: st) h) ∧
  (∀ (x0 x1 x2 x3 x4 x5 : ZV) (a : Int) (L st : List ZV) (h : PH) (hx : zisL x4 = false) , zev kX3_bestBy 78 (x0 :: x1 :: x2 :: x3 :: x4 :: x5 :: L) (zvi a :: st) h = zev kX3_bestBy 80 (x0 :: x1 :: x2 :: x3 :: x4 :: zvi a :: L) st h) ∧
  (∀ (x0 x1 x2 x3 x4 x5 : ZV) (a : Int) (L st : List ZV) (h : PH) (hx : zisL x5 = false) , zev kX3_bestBy 80 (x0 :: x1 :: x2 :: x3 :: x4 :: x5 :: zvi a :: L) st h = zev kX3_bestBy 83 (x0 :: x1 :: x2 :: x3 :: x4 :: x5 :: zvi (w32 (a + 1)) :: L) st h) ∧
  (∀ (L st : List ZV) (h : PH), zev kX3_bestBy 83 L st h = zev kX3_bestBy 13 L st h) ∧
  (∀ (x0 x1 x2 x3 x4 : ZV) (a : Int) (L st : List ZV) (h : PH), zev kX3_bestBy 86 (x0 :: x1 :: x2 :: x3 :: x4 :: zvi a :: L) st h = zev kX3_bestBy 88 (x0 :: x1 :: x2 :: x3 :: x4 :: zvi a :: L) (zvi a :: st) h) ∧
  (∀ (a : Int) (L : List ZV) (h : PH), zev kX3_bestBy 88 L [zvi a] h = zrv (zvi a) h) :=
  ⟨fun a L st h => e_ld0R (n := 1) rfl,
  fun x0 x1 a L st h => e_ld2I (n := 2) rfl,
  fun x0 x1 x2 x3 a L st h => e_ld4I (n := 4) rfl,
  fun v0 v1 q L st h => e_callV3 (F := mX3_laysBackwards) (kd := 17) (n := 7) rfl,
  fun L st h => e_push (v := zvi (-1)) (n := 8) rfl,
  fun x0 x1 x2 x3 x4 x5 a L st h hx => e_st5I (n := 10) rfl hx,
  fun L st h => e_push (v := zvi 0) (n := 11) rfl,
  fun x0 x1 x2 x3 x4 x5 x6 a L st h hx => e_st6I (n := 13) rfl hx,
  fun a L st h => e_ld0R (n := 16) rfl,
  fun q L st h => e_getI (kd := 17) (k := 6) (n := 19) rfl,
  fun a b L st h => e_cmpge (t := 86) (n := 22) rfl,
  fun a L st h => e_ld0R (n := 23) rfl,
  fun q L st h => e_getR (kd := 17) (k := 0) (n := 26) rfl,
  fun x0 x1 x2 x3 x4 x5 a L st h => e_ld6I (n := 28) rfl,
  fun j q L st h => e_aldR (n := 29) rfl,
  fun q L st h => e_getI (kd := 22) (k := 3) (n := 32) rfl,
  fun x0 a L st h => e_ld1I (n := 33) rfl,
  fun a b L st h => e_cmpne (t := 80) (n := 36) rfl,
  fun a L st h => e_ld0R (n := 37) rfl,
  fun q L st h => e_getR (kd := 17) (k := 1) (n := 40) rfl,
  fun x0 x1 x2 x3 x4 x5 a L st h => e_ld6I (n := 42) rfl,
  fun j q L st h => e_ald (kd := 1) (n := 43) rfl,
  fun x0 x1 x2 a L st h => e_ld3I (n := 44) rfl,
  fun a b L st h => e_cmplt (t := 80) (n := 47) rfl,
  fun a L st h => e_ld0R (n := 48) rfl,
  fun q L st h => e_getR (kd := 17) (k := 3) (n := 51) rfl,
  fun x0 x1 x2 x3 x4 x5 a L st h => e_ld6I (n := 53) rfl,
  fun j q L st h => e_ald (kd := 1) (n := 54) rfl,
  fun L st h => e_push (v := zvi 99999) (n := 56) rfl,
  fun a b L st h => e_cmpge (t := 80) (n := 59) rfl,
  fun x0 x1 x2 x3 x4 a L st h => e_ld5I (n := 61) rfl,
  fun L st h => e_push (v := zvi (-1)) (n := 62) rfl,
  fun a b L st h => e_cmpeq (t := 76) (n := 65) rfl,
  fun a L st h => e_ld0R (n := 66) rfl,
  fun x0 x1 x2 x3 x4 x5 a L st h => e_ld6I (n := 68) rfl,
  fun x0 x1 x2 x3 x4 a L st h => e_ld5I (n := 70) rfl,
  fun v0 v1 q L st h => e_callV3 (F := mX3_isAhead) (kd := 17) (n := 73) rfl,
  fun a L st h => e_ifeq (t := 80) (n := 76) rfl,
  fun x0 x1 x2 x3 x4 x5 a L st h => e_ld6I (n := 78) rfl,
  fun x0 x1 x2 x3 x4 x5 a L st h hx => e_st5I (n := 80) rfl hx,
  fun x0 x1 x2 x3 x4 x5 a L st h hx => e_iinc6 (d := 1) (n := 83) rfl hx,
  fun L st h => e_goto (t := 13) rfl,
  fun x0 x1 x2 x3 x4 a L st h => e_ld5I (n := 88) rfl,
  fun a L h => e_retI rfl⟩
theorem allX3_bestBy : zall yX3_bestBy cX3_bestBy 7 (some .int) 6 kX3_bestBy.1 :=
  ⟨k_aload_n dX3_bestBy_0,
  k_iload_n dX3_bestBy_1,
  k_iload dX3_bestBy_2,
  k_callV (y2 := yX3_laysBackwards) (C := RX3) (T0 := TX3) (ci := 1) dX3_bestBy_4 sndX3_laysBackwards rfl q1389 q1391 qs42 q136 q1392 (by decide +kernel) ⟨by decide, by decide⟩ (by decide) (by decide),
  k_iconst dX3_bestBy_7,
  k_istore dX3_bestBy_8,
  k_iconst dX3_bestBy_10,
  k_istore dX3_bestBy_11,
  k_iload dX3_bestBy_13,
  k_aload_n dX3_bestBy_15,
  k_getI (C := RX3) (T := TX3) (N := 9) (ci := 1) (k := 6) (ref := "LinkTimes$Search") dX3_bestBy_16 rfl in_X3 (by decide) q277 (Or.inl rfl) (fun _ _ _ => rfl),
  k_cmpge (t := 86) dX3_bestBy_19 (by decide),
  k_aload_n dX3_bestBy_22,
  k_getR (C := RX3) (T := TX3) (N := 9) (ci := 1) (k := 0) (ref := "LinkTimes$Search") dX3_bestBy_23 rfl in_X3 (by decide) q265 (Or.inl rfl) (fun _ _ _ => rfl),
  k_iload dX3_bestBy_26,
  k_aald dX3_bestBy_28,
  k_getIN (C := RX11) (T := TX11) (N := 9) (ci := 6) (k := 3) (ref := "LinkTimes$Departure") dX3_bestBy_29 rfl in_X11 (by decide) q858 (Or.inl rfl) (fun _ _ _ => rfl),
  k_iload_n dX3_bestBy_32,
  k_cmpne (t := 80) dX3_bestBy_33 (by decide),
  k_aload_n dX3_bestBy_36,
  k_getR (C := RX3) (T := TX3) (N := 9) (ci := 1) (k := 1) (ref := "LinkTimes$Search") dX3_bestBy_37 rfl in_X3 (by decide) q267 (Or.inl rfl) (fun _ _ _ => rfl),
  k_iload dX3_bestBy_40,
  k_iald dX3_bestBy_42,
  k_iload_n dX3_bestBy_43,
  k_cmplt (t := 80) dX3_bestBy_44 (by decide),
  k_aload_n dX3_bestBy_47,
  k_getR (C := RX3) (T := TX3) (N := 9) (ci := 1) (k := 3) (ref := "LinkTimes$Search") dX3_bestBy_48 rfl in_X3 (by decide) q271 (Or.inl rfl) (fun _ _ _ => rfl),
  k_iload dX3_bestBy_51,
  k_iald dX3_bestBy_53,
  k_ldc dX3_bestBy_54 q1365,
  k_cmpge (t := 80) dX3_bestBy_56 (by decide),
  k_iload dX3_bestBy_59,
  k_iconst dX3_bestBy_61,
  k_cmpeq (t := 76) dX3_bestBy_62 (by decide),
  k_aload_n dX3_bestBy_65,
  k_iload dX3_bestBy_66,
  k_iload dX3_bestBy_68,
  k_callV (y2 := yX3_isAhead) (C := RX3) (T0 := TX3) (ci := 1) dX3_bestBy_70 sndX3_isAhead rfl q1401 q1403 qs45 q136 q1404 (by decide +kernel) ⟨by decide, by decide⟩ (by decide) (by decide),
  k_ifeq (t := 80) dX3_bestBy_73 (by decide),
  k_iload dX3_bestBy_76,
  k_istore dX3_bestBy_78,
  k_iinc dX3_bestBy_80,
  k_goto (t := 13) dX3_bestBy_83 (by decide),
  k_iload dX3_bestBy_86,
  k_iret dX3_bestBy_88, trivial⟩
theorem sndX3_bestBy : MSound 6 yX3_bestBy (ws_ yX3_bestBy cX3_bestBy 7 (some .int)) mX3_bestBy := msound_M (by decide) allX3_bestBy (fun _ _ => rfl)
/-! LinkTimes$Search.best(III)I -/
noncomputable def kX3_best : ZM := ([(0, zi_ld 1 0 1), (1, zi_ld 0 1 2), (2, zi_ld 0 2 3), (3, zi_ld 0 3 4), (4, zi_callV mX3_arrives 17 4 7), (7, zi_st 0 4 9), (9, zi_ld 0 4 11), (11, zi_push (zvi (-2)) 13), (13, zi_cmp zc_eq 21 16), (16, zi_ld 0 1 17), (17, zi_ld 0 2 18), (18, zi_cmp zc_ne 25 21), (21, zi_push (zvi (-1)) 22), (22, zi_goto 34), (25, zi_ld 1 0 26), (26, zi_ld 0 1 27), (27, zi_ld 0 2 28), (28, zi_ld 0 3 29), (29, zi_ld 0 4 31), (31, zi_callV mX3_bestBy 17 5 34), (34, zi_retv 0)], fun _ _ => none)
noncomputable def mX3_best : ZF := zrunM kX3_best 5
theorem enX3_best (x0 : Option Nat) (x1 : Int) (x2 : Int) (x3 : Int) (h : PH) : mX3_best [zvr x0, zvi x1, zvi x2, zvi x3] h = zev kX3_best 0 [zvr x0, zvi x1, zvi x2, zvi x3, zvu] [] h := zrunM_eq rfl rfl
theorem rX3_best : (∀ (a : Option Nat) (L st : List ZV) (h : PH), zev kX3_best 0 (zvr a :: L) st h = zev kX3_best 1 (zvr a :: L) (zvr a :: st) h) ∧
  (∀ (x0 : ZV) (a : Int) (L st : List ZV) (h : PH), zev kX3_best 1 (x0 :: zvi a :: L) st h = zev kX3_best 2 (x0 :: zvi a :: L) (zvi a :: st) h) ∧
  (∀ (x0 x1 : ZV) (a : Int) (L st : List ZV) (h : PH), zev kX3_best 2 (x0 :: x1 :: zvi a :: L) st h = zev kX3_best 3 (x0 :: x1 :: zvi a :: L) (zvi a :: st) h) ∧
  (∀ (x0 x1 x2 : ZV) (a : Int) (L st : List ZV) (h : PH), zev kX3_best 3 (x0 :: x1 :: x2 :: zvi a :: L) st h = zev kX3_best 4 (x0 :: x1 :: x2 :: zvi a :: L) (zvi a :: st) h) ∧
  (∀ (v0 v1 v2 : ZV) (q : Nat) (L st : List ZV) (h : PH), zev kX3_best 4 L (v2 :: v1 :: v0 :: zvr (some q) :: st) h = if (ph_K h q).1 % 1000 = 17 ∧ zcat st ≤ 8 then zk kX3_best 4 7 L st (mX3_arrives [zvr (some q), v0, v1, v2] h) else none) ∧
  (∀ (x0 x1 x2 x3 x4 : ZV) (a : Int) (L st : List ZV) (h : PH) (hx : zisL x3 = false) , zev kX3_best 7 (x0 :: x1 :: x2 :: x3 :: x4 :: L) (zvi a :: st) h = zev kX3_best 9 (x0 :: x1 :: x2 :: x3 :: zvi a :: L) st h) ∧
  (∀ (x0 x1 x2 x3 : ZV) (a : Int) (L st : List ZV) (h : PH), zev kX3_best 9 (x0 :: x1 :: x2 :: x3 :: zvi a :: L) st h = zev kX3_best 11 (x0 :: x1 :: x2 :: x3 :: zvi a :: L) (zvi a :: st) h) ∧
  (∀ (L st : List ZV) (h : PH), zev kX3_best 11 L st h = zev kX3_best 13 L (zvi (-2) :: st) h) ∧
  (∀ (a b : Int) (L st : List ZV) (h : PH), zev kX3_best 13 L (zvi b :: zvi a :: st) h = if a = b then zev kX3_best 21 L st h else zev kX3_best 16 L st h) ∧
  (∀ (x0 : ZV) (a : Int) (L st : List ZV) (h : PH), zev kX3_best 16 (x0 :: zvi a :: L) st h = zev kX3_best 17 (x0 :: zvi a :: L) (zvi a :: st) h) ∧
  (∀ (x0 x1 : ZV) (a : Int) (L st : List ZV) (h : PH), zev kX3_best 17 (x0 :: x1 :: zvi a :: L) st h = zev kX3_best 18 (x0 :: x1 :: zvi a :: L) (zvi a :: st) h) ∧
  (∀ (a b : Int) (L st : List ZV) (h : PH), zev kX3_best 18 L (zvi b :: zvi a :: st) h = if a ≠ b then zev kX3_best 25 L st h else zev kX3_best 21 L st h) ∧
  (∀ (L st : List ZV) (h : PH), zev kX3_best 21 L st h = zev kX3_best 22 L (zvi (-1) :: st) h) ∧
  (∀ (L st : List ZV) (h : PH), zev kX3_best 22 L st h = zev kX3_best 34 L st h) ∧
  (∀ (a : Option Nat) (L st : List ZV) (h : PH), zev kX3_best 25 (zvr a :: L) st h = zev kX3_best 26 (zvr a :: L) (zvr a :: st) h) ∧
  (∀ (x0 : ZV) (a : Int) (L st : List ZV) (h : PH), zev kX3_best 26 (x0 :: zvi a :: L) st h = zev kX3_best 27 (x0 :: zvi a :: L) (zvi a :: st) h) ∧
  (∀ (x0 x1 : ZV) (a : Int) (L st : List ZV) (h : PH), zev kX3_best 27 (x0 :: x1 :: zvi a :: L) st h = zev kX3_best 28 (x0 :: x1 :: zvi a :: L) (zvi a :: st) h) ∧
  (∀ (x0 x1 x2 : ZV) (a : Int) (L st : List ZV) (h : PH), zev kX3_best 28 (x0 :: x1 :: x2 :: zvi a :: L) st h = zev kX3_best 29 (x0 :: x1 :: x2 :: zvi a :: L) (zvi a :: st) h) ∧
  (∀ (x0 x1 x2 x3 : ZV) (a : Int) (L st : List ZV) (h : PH), zev kX3_best 29 (x0 :: x1 :: x2 :: x3 :: zvi a :: L) st h = zev kX3_best 31 (x0 :: x1 :: x2 :: x3 :: zvi a :: L) (zvi a :: st) h) ∧
  (∀ (v0 v1 v2 v3 : ZV) (q : Nat) (L st : List ZV) (h : PH), zev kX3_best 31 L (v3 :: v2 :: v1 :: v0 :: zvr (some q) :: st) h = if (ph_K h q).1 % 1000 = 17 ∧ zcat st ≤ 8 then zk kX3_best 31 34 L st (mX3_bestBy [zvr (some q), v0, v1, v2, v3] h) else none) ∧
  (∀ (a : Int) (L : List ZV) (h : PH), zev kX3_best 34 L [zvi a] h = zrv (zvi a) h) :=
  ⟨fun a L st h => e_ld0R (n := 1) rfl,
  fun x0 a L st h => e_ld1I (n := 2) rfl,
  fun x0 x1 a L st h => e_ld2I (n := 3) rfl,
  fun x0 x1 x2 a L st h => e_ld3I (n := 4) rfl,
  fun v0 v1 v2 q L st h => e_callV4 (F := mX3_arrives) (kd := 17) (n := 7) rfl,
  fun x0 x1 x2 x3 x4 a L st h hx => e_st4I (n := 9) rfl hx,
  fun x0 x1 x2 x3 a L st h => e_ld4I (n := 11) rfl,
  fun L st h => e_push (v := zvi (-2)) (n := 13) rfl,
  fun a b L st h => e_cmpeq (t := 21) (n := 16) rfl,
  fun x0 a L st h => e_ld1I (n := 17) rfl,
  fun x0 x1 a L st h => e_ld2I (n := 18) rfl,
  fun a b L st h => e_cmpne (t := 25) (n := 21) rfl,
  fun L st h => e_push (v := zvi (-1)) (n := 22) rfl,
  fun L st h => e_goto (t := 34) rfl,
  fun a L st h => e_ld0R (n := 26) rfl,
  fun x0 a L st h => e_ld1I (n := 27) rfl,
  fun x0 x1 a L st h => e_ld2I (n := 28) rfl,
  fun x0 x1 x2 a L st h => e_ld3I (n := 29) rfl,
  fun x0 x1 x2 x3 a L st h => e_ld4I (n := 31) rfl,
  fun v0 v1 v2 v3 q L st h => e_callV5 (F := mX3_bestBy) (kd := 17) (n := 34) rfl,
  fun a L h => e_retI rfl⟩
theorem allX3_best : zall yX3_best cX3_best 5 (some .int) 8 kX3_best.1 :=
  ⟨k_aload_n dX3_best_0,
  k_iload_n dX3_best_1,
  k_iload_n dX3_best_2,
  k_iload_n dX3_best_3,
  k_callV (y2 := yX3_arrives) (C := RX3) (T0 := TX3) (ci := 1) dX3_best_4 sndX3_arrives rfl q1384 q1354 q1355 q136 q1356 (by decide +kernel) ⟨by decide, by decide⟩ (by decide) (by decide),
  k_istore dX3_best_7,
  k_iload dX3_best_9,
  k_bipush dX3_best_11,
  k_cmpeq (t := 21) dX3_best_13 (by decide),
  k_iload_n dX3_best_16,
  k_iload_n dX3_best_17,
  k_cmpne (t := 25) dX3_best_18 (by decide),
  k_iconst dX3_best_21,
  k_goto (t := 34) dX3_best_22 (by decide),
  k_aload_n dX3_best_25,
  k_iload_n dX3_best_26,
  k_iload_n dX3_best_27,
  k_iload_n dX3_best_28,
  k_iload dX3_best_29,
  k_callV (y2 := yX3_bestBy) (C := RX3) (T0 := TX3) (ci := 1) dX3_best_31 sndX3_bestBy rfl q1385 q1386 q1387 q136 q1388 (by decide +kernel) ⟨by decide, by decide⟩ (by decide) (by decide),
  k_iret dX3_best_34, trivial⟩
theorem sndX3_best : MSound 8 yX3_best (ws_ yX3_best cX3_best 5 (some .int)) mX3_best := msound_M (by decide) allX3_best (fun _ _ => rfl)
/-! LinkTimes$Search.laysFirst(I)V -/
noncomputable def kX3_laysFirst : ZM := ([(0, zi_ld 1 0 1), (1, zi_getI 17 6 4), (4, zi_push (zvi 1) 5), (5, zi_bin (fun a b => w32 (a - b)) 6), (6, zi_st 0 2 7), (7, zi_ld 0 2 8), (8, zi_if (fun a => zc_lt a 0) 101 11), (11, zi_ld 1 0 12), (12, zi_getR 17 3 15), (15, zi_ld 0 2 16), (16, zi_ld 1 0 17), (17, zi_getR 17 0 20), (20, zi_ld 0 2 21), (21, zi_aldR 22), (22, zi_getI 22 4 25), (25, zi_ld 0 1 26), (26, zi_cmp zc_ne 38 29), (29, zi_ld 1 0 30), (30, zi_getR 17 2 33), (33, zi_ld 0 2 34), (34, zi_ald 1 35), (35, zi_goto 40), (38, zi_push (zvi 99999) 40), (40, zi_ast 41), (41, zi_ld 0 2 42), (42, zi_push (zvi 1) 43), (43, zi_bin (fun a b => w32 (a + b)) 44), (44, zi_st 0 3 45), (45, zi_ld 0 3 46), (46, zi_ld 1 0 47), (47, zi_getI 17 6 50), (50, zi_cmp zc_ge 95 53), (53, zi_ld 1 0 54), (54, zi_getR 17 3 57), (57, zi_ld 0 3 58), (58, zi_ald 1 59), (59, zi_ld 1 0 60), (60, zi_getR 17 3 63), (63, zi_ld 0 2 64), (64, zi_ald 1 65), (65, zi_cmp zc_ge 89 68), (68, zi_ld 1 0 69), (69, zi_ld 0 2 70), (70, zi_ld 0 3 71), (71, zi_callV mX3_goesOn 17 3 74), (74, zi_if (fun a => zc_eq a 0) 89 77), (77, zi_ld 1 0 78), (78, zi_getR 17 3 81), (81, zi_ld 0 2 82), (82, zi_ld 1 0 83), (83, zi_getR 17 3 86), (86, zi_ld 0 3 87), (87, zi_ald 1 88), (88, zi_ast 89), (89, zi_iinc 3 1 92), (92, zi_goto 45), (95, zi_iinc 2 (-1) 98), (98, zi_goto 7), (101, zi_ret)], fun _ _ => none)
noncomputable def mX3_laysFirst : ZF := zrunM kX3_laysFirst 4
theorem enX3_laysFirst (x0 : Option Nat) (x1 : Int) (h : PH) : mX3_laysFirst [zvr x0, zvi x1] h = zev kX3_laysFirst 0 [zvr x0, zvi x1, zvu, zvu] [] h := zrunM_eq rfl rfl
theorem hdX3_laysFirst_7 (x0 x1 : ZV) (a : Int) (L st : List ZV) (h : PH) : zev kX3_laysFirst 7 (x0 :: x1 :: zvi a :: L) st h = zev kX3_laysFirst 8 (x0 :: x1 :: zvi a :: L) (zvi a :: st) h := e_ld2I (n := 8) rfl
theorem hdX3_laysFirst_45 (x0 x1 x2 : ZV) (a : Int) (L st : List ZV) (h : PH) : zev kX3_laysFirst 45 (x0 :: x1 :: x2 :: zvi a :: L) st h = zev kX3_laysFirst 46 (x0 :: x1 :: x2 :: zvi a :: L) (zvi a :: st) h := e_ld3I (n := 46) rfl
theorem rX3_laysFirst : (∀ (a : Option Nat) (L st : List ZV) (h : PH), zev kX3_laysFirst 0 (zvr a :: L) st h = zev kX3_laysFirst 1 (zvr a :: L) (zvr a :: st) h) ∧
  (∀ (q : Nat) (L st : List ZV) (h : PH), zev kX3_laysFirst 1 L (zvr (some q) :: st) h = if (ph_K h q).1 % 1000 = 17 then zev kX3_laysFirst 4 L (zvi (ph_I h q 6) :: st) h else none) ∧
  (∀ (L st : List ZV) (h : PH), zev kX3_laysFirst 4 L st h = zev kX3_laysFirst 5 L (zvi 1 :: st) h) ∧
  (∀ (a b : Int) (L st : List ZV) (h : PH), zev kX3_laysFirst 5 L (zvi b :: zvi a :: st) h = zev kX3_laysFirst 6 L (zvi (w32 (a - b)) :: st) h) ∧
  (∀ (x0 x1 x2 : ZV) (a : Int) (L st : List ZV) (h : PH) (hx : zisL x1 = false) , zev kX3_laysFirst 6 (x0 :: x1 :: x2 :: L) (zvi a :: st) h = zev kX3_laysFirst 7 (x0 :: x1 :: zvi a :: L) st h) ∧
  (∀ (a : Int) (L st : List ZV) (h : PH), zev kX3_laysFirst 8 L (zvi a :: st) h = if a < 0 then zev kX3_laysFirst 101 L st h else zev kX3_laysFirst 11 L st h) ∧
  (∀ (a : Option Nat) (L st : List ZV) (h : PH), zev kX3_laysFirst 11 (zvr a :: L) st h = zev kX3_laysFirst 12 (zvr a :: L) (zvr a :: st) h) ∧
  (∀ (q : Nat) (L st : List ZV) (h : PH), zev kX3_laysFirst 12 L (zvr (some q) :: st) h = if (ph_K h q).1 % 1000 = 17 then zev kX3_laysFirst 15 L (zvr (ph_R h q 3) :: st) h else none) ∧
  (∀ (x0 x1 : ZV) (a : Int) (L st : List ZV) (h : PH), zev kX3_laysFirst 15 (x0 :: x1 :: zvi a :: L) st h = zev kX3_laysFirst 16 (x0 :: x1 :: zvi a :: L) (zvi a :: st) h) ∧
  (∀ (a : Option Nat) (L st : List ZV) (h : PH), zev kX3_laysFirst 16 (zvr a :: L) st h = zev kX3_laysFirst 17 (zvr a :: L) (zvr a :: st) h) ∧
  (∀ (q : Nat) (L st : List ZV) (h : PH), zev kX3_laysFirst 17 L (zvr (some q) :: st) h = if (ph_K h q).1 % 1000 = 17 then zev kX3_laysFirst 20 L (zvr (ph_R h q 0) :: st) h else none) ∧
  (∀ (x0 x1 : ZV) (a : Int) (L st : List ZV) (h : PH), zev kX3_laysFirst 20 (x0 :: x1 :: zvi a :: L) st h = zev kX3_laysFirst 21 (x0 :: x1 :: zvi a :: L) (zvi a :: st) h) ∧
  (∀ (j : Int) (q : Nat) (L st : List ZV) (h : PH), zev kX3_laysFirst 21 L (zvi j :: zvr (some q) :: st) h = if 5 ≤ (ph_K h q).1 % 1000 ∧ (ph_K h q).1 % 1000 ≤ 7 ∧ 0 ≤ j ∧ j < (ph_K h q).2 then zev kX3_laysFirst 22 L (zvr (ph_R h q j) :: st) h else none) ∧
  (∀ (q : Nat) (L st : List ZV) (h : PH), zev kX3_laysFirst 22 L (zvr (some q) :: st) h = if (ph_K h q).1 % 1000 = 22 then zev kX3_laysFirst 25 L (zvi (ph_I h q 4) :: st) h else none) ∧
  (∀ (x0 : ZV) (a : Int) (L st : List ZV) (h : PH), zev kX3_laysFirst 25 (x0 :: zvi a :: L) st h = zev kX3_laysFirst 26 (x0 :: zvi a :: L) (zvi a :: st) h) ∧
  (∀ (a b : Int) (L st : List ZV) (h : PH), zev kX3_laysFirst 26 L (zvi b :: zvi a :: st) h = if a ≠ b then zev kX3_laysFirst 38 L st h else zev kX3_laysFirst 29 L st h) ∧
  (∀ (a : Option Nat) (L st : List ZV) (h : PH), zev kX3_laysFirst 29 (zvr a :: L) st h = zev kX3_laysFirst 30 (zvr a :: L) (zvr a :: st) h) ∧
  (∀ (q : Nat) (L st : List ZV) (h : PH), zev kX3_laysFirst 30 L (zvr (some q) :: st) h = if (ph_K h q).1 % 1000 = 17 then zev kX3_laysFirst 33 L (zvr (ph_R h q 2) :: st) h else none) ∧
  (∀ (x0 x1 : ZV) (a : Int) (L st : List ZV) (h : PH), zev kX3_laysFirst 33 (x0 :: x1 :: zvi a :: L) st h = zev kX3_laysFirst 34 (x0 :: x1 :: zvi a :: L) (zvi a :: st) h) ∧
  (∀ (j : Int) (q : Nat) (L st : List ZV) (h : PH), zev kX3_laysFirst 34 L (zvi j :: zvr (some q) :: st) h = if (ph_K h q).1 % 1000 = 1 ∧ 0 ≤ j ∧ j < (ph_K h q).2 then zev kX3_laysFirst 35 L (zvi (ph_I h q j) :: st) h else none) ∧
  (∀ (L st : List ZV) (h : PH), zev kX3_laysFirst 35 L st h = zev kX3_laysFirst 40 L st h) ∧
  (∀ (L st : List ZV) (h : PH), zev kX3_laysFirst 38 L st h = zev kX3_laysFirst 40 L (zvi 99999 :: st) h) ∧
  (∀ (x j : Int) (q : Nat) (L st : List ZV) (h : PH), zev kX3_laysFirst 40 L (zvi x :: zvi j :: zvr (some q) :: st) h = if (ph_K h q).1 = 1 ∧ 0 ≤ j ∧ j < (ph_K h q).2 then zev kX3_laysFirst 41 L st (st_I h q j x) else none) ∧
  (∀ (x0 x1 : ZV) (a : Int) (L st : List ZV) (h : PH), zev kX3_laysFirst 41 (x0 :: x1 :: zvi a :: L) st h = zev kX3_laysFirst 42 (x0 :: x1 :: zvi a :: L) (zvi a :: st) h) ∧
  (∀ (L st : List ZV) (h : PH), zev kX3_laysFirst 42 L st h = zev kX3_laysFirst 43 L (zvi 1 :: st) h) ∧
  (∀ (a b : Int) (L st : List ZV) (h : PH), zev kX3_laysFirst 43 L (zvi b :: zvi a :: st) h = zev kX3_laysFirst 44 L (zvi (w32 (a + b)) :: st) h) ∧
  (∀ (x0 x1 x2 x3 : ZV) (a : Int) (L st : List ZV) (h : PH) (hx : zisL x2 = false) , zev kX3_laysFirst 44 (x0 :: x1 :: x2 :: x3 :: L) (zvi a :: st) h = zev kX3_laysFirst 45 (x0 :: x1 :: x2 :: zvi a :: L) st h) ∧
  (∀ (a : Option Nat) (L st : List ZV) (h : PH), zev kX3_laysFirst 46 (zvr a :: L) st h = zev kX3_laysFirst 47 (zvr a :: L) (zvr a :: st) h) ∧
  (∀ (q : Nat) (L st : List ZV) (h : PH), zev kX3_laysFirst 47 L (zvr (some q) :: st) h = if (ph_K h q).1 % 1000 = 17 then zev kX3_laysFirst 50 L (zvi (ph_I h q 6) :: st) h else none) ∧
  (∀ (a b : Int) (L st : List ZV) (h : PH), zev kX3_laysFirst 50 L (zvi b :: zvi a :: st) h = if a ≥ b then zev kX3_laysFirst 95 L st h else zev kX3_laysFirst 53 L st h) ∧
  (∀ (a : Option Nat) (L st : List ZV) (h : PH), zev kX3_laysFirst 53 (zvr a :: L) st h = zev kX3_laysFirst 54 (zvr a :: L) (zvr a :: st) h) ∧
  (∀ (q : Nat) (L st : List ZV) (h : PH), zev kX3_laysFirst 54 L (zvr (some q) :: st) h = if (ph_K h q).1 % 1000 = 17 then zev kX3_laysFirst 57 L (zvr (ph_R h q 3) :: st) h else none) ∧
  (∀ (x0 x1 x2 : ZV) (a : Int) (L st : List ZV) (h : PH), zev kX3_laysFirst 57 (x0 :: x1 :: x2 :: zvi a :: L) st h = zev kX3_laysFirst 58 (x0 :: x1 :: x2 :: zvi a :: L) (zvi a :: st) h) ∧
  (∀ (j : Int) (q : Nat) (L st : List ZV) (h : PH), zev kX3_laysFirst 58 L (zvi j :: zvr (some q) :: st) h = if (ph_K h q).1 % 1000 = 1 ∧ 0 ≤ j ∧ j < (ph_K h q).2 then zev kX3_laysFirst 59 L (zvi (ph_I h q j) :: st) h else none) ∧
  (∀ (a : Option Nat) (L st : List ZV) (h : PH), zev kX3_laysFirst 59 (zvr a :: L) st h = zev kX3_laysFirst 60 (zvr a :: L) (zvr a :: st) h) ∧
  (∀ (q : Nat) (L st : List ZV) (h : PH), zev kX3_laysFirst 60 L (zvr (some q) :: st) h = if (ph_K h q).1 % 1000 = 17 then zev kX3_laysFirst 63 L (zvr (ph_R h q 3) :: st) h else none) ∧
  (∀ (x0 x1 : ZV) (a : Int) (L st : List ZV) (h : PH), zev kX3_laysFirst 63 (x0 :: x1 :: zvi a :: L) st h = zev kX3_laysFirst 64 (x0 :: x1 :: zvi a :: L) (zvi a :: st) h) ∧
  (∀ (j : Int) (q : Nat) (L st : List ZV) (h : PH), zev kX3_laysFirst 64 L (zvi j :: zvr (some q) :: st) h = if (ph_K h q).1 % 1000 = 1 ∧ 0 ≤ j ∧ j < (ph_K h q).2 then zev kX3_laysFirst 65 L (zvi (ph_I h q j) :: st) h else none) ∧
  (∀ (a b : Int) (L st : List ZV) (h : PH), zev kX3_laysFirst 65 L (zvi b :: zvi a :: st) h = if a ≥ b then zev kX3_laysFirst 89 L st h else zev kX3_laysFirst 68 L st h) ∧
  (∀ (a : Option Nat) (L st : List ZV) (h : PH), zev kX3_laysFirst 68 (zvr a :: L) st h = zev kX3_laysFirst 69 (zvr a :: L) (zvr a :: st) h) ∧
  (∀ (x0 x1 : ZV) (a : Int) (L st : List ZV) (h : PH), zev kX3_laysFirst 69 (x0 :: x1 :: zvi a :: L) st h = zev kX3_laysFirst 70 (x0 :: x1 :: zvi a :: L) (zvi a :: st) h) ∧
  (∀ (x0 x1 x2 : ZV) (a : Int) (L st : List ZV) (h : PH), zev kX3_laysFirst 70 (x0 :: x1 :: x2 :: zvi a :: L) st h = zev kX3_laysFirst 71 (x0 :: x1 :: x2 :: zvi a :: L) (zvi a :: st) h) ∧
  (∀ (v0 v1 : ZV) (q : Nat) (L st : List ZV) (h : PH), zev kX3_laysFirst 71 L (v1 :: v0 :: zvr (some q) :: st) h = if (ph_K h q).1 % 1000 = 17 ∧ zcat st ≤ 8 then zk kX3_laysFirst 71 74 L st (mX3_goesOn [zvr (some q), v0, v1] h) else none) ∧
  (∀ (a : Int) (L st : List ZV) (h : PH), zev kX3_laysFirst 74 L (zvi a :: st) h = if a = 0 then zev kX3_laysFirst 89 L st h else zev kX3_laysFirst 77 L st h) ∧
  (∀ (a : Option Nat) (L st : List ZV) (h : PH), zev kX3_laysFirst 77 (zvr a :: L) st h = zev kX3_laysFirst 78 (zvr a :: L) (zvr a :: st) h) ∧
  (∀ (q : Nat) (L st : List ZV) (h : PH), zev kX3_laysFirst 78 L (zvr (some q) :: st) h = if (ph_K h q).1 % 1000 = 17 then zev kX3_laysFirst 81 L (zvr (ph_R h q 3) :: st) h else none) ∧
  (∀ (x0 x1 : ZV) (a : Int) (L st : List ZV) (h : PH), zev kX3_laysFirst 81 (x0 :: x1 :: zvi a :: L) st h = zev kX3_laysFirst 82 (x0 :: x1 :: zvi a :: L) (zvi a :: st) h) ∧
  (∀ (a : Option Nat) (L st : List ZV) (h : PH), zev kX3_laysFirst 82 (zvr a :: L) st h = zev kX3_laysFirst 83 (zvr a :: L) (zvr a :: st) h) ∧
  (∀ (q : Nat) (L st : List ZV) (h : PH), zev kX3_laysFirst 83 L (zvr (some q) :: st) h = if (ph_K h q).1 % 1000 = 17 then zev kX3_laysFirst 86 L (zvr (ph_R h q 3) :: st) h else none) ∧
  (∀ (x0 x1 x2 : ZV) (a : Int) (L st : List ZV) (h : PH), zev kX3_laysFirst 86 (x0 :: x1 :: x2 :: zvi a :: L) st h = zev kX3_laysFirst 87 (x0 :: x1 :: x2 :: zvi a :: L) (zvi a :: st) h) ∧
  (∀ (j : Int) (q : Nat) (L st : List ZV) (h : PH), zev kX3_laysFirst 87 L (zvi j :: zvr (some q) :: st) h = if (ph_K h q).1 % 1000 = 1 ∧ 0 ≤ j ∧ j < (ph_K h q).2 then zev kX3_laysFirst 88 L (zvi (ph_I h q j) :: st) h else none) ∧
  (∀ (x j : Int) (q : Nat) (L st : List ZV) (h : PH), zev kX3_laysFirst 88 L (zvi x :: zvi j :: zvr (some q) :: st) h = if (ph_K h q).1 = 1 ∧ 0 ≤ j ∧ j < (ph_K h q).2 then zev kX3_laysFirst 89 L st (st_I h q j x) else none) ∧
  (∀ (x0 x1 x2 : ZV) (a : Int) (L st : List ZV) (h : PH) (hx : zisL x2 = false) , zev kX3_laysFirst 89 (x0 :: x1 :: x2 :: zvi a :: L) st h = zev kX3_laysFirst 92 (x0 :: x1 :: x2 :: zvi (w32 (a + 1)) :: L) st h) ∧
  (∀ (L st : List ZV) (h : PH), zev kX3_laysFirst 92 L st h = zev kX3_laysFirst 45 L st h) ∧
  (∀ (x0 x1 : ZV) (a : Int) (L st : List ZV) (h : PH) (hx : zisL x1 = false) , zev kX3_laysFirst 95 (x0 :: x1 :: zvi a :: L) st h = zev kX3_laysFirst 98 (x0 :: x1 :: zvi (w32 (a + (-1))) :: L) st h) ∧
  (∀ (L st : List ZV) (h : PH), zev kX3_laysFirst 98 L st h = zev kX3_laysFirst 7 L st h) ∧
  (∀ (L : List ZV) (h : PH), zev kX3_laysFirst 101 L [] h = zr0 h) :=
  ⟨fun a L st h => e_ld0R (n := 1) rfl,
  fun q L st h => e_getI (kd := 17) (k := 6) (n := 4) rfl,
  fun L st h => e_push (v := zvi 1) (n := 5) rfl,
  fun a b L st h => e_bin (f := (fun a b => w32 (a - b))) (n := 6) rfl,
  fun x0 x1 x2 a L st h hx => e_st2I (n := 7) rfl hx,
  fun a L st h => e_iflt (t := 101) (n := 11) rfl,
  fun a L st h => e_ld0R (n := 12) rfl,
  fun q L st h => e_getR (kd := 17) (k := 3) (n := 15) rfl,
  fun x0 x1 a L st h => e_ld2I (n := 16) rfl,
  fun a L st h => e_ld0R (n := 17) rfl,
  fun q L st h => e_getR (kd := 17) (k := 0) (n := 20) rfl,
  fun x0 x1 a L st h => e_ld2I (n := 21) rfl,
  fun j q L st h => e_aldR (n := 22) rfl,
  fun q L st h => e_getI (kd := 22) (k := 4) (n := 25) rfl,
  fun x0 a L st h => e_ld1I (n := 26) rfl,
  fun a b L st h => e_cmpne (t := 38) (n := 29) rfl,
  fun a L st h => e_ld0R (n := 30) rfl,
  fun q L st h => e_getR (kd := 17) (k := 2) (n := 33) rfl,
  fun x0 x1 a L st h => e_ld2I (n := 34) rfl,
  fun j q L st h => e_ald (kd := 1) (n := 35) rfl,
  fun L st h => e_goto (t := 40) rfl,
  fun L st h => e_push (v := zvi 99999) (n := 40) rfl,
  fun x j q L st h => e_ast (n := 41) rfl,
  fun x0 x1 a L st h => e_ld2I (n := 42) rfl,
  fun L st h => e_push (v := zvi 1) (n := 43) rfl,
  fun a b L st h => e_bin (f := (fun a b => w32 (a + b))) (n := 44) rfl,
  fun x0 x1 x2 x3 a L st h hx => e_st3I (n := 45) rfl hx,
  fun a L st h => e_ld0R (n := 47) rfl,
  fun q L st h => e_getI (kd := 17) (k := 6) (n := 50) rfl,
  fun a b L st h => e_cmpge (t := 95) (n := 53) rfl,
  fun a L st h => e_ld0R (n := 54) rfl,
  fun q L st h => e_getR (kd := 17) (k := 3) (n := 57) rfl,
  fun x0 x1 x2 a L st h => e_ld3I (n := 58) rfl,
  fun j q L st h => e_ald (kd := 1) (n := 59) rfl,
  fun a L st h => e_ld0R (n := 60) rfl,
  fun q L st h => e_getR (kd := 17) (k := 3) (n := 63) rfl,
  fun x0 x1 a L st h => e_ld2I (n := 64) rfl,
  fun j q L st h => e_ald (kd := 1) (n := 65) rfl,
  fun a b L st h => e_cmpge (t := 89) (n := 68) rfl,
  fun a L st h => e_ld0R (n := 69) rfl,
  fun x0 x1 a L st h => e_ld2I (n := 70) rfl,
  fun x0 x1 x2 a L st h => e_ld3I (n := 71) rfl,
  fun v0 v1 q L st h => e_callV3 (F := mX3_goesOn) (kd := 17) (n := 74) rfl,
  fun a L st h => e_ifeq (t := 89) (n := 77) rfl,
  fun a L st h => e_ld0R (n := 78) rfl,
  fun q L st h => e_getR (kd := 17) (k := 3) (n := 81) rfl,
  fun x0 x1 a L st h => e_ld2I (n := 82) rfl,
  fun a L st h => e_ld0R (n := 83) rfl,
  fun q L st h => e_getR (kd := 17) (k := 3) (n := 86) rfl,
  fun x0 x1 x2 a L st h => e_ld3I (n := 87) rfl,
  fun j q L st h => e_ald (kd := 1) (n := 88) rfl,
  fun x j q L st h => e_ast (n := 89) rfl,
  fun x0 x1 x2 a L st h hx => e_iinc3 (d := 1) (n := 92) rfl hx,
  fun L st h => e_goto (t := 45) rfl,
  fun x0 x1 a L st h hx => e_iinc2 (d := (-1)) (n := 98) rfl hx,
  fun L st h => e_goto (t := 7) rfl,
  fun L h => e_ret rfl⟩
theorem allX3_laysFirst : zall yX3_laysFirst cX3_laysFirst 4 none 5 kX3_laysFirst.1 :=
  ⟨k_aload_n dX3_laysFirst_0,
  k_getI (C := RX3) (T := TX3) (N := 9) (ci := 1) (k := 6) (ref := "LinkTimes$Search") dX3_laysFirst_1 rfl in_X3 (by decide) q277 (Or.inl rfl) (fun _ _ _ => rfl),
  k_iconst dX3_laysFirst_4,
  k_isub dX3_laysFirst_5,
  k_istore_n dX3_laysFirst_6,
  k_iload_n dX3_laysFirst_7,
  k_iflt (t := 101) dX3_laysFirst_8 (by decide),
  k_aload_n dX3_laysFirst_11,
  k_getR (C := RX3) (T := TX3) (N := 9) (ci := 1) (k := 3) (ref := "LinkTimes$Search") dX3_laysFirst_12 rfl in_X3 (by decide) q271 (Or.inl rfl) (fun _ _ _ => rfl),
  k_iload_n dX3_laysFirst_15,
  k_aload_n dX3_laysFirst_16,
  k_getR (C := RX3) (T := TX3) (N := 9) (ci := 1) (k := 0) (ref := "LinkTimes$Search") dX3_laysFirst_17 rfl in_X3 (by decide) q265 (Or.inl rfl) (fun _ _ _ => rfl),
  k_iload_n dX3_laysFirst_20,
  k_aald dX3_laysFirst_21,
  k_getIN (C := RX11) (T := TX11) (N := 9) (ci := 6) (k := 4) (ref := "LinkTimes$Departure") dX3_laysFirst_22 rfl in_X11 (by decide) q861 (Or.inl rfl) (fun _ _ _ => rfl),
  k_iload_n dX3_laysFirst_25,
  k_cmpne (t := 38) dX3_laysFirst_26 (by decide),
  k_aload_n dX3_laysFirst_29,
  k_getR (C := RX3) (T := TX3) (N := 9) (ci := 1) (k := 2) (ref := "LinkTimes$Search") dX3_laysFirst_30 rfl in_X3 (by decide) q269 (Or.inl rfl) (fun _ _ _ => rfl),
  k_iload_n dX3_laysFirst_33,
  k_iald dX3_laysFirst_34,
  k_goto (t := 40) dX3_laysFirst_35 (by decide),
  k_ldc dX3_laysFirst_38 q1365,
  k_iast dX3_laysFirst_40,
  k_iload_n dX3_laysFirst_41,
  k_iconst dX3_laysFirst_42,
  k_iadd dX3_laysFirst_43,
  k_istore_n dX3_laysFirst_44,
  k_iload_n dX3_laysFirst_45,
  k_aload_n dX3_laysFirst_46,
  k_getI (C := RX3) (T := TX3) (N := 9) (ci := 1) (k := 6) (ref := "LinkTimes$Search") dX3_laysFirst_47 rfl in_X3 (by decide) q277 (Or.inl rfl) (fun _ _ _ => rfl),
  k_cmpge (t := 95) dX3_laysFirst_50 (by decide),
  k_aload_n dX3_laysFirst_53,
  k_getR (C := RX3) (T := TX3) (N := 9) (ci := 1) (k := 3) (ref := "LinkTimes$Search") dX3_laysFirst_54 rfl in_X3 (by decide) q271 (Or.inl rfl) (fun _ _ _ => rfl),
  k_iload_n dX3_laysFirst_57,
  k_iald dX3_laysFirst_58,
  k_aload_n dX3_laysFirst_59,
  k_getR (C := RX3) (T := TX3) (N := 9) (ci := 1) (k := 3) (ref := "LinkTimes$Search") dX3_laysFirst_60 rfl in_X3 (by decide) q271 (Or.inl rfl) (fun _ _ _ => rfl),
  k_iload_n dX3_laysFirst_63,
  k_iald dX3_laysFirst_64,
  k_cmpge (t := 89) dX3_laysFirst_65 (by decide),
  k_aload_n dX3_laysFirst_68,
  k_iload_n dX3_laysFirst_69,
  k_iload_n dX3_laysFirst_70,
  k_callV (y2 := yX3_goesOn) (C := RX3) (T0 := TX3) (ci := 1) dX3_laysFirst_71 sndX3_goesOn rfl q1370 q1372 qs41 q136 q1373 (by decide +kernel) ⟨by decide, by decide⟩ (by decide) (by decide),
  k_ifeq (t := 89) dX3_laysFirst_74 (by decide),
  k_aload_n dX3_laysFirst_77,
  k_getR (C := RX3) (T := TX3) (N := 9) (ci := 1) (k := 3) (ref := "LinkTimes$Search") dX3_laysFirst_78 rfl in_X3 (by decide) q271 (Or.inl rfl) (fun _ _ _ => rfl),
  k_iload_n dX3_laysFirst_81,
  k_aload_n dX3_laysFirst_82,
  k_getR (C := RX3) (T := TX3) (N := 9) (ci := 1) (k := 3) (ref := "LinkTimes$Search") dX3_laysFirst_83 rfl in_X3 (by decide) q271 (Or.inl rfl) (fun _ _ _ => rfl),
  k_iload_n dX3_laysFirst_86,
  k_iald dX3_laysFirst_87,
  k_iast dX3_laysFirst_88,
  k_iinc dX3_laysFirst_89,
  k_goto (t := 45) dX3_laysFirst_92 (by decide),
  k_iinc dX3_laysFirst_95,
  k_goto (t := 7) dX3_laysFirst_98 (by decide),
  k_ret dX3_laysFirst_101, trivial⟩
theorem sndX3_laysFirst : MSound 5 yX3_laysFirst (ws_ yX3_laysFirst cX3_laysFirst 4 none) mX3_laysFirst := msound_M (by decide) allX3_laysFirst (fun _ _ => rfl)
/-! LinkTimes$Search.latest(III)I -/
noncomputable def kX3_latest : ZM := ([(0, zi_ld 1 0 1), (1, zi_ld 0 2 2), (2, zi_callV mX3_laysFirst 17 2 5), (5, zi_push (zvi (-2)) 7), (7, zi_st 0 4 9), (9, zi_push (zvi 0) 10), (10, zi_st 0 5 12), (12, zi_ld 0 5 14), (14, zi_ld 1 0 15), (15, zi_getI 17 6 18), (18, zi_cmp zc_ge 66 21), (21, zi_ld 1 0 22), (22, zi_getR 17 0 25), (25, zi_ld 0 5 27), (27, zi_aldR 28), (28, zi_getI 22 3 31), (31, zi_ld 0 1 32), (32, zi_cmp zc_ne 60 35), (35, zi_ld 1 0 36), (36, zi_getR 17 3 39), (39, zi_ld 0 5 41), (41, zi_ald 1 42), (42, zi_ld 0 3 43), (43, zi_cmp zc_gt 60 46), (46, zi_ld 0 4 48), (48, zi_ld 1 0 49), (49, zi_getR 17 1 52), (52, zi_ld 0 5 54), (54, zi_ald 1 55), (55, zi_mm zmax 58), (58, zi_st 0 4 60), (60, zi_iinc 5 1 63), (63, zi_goto 12), (66, zi_ld 0 4 68), (68, zi_retv 0)], fun _ _ => none)
noncomputable def mX3_latest : ZF := zrunM kX3_latest 6
theorem enX3_latest (x0 : Option Nat) (x1 : Int) (x2 : Int) (x3 : Int) (h : PH) : mX3_latest [zvr x0, zvi x1, zvi x2, zvi x3] h = zev kX3_latest 0 [zvr x0, zvi x1, zvi x2, zvi x3, zvu, zvu] [] h := zrunM_eq rfl rfl
theorem hdX3_latest_12 (x0 x1 x2 x3 x4 : ZV) (a : Int) (L st : List ZV) (h : PH) : zev kX3_latest 12 (x0 :: x1 :: x2 :: x3 :: x4 :: zvi a :: L) st h = zev kX3_latest 14 (x0 :: x1 :: x2 :: x3 :: x4 :: zvi a :: L) (zvi a :: st) h := e_ld5I (n := 14) rfl
theorem rX3_latest : (∀ (a : Option Nat) (L st : List ZV) (h : PH), zev kX3_latest 0 (zvr a :: L) st h = zev kX3_latest 1 (zvr a :: L) (zvr a :: st) h) ∧
  (∀ (x0 x1 : ZV) (a : Int) (L st : List ZV) (h : PH), zev kX3_latest 1 (x0 :: x1 :: zvi a :: L) st h = zev kX3_latest 2 (x0 :: x1 :: zvi a :: L) (zvi a :: st) h) ∧
  (∀ (v0 : ZV) (q : Nat) (L st : List ZV) (h : PH), zev kX3_latest 2 L (v0 :: zvr (some q) :: st) h = if (ph_K h q).1 % 1000 = 17 ∧ zcat st ≤ 8 then zk kX3_latest 2 5 L st (mX3_laysFirst [zvr (some q), v0] h) else none) ∧
  (∀ (L st : List ZV) (h : PH), zev kX3_latest 5 L st h = zev kX3_latest 7 L (zvi (-2) :: st) h) ∧
  (∀ (x0 x1 x2 x3 x4 : ZV) (a : Int) (L st : List ZV) (h : PH) (hx : zisL x3 = false) , zev kX3_latest 7 (x0 :: x1 :: x2 :: x3 :: x4 :: L) (zvi a :: st) h = zev kX3_latest 9 (x0 :: x1 :: x2 :: x3 :: zvi a :: L) st h) ∧
  (∀ (L st : List ZV) (h : PH), zev kX3_latest 9 L st h = zev kX3_latest 10 L (zvi 0 :: st) h) ∧
  (∀ (x0 x1 x2 x3 x4 x5 : ZV) (a : Int) (L st : List ZV) (h : PH) (hx : zisL x4 = false) , zev kX3_latest 10 (x0 :: x1 :: x2 :: x3 :: x4 :: x5 :: L) (zvi a :: st) h = zev kX3_latest 12 (x0 :: x1 :: x2 :: x3 :: x4 :: zvi a :: L) st h) ∧
  (∀ (a : Option Nat) (L st : List ZV) (h : PH), zev kX3_latest 14 (zvr a :: L) st h = zev kX3_latest 15 (zvr a :: L) (zvr a :: st) h) ∧
  (∀ (q : Nat) (L st : List ZV) (h : PH), zev kX3_latest 15 L (zvr (some q) :: st) h = if (ph_K h q).1 % 1000 = 17 then zev kX3_latest 18 L (zvi (ph_I h q 6) :: st) h else none) ∧
  (∀ (a b : Int) (L st : List ZV) (h : PH), zev kX3_latest 18 L (zvi b :: zvi a :: st) h = if a ≥ b then zev kX3_latest 66 L st h else zev kX3_latest 21 L st h) ∧
  (∀ (a : Option Nat) (L st : List ZV) (h : PH), zev kX3_latest 21 (zvr a :: L) st h = zev kX3_latest 22 (zvr a :: L) (zvr a :: st) h) ∧
  (∀ (q : Nat) (L st : List ZV) (h : PH), zev kX3_latest 22 L (zvr (some q) :: st) h = if (ph_K h q).1 % 1000 = 17 then zev kX3_latest 25 L (zvr (ph_R h q 0) :: st) h else none) ∧
  (∀ (x0 x1 x2 x3 x4 : ZV) (a : Int) (L st : List ZV) (h : PH), zev kX3_latest 25 (x0 :: x1 :: x2 :: x3 :: x4 :: zvi a :: L) st h = zev kX3_latest 27 (x0 :: x1 :: x2 :: x3 :: x4 :: zvi a :: L) (zvi a :: st) h) ∧
  (∀ (j : Int) (q : Nat) (L st : List ZV) (h : PH), zev kX3_latest 27 L (zvi j :: zvr (some q) :: st) h = if 5 ≤ (ph_K h q).1 % 1000 ∧ (ph_K h q).1 % 1000 ≤ 7 ∧ 0 ≤ j ∧ j < (ph_K h q).2 then zev kX3_latest 28 L (zvr (ph_R h q j) :: st) h else none) ∧
  (∀ (q : Nat) (L st : List ZV) (h : PH), zev kX3_latest 28 L (zvr (some q) :: st) h = if (ph_K h q).1 % 1000 = 22 then zev kX3_latest 31 L (zvi (ph_I h q 3) :: st) h else none) ∧
  (∀ (x0 : ZV) (a : Int) (L st : List ZV) (h : PH), zev kX3_latest 31 (x0 :: zvi a :: L) st h = zev kX3_latest 32 (x0 :: zvi a :: L) (zvi a :: st) h) ∧
  (∀ (a b : Int) (L st : List ZV) (h : PH), zev kX3_latest 32 L (zvi b :: zvi a :: st) h = if a ≠ b then zev kX3_latest 60 L st h else zev kX3_latest 35 L st h) ∧
  (∀ (a : Option Nat) (L st : List ZV) (h : PH), zev kX3_latest 35 (zvr a :: L) st h = zev kX3_latest 36 (zvr a :: L) (zvr a :: st) h) ∧
  (∀ (q : Nat) (L st : List ZV) (h : PH), zev kX3_latest 36 L (zvr (some q) :: st) h = if (ph_K h q).1 % 1000 = 17 then zev kX3_latest 39 L (zvr (ph_R h q 3) :: st) h else none) ∧
  (∀ (x0 x1 x2 x3 x4 : ZV) (a : Int) (L st : List ZV) (h : PH), zev kX3_latest 39 (x0 :: x1 :: x2 :: x3 :: x4 :: zvi a :: L) st h = zev kX3_latest 41 (x0 :: x1 :: x2 :: x3 :: x4 :: zvi a :: L) (zvi a :: st) h) ∧
  (∀ (j : Int) (q : Nat) (L st : List ZV) (h : PH), zev kX3_latest 41 L (zvi j :: zvr (some q) :: st) h = if (ph_K h q).1 % 1000 = 1 ∧ 0 ≤ j ∧ j < (ph_K h q).2 then zev kX3_latest 42 L (zvi (ph_I h q j) :: st) h else none) ∧
  (∀ (x0 x1 x2 : ZV) (a : Int) (L st : List ZV) (h : PH), zev kX3_latest 42 (x0 :: x1 :: x2 :: zvi a :: L) st h = zev kX3_latest 43 (x0 :: x1 :: x2 :: zvi a :: L) (zvi a :: st) h) ∧
  (∀ (a b : Int) (L st : List ZV) (h : PH), zev kX3_latest 43 L (zvi b :: zvi a :: st) h = if a > b then zev kX3_latest 60 L st h else zev kX3_latest 46 L st h) ∧
  (∀ (x0 x1 x2 x3 : ZV) (a : Int) (L st : List ZV) (h : PH), zev kX3_latest 46 (x0 :: x1 :: x2 :: x3 :: zvi a :: L) st h = zev kX3_latest 48 (x0 :: x1 :: x2 :: x3 :: zvi a :: L) (zvi a :: st) h) ∧
  (∀ (a : Option Nat) (L st : List ZV) (h : PH), zev kX3_latest 48 (zvr a :: L) st h = zev kX3_latest 49 (zvr a :: L) (zvr a :: st) h) ∧
  (∀ (q : Nat) (L st : List ZV) (h : PH), zev kX3_latest 49 L (zvr (some q) :: st) h = if (ph_K h q).1 % 1000 = 17 then zev kX3_latest 52 L (zvr (ph_R h q 1) :: st) h else none) ∧
  (∀ (x0 x1 x2 x3 x4 : ZV) (a : Int) (L st : List ZV) (h : PH), zev kX3_latest 52 (x0 :: x1 :: x2 :: x3 :: x4 :: zvi a :: L) st h = zev kX3_latest 54 (x0 :: x1 :: x2 :: x3 :: x4 :: zvi a :: L) (zvi a :: st) h) ∧
  (∀ (j : Int) (q : Nat) (L st : List ZV) (h : PH), zev kX3_latest 54 L (zvi j :: zvr (some q) :: st) h = if (ph_K h q).1 % 1000 = 1 ∧ 0 ≤ j ∧ j < (ph_K h q).2 then zev kX3_latest 55 L (zvi (ph_I h q j) :: st) h else none) ∧
  (∀ (a b : Int) (L st : List ZV) (h : PH), zev kX3_latest 55 L (zvi b :: zvi a :: st) h = if zcat st ≤ 8 then zev kX3_latest 58 L (zvi (zmax a b) :: st) h else none) ∧
  (∀ (x0 x1 x2 x3 x4 : ZV) (a : Int) (L st : List ZV) (h : PH) (hx : zisL x3 = false) , zev kX3_latest 58 (x0 :: x1 :: x2 :: x3 :: x4 :: L) (zvi a :: st) h = zev kX3_latest 60 (x0 :: x1 :: x2 :: x3 :: zvi a :: L) st h) ∧
  (∀ (x0 x1 x2 x3 x4 : ZV) (a : Int) (L st : List ZV) (h : PH) (hx : zisL x4 = false) , zev kX3_latest 60 (x0 :: x1 :: x2 :: x3 :: x4 :: zvi a :: L) st h = zev kX3_latest 63 (x0 :: x1 :: x2 :: x3 :: x4 :: zvi (w32 (a + 1)) :: L) st h) ∧
  (∀ (L st : List ZV) (h : PH), zev kX3_latest 63 L st h = zev kX3_latest 12 L st h) ∧
  (∀ (x0 x1 x2 x3 : ZV) (a : Int) (L st : List ZV) (h : PH), zev kX3_latest 66 (x0 :: x1 :: x2 :: x3 :: zvi a :: L) st h = zev kX3_latest 68 (x0 :: x1 :: x2 :: x3 :: zvi a :: L) (zvi a :: st) h) ∧
  (∀ (a : Int) (L : List ZV) (h : PH), zev kX3_latest 68 L [zvi a] h = zrv (zvi a) h) :=
  ⟨fun a L st h => e_ld0R (n := 1) rfl,
  fun x0 x1 a L st h => e_ld2I (n := 2) rfl,
  fun v0 q L st h => e_callV2 (F := mX3_laysFirst) (kd := 17) (n := 5) rfl,
  fun L st h => e_push (v := zvi (-2)) (n := 7) rfl,
  fun x0 x1 x2 x3 x4 a L st h hx => e_st4I (n := 9) rfl hx,
  fun L st h => e_push (v := zvi 0) (n := 10) rfl,
  fun x0 x1 x2 x3 x4 x5 a L st h hx => e_st5I (n := 12) rfl hx,
  fun a L st h => e_ld0R (n := 15) rfl,
  fun q L st h => e_getI (kd := 17) (k := 6) (n := 18) rfl,
  fun a b L st h => e_cmpge (t := 66) (n := 21) rfl,
  fun a L st h => e_ld0R (n := 22) rfl,
  fun q L st h => e_getR (kd := 17) (k := 0) (n := 25) rfl,
  fun x0 x1 x2 x3 x4 a L st h => e_ld5I (n := 27) rfl,
  fun j q L st h => e_aldR (n := 28) rfl,
  fun q L st h => e_getI (kd := 22) (k := 3) (n := 31) rfl,
  fun x0 a L st h => e_ld1I (n := 32) rfl,
  fun a b L st h => e_cmpne (t := 60) (n := 35) rfl,
  fun a L st h => e_ld0R (n := 36) rfl,
  fun q L st h => e_getR (kd := 17) (k := 3) (n := 39) rfl,
  fun x0 x1 x2 x3 x4 a L st h => e_ld5I (n := 41) rfl,
  fun j q L st h => e_ald (kd := 1) (n := 42) rfl,
  fun x0 x1 x2 a L st h => e_ld3I (n := 43) rfl,
  fun a b L st h => e_cmpgt (t := 60) (n := 46) rfl,
  fun x0 x1 x2 x3 a L st h => e_ld4I (n := 48) rfl,
  fun a L st h => e_ld0R (n := 49) rfl,
  fun q L st h => e_getR (kd := 17) (k := 1) (n := 52) rfl,
  fun x0 x1 x2 x3 x4 a L st h => e_ld5I (n := 54) rfl,
  fun j q L st h => e_ald (kd := 1) (n := 55) rfl,
  fun a b L st h => e_mm (f := zmax) (n := 58) rfl,
  fun x0 x1 x2 x3 x4 a L st h hx => e_st4I (n := 60) rfl hx,
  fun x0 x1 x2 x3 x4 a L st h hx => e_iinc5 (d := 1) (n := 63) rfl hx,
  fun L st h => e_goto (t := 12) rfl,
  fun x0 x1 x2 x3 a L st h => e_ld4I (n := 68) rfl,
  fun a L h => e_retI rfl⟩
theorem allX3_latest : zall yX3_latest cX3_latest 6 (some .int) 6 kX3_latest.1 :=
  ⟨k_aload_n dX3_latest_0,
  k_iload_n dX3_latest_1,
  k_callV (y2 := yX3_laysFirst) (C := RX3) (T0 := TX3) (ci := 1) dX3_latest_2 sndX3_laysFirst rfl q1448 q1449 q1450 q136 q1451 (by decide +kernel) ⟨by decide, by decide⟩ (by decide) (by decide),
  k_bipush dX3_latest_5,
  k_istore dX3_latest_7,
  k_iconst dX3_latest_9,
  k_istore dX3_latest_10,
  k_iload dX3_latest_12,
  k_aload_n dX3_latest_14,
  k_getI (C := RX3) (T := TX3) (N := 9) (ci := 1) (k := 6) (ref := "LinkTimes$Search") dX3_latest_15 rfl in_X3 (by decide) q277 (Or.inl rfl) (fun _ _ _ => rfl),
  k_cmpge (t := 66) dX3_latest_18 (by decide),
  k_aload_n dX3_latest_21,
  k_getR (C := RX3) (T := TX3) (N := 9) (ci := 1) (k := 0) (ref := "LinkTimes$Search") dX3_latest_22 rfl in_X3 (by decide) q265 (Or.inl rfl) (fun _ _ _ => rfl),
  k_iload dX3_latest_25,
  k_aald dX3_latest_27,
  k_getIN (C := RX11) (T := TX11) (N := 9) (ci := 6) (k := 3) (ref := "LinkTimes$Departure") dX3_latest_28 rfl in_X11 (by decide) q858 (Or.inl rfl) (fun _ _ _ => rfl),
  k_iload_n dX3_latest_31,
  k_cmpne (t := 60) dX3_latest_32 (by decide),
  k_aload_n dX3_latest_35,
  k_getR (C := RX3) (T := TX3) (N := 9) (ci := 1) (k := 3) (ref := "LinkTimes$Search") dX3_latest_36 rfl in_X3 (by decide) q271 (Or.inl rfl) (fun _ _ _ => rfl),
  k_iload dX3_latest_39,
  k_iald dX3_latest_41,
  k_iload_n dX3_latest_42,
  k_cmpgt (t := 60) dX3_latest_43 (by decide),
  k_iload dX3_latest_46,
  k_aload_n dX3_latest_48,
  k_getR (C := RX3) (T := TX3) (N := 9) (ci := 1) (k := 1) (ref := "LinkTimes$Search") dX3_latest_49 rfl in_X3 (by decide) q267 (Or.inl rfl) (fun _ _ _ => rfl),
  k_iload dX3_latest_52,
  k_iald dX3_latest_54,
  k_mmax dX3_latest_55 q1452 q759 q154 q760 (by decide),
  k_istore dX3_latest_58,
  k_iinc dX3_latest_60,
  k_goto (t := 12) dX3_latest_63 (by decide),
  k_iload dX3_latest_66,
  k_iret dX3_latest_68, trivial⟩
theorem sndX3_latest : MSound 6 yX3_latest (ws_ yX3_latest cX3_latest 6 (some .int)) mX3_latest := msound_M (by decide) allX3_latest (fun _ _ => rfl)
/-! LinkTimes$Search.laysRest([Z)LLinkTimes$Search; -/
noncomputable def kX3_laysRest : ZM := ([(0, zi_ld 1 0 1), (1, zi_push (zvi 0) 2), (2, zi_putI 17 7 5), (5, zi_ld 1 0 6), (6, zi_push (zvi 0) 7), (7, zi_putI 17 6 10), (10, zi_push (zvi 0) 11), (11, zi_st 0 2 12), (12, zi_ld 0 2 13), (13, zi_ld 1 0 14), (14, zi_getR 17 8 17), (17, zi_getR 16 5 20), (20, zi_getR 20 4 23), (23, zi_callV mJ7_size 29 1 26), (26, zi_cmp zc_ge 105 29), (29, zi_ld 1 0 30), (30, zi_getR 17 8 33), (33, zi_getR 16 5 36), (36, zi_getR 20 4 39), (39, zi_ld 0 2 40), (40, zi_callV mJ7_get 29 2 43), (43, zi_cast zokDep 46), (46, zi_getI 22 8 49), (49, zi_if (fun a => zc_eq a 0) 99 52), (52, zi_ld 1 1 53), (53, zi_ld 0 2 54), (54, zi_ald 2 55), (55, zi_if (fun a => zc_ne a 0) 99 58), (58, zi_ld 1 0 59), (59, zi_ld 1 0 60), (60, zi_getR 17 8 63), (63, zi_getR 16 5 66), (66, zi_getR 20 4 69), (69, zi_ld 0 2 70), (70, zi_callV mJ7_get 29 2 73), (73, zi_cast zokDep 76), (76, zi_ld 1 0 77), (77, zi_getR 17 8 80), (80, zi_getR 16 5 83), (83, zi_getR 20 4 86), (86, zi_ld 0 2 87), (87, zi_callV mJ7_get 29 2 90), (90, zi_cast zokDep 93), (93, zi_callV mX11_leaves 22 1 96), (96, zi_callV mX3_puts 17 3 99), (99, zi_iinc 2 1 102), (102, zi_goto 12), (105, zi_ld 1 0 106), (106, zi_retv 1)], fun _ _ => none)
noncomputable def mX3_laysRest : ZF := zrunM kX3_laysRest 3
theorem enX3_laysRest (x0 : Option Nat) (x1 : Option Nat) (h : PH) : mX3_laysRest [zvr x0, zvr x1] h = zev kX3_laysRest 0 [zvr x0, zvr x1, zvu] [] h := zrunM_eq rfl rfl
theorem hdX3_laysRest_12 (x0 x1 : ZV) (a : Int) (L st : List ZV) (h : PH) : zev kX3_laysRest 12 (x0 :: x1 :: zvi a :: L) st h = zev kX3_laysRest 13 (x0 :: x1 :: zvi a :: L) (zvi a :: st) h := e_ld2I (n := 13) rfl
theorem rX3_laysRest : (∀ (a : Option Nat) (L st : List ZV) (h : PH), zev kX3_laysRest 0 (zvr a :: L) st h = zev kX3_laysRest 1 (zvr a :: L) (zvr a :: st) h) ∧
  (∀ (L st : List ZV) (h : PH), zev kX3_laysRest 1 L st h = zev kX3_laysRest 2 L (zvi 0 :: st) h) ∧
  (∀ (a : Int) (q : Nat) (L st : List ZV) (h : PH), zev kX3_laysRest 2 L (zvi a :: zvr (some q) :: st) h = if (ph_K h q).1 = 17 then zev kX3_laysRest 5 L st (st_I h q 7 a) else none) ∧
  (∀ (a : Option Nat) (L st : List ZV) (h : PH), zev kX3_laysRest 5 (zvr a :: L) st h = zev kX3_laysRest 6 (zvr a :: L) (zvr a :: st) h) ∧
  (∀ (L st : List ZV) (h : PH), zev kX3_laysRest 6 L st h = zev kX3_laysRest 7 L (zvi 0 :: st) h) ∧
  (∀ (a : Int) (q : Nat) (L st : List ZV) (h : PH), zev kX3_laysRest 7 L (zvi a :: zvr (some q) :: st) h = if (ph_K h q).1 = 17 then zev kX3_laysRest 10 L st (st_I h q 6 a) else none) ∧
  (∀ (L st : List ZV) (h : PH), zev kX3_laysRest 10 L st h = zev kX3_laysRest 11 L (zvi 0 :: st) h) ∧
  (∀ (x0 x1 x2 : ZV) (a : Int) (L st : List ZV) (h : PH) (hx : zisL x1 = false) , zev kX3_laysRest 11 (x0 :: x1 :: x2 :: L) (zvi a :: st) h = zev kX3_laysRest 12 (x0 :: x1 :: zvi a :: L) st h) ∧
  (∀ (a : Option Nat) (L st : List ZV) (h : PH), zev kX3_laysRest 13 (zvr a :: L) st h = zev kX3_laysRest 14 (zvr a :: L) (zvr a :: st) h) ∧
  (∀ (q : Nat) (L st : List ZV) (h : PH), zev kX3_laysRest 14 L (zvr (some q) :: st) h = if (ph_K h q).1 % 1000 = 17 then zev kX3_laysRest 17 L (zvr (ph_R h q 8) :: st) h else none) ∧
  (∀ (q : Nat) (L st : List ZV) (h : PH), zev kX3_laysRest 17 L (zvr (some q) :: st) h = if (ph_K h q).1 % 1000 = 16 then zev kX3_laysRest 20 L (zvr (ph_R h q 5) :: st) h else none) ∧
  (∀ (q : Nat) (L st : List ZV) (h : PH), zev kX3_laysRest 20 L (zvr (some q) :: st) h = if (ph_K h q).1 % 1000 = 20 then zev kX3_laysRest 23 L (zvr (ph_R h q 4) :: st) h else none) ∧
  (∀ (q : Nat) (L st : List ZV) (h : PH), zev kX3_laysRest 23 L (zvr (some q) :: st) h = if (ph_K h q).1 % 1000 = 29 ∧ zcat st ≤ 8 then zk kX3_laysRest 23 26 L st (mJ7_size [zvr (some q)] h) else none) ∧
  (∀ (a b : Int) (L st : List ZV) (h : PH), zev kX3_laysRest 26 L (zvi b :: zvi a :: st) h = if a ≥ b then zev kX3_laysRest 105 L st h else zev kX3_laysRest 29 L st h) ∧
  (∀ (a : Option Nat) (L st : List ZV) (h : PH), zev kX3_laysRest 29 (zvr a :: L) st h = zev kX3_laysRest 30 (zvr a :: L) (zvr a :: st) h) ∧
  (∀ (q : Nat) (L st : List ZV) (h : PH), zev kX3_laysRest 30 L (zvr (some q) :: st) h = if (ph_K h q).1 % 1000 = 17 then zev kX3_laysRest 33 L (zvr (ph_R h q 8) :: st) h else none) ∧
  (∀ (q : Nat) (L st : List ZV) (h : PH), zev kX3_laysRest 33 L (zvr (some q) :: st) h = if (ph_K h q).1 % 1000 = 16 then zev kX3_laysRest 36 L (zvr (ph_R h q 5) :: st) h else none) ∧
  (∀ (q : Nat) (L st : List ZV) (h : PH), zev kX3_laysRest 36 L (zvr (some q) :: st) h = if (ph_K h q).1 % 1000 = 20 then zev kX3_laysRest 39 L (zvr (ph_R h q 4) :: st) h else none) ∧
  (∀ (x0 x1 : ZV) (a : Int) (L st : List ZV) (h : PH), zev kX3_laysRest 39 (x0 :: x1 :: zvi a :: L) st h = zev kX3_laysRest 40 (x0 :: x1 :: zvi a :: L) (zvi a :: st) h) ∧
  (∀ (v0 : ZV) (q : Nat) (L st : List ZV) (h : PH), zev kX3_laysRest 40 L (v0 :: zvr (some q) :: st) h = if (ph_K h q).1 % 1000 = 29 ∧ zcat st ≤ 8 then zk kX3_laysRest 40 43 L st (mJ7_get [zvr (some q), v0] h) else none) ∧
  (∀ (L st : List ZV) (h : PH), zev kX3_laysRest 43 L (zvr none :: st) h = zev kX3_laysRest 46 L (zvr none :: st) h) ∧
  (∀ (q : Nat) (L st : List ZV) (h : PH), zev kX3_laysRest 43 L (zvr (some q) :: st) h = if zokDep (ph_K h q).1 = true then zev kX3_laysRest 46 L (zvr (some q) :: st) h else none) ∧
  (∀ (q : Nat) (L st : List ZV) (h : PH), zev kX3_laysRest 46 L (zvr (some q) :: st) h = if (ph_K h q).1 % 1000 = 22 then zev kX3_laysRest 49 L (zvi (ph_I h q 8) :: st) h else none) ∧
  (∀ (a : Int) (L st : List ZV) (h : PH), zev kX3_laysRest 49 L (zvi a :: st) h = if a = 0 then zev kX3_laysRest 99 L st h else zev kX3_laysRest 52 L st h) ∧
  (∀ (x0 : ZV) (a : Option Nat) (L st : List ZV) (h : PH), zev kX3_laysRest 52 (x0 :: zvr a :: L) st h = zev kX3_laysRest 53 (x0 :: zvr a :: L) (zvr a :: st) h) ∧
  (∀ (x0 x1 : ZV) (a : Int) (L st : List ZV) (h : PH), zev kX3_laysRest 53 (x0 :: x1 :: zvi a :: L) st h = zev kX3_laysRest 54 (x0 :: x1 :: zvi a :: L) (zvi a :: st) h) ∧
  (∀ (j : Int) (q : Nat) (L st : List ZV) (h : PH), zev kX3_laysRest 54 L (zvi j :: zvr (some q) :: st) h = if (ph_K h q).1 % 1000 = 2 ∧ 0 ≤ j ∧ j < (ph_K h q).2 then zev kX3_laysRest 55 L (zvi (ph_I h q j) :: st) h else none) ∧
  (∀ (a : Int) (L st : List ZV) (h : PH), zev kX3_laysRest 55 L (zvi a :: st) h = if a ≠ 0 then zev kX3_laysRest 99 L st h else zev kX3_laysRest 58 L st h) ∧
  (∀ (a : Option Nat) (L st : List ZV) (h : PH), zev kX3_laysRest 58 (zvr a :: L) st h = zev kX3_laysRest 59 (zvr a :: L) (zvr a :: st) h) ∧
  (∀ (a : Option Nat) (L st : List ZV) (h : PH), zev kX3_laysRest 59 (zvr a :: L) st h = zev kX3_laysRest 60 (zvr a :: L) (zvr a :: st) h) ∧
  (∀ (q : Nat) (L st : List ZV) (h : PH), zev kX3_laysRest 60 L (zvr (some q) :: st) h = if (ph_K h q).1 % 1000 = 17 then zev kX3_laysRest 63 L (zvr (ph_R h q 8) :: st) h else none) ∧
  (∀ (q : Nat) (L st : List ZV) (h : PH), zev kX3_laysRest 63 L (zvr (some q) :: st) h = if (ph_K h q).1 % 1000 = 16 then zev kX3_laysRest 66 L (zvr (ph_R h q 5) :: st) h else none) ∧
  (∀ (q : Nat) (L st : List ZV) (h : PH), zev kX3_laysRest 66 L (zvr (some q) :: st) h = if (ph_K h q).1 % 1000 = 20 then zev kX3_laysRest 69 L (zvr (ph_R h q 4) :: st) h else none) ∧
  (∀ (x0 x1 : ZV) (a : Int) (L st : List ZV) (h : PH), zev kX3_laysRest 69 (x0 :: x1 :: zvi a :: L) st h = zev kX3_laysRest 70 (x0 :: x1 :: zvi a :: L) (zvi a :: st) h) ∧
  (∀ (v0 : ZV) (q : Nat) (L st : List ZV) (h : PH), zev kX3_laysRest 70 L (v0 :: zvr (some q) :: st) h = if (ph_K h q).1 % 1000 = 29 ∧ zcat st ≤ 8 then zk kX3_laysRest 70 73 L st (mJ7_get [zvr (some q), v0] h) else none) ∧
  (∀ (L st : List ZV) (h : PH), zev kX3_laysRest 73 L (zvr none :: st) h = zev kX3_laysRest 76 L (zvr none :: st) h) ∧
  (∀ (q : Nat) (L st : List ZV) (h : PH), zev kX3_laysRest 73 L (zvr (some q) :: st) h = if zokDep (ph_K h q).1 = true then zev kX3_laysRest 76 L (zvr (some q) :: st) h else none) ∧
  (∀ (a : Option Nat) (L st : List ZV) (h : PH), zev kX3_laysRest 76 (zvr a :: L) st h = zev kX3_laysRest 77 (zvr a :: L) (zvr a :: st) h) ∧
  (∀ (q : Nat) (L st : List ZV) (h : PH), zev kX3_laysRest 77 L (zvr (some q) :: st) h = if (ph_K h q).1 % 1000 = 17 then zev kX3_laysRest 80 L (zvr (ph_R h q 8) :: st) h else none) ∧
  (∀ (q : Nat) (L st : List ZV) (h : PH), zev kX3_laysRest 80 L (zvr (some q) :: st) h = if (ph_K h q).1 % 1000 = 16 then zev kX3_laysRest 83 L (zvr (ph_R h q 5) :: st) h else none) ∧
  (∀ (q : Nat) (L st : List ZV) (h : PH), zev kX3_laysRest 83 L (zvr (some q) :: st) h = if (ph_K h q).1 % 1000 = 20 then zev kX3_laysRest 86 L (zvr (ph_R h q 4) :: st) h else none) ∧
  (∀ (x0 x1 : ZV) (a : Int) (L st : List ZV) (h : PH), zev kX3_laysRest 86 (x0 :: x1 :: zvi a :: L) st h = zev kX3_laysRest 87 (x0 :: x1 :: zvi a :: L) (zvi a :: st) h) ∧
  (∀ (v0 : ZV) (q : Nat) (L st : List ZV) (h : PH), zev kX3_laysRest 87 L (v0 :: zvr (some q) :: st) h = if (ph_K h q).1 % 1000 = 29 ∧ zcat st ≤ 8 then zk kX3_laysRest 87 90 L st (mJ7_get [zvr (some q), v0] h) else none) ∧
  (∀ (L st : List ZV) (h : PH), zev kX3_laysRest 90 L (zvr none :: st) h = zev kX3_laysRest 93 L (zvr none :: st) h) ∧
  (∀ (q : Nat) (L st : List ZV) (h : PH), zev kX3_laysRest 90 L (zvr (some q) :: st) h = if zokDep (ph_K h q).1 = true then zev kX3_laysRest 93 L (zvr (some q) :: st) h else none) ∧
  (∀ (q : Nat) (L st : List ZV) (h : PH), zev kX3_laysRest 93 L (zvr (some q) :: st) h = if (ph_K h q).1 % 1000 = 22 ∧ zcat st ≤ 8 then zk kX3_laysRest 93 96 L st (mX11_leaves [zvr (some q)] h) else none) ∧
  (∀ (v0 v1 : ZV) (q : Nat) (L st : List ZV) (h : PH), zev kX3_laysRest 96 L (v1 :: v0 :: zvr (some q) :: st) h = if (ph_K h q).1 % 1000 = 17 ∧ zcat st ≤ 8 then zk kX3_laysRest 96 99 L st (mX3_puts [zvr (some q), v0, v1] h) else none) ∧
  (∀ (x0 x1 : ZV) (a : Int) (L st : List ZV) (h : PH) (hx : zisL x1 = false) , zev kX3_laysRest 99 (x0 :: x1 :: zvi a :: L) st h = zev kX3_laysRest 102 (x0 :: x1 :: zvi (w32 (a + 1)) :: L) st h) ∧
  (∀ (L st : List ZV) (h : PH), zev kX3_laysRest 102 L st h = zev kX3_laysRest 12 L st h) ∧
  (∀ (a : Option Nat) (L st : List ZV) (h : PH), zev kX3_laysRest 105 (zvr a :: L) st h = zev kX3_laysRest 106 (zvr a :: L) (zvr a :: st) h) ∧
  (∀ (a : Option Nat) (L : List ZV) (h : PH), zev kX3_laysRest 106 L [zvr a] h = zrv (zvr a) h) :=
  ⟨fun a L st h => e_ld0R (n := 1) rfl,
  fun L st h => e_push (v := zvi 0) (n := 2) rfl,
  fun a q L st h => e_putI (kd := 17) (k := 7) (n := 5) rfl,
  fun a L st h => e_ld0R (n := 6) rfl,
  fun L st h => e_push (v := zvi 0) (n := 7) rfl,
  fun a q L st h => e_putI (kd := 17) (k := 6) (n := 10) rfl,
  fun L st h => e_push (v := zvi 0) (n := 11) rfl,
  fun x0 x1 x2 a L st h hx => e_st2I (n := 12) rfl hx,
  fun a L st h => e_ld0R (n := 14) rfl,
  fun q L st h => e_getR (kd := 17) (k := 8) (n := 17) rfl,
  fun q L st h => e_getR (kd := 16) (k := 5) (n := 20) rfl,
  fun q L st h => e_getR (kd := 20) (k := 4) (n := 23) rfl,
  fun q L st h => e_callV1 (F := mJ7_size) (kd := 29) (n := 26) rfl,
  fun a b L st h => e_cmpge (t := 105) (n := 29) rfl,
  fun a L st h => e_ld0R (n := 30) rfl,
  fun q L st h => e_getR (kd := 17) (k := 8) (n := 33) rfl,
  fun q L st h => e_getR (kd := 16) (k := 5) (n := 36) rfl,
  fun q L st h => e_getR (kd := 20) (k := 4) (n := 39) rfl,
  fun x0 x1 a L st h => e_ld2I (n := 40) rfl,
  fun v0 q L st h => e_callV2 (F := mJ7_get) (kd := 29) (n := 43) rfl,
  fun L st h => e_cast0 (ok := zokDep) (n := 46) rfl,
  fun q L st h => e_cast1 (ok := zokDep) (n := 46) rfl,
  fun q L st h => e_getI (kd := 22) (k := 8) (n := 49) rfl,
  fun a L st h => e_ifeq (t := 99) (n := 52) rfl,
  fun x0 a L st h => e_ld1R (n := 53) rfl,
  fun x0 x1 a L st h => e_ld2I (n := 54) rfl,
  fun j q L st h => e_ald (kd := 2) (n := 55) rfl,
  fun a L st h => e_ifne (t := 99) (n := 58) rfl,
  fun a L st h => e_ld0R (n := 59) rfl,
  fun a L st h => e_ld0R (n := 60) rfl,
  fun q L st h => e_getR (kd := 17) (k := 8) (n := 63) rfl,
  fun q L st h => e_getR (kd := 16) (k := 5) (n := 66) rfl,
  fun q L st h => e_getR (kd := 20) (k := 4) (n := 69) rfl,
  fun x0 x1 a L st h => e_ld2I (n := 70) rfl,
  fun v0 q L st h => e_callV2 (F := mJ7_get) (kd := 29) (n := 73) rfl,
  fun L st h => e_cast0 (ok := zokDep) (n := 76) rfl,
  fun q L st h => e_cast1 (ok := zokDep) (n := 76) rfl,
  fun a L st h => e_ld0R (n := 77) rfl,
  fun q L st h => e_getR (kd := 17) (k := 8) (n := 80) rfl,
  fun q L st h => e_getR (kd := 16) (k := 5) (n := 83) rfl,
  fun q L st h => e_getR (kd := 20) (k := 4) (n := 86) rfl,
  fun x0 x1 a L st h => e_ld2I (n := 87) rfl,
  fun v0 q L st h => e_callV2 (F := mJ7_get) (kd := 29) (n := 90) rfl,
  fun L st h => e_cast0 (ok := zokDep) (n := 93) rfl,
  fun q L st h => e_cast1 (ok := zokDep) (n := 93) rfl,
  fun q L st h => e_callV1 (F := mX11_leaves) (kd := 22) (n := 96) rfl,
  fun v0 v1 q L st h => e_callV3 (F := mX3_puts) (kd := 17) (n := 99) rfl,
  fun x0 x1 a L st h hx => e_iinc2 (d := 1) (n := 102) rfl hx,
  fun L st h => e_goto (t := 12) rfl,
  fun a L st h => e_ld0R (n := 106) rfl,
  fun a L h => e_retR rfl⟩
theorem allX3_laysRest : zall yX3_laysRest cX3_laysRest 3 (some (.object "LinkTimes$Search")) 4 kX3_laysRest.1 :=
  ⟨k_aload_n dX3_laysRest_0,
  k_iconst dX3_laysRest_1,
  k_putI (C := RX3) (T := TX3) (N := 9) (ci := 1) (k := 7) (ref := "LinkTimes$Search") dX3_laysRest_2 rfl in_X3 tyX3 tyX3_ok nmX3 (by decide) (Or.inl q279) (Or.inl rfl) (Or.inl rfl) (tyX3_ok 7 (by decide)) (fun _ _ _ => rfl),
  k_aload_n dX3_laysRest_5,
  k_iconst dX3_laysRest_6,
  k_putI (C := RX3) (T := TX3) (N := 9) (ci := 1) (k := 6) (ref := "LinkTimes$Search") dX3_laysRest_7 rfl in_X3 tyX3 tyX3_ok nmX3 (by decide) (Or.inl q277) (Or.inl rfl) (Or.inl rfl) (tyX3_ok 6 (by decide)) (fun _ _ _ => rfl),
  k_iconst dX3_laysRest_10,
  k_istore_n dX3_laysRest_11,
  k_iload_n dX3_laysRest_12,
  k_aload_n dX3_laysRest_13,
  k_getR (C := RX3) (T := TX3) (N := 9) (ci := 1) (k := 8) (ref := "LinkTimes$Search") dX3_laysRest_14 rfl in_X3 (by decide) q280 (Or.inl rfl) (fun _ _ _ => rfl),
  k_getRN (C := RX1) (T := TX1) (N := 19) (ci := 0) (k := 5) (ref := "LinkTimes") dX3_laysRest_17 rfl in_X1 (by decide) q307 (Or.inl rfl) (fun _ _ _ => rfl),
  k_getRN (C := RX6) (T := TX6) (N := 5) (ci := 4) (k := 4) (ref := "LinkTimes$Desk") dX3_laysRest_20 rfl in_X6 (by decide) q429 (Or.inl rfl) (fun _ _ _ => rfl),
  k_callV (y2 := yJ7_size) (C := RJ7) (T0 := TJ7) (ci := 13) dX3_laysRest_23 sndJ7_size rfl q1346 q652 q653 q141 q654 (by decide +kernel) ⟨by decide, by decide⟩ (by decide) (by decide),
  k_cmpge (t := 105) dX3_laysRest_26 (by decide),
  k_aload_n dX3_laysRest_29,
  k_getR (C := RX3) (T := TX3) (N := 9) (ci := 1) (k := 8) (ref := "LinkTimes$Search") dX3_laysRest_30 rfl in_X3 (by decide) q280 (Or.inl rfl) (fun _ _ _ => rfl),
  k_getRN (C := RX1) (T := TX1) (N := 19) (ci := 0) (k := 5) (ref := "LinkTimes") dX3_laysRest_33 rfl in_X1 (by decide) q307 (Or.inl rfl) (fun _ _ _ => rfl),
  k_getRN (C := RX6) (T := TX6) (N := 5) (ci := 4) (k := 4) (ref := "LinkTimes$Desk") dX3_laysRest_36 rfl in_X6 (by decide) q429 (Or.inl rfl) (fun _ _ _ => rfl),
  k_iload_n dX3_laysRest_39,
  k_callV (y2 := yJ7_get) (C := RJ7) (T0 := TJ7) (ci := 13) dX3_laysRest_40 sndJ7_get rfl q1347 q695 q696 q141 q697 (by decide +kernel) ⟨by decide, by decide⟩ (by decide) (by decide),
  k_cast (nm := "LinkTimes$Departure") dX3_laysRest_43 q263 zokDep_can,
  k_getIN (C := RX11) (T := TX11) (N := 9) (ci := 6) (k := 8) (ref := "LinkTimes$Departure") dX3_laysRest_46 rfl in_X11 (by decide) q870 (Or.inl rfl) (fun _ _ _ => rfl),
  k_ifeq (t := 99) dX3_laysRest_49 (by decide),
  k_aload_n dX3_laysRest_52,
  k_iload_n dX3_laysRest_53,
  k_bald dX3_laysRest_54,
  k_ifne (t := 99) dX3_laysRest_55 (by decide),
  k_aload_n dX3_laysRest_58,
  k_aload_n dX3_laysRest_59,
  k_getR (C := RX3) (T := TX3) (N := 9) (ci := 1) (k := 8) (ref := "LinkTimes$Search") dX3_laysRest_60 rfl in_X3 (by decide) q280 (Or.inl rfl) (fun _ _ _ => rfl),
  k_getRN (C := RX1) (T := TX1) (N := 19) (ci := 0) (k := 5) (ref := "LinkTimes") dX3_laysRest_63 rfl in_X1 (by decide) q307 (Or.inl rfl) (fun _ _ _ => rfl),
  k_getRN (C := RX6) (T := TX6) (N := 5) (ci := 4) (k := 4) (ref := "LinkTimes$Desk") dX3_laysRest_66 rfl in_X6 (by decide) q429 (Or.inl rfl) (fun _ _ _ => rfl),
  k_iload_n dX3_laysRest_69,
  k_callV (y2 := yJ7_get) (C := RJ7) (T0 := TJ7) (ci := 13) dX3_laysRest_70 sndJ7_get rfl q1347 q695 q696 q141 q697 (by decide +kernel) ⟨by decide, by decide⟩ (by decide) (by decide),
  k_cast (nm := "LinkTimes$Departure") dX3_laysRest_73 q263 zokDep_can,
  k_aload_n dX3_laysRest_76,
  k_getR (C := RX3) (T := TX3) (N := 9) (ci := 1) (k := 8) (ref := "LinkTimes$Search") dX3_laysRest_77 rfl in_X3 (by decide) q280 (Or.inl rfl) (fun _ _ _ => rfl),
  k_getRN (C := RX1) (T := TX1) (N := 19) (ci := 0) (k := 5) (ref := "LinkTimes") dX3_laysRest_80 rfl in_X1 (by decide) q307 (Or.inl rfl) (fun _ _ _ => rfl),
  k_getRN (C := RX6) (T := TX6) (N := 5) (ci := 4) (k := 4) (ref := "LinkTimes$Desk") dX3_laysRest_83 rfl in_X6 (by decide) q429 (Or.inl rfl) (fun _ _ _ => rfl),
  k_iload_n dX3_laysRest_86,
  k_callV (y2 := yJ7_get) (C := RJ7) (T0 := TJ7) (ci := 13) dX3_laysRest_87 sndJ7_get rfl q1347 q695 q696 q141 q697 (by decide +kernel) ⟨by decide, by decide⟩ (by decide) (by decide),
  k_cast (nm := "LinkTimes$Departure") dX3_laysRest_90 q263 zokDep_can,
  k_callV (y2 := yX11_leaves) (C := RX11) (T0 := TX11) (ci := 6) dX3_laysRest_93 sndX11_leaves rfl q1348 q1145 q1146 q160 q1147 (by decide +kernel) ⟨by decide, by decide⟩ (by decide) (by decide),
  k_callV (y2 := yX3_puts) (C := RX3) (T0 := TX3) (ci := 1) dX3_laysRest_96 sndX3_puts rfl q1349 q1351 qs38 q136 q1352 (by decide +kernel) ⟨by decide, by decide⟩ (by decide) (by decide),
  k_iinc dX3_laysRest_99,
  k_goto (t := 12) dX3_laysRest_102 (by decide),
  k_aload_n dX3_laysRest_105,
  k_aret dX3_laysRest_106 rfl (Or.inl ⟨_, rfl⟩), trivial⟩
theorem sndX3_laysRest : MSound 4 yX3_laysRest (ws_ yX3_laysRest cX3_laysRest 3 (some (.object "LinkTimes$Search"))) mX3_laysRest := msound_M (by decide) allX3_laysRest (fun _ _ => rfl)
/-! LinkTimes$Search.laysAll(I)LLinkTimes$Search; -/
noncomputable def kX3_laysAll : ZM := ([(0, zi_ld 1 0 1), (1, zi_ld 0 1 2), (2, zi_putI 17 7 5), (5, zi_ld 1 0 6), (6, zi_push (zvi 0) 7), (7, zi_putI 17 6 10), (10, zi_push (zvi 0) 11), (11, zi_st 0 2 12), (12, zi_ld 0 2 13), (13, zi_ld 1 0 14), (14, zi_getR 17 8 17), (17, zi_getR 16 5 20), (20, zi_getR 20 4 23), (23, zi_callV mJ7_size 29 1 26), (26, zi_cmp zc_ge 76 29), (29, zi_ld 1 0 30), (30, zi_ld 1 0 31), (31, zi_getR 17 8 34), (34, zi_getR 16 5 37), (37, zi_getR 20 4 40), (40, zi_ld 0 2 41), (41, zi_callV mJ7_get 29 2 44), (44, zi_cast zokDep 47), (47, zi_ld 1 0 48), (48, zi_getR 17 8 51), (51, zi_getR 16 5 54), (54, zi_getR 20 4 57), (57, zi_ld 0 2 58), (58, zi_callV mJ7_get 29 2 61), (61, zi_cast zokDep 64), (64, zi_getI 22 5 67), (67, zi_callV mX3_puts 17 3 70), (70, zi_iinc 2 1 73), (73, zi_goto 12), (76, zi_ld 1 0 77), (77, zi_retv 1)], fun _ _ => none)
noncomputable def mX3_laysAll : ZF := zrunM kX3_laysAll 3
theorem enX3_laysAll (x0 : Option Nat) (x1 : Int) (h : PH) : mX3_laysAll [zvr x0, zvi x1] h = zev kX3_laysAll 0 [zvr x0, zvi x1, zvu] [] h := zrunM_eq rfl rfl
theorem hdX3_laysAll_12 (x0 x1 : ZV) (a : Int) (L st : List ZV) (h : PH) : zev kX3_laysAll 12 (x0 :: x1 :: zvi a :: L) st h = zev kX3_laysAll 13 (x0 :: x1 :: zvi a :: L) (zvi a :: st) h := e_ld2I (n := 13) rfl
theorem rX3_laysAll : (∀ (a : Option Nat) (L st : List ZV) (h : PH), zev kX3_laysAll 0 (zvr a :: L) st h = zev kX3_laysAll 1 (zvr a :: L) (zvr a :: st) h) ∧
  (∀ (x0 : ZV) (a : Int) (L st : List ZV) (h : PH), zev kX3_laysAll 1 (x0 :: zvi a :: L) st h = zev kX3_laysAll 2 (x0 :: zvi a :: L) (zvi a :: st) h) ∧
  (∀ (a : Int) (q : Nat) (L st : List ZV) (h : PH), zev kX3_laysAll 2 L (zvi a :: zvr (some q) :: st) h = if (ph_K h q).1 = 17 then zev kX3_laysAll 5 L st (st_I h q 7 a) else none) ∧
  (∀ (a : Option Nat) (L st : List ZV) (h : PH), zev kX3_laysAll 5 (zvr a :: L) st h = zev kX3_laysAll 6 (zvr a :: L) (zvr a :: st) h) ∧
  (∀ (L st : List ZV) (h : PH), zev kX3_laysAll 6 L st h = zev kX3_laysAll 7 L (zvi 0 :: st) h) ∧
  (∀ (a : Int) (q : Nat) (L st : List ZV) (h : PH), zev kX3_laysAll 7 L (zvi a :: zvr (some q) :: st) h = if (ph_K h q).1 = 17 then zev kX3_laysAll 10 L st (st_I h q 6 a) else none) ∧
  (∀ (L st : List ZV) (h : PH), zev kX3_laysAll 10 L st h = zev kX3_laysAll 11 L (zvi 0 :: st) h) ∧
  (∀ (x0 x1 x2 : ZV) (a : Int) (L st : List ZV) (h : PH) (hx : zisL x1 = false) , zev kX3_laysAll 11 (x0 :: x1 :: x2 :: L) (zvi a :: st) h = zev kX3_laysAll 12 (x0 :: x1 :: zvi a :: L) st h) ∧
  (∀ (a : Option Nat) (L st : List ZV) (h : PH), zev kX3_laysAll 13 (zvr a :: L) st h = zev kX3_laysAll 14 (zvr a :: L) (zvr a :: st) h) ∧
  (∀ (q : Nat) (L st : List ZV) (h : PH), zev kX3_laysAll 14 L (zvr (some q) :: st) h = if (ph_K h q).1 % 1000 = 17 then zev kX3_laysAll 17 L (zvr (ph_R h q 8) :: st) h else none) ∧
  (∀ (q : Nat) (L st : List ZV) (h : PH), zev kX3_laysAll 17 L (zvr (some q) :: st) h = if (ph_K h q).1 % 1000 = 16 then zev kX3_laysAll 20 L (zvr (ph_R h q 5) :: st) h else none) ∧
  (∀ (q : Nat) (L st : List ZV) (h : PH), zev kX3_laysAll 20 L (zvr (some q) :: st) h = if (ph_K h q).1 % 1000 = 20 then zev kX3_laysAll 23 L (zvr (ph_R h q 4) :: st) h else none) ∧
  (∀ (q : Nat) (L st : List ZV) (h : PH), zev kX3_laysAll 23 L (zvr (some q) :: st) h = if (ph_K h q).1 % 1000 = 29 ∧ zcat st ≤ 8 then zk kX3_laysAll 23 26 L st (mJ7_size [zvr (some q)] h) else none) ∧
  (∀ (a b : Int) (L st : List ZV) (h : PH), zev kX3_laysAll 26 L (zvi b :: zvi a :: st) h = if a ≥ b then zev kX3_laysAll 76 L st h else zev kX3_laysAll 29 L st h) ∧
  (∀ (a : Option Nat) (L st : List ZV) (h : PH), zev kX3_laysAll 29 (zvr a :: L) st h = zev kX3_laysAll 30 (zvr a :: L) (zvr a :: st) h) ∧
  (∀ (a : Option Nat) (L st : List ZV) (h : PH), zev kX3_laysAll 30 (zvr a :: L) st h = zev kX3_laysAll 31 (zvr a :: L) (zvr a :: st) h) ∧
  (∀ (q : Nat) (L st : List ZV) (h : PH), zev kX3_laysAll 31 L (zvr (some q) :: st) h = if (ph_K h q).1 % 1000 = 17 then zev kX3_laysAll 34 L (zvr (ph_R h q 8) :: st) h else none) ∧
  (∀ (q : Nat) (L st : List ZV) (h : PH), zev kX3_laysAll 34 L (zvr (some q) :: st) h = if (ph_K h q).1 % 1000 = 16 then zev kX3_laysAll 37 L (zvr (ph_R h q 5) :: st) h else none) ∧
  (∀ (q : Nat) (L st : List ZV) (h : PH), zev kX3_laysAll 37 L (zvr (some q) :: st) h = if (ph_K h q).1 % 1000 = 20 then zev kX3_laysAll 40 L (zvr (ph_R h q 4) :: st) h else none) ∧
  (∀ (x0 x1 : ZV) (a : Int) (L st : List ZV) (h : PH), zev kX3_laysAll 40 (x0 :: x1 :: zvi a :: L) st h = zev kX3_laysAll 41 (x0 :: x1 :: zvi a :: L) (zvi a :: st) h) ∧
  (∀ (v0 : ZV) (q : Nat) (L st : List ZV) (h : PH), zev kX3_laysAll 41 L (v0 :: zvr (some q) :: st) h = if (ph_K h q).1 % 1000 = 29 ∧ zcat st ≤ 8 then zk kX3_laysAll 41 44 L st (mJ7_get [zvr (some q), v0] h) else none) ∧
  (∀ (L st : List ZV) (h : PH), zev kX3_laysAll 44 L (zvr none :: st) h = zev kX3_laysAll 47 L (zvr none :: st) h) ∧
  (∀ (q : Nat) (L st : List ZV) (h : PH), zev kX3_laysAll 44 L (zvr (some q) :: st) h = if zokDep (ph_K h q).1 = true then zev kX3_laysAll 47 L (zvr (some q) :: st) h else none) ∧
  (∀ (a : Option Nat) (L st : List ZV) (h : PH), zev kX3_laysAll 47 (zvr a :: L) st h = zev kX3_laysAll 48 (zvr a :: L) (zvr a :: st) h) ∧
  (∀ (q : Nat) (L st : List ZV) (h : PH), zev kX3_laysAll 48 L (zvr (some q) :: st) h = if (ph_K h q).1 % 1000 = 17 then zev kX3_laysAll 51 L (zvr (ph_R h q 8) :: st) h else none) ∧
  (∀ (q : Nat) (L st : List ZV) (h : PH), zev kX3_laysAll 51 L (zvr (some q) :: st) h = if (ph_K h q).1 % 1000 = 16 then zev kX3_laysAll 54 L (zvr (ph_R h q 5) :: st) h else none) ∧
  (∀ (q : Nat) (L st : List ZV) (h : PH), zev kX3_laysAll 54 L (zvr (some q) :: st) h = if (ph_K h q).1 % 1000 = 20 then zev kX3_laysAll 57 L (zvr (ph_R h q 4) :: st) h else none) ∧
  (∀ (x0 x1 : ZV) (a : Int) (L st : List ZV) (h : PH), zev kX3_laysAll 57 (x0 :: x1 :: zvi a :: L) st h = zev kX3_laysAll 58 (x0 :: x1 :: zvi a :: L) (zvi a :: st) h) ∧
  (∀ (v0 : ZV) (q : Nat) (L st : List ZV) (h : PH), zev kX3_laysAll 58 L (v0 :: zvr (some q) :: st) h = if (ph_K h q).1 % 1000 = 29 ∧ zcat st ≤ 8 then zk kX3_laysAll 58 61 L st (mJ7_get [zvr (some q), v0] h) else none) ∧
  (∀ (L st : List ZV) (h : PH), zev kX3_laysAll 61 L (zvr none :: st) h = zev kX3_laysAll 64 L (zvr none :: st) h) ∧
  (∀ (q : Nat) (L st : List ZV) (h : PH), zev kX3_laysAll 61 L (zvr (some q) :: st) h = if zokDep (ph_K h q).1 = true then zev kX3_laysAll 64 L (zvr (some q) :: st) h else none) ∧
  (∀ (q : Nat) (L st : List ZV) (h : PH), zev kX3_laysAll 64 L (zvr (some q) :: st) h = if (ph_K h q).1 % 1000 = 22 then zev kX3_laysAll 67 L (zvi (ph_I h q 5) :: st) h else none) ∧
  (∀ (v0 v1 : ZV) (q : Nat) (L st : List ZV) (h : PH), zev kX3_laysAll 67 L (v1 :: v0 :: zvr (some q) :: st) h = if (ph_K h q).1 % 1000 = 17 ∧ zcat st ≤ 8 then zk kX3_laysAll 67 70 L st (mX3_puts [zvr (some q), v0, v1] h) else none) ∧
  (∀ (x0 x1 : ZV) (a : Int) (L st : List ZV) (h : PH) (hx : zisL x1 = false) , zev kX3_laysAll 70 (x0 :: x1 :: zvi a :: L) st h = zev kX3_laysAll 73 (x0 :: x1 :: zvi (w32 (a + 1)) :: L) st h) ∧
  (∀ (L st : List ZV) (h : PH), zev kX3_laysAll 73 L st h = zev kX3_laysAll 12 L st h) ∧
  (∀ (a : Option Nat) (L st : List ZV) (h : PH), zev kX3_laysAll 76 (zvr a :: L) st h = zev kX3_laysAll 77 (zvr a :: L) (zvr a :: st) h) ∧
  (∀ (a : Option Nat) (L : List ZV) (h : PH), zev kX3_laysAll 77 L [zvr a] h = zrv (zvr a) h) :=
  ⟨fun a L st h => e_ld0R (n := 1) rfl,
  fun x0 a L st h => e_ld1I (n := 2) rfl,
  fun a q L st h => e_putI (kd := 17) (k := 7) (n := 5) rfl,
  fun a L st h => e_ld0R (n := 6) rfl,
  fun L st h => e_push (v := zvi 0) (n := 7) rfl,
  fun a q L st h => e_putI (kd := 17) (k := 6) (n := 10) rfl,
  fun L st h => e_push (v := zvi 0) (n := 11) rfl,
  fun x0 x1 x2 a L st h hx => e_st2I (n := 12) rfl hx,
  fun a L st h => e_ld0R (n := 14) rfl,
  fun q L st h => e_getR (kd := 17) (k := 8) (n := 17) rfl,
  fun q L st h => e_getR (kd := 16) (k := 5) (n := 20) rfl,
  fun q L st h => e_getR (kd := 20) (k := 4) (n := 23) rfl,
  fun q L st h => e_callV1 (F := mJ7_size) (kd := 29) (n := 26) rfl,
  fun a b L st h => e_cmpge (t := 76) (n := 29) rfl,
  fun a L st h => e_ld0R (n := 30) rfl,
  fun a L st h => e_ld0R (n := 31) rfl,
  fun q L st h => e_getR (kd := 17) (k := 8) (n := 34) rfl,
  fun q L st h => e_getR (kd := 16) (k := 5) (n := 37) rfl,
  fun q L st h => e_getR (kd := 20) (k := 4) (n := 40) rfl,
  fun x0 x1 a L st h => e_ld2I (n := 41) rfl,
  fun v0 q L st h => e_callV2 (F := mJ7_get) (kd := 29) (n := 44) rfl,
  fun L st h => e_cast0 (ok := zokDep) (n := 47) rfl,
  fun q L st h => e_cast1 (ok := zokDep) (n := 47) rfl,
  fun a L st h => e_ld0R (n := 48) rfl,
  fun q L st h => e_getR (kd := 17) (k := 8) (n := 51) rfl,
  fun q L st h => e_getR (kd := 16) (k := 5) (n := 54) rfl,
  fun q L st h => e_getR (kd := 20) (k := 4) (n := 57) rfl,
  fun x0 x1 a L st h => e_ld2I (n := 58) rfl,
  fun v0 q L st h => e_callV2 (F := mJ7_get) (kd := 29) (n := 61) rfl,
  fun L st h => e_cast0 (ok := zokDep) (n := 64) rfl,
  fun q L st h => e_cast1 (ok := zokDep) (n := 64) rfl,
  fun q L st h => e_getI (kd := 22) (k := 5) (n := 67) rfl,
  fun v0 v1 q L st h => e_callV3 (F := mX3_puts) (kd := 17) (n := 70) rfl,
  fun x0 x1 a L st h hx => e_iinc2 (d := 1) (n := 73) rfl hx,
  fun L st h => e_goto (t := 12) rfl,
  fun a L st h => e_ld0R (n := 77) rfl,
  fun a L h => e_retR rfl⟩
theorem allX3_laysAll : zall yX3_laysAll cX3_laysAll 3 (some (.object "LinkTimes$Search")) 4 kX3_laysAll.1 :=
  ⟨k_aload_n dX3_laysAll_0,
  k_iload_n dX3_laysAll_1,
  k_putI (C := RX3) (T := TX3) (N := 9) (ci := 1) (k := 7) (ref := "LinkTimes$Search") dX3_laysAll_2 rfl in_X3 tyX3 tyX3_ok nmX3 (by decide) (Or.inl q279) (Or.inl rfl) (Or.inl rfl) (tyX3_ok 7 (by decide)) (fun _ _ _ => rfl),
  k_aload_n dX3_laysAll_5,
  k_iconst dX3_laysAll_6,
  k_putI (C := RX3) (T := TX3) (N := 9) (ci := 1) (k := 6) (ref := "LinkTimes$Search") dX3_laysAll_7 rfl in_X3 tyX3 tyX3_ok nmX3 (by decide) (Or.inl q277) (Or.inl rfl) (Or.inl rfl) (tyX3_ok 6 (by decide)) (fun _ _ _ => rfl),
  k_iconst dX3_laysAll_10,
  k_istore_n dX3_laysAll_11,
  k_iload_n dX3_laysAll_12,
  k_aload_n dX3_laysAll_13,
  k_getR (C := RX3) (T := TX3) (N := 9) (ci := 1) (k := 8) (ref := "LinkTimes$Search") dX3_laysAll_14 rfl in_X3 (by decide) q280 (Or.inl rfl) (fun _ _ _ => rfl),
  k_getRN (C := RX1) (T := TX1) (N := 19) (ci := 0) (k := 5) (ref := "LinkTimes") dX3_laysAll_17 rfl in_X1 (by decide) q307 (Or.inl rfl) (fun _ _ _ => rfl),
  k_getRN (C := RX6) (T := TX6) (N := 5) (ci := 4) (k := 4) (ref := "LinkTimes$Desk") dX3_laysAll_20 rfl in_X6 (by decide) q429 (Or.inl rfl) (fun _ _ _ => rfl),
  k_callV (y2 := yJ7_size) (C := RJ7) (T0 := TJ7) (ci := 13) dX3_laysAll_23 sndJ7_size rfl q1346 q652 q653 q141 q654 (by decide +kernel) ⟨by decide, by decide⟩ (by decide) (by decide),
  k_cmpge (t := 76) dX3_laysAll_26 (by decide),
  k_aload_n dX3_laysAll_29,
  k_aload_n dX3_laysAll_30,
  k_getR (C := RX3) (T := TX3) (N := 9) (ci := 1) (k := 8) (ref := "LinkTimes$Search") dX3_laysAll_31 rfl in_X3 (by decide) q280 (Or.inl rfl) (fun _ _ _ => rfl),
  k_getRN (C := RX1) (T := TX1) (N := 19) (ci := 0) (k := 5) (ref := "LinkTimes") dX3_laysAll_34 rfl in_X1 (by decide) q307 (Or.inl rfl) (fun _ _ _ => rfl),
  k_getRN (C := RX6) (T := TX6) (N := 5) (ci := 4) (k := 4) (ref := "LinkTimes$Desk") dX3_laysAll_37 rfl in_X6 (by decide) q429 (Or.inl rfl) (fun _ _ _ => rfl),
  k_iload_n dX3_laysAll_40,
  k_callV (y2 := yJ7_get) (C := RJ7) (T0 := TJ7) (ci := 13) dX3_laysAll_41 sndJ7_get rfl q1347 q695 q696 q141 q697 (by decide +kernel) ⟨by decide, by decide⟩ (by decide) (by decide),
  k_cast (nm := "LinkTimes$Departure") dX3_laysAll_44 q263 zokDep_can,
  k_aload_n dX3_laysAll_47,
  k_getR (C := RX3) (T := TX3) (N := 9) (ci := 1) (k := 8) (ref := "LinkTimes$Search") dX3_laysAll_48 rfl in_X3 (by decide) q280 (Or.inl rfl) (fun _ _ _ => rfl),
  k_getRN (C := RX1) (T := TX1) (N := 19) (ci := 0) (k := 5) (ref := "LinkTimes") dX3_laysAll_51 rfl in_X1 (by decide) q307 (Or.inl rfl) (fun _ _ _ => rfl),
  k_getRN (C := RX6) (T := TX6) (N := 5) (ci := 4) (k := 4) (ref := "LinkTimes$Desk") dX3_laysAll_54 rfl in_X6 (by decide) q429 (Or.inl rfl) (fun _ _ _ => rfl),
  k_iload_n dX3_laysAll_57,
  k_callV (y2 := yJ7_get) (C := RJ7) (T0 := TJ7) (ci := 13) dX3_laysAll_58 sndJ7_get rfl q1347 q695 q696 q141 q697 (by decide +kernel) ⟨by decide, by decide⟩ (by decide) (by decide),
  k_cast (nm := "LinkTimes$Departure") dX3_laysAll_61 q263 zokDep_can,
  k_getIN (C := RX11) (T := TX11) (N := 9) (ci := 6) (k := 5) (ref := "LinkTimes$Departure") dX3_laysAll_64 rfl in_X11 (by decide) q864 (Or.inl rfl) (fun _ _ _ => rfl),
  k_callV (y2 := yX3_puts) (C := RX3) (T0 := TX3) (ci := 1) dX3_laysAll_67 sndX3_puts rfl q1349 q1351 qs38 q136 q1352 (by decide +kernel) ⟨by decide, by decide⟩ (by decide) (by decide),
  k_iinc dX3_laysAll_70,
  k_goto (t := 12) dX3_laysAll_73 (by decide),
  k_aload_n dX3_laysAll_76,
  k_aret dX3_laysAll_77 rfl (Or.inl ⟨_, rfl⟩), trivial⟩
theorem sndX3_laysAll : MSound 4 yX3_laysAll (ws_ yX3_laysAll cX3_laysAll 3 (some (.object "LinkTimes$Search"))) mX3_laysAll := msound_M (by decide) allX3_laysAll (fun _ _ => rfl)
