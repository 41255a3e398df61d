set_option maxRecDepth 100000
/-! Z program: java/util/Arrays (written by gen/gen_prog.py) -/
set_option maxRecDepth 100000
/-! java/util/Arrays.copyOf([Ljava/lang/Object;ILjava/lang/Class;)[Ljava/lang/Object; -/
noncomputable def kJ17_copyOf_2 : ZM := ([(0, zi_ld 1 2 1), (1, zi_push (zvr (some 1000000007)) 3), (3, zi_acmp 6 13), (6, zi_ld 0 1 7), (7, zi_newa 5 10), (10, zi_goto 24), (13, zi_ld 1 2 14), (14, zi_stuck), (17, zi_ld 0 1 18), (18, zi_stuck), (21, zi_stuck), (24, zi_st 1 3 25), (25, zi_ld 1 0 26), (26, zi_push (zvi 0) 27), (27, zi_ld 1 3 28), (28, zi_push (zvi 0) 29), (29, zi_ld 1 0 30), (30, zi_alen 31), (31, zi_ld 0 1 32), (32, zi_mm zmin 35), (35, zi_acopy zokO 38), (38, zi_ld 1 3 39), (39, zi_retv 1)], fun _ _ => none)
noncomputable def mJ17_copyOf_2 : ZF := zrunM kJ17_copyOf_2 4
theorem enJ17_copyOf_2 (x0 : Option Nat) (x1 : Int) (x2 : Option Nat) (h : PH) : mJ17_copyOf_2 [zvr x0, zvi x1, zvr x2] h = zev kJ17_copyOf_2 0 [zvr x0, zvi x1, zvr x2, zvu] [] h := zrunM_eq rfl rfl
theorem rJ17_copyOf_2 : (∀ (x0 x1 : ZV) (a : Option Nat) (L st : List ZV) (h : PH), zev kJ17_copyOf_2 0 (x0 :: x1 :: zvr a :: L) st h = zev kJ17_copyOf_2 1 (x0 :: x1 :: zvr a :: L) (zvr a :: st) h) ∧
  (∀ (L st : List ZV) (h : PH), zev kJ17_copyOf_2 1 L st h = zev kJ17_copyOf_2 3 L (zvr (some 1000000007) :: st) h) ∧
  (∀ (a b : Option Nat) (L st : List ZV) (h : PH), zev kJ17_copyOf_2 3 L (zvr b :: zvr a :: st) h = if zcomp h a b = true then (if a = b then zev kJ17_copyOf_2 6 L st h else zev kJ17_copyOf_2 13 L st h) else none) ∧
  (∀ (x0 : ZV) (a : Int) (L st : List ZV) (h : PH), zev kJ17_copyOf_2 6 (x0 :: zvi a :: L) st h = zev kJ17_copyOf_2 7 (x0 :: zvi a :: L) (zvi a :: st) h) ∧
  (∀ (a : Int) (L st : List ZV) (h : PH), zev kJ17_copyOf_2 7 L (zvi a :: st) h = if 0 ≤ a ∧ a ≤ 100000 then zev kJ17_copyOf_2 10 L (zvr (some (ph_N h)) :: st) (al_ h 5 a.toNat a.toNat) else none) ∧
  (∀ (L st : List ZV) (h : PH), zev kJ17_copyOf_2 10 L st h = zev kJ17_copyOf_2 24 L st h) ∧
  (∀ (x0 x1 : ZV) (a : Option Nat) (L st : List ZV) (h : PH), zev kJ17_copyOf_2 13 (x0 :: x1 :: zvr a :: L) st h = zev kJ17_copyOf_2 14 (x0 :: x1 :: zvr a :: L) (zvr a :: st) h) ∧
  (∀ (x0 : ZV) (a : Int) (L st : List ZV) (h : PH), zev kJ17_copyOf_2 17 (x0 :: zvi a :: L) st h = zev kJ17_copyOf_2 18 (x0 :: zvi a :: L) (zvi a :: st) h) ∧
  (∀ (x0 x1 x2 x3 : ZV) (a : Option Nat) (L st : List ZV) (h : PH) (hx : zisL x2 = false) , zev kJ17_copyOf_2 24 (x0 :: x1 :: x2 :: x3 :: L) (zvr a :: st) h = zev kJ17_copyOf_2 25 (x0 :: x1 :: x2 :: zvr a :: L) st h) ∧
  (∀ (a : Option Nat) (L st : List ZV) (h : PH), zev kJ17_copyOf_2 25 (zvr a :: L) st h = zev kJ17_copyOf_2 26 (zvr a :: L) (zvr a :: st) h) ∧
  (∀ (L st : List ZV) (h : PH), zev kJ17_copyOf_2 26 L st h = zev kJ17_copyOf_2 27 L (zvi 0 :: st) h) ∧
  (∀ (x0 x1 x2 : ZV) (a : Option Nat) (L st : List ZV) (h : PH), zev kJ17_copyOf_2 27 (x0 :: x1 :: x2 :: zvr a :: L) st h = zev kJ17_copyOf_2 28 (x0 :: x1 :: x2 :: zvr a :: L) (zvr a :: st) h) ∧
  (∀ (L st : List ZV) (h : PH), zev kJ17_copyOf_2 28 L st h = zev kJ17_copyOf_2 29 L (zvi 0 :: st) h) ∧
  (∀ (a : Option Nat) (L st : List ZV) (h : PH), zev kJ17_copyOf_2 29 (zvr a :: L) st h = zev kJ17_copyOf_2 30 (zvr a :: L) (zvr a :: st) h) ∧
  (∀ (q : Nat) (L st : List ZV) (h : PH), zev kJ17_copyOf_2 30 L (zvr (some q) :: st) h = if 1 ≤ (ph_K h q).1 % 1000 ∧ (ph_K h q).1 % 1000 ≤ 7 then zev kJ17_copyOf_2 31 L (zvi (ph_K h q).2 :: st) h else none) ∧
  (∀ (x0 : ZV) (a : Int) (L st : List ZV) (h : PH), zev kJ17_copyOf_2 31 (x0 :: zvi a :: L) st h = zev kJ17_copyOf_2 32 (x0 :: zvi a :: L) (zvi a :: st) h) ∧
  (∀ (a b : Int) (L st : List ZV) (h : PH), zev kJ17_copyOf_2 32 L (zvi b :: zvi a :: st) h = if zcat st ≤ 8 then zev kJ17_copyOf_2 35 L (zvi (zmin a b) :: st) h else none) ∧
  (∀ (n dp : Int) (a : Nat) (sp : Int) (a0 : Nat) (L st : List ZV) (h : PH), zev kJ17_copyOf_2 35 L (zvi n :: zvi dp :: zvr (some a) :: zvi sp :: zvr (some a0) :: st) h = if ((ph_K h a).1 = 5 ∧ (ph_K h a0).1 = 5 ∧ a ≠ a0) ∧ (0 ≤ sp ∧ 0 ≤ dp ∧ 0 ≤ n ∧ sp + n ≤ (ph_K h a0).2 ∧ dp + n ≤ (ph_K h a).2) ∧ zallk zokO h a0 sp n = true ∧ zcat st ≤ 8 then zev kJ17_copyOf_2 38 L st (sa_R h a (zcpR h a0 a sp dp n)) else none) ∧
  (∀ (x0 x1 x2 : ZV) (a : Option Nat) (L st : List ZV) (h : PH), zev kJ17_copyOf_2 38 (x0 :: x1 :: x2 :: zvr a :: L) st h = zev kJ17_copyOf_2 39 (x0 :: x1 :: x2 :: zvr a :: L) (zvr a :: st) h) ∧
  (∀ (a : Option Nat) (L : List ZV) (h : PH), zev kJ17_copyOf_2 39 L [zvr a] h = zrv (zvr a) h) :=
  ⟨fun x0 x1 a L st h => e_ld2R (n := 1) rfl,
  fun L st h => e_push (v := zvr (some 1000000007)) (n := 3) rfl,
  fun a b L st h => e_acmp (t := 6) (n := 13) rfl,
  fun x0 a L st h => e_ld1I (n := 7) rfl,
  fun a L st h => e_newa (kd := 5) (n := 10) rfl,
  fun L st h => e_goto (t := 24) rfl,
  fun x0 x1 a L st h => e_ld2R (n := 14) rfl,
  fun x0 a L st h => e_ld1I (n := 18) rfl,
  fun x0 x1 x2 x3 a L st h hx => e_st3R (n := 25) rfl hx,
  fun a L st h => e_ld0R (n := 26) rfl,
  fun L st h => e_push (v := zvi 0) (n := 27) rfl,
  fun x0 x1 x2 a L st h => e_ld3R (n := 28) rfl,
  fun L st h => e_push (v := zvi 0) (n := 29) rfl,
  fun a L st h => e_ld0R (n := 30) rfl,
  fun q L st h => e_alen (n := 31) rfl,
  fun x0 a L st h => e_ld1I (n := 32) rfl,
  fun a b L st h => e_mm (f := zmin) (n := 35) rfl,
  fun n dp a sp a0 L st h => e_acopy (ok := zokO) (nx := 38) rfl,
  fun x0 x1 x2 a L st h => e_ld3R (n := 39) rfl,
  fun a L h => e_retR rfl⟩
theorem allJ17_copyOf_2 : zall yJ17_copyOf_2 cJ17_copyOf_2 4 (some (.array (.object "java/lang/Object"))) 2 kJ17_copyOf_2.1 :=
  ⟨k_aload_n dJ17_copyOf_2_0,
  k_ldcM dJ17_copyOf_2_1 q796,
  k_acmpne (t := 13) dJ17_copyOf_2_3 (by decide),
  k_iload_n dJ17_copyOf_2_6,
  k_anew (C := "java/lang/Object") (kd := 5) dJ17_copyOf_2_7 (by decide) rfl q797 q246,
  k_goto (t := 24) dJ17_copyOf_2_10 (by decide),
  k_aload_n dJ17_copyOf_2_13,
  k_stuck,
  k_iload_n dJ17_copyOf_2_17,
  k_stuck,
  k_stuck,
  k_astore_n dJ17_copyOf_2_24,
  k_aload_n dJ17_copyOf_2_25,
  k_iconst dJ17_copyOf_2_26,
  k_aload_n dJ17_copyOf_2_27,
  k_iconst dJ17_copyOf_2_28,
  k_aload_n dJ17_copyOf_2_29,
  k_alen dJ17_copyOf_2_30,
  k_iload_n dJ17_copyOf_2_31,
  k_mmin dJ17_copyOf_2_32 q798 q799 q154 q800 (by decide),
  k_acopy dJ17_copyOf_2_35 q801 q803 q802 q156 zokO_can (by decide),
  k_aload_n dJ17_copyOf_2_38,
  k_aret dJ17_copyOf_2_39 rfl (Or.inr ⟨_, rfl⟩), trivial⟩
theorem sndJ17_copyOf_2 : MSound 2 yJ17_copyOf_2 (ws_ yJ17_copyOf_2 cJ17_copyOf_2 4 (some (.array (.object "java/lang/Object")))) mJ17_copyOf_2 := msound_M (by decide) allJ17_copyOf_2 (fun _ _ => rfl)
/-! java/util/Arrays.copyOf([Ljava/lang/Object;I)[Ljava/lang/Object; -/
noncomputable def kJ17_copyOf : ZM := ([(0, zi_ld 1 0 1), (1, zi_ld 0 1 2), (2, zi_ld 1 0 3), (3, zi_getC 6), (6, zi_callS mJ17_copyOf_2 3 9), (9, zi_retv 1)], fun _ _ => none)
noncomputable def mJ17_copyOf : ZF := zrunM kJ17_copyOf 2
theorem enJ17_copyOf (x0 : Option Nat) (x1 : Int) (h : PH) : mJ17_copyOf [zvr x0, zvi x1] h = zev kJ17_copyOf 0 [zvr x0, zvi x1] [] h := zrunM_eq rfl rfl
theorem rJ17_copyOf : (∀ (a : Option Nat) (L st : List ZV) (h : PH), zev kJ17_copyOf 0 (zvr a :: L) st h = zev kJ17_copyOf 1 (zvr a :: L) (zvr a :: st) h) ∧
  (∀ (x0 : ZV) (a : Int) (L st : List ZV) (h : PH), zev kJ17_copyOf 1 (x0 :: zvi a :: L) st h = zev kJ17_copyOf 2 (x0 :: zvi a :: L) (zvi a :: st) h) ∧
  (∀ (a : Option Nat) (L st : List ZV) (h : PH), zev kJ17_copyOf 2 (zvr a :: L) st h = zev kJ17_copyOf 3 (zvr a :: L) (zvr a :: st) h) ∧
  (∀ (q : Nat) (L st : List ZV) (h : PH), zev kJ17_copyOf 3 L (zvr (some q) :: st) h = if (ph_K h q).1 = 5 ∧ zcat st ≤ 8 then zev kJ17_copyOf 6 L (zvr (some 1000000007) :: st) h else none) ∧
  (∀ (v0 v1 v2 : ZV) (L st : List ZV) (h : PH), zev kJ17_copyOf 6 L (v2 :: v1 :: v0 :: st) h = if zcat st ≤ 8 then zk kJ17_copyOf 6 9 L st (mJ17_copyOf_2 [v0, v1, v2] h) else none) ∧
  (∀ (a : Option Nat) (L : List ZV) (h : PH), zev kJ17_copyOf 9 L [zvr a] h = zrv (zvr a) h) :=
  ⟨fun a L st h => e_ld0R (n := 1) rfl,
  fun x0 a L st h => e_ld1I (n := 2) rfl,
  fun a L st h => e_ld0R (n := 3) rfl,
  fun q L st h => e_getC (nx := 6) rfl,
  fun v0 v1 v2 L st h => e_callS3 (F := mJ17_copyOf_2) (n := 9) rfl,
  fun a L h => e_retR rfl⟩
theorem allJ17_copyOf : zall yJ17_copyOf cJ17_copyOf 2 (some (.array (.object "java/lang/Object"))) 3 kJ17_copyOf.1 :=
  ⟨k_aload_n dJ17_copyOf_0,
  k_iload_n dJ17_copyOf_1,
  k_aload_n dJ17_copyOf_2,
  k_getC dJ17_copyOf_3 q768 q2413 q2412 q769 q792 (by decide),
  k_callS (y2 := yJ17_copyOf_2) dJ17_copyOf_6 sndJ17_copyOf_2 q793 q794 q155 q795 (by decide +kernel) ⟨by decide, by decide⟩ (by decide) (by decide),
  k_aret dJ17_copyOf_9 rfl (Or.inr ⟨_, rfl⟩), trivial⟩
theorem sndJ17_copyOf : MSound 3 yJ17_copyOf (ws_ yJ17_copyOf cJ17_copyOf 2 (some (.array (.object "java/lang/Object")))) mJ17_copyOf := msound_M (by decide) allJ17_copyOf (fun _ _ => rfl)
/-! Z program: java/util/ArrayList (written by gen/gen_prog.py) -/
set_option maxRecDepth 100000
/-! java/util/ArrayList.grow(I)[Ljava/lang/Object; -/
noncomputable def kJ7_grow_2 : ZM := ([(0, zi_ld 1 0 1), (1, zi_getR 29 1 4), (4, zi_alen 5), (5, zi_st 0 2 6), (6, zi_ld 0 2 7), (7, zi_if (fun a => zc_gt a 0) 20 10), (10, zi_ld 1 0 11), (11, zi_getR 29 1 14), (14, zi_push (zvr (some 1000000001)) 17), (17, zi_acmp 45 20), (20, zi_ld 0 2 21), (21, zi_ld 0 1 22), (22, zi_ld 0 2 23), (23, zi_bin (fun a b => w32 (a - b)) 24), (24, zi_ld 0 2 25), (25, zi_push (zvi 1) 26), (26, zi_bin zshr 27), (27, zi_callS mJ15_newLength 3 30), (30, zi_st 0 3 31), (31, zi_ld 1 0 32), (32, zi_ld 1 0 33), (33, zi_getR 29 1 36), (36, zi_ld 0 3 37), (37, zi_callS mJ17_copyOf 2 40), (40, zi_dupx1 41), (41, zi_putR 29 1 44), (44, zi_retv 1), (45, zi_ld 1 0 46), (46, zi_push (zvi 10) 48), (48, zi_ld 0 1 49), (49, zi_mm zmax 52), (52, zi_newa 5 55), (55, zi_dupx1 56), (56, zi_putR 29 1 59), (59, zi_retv 1)], fun _ _ => none)
noncomputable def mJ7_grow_2 : ZF := zrunM kJ7_grow_2 4
theorem enJ7_grow_2 (x0 : Option Nat) (x1 : Int) (h : PH) : mJ7_grow_2 [zvr x0, zvi x1] h = zev kJ7_grow_2 0 [zvr x0, zvi x1, zvu, zvu] [] h := zrunM_eq rfl rfl
theorem rJ7_grow_2 : (∀ (a : Option Nat) (L st : List ZV) (h : PH), zev kJ7_grow_2 0 (zvr a :: L) st h = zev kJ7_grow_2 1 (zvr a :: L) (zvr a :: st) h) ∧
  (∀ (q : Nat) (L st : List ZV) (h : PH), zev kJ7_grow_2 1 L (zvr (some q) :: st) h = if (ph_K h q).1 % 1000 = 29 then zev kJ7_grow_2 4 L (zvr (ph_R h q 1) :: st) h else none) ∧
  (∀ (q : Nat) (L st : List ZV) (h : PH), zev kJ7_grow_2 4 L (zvr (some q) :: st) h = if 1 ≤ (ph_K h q).1 % 1000 ∧ (ph_K h q).1 % 1000 ≤ 7 then zev kJ7_grow_2 5 L (zvi (ph_K h q).2 :: st) h else none) ∧
  (∀ (x0 x1 x2 : ZV) (a : Int) (L st : List ZV) (h : PH) (hx : zisL x1 = false) , zev kJ7_grow_2 5 (x0 :: x1 :: x2 :: L) (zvi a :: st) h = zev kJ7_grow_2 6 (x0 :: x1 :: zvi a :: L) st h) ∧
  (∀ (x0 x1 : ZV) (a : Int) (L st : List ZV) (h : PH), zev kJ7_grow_2 6 (x0 :: x1 :: zvi a :: L) st h = zev kJ7_grow_2 7 (x0 :: x1 :: zvi a :: L) (zvi a :: st) h) ∧
  (∀ (a : Int) (L st : List ZV) (h : PH), zev kJ7_grow_2 7 L (zvi a :: st) h = if a > 0 then zev kJ7_grow_2 20 L st h else zev kJ7_grow_2 10 L st h) ∧
  (∀ (a : Option Nat) (L st : List ZV) (h : PH), zev kJ7_grow_2 10 (zvr a :: L) st h = zev kJ7_grow_2 11 (zvr a :: L) (zvr a :: st) h) ∧
  (∀ (q : Nat) (L st : List ZV) (h : PH), zev kJ7_grow_2 11 L (zvr (some q) :: st) h = if (ph_K h q).1 % 1000 = 29 then zev kJ7_grow_2 14 L (zvr (ph_R h q 1) :: st) h else none) ∧
  (∀ (L st : List ZV) (h : PH), zev kJ7_grow_2 14 L st h = zev kJ7_grow_2 17 L (zvr (some 1000000001) :: st) h) ∧
  (∀ (a b : Option Nat) (L st : List ZV) (h : PH), zev kJ7_grow_2 17 L (zvr b :: zvr a :: st) h = if zcomp h a b = true then (if a = b then zev kJ7_grow_2 45 L st h else zev kJ7_grow_2 20 L st h) else none) ∧
  (∀ (x0 x1 : ZV) (a : Int) (L st : List ZV) (h : PH), zev kJ7_grow_2 20 (x0 :: x1 :: zvi a :: L) st h = zev kJ7_grow_2 21 (x0 :: x1 :: zvi a :: L) (zvi a :: st) h) ∧
  (∀ (x0 : ZV) (a : Int) (L st : List ZV) (h : PH), zev kJ7_grow_2 21 (x0 :: zvi a :: L) st h = zev kJ7_grow_2 22 (x0 :: zvi a :: L) (zvi a :: st) h) ∧
  (∀ (x0 x1 : ZV) (a : Int) (L st : List ZV) (h : PH), zev kJ7_grow_2 22 (x0 :: x1 :: zvi a :: L) st h = zev kJ7_grow_2 23 (x0 :: x1 :: zvi a :: L) (zvi a :: st) h) ∧
  (∀ (a b : Int) (L st : List ZV) (h : PH), zev kJ7_grow_2 23 L (zvi b :: zvi a :: st) h = zev kJ7_grow_2 24 L (zvi (w32 (a - b)) :: st) h) ∧
  (∀ (x0 x1 : ZV) (a : Int) (L st : List ZV) (h : PH), zev kJ7_grow_2 24 (x0 :: x1 :: zvi a :: L) st h = zev kJ7_grow_2 25 (x0 :: x1 :: zvi a :: L) (zvi a :: st) h) ∧
  (∀ (L st : List ZV) (h : PH), zev kJ7_grow_2 25 L st h = zev kJ7_grow_2 26 L (zvi 1 :: st) h) ∧
  (∀ (a b : Int) (L st : List ZV) (h : PH), zev kJ7_grow_2 26 L (zvi b :: zvi a :: st) h = zev kJ7_grow_2 27 L (zvi (zshr a b) :: st) h) ∧
  (∀ (v0 v1 v2 : ZV) (L st : List ZV) (h : PH), zev kJ7_grow_2 27 L (v2 :: v1 :: v0 :: st) h = if zcat st ≤ 8 then zk kJ7_grow_2 27 30 L st (mJ15_newLength [v0, v1, v2] h) else none) ∧
  (∀ (x0 x1 x2 x3 : ZV) (a : Int) (L st : List ZV) (h : PH) (hx : zisL x2 = false) , zev kJ7_grow_2 30 (x0 :: x1 :: x2 :: x3 :: L) (zvi a :: st) h = zev kJ7_grow_2 31 (x0 :: x1 :: x2 :: zvi a :: L) st h) ∧
  (∀ (a : Option Nat) (L st : List ZV) (h : PH), zev kJ7_grow_2 31 (zvr a :: L) st h = zev kJ7_grow_2 32 (zvr a :: L) (zvr a :: st) h) ∧
  (∀ (a : Option Nat) (L st : List ZV) (h : PH), zev kJ7_grow_2 32 (zvr a :: L) st h = zev kJ7_grow_2 33 (zvr a :: L) (zvr a :: st) h) ∧
  (∀ (q : Nat) (L st : List ZV) (h : PH), zev kJ7_grow_2 33 L (zvr (some q) :: st) h = if (ph_K h q).1 % 1000 = 29 then zev kJ7_grow_2 36 L (zvr (ph_R h q 1) :: st) h else none) ∧
  (∀ (x0 x1 x2 : ZV) (a : Int) (L st : List ZV) (h : PH), zev kJ7_grow_2 36 (x0 :: x1 :: x2 :: zvi a :: L) st h = zev kJ7_grow_2 37 (x0 :: x1 :: x2 :: zvi a :: L) (zvi a :: st) h) ∧
  (∀ (v0 v1 : ZV) (L st : List ZV) (h : PH), zev kJ7_grow_2 37 L (v1 :: v0 :: st) h = if zcat st ≤ 8 then zk kJ7_grow_2 37 40 L st (mJ17_copyOf [v0, v1] h) else none) ∧
  (∀ (a : Int) (b : Int) (L st : List ZV) (h : PH), zev kJ7_grow_2 40 L (zvi a :: zvi b :: st) h = zev kJ7_grow_2 41 L (zvi a :: zvi b :: zvi a :: st) h) ∧
  (∀ (a : Int) (b : Option Nat) (L st : List ZV) (h : PH), zev kJ7_grow_2 40 L (zvi a :: zvr b :: st) h = zev kJ7_grow_2 41 L (zvi a :: zvr b :: zvi a :: st) h) ∧
  (∀ (a : Option Nat) (b : Int) (L st : List ZV) (h : PH), zev kJ7_grow_2 40 L (zvr a :: zvi b :: st) h = zev kJ7_grow_2 41 L (zvr a :: zvi b :: zvr a :: st) h) ∧
  (∀ (a : Option Nat) (b : Option Nat) (L st : List ZV) (h : PH), zev kJ7_grow_2 40 L (zvr a :: zvr b :: st) h = zev kJ7_grow_2 41 L (zvr a :: zvr b :: zvr a :: st) h) ∧
  (∀ (a : Option Nat) (q : Nat) (L st : List ZV) (h : PH), zev kJ7_grow_2 41 L (zvr a :: zvr (some q) :: st) h = if (ph_K h q).1 = 29 then zev kJ7_grow_2 44 L st (st_R h q 1 a) else none) ∧
  (∀ (a : Option Nat) (L : List ZV) (h : PH), zev kJ7_grow_2 44 L [zvr a] h = zrv (zvr a) h) ∧
  (∀ (a : Option Nat) (L st : List ZV) (h : PH), zev kJ7_grow_2 45 (zvr a :: L) st h = zev kJ7_grow_2 46 (zvr a :: L) (zvr a :: st) h) ∧
  (∀ (L st : List ZV) (h : PH), zev kJ7_grow_2 46 L st h = zev kJ7_grow_2 48 L (zvi 10 :: st) h) ∧
  (∀ (x0 : ZV) (a : Int) (L st : List ZV) (h : PH), zev kJ7_grow_2 48 (x0 :: zvi a :: L) st h = zev kJ7_grow_2 49 (x0 :: zvi a :: L) (zvi a :: st) h) ∧
  (∀ (a b : Int) (L st : List ZV) (h : PH), zev kJ7_grow_2 49 L (zvi b :: zvi a :: st) h = if zcat st ≤ 8 then zev kJ7_grow_2 52 L (zvi (zmax a b) :: st) h else none) ∧
  (∀ (a : Int) (L st : List ZV) (h : PH), zev kJ7_grow_2 52 L (zvi a :: st) h = if 0 ≤ a ∧ a ≤ 100000 then zev kJ7_grow_2 55 L (zvr (some (ph_N h)) :: st) (al_ h 5 a.toNat a.toNat) else none) ∧
  (∀ (a : Int) (b : Int) (L st : List ZV) (h : PH), zev kJ7_grow_2 55 L (zvi a :: zvi b :: st) h = zev kJ7_grow_2 56 L (zvi a :: zvi b :: zvi a :: st) h) ∧
  (∀ (a : Int) (b : Option Nat) (L st : List ZV) (h : PH), zev kJ7_grow_2 55 L (zvi a :: zvr b :: st) h = zev kJ7_grow_2 56 L (zvi a :: zvr b :: zvi a :: st) h) ∧
  (∀ (a : Option Nat) (b : Int) (L st : List ZV) (h : PH), zev kJ7_grow_2 55 L (zvr a :: zvi b :: st) h = zev kJ7_grow_2 56 L (zvr a :: zvi b :: zvr a :: st) h) ∧
  (∀ (a : Option Nat) (b : Option Nat) (L st : List ZV) (h : PH), zev kJ7_grow_2 55 L (zvr a :: zvr b :: st) h = zev kJ7_grow_2 56 L (zvr a :: zvr b :: zvr a :: st) h) ∧
  (∀ (a : Option Nat) (q : Nat) (L st : List ZV) (h : PH), zev kJ7_grow_2 56 L (zvr a :: zvr (some q) :: st) h = if (ph_K h q).1 = 29 then zev kJ7_grow_2 59 L st (st_R h q 1 a) else none) ∧
  (∀ (a : Option Nat) (L : List ZV) (h : PH), zev kJ7_grow_2 59 L [zvr a] h = zrv (zvr a) h) :=
  ⟨fun a L st h => e_ld0R (n := 1) rfl,
  fun q L st h => e_getR (kd := 29) (k := 1) (n := 4) rfl,
  fun q L st h => e_alen (n := 5) rfl,
  fun x0 x1 x2 a L st h hx => e_st2I (n := 6) rfl hx,
  fun x0 x1 a L st h => e_ld2I (n := 7) rfl,
  fun a L st h => e_ifgt (t := 20) (n := 10) rfl,
  fun a L st h => e_ld0R (n := 11) rfl,
  fun q L st h => e_getR (kd := 29) (k := 1) (n := 14) rfl,
  fun L st h => e_push (v := zvr (some 1000000001)) (n := 17) rfl,
  fun a b L st h => e_acmp (t := 45) (n := 20) rfl,
  fun x0 x1 a L st h => e_ld2I (n := 21) rfl,
  fun x0 a L st h => e_ld1I (n := 22) rfl,
  fun x0 x1 a L st h => e_ld2I (n := 23) rfl,
  fun a b L st h => e_bin (f := (fun a b => w32 (a - b))) (n := 24) rfl,
  fun x0 x1 a L st h => e_ld2I (n := 25) rfl,
  fun L st h => e_push (v := zvi 1) (n := 26) rfl,
  fun a b L st h => e_bin (f := zshr) (n := 27) rfl,
  fun v0 v1 v2 L st h => e_callS3 (F := mJ15_newLength) (n := 30) rfl,
  fun x0 x1 x2 x3 a L st h hx => e_st3I (n := 31) rfl hx,
  fun a L st h => e_ld0R (n := 32) rfl,
  fun a L st h => e_ld0R (n := 33) rfl,
  fun q L st h => e_getR (kd := 29) (k := 1) (n := 36) rfl,
  fun x0 x1 x2 a L st h => e_ld3I (n := 37) rfl,
  fun v0 v1 L st h => e_callS2 (F := mJ17_copyOf) (n := 40) rfl,
  fun a b L st h => e_dupx1II (n := 41) rfl,
  fun a b L st h => e_dupx1IR (n := 41) rfl,
  fun a b L st h => e_dupx1RI (n := 41) rfl,
  fun a b L st h => e_dupx1RR (n := 41) rfl,
  fun a q L st h => e_putR (kd := 29) (k := 1) (n := 44) rfl,
  fun a L h => e_retR rfl,
  fun a L st h => e_ld0R (n := 46) rfl,
  fun L st h => e_push (v := zvi 10) (n := 48) rfl,
  fun x0 a L st h => e_ld1I (n := 49) rfl,
  fun a b L st h => e_mm (f := zmax) (n := 52) rfl,
  fun a L st h => e_newa (kd := 5) (n := 55) rfl,
  fun a b L st h => e_dupx1II (n := 56) rfl,
  fun a b L st h => e_dupx1IR (n := 56) rfl,
  fun a b L st h => e_dupx1RI (n := 56) rfl,
  fun a b L st h => e_dupx1RR (n := 56) rfl,
  fun a q L st h => e_putR (kd := 29) (k := 1) (n := 59) rfl,
  fun a L h => e_retR rfl⟩
theorem allJ7_grow_2 : zall yJ7_grow_2 cJ7_grow_2 4 (some (.array (.object "java/lang/Object"))) 4 kJ7_grow_2.1 :=
  ⟨k_aload_n dJ7_grow_2_0,
  k_getR (C := RJ7) (T := TJ7) (N := 3) (ci := 13) (k := 1) (ref := "java/util/ArrayList") dJ7_grow_2_1 rfl in_J7 (by decide) q405 (Or.inl rfl) (fun _ _ _ => rfl),
  k_alen dJ7_grow_2_4,
  k_istore_n dJ7_grow_2_5,
  k_iload_n dJ7_grow_2_6,
  k_ifgt (t := 20) dJ7_grow_2_7 (by decide),
  k_aload_n dJ7_grow_2_10,
  k_getR (C := RJ7) (T := TJ7) (N := 3) (ci := 13) (k := 1) (ref := "java/util/ArrayList") dJ7_grow_2_11 rfl in_J7 (by decide) q405 (Or.inl rfl) (fun _ _ _ => rfl),
  k_gets (C := "java/util/ArrayList") dJ7_grow_2_14 (List.mem_of_getElem? (i := 0) rfl) q403 rfl trivial,
  k_acmpeq (t := 45) dJ7_grow_2_17 (by decide),
  k_iload_n dJ7_grow_2_20,
  k_iload_n dJ7_grow_2_21,
  k_iload_n dJ7_grow_2_22,
  k_isub dJ7_grow_2_23,
  k_iload_n dJ7_grow_2_24,
  k_iconst dJ7_grow_2_25,
  k_ishr dJ7_grow_2_26,
  k_callS (y2 := yJ15_newLength) dJ7_grow_2_27 sndJ15_newLength q755 q756 q153 q757 (by decide +kernel) ⟨by decide, by decide⟩ (by decide) (by decide),
  k_istore_n dJ7_grow_2_30,
  k_aload_n dJ7_grow_2_31,
  k_aload_n dJ7_grow_2_32,
  k_getR (C := RJ7) (T := TJ7) (N := 3) (ci := 13) (k := 1) (ref := "java/util/ArrayList") dJ7_grow_2_33 rfl in_J7 (by decide) q405 (Or.inl rfl) (fun _ _ _ => rfl),
  k_iload_n dJ7_grow_2_36,
  k_callS (y2 := yJ17_copyOf) dJ7_grow_2_37 sndJ17_copyOf q765 q766 q155 q767 (by decide +kernel) ⟨by decide, by decide⟩ (by decide) (by decide),
  k_dupx1 dJ7_grow_2_40,
  k_putR (C := RJ7) (T := TJ7) (N := 3) (ci := 13) (k := 1) (ref := "java/util/ArrayList") dJ7_grow_2_41 rfl in_J7 tyJ7 tyJ7_ok nmJ7 (by decide) (Or.inl q405) (Or.inl rfl) (Or.inl rfl) (tyJ7_ok 1 (by decide)) (Or.inr ⟨_, rfl⟩) (fun _ _ _ => rfl),
  k_aret dJ7_grow_2_44 rfl (Or.inr ⟨_, rfl⟩),
  k_aload_n dJ7_grow_2_45,
  k_bipush dJ7_grow_2_46,
  k_iload_n dJ7_grow_2_48,
  k_mmax dJ7_grow_2_49 q804 q759 q154 q760 (by decide),
  k_anew (C := "java/lang/Object") (kd := 5) dJ7_grow_2_52 (by decide) rfl q805 q246,
  k_dupx1 dJ7_grow_2_55,
  k_putR (C := RJ7) (T := TJ7) (N := 3) (ci := 13) (k := 1) (ref := "java/util/ArrayList") dJ7_grow_2_56 rfl in_J7 tyJ7 tyJ7_ok nmJ7 (by decide) (Or.inl q405) (Or.inl rfl) (Or.inl rfl) (tyJ7_ok 1 (by decide)) (Or.inr ⟨_, rfl⟩) (fun _ _ _ => rfl),
  k_aret dJ7_grow_2_59 rfl (Or.inr ⟨_, rfl⟩), trivial⟩
theorem sndJ7_grow_2 : MSound 4 yJ7_grow_2 (ws_ yJ7_grow_2 cJ7_grow_2 4 (some (.array (.object "java/lang/Object")))) mJ7_grow_2 := msound_M (by decide) allJ7_grow_2 (fun _ _ => rfl)
/-! java/util/ArrayList.grow()[Ljava/lang/Object; -/
noncomputable def kJ7_grow : ZM := ([(0, zi_ld 1 0 1), (1, zi_ld 1 0 2), (2, zi_getI 29 2 5), (5, zi_push (zvi 1) 6), (6, zi_bin (fun a b => w32 (a + b)) 7), (7, zi_callV mJ7_grow_2 29 2 10), (10, zi_retv 1)], fun _ _ => none)
noncomputable def mJ7_grow : ZF := zrunM kJ7_grow 1
theorem enJ7_grow (x0 : Option Nat) (h : PH) : mJ7_grow [zvr x0] h = zev kJ7_grow 0 [zvr x0] [] h := zrunM_eq rfl rfl
theorem rJ7_grow : (∀ (a : Option Nat) (L st : List ZV) (h : PH), zev kJ7_grow 0 (zvr a :: L) st h = zev kJ7_grow 1 (zvr a :: L) (zvr a :: st) h) ∧
  (∀ (a : Option Nat) (L st : List ZV) (h : PH), zev kJ7_grow 1 (zvr a :: L) st h = zev kJ7_grow 2 (zvr a :: L) (zvr a :: st) h) ∧
  (∀ (q : Nat) (L st : List ZV) (h : PH), zev kJ7_grow 2 L (zvr (some q) :: st) h = if (ph_K h q).1 % 1000 = 29 then zev kJ7_grow 5 L (zvi (ph_I h q 2) :: st) h else none) ∧
  (∀ (L st : List ZV) (h : PH), zev kJ7_grow 5 L st h = zev kJ7_grow 6 L (zvi 1 :: st) h) ∧
  (∀ (a b : Int) (L st : List ZV) (h : PH), zev kJ7_grow 6 L (zvi b :: zvi a :: st) h = zev kJ7_grow 7 L (zvi (w32 (a + b)) :: st) h) ∧
  (∀ (v0 : ZV) (q : Nat) (L st : List ZV) (h : PH), zev kJ7_grow 7 L (v0 :: zvr (some q) :: st) h = if (ph_K h q).1 % 1000 = 29 ∧ zcat st ≤ 8 then zk kJ7_grow 7 10 L st (mJ7_grow_2 [zvr (some q), v0] h) else none) ∧
  (∀ (a : Option Nat) (L : List ZV) (h : PH), zev kJ7_grow 10 L [zvr a] h = zrv (zvr a) h) :=
  ⟨fun a L st h => e_ld0R (n := 1) rfl,
  fun a L st h => e_ld0R (n := 2) rfl,
  fun q L st h => e_getI (kd := 29) (k := 2) (n := 5) rfl,
  fun L st h => e_push (v := zvi 1) (n := 6) rfl,
  fun a b L st h => e_bin (f := (fun a b => w32 (a + b))) (n := 7) rfl,
  fun v0 q L st h => e_callV2 (F := mJ7_grow_2) (kd := 29) (n := 10) rfl,
  fun a L h => e_retR rfl⟩
theorem allJ7_grow : zall yJ7_grow cJ7_grow 1 (some (.array (.object "java/lang/Object"))) 5 kJ7_grow.1 :=
  ⟨k_aload_n dJ7_grow_0,
  k_aload_n dJ7_grow_1,
  k_getI (C := RJ7) (T := TJ7) (N := 3) (ci := 13) (k := 2) (ref := "java/util/ArrayList") dJ7_grow_2 rfl in_J7 (by decide) q406 (Or.inl rfl) (fun _ _ _ => rfl),
  k_iconst dJ7_grow_5,
  k_iadd dJ7_grow_6,
  k_callV (y2 := yJ7_grow_2) (C := RJ7) (T0 := TJ7) (ci := 13) dJ7_grow_7 sndJ7_grow_2 rfl q751 q753 qs22 q141 q754 (by decide +kernel) ⟨by decide, by decide⟩ (by decide) (by decide),
  k_aret dJ7_grow_10 rfl (Or.inr ⟨_, rfl⟩), trivial⟩
theorem sndJ7_grow : MSound 5 yJ7_grow (ws_ yJ7_grow cJ7_grow 1 (some (.array (.object "java/lang/Object")))) mJ7_grow := msound_M (by decide) allJ7_grow (fun _ _ => rfl)
/-! java/util/ArrayList.add(Ljava/lang/Object;[Ljava/lang/Object;I)V -/
noncomputable def kJ7_add_2 : ZM := ([(0, zi_ld 0 3 1), (1, zi_ld 1 2 2), (2, zi_alen 3), (3, zi_cmp zc_ne 11 6), (6, zi_ld 1 0 7), (7, zi_callV mJ7_grow 29 1 10), (10, zi_st 1 2 11), (11, zi_ld 1 2 12), (12, zi_ld 0 3 13), (13, zi_ld 1 1 14), (14, zi_astR 5 zokO 15), (15, zi_ld 1 0 16), (16, zi_ld 0 3 17), (17, zi_push (zvi 1) 18), (18, zi_bin (fun a b => w32 (a + b)) 19), (19, zi_putI 29 2 22), (22, zi_ret)], fun _ _ => none)
noncomputable def mJ7_add_2 : ZF := zrunM kJ7_add_2 4
theorem enJ7_add_2 (x0 : Option Nat) (x1 : Option Nat) (x2 : Option Nat) (x3 : Int) (h : PH) : mJ7_add_2 [zvr x0, zvr x1, zvr x2, zvi x3] h = zev kJ7_add_2 0 [zvr x0, zvr x1, zvr x2, zvi x3] [] h := zrunM_eq rfl rfl
theorem rJ7_add_2 : (∀ (x0 x1 x2 : ZV) (a : Int) (L st : List ZV) (h : PH), zev kJ7_add_2 0 (x0 :: x1 :: x2 :: zvi a :: L) st h = zev kJ7_add_2 1 (x0 :: x1 :: x2 :: zvi a :: L) (zvi a :: st) h) ∧
  (∀ (x0 x1 : ZV) (a : Option Nat) (L st : List ZV) (h : PH), zev kJ7_add_2 1 (x0 :: x1 :: zvr a :: L) st h = zev kJ7_add_2 2 (x0 :: x1 :: zvr a :: L) (zvr a :: st) h) ∧
  (∀ (q : Nat) (L st : List ZV) (h : PH), zev kJ7_add_2 2 L (zvr (some q) :: st) h = if 1 ≤ (ph_K h q).1 % 1000 ∧ (ph_K h q).1 % 1000 ≤ 7 then zev kJ7_add_2 3 L (zvi (ph_K h q).2 :: st) h else none) ∧
  (∀ (a b : Int) (L st : List ZV) (h : PH), zev kJ7_add_2 3 L (zvi b :: zvi a :: st) h = if a ≠ b then zev kJ7_add_2 11 L st h else zev kJ7_add_2 6 L st h) ∧
  (∀ (a : Option Nat) (L st : List ZV) (h : PH), zev kJ7_add_2 6 (zvr a :: L) st h = zev kJ7_add_2 7 (zvr a :: L) (zvr a :: st) h) ∧
  (∀ (q : Nat) (L st : List ZV) (h : PH), zev kJ7_add_2 7 L (zvr (some q) :: st) h = if (ph_K h q).1 % 1000 = 29 ∧ zcat st ≤ 8 then zk kJ7_add_2 7 10 L st (mJ7_grow [zvr (some q)] h) else none) ∧
  (∀ (x0 x1 x2 : ZV) (a : Option Nat) (L st : List ZV) (h : PH) (hx : zisL x1 = false) , zev kJ7_add_2 10 (x0 :: x1 :: x2 :: L) (zvr a :: st) h = zev kJ7_add_2 11 (x0 :: x1 :: zvr a :: L) st h) ∧
  (∀ (x0 x1 : ZV) (a : Option Nat) (L st : List ZV) (h : PH), zev kJ7_add_2 11 (x0 :: x1 :: zvr a :: L) st h = zev kJ7_add_2 12 (x0 :: x1 :: zvr a :: L) (zvr a :: st) h) ∧
  (∀ (x0 x1 x2 : ZV) (a : Int) (L st : List ZV) (h : PH), zev kJ7_add_2 12 (x0 :: x1 :: x2 :: zvi a :: L) st h = zev kJ7_add_2 13 (x0 :: x1 :: x2 :: zvi a :: L) (zvi a :: st) h) ∧
  (∀ (x0 : ZV) (a : Option Nat) (L st : List ZV) (h : PH), zev kJ7_add_2 13 (x0 :: zvr a :: L) st h = zev kJ7_add_2 14 (x0 :: zvr a :: L) (zvr a :: st) h) ∧
  (∀ (j : Int) (q : Nat) (L st : List ZV) (h : PH), zev kJ7_add_2 14 L (zvr none :: zvi j :: zvr (some q) :: st) h = if (ph_K h q).1 = 5 ∧ 0 ≤ j ∧ j < (ph_K h q).2 then zev kJ7_add_2 15 L st (st_R h q j none) else none) ∧
  (∀ (a : Nat) (j : Int) (q : Nat) (L st : List ZV) (h : PH), zev kJ7_add_2 14 L (zvr (some a) :: zvi j :: zvr (some q) :: st) h = if (ph_K h q).1 = 5 ∧ 0 ≤ j ∧ j < (ph_K h q).2 ∧ zokO (ph_K h a).1 = true then zev kJ7_add_2 15 L st (st_R h q j (some a)) else none) ∧
  (∀ (a : Option Nat) (L st : List ZV) (h : PH), zev kJ7_add_2 15 (zvr a :: L) st h = zev kJ7_add_2 16 (zvr a :: L) (zvr a :: st) h) ∧
  (∀ (x0 x1 x2 : ZV) (a : Int) (L st : List ZV) (h : PH), zev kJ7_add_2 16 (x0 :: x1 :: x2 :: zvi a :: L) st h = zev kJ7_add_2 17 (x0 :: x1 :: x2 :: zvi a :: L) (zvi a :: st) h) ∧
  (∀ (L st : List ZV) (h : PH), zev kJ7_add_2 17 L st h = zev kJ7_add_2 18 L (zvi 1 :: st) h) ∧
  (∀ (a b : Int) (L st : List ZV) (h : PH), zev kJ7_add_2 18 L (zvi b :: zvi a :: st) h = zev kJ7_add_2 19 L (zvi (w32 (a + b)) :: st) h) ∧
  (∀ (a : Int) (q : Nat) (L st : List ZV) (h : PH), zev kJ7_add_2 19 L (zvi a :: zvr (some q) :: st) h = if (ph_K h q).1 = 29 then zev kJ7_add_2 22 L st (st_I h q 2 a) else none) ∧
  (∀ (L : List ZV) (h : PH), zev kJ7_add_2 22 L [] h = zr0 h) :=
  ⟨fun x0 x1 x2 a L st h => e_ld3I (n := 1) rfl,
  fun x0 x1 a L st h => e_ld2R (n := 2) rfl,
  fun q L st h => e_alen (n := 3) rfl,
  fun a b L st h => e_cmpne (t := 11) (n := 6) rfl,
  fun a L st h => e_ld0R (n := 7) rfl,
  fun q L st h => e_callV1 (F := mJ7_grow) (kd := 29) (n := 10) rfl,
  fun x0 x1 x2 a L st h hx => e_st2R (n := 11) rfl hx,
  fun x0 x1 a L st h => e_ld2R (n := 12) rfl,
  fun x0 x1 x2 a L st h => e_ld3I (n := 13) rfl,
  fun x0 a L st h => e_ld1R (n := 14) rfl,
  fun j q L st h => e_astR0 (kd := 5) (ok := zokO) (n := 15) rfl,
  fun a j q L st h => e_astR1 (kd := 5) (ok := zokO) (n := 15) rfl,
  fun a L st h => e_ld0R (n := 16) rfl,
  fun x0 x1 x2 a L st h => e_ld3I (n := 17) rfl,
  fun L st h => e_push (v := zvi 1) (n := 18) rfl,
  fun a b L st h => e_bin (f := (fun a b => w32 (a + b))) (n := 19) rfl,
  fun a q L st h => e_putI (kd := 29) (k := 2) (n := 22) rfl,
  fun L h => e_ret rfl⟩
theorem allJ7_add_2 : zall yJ7_add_2 cJ7_add_2 4 none 6 kJ7_add_2.1 :=
  ⟨k_iload_n dJ7_add_2_0,
  k_aload_n dJ7_add_2_1,
  k_alen dJ7_add_2_2,
  k_cmpne (t := 11) dJ7_add_2_3 (by decide),
  k_aload_n dJ7_add_2_6,
  k_callV (y2 := yJ7_grow) (C := RJ7) (T0 := TJ7) (ci := 13) dJ7_add_2_7 sndJ7_grow rfl q747 q749 qs21 q141 q750 (by decide +kernel) ⟨by decide, by decide⟩ (by decide) (by decide),
  k_astore_n dJ7_add_2_10,
  k_aload_n dJ7_add_2_11,
  k_iload_n dJ7_add_2_12,
  k_aload_n dJ7_add_2_13,
  k_aast (kd := 5) (nm := "java/lang/Object") dJ7_add_2_14 (by decide) rfl zokO_can,
  k_aload_n dJ7_add_2_15,
  k_iload_n dJ7_add_2_16,
  k_iconst dJ7_add_2_17,
  k_iadd dJ7_add_2_18,
  k_putI (C := RJ7) (T := TJ7) (N := 3) (ci := 13) (k := 2) (ref := "java/util/ArrayList") dJ7_add_2_19 rfl in_J7 tyJ7 tyJ7_ok nmJ7 (by decide) (Or.inl q406) (Or.inl rfl) (Or.inl rfl) (tyJ7_ok 2 (by decide)) (fun _ _ _ => rfl),
  k_ret dJ7_add_2_22, trivial⟩
theorem sndJ7_add_2 : MSound 6 yJ7_add_2 (ws_ yJ7_add_2 cJ7_add_2 4 none) mJ7_add_2 := msound_M (by decide) allJ7_add_2 (fun _ _ => rfl)
/-! java/util/ArrayList.add(Ljava/lang/Object;)Z -/
noncomputable def kJ7_add : ZM := ([(0, zi_ld 1 0 1), (1, zi_dup 2), (2, zi_getI 29 0 5), (5, zi_push (zvi 1) 6), (6, zi_bin (fun a b => w32 (a + b)) 7), (7, zi_putI 29 0 10), (10, zi_ld 1 0 11), (11, zi_ld 1 1 12), (12, zi_ld 1 0 13), (13, zi_getR 29 1 16), (16, zi_ld 1 0 17), (17, zi_getI 29 2 20), (20, zi_callV mJ7_add_2 29 4 23), (23, zi_push (zvi 1) 24), (24, zi_retz)], fun _ _ => none)
noncomputable def mJ7_add : ZF := zrunM kJ7_add 2
theorem enJ7_add (x0 : Option Nat) (x1 : Option Nat) (h : PH) : mJ7_add [zvr x0, zvr x1] h = zev kJ7_add 0 [zvr x0, zvr x1] [] h := zrunM_eq rfl rfl
theorem rJ7_add : (∀ (a : Option Nat) (L st : List ZV) (h : PH), zev kJ7_add 0 (zvr a :: L) st h = zev kJ7_add 1 (zvr a :: L) (zvr a :: st) h) ∧
  (∀ (a : Int) (L st : List ZV) (h : PH), zev kJ7_add 1 L (zvi a :: st) h = zev kJ7_add 2 L (zvi a :: zvi a :: st) h) ∧
  (∀ (a : Option Nat) (L st : List ZV) (h : PH), zev kJ7_add 1 L (zvr a :: st) h = zev kJ7_add 2 L (zvr a :: zvr a :: st) h) ∧
  (∀ (q : Nat) (L st : List ZV) (h : PH), zev kJ7_add 2 L (zvr (some q) :: st) h = if (ph_K h q).1 % 1000 = 29 then zev kJ7_add 5 L (zvi (ph_I h q 0) :: st) h else none) ∧
  (∀ (L st : List ZV) (h : PH), zev kJ7_add 5 L st h = zev kJ7_add 6 L (zvi 1 :: st) h) ∧
  (∀ (a b : Int) (L st : List ZV) (h : PH), zev kJ7_add 6 L (zvi b :: zvi a :: st) h = zev kJ7_add 7 L (zvi (w32 (a + b)) :: st) h) ∧
  (∀ (a : Int) (q : Nat) (L st : List ZV) (h : PH), zev kJ7_add 7 L (zvi a :: zvr (some q) :: st) h = if (ph_K h q).1 = 29 then zev kJ7_add 10 L st (st_I h q 0 a) else none) ∧
  (∀ (a : Option Nat) (L st : List ZV) (h : PH), zev kJ7_add 10 (zvr a :: L) st h = zev kJ7_add 11 (zvr a :: L) (zvr a :: st) h) ∧
  (∀ (x0 : ZV) (a : Option Nat) (L st : List ZV) (h : PH), zev kJ7_add 11 (x0 :: zvr a :: L) st h = zev kJ7_add 12 (x0 :: zvr a :: L) (zvr a :: st) h) ∧
  (∀ (a : Option Nat) (L st : List ZV) (h : PH), zev kJ7_add 12 (zvr a :: L) st h = zev kJ7_add 13 (zvr a :: L) (zvr a :: st) h) ∧
  (∀ (q : Nat) (L st : List ZV) (h : PH), zev kJ7_add 13 L (zvr (some q) :: st) h = if (ph_K h q).1 % 1000 = 29 then zev kJ7_add 16 L (zvr (ph_R h q 1) :: st) h else none) ∧
  (∀ (a : Option Nat) (L st : List ZV) (h : PH), zev kJ7_add 16 (zvr a :: L) st h = zev kJ7_add 17 (zvr a :: L) (zvr a :: st) h) ∧
  (∀ (q : Nat) (L st : List ZV) (h : PH), zev kJ7_add 17 L (zvr (some q) :: st) h = if (ph_K h q).1 % 1000 = 29 then zev kJ7_add 20 L (zvi (ph_I h q 2) :: st) h else none) ∧
  (∀ (v0 v1 v2 : ZV) (q : Nat) (L st : List ZV) (h : PH), zev kJ7_add 20 L (v2 :: v1 :: v0 :: zvr (some q) :: st) h = if (ph_K h q).1 % 1000 = 29 ∧ zcat st ≤ 8 then zk kJ7_add 20 23 L st (mJ7_add_2 [zvr (some q), v0, v1, v2] h) else none) ∧
  (∀ (L st : List ZV) (h : PH), zev kJ7_add 23 L st h = zev kJ7_add 24 L (zvi 1 :: st) h) ∧
  (∀ (a : Int) (L : List ZV) (h : PH), zev kJ7_add 24 L [zvi a] h = if a = 0 ∨ a = 1 then zrv (zvi a) h else none) :=
  ⟨fun a L st h => e_ld0R (n := 1) rfl,
  fun a L st h => e_dupI (n := 2) rfl,
  fun a L st h => e_dupR (n := 2) rfl,
  fun q L st h => e_getI (kd := 29) (k := 0) (n := 5) rfl,
  fun L st h => e_push (v := zvi 1) (n := 6) rfl,
  fun a b L st h => e_bin (f := (fun a b => w32 (a + b))) (n := 7) rfl,
  fun a q L st h => e_putI (kd := 29) (k := 0) (n := 10) rfl,
  fun a L st h => e_ld0R (n := 11) rfl,
  fun x0 a L st h => e_ld1R (n := 12) rfl,
  fun a L st h => e_ld0R (n := 13) rfl,
  fun q L st h => e_getR (kd := 29) (k := 1) (n := 16) rfl,
  fun a L st h => e_ld0R (n := 17) rfl,
  fun q L st h => e_getI (kd := 29) (k := 2) (n := 20) rfl,
  fun v0 v1 v2 q L st h => e_callV4 (F := mJ7_add_2) (kd := 29) (n := 23) rfl,
  fun L st h => e_push (v := zvi 1) (n := 24) rfl,
  fun a L h => e_retz rfl⟩
theorem allJ7_add : zall yJ7_add cJ7_add 2 (some .boolean) 7 kJ7_add.1 :=
  ⟨k_aload_n dJ7_add_0,
  k_dup dJ7_add_1,
  k_getI (C := RJ7) (T := TJ7) (N := 3) (ci := 13) (k := 0) (ref := "java/util/ArrayList") dJ7_add_2 rfl in_J7 (by decide) q408 (Or.inr q409) (fun _ _ _ => rfl),
  k_iconst dJ7_add_5,
  k_iadd dJ7_add_6,
  k_putI (C := RJ7) (T := TJ7) (N := 3) (ci := 13) (k := 0) (ref := "java/util/ArrayList") dJ7_add_7 rfl in_J7 tyJ7 tyJ7_ok nmJ7 (by decide) (Or.inl q408) (Or.inr q409) (Or.inl rfl) (tyJ7_ok 0 (by decide)) (fun _ _ _ => rfl),
  k_aload_n dJ7_add_10,
  k_aload_n dJ7_add_11,
  k_aload_n dJ7_add_12,
  k_getR (C := RJ7) (T := TJ7) (N := 3) (ci := 13) (k := 1) (ref := "java/util/ArrayList") dJ7_add_13 rfl in_J7 (by decide) q405 (Or.inl rfl) (fun _ _ _ => rfl),
  k_aload_n dJ7_add_16,
  k_getI (C := RJ7) (T := TJ7) (N := 3) (ci := 13) (k := 2) (ref := "java/util/ArrayList") dJ7_add_17 rfl in_J7 (by decide) q406 (Or.inl rfl) (fun _ _ _ => rfl),
  k_callV (y2 := yJ7_add_2) (C := RJ7) (T0 := TJ7) (ci := 13) dJ7_add_20 sndJ7_add_2 rfl q743 q745 qs20 q141 q746 (by decide +kernel) ⟨by decide, by decide⟩ (by decide) (by decide),
  k_iconst dJ7_add_23,
  k_zret dJ7_add_24, trivial⟩
theorem sndJ7_add : MSound 7 yJ7_add (ws_ yJ7_add cJ7_add 2 (some .boolean)) mJ7_add := msound_M (by decide) allJ7_add (fun _ _ => rfl)
/-! java/util/ArrayList.fastRemove([Ljava/lang/Object;I)V -/
noncomputable def kJ7_fastRemove : ZM := ([(0, zi_ld 1 0 1), (1, zi_dup 2), (2, zi_getI 29 0 5), (5, zi_push (zvi 1) 6), (6, zi_bin (fun a b => w32 (a + b)) 7), (7, zi_putI 29 0 10), (10, zi_ld 1 0 11), (11, zi_getI 29 2 14), (14, zi_push (zvi 1) 15), (15, zi_bin (fun a b => w32 (a - b)) 16), (16, zi_dup 17), (17, zi_st 0 3 18), (18, zi_ld 0 2 19), (19, zi_cmp zc_le 34 22), (22, zi_ld 1 1 23), (23, zi_ld 0 2 24), (24, zi_push (zvi 1) 25), (25, zi_bin (fun a b => w32 (a + b)) 26), (26, zi_ld 1 1 27), (27, zi_ld 0 2 28), (28, zi_ld 0 3 29), (29, zi_ld 0 2 30), (30, zi_bin (fun a b => w32 (a - b)) 31), (31, zi_acopy zokO 34), (34, zi_ld 1 1 35), (35, zi_ld 1 0 36), (36, zi_ld 0 3 37), (37, zi_dupx1 38), (38, zi_putI 29 2 41), (41, zi_push (zvr none) 42), (42, zi_astR 5 zokO 43), (43, zi_ret)], fun _ _ => none)
noncomputable def mJ7_fastRemove : ZF := zrunM kJ7_fastRemove 4
theorem enJ7_fastRemove (x0 : Option Nat) (x1 : Option Nat) (x2 : Int) (h : PH) : mJ7_fastRemove [zvr x0, zvr x1, zvi x2] h = zev kJ7_fastRemove 0 [zvr x0, zvr x1, zvi x2, zvu] [] h := zrunM_eq rfl rfl
theorem rJ7_fastRemove : (∀ (a : Option Nat) (L st : List ZV) (h : PH), zev kJ7_fastRemove 0 (zvr a :: L) st h = zev kJ7_fastRemove 1 (zvr a :: L) (zvr a :: st) h) ∧
  (∀ (a : Int) (L st : List ZV) (h : PH), zev kJ7_fastRemove 1 L (zvi a :: st) h = zev kJ7_fastRemove 2 L (zvi a :: zvi a :: st) h) ∧
  (∀ (a : Option Nat) (L st : List ZV) (h : PH), zev kJ7_fastRemove 1 L (zvr a :: st) h = zev kJ7_fastRemove 2 L (zvr a :: zvr a :: st) h) ∧
  (∀ (q : Nat) (L st : List ZV) (h : PH), zev kJ7_fastRemove 2 L (zvr (some q) :: st) h = if (ph_K h q).1 % 1000 = 29 then zev kJ7_fastRemove 5 L (zvi (ph_I h q 0) :: st) h else none) ∧
  (∀ (L st : List ZV) (h : PH), zev kJ7_fastRemove 5 L st h = zev kJ7_fastRemove 6 L (zvi 1 :: st) h) ∧
  (∀ (a b : Int) (L st : List ZV) (h : PH), zev kJ7_fastRemove 6 L (zvi b :: zvi a :: st) h = zev kJ7_fastRemove 7 L (zvi (w32 (a + b)) :: st) h) ∧
  (∀ (a : Int) (q : Nat) (L st : List ZV) (h : PH), zev kJ7_fastRemove 7 L (zvi a :: zvr (some q) :: st) h = if (ph_K h q).1 = 29 then zev kJ7_fastRemove 10 L st (st_I h q 0 a) else none) ∧
  (∀ (a : Option Nat) (L st : List ZV) (h : PH), zev kJ7_fastRemove 10 (zvr a :: L) st h = zev kJ7_fastRemove 11 (zvr a :: L) (zvr a :: st) h) ∧
  (∀ (q : Nat) (L st : List ZV) (h : PH), zev kJ7_fastRemove 11 L (zvr (some q) :: st) h = if (ph_K h q).1 % 1000 = 29 then zev kJ7_fastRemove 14 L (zvi (ph_I h q 2) :: st) h else none) ∧
  (∀ (L st : List ZV) (h : PH), zev kJ7_fastRemove 14 L st h = zev kJ7_fastRemove 15 L (zvi 1 :: st) h) ∧
  (∀ (a b : Int) (L st : List ZV) (h : PH), zev kJ7_fastRemove 15 L (zvi b :: zvi a :: st) h = zev kJ7_fastRemove 16 L (zvi (w32 (a - b)) :: st) h) ∧
  (∀ (a : Int) (L st : List ZV) (h : PH), zev kJ7_fastRemove 16 L (zvi a :: st) h = zev kJ7_fastRemove 17 L (zvi a :: zvi a :: st) h) ∧
  (∀ (a : Option Nat) (L st : List ZV) (h : PH), zev kJ7_fastRemove 16 L (zvr a :: st) h = zev kJ7_fastRemove 17 L (zvr a :: zvr a :: st) h) ∧
  (∀ (x0 x1 x2 x3 : ZV) (a : Int) (L st : List ZV) (h : PH) (hx : zisL x2 = false) , zev kJ7_fastRemove 17 (x0 :: x1 :: x2 :: x3 :: L) (zvi a :: st) h = zev kJ7_fastRemove 18 (x0 :: x1 :: x2 :: zvi a :: L) st h) ∧
  (∀ (x0 x1 : ZV) (a : Int) (L st : List ZV) (h : PH), zev kJ7_fastRemove 18 (x0 :: x1 :: zvi a :: L) st h = zev kJ7_fastRemove 19 (x0 :: x1 :: zvi a :: L) (zvi a :: st) h) ∧
  (∀ (a b : Int) (L st : List ZV) (h : PH), zev kJ7_fastRemove 19 L (zvi b :: zvi a :: st) h = if a ≤ b then zev kJ7_fastRemove 34 L st h else zev kJ7_fastRemove 22 L st h) ∧
  (∀ (x0 : ZV) (a : Option Nat) (L st : List ZV) (h : PH), zev kJ7_fastRemove 22 (x0 :: zvr a :: L) st h = zev kJ7_fastRemove 23 (x0 :: zvr a :: L) (zvr a :: st) h) ∧
  (∀ (x0 x1 : ZV) (a : Int) (L st : List ZV) (h : PH), zev kJ7_fastRemove 23 (x0 :: x1 :: zvi a :: L) st h = zev kJ7_fastRemove 24 (x0 :: x1 :: zvi a :: L) (zvi a :: st) h) ∧
  (∀ (L st : List ZV) (h : PH), zev kJ7_fastRemove 24 L st h = zev kJ7_fastRemove 25 L (zvi 1 :: st) h) ∧
  (∀ (a b : Int) (L st : List ZV) (h : PH), zev kJ7_fastRemove 25 L (zvi b :: zvi a :: st) h = zev kJ7_fastRemove 26 L (zvi (w32 (a + b)) :: st) h) ∧
  (∀ (x0 : ZV) (a : Option Nat) (L st : List ZV) (h : PH), zev kJ7_fastRemove 26 (x0 :: zvr a :: L) st h = zev kJ7_fastRemove 27 (x0 :: zvr a :: L) (zvr a :: st) h) ∧
  (∀ (x0 x1 : ZV) (a : Int) (L st : List ZV) (h : PH), zev kJ7_fastRemove 27 (x0 :: x1 :: zvi a :: L) st h = zev kJ7_fastRemove 28 (x0 :: x1 :: zvi a :: L) (zvi a :: st) h) ∧
  (∀ (x0 x1 x2 : ZV) (a : Int) (L st : List ZV) (h : PH), zev kJ7_fastRemove 28 (x0 :: x1 :: x2 :: zvi a :: L) st h = zev kJ7_fastRemove 29 (x0 :: x1 :: x2 :: zvi a :: L) (zvi a :: st) h) ∧
  (∀ (x0 x1 : ZV) (a : Int) (L st : List ZV) (h : PH), zev kJ7_fastRemove 29 (x0 :: x1 :: zvi a :: L) st h = zev kJ7_fastRemove 30 (x0 :: x1 :: zvi a :: L) (zvi a :: st) h) ∧
  (∀ (a b : Int) (L st : List ZV) (h : PH), zev kJ7_fastRemove 30 L (zvi b :: zvi a :: st) h = zev kJ7_fastRemove 31 L (zvi (w32 (a - b)) :: st) h) ∧
  (∀ (n dp : Int) (a : Nat) (sp : Int) (a0 : Nat) (L st : List ZV) (h : PH), zev kJ7_fastRemove 31 L (zvi n :: zvi dp :: zvr (some a) :: zvi sp :: zvr (some a0) :: st) h = if ((ph_K h a).1 = 5 ∧ (ph_K h a0).1 = 5 ∧ a ≠ a0) ∧ (0 ≤ sp ∧ 0 ≤ dp ∧ 0 ≤ n ∧ sp + n ≤ (ph_K h a0).2 ∧ dp + n ≤ (ph_K h a).2) ∧ zallk zokO h a0 sp n = true ∧ zcat st ≤ 8 then zev kJ7_fastRemove 34 L st (sa_R h a (zcpR h a0 a sp dp n)) else none) ∧
  (∀ (x0 : ZV) (a : Option Nat) (L st : List ZV) (h : PH), zev kJ7_fastRemove 34 (x0 :: zvr a :: L) st h = zev kJ7_fastRemove 35 (x0 :: zvr a :: L) (zvr a :: st) h) ∧
  (∀ (a : Option Nat) (L st : List ZV) (h : PH), zev kJ7_fastRemove 35 (zvr a :: L) st h = zev kJ7_fastRemove 36 (zvr a :: L) (zvr a :: st) h) ∧
  (∀ (x0 x1 x2 : ZV) (a : Int) (L st : List ZV) (h : PH), zev kJ7_fastRemove 36 (x0 :: x1 :: x2 :: zvi a :: L) st h = zev kJ7_fastRemove 37 (x0 :: x1 :: x2 :: zvi a :: L) (zvi a :: st) h) ∧
  (∀ (a : Int) (b : Int) (L st : List ZV) (h : PH), zev kJ7_fastRemove 37 L (zvi a :: zvi b :: st) h = zev kJ7_fastRemove 38 L (zvi a :: zvi b :: zvi a :: st) h) ∧
  (∀ (a : Int) (b : Option Nat) (L st : List ZV) (h : PH), zev kJ7_fastRemove 37 L (zvi a :: zvr b :: st) h = zev kJ7_fastRemove 38 L (zvi a :: zvr b :: zvi a :: st) h) ∧
  (∀ (a : Option Nat) (b : Int) (L st : List ZV) (h : PH), zev kJ7_fastRemove 37 L (zvr a :: zvi b :: st) h = zev kJ7_fastRemove 38 L (zvr a :: zvi b :: zvr a :: st) h) ∧
  (∀ (a : Option Nat) (b : Option Nat) (L st : List ZV) (h : PH), zev kJ7_fastRemove 37 L (zvr a :: zvr b :: st) h = zev kJ7_fastRemove 38 L (zvr a :: zvr b :: zvr a :: st) h) ∧
  (∀ (a : Int) (q : Nat) (L st : List ZV) (h : PH), zev kJ7_fastRemove 38 L (zvi a :: zvr (some q) :: st) h = if (ph_K h q).1 = 29 then zev kJ7_fastRemove 41 L st (st_I h q 2 a) else none) ∧
  (∀ (L st : List ZV) (h : PH), zev kJ7_fastRemove 41 L st h = zev kJ7_fastRemove 42 L (zvr none :: st) h) ∧
  (∀ (j : Int) (q : Nat) (L st : List ZV) (h : PH), zev kJ7_fastRemove 42 L (zvr none :: zvi j :: zvr (some q) :: st) h = if (ph_K h q).1 = 5 ∧ 0 ≤ j ∧ j < (ph_K h q).2 then zev kJ7_fastRemove 43 L st (st_R h q j none) else none) ∧
  (∀ (a : Nat) (j : Int) (q : Nat) (L st : List ZV) (h : PH), zev kJ7_fastRemove 42 L (zvr (some a) :: zvi j :: zvr (some q) :: st) h = if (ph_K h q).1 = 5 ∧ 0 ≤ j ∧ j < (ph_K h q).2 ∧ zokO (ph_K h a).1 = true then zev kJ7_fastRemove 43 L st (st_R h q j (some a)) else none) ∧
  (∀ (L : List ZV) (h : PH), zev kJ7_fastRemove 43 L [] h = zr0 h) :=
  ⟨fun a L st h => e_ld0R (n := 1) rfl,
  fun a L st h => e_dupI (n := 2) rfl,
  fun a L st h => e_dupR (n := 2) rfl,
  fun q L st h => e_getI (kd := 29) (k := 0) (n := 5) rfl,
  fun L st h => e_push (v := zvi 1) (n := 6) rfl,
  fun a b L st h => e_bin (f := (fun a b => w32 (a + b))) (n := 7) rfl,
  fun a q L st h => e_putI (kd := 29) (k := 0) (n := 10) rfl,
  fun a L st h => e_ld0R (n := 11) rfl,
  fun q L st h => e_getI (kd := 29) (k := 2) (n := 14) rfl,
  fun L st h => e_push (v := zvi 1) (n := 15) rfl,
  fun a b L st h => e_bin (f := (fun a b => w32 (a - b))) (n := 16) rfl,
  fun a L st h => e_dupI (n := 17) rfl,
  fun a L st h => e_dupR (n := 17) rfl,
  fun x0 x1 x2 x3 a L st h hx => e_st3I (n := 18) rfl hx,
  fun x0 x1 a L st h => e_ld2I (n := 19) rfl,
  fun a b L st h => e_cmple (t := 34) (n := 22) rfl,
  fun x0 a L st h => e_ld1R (n := 23) rfl,
  fun x0 x1 a L st h => e_ld2I (n := 24) rfl,
  fun L st h => e_push (v := zvi 1) (n := 25) rfl,
  fun a b L st h => e_bin (f := (fun a b => w32 (a + b))) (n := 26) rfl,
  fun x0 a L st h => e_ld1R (n := 27) rfl,
  fun x0 x1 a L st h => e_ld2I (n := 28) rfl,
  fun x0 x1 x2 a L st h => e_ld3I (n := 29) rfl,
  fun x0 x1 a L st h => e_ld2I (n := 30) rfl,
  fun a b L st h => e_bin (f := (fun a b => w32 (a - b))) (n := 31) rfl,
  fun n dp a sp a0 L st h => e_acopy (ok := zokO) (nx := 34) rfl,
  fun x0 a L st h => e_ld1R (n := 35) rfl,
  fun a L st h => e_ld0R (n := 36) rfl,
  fun x0 x1 x2 a L st h => e_ld3I (n := 37) rfl,
  fun a b L st h => e_dupx1II (n := 38) rfl,
  fun a b L st h => e_dupx1IR (n := 38) rfl,
  fun a b L st h => e_dupx1RI (n := 38) rfl,
  fun a b L st h => e_dupx1RR (n := 38) rfl,
  fun a q L st h => e_putI (kd := 29) (k := 2) (n := 41) rfl,
  fun L st h => e_push (v := zvr none) (n := 42) rfl,
  fun j q L st h => e_astR0 (kd := 5) (ok := zokO) (n := 43) rfl,
  fun a j q L st h => e_astR1 (kd := 5) (ok := zokO) (n := 43) rfl,
  fun L h => e_ret rfl⟩
theorem allJ7_fastRemove : zall yJ7_fastRemove cJ7_fastRemove 4 none 2 kJ7_fastRemove.1 :=
  ⟨k_aload_n dJ7_fastRemove_0,
  k_dup dJ7_fastRemove_1,
  k_getI (C := RJ7) (T := TJ7) (N := 3) (ci := 13) (k := 0) (ref := "java/util/ArrayList") dJ7_fastRemove_2 rfl in_J7 (by decide) q408 (Or.inr q409) (fun _ _ _ => rfl),
  k_iconst dJ7_fastRemove_5,
  k_iadd dJ7_fastRemove_6,
  k_putI (C := RJ7) (T := TJ7) (N := 3) (ci := 13) (k := 0) (ref := "java/util/ArrayList") dJ7_fastRemove_7 rfl in_J7 tyJ7 tyJ7_ok nmJ7 (by decide) (Or.inl q408) (Or.inr q409) (Or.inl rfl) (tyJ7_ok 0 (by decide)) (fun _ _ _ => rfl),
  k_aload_n dJ7_fastRemove_10,
  k_getI (C := RJ7) (T := TJ7) (N := 3) (ci := 13) (k := 2) (ref := "java/util/ArrayList") dJ7_fastRemove_11 rfl in_J7 (by decide) q406 (Or.inl rfl) (fun _ _ _ => rfl),
  k_iconst dJ7_fastRemove_14,
  k_isub dJ7_fastRemove_15,
  k_dup dJ7_fastRemove_16,
  k_istore_n dJ7_fastRemove_17,
  k_iload_n dJ7_fastRemove_18,
  k_cmple (t := 34) dJ7_fastRemove_19 (by decide),
  k_aload_n dJ7_fastRemove_22,
  k_iload_n dJ7_fastRemove_23,
  k_iconst dJ7_fastRemove_24,
  k_iadd dJ7_fastRemove_25,
  k_aload_n dJ7_fastRemove_26,
  k_iload_n dJ7_fastRemove_27,
  k_iload_n dJ7_fastRemove_28,
  k_iload_n dJ7_fastRemove_29,
  k_isub dJ7_fastRemove_30,
  k_acopy dJ7_fastRemove_31 q1770 q803 q802 q156 zokO_can (by decide),
  k_aload_n dJ7_fastRemove_34,
  k_aload_n dJ7_fastRemove_35,
  k_iload_n dJ7_fastRemove_36,
  k_dupx1 dJ7_fastRemove_37,
  k_putI (C := RJ7) (T := TJ7) (N := 3) (ci := 13) (k := 2) (ref := "java/util/ArrayList") dJ7_fastRemove_38 rfl in_J7 tyJ7 tyJ7_ok nmJ7 (by decide) (Or.inl q406) (Or.inl rfl) (Or.inl rfl) (tyJ7_ok 2 (by decide)) (fun _ _ _ => rfl),
  k_anull dJ7_fastRemove_41,
  k_aast (kd := 5) (nm := "java/lang/Object") dJ7_fastRemove_42 (by decide) rfl zokO_can,
  k_ret dJ7_fastRemove_43, trivial⟩
theorem sndJ7_fastRemove : MSound 2 yJ7_fastRemove (ws_ yJ7_fastRemove cJ7_fastRemove 4 none) mJ7_fastRemove := msound_M (by decide) allJ7_fastRemove (fun _ _ => rfl)
/-! java/util/ArrayList.remove(I)Ljava/lang/Object; -/
noncomputable def kJ7_remove : ZM := ([(0, zi_ld 0 1 1), (1, zi_ld 1 0 2), (2, zi_getI 29 2 5), (5, zi_callS mJ14_checkIndex 2 8), (8, zi_pop 9), (9, zi_ld 1 0 10), (10, zi_getR 29 1 13), (13, zi_st 1 2 14), (14, zi_ld 1 2 15), (15, zi_ld 0 1 16), (16, zi_aldR 17), (17, zi_st 1 3 18), (18, zi_ld 1 0 19), (19, zi_ld 1 2 20), (20, zi_ld 0 1 21), (21, zi_callV mJ7_fastRemove 29 3 24), (24, zi_ld 1 3 25), (25, zi_retv 1)], fun _ _ => none)
noncomputable def mJ7_remove : ZF := zrunM kJ7_remove 4
theorem enJ7_remove (x0 : Option Nat) (x1 : Int) (h : PH) : mJ7_remove [zvr x0, zvi x1] h = zev kJ7_remove 0 [zvr x0, zvi x1, zvu, zvu] [] h := zrunM_eq rfl rfl
theorem rJ7_remove : (∀ (x0 : ZV) (a : Int) (L st : List ZV) (h : PH), zev kJ7_remove 0 (x0 :: zvi a :: L) st h = zev kJ7_remove 1 (x0 :: zvi a :: L) (zvi a :: st) h) ∧
  (∀ (a : Option Nat) (L st : List ZV) (h : PH), zev kJ7_remove 1 (zvr a :: L) st h = zev kJ7_remove 2 (zvr a :: L) (zvr a :: st) h) ∧
  (∀ (q : Nat) (L st : List ZV) (h : PH), zev kJ7_remove 2 L (zvr (some q) :: st) h = if (ph_K h q).1 % 1000 = 29 then zev kJ7_remove 5 L (zvi (ph_I h q 2) :: st) h else none) ∧
  (∀ (v0 v1 : ZV) (L st : List ZV) (h : PH), zev kJ7_remove 5 L (v1 :: v0 :: st) h = if zcat st ≤ 8 then zk kJ7_remove 5 8 L st (mJ14_checkIndex [v0, v1] h) else none) ∧
  (∀ (a : Int) (L st : List ZV) (h : PH), zev kJ7_remove 8 L (zvi a :: st) h = zev kJ7_remove 9 L st h) ∧
  (∀ (a : Option Nat) (L st : List ZV) (h : PH), zev kJ7_remove 8 L (zvr a :: st) h = zev kJ7_remove 9 L st h) ∧
  (∀ (a : Option Nat) (L st : List ZV) (h : PH), zev kJ7_remove 9 (zvr a :: L) st h = zev kJ7_remove 10 (zvr a :: L) (zvr a :: st) h) ∧
  (∀ (q : Nat) (L st : List ZV) (h : PH), zev kJ7_remove 10 L (zvr (some q) :: st) h = if (ph_K h q).1 % 1000 = 29 then zev kJ7_remove 13 L (zvr (ph_R h q 1) :: st) h else none) ∧
  (∀ (x0 x1 x2 : ZV) (a : Option Nat) (L st : List ZV) (h : PH) (hx : zisL x1 = false) , zev kJ7_remove 13 (x0 :: x1 :: x2 :: L) (zvr a :: st) h = zev kJ7_remove 14 (x0 :: x1 :: zvr a :: L) st h) ∧
  (∀ (x0 x1 : ZV) (a : Option Nat) (L st : List ZV) (h : PH), zev kJ7_remove 14 (x0 :: x1 :: zvr a :: L) st h = zev kJ7_remove 15 (x0 :: x1 :: zvr a :: L) (zvr a :: st) h) ∧
  (∀ (x0 : ZV) (a : Int) (L st : List ZV) (h : PH), zev kJ7_remove 15 (x0 :: zvi a :: L) st h = zev kJ7_remove 16 (x0 :: zvi a :: L) (zvi a :: st) h) ∧
  (∀ (j : Int) (q : Nat) (L st : List ZV) (h : PH), zev kJ7_remove 16 L (zvi j :: zvr (some q) :: st) h = if 5 ≤ (ph_K h q).1 % 1000 ∧ (ph_K h q).1 % 1000 ≤ 7 ∧ 0 ≤ j ∧ j < (ph_K h q).2 then zev kJ7_remove 17 L (zvr (ph_R h q j) :: st) h else none) ∧
  (∀ (x0 x1 x2 x3 : ZV) (a : Option Nat) (L st : List ZV) (h : PH) (hx : zisL x2 = false) , zev kJ7_remove 17 (x0 :: x1 :: x2 :: x3 :: L) (zvr a :: st) h = zev kJ7_remove 18 (x0 :: x1 :: x2 :: zvr a :: L) st h) ∧
  (∀ (a : Option Nat) (L st : List ZV) (h : PH), zev kJ7_remove 18 (zvr a :: L) st h = zev kJ7_remove 19 (zvr a :: L) (zvr a :: st) h) ∧
  (∀ (x0 x1 : ZV) (a : Option Nat) (L st : List ZV) (h : PH), zev kJ7_remove 19 (x0 :: x1 :: zvr a :: L) st h = zev kJ7_remove 20 (x0 :: x1 :: zvr a :: L) (zvr a :: st) h) ∧
  (∀ (x0 : ZV) (a : Int) (L st : List ZV) (h : PH), zev kJ7_remove 20 (x0 :: zvi a :: L) st h = zev kJ7_remove 21 (x0 :: zvi a :: L) (zvi a :: st) h) ∧
  (∀ (v0 v1 : ZV) (q : Nat) (L st : List ZV) (h : PH), zev kJ7_remove 21 L (v1 :: v0 :: zvr (some q) :: st) h = if (ph_K h q).1 % 1000 = 29 ∧ zcat st ≤ 8 then zk kJ7_remove 21 24 L st (mJ7_fastRemove [zvr (some q), v0, v1] h) else none) ∧
  (∀ (x0 x1 x2 : ZV) (a : Option Nat) (L st : List ZV) (h : PH), zev kJ7_remove 24 (x0 :: x1 :: x2 :: zvr a :: L) st h = zev kJ7_remove 25 (x0 :: x1 :: x2 :: zvr a :: L) (zvr a :: st) h) ∧
  (∀ (a : Option Nat) (L : List ZV) (h : PH), zev kJ7_remove 25 L [zvr a] h = zrv (zvr a) h) :=
  ⟨fun x0 a L st h => e_ld1I (n := 1) rfl,
  fun a L st h => e_ld0R (n := 2) rfl,
  fun q L st h => e_getI (kd := 29) (k := 2) (n := 5) rfl,
  fun v0 v1 L st h => e_callS2 (F := mJ14_checkIndex) (n := 8) rfl,
  fun a L st h => e_popI (n := 9) rfl,
  fun a L st h => e_popR (n := 9) rfl,
  fun a L st h => e_ld0R (n := 10) rfl,
  fun q L st h => e_getR (kd := 29) (k := 1) (n := 13) rfl,
  fun x0 x1 x2 a L st h hx => e_st2R (n := 14) rfl hx,
  fun x0 x1 a L st h => e_ld2R (n := 15) rfl,
  fun x0 a L st h => e_ld1I (n := 16) rfl,
  fun j q L st h => e_aldR (n := 17) rfl,
  fun x0 x1 x2 x3 a L st h hx => e_st3R (n := 18) rfl hx,
  fun a L st h => e_ld0R (n := 19) rfl,
  fun x0 x1 a L st h => e_ld2R (n := 20) rfl,
  fun x0 a L st h => e_ld1I (n := 21) rfl,
  fun v0 v1 q L st h => e_callV3 (F := mJ7_fastRemove) (kd := 29) (n := 24) rfl,
  fun x0 x1 x2 a L st h => e_ld3R (n := 25) rfl,
  fun a L h => e_retR rfl⟩
theorem allJ7_remove : zall yJ7_remove cJ7_remove 4 (some (.object "java/lang/Object")) 3 kJ7_remove.1 :=
  ⟨k_iload_n dJ7_remove_0,
  k_aload_n dJ7_remove_1,
  k_getI (C := RJ7) (T := TJ7) (N := 3) (ci := 13) (k := 2) (ref := "java/util/ArrayList") dJ7_remove_2 rfl in_J7 (by decide) q406 (Or.inl rfl) (fun _ _ _ => rfl),
  k_callS (y2 := yJ14_checkIndex) dJ7_remove_5 sndJ14_checkIndex q698 q699 q151 q700 (by decide +kernel) ⟨by decide, by decide⟩ (by decide) (by decide),
  k_pop dJ7_remove_8,
  k_aload_n dJ7_remove_9,
  k_getR (C := RJ7) (T := TJ7) (N := 3) (ci := 13) (k := 1) (ref := "java/util/ArrayList") dJ7_remove_10 rfl in_J7 (by decide) q405 (Or.inl rfl) (fun _ _ _ => rfl),
  k_astore_n dJ7_remove_13,
  k_aload_n dJ7_remove_14,
  k_iload_n dJ7_remove_15,
  k_aald dJ7_remove_16,
  k_astore_n dJ7_remove_17,
  k_aload_n dJ7_remove_18,
  k_aload_n dJ7_remove_19,
  k_iload_n dJ7_remove_20,
  k_callV (y2 := yJ7_fastRemove) (C := RJ7) (T0 := TJ7) (ci := 13) dJ7_remove_21 sndJ7_fastRemove rfl q1766 q1768 qs67 q141 q1769 (by decide +kernel) ⟨by decide, by decide⟩ (by decide) (by decide),
  k_aload_n dJ7_remove_24,
  k_aret dJ7_remove_25 rfl (Or.inl ⟨_, rfl⟩), trivial⟩
theorem sndJ7_remove : MSound 3 yJ7_remove (ws_ yJ7_remove cJ7_remove 4 (some (.object "java/lang/Object"))) mJ7_remove := msound_M (by decide) allJ7_remove (fun _ _ => rfl)
/-! Z program: java/util/ArrayDeque (written by gen/gen_prog.py) -/
set_option maxRecDepth 100000
/-! java/util/ArrayDeque.<init>(I)V -/
noncomputable def kJ5_init : ZM := ([(0, zi_ld 1 0 1), (1, zi_callV mJ0_init_v14 30 1 4), (4, zi_ld 1 0 5), (5, zi_ld 0 1 6), (6, zi_push (zvi 1) 7), (7, zi_cmp zc_ge 14 10), (10, zi_push (zvi 1) 11), (11, zi_goto 28), (14, zi_ld 0 1 15), (15, zi_push (zvi 2147483647) 17), (17, zi_cmp zc_ne 25 20), (20, zi_push (zvi 2147483647) 22), (22, zi_goto 28), (25, zi_ld 0 1 26), (26, zi_push (zvi 1) 27), (27, zi_bin (fun a b => w32 (a + b)) 28), (28, zi_newa 5 31), (31, zi_putR 30 0 34), (34, zi_ret)], fun _ _ => none)
noncomputable def mJ5_init : ZF := zrunM kJ5_init 2
theorem enJ5_init (x0 : Option Nat) (x1 : Int) (h : PH) : mJ5_init [zvr x0, zvi x1] h = zev kJ5_init 0 [zvr x0, zvi x1] [] h := zrunM_eq rfl rfl
theorem rJ5_init : (∀ (a : Option Nat) (L st : List ZV) (h : PH), zev kJ5_init 0 (zvr a :: L) st h = zev kJ5_init 1 (zvr a :: L) (zvr a :: st) h) ∧
  (∀ (q : Nat) (L st : List ZV) (h : PH), zev kJ5_init 1 L (zvr (some q) :: st) h = if (ph_K h q).1 % 1000 = 30 ∧ zcat st ≤ 8 then zk kJ5_init 1 4 L st (mJ0_init_v14 [zvr (some q)] h) else none) ∧
  (∀ (a : Option Nat) (L st : List ZV) (h : PH), zev kJ5_init 4 (zvr a :: L) st h = zev kJ5_init 5 (zvr a :: L) (zvr a :: st) h) ∧
  (∀ (x0 : ZV) (a : Int) (L st : List ZV) (h : PH), zev kJ5_init 5 (x0 :: zvi a :: L) st h = zev kJ5_init 6 (x0 :: zvi a :: L) (zvi a :: st) h) ∧
  (∀ (L st : List ZV) (h : PH), zev kJ5_init 6 L st h = zev kJ5_init 7 L (zvi 1 :: st) h) ∧
  (∀ (a b : Int) (L st : List ZV) (h : PH), zev kJ5_init 7 L (zvi b :: zvi a :: st) h = if a ≥ b then zev kJ5_init 14 L st h else zev kJ5_init 10 L st h) ∧
  (∀ (L st : List ZV) (h : PH), zev kJ5_init 10 L st h = zev kJ5_init 11 L (zvi 1 :: st) h) ∧
  (∀ (L st : List ZV) (h : PH), zev kJ5_init 11 L st h = zev kJ5_init 28 L st h) ∧
  (∀ (x0 : ZV) (a : Int) (L st : List ZV) (h : PH), zev kJ5_init 14 (x0 :: zvi a :: L) st h = zev kJ5_init 15 (x0 :: zvi a :: L) (zvi a :: st) h) ∧
  (∀ (L st : List ZV) (h : PH), zev kJ5_init 15 L st h = zev kJ5_init 17 L (zvi 2147483647 :: st) h) ∧
  (∀ (a b : Int) (L st : List ZV) (h : PH), zev kJ5_init 17 L (zvi b :: zvi a :: st) h = if a ≠ b then zev kJ5_init 25 L st h else zev kJ5_init 20 L st h) ∧
  (∀ (L st : List ZV) (h : PH), zev kJ5_init 20 L st h = zev kJ5_init 22 L (zvi 2147483647 :: st) h) ∧
  (∀ (L st : List ZV) (h : PH), zev kJ5_init 22 L st h = zev kJ5_init 28 L st h) ∧
  (∀ (x0 : ZV) (a : Int) (L st : List ZV) (h : PH), zev kJ5_init 25 (x0 :: zvi a :: L) st h = zev kJ5_init 26 (x0 :: zvi a :: L) (zvi a :: st) h) ∧
  (∀ (L st : List ZV) (h : PH), zev kJ5_init 26 L st h = zev kJ5_init 27 L (zvi 1 :: st) h) ∧
  (∀ (a b : Int) (L st : List ZV) (h : PH), zev kJ5_init 27 L (zvi b :: zvi a :: st) h = zev kJ5_init 28 L (zvi (w32 (a + b)) :: st) h) ∧
  (∀ (a : Int) (L st : List ZV) (h : PH), zev kJ5_init 28 L (zvi a :: st) h = if 0 ≤ a ∧ a ≤ 100000 then zev kJ5_init 31 L (zvr (some (ph_N h)) :: st) (al_ h 5 a.toNat a.toNat) else none) ∧
  (∀ (a : Option Nat) (q : Nat) (L st : List ZV) (h : PH), zev kJ5_init 31 L (zvr a :: zvr (some q) :: st) h = if (ph_K h q).1 = 30 then zev kJ5_init 34 L st (st_R h q 0 a) else none) ∧
  (∀ (L : List ZV) (h : PH), zev kJ5_init 34 L [] h = zr0 h) :=
  ⟨fun a L st h => e_ld0R (n := 1) rfl,
  fun q L st h => e_callV1 (F := mJ0_init_v14) (kd := 30) (n := 4) rfl,
  fun a L st h => e_ld0R (n := 5) rfl,
  fun x0 a L st h => e_ld1I (n := 6) rfl,
  fun L st h => e_push (v := zvi 1) (n := 7) rfl,
  fun a b L st h => e_cmpge (t := 14) (n := 10) rfl,
  fun L st h => e_push (v := zvi 1) (n := 11) rfl,
  fun L st h => e_goto (t := 28) rfl,
  fun x0 a L st h => e_ld1I (n := 15) rfl,
  fun L st h => e_push (v := zvi 2147483647) (n := 17) rfl,
  fun a b L st h => e_cmpne (t := 25) (n := 20) rfl,
  fun L st h => e_push (v := zvi 2147483647) (n := 22) rfl,
  fun L st h => e_goto (t := 28) rfl,
  fun x0 a L st h => e_ld1I (n := 26) rfl,
  fun L st h => e_push (v := zvi 1) (n := 27) rfl,
  fun a b L st h => e_bin (f := (fun a b => w32 (a + b))) (n := 28) rfl,
  fun a L st h => e_newa (kd := 5) (n := 31) rfl,
  fun a q L st h => e_putR (kd := 30) (k := 0) (n := 34) rfl,
  fun L h => e_ret rfl⟩
theorem allJ5_init : zall yJ5_init cJ5_init 2 none 3 kJ5_init.1 :=
  ⟨k_aload_n dJ5_init_0,
  k_callI (y2 := yJ0_init) (C := RJ5) (T0 := TJ5) (ci := 14) dJ5_init_1 sndJ0_init_v14 rfl q243 q231 q129 q232 rfl (by decide +kernel) ⟨by decide, by decide⟩ (by decide) (by decide),
  k_aload_n dJ5_init_4,
  k_iload_n dJ5_init_5,
  k_iconst dJ5_init_6,
  k_cmpge (t := 14) dJ5_init_7 (by decide),
  k_iconst dJ5_init_10,
  k_goto (t := 28) dJ5_init_11 (by decide),
  k_iload_n dJ5_init_14,
  k_ldc dJ5_init_15 q244,
  k_cmpne (t := 25) dJ5_init_17 (by decide),
  k_ldc dJ5_init_20 q244,
  k_goto (t := 28) dJ5_init_22 (by decide),
  k_iload_n dJ5_init_25,
  k_iconst dJ5_init_26,
  k_iadd dJ5_init_27,
  k_anew (C := "java/lang/Object") (kd := 5) dJ5_init_28 (by decide) rfl q245 q246,
  k_putR (C := RJ5) (T := TJ5) (N := 3) (ci := 14) (k := 0) (ref := "java/util/ArrayDeque") dJ5_init_31 rfl in_J5 tyJ5 tyJ5_ok nmJ5 (by decide) (Or.inl q247) (Or.inl rfl) (Or.inl rfl) (tyJ5_ok 0 (by decide)) (Or.inr ⟨_, rfl⟩) (fun _ _ _ => rfl),
  k_ret dJ5_init_34, trivial⟩
theorem sndJ5_init : MSound 3 yJ5_init (ws_ yJ5_init cJ5_init 2 none) mJ5_init := msound_M (by decide) allJ5_init (fun _ _ => rfl)
/-! java/util/ArrayDeque.circularClear([Ljava/lang/Object;II)V -/
noncomputable def kJ5_circularClear : ZM := ([(0, zi_ld 0 1 1), (1, zi_ld 0 2 2), (2, zi_cmp zc_gt 9 5), (5, zi_ld 0 2 6), (6, zi_goto 11), (9, zi_ld 1 0 10), (10, zi_alen 11), (11, zi_st 0 3 12), (12, zi_ld 0 1 13), (13, zi_ld 0 3 14), (14, zi_cmp zc_ge 27 17), (17, zi_ld 1 0 18), (18, zi_ld 0 1 19), (19, zi_push (zvr none) 20), (20, zi_astR 5 zokO 21), (21, zi_iinc 1 1 24), (24, zi_goto 12), (27, zi_ld 0 3 28), (28, zi_ld 0 2 29), (29, zi_cmp zc_ne 35 32), (32, zi_goto 42), (35, zi_push (zvi 0) 36), (36, zi_st 0 1 37), (37, zi_ld 0 2 38), (38, zi_st 0 3 39), (39, zi_goto 12), (42, zi_ret)], fun _ _ => none)
noncomputable def mJ5_circularClear : ZF := zrunM kJ5_circularClear 4
theorem enJ5_circularClear (x0 : Option Nat) (x1 : Int) (x2 : Int) (h : PH) : mJ5_circularClear [zvr x0, zvi x1, zvi x2] h = zev kJ5_circularClear 0 [zvr x0, zvi x1, zvi x2, zvu] [] h := zrunM_eq rfl rfl
theorem hdJ5_circularClear_12 (x0 : ZV) (a : Int) (L st : List ZV) (h : PH) : zev kJ5_circularClear 12 (x0 :: zvi a :: L) st h = zev kJ5_circularClear 13 (x0 :: zvi a :: L) (zvi a :: st) h := e_ld1I (n := 13) rfl
theorem rJ5_circularClear : (∀ (x0 : ZV) (a : Int) (L st : List ZV) (h : PH), zev kJ5_circularClear 0 (x0 :: zvi a :: L) st h = zev kJ5_circularClear 1 (x0 :: zvi a :: L) (zvi a :: st) h) ∧
  (∀ (x0 x1 : ZV) (a : Int) (L st : List ZV) (h : PH), zev kJ5_circularClear 1 (x0 :: x1 :: zvi a :: L) st h = zev kJ5_circularClear 2 (x0 :: x1 :: zvi a :: L) (zvi a :: st) h) ∧
  (∀ (a b : Int) (L st : List ZV) (h : PH), zev kJ5_circularClear 2 L (zvi b :: zvi a :: st) h = if a > b then zev kJ5_circularClear 9 L st h else zev kJ5_circularClear 5 L st h) ∧
  (∀ (x0 x1 : ZV) (a : Int) (L st : List ZV) (h : PH), zev kJ5_circularClear 5 (x0 :: x1 :: zvi a :: L) st h = zev kJ5_circularClear 6 (x0 :: x1 :: zvi a :: L) (zvi a :: st) h) ∧
  (∀ (L st : List ZV) (h : PH), zev kJ5_circularClear 6 L st h = zev kJ5_circularClear 11 L st h) ∧
  (∀ (a : Option Nat) (L st : List ZV) (h : PH), zev kJ5_circularClear 9 (zvr a :: L) st h = zev kJ5_circularClear 10 (zvr a :: L) (zvr a :: st) h) ∧
  (∀ (q : Nat) (L st : List ZV) (h : PH), zev kJ5_circularClear 10 L (zvr (some q) :: st) h = if 1 ≤ (ph_K h q).1 % 1000 ∧ (ph_K h q).1 % 1000 ≤ 7 then zev kJ5_circularClear 11 L (zvi (ph_K h q).2 :: st) h else none) ∧
  (∀ (x0 x1 x2 x3 : ZV) (a : Int) (L st : List ZV) (h : PH) (hx : zisL x2 = false) , zev kJ5_circularClear 11 (x0 :: x1 :: x2 :: x3 :: L) (zvi a :: st) h = zev kJ5_circularClear 12 (x0 :: x1 :: x2 :: zvi a :: L) st h) ∧
  (∀ (x0 x1 x2 : ZV) (a : Int) (L st : List ZV) (h : PH), zev kJ5_circularClear 13 (x0 :: x1 :: x2 :: zvi a :: L) st h = zev kJ5_circularClear 14 (x0 :: x1 :: x2 :: zvi a :: L) (zvi a :: st) h) ∧
  (∀ (a b : Int) (L st : List ZV) (h : PH), zev kJ5_circularClear 14 L (zvi b :: zvi a :: st) h = if a ≥ b then zev kJ5_circularClear 27 L st h else zev kJ5_circularClear 17 L st h) ∧
  (∀ (a : Option Nat) (L st : List ZV) (h : PH), zev kJ5_circularClear 17 (zvr a :: L) st h = zev kJ5_circularClear 18 (zvr a :: L) (zvr a :: st) h) ∧
  (∀ (x0 : ZV) (a : Int) (L st : List ZV) (h : PH), zev kJ5_circularClear 18 (x0 :: zvi a :: L) st h = zev kJ5_circularClear 19 (x0 :: zvi a :: L) (zvi a :: st) h) ∧
  (∀ (L st : List ZV) (h : PH), zev kJ5_circularClear 19 L st h = zev kJ5_circularClear 20 L (zvr none :: st) h) ∧
  (∀ (j : Int) (q : Nat) (L st : List ZV) (h : PH), zev kJ5_circularClear 20 L (zvr none :: zvi j :: zvr (some q) :: st) h = if (ph_K h q).1 = 5 ∧ 0 ≤ j ∧ j < (ph_K h q).2 then zev kJ5_circularClear 21 L st (st_R h q j none) else none) ∧
  (∀ (a : Nat) (j : Int) (q : Nat) (L st : List ZV) (h : PH), zev kJ5_circularClear 20 L (zvr (some a) :: zvi j :: zvr (some q) :: st) h = if (ph_K h q).1 = 5 ∧ 0 ≤ j ∧ j < (ph_K h q).2 ∧ zokO (ph_K h a).1 = true then zev kJ5_circularClear 21 L st (st_R h q j (some a)) else none) ∧
  (∀ (x0 : ZV) (a : Int) (L st : List ZV) (h : PH) (hx : zisL x0 = false) , zev kJ5_circularClear 21 (x0 :: zvi a :: L) st h = zev kJ5_circularClear 24 (x0 :: zvi (w32 (a + 1)) :: L) st h) ∧
  (∀ (L st : List ZV) (h : PH), zev kJ5_circularClear 24 L st h = zev kJ5_circularClear 12 L st h) ∧
  (∀ (x0 x1 x2 : ZV) (a : Int) (L st : List ZV) (h : PH), zev kJ5_circularClear 27 (x0 :: x1 :: x2 :: zvi a :: L) st h = zev kJ5_circularClear 28 (x0 :: x1 :: x2 :: zvi a :: L) (zvi a :: st) h) ∧
  (∀ (x0 x1 : ZV) (a : Int) (L st : List ZV) (h : PH), zev kJ5_circularClear 28 (x0 :: x1 :: zvi a :: L) st h = zev kJ5_circularClear 29 (x0 :: x1 :: zvi a :: L) (zvi a :: st) h) ∧
  (∀ (a b : Int) (L st : List ZV) (h : PH), zev kJ5_circularClear 29 L (zvi b :: zvi a :: st) h = if a ≠ b then zev kJ5_circularClear 35 L st h else zev kJ5_circularClear 32 L st h) ∧
  (∀ (L st : List ZV) (h : PH), zev kJ5_circularClear 32 L st h = zev kJ5_circularClear 42 L st h) ∧
  (∀ (L st : List ZV) (h : PH), zev kJ5_circularClear 35 L st h = zev kJ5_circularClear 36 L (zvi 0 :: st) h) ∧
  (∀ (x0 x1 : ZV) (a : Int) (L st : List ZV) (h : PH) (hx : zisL x0 = false) , zev kJ5_circularClear 36 (x0 :: x1 :: L) (zvi a :: st) h = zev kJ5_circularClear 37 (x0 :: zvi a :: L) st h) ∧
  (∀ (x0 x1 : ZV) (a : Int) (L st : List ZV) (h : PH), zev kJ5_circularClear 37 (x0 :: x1 :: zvi a :: L) st h = zev kJ5_circularClear 38 (x0 :: x1 :: zvi a :: L) (zvi a :: st) h) ∧
  (∀ (x0 x1 x2 x3 : ZV) (a : Int) (L st : List ZV) (h : PH) (hx : zisL x2 = false) , zev kJ5_circularClear 38 (x0 :: x1 :: x2 :: x3 :: L) (zvi a :: st) h = zev kJ5_circularClear 39 (x0 :: x1 :: x2 :: zvi a :: L) st h) ∧
  (∀ (L st : List ZV) (h : PH), zev kJ5_circularClear 39 L st h = zev kJ5_circularClear 12 L st h) ∧
  (∀ (L : List ZV) (h : PH), zev kJ5_circularClear 42 L [] h = zr0 h) :=
  ⟨fun x0 a L st h => e_ld1I (n := 1) rfl,
  fun x0 x1 a L st h => e_ld2I (n := 2) rfl,
  fun a b L st h => e_cmpgt (t := 9) (n := 5) rfl,
  fun x0 x1 a L st h => e_ld2I (n := 6) rfl,
  fun L st h => e_goto (t := 11) rfl,
  fun a L st h => e_ld0R (n := 10) rfl,
  fun q L st h => e_alen (n := 11) rfl,
  fun x0 x1 x2 x3 a L st h hx => e_st3I (n := 12) rfl hx,
  fun x0 x1 x2 a L st h => e_ld3I (n := 14) rfl,
  fun a b L st h => e_cmpge (t := 27) (n := 17) rfl,
  fun a L st h => e_ld0R (n := 18) rfl,
  fun x0 a L st h => e_ld1I (n := 19) rfl,
  fun L st h => e_push (v := zvr none) (n := 20) rfl,
  fun j q L st h => e_astR0 (kd := 5) (ok := zokO) (n := 21) rfl,
  fun a j q L st h => e_astR1 (kd := 5) (ok := zokO) (n := 21) rfl,
  fun x0 a L st h hx => e_iinc1 (d := 1) (n := 24) rfl hx,
  fun L st h => e_goto (t := 12) rfl,
  fun x0 x1 x2 a L st h => e_ld3I (n := 28) rfl,
  fun x0 x1 a L st h => e_ld2I (n := 29) rfl,
  fun a b L st h => e_cmpne (t := 35) (n := 32) rfl,
  fun L st h => e_goto (t := 42) rfl,
  fun L st h => e_push (v := zvi 0) (n := 36) rfl,
  fun x0 x1 a L st h hx => e_st1I (n := 37) rfl hx,
  fun x0 x1 a L st h => e_ld2I (n := 38) rfl,
  fun x0 x1 x2 x3 a L st h hx => e_st3I (n := 39) rfl hx,
  fun L st h => e_goto (t := 12) rfl,
  fun L h => e_ret rfl⟩
theorem allJ5_circularClear : zall yJ5_circularClear cJ5_circularClear 4 none 1 kJ5_circularClear.1 :=
  ⟨k_iload_n dJ5_circularClear_0,
  k_iload_n dJ5_circularClear_1,
  k_cmpgt (t := 9) dJ5_circularClear_2 (by decide),
  k_iload_n dJ5_circularClear_5,
  k_goto (t := 11) dJ5_circularClear_6 (by decide),
  k_aload_n dJ5_circularClear_9,
  k_alen dJ5_circularClear_10,
  k_istore_n dJ5_circularClear_11,
  k_iload_n dJ5_circularClear_12,
  k_iload_n dJ5_circularClear_13,
  k_cmpge (t := 27) dJ5_circularClear_14 (by decide),
  k_aload_n dJ5_circularClear_17,
  k_iload_n dJ5_circularClear_18,
  k_anull dJ5_circularClear_19,
  k_aast (kd := 5) (nm := "java/lang/Object") dJ5_circularClear_20 (by decide) rfl zokO_can,
  k_iinc dJ5_circularClear_21,
  k_goto (t := 12) dJ5_circularClear_24 (by decide),
  k_iload_n dJ5_circularClear_27,
  k_iload_n dJ5_circularClear_28,
  k_cmpne (t := 35) dJ5_circularClear_29 (by decide),
  k_goto (t := 42) dJ5_circularClear_32 (by decide),
  k_iconst dJ5_circularClear_35,
  k_istore_n dJ5_circularClear_36,
  k_iload_n dJ5_circularClear_37,
  k_istore_n dJ5_circularClear_38,
  k_goto (t := 12) dJ5_circularClear_39 (by decide),
  k_ret dJ5_circularClear_42, trivial⟩
theorem sndJ5_circularClear : MSound 1 yJ5_circularClear (ws_ yJ5_circularClear cJ5_circularClear 4 none) mJ5_circularClear := msound_M (by decide) allJ5_circularClear (fun _ _ => rfl)
/-! java/util/ArrayDeque.clear()V -/
noncomputable def kJ5_clear : ZM := ([(0, zi_ld 1 0 1), (1, zi_getR 30 0 4), (4, zi_ld 1 0 5), (5, zi_getI 30 1 8), (8, zi_ld 1 0 9), (9, zi_getI 30 2 12), (12, zi_callS mJ5_circularClear 3 15), (15, zi_ld 1 0 16), (16, zi_ld 1 0 17), (17, zi_push (zvi 0) 18), (18, zi_dupx1 19), (19, zi_putI 30 2 22), (22, zi_putI 30 1 25), (25, zi_ret)], fun _ _ => none)
noncomputable def mJ5_clear : ZF := zrunM kJ5_clear 1
theorem enJ5_clear (x0 : Option Nat) (h : PH) : mJ5_clear [zvr x0] h = zev kJ5_clear 0 [zvr x0] [] h := zrunM_eq rfl rfl
theorem rJ5_clear : (∀ (a : Option Nat) (L st : List ZV) (h : PH), zev kJ5_clear 0 (zvr a :: L) st h = zev kJ5_clear 1 (zvr a :: L) (zvr a :: st) h) ∧
  (∀ (q : Nat) (L st : List ZV) (h : PH), zev kJ5_clear 1 L (zvr (some q) :: st) h = if (ph_K h q).1 % 1000 = 30 then zev kJ5_clear 4 L (zvr (ph_R h q 0) :: st) h else none) ∧
  (∀ (a : Option Nat) (L st : List ZV) (h : PH), zev kJ5_clear 4 (zvr a :: L) st h = zev kJ5_clear 5 (zvr a :: L) (zvr a :: st) h) ∧
  (∀ (q : Nat) (L st : List ZV) (h : PH), zev kJ5_clear 5 L (zvr (some q) :: st) h = if (ph_K h q).1 % 1000 = 30 then zev kJ5_clear 8 L (zvi (ph_I h q 1) :: st) h else none) ∧
  (∀ (a : Option Nat) (L st : List ZV) (h : PH), zev kJ5_clear 8 (zvr a :: L) st h = zev kJ5_clear 9 (zvr a :: L) (zvr a :: st) h) ∧
  (∀ (q : Nat) (L st : List ZV) (h : PH), zev kJ5_clear 9 L (zvr (some q) :: st) h = if (ph_K h q).1 % 1000 = 30 then zev kJ5_clear 12 L (zvi (ph_I h q 2) :: st) h else none) ∧
  (∀ (v0 v1 v2 : ZV) (L st : List ZV) (h : PH), zev kJ5_clear 12 L (v2 :: v1 :: v0 :: st) h = if zcat st ≤ 8 then zk kJ5_clear 12 15 L st (mJ5_circularClear [v0, v1, v2] h) else none) ∧
  (∀ (a : Option Nat) (L st : List ZV) (h : PH), zev kJ5_clear 15 (zvr a :: L) st h = zev kJ5_clear 16 (zvr a :: L) (zvr a :: st) h) ∧
  (∀ (a : Option Nat) (L st : List ZV) (h : PH), zev kJ5_clear 16 (zvr a :: L) st h = zev kJ5_clear 17 (zvr a :: L) (zvr a :: st) h) ∧
  (∀ (L st : List ZV) (h : PH), zev kJ5_clear 17 L st h = zev kJ5_clear 18 L (zvi 0 :: st) h) ∧
  (∀ (a : Int) (b : Int) (L st : List ZV) (h : PH), zev kJ5_clear 18 L (zvi a :: zvi b :: st) h = zev kJ5_clear 19 L (zvi a :: zvi b :: zvi a :: st) h) ∧
  (∀ (a : Int) (b : Option Nat) (L st : List ZV) (h : PH), zev kJ5_clear 18 L (zvi a :: zvr b :: st) h = zev kJ5_clear 19 L (zvi a :: zvr b :: zvi a :: st) h) ∧
  (∀ (a : Option Nat) (b : Int) (L st : List ZV) (h : PH), zev kJ5_clear 18 L (zvr a :: zvi b :: st) h = zev kJ5_clear 19 L (zvr a :: zvi b :: zvr a :: st) h) ∧
  (∀ (a : Option Nat) (b : Option Nat) (L st : List ZV) (h : PH), zev kJ5_clear 18 L (zvr a :: zvr b :: st) h = zev kJ5_clear 19 L (zvr a :: zvr b :: zvr a :: st) h) ∧
  (∀ (a : Int) (q : Nat) (L st : List ZV) (h : PH), zev kJ5_clear 19 L (zvi a :: zvr (some q) :: st) h = if (ph_K h q).1 = 30 then zev kJ5_clear 22 L st (st_I h q 2 a) else none) ∧
  (∀ (a : Int) (q : Nat) (L st : List ZV) (h : PH), zev kJ5_clear 22 L (zvi a :: zvr (some q) :: st) h = if (ph_K h q).1 = 30 then zev kJ5_clear 25 L st (st_I h q 1 a) else none) ∧
  (∀ (L : List ZV) (h : PH), zev kJ5_clear 25 L [] h = zr0 h) :=
  ⟨fun a L st h => e_ld0R (n := 1) rfl,
  fun q L st h => e_getR (kd := 30) (k := 0) (n := 4) rfl,
  fun a L st h => e_ld0R (n := 5) rfl,
  fun q L st h => e_getI (kd := 30) (k := 1) (n := 8) rfl,
  fun a L st h => e_ld0R (n := 9) rfl,
  fun q L st h => e_getI (kd := 30) (k := 2) (n := 12) rfl,
  fun v0 v1 v2 L st h => e_callS3 (F := mJ5_circularClear) (n := 15) rfl,
  fun a L st h => e_ld0R (n := 16) rfl,
  fun a L st h => e_ld0R (n := 17) rfl,
  fun L st h => e_push (v := zvi 0) (n := 18) rfl,
  fun a b L st h => e_dupx1II (n := 19) rfl,
  fun a b L st h => e_dupx1IR (n := 19) rfl,
  fun a b L st h => e_dupx1RI (n := 19) rfl,
  fun a b L st h => e_dupx1RR (n := 19) rfl,
  fun a q L st h => e_putI (kd := 30) (k := 2) (n := 22) rfl,
  fun a q L st h => e_putI (kd := 30) (k := 1) (n := 25) rfl,
  fun L h => e_ret rfl⟩
theorem allJ5_clear : zall yJ5_clear cJ5_clear 1 none 2 kJ5_clear.1 :=
  ⟨k_aload_n dJ5_clear_0,
  k_getR (C := RJ5) (T := TJ5) (N := 3) (ci := 14) (k := 0) (ref := "java/util/ArrayDeque") dJ5_clear_1 rfl in_J5 (by decide) q247 (Or.inl rfl) (fun _ _ _ => rfl),
  k_aload_n dJ5_clear_4,
  k_getI (C := RJ5) (T := TJ5) (N := 3) (ci := 14) (k := 1) (ref := "java/util/ArrayDeque") dJ5_clear_5 rfl in_J5 (by decide) q248 (Or.inl rfl) (fun _ _ _ => rfl),
  k_aload_n dJ5_clear_8,
  k_getI (C := RJ5) (T := TJ5) (N := 3) (ci := 14) (k := 2) (ref := "java/util/ArrayDeque") dJ5_clear_9 rfl in_J5 (by decide) q249 (Or.inl rfl) (fun _ _ _ => rfl),
  k_callS (y2 := yJ5_circularClear) dJ5_clear_12 sndJ5_circularClear q921 q922 q135 q923 (by decide +kernel) ⟨by decide, by decide⟩ (by decide) (by decide),
  k_aload_n dJ5_clear_15,
  k_aload_n dJ5_clear_16,
  k_iconst dJ5_clear_17,
  k_dupx1 dJ5_clear_18,
  k_putI (C := RJ5) (T := TJ5) (N := 3) (ci := 14) (k := 2) (ref := "java/util/ArrayDeque") dJ5_clear_19 rfl in_J5 tyJ5 tyJ5_ok nmJ5 (by decide) (Or.inl q249) (Or.inl rfl) (Or.inl rfl) (tyJ5_ok 2 (by decide)) (fun _ _ _ => rfl),
  k_putI (C := RJ5) (T := TJ5) (N := 3) (ci := 14) (k := 1) (ref := "java/util/ArrayDeque") dJ5_clear_22 rfl in_J5 tyJ5 tyJ5_ok nmJ5 (by decide) (Or.inl q248) (Or.inl rfl) (Or.inl rfl) (tyJ5_ok 1 (by decide)) (fun _ _ _ => rfl),
  k_ret dJ5_clear_25, trivial⟩
theorem sndJ5_clear : MSound 2 yJ5_clear (ws_ yJ5_clear cJ5_clear 1 none) mJ5_clear := msound_M (by decide) allJ5_clear (fun _ _ => rfl)
/-! java/util/ArrayDeque.sub(III)I -/
noncomputable def kJ5_sub : ZM := ([(0, zi_ld 0 0 1), (1, zi_ld 0 1 2), (2, zi_bin (fun a b => w32 (a - b)) 3), (3, zi_dup 4), (4, zi_st 0 0 5), (5, zi_if (fun a => zc_ge a 0) 12 8), (8, zi_ld 0 0 9), (9, zi_ld 0 2 10), (10, zi_bin (fun a b => w32 (a + b)) 11), (11, zi_st 0 0 12), (12, zi_ld 0 0 13), (13, zi_retv 0)], fun _ _ => none)
noncomputable def mJ5_sub : ZF := zrunM kJ5_sub 3
theorem enJ5_sub (x0 : Int) (x1 : Int) (x2 : Int) (h : PH) : mJ5_sub [zvi x0, zvi x1, zvi x2] h = zev kJ5_sub 0 [zvi x0, zvi x1, zvi x2] [] h := zrunM_eq rfl rfl
theorem rJ5_sub : (∀ (a : Int) (L st : List ZV) (h : PH), zev kJ5_sub 0 (zvi a :: L) st h = zev kJ5_sub 1 (zvi a :: L) (zvi a :: st) h) ∧
  (∀ (x0 : ZV) (a : Int) (L st : List ZV) (h : PH), zev kJ5_sub 1 (x0 :: zvi a :: L) st h = zev kJ5_sub 2 (x0 :: zvi a :: L) (zvi a :: st) h) ∧
  (∀ (a b : Int) (L st : List ZV) (h : PH), zev kJ5_sub 2 L (zvi b :: zvi a :: st) h = zev kJ5_sub 3 L (zvi (w32 (a - b)) :: st) h) ∧
  (∀ (a : Int) (L st : List ZV) (h : PH), zev kJ5_sub 3 L (zvi a :: st) h = zev kJ5_sub 4 L (zvi a :: zvi a :: st) h) ∧
  (∀ (a : Option Nat) (L st : List ZV) (h : PH), zev kJ5_sub 3 L (zvr a :: st) h = zev kJ5_sub 4 L (zvr a :: zvr a :: st) h) ∧
  (∀ (x0 : ZV) (a : Int) (L st : List ZV) (h : PH) , zev kJ5_sub 4 (x0 :: L) (zvi a :: st) h = zev kJ5_sub 5 (zvi a :: L) st h) ∧
  (∀ (a : Int) (L st : List ZV) (h : PH), zev kJ5_sub 5 L (zvi a :: st) h = if a ≥ 0 then zev kJ5_sub 12 L st h else zev kJ5_sub 8 L st h) ∧
  (∀ (a : Int) (L st : List ZV) (h : PH), zev kJ5_sub 8 (zvi a :: L) st h = zev kJ5_sub 9 (zvi a :: L) (zvi a :: st) h) ∧
  (∀ (x0 x1 : ZV) (a : Int) (L st : List ZV) (h : PH), zev kJ5_sub 9 (x0 :: x1 :: zvi a :: L) st h = zev kJ5_sub 10 (x0 :: x1 :: zvi a :: L) (zvi a :: st) h) ∧
  (∀ (a b : Int) (L st : List ZV) (h : PH), zev kJ5_sub 10 L (zvi b :: zvi a :: st) h = zev kJ5_sub 11 L (zvi (w32 (a + b)) :: st) h) ∧
  (∀ (x0 : ZV) (a : Int) (L st : List ZV) (h : PH) , zev kJ5_sub 11 (x0 :: L) (zvi a :: st) h = zev kJ5_sub 12 (zvi a :: L) st h) ∧
  (∀ (a : Int) (L st : List ZV) (h : PH), zev kJ5_sub 12 (zvi a :: L) st h = zev kJ5_sub 13 (zvi a :: L) (zvi a :: st) h) ∧
  (∀ (a : Int) (L : List ZV) (h : PH), zev kJ5_sub 13 L [zvi a] h = zrv (zvi a) h) :=
  ⟨fun a L st h => e_ld0I (n := 1) rfl,
  fun x0 a L st h => e_ld1I (n := 2) rfl,
  fun a b L st h => e_bin (f := (fun a b => w32 (a - b))) (n := 3) rfl,
  fun a L st h => e_dupI (n := 4) rfl,
  fun a L st h => e_dupR (n := 4) rfl,
  fun x0 a L st h => e_st0I (n := 5) rfl,
  fun a L st h => e_ifge (t := 12) (n := 8) rfl,
  fun a L st h => e_ld0I (n := 9) rfl,
  fun x0 x1 a L st h => e_ld2I (n := 10) rfl,
  fun a b L st h => e_bin (f := (fun a b => w32 (a + b))) (n := 11) rfl,
  fun x0 a L st h => e_st0I (n := 12) rfl,
  fun a L st h => e_ld0I (n := 13) rfl,
  fun a L h => e_retI rfl⟩
theorem allJ5_sub : zall yJ5_sub cJ5_sub 3 (some .int) 1 kJ5_sub.1 :=
  ⟨k_iload_n dJ5_sub_0,
  k_iload_n dJ5_sub_1,
  k_isub dJ5_sub_2,
  k_dup dJ5_sub_3,
  k_istore_n dJ5_sub_4,
  k_ifge (t := 12) dJ5_sub_5 (by decide),
  k_iload_n dJ5_sub_8,
  k_iload_n dJ5_sub_9,
  k_iadd dJ5_sub_10,
  k_istore_n dJ5_sub_11,
  k_iload_n dJ5_sub_12,
  k_iret dJ5_sub_13, trivial⟩
theorem sndJ5_sub : MSound 1 yJ5_sub (ws_ yJ5_sub cJ5_sub 3 (some .int)) mJ5_sub := msound_M (by decide) allJ5_sub (fun _ _ => rfl)
/-! java/util/ArrayDeque.size()I -/
noncomputable def kJ5_size : ZM := ([(0, zi_ld 1 0 1), (1, zi_getI 30 2 4), (4, zi_ld 1 0 5), (5, zi_getI 30 1 8), (8, zi_ld 1 0 9), (9, zi_getR 30 0 12), (12, zi_alen 13), (13, zi_callS mJ5_sub 3 16), (16, zi_retv 0)], fun _ _ => none)
noncomputable def mJ5_size : ZF := zrunM kJ5_size 1
theorem enJ5_size (x0 : Option Nat) (h : PH) : mJ5_size [zvr x0] h = zev kJ5_size 0 [zvr x0] [] h := zrunM_eq rfl rfl
theorem rJ5_size : (∀ (a : Option Nat) (L st : List ZV) (h : PH), zev kJ5_size 0 (zvr a :: L) st h = zev kJ5_size 1 (zvr a :: L) (zvr a :: st) h) ∧
  (∀ (q : Nat) (L st : List ZV) (h : PH), zev kJ5_size 1 L (zvr (some q) :: st) h = if (ph_K h q).1 % 1000 = 30 then zev kJ5_size 4 L (zvi (ph_I h q 2) :: st) h else none) ∧
  (∀ (a : Option Nat) (L st : List ZV) (h : PH), zev kJ5_size 4 (zvr a :: L) st h = zev kJ5_size 5 (zvr a :: L) (zvr a :: st) h) ∧
  (∀ (q : Nat) (L st : List ZV) (h : PH), zev kJ5_size 5 L (zvr (some q) :: st) h = if (ph_K h q).1 % 1000 = 30 then zev kJ5_size 8 L (zvi (ph_I h q 1) :: st) h else none) ∧
  (∀ (a : Option Nat) (L st : List ZV) (h : PH), zev kJ5_size 8 (zvr a :: L) st h = zev kJ5_size 9 (zvr a :: L) (zvr a :: st) h) ∧
  (∀ (q : Nat) (L st : List ZV) (h : PH), zev kJ5_size 9 L (zvr (some q) :: st) h = if (ph_K h q).1 % 1000 = 30 then zev kJ5_size 12 L (zvr (ph_R h q 0) :: st) h else none) ∧
  (∀ (q : Nat) (L st : List ZV) (h : PH), zev kJ5_size 12 L (zvr (some q) :: st) h = if 1 ≤ (ph_K h q).1 % 1000 ∧ (ph_K h q).1 % 1000 ≤ 7 then zev kJ5_size 13 L (zvi (ph_K h q).2 :: st) h else none) ∧
  (∀ (v0 v1 v2 : ZV) (L st : List ZV) (h : PH), zev kJ5_size 13 L (v2 :: v1 :: v0 :: st) h = if zcat st ≤ 8 then zk kJ5_size 13 16 L st (mJ5_sub [v0, v1, v2] h) else none) ∧
  (∀ (a : Int) (L : List ZV) (h : PH), zev kJ5_size 16 L [zvi a] h = zrv (zvi a) h) :=
  ⟨fun a L st h => e_ld0R (n := 1) rfl,
  fun q L st h => e_getI (kd := 30) (k := 2) (n := 4) rfl,
  fun a L st h => e_ld0R (n := 5) rfl,
  fun q L st h => e_getI (kd := 30) (k := 1) (n := 8) rfl,
  fun a L st h => e_ld0R (n := 9) rfl,
  fun q L st h => e_getR (kd := 30) (k := 0) (n := 12) rfl,
  fun q L st h => e_alen (n := 13) rfl,
  fun v0 v1 v2 L st h => e_callS3 (F := mJ5_sub) (n := 16) rfl,
  fun a L h => e_retI rfl⟩
theorem allJ5_size : zall yJ5_size cJ5_size 1 (some .int) 2 kJ5_size.1 :=
  ⟨k_aload_n dJ5_size_0,
  k_getI (C := RJ5) (T := TJ5) (N := 3) (ci := 14) (k := 2) (ref := "java/util/ArrayDeque") dJ5_size_1 rfl in_J5 (by decide) q249 (Or.inl rfl) (fun _ _ _ => rfl),
  k_aload_n dJ5_size_4,
  k_getI (C := RJ5) (T := TJ5) (N := 3) (ci := 14) (k := 1) (ref := "java/util/ArrayDeque") dJ5_size_5 rfl in_J5 (by decide) q248 (Or.inl rfl) (fun _ _ _ => rfl),
  k_aload_n dJ5_size_8,
  k_getR (C := RJ5) (T := TJ5) (N := 3) (ci := 14) (k := 0) (ref := "java/util/ArrayDeque") dJ5_size_9 rfl in_J5 (by decide) q247 (Or.inl rfl) (fun _ _ _ => rfl),
  k_alen dJ5_size_12,
  k_callS (y2 := yJ5_sub) dJ5_size_13 sndJ5_sub q1618 q1619 q135 q1620 (by decide +kernel) ⟨by decide, by decide⟩ (by decide) (by decide),
  k_iret dJ5_size_16, trivial⟩
theorem sndJ5_size : MSound 2 yJ5_size (ws_ yJ5_size cJ5_size 1 (some .int)) mJ5_size := msound_M (by decide) allJ5_size (fun _ _ => rfl)
/-! java/util/ArrayDeque.elementAt([Ljava/lang/Object;I)Ljava/lang/Object; -/
noncomputable def kJ5_elementAt : ZM := ([(0, zi_ld 1 0 1), (1, zi_ld 0 1 2), (2, zi_aldR 3), (3, zi_retv 1)], fun _ _ => none)
noncomputable def mJ5_elementAt : ZF := zrunM kJ5_elementAt 2
theorem enJ5_elementAt (x0 : Option Nat) (x1 : Int) (h : PH) : mJ5_elementAt [zvr x0, zvi x1] h = zev kJ5_elementAt 0 [zvr x0, zvi x1] [] h := zrunM_eq rfl rfl
theorem rJ5_elementAt : (∀ (a : Option Nat) (L st : List ZV) (h : PH), zev kJ5_elementAt 0 (zvr a :: L) st h = zev kJ5_elementAt 1 (zvr a :: L) (zvr a :: st) h) ∧
  (∀ (x0 : ZV) (a : Int) (L st : List ZV) (h : PH), zev kJ5_elementAt 1 (x0 :: zvi a :: L) st h = zev kJ5_elementAt 2 (x0 :: zvi a :: L) (zvi a :: st) h) ∧
  (∀ (j : Int) (q : Nat) (L st : List ZV) (h : PH), zev kJ5_elementAt 2 L (zvi j :: zvr (some q) :: st) h = if 5 ≤ (ph_K h q).1 % 1000 ∧ (ph_K h q).1 % 1000 ≤ 7 ∧ 0 ≤ j ∧ j < (ph_K h q).2 then zev kJ5_elementAt 3 L (zvr (ph_R h q j) :: st) h else none) ∧
  (∀ (a : Option Nat) (L : List ZV) (h : PH), zev kJ5_elementAt 3 L [zvr a] h = zrv (zvr a) h) :=
  ⟨fun a L st h => e_ld0R (n := 1) rfl,
  fun x0 a L st h => e_ld1I (n := 2) rfl,
  fun j q L st h => e_aldR (n := 3) rfl,
  fun a L h => e_retR rfl⟩
theorem allJ5_elementAt : zall yJ5_elementAt cJ5_elementAt 2 (some (.object "java/lang/Object")) 1 kJ5_elementAt.1 :=
  ⟨k_aload_n dJ5_elementAt_0,
  k_iload_n dJ5_elementAt_1,
  k_aald dJ5_elementAt_2,
  k_aret dJ5_elementAt_3 rfl (Or.inl ⟨_, rfl⟩), trivial⟩
theorem sndJ5_elementAt : MSound 1 yJ5_elementAt (ws_ yJ5_elementAt cJ5_elementAt 2 (some (.object "java/lang/Object"))) mJ5_elementAt := msound_M (by decide) allJ5_elementAt (fun _ _ => rfl)
/-! java/util/ArrayDeque.inc(II)I -/
noncomputable def kJ5_inc : ZM := ([(0, zi_iinc 0 1 3), (3, zi_ld 0 0 4), (4, zi_ld 0 1 5), (5, zi_cmp zc_lt 10 8), (8, zi_push (zvi 0) 9), (9, zi_st 0 0 10), (10, zi_ld 0 0 11), (11, zi_retv 0)], fun _ _ => none)
noncomputable def mJ5_inc : ZF := zrunM kJ5_inc 2
theorem enJ5_inc (x0 : Int) (x1 : Int) (h : PH) : mJ5_inc [zvi x0, zvi x1] h = zev kJ5_inc 0 [zvi x0, zvi x1] [] h := zrunM_eq rfl rfl
theorem rJ5_inc : (∀ (a : Int) (L st : List ZV) (h : PH) , zev kJ5_inc 0 (zvi a :: L) st h = zev kJ5_inc 3 (zvi (w32 (a + 1)) :: L) st h) ∧
  (∀ (a : Int) (L st : List ZV) (h : PH), zev kJ5_inc 3 (zvi a :: L) st h = zev kJ5_inc 4 (zvi a :: L) (zvi a :: st) h) ∧
  (∀ (x0 : ZV) (a : Int) (L st : List ZV) (h : PH), zev kJ5_inc 4 (x0 :: zvi a :: L) st h = zev kJ5_inc 5 (x0 :: zvi a :: L) (zvi a :: st) h) ∧
  (∀ (a b : Int) (L st : List ZV) (h : PH), zev kJ5_inc 5 L (zvi b :: zvi a :: st) h = if a < b then zev kJ5_inc 10 L st h else zev kJ5_inc 8 L st h) ∧
  (∀ (L st : List ZV) (h : PH), zev kJ5_inc 8 L st h = zev kJ5_inc 9 L (zvi 0 :: st) h) ∧
  (∀ (x0 : ZV) (a : Int) (L st : List ZV) (h : PH) , zev kJ5_inc 9 (x0 :: L) (zvi a :: st) h = zev kJ5_inc 10 (zvi a :: L) st h) ∧
  (∀ (a : Int) (L st : List ZV) (h : PH), zev kJ5_inc 10 (zvi a :: L) st h = zev kJ5_inc 11 (zvi a :: L) (zvi a :: st) h) ∧
  (∀ (a : Int) (L : List ZV) (h : PH), zev kJ5_inc 11 L [zvi a] h = zrv (zvi a) h) :=
  ⟨fun a L st h => e_iinc0 (d := 1) (n := 3) rfl,
  fun a L st h => e_ld0I (n := 4) rfl,
  fun x0 a L st h => e_ld1I (n := 5) rfl,
  fun a b L st h => e_cmplt (t := 10) (n := 8) rfl,
  fun L st h => e_push (v := zvi 0) (n := 9) rfl,
  fun x0 a L st h => e_st0I (n := 10) rfl,
  fun a L st h => e_ld0I (n := 11) rfl,
  fun a L h => e_retI rfl⟩
theorem allJ5_inc : zall yJ5_inc cJ5_inc 2 (some .int) 1 kJ5_inc.1 :=
  ⟨k_iinc dJ5_inc_0,
  k_iload_n dJ5_inc_3,
  k_iload_n dJ5_inc_4,
  k_cmplt (t := 10) dJ5_inc_5 (by decide),
  k_iconst dJ5_inc_8,
  k_istore_n dJ5_inc_9,
  k_iload_n dJ5_inc_10,
  k_iret dJ5_inc_11, trivial⟩
theorem sndJ5_inc : MSound 1 yJ5_inc (ws_ yJ5_inc cJ5_inc 2 (some .int)) mJ5_inc := msound_M (by decide) allJ5_inc (fun _ _ => rfl)
/-! java/util/ArrayDeque.pollFirst()Ljava/lang/Object; -/
noncomputable def kJ5_pollFirst : ZM := ([(0, zi_ld 1 0 1), (1, zi_getR 30 0 4), (4, zi_dup 5), (5, zi_st 1 1 6), (6, zi_ld 1 0 7), (7, zi_getI 30 1 10), (10, zi_dup 11), (11, zi_st 0 2 12), (12, zi_callS mJ5_elementAt 2 15), (15, zi_st 1 3 16), (16, zi_ld 1 3 17), (17, zi_null 34 20), (20, zi_ld 1 1 21), (21, zi_ld 0 2 22), (22, zi_push (zvr none) 23), (23, zi_astR 5 zokO 24), (24, zi_ld 1 0 25), (25, zi_ld 0 2 26), (26, zi_ld 1 1 27), (27, zi_alen 28), (28, zi_callS mJ5_inc 2 31), (31, zi_putI 30 1 34), (34, zi_ld 1 3 35), (35, zi_retv 1)], fun _ _ => none)
noncomputable def mJ5_pollFirst : ZF := zrunM kJ5_pollFirst 4
theorem enJ5_pollFirst (x0 : Option Nat) (h : PH) : mJ5_pollFirst [zvr x0] h = zev kJ5_pollFirst 0 [zvr x0, zvu, zvu, zvu] [] h := zrunM_eq rfl rfl
theorem rJ5_pollFirst : (∀ (a : Option Nat) (L st : List ZV) (h : PH), zev kJ5_pollFirst 0 (zvr a :: L) st h = zev kJ5_pollFirst 1 (zvr a :: L) (zvr a :: st) h) ∧
  (∀ (q : Nat) (L st : List ZV) (h : PH), zev kJ5_pollFirst 1 L (zvr (some q) :: st) h = if (ph_K h q).1 % 1000 = 30 then zev kJ5_pollFirst 4 L (zvr (ph_R h q 0) :: st) h else none) ∧
  (∀ (a : Int) (L st : List ZV) (h : PH), zev kJ5_pollFirst 4 L (zvi a :: st) h = zev kJ5_pollFirst 5 L (zvi a :: zvi a :: st) h) ∧
  (∀ (a : Option Nat) (L st : List ZV) (h : PH), zev kJ5_pollFirst 4 L (zvr a :: st) h = zev kJ5_pollFirst 5 L (zvr a :: zvr a :: st) h) ∧
  (∀ (x0 x1 : ZV) (a : Option Nat) (L st : List ZV) (h : PH) (hx : zisL x0 = false) , zev kJ5_pollFirst 5 (x0 :: x1 :: L) (zvr a :: st) h = zev kJ5_pollFirst 6 (x0 :: zvr a :: L) st h) ∧
  (∀ (a : Option Nat) (L st : List ZV) (h : PH), zev kJ5_pollFirst 6 (zvr a :: L) st h = zev kJ5_pollFirst 7 (zvr a :: L) (zvr a :: st) h) ∧
  (∀ (q : Nat) (L st : List ZV) (h : PH), zev kJ5_pollFirst 7 L (zvr (some q) :: st) h = if (ph_K h q).1 % 1000 = 30 then zev kJ5_pollFirst 10 L (zvi (ph_I h q 1) :: st) h else none) ∧
  (∀ (a : Int) (L st : List ZV) (h : PH), zev kJ5_pollFirst 10 L (zvi a :: st) h = zev kJ5_pollFirst 11 L (zvi a :: zvi a :: st) h) ∧
  (∀ (a : Option Nat) (L st : List ZV) (h : PH), zev kJ5_pollFirst 10 L (zvr a :: st) h = zev kJ5_pollFirst 11 L (zvr a :: zvr a :: st) h) ∧
  (∀ (x0 x1 x2 : ZV) (a : Int) (L st : List ZV) (h : PH) (hx : zisL x1 = false) , zev kJ5_pollFirst 11 (x0 :: x1 :: x2 :: L) (zvi a :: st) h = zev kJ5_pollFirst 12 (x0 :: x1 :: zvi a :: L) st h) ∧
  (∀ (v0 v1 : ZV) (L st : List ZV) (h : PH), zev kJ5_pollFirst 12 L (v1 :: v0 :: st) h = if zcat st ≤ 8 then zk kJ5_pollFirst 12 15 L st (mJ5_elementAt [v0, v1] h) else none) ∧
  (∀ (x0 x1 x2 x3 : ZV) (a : Option Nat) (L st : List ZV) (h : PH) (hx : zisL x2 = false) , zev kJ5_pollFirst 15 (x0 :: x1 :: x2 :: x3 :: L) (zvr a :: st) h = zev kJ5_pollFirst 16 (x0 :: x1 :: x2 :: zvr a :: L) st h) ∧
  (∀ (x0 x1 x2 : ZV) (a : Option Nat) (L st : List ZV) (h : PH), zev kJ5_pollFirst 16 (x0 :: x1 :: x2 :: zvr a :: L) st h = zev kJ5_pollFirst 17 (x0 :: x1 :: x2 :: zvr a :: L) (zvr a :: st) h) ∧
  (∀ (L st : List ZV) (h : PH), zev kJ5_pollFirst 17 L (zvr none :: st) h = zev kJ5_pollFirst 34 L st h) ∧
  (∀ (q : Nat) (L st : List ZV) (h : PH), zev kJ5_pollFirst 17 L (zvr (some q) :: st) h = if (ph_K h q).1 ≠ 0 then zev kJ5_pollFirst 20 L st h else none) ∧
  (∀ (x0 : ZV) (a : Option Nat) (L st : List ZV) (h : PH), zev kJ5_pollFirst 20 (x0 :: zvr a :: L) st h = zev kJ5_pollFirst 21 (x0 :: zvr a :: L) (zvr a :: st) h) ∧
  (∀ (x0 x1 : ZV) (a : Int) (L st : List ZV) (h : PH), zev kJ5_pollFirst 21 (x0 :: x1 :: zvi a :: L) st h = zev kJ5_pollFirst 22 (x0 :: x1 :: zvi a :: L) (zvi a :: st) h) ∧
  (∀ (L st : List ZV) (h : PH), zev kJ5_pollFirst 22 L st h = zev kJ5_pollFirst 23 L (zvr none :: st) h) ∧
  (∀ (j : Int) (q : Nat) (L st : List ZV) (h : PH), zev kJ5_pollFirst 23 L (zvr none :: zvi j :: zvr (some q) :: st) h = if (ph_K h q).1 = 5 ∧ 0 ≤ j ∧ j < (ph_K h q).2 then zev kJ5_pollFirst 24 L st (st_R h q j none) else none) ∧
  (∀ (a : Nat) (j : Int) (q : Nat) (L st : List ZV) (h : PH), zev kJ5_pollFirst 23 L (zvr (some a) :: zvi j :: zvr (some q) :: st) h = if (ph_K h q).1 = 5 ∧ 0 ≤ j ∧ j < (ph_K h q).2 ∧ zokO (ph_K h a).1 = true then zev kJ5_pollFirst 24 L st (st_R h q j (some a)) else none) ∧
  (∀ (a : Option Nat) (L st : List ZV) (h : PH), zev kJ5_pollFirst 24 (zvr a :: L) st h = zev kJ5_pollFirst 25 (zvr a :: L) (zvr a :: st) h) ∧
  (∀ (x0 x1 : ZV) (a : Int) (L st : List ZV) (h : PH), zev kJ5_pollFirst 25 (x0 :: x1 :: zvi a :: L) st h = zev kJ5_pollFirst 26 (x0 :: x1 :: zvi a :: L) (zvi a :: st) h) ∧
  (∀ (x0 : ZV) (a : Option Nat) (L st : List ZV) (h : PH), zev kJ5_pollFirst 26 (x0 :: zvr a :: L) st h = zev kJ5_pollFirst 27 (x0 :: zvr a :: L) (zvr a :: st) h) ∧
  (∀ (q : Nat) (L st : List ZV) (h : PH), zev kJ5_pollFirst 27 L (zvr (some q) :: st) h = if 1 ≤ (ph_K h q).1 % 1000 ∧ (ph_K h q).1 % 1000 ≤ 7 then zev kJ5_pollFirst 28 L (zvi (ph_K h q).2 :: st) h else none) ∧
  (∀ (v0 v1 : ZV) (L st : List ZV) (h : PH), zev kJ5_pollFirst 28 L (v1 :: v0 :: st) h = if zcat st ≤ 8 then zk kJ5_pollFirst 28 31 L st (mJ5_inc [v0, v1] h) else none) ∧
  (∀ (a : Int) (q : Nat) (L st : List ZV) (h : PH), zev kJ5_pollFirst 31 L (zvi a :: zvr (some q) :: st) h = if (ph_K h q).1 = 30 then zev kJ5_pollFirst 34 L st (st_I h q 1 a) else none) ∧
  (∀ (x0 x1 x2 : ZV) (a : Option Nat) (L st : List ZV) (h : PH), zev kJ5_pollFirst 34 (x0 :: x1 :: x2 :: zvr a :: L) st h = zev kJ5_pollFirst 35 (x0 :: x1 :: x2 :: zvr a :: L) (zvr a :: st) h) ∧
  (∀ (a : Option Nat) (L : List ZV) (h : PH), zev kJ5_pollFirst 35 L [zvr a] h = zrv (zvr a) h) :=
  ⟨fun a L st h => e_ld0R (n := 1) rfl,
  fun q L st h => e_getR (kd := 30) (k := 0) (n := 4) rfl,
  fun a L st h => e_dupI (n := 5) rfl,
  fun a L st h => e_dupR (n := 5) rfl,
  fun x0 x1 a L st h hx => e_st1R (n := 6) rfl hx,
  fun a L st h => e_ld0R (n := 7) rfl,
  fun q L st h => e_getI (kd := 30) (k := 1) (n := 10) rfl,
  fun a L st h => e_dupI (n := 11) rfl,
  fun a L st h => e_dupR (n := 11) rfl,
  fun x0 x1 x2 a L st h hx => e_st2I (n := 12) rfl hx,
  fun v0 v1 L st h => e_callS2 (F := mJ5_elementAt) (n := 15) rfl,
  fun x0 x1 x2 x3 a L st h hx => e_st3R (n := 16) rfl hx,
  fun x0 x1 x2 a L st h => e_ld3R (n := 17) rfl,
  fun L st h => e_null0 (t := 34) (n := 20) rfl,
  fun q L st h => e_null1 (t := 34) (n := 20) rfl,
  fun x0 a L st h => e_ld1R (n := 21) rfl,
  fun x0 x1 a L st h => e_ld2I (n := 22) rfl,
  fun L st h => e_push (v := zvr none) (n := 23) rfl,
  fun j q L st h => e_astR0 (kd := 5) (ok := zokO) (n := 24) rfl,
  fun a j q L st h => e_astR1 (kd := 5) (ok := zokO) (n := 24) rfl,
  fun a L st h => e_ld0R (n := 25) rfl,
  fun x0 x1 a L st h => e_ld2I (n := 26) rfl,
  fun x0 a L st h => e_ld1R (n := 27) rfl,
  fun q L st h => e_alen (n := 28) rfl,
  fun v0 v1 L st h => e_callS2 (F := mJ5_inc) (n := 31) rfl,
  fun a q L st h => e_putI (kd := 30) (k := 1) (n := 34) rfl,
  fun x0 x1 x2 a L st h => e_ld3R (n := 35) rfl,
  fun a L h => e_retR rfl⟩
theorem allJ5_pollFirst : zall yJ5_pollFirst cJ5_pollFirst 4 (some (.object "java/lang/Object")) 2 kJ5_pollFirst.1 :=
  ⟨k_aload_n dJ5_pollFirst_0,
  k_getR (C := RJ5) (T := TJ5) (N := 3) (ci := 14) (k := 0) (ref := "java/util/ArrayDeque") dJ5_pollFirst_1 rfl in_J5 (by decide) q247 (Or.inl rfl) (fun _ _ _ => rfl),
  k_dup dJ5_pollFirst_4,
  k_astore_n dJ5_pollFirst_5,
  k_aload_n dJ5_pollFirst_6,
  k_getI (C := RJ5) (T := TJ5) (N := 3) (ci := 14) (k := 1) (ref := "java/util/ArrayDeque") dJ5_pollFirst_7 rfl in_J5 (by decide) q248 (Or.inl rfl) (fun _ _ _ => rfl),
  k_dup dJ5_pollFirst_10,
  k_istore_n dJ5_pollFirst_11,
  k_callS (y2 := yJ5_elementAt) dJ5_pollFirst_12 sndJ5_elementAt q1629 q1630 q135 q1631 (by decide +kernel) ⟨by decide, by decide⟩ (by decide) (by decide),
  k_astore_n dJ5_pollFirst_15,
  k_aload_n dJ5_pollFirst_16,
  k_null (t := 34) dJ5_pollFirst_17 (by decide),
  k_aload_n dJ5_pollFirst_20,
  k_iload_n dJ5_pollFirst_21,
  k_anull dJ5_pollFirst_22,
  k_aast (kd := 5) (nm := "java/lang/Object") dJ5_pollFirst_23 (by decide) rfl zokO_can,
  k_aload_n dJ5_pollFirst_24,
  k_iload_n dJ5_pollFirst_25,
  k_aload_n dJ5_pollFirst_26,
  k_alen dJ5_pollFirst_27,
  k_callS (y2 := yJ5_inc) dJ5_pollFirst_28 sndJ5_inc q1632 q1633 q135 q1634 (by decide +kernel) ⟨by decide, by decide⟩ (by decide) (by decide),
  k_putI (C := RJ5) (T := TJ5) (N := 3) (ci := 14) (k := 1) (ref := "java/util/ArrayDeque") dJ5_pollFirst_31 rfl in_J5 tyJ5 tyJ5_ok nmJ5 (by decide) (Or.inl q248) (Or.inl rfl) (Or.inl rfl) (tyJ5_ok 1 (by decide)) (fun _ _ _ => rfl),
  k_aload_n dJ5_pollFirst_34,
  k_aret dJ5_pollFirst_35 rfl (Or.inl ⟨_, rfl⟩), trivial⟩
theorem sndJ5_pollFirst : MSound 2 yJ5_pollFirst (ws_ yJ5_pollFirst cJ5_pollFirst 4 (some (.object "java/lang/Object"))) mJ5_pollFirst := msound_M (by decide) allJ5_pollFirst (fun _ _ => rfl)
/-! java/util/ArrayDeque.removeFirst()Ljava/lang/Object; -/
noncomputable def kJ5_removeFirst : ZM := ([(0, zi_ld 1 0 1), (1, zi_callV mJ5_pollFirst 30 1 4), (4, zi_st 1 1 5), (5, zi_ld 1 1 6), (6, zi_nonnull 17 9), (9, zi_stuck), (12, zi_dup 13), (13, zi_stuck), (16, zi_throw), (17, zi_ld 1 1 18), (18, zi_retv 1)], fun _ _ => none)
noncomputable def mJ5_removeFirst : ZF := zrunM kJ5_removeFirst 2
theorem enJ5_removeFirst (x0 : Option Nat) (h : PH) : mJ5_removeFirst [zvr x0] h = zev kJ5_removeFirst 0 [zvr x0, zvu] [] h := zrunM_eq rfl rfl
theorem rJ5_removeFirst : (∀ (a : Option Nat) (L st : List ZV) (h : PH), zev kJ5_removeFirst 0 (zvr a :: L) st h = zev kJ5_removeFirst 1 (zvr a :: L) (zvr a :: st) h) ∧
  (∀ (q : Nat) (L st : List ZV) (h : PH), zev kJ5_removeFirst 1 L (zvr (some q) :: st) h = if (ph_K h q).1 % 1000 = 30 ∧ zcat st ≤ 8 then zk kJ5_removeFirst 1 4 L st (mJ5_pollFirst [zvr (some q)] h) else none) ∧
  (∀ (x0 x1 : ZV) (a : Option Nat) (L st : List ZV) (h : PH) (hx : zisL x0 = false) , zev kJ5_removeFirst 4 (x0 :: x1 :: L) (zvr a :: st) h = zev kJ5_removeFirst 5 (x0 :: zvr a :: L) st h) ∧
  (∀ (x0 : ZV) (a : Option Nat) (L st : List ZV) (h : PH), zev kJ5_removeFirst 5 (x0 :: zvr a :: L) st h = zev kJ5_removeFirst 6 (x0 :: zvr a :: L) (zvr a :: st) h) ∧
  (∀ (L st : List ZV) (h : PH), zev kJ5_removeFirst 6 L (zvr none :: st) h = zev kJ5_removeFirst 9 L st h) ∧
  (∀ (q : Nat) (L st : List ZV) (h : PH), zev kJ5_removeFirst 6 L (zvr (some q) :: st) h = if (ph_K h q).1 ≠ 0 then zev kJ5_removeFirst 17 L st h else none) ∧
  (∀ (a : Int) (L st : List ZV) (h : PH), zev kJ5_removeFirst 12 L (zvi a :: st) h = zev kJ5_removeFirst 13 L (zvi a :: zvi a :: st) h) ∧
  (∀ (a : Option Nat) (L st : List ZV) (h : PH), zev kJ5_removeFirst 12 L (zvr a :: st) h = zev kJ5_removeFirst 13 L (zvr a :: zvr a :: st) h) ∧
  (∀ (q : Nat) (L st : List ZV) (h : PH), zev kJ5_removeFirst 16 L (zvr (some q) :: st) h = if (ph_K h q).1 ≠ 0 then zk kJ5_removeFirst 16 0 L [] (zrx q h) else none) ∧
  (∀ (x0 : ZV) (a : Option Nat) (L st : List ZV) (h : PH), zev kJ5_removeFirst 17 (x0 :: zvr a :: L) st h = zev kJ5_removeFirst 18 (x0 :: zvr a :: L) (zvr a :: st) h) ∧
  (∀ (a : Option Nat) (L : List ZV) (h : PH), zev kJ5_removeFirst 18 L [zvr a] h = zrv (zvr a) h) :=
  ⟨fun a L st h => e_ld0R (n := 1) rfl,
  fun q L st h => e_callV1 (F := mJ5_pollFirst) (kd := 30) (n := 4) rfl,
  fun x0 x1 a L st h hx => e_st1R (n := 5) rfl hx,
  fun x0 a L st h => e_ld1R (n := 6) rfl,
  fun L st h => e_nonnull0 (t := 17) (n := 9) rfl,
  fun q L st h => e_nonnull1 (t := 17) (n := 9) rfl,
  fun a L st h => e_dupI (n := 13) rfl,
  fun a L st h => e_dupR (n := 13) rfl,
  fun q L st h => e_throw (n := 0) rfl,
  fun x0 a L st h => e_ld1R (n := 18) rfl,
  fun a L h => e_retR rfl⟩
theorem allJ5_removeFirst : zall yJ5_removeFirst cJ5_removeFirst 2 (some (.object "java/lang/Object")) 6 kJ5_removeFirst.1 :=
  ⟨k_aload_n dJ5_removeFirst_0,
  k_callV (y2 := yJ5_pollFirst) (C := RJ5) (T0 := TJ5) (ci := 14) dJ5_removeFirst_1 sndJ5_pollFirst rfl q1625 q1626 q1627 q135 q1628 (by decide +kernel) ⟨by decide, by decide⟩ (by decide) (by decide),
  k_astore_n dJ5_removeFirst_4,
  k_aload_n dJ5_removeFirst_5,
  k_nonnull (t := 17) dJ5_removeFirst_6 (by decide),
  k_stuck,
  k_dup dJ5_removeFirst_12,
  k_stuck,
  k_throw dJ5_removeFirst_16,
  k_aload_n dJ5_removeFirst_17,
  k_aret dJ5_removeFirst_18 rfl (Or.inl ⟨_, rfl⟩), trivial⟩
theorem sndJ5_removeFirst : MSound 6 yJ5_removeFirst (ws_ yJ5_removeFirst cJ5_removeFirst 2 (some (.object "java/lang/Object"))) mJ5_removeFirst := msound_M (by decide) allJ5_removeFirst (fun _ _ => rfl)
/-! java/util/ArrayDeque.newCapacity(II)I -/
noncomputable def kJ5_newCapacity : ZM := ([(0, zi_ld 1 0 1), (1, zi_getR 30 0 4), (4, zi_alen 5), (5, zi_st 0 3 6), (6, zi_ld 0 3 7), (7, zi_ld 0 1 8), (8, zi_bin (fun a b => w32 (a + b)) 9), (9, zi_dup 10), (10, zi_st 0 4 12), (12, zi_push (zvi 2147483639) 14), (14, zi_bin (fun a b => w32 (a - b)) 15), (15, zi_if (fun a => zc_le a 0) 36 18), (18, zi_ld 0 4 20), (20, zi_if (fun a => zc_ge a 0) 33 23), (23, zi_stuck), (26, zi_dup 27), (27, zi_stuck), (29, zi_stuck), (32, zi_throw), (33, zi_push (zvi 2147483647) 35), (35, zi_retv 0), (36, zi_ld 0 1 37), (37, zi_ld 0 2 38), (38, zi_cmp zc_le 44 41), (41, zi_ld 0 4 43), (43, zi_retv 0), (44, zi_ld 0 3 45), (45, zi_ld 0 2 46), (46, zi_bin (fun a b => w32 (a + b)) 47), (47, zi_push (zvi 2147483639) 49), (49, zi_bin (fun a b => w32 (a - b)) 50), (50, zi_if (fun a => zc_ge a 0) 59 53), (53, zi_ld 0 3 54), (54, zi_ld 0 2 55), (55, zi_bin (fun a b => w32 (a + b)) 56), (56, zi_goto 61), (59, zi_push (zvi 2147483639) 61), (61, zi_retv 0)], fun _ _ => none)
noncomputable def mJ5_newCapacity : ZF := zrunM kJ5_newCapacity 5
theorem enJ5_newCapacity (x0 : Option Nat) (x1 : Int) (x2 : Int) (h : PH) : mJ5_newCapacity [zvr x0, zvi x1, zvi x2] h = zev kJ5_newCapacity 0 [zvr x0, zvi x1, zvi x2, zvu, zvu] [] h := zrunM_eq rfl rfl
theorem rJ5_newCapacity : (∀ (a : Option Nat) (L st : List ZV) (h : PH), zev kJ5_newCapacity 0 (zvr a :: L) st h = zev kJ5_newCapacity 1 (zvr a :: L) (zvr a :: st) h) ∧
  (∀ (q : Nat) (L st : List ZV) (h : PH), zev kJ5_newCapacity 1 L (zvr (some q) :: st) h = if (ph_K h q).1 % 1000 = 30 then zev kJ5_newCapacity 4 L (zvr (ph_R h q 0) :: st) h else none) ∧
  (∀ (q : Nat) (L st : List ZV) (h : PH), zev kJ5_newCapacity 4 L (zvr (some q) :: st) h = if 1 ≤ (ph_K h q).1 % 1000 ∧ (ph_K h q).1 % 1000 ≤ 7 then zev kJ5_newCapacity 5 L (zvi (ph_K h q).2 :: st) h else none) ∧
  (∀ (x0 x1 x2 x3 : ZV) (a : Int) (L st : List ZV) (h : PH) (hx : zisL x2 = false) , zev kJ5_newCapacity 5 (x0 :: x1 :: x2 :: x3 :: L) (zvi a :: st) h = zev kJ5_newCapacity 6 (x0 :: x1 :: x2 :: zvi a :: L) st h) ∧
  (∀ (x0 x1 x2 : ZV) (a : Int) (L st : List ZV) (h : PH), zev kJ5_newCapacity 6 (x0 :: x1 :: x2 :: zvi a :: L) st h = zev kJ5_newCapacity 7 (x0 :: x1 :: x2 :: zvi a :: L) (zvi a :: st) h) ∧
  (∀ (x0 : ZV) (a : Int) (L st : List ZV) (h : PH), zev kJ5_newCapacity 7 (x0 :: zvi a :: L) st h = zev kJ5_newCapacity 8 (x0 :: zvi a :: L) (zvi a :: st) h) ∧
  (∀ (a b : Int) (L st : List ZV) (h : PH), zev kJ5_newCapacity 8 L (zvi b :: zvi a :: st) h = zev kJ5_newCapacity 9 L (zvi (w32 (a + b)) :: st) h) ∧
  (∀ (a : Int) (L st : List ZV) (h : PH), zev kJ5_newCapacity 9 L (zvi a :: st) h = zev kJ5_newCapacity 10 L (zvi a :: zvi a :: st) h) ∧
  (∀ (a : Option Nat) (L st : List ZV) (h : PH), zev kJ5_newCapacity 9 L (zvr a :: st) h = zev kJ5_newCapacity 10 L (zvr a :: zvr a :: st) h) ∧
  (∀ (x0 x1 x2 x3 x4 : ZV) (a : Int) (L st : List ZV) (h : PH) (hx : zisL x3 = false) , zev kJ5_newCapacity 10 (x0 :: x1 :: x2 :: x3 :: x4 :: L) (zvi a :: st) h = zev kJ5_newCapacity 12 (x0 :: x1 :: x2 :: x3 :: zvi a :: L) st h) ∧
  (∀ (L st : List ZV) (h : PH), zev kJ5_newCapacity 12 L st h = zev kJ5_newCapacity 14 L (zvi 2147483639 :: st) h) ∧
  (∀ (a b : Int) (L st : List ZV) (h : PH), zev kJ5_newCapacity 14 L (zvi b :: zvi a :: st) h = zev kJ5_newCapacity 15 L (zvi (w32 (a - b)) :: st) h) ∧
  (∀ (a : Int) (L st : List ZV) (h : PH), zev kJ5_newCapacity 15 L (zvi a :: st) h = if a ≤ 0 then zev kJ5_newCapacity 36 L st h else zev kJ5_newCapacity 18 L st h) ∧
  (∀ (x0 x1 x2 x3 : ZV) (a : Int) (L st : List ZV) (h : PH), zev kJ5_newCapacity 18 (x0 :: x1 :: x2 :: x3 :: zvi a :: L) st h = zev kJ5_newCapacity 20 (x0 :: x1 :: x2 :: x3 :: zvi a :: L) (zvi a :: st) h) ∧
  (∀ (a : Int) (L st : List ZV) (h : PH), zev kJ5_newCapacity 20 L (zvi a :: st) h = if a ≥ 0 then zev kJ5_newCapacity 33 L st h else zev kJ5_newCapacity 23 L st h) ∧
  (∀ (a : Int) (L st : List ZV) (h : PH), zev kJ5_newCapacity 26 L (zvi a :: st) h = zev kJ5_newCapacity 27 L (zvi a :: zvi a :: st) h) ∧
  (∀ (a : Option Nat) (L st : List ZV) (h : PH), zev kJ5_newCapacity 26 L (zvr a :: st) h = zev kJ5_newCapacity 27 L (zvr a :: zvr a :: st) h) ∧
  (∀ (q : Nat) (L st : List ZV) (h : PH), zev kJ5_newCapacity 32 L (zvr (some q) :: st) h = if (ph_K h q).1 ≠ 0 then zk kJ5_newCapacity 32 0 L [] (zrx q h) else none) ∧
  (∀ (L st : List ZV) (h : PH), zev kJ5_newCapacity 33 L st h = zev kJ5_newCapacity 35 L (zvi 2147483647 :: st) h) ∧
  (∀ (a : Int) (L : List ZV) (h : PH), zev kJ5_newCapacity 35 L [zvi a] h = zrv (zvi a) h) ∧
  (∀ (x0 : ZV) (a : Int) (L st : List ZV) (h : PH), zev kJ5_newCapacity 36 (x0 :: zvi a :: L) st h = zev kJ5_newCapacity 37 (x0 :: zvi a :: L) (zvi a :: st) h) ∧
  (∀ (x0 x1 : ZV) (a : Int) (L st : List ZV) (h : PH), zev kJ5_newCapacity 37 (x0 :: x1 :: zvi a :: L) st h = zev kJ5_newCapacity 38 (x0 :: x1 :: zvi a :: L) (zvi a :: st) h) ∧
  (∀ (a b : Int) (L st : List ZV) (h : PH), zev kJ5_newCapacity 38 L (zvi b :: zvi a :: st) h = if a ≤ b then zev kJ5_newCapacity 44 L st h else zev kJ5_newCapacity 41 L st h) ∧
  (∀ (x0 x1 x2 x3 : ZV) (a : Int) (L st : List ZV) (h : PH), zev kJ5_newCapacity 41 (x0 :: x1 :: x2 :: x3 :: zvi a :: L) st h = zev kJ5_newCapacity 43 (x0 :: x1 :: x2 :: x3 :: zvi a :: L) (zvi a :: st) h) ∧
  (∀ (a : Int) (L : List ZV) (h : PH), zev kJ5_newCapacity 43 L [zvi a] h = zrv (zvi a) h) ∧
  (∀ (x0 x1 x2 : ZV) (a : Int) (L st : List ZV) (h : PH), zev kJ5_newCapacity 44 (x0 :: x1 :: x2 :: zvi a :: L) st h = zev kJ5_newCapacity 45 (x0 :: x1 :: x2 :: zvi a :: L) (zvi a :: st) h) ∧
  (∀ (x0 x1 : ZV) (a : Int) (L st : List ZV) (h : PH), zev kJ5_newCapacity 45 (x0 :: x1 :: zvi a :: L) st h = zev kJ5_newCapacity 46 (x0 :: x1 :: zvi a :: L) (zvi a :: st) h) ∧
  (∀ (a b : Int) (L st : List ZV) (h : PH), zev kJ5_newCapacity 46 L (zvi b :: zvi a :: st) h = zev kJ5_newCapacity 47 L (zvi (w32 (a + b)) :: st) h) ∧
  (∀ (L st : List ZV) (h : PH), zev kJ5_newCapacity 47 L st h = zev kJ5_newCapacity 49 L (zvi 2147483639 :: st) h) ∧
  (∀ (a b : Int) (L st : List ZV) (h : PH), zev kJ5_newCapacity 49 L (zvi b :: zvi a :: st) h = zev kJ5_newCapacity 50 L (zvi (w32 (a - b)) :: st) h) ∧
  (∀ (a : Int) (L st : List ZV) (h : PH), zev kJ5_newCapacity 50 L (zvi a :: st) h = if a ≥ 0 then zev kJ5_newCapacity 59 L st h else zev kJ5_newCapacity 53 L st h) ∧
  (∀ (x0 x1 x2 : ZV) (a : Int) (L st : List ZV) (h : PH), zev kJ5_newCapacity 53 (x0 :: x1 :: x2 :: zvi a :: L) st h = zev kJ5_newCapacity 54 (x0 :: x1 :: x2 :: zvi a :: L) (zvi a :: st) h) ∧
  (∀ (x0 x1 : ZV) (a : Int) (L st : List ZV) (h : PH), zev kJ5_newCapacity 54 (x0 :: x1 :: zvi a :: L) st h = zev kJ5_newCapacity 55 (x0 :: x1 :: zvi a :: L) (zvi a :: st) h) ∧
  (∀ (a b : Int) (L st : List ZV) (h : PH), zev kJ5_newCapacity 55 L (zvi b :: zvi a :: st) h = zev kJ5_newCapacity 56 L (zvi (w32 (a + b)) :: st) h) ∧
  (∀ (L st : List ZV) (h : PH), zev kJ5_newCapacity 56 L st h = zev kJ5_newCapacity 61 L st h) ∧
  (∀ (L st : List ZV) (h : PH), zev kJ5_newCapacity 59 L st h = zev kJ5_newCapacity 61 L (zvi 2147483639 :: st) h) ∧
  (∀ (a : Int) (L : List ZV) (h : PH), zev kJ5_newCapacity 61 L [zvi a] h = zrv (zvi a) h) :=
  ⟨fun a L st h => e_ld0R (n := 1) rfl,
  fun q L st h => e_getR (kd := 30) (k := 0) (n := 4) rfl,
  fun q L st h => e_alen (n := 5) rfl,
  fun x0 x1 x2 x3 a L st h hx => e_st3I (n := 6) rfl hx,
  fun x0 x1 x2 a L st h => e_ld3I (n := 7) rfl,
  fun x0 a L st h => e_ld1I (n := 8) rfl,
  fun a b L st h => e_bin (f := (fun a b => w32 (a + b))) (n := 9) rfl,
  fun a L st h => e_dupI (n := 10) rfl,
  fun a L st h => e_dupR (n := 10) rfl,
  fun x0 x1 x2 x3 x4 a L st h hx => e_st4I (n := 12) rfl hx,
  fun L st h => e_push (v := zvi 2147483639) (n := 14) rfl,
  fun a b L st h => e_bin (f := (fun a b => w32 (a - b))) (n := 15) rfl,
  fun a L st h => e_ifle (t := 36) (n := 18) rfl,
  fun x0 x1 x2 x3 a L st h => e_ld4I (n := 20) rfl,
  fun a L st h => e_ifge (t := 33) (n := 23) rfl,
  fun a L st h => e_dupI (n := 27) rfl,
  fun a L st h => e_dupR (n := 27) rfl,
  fun q L st h => e_throw (n := 0) rfl,
  fun L st h => e_push (v := zvi 2147483647) (n := 35) rfl,
  fun a L h => e_retI rfl,
  fun x0 a L st h => e_ld1I (n := 37) rfl,
  fun x0 x1 a L st h => e_ld2I (n := 38) rfl,
  fun a b L st h => e_cmple (t := 44) (n := 41) rfl,
  fun x0 x1 x2 x3 a L st h => e_ld4I (n := 43) rfl,
  fun a L h => e_retI rfl,
  fun x0 x1 x2 a L st h => e_ld3I (n := 45) rfl,
  fun x0 x1 a L st h => e_ld2I (n := 46) rfl,
  fun a b L st h => e_bin (f := (fun a b => w32 (a + b))) (n := 47) rfl,
  fun L st h => e_push (v := zvi 2147483639) (n := 49) rfl,
  fun a b L st h => e_bin (f := (fun a b => w32 (a - b))) (n := 50) rfl,
  fun a L st h => e_ifge (t := 59) (n := 53) rfl,
  fun x0 x1 x2 a L st h => e_ld3I (n := 54) rfl,
  fun x0 x1 a L st h => e_ld2I (n := 55) rfl,
  fun a b L st h => e_bin (f := (fun a b => w32 (a + b))) (n := 56) rfl,
  fun L st h => e_goto (t := 61) rfl,
  fun L st h => e_push (v := zvi 2147483639) (n := 61) rfl,
  fun a L h => e_retI rfl⟩
theorem allJ5_newCapacity : zall yJ5_newCapacity cJ5_newCapacity 5 (some .int) 1 kJ5_newCapacity.1 :=
  ⟨k_aload_n dJ5_newCapacity_0,
  k_getR (C := RJ5) (T := TJ5) (N := 3) (ci := 14) (k := 0) (ref := "java/util/ArrayDeque") dJ5_newCapacity_1 rfl in_J5 (by decide) q247 (Or.inl rfl) (fun _ _ _ => rfl),
  k_alen dJ5_newCapacity_4,
  k_istore_n dJ5_newCapacity_5,
  k_iload_n dJ5_newCapacity_6,
  k_iload_n dJ5_newCapacity_7,
  k_iadd dJ5_newCapacity_8,
  k_dup dJ5_newCapacity_9,
  k_istore dJ5_newCapacity_10,
  k_ldc dJ5_newCapacity_12 q1664,
  k_isub dJ5_newCapacity_14,
  k_ifle (t := 36) dJ5_newCapacity_15 (by decide),
  k_iload dJ5_newCapacity_18,
  k_ifge (t := 33) dJ5_newCapacity_20 (by decide),
  k_stuck,
  k_dup dJ5_newCapacity_26,
  k_stuck,
  k_stuck,
  k_throw dJ5_newCapacity_32,
  k_ldc dJ5_newCapacity_33 q244,
  k_iret dJ5_newCapacity_35,
  k_iload_n dJ5_newCapacity_36,
  k_iload_n dJ5_newCapacity_37,
  k_cmple (t := 44) dJ5_newCapacity_38 (by decide),
  k_iload dJ5_newCapacity_41,
  k_iret dJ5_newCapacity_43,
  k_iload_n dJ5_newCapacity_44,
  k_iload_n dJ5_newCapacity_45,
  k_iadd dJ5_newCapacity_46,
  k_ldc dJ5_newCapacity_47 q1664,
  k_isub dJ5_newCapacity_49,
  k_ifge (t := 59) dJ5_newCapacity_50 (by decide),
  k_iload_n dJ5_newCapacity_53,
  k_iload_n dJ5_newCapacity_54,
  k_iadd dJ5_newCapacity_55,
  k_goto (t := 61) dJ5_newCapacity_56 (by decide),
  k_ldc dJ5_newCapacity_59 q1664,
  k_iret dJ5_newCapacity_61, trivial⟩
theorem sndJ5_newCapacity : MSound 1 yJ5_newCapacity (ws_ yJ5_newCapacity cJ5_newCapacity 5 (some .int)) mJ5_newCapacity := msound_M (by decide) allJ5_newCapacity (fun _ _ => rfl)
/-! java/util/ArrayDeque.grow(I)V -/
noncomputable def kJ5_grow : ZM := ([(0, zi_ld 1 0 1), (1, zi_getR 30 0 4), (4, zi_alen 5), (5, zi_st 0 2 6), (6, zi_ld 0 2 7), (7, zi_push (zvi 64) 9), (9, zi_cmp zc_ge 18 12), (12, zi_ld 0 2 13), (13, zi_push (zvi 2) 14), (14, zi_bin (fun a b => w32 (a + b)) 15), (15, zi_goto 21), (18, zi_ld 0 2 19), (19, zi_push (zvi 1) 20), (20, zi_bin zshr 21), (21, zi_st 0 4 23), (23, zi_ld 0 4 25), (25, zi_ld 0 1 26), (26, zi_cmp zc_lt 41 29), (29, zi_ld 0 2 30), (30, zi_ld 0 4 32), (32, zi_bin (fun a b => w32 (a + b)) 33), (33, zi_dup 34), (34, zi_st 0 3 35), (35, zi_push (zvi 2147483639) 37), (37, zi_bin (fun a b => w32 (a - b)) 38), (38, zi_if (fun a => zc_le a 0) 49 41), (41, zi_ld 1 0 42), (42, zi_ld 0 1 43), (43, zi_ld 0 4 45), (45, zi_callV mJ5_newCapacity 30 3 48), (48, zi_st 0 3 49), (49, zi_ld 1 0 50), (50, zi_ld 1 0 51), (51, zi_getR 30 0 54), (54, zi_ld 0 3 55), (55, zi_callS mJ17_copyOf 2 58), (58, zi_dupx1 59), (59, zi_putR 30 0 62), (62, zi_st 1 5 64), (64, zi_ld 1 0 65), (65, zi_getI 30 2 68), (68, zi_ld 1 0 69), (69, zi_getI 30 1 72), (72, zi_cmp zc_lt 96 75), (75, zi_ld 1 0 76), (76, zi_getI 30 2 79), (79, zi_ld 1 0 80), (80, zi_getI 30 1 83), (83, zi_cmp zc_ne 164 86), (86, zi_ld 1 5 88), (88, zi_ld 1 0 89), (89, zi_getI 30 1 92), (92, zi_aldR 93), (93, zi_null 164 96), (96, zi_ld 0 3 97), (97, zi_ld 0 2 98), (98, zi_bin (fun a b => w32 (a - b)) 99), (99, zi_st 0 6 101), (101, zi_ld 1 5 103), (103, zi_ld 1 0 104), (104, zi_getI 30 1 107), (107, zi_ld 1 5 109), (109, zi_ld 1 0 110), (110, zi_getI 30 1 113), (113, zi_ld 0 6 115), (115, zi_bin (fun a b => w32 (a + b)) 116), (116, zi_ld 0 2 117), (117, zi_ld 1 0 118), (118, zi_getI 30 1 121), (121, zi_bin (fun a b => w32 (a - b)) 122), (122, zi_acopy zokO 125), (125, zi_ld 1 0 126), (126, zi_getI 30 1 129), (129, zi_st 0 7 131), (131, zi_ld 1 0 132), (132, zi_dup 133), (133, zi_getI 30 1 136), (136, zi_ld 0 6 138), (138, zi_bin (fun a b => w32 (a + b)) 139), (139, zi_dupx1 140), (140, zi_putI 30 1 143), (143, zi_st 0 8 145), (145, zi_ld 0 7 147), (147, zi_ld 0 8 149), (149, zi_cmp zc_ge 164 152), (152, zi_ld 1 5 154), (154, zi_ld 0 7 156), (156, zi_push (zvr none) 157), (157, zi_astR 5 zokO 158), (158, zi_iinc 7 1 161), (161, zi_goto 145), (164, zi_ret)], fun _ _ => none)
noncomputable def mJ5_grow : ZF := zrunM kJ5_grow 9
theorem enJ5_grow (x0 : Option Nat) (x1 : Int) (h : PH) : mJ5_grow [zvr x0, zvi x1] h = zev kJ5_grow 0 [zvr x0, zvi x1, zvu, zvu, zvu, zvu, zvu, zvu, zvu] [] h := zrunM_eq rfl rfl
theorem hdJ5_grow_145 (x0 x1 x2 x3 x4 x5 x6 : ZV) (a : Int) (L st : List ZV) (h : PH) : zev kJ5_grow 145 (x0 :: x1 :: x2 :: x3 :: x4 :: x5 :: x6 :: zvi a :: L) st h = zev kJ5_grow 147 (x0 :: x1 :: x2 :: x3 :: x4 :: x5 :: x6 :: zvi a :: L) (zvi a :: st) h := e_ld7I (n := 147) rfl
theorem rJ5_grow : (∀ (a : Option Nat) (L st : List ZV) (h : PH), zev kJ5_grow 0 (zvr a :: L) st h = zev kJ5_grow 1 (zvr a :: L) (zvr a :: st) h) ∧
  (∀ (q : Nat) (L st : List ZV) (h : PH), zev kJ5_grow 1 L (zvr (some q) :: st) h = if (ph_K h q).1 % 1000 = 30 then zev kJ5_grow 4 L (zvr (ph_R h q 0) :: st) h else none) ∧
  (∀ (q : Nat) (L st : List ZV) (h : PH), zev kJ5_grow 4 L (zvr (some q) :: st) h = if 1 ≤ (ph_K h q).1 % 1000 ∧ (ph_K h q).1 % 1000 ≤ 7 then zev kJ5_grow 5 L (zvi (ph_K h q).2 :: st) h else none) ∧
  (∀ (x0 x1 x2 : ZV) (a : Int) (L st : List ZV) (h : PH) (hx : zisL x1 = false) , zev kJ5_grow 5 (x0 :: x1 :: x2 :: L) (zvi a :: st) h = zev kJ5_grow 6 (x0 :: x1 :: zvi a :: L) st h) ∧
  (∀ (x0 x1 : ZV) (a : Int) (L st : List ZV) (h : PH), zev kJ5_grow 6 (x0 :: x1 :: zvi a :: L) st h = zev kJ5_grow 7 (x0 :: x1 :: zvi a :: L) (zvi a :: st) h) ∧
  (∀ (L st : List ZV) (h : PH), zev kJ5_grow 7 L st h = zev kJ5_grow 9 L (zvi 64 :: st) h) ∧
  (∀ (a b : Int) (L st : List ZV) (h : PH), zev kJ5_grow 9 L (zvi b :: zvi a :: st) h = if a ≥ b then zev kJ5_grow 18 L st h else zev kJ5_grow 12 L st h) ∧
  (∀ (x0 x1 : ZV) (a : Int) (L st : List ZV) (h : PH), zev kJ5_grow 12 (x0 :: x1 :: zvi a :: L) st h = zev kJ5_grow 13 (x0 :: x1 :: zvi a :: L) (zvi a :: st) h) ∧
  (∀ (L st : List ZV) (h : PH), zev kJ5_grow 13 L st h = zev kJ5_grow 14 L (zvi 2 :: st) h) ∧
  (∀ (a b : Int) (L st : List ZV) (h : PH), zev kJ5_grow 14 L (zvi b :: zvi a :: st) h = zev kJ5_grow 15 L (zvi (w32 (a + b)) :: st) h) ∧
  (∀ (L st : List ZV) (h : PH), zev kJ5_grow 15 L st h = zev kJ5_grow 21 L st h) ∧
  (∀ (x0 x1 : ZV) (a : Int) (L st : List ZV) (h : PH), zev kJ5_grow 18 (x0 :: x1 :: zvi a :: L) st h = zev kJ5_grow 19 (x0 :: x1 :: zvi a :: L) (zvi a :: st) h) ∧
  (∀ (L st : List ZV) (h : PH), zev kJ5_grow 19 L st h = zev kJ5_grow 20 L (zvi 1 :: st) h) ∧
  (∀ (a b : Int) (L st : List ZV) (h : PH), zev kJ5_grow 20 L (zvi b :: zvi a :: st) h = zev kJ5_grow 21 L (zvi (zshr a b) :: st) h) ∧
  (∀ (x0 x1 x2 x3 x4 : ZV) (a : Int) (L st : List ZV) (h : PH) (hx : zisL x3 = false) , zev kJ5_grow 21 (x0 :: x1 :: x2 :: x3 :: x4 :: L) (zvi a :: st) h = zev kJ5_grow 23 (x0 :: x1 :: x2 :: x3 :: zvi a :: L) st h) ∧
  (∀ (x0 x1 x2 x3 : ZV) (a : Int) (L st : List ZV) (h : PH), zev kJ5_grow 23 (x0 :: x1 :: x2 :: x3 :: zvi a :: L) st h = zev kJ5_grow 25 (x0 :: x1 :: x2 :: x3 :: zvi a :: L) (zvi a :: st) h) ∧
  (∀ (x0 : ZV) (a : Int) (L st : List ZV) (h : PH), zev kJ5_grow 25 (x0 :: zvi a :: L) st h = zev kJ5_grow 26 (x0 :: zvi a :: L) (zvi a :: st) h) ∧
  (∀ (a b : Int) (L st : List ZV) (h : PH), zev kJ5_grow 26 L (zvi b :: zvi a :: st) h = if a < b then zev kJ5_grow 41 L st h else zev kJ5_grow 29 L st h) ∧
  (∀ (x0 x1 : ZV) (a : Int) (L st : List ZV) (h : PH), zev kJ5_grow 29 (x0 :: x1 :: zvi a :: L) st h = zev kJ5_grow 30 (x0 :: x1 :: zvi a :: L) (zvi a :: st) h) ∧
  (∀ (x0 x1 x2 x3 : ZV) (a : Int) (L st : List ZV) (h : PH), zev kJ5_grow 30 (x0 :: x1 :: x2 :: x3 :: zvi a :: L) st h = zev kJ5_grow 32 (x0 :: x1 :: x2 :: x3 :: zvi a :: L) (zvi a :: st) h) ∧
  (∀ (a b : Int) (L st : List ZV) (h : PH), zev kJ5_grow 32 L (zvi b :: zvi a :: st) h = zev kJ5_grow 33 L (zvi (w32 (a + b)) :: st) h) ∧
  (∀ (a : Int) (L st : List ZV) (h : PH), zev kJ5_grow 33 L (zvi a :: st) h = zev kJ5_grow 34 L (zvi a :: zvi a :: st) h) ∧
  (∀ (a : Option Nat) (L st : List ZV) (h : PH), zev kJ5_grow 33 L (zvr a :: st) h = zev kJ5_grow 34 L (zvr a :: zvr a :: st) h) ∧
  (∀ (x0 x1 x2 x3 : ZV) (a : Int) (L st : List ZV) (h : PH) (hx : zisL x2 = false) , zev kJ5_grow 34 (x0 :: x1 :: x2 :: x3 :: L) (zvi a :: st) h = zev kJ5_grow 35 (x0 :: x1 :: x2 :: zvi a :: L) st h) ∧
  (∀ (L st : List ZV) (h : PH), zev kJ5_grow 35 L st h = zev kJ5_grow 37 L (zvi 2147483639 :: st) h) ∧
  (∀ (a b : Int) (L st : List ZV) (h : PH), zev kJ5_grow 37 L (zvi b :: zvi a :: st) h = zev kJ5_grow 38 L (zvi (w32 (a - b)) :: st) h) ∧
  (∀ (a : Int) (L st : List ZV) (h : PH), zev kJ5_grow 38 L (zvi a :: st) h = if a ≤ 0 then zev kJ5_grow 49 L st h else zev kJ5_grow 41 L st h) ∧
  (∀ (a : Option Nat) (L st : List ZV) (h : PH), zev kJ5_grow 41 (zvr a :: L) st h = zev kJ5_grow 42 (zvr a :: L) (zvr a :: st) h) ∧
  (∀ (x0 : ZV) (a : Int) (L st : List ZV) (h : PH), zev kJ5_grow 42 (x0 :: zvi a :: L) st h = zev kJ5_grow 43 (x0 :: zvi a :: L) (zvi a :: st) h) ∧
  (∀ (x0 x1 x2 x3 : ZV) (a : Int) (L st : List ZV) (h : PH), zev kJ5_grow 43 (x0 :: x1 :: x2 :: x3 :: zvi a :: L) st h = zev kJ5_grow 45 (x0 :: x1 :: x2 :: x3 :: zvi a :: L) (zvi a :: st) h) ∧
  (∀ (v0 v1 : ZV) (q : Nat) (L st : List ZV) (h : PH), zev kJ5_grow 45 L (v1 :: v0 :: zvr (some q) :: st) h = if (ph_K h q).1 % 1000 = 30 ∧ zcat st ≤ 8 then zk kJ5_grow 45 48 L st (mJ5_newCapacity [zvr (some q), v0, v1] h) else none) ∧
  (∀ (x0 x1 x2 x3 : ZV) (a : Int) (L st : List ZV) (h : PH) (hx : zisL x2 = false) , zev kJ5_grow 48 (x0 :: x1 :: x2 :: x3 :: L) (zvi a :: st) h = zev kJ5_grow 49 (x0 :: x1 :: x2 :: zvi a :: L) st h) ∧
  (∀ (a : Option Nat) (L st : List ZV) (h : PH), zev kJ5_grow 49 (zvr a :: L) st h = zev kJ5_grow 50 (zvr a :: L) (zvr a :: st) h) ∧
  (∀ (a : Option Nat) (L st : List ZV) (h : PH), zev kJ5_grow 50 (zvr a :: L) st h = zev kJ5_grow 51 (zvr a :: L) (zvr a :: st) h) ∧
  (∀ (q : Nat) (L st : List ZV) (h : PH), zev kJ5_grow 51 L (zvr (some q) :: st) h = if (ph_K h q).1 % 1000 = 30 then zev kJ5_grow 54 L (zvr (ph_R h q 0) :: st) h else none) ∧
  (∀ (x0 x1 x2 : ZV) (a : Int) (L st : List ZV) (h : PH), zev kJ5_grow 54 (x0 :: x1 :: x2 :: zvi a :: L) st h = zev kJ5_grow 55 (x0 :: x1 :: x2 :: zvi a :: L) (zvi a :: st) h) ∧
  (∀ (v0 v1 : ZV) (L st : List ZV) (h : PH), zev kJ5_grow 55 L (v1 :: v0 :: st) h = if zcat st ≤ 8 then zk kJ5_grow 55 58 L st (mJ17_copyOf [v0, v1] h) else none) ∧
  (∀ (a : Int) (b : Int) (L st : List ZV) (h : PH), zev kJ5_grow 58 L (zvi a :: zvi b :: st) h = zev kJ5_grow 59 L (zvi a :: zvi b :: zvi a :: st) h) ∧
  (∀ (a : Int) (b : Option Nat) (L st : List ZV) (h : PH), zev kJ5_grow 58 L (zvi a :: zvr b :: st) h = zev kJ5_grow 59 L (zvi a :: zvr b :: zvi a :: st) h) ∧
  (∀ (a : Option Nat) (b : Int) (L st : List ZV) (h : PH), zev kJ5_grow 58 L (zvr a :: zvi b :: st) h = zev kJ5_grow 59 L (zvr a :: zvi b :: zvr a :: st) h) ∧
  (∀ (a : Option Nat) (b : Option Nat) (L st : List ZV) (h : PH), zev kJ5_grow 58 L (zvr a :: zvr b :: st) h = zev kJ5_grow 59 L (zvr a :: zvr b :: zvr a :: st) h) ∧
  (∀ (a : Option Nat) (q : Nat) (L st : List ZV) (h : PH), zev kJ5_grow 59 L (zvr a :: zvr (some q) :: st) h = if (ph_K h q).1 = 30 then zev kJ5_grow 62 L st (st_R h q 0 a) else none) ∧
  (∀ (x0 x1 x2 x3 x4 x5 : ZV) (a : Option Nat) (L st : List ZV) (h : PH) (hx : zisL x4 = false) , zev kJ5_grow 62 (x0 :: x1 :: x2 :: x3 :: x4 :: x5 :: L) (zvr a :: st) h = zev kJ5_grow 64 (x0 :: x1 :: x2 :: x3 :: x4 :: zvr a :: L) st h) ∧
  (∀ (a : Option Nat) (L st : List ZV) (h : PH), zev kJ5_grow 64 (zvr a :: L) st h = zev kJ5_grow 65 (zvr a :: L) (zvr a :: st) h) ∧
  (∀ (q : Nat) (L st : List ZV) (h : PH), zev kJ5_grow 65 L (zvr (some q) :: st) h = if (ph_K h q).1 % 1000 = 30 then zev kJ5_grow 68 L (zvi (ph_I h q 2) :: st) h else none) ∧
  (∀ (a : Option Nat) (L st : List ZV) (h : PH), zev kJ5_grow 68 (zvr a :: L) st h = zev kJ5_grow 69 (zvr a :: L) (zvr a :: st) h) ∧
  (∀ (q : Nat) (L st : List ZV) (h : PH), zev kJ5_grow 69 L (zvr (some q) :: st) h = if (ph_K h q).1 % 1000 = 30 then zev kJ5_grow 72 L (zvi (ph_I h q 1) :: st) h else none) ∧
  (∀ (a b : Int) (L st : List ZV) (h : PH), zev kJ5_grow 72 L (zvi b :: zvi a :: st) h = if a < b then zev kJ5_grow 96 L st h else zev kJ5_grow 75 L st h) ∧
  (∀ (a : Option Nat) (L st : List ZV) (h : PH), zev kJ5_grow 75 (zvr a :: L) st h = zev kJ5_grow 76 (zvr a :: L) (zvr a :: st) h) ∧
  (∀ (q : Nat) (L st : List ZV) (h : PH), zev kJ5_grow 76 L (zvr (some q) :: st) h = if (ph_K h q).1 % 1000 = 30 then zev kJ5_grow 79 L (zvi (ph_I h q 2) :: st) h else none) ∧
  (∀ (a : Option Nat) (L st : List ZV) (h : PH), zev kJ5_grow 79 (zvr a :: L) st h = zev kJ5_grow 80 (zvr a :: L) (zvr a :: st) h) ∧
  (∀ (q : Nat) (L st : List ZV) (h : PH), zev kJ5_grow 80 L (zvr (some q) :: st) h = if (ph_K h q).1 % 1000 = 30 then zev kJ5_grow 83 L (zvi (ph_I h q 1) :: st) h else none) ∧
  (∀ (a b : Int) (L st : List ZV) (h : PH), zev kJ5_grow 83 L (zvi b :: zvi a :: st) h = if a ≠ b then zev kJ5_grow 164 L st h else zev kJ5_grow 86 L st h) ∧
  (∀ (x0 x1 x2 x3 x4 : ZV) (a : Option Nat) (L st : List ZV) (h : PH), zev kJ5_grow 86 (x0 :: x1 :: x2 :: x3 :: x4 :: zvr a :: L) st h = zev kJ5_grow 88 (x0 :: x1 :: x2 :: x3 :: x4 :: zvr a :: L) (zvr a :: st) h) ∧
  (∀ (a : Option Nat) (L st : List ZV) (h : PH), zev kJ5_grow 88 (zvr a :: L) st h = zev kJ5_grow 89 (zvr a :: L) (zvr a :: st) h) ∧
  (∀ (q : Nat) (L st : List ZV) (h : PH), zev kJ5_grow 89 L (zvr (some q) :: st) h = if (ph_K h q).1 % 1000 = 30 then zev kJ5_grow 92 L (zvi (ph_I h q 1) :: st) h else none) ∧
  (∀ (j : Int) (q : Nat) (L st : List ZV) (h : PH), zev kJ5_grow 92 L (zvi j :: zvr (some q) :: st) h = if 5 ≤ (ph_K h q).1 % 1000 ∧ (ph_K h q).1 % 1000 ≤ 7 ∧ 0 ≤ j ∧ j < (ph_K h q).2 then zev kJ5_grow 93 L (zvr (ph_R h q j) :: st) h else none) ∧
  (∀ (L st : List ZV) (h : PH), zev kJ5_grow 93 L (zvr none :: st) h = zev kJ5_grow 164 L st h) ∧
  (∀ (q : Nat) (L st : List ZV) (h : PH), zev kJ5_grow 93 L (zvr (some q) :: st) h = if (ph_K h q).1 ≠ 0 then zev kJ5_grow 96 L st h else none) ∧
  (∀ (x0 x1 x2 : ZV) (a : Int) (L st : List ZV) (h : PH), zev kJ5_grow 96 (x0 :: x1 :: x2 :: zvi a :: L) st h = zev kJ5_grow 97 (x0 :: x1 :: x2 :: zvi a :: L) (zvi a :: st) h) ∧
  (∀ (x0 x1 : ZV) (a : Int) (L st : List ZV) (h : PH), zev kJ5_grow 97 (x0 :: x1 :: zvi a :: L) st h = zev kJ5_grow 98 (x0 :: x1 :: zvi a :: L) (zvi a :: st) h) ∧
  (∀ (a b : Int) (L st : List ZV) (h : PH), zev kJ5_grow 98 L (zvi b :: zvi a :: st) h = zev kJ5_grow 99 L (zvi (w32 (a - b)) :: st) h) ∧
  (∀ (x0 x1 x2 x3 x4 x5 x6 : ZV) (a : Int) (L st : List ZV) (h : PH) (hx : zisL x5 = false) , zev kJ5_grow 99 (x0 :: x1 :: x2 :: x3 :: x4 :: x5 :: x6 :: L) (zvi a :: st) h = zev kJ5_grow 101 (x0 :: x1 :: x2 :: x3 :: x4 :: x5 :: zvi a :: L) st h) ∧
  (∀ (x0 x1 x2 x3 x4 : ZV) (a : Option Nat) (L st : List ZV) (h : PH), zev kJ5_grow 101 (x0 :: x1 :: x2 :: x3 :: x4 :: zvr a :: L) st h = zev kJ5_grow 103 (x0 :: x1 :: x2 :: x3 :: x4 :: zvr a :: L) (zvr a :: st) h) ∧
  (∀ (a : Option Nat) (L st : List ZV) (h : PH), zev kJ5_grow 103 (zvr a :: L) st h = zev kJ5_grow 104 (zvr a :: L) (zvr a :: st) h) ∧
  (∀ (q : Nat) (L st : List ZV) (h : PH), zev kJ5_grow 104 L (zvr (some q) :: st) h = if (ph_K h q).1 % 1000 = 30 then zev kJ5_grow 107 L (zvi (ph_I h q 1) :: st) h else none) ∧
  (∀ (x0 x1 x2 x3 x4 : ZV) (a : Option Nat) (L st : List ZV) (h : PH), zev kJ5_grow 107 (x0 :: x1 :: x2 :: x3 :: x4 :: zvr a :: L) st h = zev kJ5_grow 109 (x0 :: x1 :: x2 :: x3 :: x4 :: zvr a :: L) (zvr a :: st) h) ∧
  (∀ (a : Option Nat) (L st : List ZV) (h : PH), zev kJ5_grow 109 (zvr a :: L) st h = zev kJ5_grow 110 (zvr a :: L) (zvr a :: st) h) ∧
  (∀ (q : Nat) (L st : List ZV) (h : PH), zev kJ5_grow 110 L (zvr (some q) :: st) h = if (ph_K h q).1 % 1000 = 30 then zev kJ5_grow 113 L (zvi (ph_I h q 1) :: st) h else none) ∧
  (∀ (x0 x1 x2 x3 x4 x5 : ZV) (a : Int) (L st : List ZV) (h : PH), zev kJ5_grow 113 (x0 :: x1 :: x2 :: x3 :: x4 :: x5 :: zvi a :: L) st h = zev kJ5_grow 115 (x0 :: x1 :: x2 :: x3 :: x4 :: x5 :: zvi a :: L) (zvi a :: st) h) ∧
  (∀ (a b : Int) (L st : List ZV) (h : PH), zev kJ5_grow 115 L (zvi b :: zvi a :: st) h = zev kJ5_grow 116 L (zvi (w32 (a + b)) :: st) h) ∧
  (∀ (x0 x1 : ZV) (a : Int) (L st : List ZV) (h : PH), zev kJ5_grow 116 (x0 :: x1 :: zvi a :: L) st h = zev kJ5_grow 117 (x0 :: x1 :: zvi a :: L) (zvi a :: st) h) ∧
  (∀ (a : Option Nat) (L st : List ZV) (h : PH), zev kJ5_grow 117 (zvr a :: L) st h = zev kJ5_grow 118 (zvr a :: L) (zvr a :: st) h) ∧
  (∀ (q : Nat) (L st : List ZV) (h : PH), zev kJ5_grow 118 L (zvr (some q) :: st) h = if (ph_K h q).1 % 1000 = 30 then zev kJ5_grow 121 L (zvi (ph_I h q 1) :: st) h else none) ∧
  (∀ (a b : Int) (L st : List ZV) (h : PH), zev kJ5_grow 121 L (zvi b :: zvi a :: st) h = zev kJ5_grow 122 L (zvi (w32 (a - b)) :: st) h) ∧
  (∀ (n dp : Int) (a : Nat) (sp : Int) (a0 : Nat) (L st : List ZV) (h : PH), zev kJ5_grow 122 L (zvi n :: zvi dp :: zvr (some a) :: zvi sp :: zvr (some a0) :: st) h = if ((ph_K h a).1 = 5 ∧ (ph_K h a0).1 = 5 ∧ a ≠ a0) ∧ (0 ≤ sp ∧ 0 ≤ dp ∧ 0 ≤ n ∧ sp + n ≤ (ph_K h a0).2 ∧ dp + n ≤ (ph_K h a).2) ∧ zallk zokO h a0 sp n = true ∧ zcat st ≤ 8 then zev kJ5_grow 125 L st (sa_R h a (zcpR h a0 a sp dp n)) else none) ∧
  (∀ (a : Option Nat) (L st : List ZV) (h : PH), zev kJ5_grow 125 (zvr a :: L) st h = zev kJ5_grow 126 (zvr a :: L) (zvr a :: st) h) ∧
  (∀ (q : Nat) (L st : List ZV) (h : PH), zev kJ5_grow 126 L (zvr (some q) :: st) h = if (ph_K h q).1 % 1000 = 30 then zev kJ5_grow 129 L (zvi (ph_I h q 1) :: st) h else none) ∧
  (∀ (x0 x1 x2 x3 x4 x5 x6 x7 : ZV) (a : Int) (L st : List ZV) (h : PH) (hx : zisL x6 = false) , zev kJ5_grow 129 (x0 :: x1 :: x2 :: x3 :: x4 :: x5 :: x6 :: x7 :: L) (zvi a :: st) h = zev kJ5_grow 131 (x0 :: x1 :: x2 :: x3 :: x4 :: x5 :: x6 :: zvi a :: L) st h) ∧
  (∀ (a : Option Nat) (L st : List ZV) (h : PH), zev kJ5_grow 131 (zvr a :: L) st h = zev kJ5_grow 132 (zvr a :: L) (zvr a :: st) h) ∧
  (∀ (a : Int) (L st : List ZV) (h : PH), zev kJ5_grow 132 L (zvi a :: st) h = zev kJ5_grow 133 L (zvi a :: zvi a :: st) h) ∧
  (∀ (a : Option Nat) (L st : List ZV) (h : PH), zev kJ5_grow 132 L (zvr a :: st) h = zev kJ5_grow 133 L (zvr a :: zvr a :: st) h) ∧
  (∀ (q : Nat) (L st : List ZV) (h : PH), zev kJ5_grow 133 L (zvr (some q) :: st) h = if (ph_K h q).1 % 1000 = 30 then zev kJ5_grow 136 L (zvi (ph_I h q 1) :: st) h else none) ∧
  (∀ (x0 x1 x2 x3 x4 x5 : ZV) (a : Int) (L st : List ZV) (h : PH), zev kJ5_grow 136 (x0 :: x1 :: x2 :: x3 :: x4 :: x5 :: zvi a :: L) st h = zev kJ5_grow 138 (x0 :: x1 :: x2 :: x3 :: x4 :: x5 :: zvi a :: L) (zvi a :: st) h) ∧
  (∀ (a b : Int) (L st : List ZV) (h : PH), zev kJ5_grow 138 L (zvi b :: zvi a :: st) h = zev kJ5_grow 139 L (zvi (w32 (a + b)) :: st) h) ∧
  (∀ (a : Int) (b : Int) (L st : List ZV) (h : PH), zev kJ5_grow 139 L (zvi a :: zvi b :: st) h = zev kJ5_grow 140 L (zvi a :: zvi b :: zvi a :: st) h) ∧
  (∀ (a : Int) (b : Option Nat) (L st : List ZV) (h : PH), zev kJ5_grow 139 L (zvi a :: zvr b :: st) h = zev kJ5_grow 140 L (zvi a :: zvr b :: zvi a :: st) h) ∧
  (∀ (a : Option Nat) (b : Int) (L st : List ZV) (h : PH), zev kJ5_grow 139 L (zvr a :: zvi b :: st) h = zev kJ5_grow 140 L (zvr a :: zvi b :: zvr a :: st) h) ∧
  (∀ (a : Option Nat) (b : Option Nat) (L st : List ZV) (h : PH), zev kJ5_grow 139 L (zvr a :: zvr b :: st) h = zev kJ5_grow 140 L (zvr a :: zvr b :: zvr a :: st) h) ∧
  (∀ (a : Int) (q : Nat) (L st : List ZV) (h : PH), zev kJ5_grow 140 L (zvi a :: zvr (some q) :: st) h = if (ph_K h q).1 = 30 then zev kJ5_grow 143 L st (st_I h q 1 a) else none) ∧
  (∀ (x0 x1 x2 x3 x4 x5 x6 x7 x8 : ZV) (a : Int) (L st : List ZV) (h : PH) (hx : zisL x7 = false) , zev kJ5_grow 143 (x0 :: x1 :: x2 :: x3 :: x4 :: x5 :: x6 :: x7 :: x8 :: L) (zvi a :: st) h = zev kJ5_grow 145 (x0 :: x1 :: x2 :: x3 :: x4 :: x5 :: x6 :: x7 :: zvi a :: L) st h) ∧
  (∀ (x0 x1 x2 x3 x4 x5 x6 x7 : ZV) (a : Int) (L st : List ZV) (h : PH), zev kJ5_grow 147 (x0 :: x1 :: x2 :: x3 :: x4 :: x5 :: x6 :: x7 :: zvi a :: L) st h = zev kJ5_grow 149 (x0 :: x1 :: x2 :: x3 :: x4 :: x5 :: x6 :: x7 :: zvi a :: L) (zvi a :: st) h) ∧
  (∀ (a b : Int) (L st : List ZV) (h : PH), zev kJ5_grow 149 L (zvi b :: zvi a :: st) h = if a ≥ b then zev kJ5_grow 164 L st h else zev kJ5_grow 152 L st h) ∧
  (∀ (x0 x1 x2 x3 x4 : ZV) (a : Option Nat) (L st : List ZV) (h : PH), zev kJ5_grow 152 (x0 :: x1 :: x2 :: x3 :: x4 :: zvr a :: L) st h = zev kJ5_grow 154 (x0 :: x1 :: x2 :: x3 :: x4 :: zvr a :: L) (zvr a :: st) h) ∧
  (∀ (x0 x1 x2 x3 x4 x5 x6 : ZV) (a : Int) (L st : List ZV) (h : PH), zev kJ5_grow 154 (x0 :: x1 :: x2 :: x3 :: x4 :: x5 :: x6 :: zvi a :: L) st h = zev kJ5_grow 156 (x0 :: x1 :: x2 :: x3 :: x4 :: x5 :: x6 :: zvi a :: L) (zvi a :: st) h) ∧
  (∀ (L st : List ZV) (h : PH), zev kJ5_grow 156 L st h = zev kJ5_grow 157 L (zvr none :: st) h) ∧
  (∀ (j : Int) (q : Nat) (L st : List ZV) (h : PH), zev kJ5_grow 157 L (zvr none :: zvi j :: zvr (some q) :: st) h = if (ph_K h q).1 = 5 ∧ 0 ≤ j ∧ j < (ph_K h q).2 then zev kJ5_grow 158 L st (st_R h q j none) else none) ∧
  (∀ (a : Nat) (j : Int) (q : Nat) (L st : List ZV) (h : PH), zev kJ5_grow 157 L (zvr (some a) :: zvi j :: zvr (some q) :: st) h = if (ph_K h q).1 = 5 ∧ 0 ≤ j ∧ j < (ph_K h q).2 ∧ zokO (ph_K h a).1 = true then zev kJ5_grow 158 L st (st_R h q j (some a)) else none) ∧
  (∀ (x0 x1 x2 x3 x4 x5 x6 : ZV) (a : Int) (L st : List ZV) (h : PH) (hx : zisL x6 = false) , zev kJ5_grow 158 (x0 :: x1 :: x2 :: x3 :: x4 :: x5 :: x6 :: zvi a :: L) st h = zev kJ5_grow 161 (x0 :: x1 :: x2 :: x3 :: x4 :: x5 :: x6 :: zvi (w32 (a + 1)) :: L) st h) ∧
  (∀ (L st : List ZV) (h : PH), zev kJ5_grow 161 L st h = zev kJ5_grow 145 L st h) ∧
  (∀ (L : List ZV) (h : PH), zev kJ5_grow 164 L [] h = zr0 h) :=
  ⟨fun a L st h => e_ld0R (n := 1) rfl,
  fun q L st h => e_getR (kd := 30) (k := 0) (n := 4) rfl,
  fun q L st h => e_alen (n := 5) rfl,
  fun x0 x1 x2 a L st h hx => e_st2I (n := 6) rfl hx,
  fun x0 x1 a L st h => e_ld2I (n := 7) rfl,
  fun L st h => e_push (v := zvi 64) (n := 9) rfl,
  fun a b L st h => e_cmpge (t := 18) (n := 12) rfl,
  fun x0 x1 a L st h => e_ld2I (n := 13) rfl,
  fun L st h => e_push (v := zvi 2) (n := 14) rfl,
  fun a b L st h => e_bin (f := (fun a b => w32 (a + b))) (n := 15) rfl,
  fun L st h => e_goto (t := 21) rfl,
  fun x0 x1 a L st h => e_ld2I (n := 19) rfl,
  fun L st h => e_push (v := zvi 1) (n := 20) rfl,
  fun a b L st h => e_bin (f := zshr) (n := 21) rfl,
  fun x0 x1 x2 x3 x4 a L st h hx => e_st4I (n := 23) rfl hx,
  fun x0 x1 x2 x3 a L st h => e_ld4I (n := 25) rfl,
  fun x0 a L st h => e_ld1I (n := 26) rfl,
  fun a b L st h => e_cmplt (t := 41) (n := 29) rfl,
  fun x0 x1 a L st h => e_ld2I (n := 30) rfl,
  fun x0 x1 x2 x3 a L st h => e_ld4I (n := 32) rfl,
  fun a b L st h => e_bin (f := (fun a b => w32 (a + b))) (n := 33) rfl,
  fun a L st h => e_dupI (n := 34) rfl,
  fun a L st h => e_dupR (n := 34) rfl,
  fun x0 x1 x2 x3 a L st h hx => e_st3I (n := 35) rfl hx,
  fun L st h => e_push (v := zvi 2147483639) (n := 37) rfl,
  fun a b L st h => e_bin (f := (fun a b => w32 (a - b))) (n := 38) rfl,
  fun a L st h => e_ifle (t := 49) (n := 41) rfl,
  fun a L st h => e_ld0R (n := 42) rfl,
  fun x0 a L st h => e_ld1I (n := 43) rfl,
  fun x0 x1 x2 x3 a L st h => e_ld4I (n := 45) rfl,
  fun v0 v1 q L st h => e_callV3 (F := mJ5_newCapacity) (kd := 30) (n := 48) rfl,
  fun x0 x1 x2 x3 a L st h hx => e_st3I (n := 49) rfl hx,
  fun a L st h => e_ld0R (n := 50) rfl,
  fun a L st h => e_ld0R (n := 51) rfl,
  fun q L st h => e_getR (kd := 30) (k := 0) (n := 54) rfl,
  fun x0 x1 x2 a L st h => e_ld3I (n := 55) rfl,
  fun v0 v1 L st h => e_callS2 (F := mJ17_copyOf) (n := 58) rfl,
  fun a b L st h => e_dupx1II (n := 59) rfl,
  fun a b L st h => e_dupx1IR (n := 59) rfl,
  fun a b L st h => e_dupx1RI (n := 59) rfl,
  fun a b L st h => e_dupx1RR (n := 59) rfl,
  fun a q L st h => e_putR (kd := 30) (k := 0) (n := 62) rfl,
  fun x0 x1 x2 x3 x4 x5 a L st h hx => e_st5R (n := 64) rfl hx,
  fun a L st h => e_ld0R (n := 65) rfl,
  fun q L st h => e_getI (kd := 30) (k := 2) (n := 68) rfl,
  fun a L st h => e_ld0R (n := 69) rfl,
  fun q L st h => e_getI (kd := 30) (k := 1) (n := 72) rfl,
  fun a b L st h => e_cmplt (t := 96) (n := 75) rfl,
  fun a L st h => e_ld0R (n := 76) rfl,
  fun q L st h => e_getI (kd := 30) (k := 2) (n := 79) rfl,
  fun a L st h => e_ld0R (n := 80) rfl,
  fun q L st h => e_getI (kd := 30) (k := 1) (n := 83) rfl,
  fun a b L st h => e_cmpne (t := 164) (n := 86) rfl,
  fun x0 x1 x2 x3 x4 a L st h => e_ld5R (n := 88) rfl,
  fun a L st h => e_ld0R (n := 89) rfl,
  fun q L st h => e_getI (kd := 30) (k := 1) (n := 92) rfl,
  fun j q L st h => e_aldR (n := 93) rfl,
  fun L st h => e_null0 (t := 164) (n := 96) rfl,
  fun q L st h => e_null1 (t := 164) (n := 96) rfl,
  fun x0 x1 x2 a L st h => e_ld3I (n := 97) rfl,
  fun x0 x1 a L st h => e_ld2I (n := 98) rfl,
  fun a b L st h => e_bin (f := (fun a b => w32 (a - b))) (n := 99) rfl,
  fun x0 x1 x2 x3 x4 x5 x6 a L st h hx => e_st6I (n := 101) rfl hx,
  fun x0 x1 x2 x3 x4 a L st h => e_ld5R (n := 103) rfl,
  fun a L st h => e_ld0R (n := 104) rfl,
  fun q L st h => e_getI (kd := 30) (k := 1) (n := 107) rfl,
  fun x0 x1 x2 x3 x4 a L st h => e_ld5R (n := 109) rfl,
  fun a L st h => e_ld0R (n := 110) rfl,
  fun q L st h => e_getI (kd := 30) (k := 1) (n := 113) rfl,
  fun x0 x1 x2 x3 x4 x5 a L st h => e_ld6I (n := 115) rfl,
  fun a b L st h => e_bin (f := (fun a b => w32 (a + b))) (n := 116) rfl,
  fun x0 x1 a L st h => e_ld2I (n := 117) rfl,
  fun a L st h => e_ld0R (n := 118) rfl,
  fun q L st h => e_getI (kd := 30) (k := 1) (n := 121) rfl,
  fun a b L st h => e_bin (f := (fun a b => w32 (a - b))) (n := 122) rfl,
  fun n dp a sp a0 L st h => e_acopy (ok := zokO) (nx := 125) rfl,
  fun a L st h => e_ld0R (n := 126) rfl,
  fun q L st h => e_getI (kd := 30) (k := 1) (n := 129) rfl,
  fun x0 x1 x2 x3 x4 x5 x6 x7 a L st h hx => e_st7I (n := 131) rfl hx,
  fun a L st h => e_ld0R (n := 132) rfl,
  fun a L st h => e_dupI (n := 133) rfl,
  fun a L st h => e_dupR (n := 133) rfl,
  fun q L st h => e_getI (kd := 30) (k := 1) (n := 136) rfl,
  fun x0 x1 x2 x3 x4 x5 a L st h => e_ld6I (n := 138) rfl,
  fun a b L st h => e_bin (f := (fun a b => w32 (a + b))) (n := 139) rfl,
  fun a b L st h => e_dupx1II (n := 140) rfl,
  fun a b L st h => e_dupx1IR (n := 140) rfl,
  fun a b L st h => e_dupx1RI (n := 140) rfl,
  fun a b L st h => e_dupx1RR (n := 140) rfl,
  fun a q L st h => e_putI (kd := 30) (k := 1) (n := 143) rfl,
  fun x0 x1 x2 x3 x4 x5 x6 x7 x8 a L st h hx => e_st8I (n := 145) rfl hx,
  fun x0 x1 x2 x3 x4 x5 x6 x7 a L st h => e_ld8I (n := 149) rfl,
  fun a b L st h => e_cmpge (t := 164) (n := 152) rfl,
  fun x0 x1 x2 x3 x4 a L st h => e_ld5R (n := 154) rfl,
  fun x0 x1 x2 x3 x4 x5 x6 a L st h => e_ld7I (n := 156) rfl,
  fun L st h => e_push (v := zvr none) (n := 157) rfl,
  fun j q L st h => e_astR0 (kd := 5) (ok := zokO) (n := 158) rfl,
  fun a j q L st h => e_astR1 (kd := 5) (ok := zokO) (n := 158) rfl,
  fun x0 x1 x2 x3 x4 x5 x6 a L st h hx => e_iinc7 (d := 1) (n := 161) rfl hx,
  fun L st h => e_goto (t := 145) rfl,
  fun L h => e_ret rfl⟩
theorem allJ5_grow : zall yJ5_grow cJ5_grow 9 none 4 kJ5_grow.1 :=
  ⟨k_aload_n dJ5_grow_0,
  k_getR (C := RJ5) (T := TJ5) (N := 3) (ci := 14) (k := 0) (ref := "java/util/ArrayDeque") dJ5_grow_1 rfl in_J5 (by decide) q247 (Or.inl rfl) (fun _ _ _ => rfl),
  k_alen dJ5_grow_4,
  k_istore_n dJ5_grow_5,
  k_iload_n dJ5_grow_6,
  k_bipush dJ5_grow_7,
  k_cmpge (t := 18) dJ5_grow_9 (by decide),
  k_iload_n dJ5_grow_12,
  k_iconst dJ5_grow_13,
  k_iadd dJ5_grow_14,
  k_goto (t := 21) dJ5_grow_15 (by decide),
  k_iload_n dJ5_grow_18,
  k_iconst dJ5_grow_19,
  k_ishr dJ5_grow_20,
  k_istore dJ5_grow_21,
  k_iload dJ5_grow_23,
  k_iload_n dJ5_grow_25,
  k_cmplt (t := 41) dJ5_grow_26 (by decide),
  k_iload_n dJ5_grow_29,
  k_iload dJ5_grow_30,
  k_iadd dJ5_grow_32,
  k_dup dJ5_grow_33,
  k_istore_n dJ5_grow_34,
  k_ldc dJ5_grow_35 q1664,
  k_isub dJ5_grow_37,
  k_ifle (t := 49) dJ5_grow_38 (by decide),
  k_aload_n dJ5_grow_41,
  k_iload_n dJ5_grow_42,
  k_iload dJ5_grow_43,
  k_callV (y2 := yJ5_newCapacity) (C := RJ5) (T0 := TJ5) (ci := 14) dJ5_grow_45 sndJ5_newCapacity rfl q1665 q1667 qs62 q135 q1668 (by decide +kernel) ⟨by decide, by decide⟩ (by decide) (by decide),
  k_istore_n dJ5_grow_48,
  k_aload_n dJ5_grow_49,
  k_aload_n dJ5_grow_50,
  k_getR (C := RJ5) (T := TJ5) (N := 3) (ci := 14) (k := 0) (ref := "java/util/ArrayDeque") dJ5_grow_51 rfl in_J5 (by decide) q247 (Or.inl rfl) (fun _ _ _ => rfl),
  k_iload_n dJ5_grow_54,
  k_callS (y2 := yJ17_copyOf) dJ5_grow_55 sndJ17_copyOf q1669 q766 q155 q767 (by decide +kernel) ⟨by decide, by decide⟩ (by decide) (by decide),
  k_dupx1 dJ5_grow_58,
  k_putR (C := RJ5) (T := TJ5) (N := 3) (ci := 14) (k := 0) (ref := "java/util/ArrayDeque") dJ5_grow_59 rfl in_J5 tyJ5 tyJ5_ok nmJ5 (by decide) (Or.inl q247) (Or.inl rfl) (Or.inl rfl) (tyJ5_ok 0 (by decide)) (Or.inr ⟨_, rfl⟩) (fun _ _ _ => rfl),
  k_astore dJ5_grow_62,
  k_aload_n dJ5_grow_64,
  k_getI (C := RJ5) (T := TJ5) (N := 3) (ci := 14) (k := 2) (ref := "java/util/ArrayDeque") dJ5_grow_65 rfl in_J5 (by decide) q249 (Or.inl rfl) (fun _ _ _ => rfl),
  k_aload_n dJ5_grow_68,
  k_getI (C := RJ5) (T := TJ5) (N := 3) (ci := 14) (k := 1) (ref := "java/util/ArrayDeque") dJ5_grow_69 rfl in_J5 (by decide) q248 (Or.inl rfl) (fun _ _ _ => rfl),
  k_cmplt (t := 96) dJ5_grow_72 (by decide),
  k_aload_n dJ5_grow_75,
  k_getI (C := RJ5) (T := TJ5) (N := 3) (ci := 14) (k := 2) (ref := "java/util/ArrayDeque") dJ5_grow_76 rfl in_J5 (by decide) q249 (Or.inl rfl) (fun _ _ _ => rfl),
  k_aload_n dJ5_grow_79,
  k_getI (C := RJ5) (T := TJ5) (N := 3) (ci := 14) (k := 1) (ref := "java/util/ArrayDeque") dJ5_grow_80 rfl in_J5 (by decide) q248 (Or.inl rfl) (fun _ _ _ => rfl),
  k_cmpne (t := 164) dJ5_grow_83 (by decide),
  k_aload dJ5_grow_86,
  k_aload_n dJ5_grow_88,
  k_getI (C := RJ5) (T := TJ5) (N := 3) (ci := 14) (k := 1) (ref := "java/util/ArrayDeque") dJ5_grow_89 rfl in_J5 (by decide) q248 (Or.inl rfl) (fun _ _ _ => rfl),
  k_aald dJ5_grow_92,
  k_null (t := 164) dJ5_grow_93 (by decide),
  k_iload_n dJ5_grow_96,
  k_iload_n dJ5_grow_97,
  k_isub dJ5_grow_98,
  k_istore dJ5_grow_99,
  k_aload dJ5_grow_101,
  k_aload_n dJ5_grow_103,
  k_getI (C := RJ5) (T := TJ5) (N := 3) (ci := 14) (k := 1) (ref := "java/util/ArrayDeque") dJ5_grow_104 rfl in_J5 (by decide) q248 (Or.inl rfl) (fun _ _ _ => rfl),
  k_aload dJ5_grow_107,
  k_aload_n dJ5_grow_109,
  k_getI (C := RJ5) (T := TJ5) (N := 3) (ci := 14) (k := 1) (ref := "java/util/ArrayDeque") dJ5_grow_110 rfl in_J5 (by decide) q248 (Or.inl rfl) (fun _ _ _ => rfl),
  k_iload dJ5_grow_113,
  k_iadd dJ5_grow_115,
  k_iload_n dJ5_grow_116,
  k_aload_n dJ5_grow_117,
  k_getI (C := RJ5) (T := TJ5) (N := 3) (ci := 14) (k := 1) (ref := "java/util/ArrayDeque") dJ5_grow_118 rfl in_J5 (by decide) q248 (Or.inl rfl) (fun _ _ _ => rfl),
  k_isub dJ5_grow_121,
  k_acopy dJ5_grow_122 q1670 q803 q802 q156 zokO_can (by decide),
  k_aload_n dJ5_grow_125,
  k_getI (C := RJ5) (T := TJ5) (N := 3) (ci := 14) (k := 1) (ref := "java/util/ArrayDeque") dJ5_grow_126 rfl in_J5 (by decide) q248 (Or.inl rfl) (fun _ _ _ => rfl),
  k_istore dJ5_grow_129,
  k_aload_n dJ5_grow_131,
  k_dup dJ5_grow_132,
  k_getI (C := RJ5) (T := TJ5) (N := 3) (ci := 14) (k := 1) (ref := "java/util/ArrayDeque") dJ5_grow_133 rfl in_J5 (by decide) q248 (Or.inl rfl) (fun _ _ _ => rfl),
  k_iload dJ5_grow_136,
  k_iadd dJ5_grow_138,
  k_dupx1 dJ5_grow_139,
  k_putI (C := RJ5) (T := TJ5) (N := 3) (ci := 14) (k := 1) (ref := "java/util/ArrayDeque") dJ5_grow_140 rfl in_J5 tyJ5 tyJ5_ok nmJ5 (by decide) (Or.inl q248) (Or.inl rfl) (Or.inl rfl) (tyJ5_ok 1 (by decide)) (fun _ _ _ => rfl),
  k_istore dJ5_grow_143,
  k_iload dJ5_grow_145,
  k_iload dJ5_grow_147,
  k_cmpge (t := 164) dJ5_grow_149 (by decide),
  k_aload dJ5_grow_152,
  k_iload dJ5_grow_154,
  k_anull dJ5_grow_156,
  k_aast (kd := 5) (nm := "java/lang/Object") dJ5_grow_157 (by decide) rfl zokO_can,
  k_iinc dJ5_grow_158,
  k_goto (t := 145) dJ5_grow_161 (by decide),
  k_ret dJ5_grow_164, trivial⟩
theorem sndJ5_grow : MSound 4 yJ5_grow (ws_ yJ5_grow cJ5_grow 9 none) mJ5_grow := msound_M (by decide) allJ5_grow (fun _ _ => rfl)
/-! java/util/ArrayDeque.addLast(Ljava/lang/Object;)V -/
noncomputable def kJ5_addLast : ZM := ([(0, zi_ld 1 1 1), (1, zi_nonnull 12 4), (4, zi_stuck), (7, zi_dup 8), (8, zi_stuck), (11, zi_throw), (12, zi_ld 1 0 13), (13, zi_getR 30 0 16), (16, zi_st 1 2 17), (17, zi_ld 1 2 18), (18, zi_ld 1 0 19), (19, zi_getI 30 2 22), (22, zi_ld 1 1 23), (23, zi_astR 5 zokO 24), (24, zi_ld 1 0 25), (25, zi_getI 30 1 28), (28, zi_ld 1 0 29), (29, zi_ld 1 0 30), (30, zi_getI 30 2 33), (33, zi_ld 1 2 34), (34, zi_alen 35), (35, zi_callS mJ5_inc 2 38), (38, zi_dupx1 39), (39, zi_putI 30 2 42), (42, zi_cmp zc_ne 50 45), (45, zi_ld 1 0 46), (46, zi_push (zvi 1) 47), (47, zi_callV mJ5_grow 30 2 50), (50, zi_ret)], fun _ _ => none)
noncomputable def mJ5_addLast : ZF := zrunM kJ5_addLast 3
theorem enJ5_addLast (x0 : Option Nat) (x1 : Option Nat) (h : PH) : mJ5_addLast [zvr x0, zvr x1] h = zev kJ5_addLast 0 [zvr x0, zvr x1, zvu] [] h := zrunM_eq rfl rfl
theorem rJ5_addLast : (∀ (x0 : ZV) (a : Option Nat) (L st : List ZV) (h : PH), zev kJ5_addLast 0 (x0 :: zvr a :: L) st h = zev kJ5_addLast 1 (x0 :: zvr a :: L) (zvr a :: st) h) ∧
  (∀ (L st : List ZV) (h : PH), zev kJ5_addLast 1 L (zvr none :: st) h = zev kJ5_addLast 4 L st h) ∧
  (∀ (q : Nat) (L st : List ZV) (h : PH), zev kJ5_addLast 1 L (zvr (some q) :: st) h = if (ph_K h q).1 ≠ 0 then zev kJ5_addLast 12 L st h else none) ∧
  (∀ (a : Int) (L st : List ZV) (h : PH), zev kJ5_addLast 7 L (zvi a :: st) h = zev kJ5_addLast 8 L (zvi a :: zvi a :: st) h) ∧
  (∀ (a : Option Nat) (L st : List ZV) (h : PH), zev kJ5_addLast 7 L (zvr a :: st) h = zev kJ5_addLast 8 L (zvr a :: zvr a :: st) h) ∧
  (∀ (q : Nat) (L st : List ZV) (h : PH), zev kJ5_addLast 11 L (zvr (some q) :: st) h = if (ph_K h q).1 ≠ 0 then zk kJ5_addLast 11 0 L [] (zrx q h) else none) ∧
  (∀ (a : Option Nat) (L st : List ZV) (h : PH), zev kJ5_addLast 12 (zvr a :: L) st h = zev kJ5_addLast 13 (zvr a :: L) (zvr a :: st) h) ∧
  (∀ (q : Nat) (L st : List ZV) (h : PH), zev kJ5_addLast 13 L (zvr (some q) :: st) h = if (ph_K h q).1 % 1000 = 30 then zev kJ5_addLast 16 L (zvr (ph_R h q 0) :: st) h else none) ∧
  (∀ (x0 x1 x2 : ZV) (a : Option Nat) (L st : List ZV) (h : PH) (hx : zisL x1 = false) , zev kJ5_addLast 16 (x0 :: x1 :: x2 :: L) (zvr a :: st) h = zev kJ5_addLast 17 (x0 :: x1 :: zvr a :: L) st h) ∧
  (∀ (x0 x1 : ZV) (a : Option Nat) (L st : List ZV) (h : PH), zev kJ5_addLast 17 (x0 :: x1 :: zvr a :: L) st h = zev kJ5_addLast 18 (x0 :: x1 :: zvr a :: L) (zvr a :: st) h) ∧
  (∀ (a : Option Nat) (L st : List ZV) (h : PH), zev kJ5_addLast 18 (zvr a :: L) st h = zev kJ5_addLast 19 (zvr a :: L) (zvr a :: st) h) ∧
  (∀ (q : Nat) (L st : List ZV) (h : PH), zev kJ5_addLast 19 L (zvr (some q) :: st) h = if (ph_K h q).1 % 1000 = 30 then zev kJ5_addLast 22 L (zvi (ph_I h q 2) :: st) h else none) ∧
  (∀ (x0 : ZV) (a : Option Nat) (L st : List ZV) (h : PH), zev kJ5_addLast 22 (x0 :: zvr a :: L) st h = zev kJ5_addLast 23 (x0 :: zvr a :: L) (zvr a :: st) h) ∧
  (∀ (j : Int) (q : Nat) (L st : List ZV) (h : PH), zev kJ5_addLast 23 L (zvr none :: zvi j :: zvr (some q) :: st) h = if (ph_K h q).1 = 5 ∧ 0 ≤ j ∧ j < (ph_K h q).2 then zev kJ5_addLast 24 L st (st_R h q j none) else none) ∧
  (∀ (a : Nat) (j : Int) (q : Nat) (L st : List ZV) (h : PH), zev kJ5_addLast 23 L (zvr (some a) :: zvi j :: zvr (some q) :: st) h = if (ph_K h q).1 = 5 ∧ 0 ≤ j ∧ j < (ph_K h q).2 ∧ zokO (ph_K h a).1 = true then zev kJ5_addLast 24 L st (st_R h q j (some a)) else none) ∧
  (∀ (a : Option Nat) (L st : List ZV) (h : PH), zev kJ5_addLast 24 (zvr a :: L) st h = zev kJ5_addLast 25 (zvr a :: L) (zvr a :: st) h) ∧
  (∀ (q : Nat) (L st : List ZV) (h : PH), zev kJ5_addLast 25 L (zvr (some q) :: st) h = if (ph_K h q).1 % 1000 = 30 then zev kJ5_addLast 28 L (zvi (ph_I h q 1) :: st) h else none) ∧
  (∀ (a : Option Nat) (L st : List ZV) (h : PH), zev kJ5_addLast 28 (zvr a :: L) st h = zev kJ5_addLast 29 (zvr a :: L) (zvr a :: st) h) ∧
  (∀ (a : Option Nat) (L st : List ZV) (h : PH), zev kJ5_addLast 29 (zvr a :: L) st h = zev kJ5_addLast 30 (zvr a :: L) (zvr a :: st) h) ∧
  (∀ (q : Nat) (L st : List ZV) (h : PH), zev kJ5_addLast 30 L (zvr (some q) :: st) h = if (ph_K h q).1 % 1000 = 30 then zev kJ5_addLast 33 L (zvi (ph_I h q 2) :: st) h else none) ∧
  (∀ (x0 x1 : ZV) (a : Option Nat) (L st : List ZV) (h : PH), zev kJ5_addLast 33 (x0 :: x1 :: zvr a :: L) st h = zev kJ5_addLast 34 (x0 :: x1 :: zvr a :: L) (zvr a :: st) h) ∧
  (∀ (q : Nat) (L st : List ZV) (h : PH), zev kJ5_addLast 34 L (zvr (some q) :: st) h = if 1 ≤ (ph_K h q).1 % 1000 ∧ (ph_K h q).1 % 1000 ≤ 7 then zev kJ5_addLast 35 L (zvi (ph_K h q).2 :: st) h else none) ∧
  (∀ (v0 v1 : ZV) (L st : List ZV) (h : PH), zev kJ5_addLast 35 L (v1 :: v0 :: st) h = if zcat st ≤ 8 then zk kJ5_addLast 35 38 L st (mJ5_inc [v0, v1] h) else none) ∧
  (∀ (a : Int) (b : Int) (L st : List ZV) (h : PH), zev kJ5_addLast 38 L (zvi a :: zvi b :: st) h = zev kJ5_addLast 39 L (zvi a :: zvi b :: zvi a :: st) h) ∧
  (∀ (a : Int) (b : Option Nat) (L st : List ZV) (h : PH), zev kJ5_addLast 38 L (zvi a :: zvr b :: st) h = zev kJ5_addLast 39 L (zvi a :: zvr b :: zvi a :: st) h) ∧
  (∀ (a : Option Nat) (b : Int) (L st : List ZV) (h : PH), zev kJ5_addLast 38 L (zvr a :: zvi b :: st) h = zev kJ5_addLast 39 L (zvr a :: zvi b :: zvr a :: st) h) ∧
  (∀ (a : Option Nat) (b : Option Nat) (L st : List ZV) (h : PH), zev kJ5_addLast 38 L (zvr a :: zvr b :: st) h = zev kJ5_addLast 39 L (zvr a :: zvr b :: zvr a :: st) h) ∧
  (∀ (a : Int) (q : Nat) (L st : List ZV) (h : PH), zev kJ5_addLast 39 L (zvi a :: zvr (some q) :: st) h = if (ph_K h q).1 = 30 then zev kJ5_addLast 42 L st (st_I h q 2 a) else none) ∧
  (∀ (a b : Int) (L st : List ZV) (h : PH), zev kJ5_addLast 42 L (zvi b :: zvi a :: st) h = if a ≠ b then zev kJ5_addLast 50 L st h else zev kJ5_addLast 45 L st h) ∧
  (∀ (a : Option Nat) (L st : List ZV) (h : PH), zev kJ5_addLast 45 (zvr a :: L) st h = zev kJ5_addLast 46 (zvr a :: L) (zvr a :: st) h) ∧
  (∀ (L st : List ZV) (h : PH), zev kJ5_addLast 46 L st h = zev kJ5_addLast 47 L (zvi 1 :: st) h) ∧
  (∀ (v0 : ZV) (q : Nat) (L st : List ZV) (h : PH), zev kJ5_addLast 47 L (v0 :: zvr (some q) :: st) h = if (ph_K h q).1 % 1000 = 30 ∧ zcat st ≤ 8 then zk kJ5_addLast 47 50 L st (mJ5_grow [zvr (some q), v0] h) else none) ∧
  (∀ (L : List ZV) (h : PH), zev kJ5_addLast 50 L [] h = zr0 h) :=
  ⟨fun x0 a L st h => e_ld1R (n := 1) rfl,
  fun L st h => e_nonnull0 (t := 12) (n := 4) rfl,
  fun q L st h => e_nonnull1 (t := 12) (n := 4) rfl,
  fun a L st h => e_dupI (n := 8) rfl,
  fun a L st h => e_dupR (n := 8) rfl,
  fun q L st h => e_throw (n := 0) rfl,
  fun a L st h => e_ld0R (n := 13) rfl,
  fun q L st h => e_getR (kd := 30) (k := 0) (n := 16) rfl,
  fun x0 x1 x2 a L st h hx => e_st2R (n := 17) rfl hx,
  fun x0 x1 a L st h => e_ld2R (n := 18) rfl,
  fun a L st h => e_ld0R (n := 19) rfl,
  fun q L st h => e_getI (kd := 30) (k := 2) (n := 22) rfl,
  fun x0 a L st h => e_ld1R (n := 23) rfl,
  fun j q L st h => e_astR0 (kd := 5) (ok := zokO) (n := 24) rfl,
  fun a j q L st h => e_astR1 (kd := 5) (ok := zokO) (n := 24) rfl,
  fun a L st h => e_ld0R (n := 25) rfl,
  fun q L st h => e_getI (kd := 30) (k := 1) (n := 28) rfl,
  fun a L st h => e_ld0R (n := 29) rfl,
  fun a L st h => e_ld0R (n := 30) rfl,
  fun q L st h => e_getI (kd := 30) (k := 2) (n := 33) rfl,
  fun x0 x1 a L st h => e_ld2R (n := 34) rfl,
  fun q L st h => e_alen (n := 35) rfl,
  fun v0 v1 L st h => e_callS2 (F := mJ5_inc) (n := 38) rfl,
  fun a b L st h => e_dupx1II (n := 39) rfl,
  fun a b L st h => e_dupx1IR (n := 39) rfl,
  fun a b L st h => e_dupx1RI (n := 39) rfl,
  fun a b L st h => e_dupx1RR (n := 39) rfl,
  fun a q L st h => e_putI (kd := 30) (k := 2) (n := 42) rfl,
  fun a b L st h => e_cmpne (t := 50) (n := 45) rfl,
  fun a L st h => e_ld0R (n := 46) rfl,
  fun L st h => e_push (v := zvi 1) (n := 47) rfl,
  fun v0 q L st h => e_callV2 (F := mJ5_grow) (kd := 30) (n := 50) rfl,
  fun L h => e_ret rfl⟩
theorem allJ5_addLast : zall yJ5_addLast cJ5_addLast 3 none 5 kJ5_addLast.1 :=
  ⟨k_aload_n dJ5_addLast_0,
  k_nonnull (t := 12) dJ5_addLast_1 (by decide),
  k_stuck,
  k_dup dJ5_addLast_7,
  k_stuck,
  k_throw dJ5_addLast_11,
  k_aload_n dJ5_addLast_12,
  k_getR (C := RJ5) (T := TJ5) (N := 3) (ci := 14) (k := 0) (ref := "java/util/ArrayDeque") dJ5_addLast_13 rfl in_J5 (by decide) q247 (Or.inl rfl) (fun _ _ _ => rfl),
  k_astore_n dJ5_addLast_16,
  k_aload_n dJ5_addLast_17,
  k_aload_n dJ5_addLast_18,
  k_getI (C := RJ5) (T := TJ5) (N := 3) (ci := 14) (k := 2) (ref := "java/util/ArrayDeque") dJ5_addLast_19 rfl in_J5 (by decide) q249 (Or.inl rfl) (fun _ _ _ => rfl),
  k_aload_n dJ5_addLast_22,
  k_aast (kd := 5) (nm := "java/lang/Object") dJ5_addLast_23 (by decide) rfl zokO_can,
  k_aload_n dJ5_addLast_24,
  k_getI (C := RJ5) (T := TJ5) (N := 3) (ci := 14) (k := 1) (ref := "java/util/ArrayDeque") dJ5_addLast_25 rfl in_J5 (by decide) q248 (Or.inl rfl) (fun _ _ _ => rfl),
  k_aload_n dJ5_addLast_28,
  k_aload_n dJ5_addLast_29,
  k_getI (C := RJ5) (T := TJ5) (N := 3) (ci := 14) (k := 2) (ref := "java/util/ArrayDeque") dJ5_addLast_30 rfl in_J5 (by decide) q249 (Or.inl rfl) (fun _ _ _ => rfl),
  k_aload_n dJ5_addLast_33,
  k_alen dJ5_addLast_34,
  k_callS (y2 := yJ5_inc) dJ5_addLast_35 sndJ5_inc q1632 q1633 q135 q1634 (by decide +kernel) ⟨by decide, by decide⟩ (by decide) (by decide),
  k_dupx1 dJ5_addLast_38,
  k_putI (C := RJ5) (T := TJ5) (N := 3) (ci := 14) (k := 2) (ref := "java/util/ArrayDeque") dJ5_addLast_39 rfl in_J5 tyJ5 tyJ5_ok nmJ5 (by decide) (Or.inl q249) (Or.inl rfl) (Or.inl rfl) (tyJ5_ok 2 (by decide)) (fun _ _ _ => rfl),
  k_cmpne (t := 50) dJ5_addLast_42 (by decide),
  k_aload_n dJ5_addLast_45,
  k_iconst dJ5_addLast_46,
  k_callV (y2 := yJ5_grow) (C := RJ5) (T0 := TJ5) (ci := 14) dJ5_addLast_47 sndJ5_grow rfl q1660 q1662 qs61 q135 q1663 (by decide +kernel) ⟨by decide, by decide⟩ (by decide) (by decide),
  k_ret dJ5_addLast_50, trivial⟩
theorem sndJ5_addLast : MSound 5 yJ5_addLast (ws_ yJ5_addLast cJ5_addLast 3 none) mJ5_addLast := msound_M (by decide) allJ5_addLast (fun _ _ => rfl)
/-! java/util/ArrayDeque.isEmpty()Z -/
noncomputable def kJ5_isEmpty : ZM := ([(0, zi_ld 1 0 1), (1, zi_getI 30 1 4), (4, zi_ld 1 0 5), (5, zi_getI 30 2 8), (8, zi_cmp zc_ne 15 11), (11, zi_push (zvi 1) 12), (12, zi_goto 16), (15, zi_push (zvi 0) 16), (16, zi_retz)], fun _ _ => none)
noncomputable def mJ5_isEmpty : ZF := zrunM kJ5_isEmpty 1
theorem enJ5_isEmpty (x0 : Option Nat) (h : PH) : mJ5_isEmpty [zvr x0] h = zev kJ5_isEmpty 0 [zvr x0] [] h := zrunM_eq rfl rfl
theorem rJ5_isEmpty : (∀ (a : Option Nat) (L st : List ZV) (h : PH), zev kJ5_isEmpty 0 (zvr a :: L) st h = zev kJ5_isEmpty 1 (zvr a :: L) (zvr a :: st) h) ∧
  (∀ (q : Nat) (L st : List ZV) (h : PH), zev kJ5_isEmpty 1 L (zvr (some q) :: st) h = if (ph_K h q).1 % 1000 = 30 then zev kJ5_isEmpty 4 L (zvi (ph_I h q 1) :: st) h else none) ∧
  (∀ (a : Option Nat) (L st : List ZV) (h : PH), zev kJ5_isEmpty 4 (zvr a :: L) st h = zev kJ5_isEmpty 5 (zvr a :: L) (zvr a :: st) h) ∧
  (∀ (q : Nat) (L st : List ZV) (h : PH), zev kJ5_isEmpty 5 L (zvr (some q) :: st) h = if (ph_K h q).1 % 1000 = 30 then zev kJ5_isEmpty 8 L (zvi (ph_I h q 2) :: st) h else none) ∧
  (∀ (a b : Int) (L st : List ZV) (h : PH), zev kJ5_isEmpty 8 L (zvi b :: zvi a :: st) h = if a ≠ b then zev kJ5_isEmpty 15 L st h else zev kJ5_isEmpty 11 L st h) ∧
  (∀ (L st : List ZV) (h : PH), zev kJ5_isEmpty 11 L st h = zev kJ5_isEmpty 12 L (zvi 1 :: st) h) ∧
  (∀ (L st : List ZV) (h : PH), zev kJ5_isEmpty 12 L st h = zev kJ5_isEmpty 16 L st h) ∧
  (∀ (L st : List ZV) (h : PH), zev kJ5_isEmpty 15 L st h = zev kJ5_isEmpty 16 L (zvi 0 :: st) h) ∧
  (∀ (a : Int) (L : List ZV) (h : PH), zev kJ5_isEmpty 16 L [zvi a] h = if a = 0 ∨ a = 1 then zrv (zvi a) h else none) :=
  ⟨fun a L st h => e_ld0R (n := 1) rfl,
  fun q L st h => e_getI (kd := 30) (k := 1) (n := 4) rfl,
  fun a L st h => e_ld0R (n := 5) rfl,
  fun q L st h => e_getI (kd := 30) (k := 2) (n := 8) rfl,
  fun a b L st h => e_cmpne (t := 15) (n := 11) rfl,
  fun L st h => e_push (v := zvi 1) (n := 12) rfl,
  fun L st h => e_goto (t := 16) rfl,
  fun L st h => e_push (v := zvi 0) (n := 16) rfl,
  fun a L h => e_retz rfl⟩
theorem allJ5_isEmpty : zall yJ5_isEmpty cJ5_isEmpty 1 (some .boolean) 1 kJ5_isEmpty.1 :=
  ⟨k_aload_n dJ5_isEmpty_0,
  k_getI (C := RJ5) (T := TJ5) (N := 3) (ci := 14) (k := 1) (ref := "java/util/ArrayDeque") dJ5_isEmpty_1 rfl in_J5 (by decide) q248 (Or.inl rfl) (fun _ _ _ => rfl),
  k_aload_n dJ5_isEmpty_4,
  k_getI (C := RJ5) (T := TJ5) (N := 3) (ci := 14) (k := 2) (ref := "java/util/ArrayDeque") dJ5_isEmpty_5 rfl in_J5 (by decide) q249 (Or.inl rfl) (fun _ _ _ => rfl),
  k_cmpne (t := 15) dJ5_isEmpty_8 (by decide),
  k_iconst dJ5_isEmpty_11,
  k_goto (t := 16) dJ5_isEmpty_12 (by decide),
  k_iconst dJ5_isEmpty_15,
  k_zret dJ5_isEmpty_16, trivial⟩
theorem sndJ5_isEmpty : MSound 1 yJ5_isEmpty (ws_ yJ5_isEmpty cJ5_isEmpty 1 (some .boolean)) mJ5_isEmpty := msound_M (by decide) allJ5_isEmpty (fun _ _ => rfl)
/-! java/util/ArrayDeque.dec(II)I -/
noncomputable def kJ5_dec : ZM := ([(0, zi_iinc 0 (-1) 3), (3, zi_ld 0 0 4), (4, zi_if (fun a => zc_ge a 0) 11 7), (7, zi_ld 0 1 8), (8, zi_push (zvi 1) 9), (9, zi_bin (fun a b => w32 (a - b)) 10), (10, zi_st 0 0 11), (11, zi_ld 0 0 12), (12, zi_retv 0)], fun _ _ => none)
noncomputable def mJ5_dec : ZF := zrunM kJ5_dec 2
theorem enJ5_dec (x0 : Int) (x1 : Int) (h : PH) : mJ5_dec [zvi x0, zvi x1] h = zev kJ5_dec 0 [zvi x0, zvi x1] [] h := zrunM_eq rfl rfl
theorem rJ5_dec : (∀ (a : Int) (L st : List ZV) (h : PH) , zev kJ5_dec 0 (zvi a :: L) st h = zev kJ5_dec 3 (zvi (w32 (a + (-1))) :: L) st h) ∧
  (∀ (a : Int) (L st : List ZV) (h : PH), zev kJ5_dec 3 (zvi a :: L) st h = zev kJ5_dec 4 (zvi a :: L) (zvi a :: st) h) ∧
  (∀ (a : Int) (L st : List ZV) (h : PH), zev kJ5_dec 4 L (zvi a :: st) h = if a ≥ 0 then zev kJ5_dec 11 L st h else zev kJ5_dec 7 L st h) ∧
  (∀ (x0 : ZV) (a : Int) (L st : List ZV) (h : PH), zev kJ5_dec 7 (x0 :: zvi a :: L) st h = zev kJ5_dec 8 (x0 :: zvi a :: L) (zvi a :: st) h) ∧
  (∀ (L st : List ZV) (h : PH), zev kJ5_dec 8 L st h = zev kJ5_dec 9 L (zvi 1 :: st) h) ∧
  (∀ (a b : Int) (L st : List ZV) (h : PH), zev kJ5_dec 9 L (zvi b :: zvi a :: st) h = zev kJ5_dec 10 L (zvi (w32 (a - b)) :: st) h) ∧
  (∀ (x0 : ZV) (a : Int) (L st : List ZV) (h : PH) , zev kJ5_dec 10 (x0 :: L) (zvi a :: st) h = zev kJ5_dec 11 (zvi a :: L) st h) ∧
  (∀ (a : Int) (L st : List ZV) (h : PH), zev kJ5_dec 11 (zvi a :: L) st h = zev kJ5_dec 12 (zvi a :: L) (zvi a :: st) h) ∧
  (∀ (a : Int) (L : List ZV) (h : PH), zev kJ5_dec 12 L [zvi a] h = zrv (zvi a) h) :=
  ⟨fun a L st h => e_iinc0 (d := (-1)) (n := 3) rfl,
  fun a L st h => e_ld0I (n := 4) rfl,
  fun a L st h => e_ifge (t := 11) (n := 7) rfl,
  fun x0 a L st h => e_ld1I (n := 8) rfl,
  fun L st h => e_push (v := zvi 1) (n := 9) rfl,
  fun a b L st h => e_bin (f := (fun a b => w32 (a - b))) (n := 10) rfl,
  fun x0 a L st h => e_st0I (n := 11) rfl,
  fun a L st h => e_ld0I (n := 12) rfl,
  fun a L h => e_retI rfl⟩
theorem allJ5_dec : zall yJ5_dec cJ5_dec 2 (some .int) 1 kJ5_dec.1 :=
  ⟨k_iinc dJ5_dec_0,
  k_iload_n dJ5_dec_3,
  k_ifge (t := 11) dJ5_dec_4 (by decide),
  k_iload_n dJ5_dec_7,
  k_iconst dJ5_dec_8,
  k_isub dJ5_dec_9,
  k_istore_n dJ5_dec_10,
  k_iload_n dJ5_dec_11,
  k_iret dJ5_dec_12, trivial⟩
theorem sndJ5_dec : MSound 1 yJ5_dec (ws_ yJ5_dec cJ5_dec 2 (some .int)) mJ5_dec := msound_M (by decide) allJ5_dec (fun _ _ => rfl)
/-! java/util/ArrayDeque.pollLast()Ljava/lang/Object; -/
noncomputable def kJ5_pollLast : ZM := ([(0, zi_ld 1 0 1), (1, zi_getR 30 0 4), (4, zi_dup 5), (5, zi_st 1 1 6), (6, zi_ld 1 0 7), (7, zi_getI 30 2 10), (10, zi_ld 1 1 11), (11, zi_alen 12), (12, zi_callS mJ5_dec 2 15), (15, zi_dup 16), (16, zi_st 0 2 17), (17, zi_callS mJ5_elementAt 2 20), (20, zi_st 1 3 21), (21, zi_ld 1 3 22), (22, zi_null 34 25), (25, zi_ld 1 1 26), (26, zi_ld 1 0 27), (27, zi_ld 0 2 28), (28, zi_dupx1 29), (29, zi_putI 30 2 32), (32, zi_push (zvr none) 33), (33, zi_astR 5 zokO 34), (34, zi_ld 1 3 35), (35, zi_retv 1)], fun _ _ => none)
noncomputable def mJ5_pollLast : ZF := zrunM kJ5_pollLast 4
theorem enJ5_pollLast (x0 : Option Nat) (h : PH) : mJ5_pollLast [zvr x0] h = zev kJ5_pollLast 0 [zvr x0, zvu, zvu, zvu] [] h := zrunM_eq rfl rfl
theorem rJ5_pollLast : (∀ (a : Option Nat) (L st : List ZV) (h : PH), zev kJ5_pollLast 0 (zvr a :: L) st h = zev kJ5_pollLast 1 (zvr a :: L) (zvr a :: st) h) ∧
  (∀ (q : Nat) (L st : List ZV) (h : PH), zev kJ5_pollLast 1 L (zvr (some q) :: st) h = if (ph_K h q).1 % 1000 = 30 then zev kJ5_pollLast 4 L (zvr (ph_R h q 0) :: st) h else none) ∧
  (∀ (a : Int) (L st : List ZV) (h : PH), zev kJ5_pollLast 4 L (zvi a :: st) h = zev kJ5_pollLast 5 L (zvi a :: zvi a :: st) h) ∧
  (∀ (a : Option Nat) (L st : List ZV) (h : PH), zev kJ5_pollLast 4 L (zvr a :: st) h = zev kJ5_pollLast 5 L (zvr a :: zvr a :: st) h) ∧
  (∀ (x0 x1 : ZV) (a : Option Nat) (L st : List ZV) (h : PH) (hx : zisL x0 = false) , zev kJ5_pollLast 5 (x0 :: x1 :: L) (zvr a :: st) h = zev kJ5_pollLast 6 (x0 :: zvr a :: L) st h) ∧
  (∀ (a : Option Nat) (L st : List ZV) (h : PH), zev kJ5_pollLast 6 (zvr a :: L) st h = zev kJ5_pollLast 7 (zvr a :: L) (zvr a :: st) h) ∧
  (∀ (q : Nat) (L st : List ZV) (h : PH), zev kJ5_pollLast 7 L (zvr (some q) :: st) h = if (ph_K h q).1 % 1000 = 30 then zev kJ5_pollLast 10 L (zvi (ph_I h q 2) :: st) h else none) ∧
  (∀ (x0 : ZV) (a : Option Nat) (L st : List ZV) (h : PH), zev kJ5_pollLast 10 (x0 :: zvr a :: L) st h = zev kJ5_pollLast 11 (x0 :: zvr a :: L) (zvr a :: st) h) ∧
  (∀ (q : Nat) (L st : List ZV) (h : PH), zev kJ5_pollLast 11 L (zvr (some q) :: st) h = if 1 ≤ (ph_K h q).1 % 1000 ∧ (ph_K h q).1 % 1000 ≤ 7 then zev kJ5_pollLast 12 L (zvi (ph_K h q).2 :: st) h else none) ∧
  (∀ (v0 v1 : ZV) (L st : List ZV) (h : PH), zev kJ5_pollLast 12 L (v1 :: v0 :: st) h = if zcat st ≤ 8 then zk kJ5_pollLast 12 15 L st (mJ5_dec [v0, v1] h) else none) ∧
  (∀ (a : Int) (L st : List ZV) (h : PH), zev kJ5_pollLast 15 L (zvi a :: st) h = zev kJ5_pollLast 16 L (zvi a :: zvi a :: st) h) ∧
  (∀ (a : Option Nat) (L st : List ZV) (h : PH), zev kJ5_pollLast 15 L (zvr a :: st) h = zev kJ5_pollLast 16 L (zvr a :: zvr a :: st) h) ∧
  (∀ (x0 x1 x2 : ZV) (a : Int) (L st : List ZV) (h : PH) (hx : zisL x1 = false) , zev kJ5_pollLast 16 (x0 :: x1 :: x2 :: L) (zvi a :: st) h = zev kJ5_pollLast 17 (x0 :: x1 :: zvi a :: L) st h) ∧
  (∀ (v0 v1 : ZV) (L st : List ZV) (h : PH), zev kJ5_pollLast 17 L (v1 :: v0 :: st) h = if zcat st ≤ 8 then zk kJ5_pollLast 17 20 L st (mJ5_elementAt [v0, v1] h) else none) ∧
  (∀ (x0 x1 x2 x3 : ZV) (a : Option Nat) (L st : List ZV) (h : PH) (hx : zisL x2 = false) , zev kJ5_pollLast 20 (x0 :: x1 :: x2 :: x3 :: L) (zvr a :: st) h = zev kJ5_pollLast 21 (x0 :: x1 :: x2 :: zvr a :: L) st h) ∧
  (∀ (x0 x1 x2 : ZV) (a : Option Nat) (L st : List ZV) (h : PH), zev kJ5_pollLast 21 (x0 :: x1 :: x2 :: zvr a :: L) st h = zev kJ5_pollLast 22 (x0 :: x1 :: x2 :: zvr a :: L) (zvr a :: st) h) ∧
  (∀ (L st : List ZV) (h : PH), zev kJ5_pollLast 22 L (zvr none :: st) h = zev kJ5_pollLast 34 L st h) ∧
  (∀ (q : Nat) (L st : List ZV) (h : PH), zev kJ5_pollLast 22 L (zvr (some q) :: st) h = if (ph_K h q).1 ≠ 0 then zev kJ5_pollLast 25 L st h else none) ∧
  (∀ (x0 : ZV) (a : Option Nat) (L st : List ZV) (h : PH), zev kJ5_pollLast 25 (x0 :: zvr a :: L) st h = zev kJ5_pollLast 26 (x0 :: zvr a :: L) (zvr a :: st) h) ∧
  (∀ (a : Option Nat) (L st : List ZV) (h : PH), zev kJ5_pollLast 26 (zvr a :: L) st h = zev kJ5_pollLast 27 (zvr a :: L) (zvr a :: st) h) ∧
  (∀ (x0 x1 : ZV) (a : Int) (L st : List ZV) (h : PH), zev kJ5_pollLast 27 (x0 :: x1 :: zvi a :: L) st h = zev kJ5_pollLast 28 (x0 :: x1 :: zvi a :: L) (zvi a :: st) h) ∧
  (∀ (a : Int) (b : Int) (L st : List ZV) (h : PH), zev kJ5_pollLast 28 L (zvi a :: zvi b :: st) h = zev kJ5_pollLast 29 L (zvi a :: zvi b :: zvi a :: st) h) ∧
  (∀ (a : Int) (b : Option Nat) (L st : List ZV) (h : PH), zev kJ5_pollLast 28 L (zvi a :: zvr b :: st) h = zev kJ5_pollLast 29 L (zvi a :: zvr b :: zvi a :: st) h) ∧
  (∀ (a : Option Nat) (b : Int) (L st : List ZV) (h : PH), zev kJ5_pollLast 28 L (zvr a :: zvi b :: st) h = zev kJ5_pollLast 29 L (zvr a :: zvi b :: zvr a :: st) h) ∧
  (∀ (a : Option Nat) (b : Option Nat) (L st : List ZV) (h : PH), zev kJ5_pollLast 28 L (zvr a :: zvr b :: st) h = zev kJ5_pollLast 29 L (zvr a :: zvr b :: zvr a :: st) h) ∧
  (∀ (a : Int) (q : Nat) (L st : List ZV) (h : PH), zev kJ5_pollLast 29 L (zvi a :: zvr (some q) :: st) h = if (ph_K h q).1 = 30 then zev kJ5_pollLast 32 L st (st_I h q 2 a) else none) ∧
  (∀ (L st : List ZV) (h : PH), zev kJ5_pollLast 32 L st h = zev kJ5_pollLast 33 L (zvr none :: st) h) ∧
  (∀ (j : Int) (q : Nat) (L st : List ZV) (h : PH), zev kJ5_pollLast 33 L (zvr none :: zvi j :: zvr (some q) :: st) h = if (ph_K h q).1 = 5 ∧ 0 ≤ j ∧ j < (ph_K h q).2 then zev kJ5_pollLast 34 L st (st_R h q j none) else none) ∧
  (∀ (a : Nat) (j : Int) (q : Nat) (L st : List ZV) (h : PH), zev kJ5_pollLast 33 L (zvr (some a) :: zvi j :: zvr (some q) :: st) h = if (ph_K h q).1 = 5 ∧ 0 ≤ j ∧ j < (ph_K h q).2 ∧ zokO (ph_K h a).1 = true then zev kJ5_pollLast 34 L st (st_R h q j (some a)) else none) ∧
  (∀ (x0 x1 x2 : ZV) (a : Option Nat) (L st : List ZV) (h : PH), zev kJ5_pollLast 34 (x0 :: x1 :: x2 :: zvr a :: L) st h = zev kJ5_pollLast 35 (x0 :: x1 :: x2 :: zvr a :: L) (zvr a :: st) h) ∧
  (∀ (a : Option Nat) (L : List ZV) (h : PH), zev kJ5_pollLast 35 L [zvr a] h = zrv (zvr a) h) :=
  ⟨fun a L st h => e_ld0R (n := 1) rfl,
  fun q L st h => e_getR (kd := 30) (k := 0) (n := 4) rfl,
  fun a L st h => e_dupI (n := 5) rfl,
  fun a L st h => e_dupR (n := 5) rfl,
  fun x0 x1 a L st h hx => e_st1R (n := 6) rfl hx,
  fun a L st h => e_ld0R (n := 7) rfl,
  fun q L st h => e_getI (kd := 30) (k := 2) (n := 10) rfl,
  fun x0 a L st h => e_ld1R (n := 11) rfl,
  fun q L st h => e_alen (n := 12) rfl,
  fun v0 v1 L st h => e_callS2 (F := mJ5_dec) (n := 15) rfl,
  fun a L st h => e_dupI (n := 16) rfl,
  fun a L st h => e_dupR (n := 16) rfl,
  fun x0 x1 x2 a L st h hx => e_st2I (n := 17) rfl hx,
  fun v0 v1 L st h => e_callS2 (F := mJ5_elementAt) (n := 20) rfl,
  fun x0 x1 x2 x3 a L st h hx => e_st3R (n := 21) rfl hx,
  fun x0 x1 x2 a L st h => e_ld3R (n := 22) rfl,
  fun L st h => e_null0 (t := 34) (n := 25) rfl,
  fun q L st h => e_null1 (t := 34) (n := 25) rfl,
  fun x0 a L st h => e_ld1R (n := 26) rfl,
  fun a L st h => e_ld0R (n := 27) rfl,
  fun x0 x1 a L st h => e_ld2I (n := 28) rfl,
  fun a b L st h => e_dupx1II (n := 29) rfl,
  fun a b L st h => e_dupx1IR (n := 29) rfl,
  fun a b L st h => e_dupx1RI (n := 29) rfl,
  fun a b L st h => e_dupx1RR (n := 29) rfl,
  fun a q L st h => e_putI (kd := 30) (k := 2) (n := 32) rfl,
  fun L st h => e_push (v := zvr none) (n := 33) rfl,
  fun j q L st h => e_astR0 (kd := 5) (ok := zokO) (n := 34) rfl,
  fun a j q L st h => e_astR1 (kd := 5) (ok := zokO) (n := 34) rfl,
  fun x0 x1 x2 a L st h => e_ld3R (n := 35) rfl,
  fun a L h => e_retR rfl⟩
theorem allJ5_pollLast : zall yJ5_pollLast cJ5_pollLast 4 (some (.object "java/lang/Object")) 2 kJ5_pollLast.1 :=
  ⟨k_aload_n dJ5_pollLast_0,
  k_getR (C := RJ5) (T := TJ5) (N := 3) (ci := 14) (k := 0) (ref := "java/util/ArrayDeque") dJ5_pollLast_1 rfl in_J5 (by decide) q247 (Or.inl rfl) (fun _ _ _ => rfl),
  k_dup dJ5_pollLast_4,
  k_astore_n dJ5_pollLast_5,
  k_aload_n dJ5_pollLast_6,
  k_getI (C := RJ5) (T := TJ5) (N := 3) (ci := 14) (k := 2) (ref := "java/util/ArrayDeque") dJ5_pollLast_7 rfl in_J5 (by decide) q249 (Or.inl rfl) (fun _ _ _ => rfl),
  k_aload_n dJ5_pollLast_10,
  k_alen dJ5_pollLast_11,
  k_callS (y2 := yJ5_dec) dJ5_pollLast_12 sndJ5_dec q1747 q1748 q135 q1749 (by decide +kernel) ⟨by decide, by decide⟩ (by decide) (by decide),
  k_dup dJ5_pollLast_15,
  k_istore_n dJ5_pollLast_16,
  k_callS (y2 := yJ5_elementAt) dJ5_pollLast_17 sndJ5_elementAt q1629 q1630 q135 q1631 (by decide +kernel) ⟨by decide, by decide⟩ (by decide) (by decide),
  k_astore_n dJ5_pollLast_20,
  k_aload_n dJ5_pollLast_21,
  k_null (t := 34) dJ5_pollLast_22 (by decide),
  k_aload_n dJ5_pollLast_25,
  k_aload_n dJ5_pollLast_26,
  k_iload_n dJ5_pollLast_27,
  k_dupx1 dJ5_pollLast_28,
  k_putI (C := RJ5) (T := TJ5) (N := 3) (ci := 14) (k := 2) (ref := "java/util/ArrayDeque") dJ5_pollLast_29 rfl in_J5 tyJ5 tyJ5_ok nmJ5 (by decide) (Or.inl q249) (Or.inl rfl) (Or.inl rfl) (tyJ5_ok 2 (by decide)) (fun _ _ _ => rfl),
  k_anull dJ5_pollLast_32,
  k_aast (kd := 5) (nm := "java/lang/Object") dJ5_pollLast_33 (by decide) rfl zokO_can,
  k_aload_n dJ5_pollLast_34,
  k_aret dJ5_pollLast_35 rfl (Or.inl ⟨_, rfl⟩), trivial⟩
theorem sndJ5_pollLast : MSound 2 yJ5_pollLast (ws_ yJ5_pollLast cJ5_pollLast 4 (some (.object "java/lang/Object"))) mJ5_pollLast := msound_M (by decide) allJ5_pollLast (fun _ _ => rfl)
/-! java/util/ArrayDeque.removeLast()Ljava/lang/Object; -/
noncomputable def kJ5_removeLast : ZM := ([(0, zi_ld 1 0 1), (1, zi_callV mJ5_pollLast 30 1 4), (4, zi_st 1 1 5), (5, zi_ld 1 1 6), (6, zi_nonnull 17 9), (9, zi_stuck), (12, zi_dup 13), (13, zi_stuck), (16, zi_throw), (17, zi_ld 1 1 18), (18, zi_retv 1)], fun _ _ => none)
noncomputable def mJ5_removeLast : ZF := zrunM kJ5_removeLast 2
theorem enJ5_removeLast (x0 : Option Nat) (h : PH) : mJ5_removeLast [zvr x0] h = zev kJ5_removeLast 0 [zvr x0, zvu] [] h := zrunM_eq rfl rfl
theorem rJ5_removeLast : (∀ (a : Option Nat) (L st : List ZV) (h : PH), zev kJ5_removeLast 0 (zvr a :: L) st h = zev kJ5_removeLast 1 (zvr a :: L) (zvr a :: st) h) ∧
  (∀ (q : Nat) (L st : List ZV) (h : PH), zev kJ5_removeLast 1 L (zvr (some q) :: st) h = if (ph_K h q).1 % 1000 = 30 ∧ zcat st ≤ 8 then zk kJ5_removeLast 1 4 L st (mJ5_pollLast [zvr (some q)] h) else none) ∧
  (∀ (x0 x1 : ZV) (a : Option Nat) (L st : List ZV) (h : PH) (hx : zisL x0 = false) , zev kJ5_removeLast 4 (x0 :: x1 :: L) (zvr a :: st) h = zev kJ5_removeLast 5 (x0 :: zvr a :: L) st h) ∧
  (∀ (x0 : ZV) (a : Option Nat) (L st : List ZV) (h : PH), zev kJ5_removeLast 5 (x0 :: zvr a :: L) st h = zev kJ5_removeLast 6 (x0 :: zvr a :: L) (zvr a :: st) h) ∧
  (∀ (L st : List ZV) (h : PH), zev kJ5_removeLast 6 L (zvr none :: st) h = zev kJ5_removeLast 9 L st h) ∧
  (∀ (q : Nat) (L st : List ZV) (h : PH), zev kJ5_removeLast 6 L (zvr (some q) :: st) h = if (ph_K h q).1 ≠ 0 then zev kJ5_removeLast 17 L st h else none) ∧
  (∀ (a : Int) (L st : List ZV) (h : PH), zev kJ5_removeLast 12 L (zvi a :: st) h = zev kJ5_removeLast 13 L (zvi a :: zvi a :: st) h) ∧
  (∀ (a : Option Nat) (L st : List ZV) (h : PH), zev kJ5_removeLast 12 L (zvr a :: st) h = zev kJ5_removeLast 13 L (zvr a :: zvr a :: st) h) ∧
  (∀ (q : Nat) (L st : List ZV) (h : PH), zev kJ5_removeLast 16 L (zvr (some q) :: st) h = if (ph_K h q).1 ≠ 0 then zk kJ5_removeLast 16 0 L [] (zrx q h) else none) ∧
  (∀ (x0 : ZV) (a : Option Nat) (L st : List ZV) (h : PH), zev kJ5_removeLast 17 (x0 :: zvr a :: L) st h = zev kJ5_removeLast 18 (x0 :: zvr a :: L) (zvr a :: st) h) ∧
  (∀ (a : Option Nat) (L : List ZV) (h : PH), zev kJ5_removeLast 18 L [zvr a] h = zrv (zvr a) h) :=
  ⟨fun a L st h => e_ld0R (n := 1) rfl,
  fun q L st h => e_callV1 (F := mJ5_pollLast) (kd := 30) (n := 4) rfl,
  fun x0 x1 a L st h hx => e_st1R (n := 5) rfl hx,
  fun x0 a L st h => e_ld1R (n := 6) rfl,
  fun L st h => e_nonnull0 (t := 17) (n := 9) rfl,
  fun q L st h => e_nonnull1 (t := 17) (n := 9) rfl,
  fun a L st h => e_dupI (n := 13) rfl,
  fun a L st h => e_dupR (n := 13) rfl,
  fun q L st h => e_throw (n := 0) rfl,
  fun x0 a L st h => e_ld1R (n := 18) rfl,
  fun a L h => e_retR rfl⟩
theorem allJ5_removeLast : zall yJ5_removeLast cJ5_removeLast 2 (some (.object "java/lang/Object")) 6 kJ5_removeLast.1 :=
  ⟨k_aload_n dJ5_removeLast_0,
  k_callV (y2 := yJ5_pollLast) (C := RJ5) (T0 := TJ5) (ci := 14) dJ5_removeLast_1 sndJ5_pollLast rfl q1743 q1744 q1745 q135 q1746 (by decide +kernel) ⟨by decide, by decide⟩ (by decide) (by decide),
  k_astore_n dJ5_removeLast_4,
  k_aload_n dJ5_removeLast_5,
  k_nonnull (t := 17) dJ5_removeLast_6 (by decide),
  k_stuck,
  k_dup dJ5_removeLast_12,
  k_stuck,
  k_throw dJ5_removeLast_16,
  k_aload_n dJ5_removeLast_17,
  k_aret dJ5_removeLast_18 rfl (Or.inl ⟨_, rfl⟩), trivial⟩
theorem sndJ5_removeLast : MSound 6 yJ5_removeLast (ws_ yJ5_removeLast cJ5_removeLast 2 (some (.object "java/lang/Object"))) mJ5_removeLast := msound_M (by decide) allJ5_removeLast (fun _ _ => rfl)
/-! Z program: java/util/TreeSet (written by gen/gen_prog.py) -/
set_option maxRecDepth 100000
/-! java/util/TreeSet.<init>(Ljava/util/NavigableMap;)V -/
noncomputable def kJ2_init_2 : ZM := ([(0, zi_ld 1 0 1), (1, zi_callV mJ1_init_v15 31 1 4), (4, zi_ld 1 0 5), (5, zi_ld 1 1 6), (6, zi_putR 31 0 9), (9, zi_ret)], fun _ _ => none)
noncomputable def mJ2_init_2 : ZF := zrunM kJ2_init_2 2
theorem enJ2_init_2 (x0 : Option Nat) (x1 : Option Nat) (h : PH) : mJ2_init_2 [zvr x0, zvr x1] h = zev kJ2_init_2 0 [zvr x0, zvr x1] [] h := zrunM_eq rfl rfl
theorem rJ2_init_2 : (∀ (a : Option Nat) (L st : List ZV) (h : PH), zev kJ2_init_2 0 (zvr a :: L) st h = zev kJ2_init_2 1 (zvr a :: L) (zvr a :: st) h) ∧
  (∀ (q : Nat) (L st : List ZV) (h : PH), zev kJ2_init_2 1 L (zvr (some q) :: st) h = if (ph_K h q).1 % 1000 = 31 ∧ zcat st ≤ 8 then zk kJ2_init_2 1 4 L st (mJ1_init_v15 [zvr (some q)] h) else none) ∧
  (∀ (a : Option Nat) (L st : List ZV) (h : PH), zev kJ2_init_2 4 (zvr a :: L) st h = zev kJ2_init_2 5 (zvr a :: L) (zvr a :: st) h) ∧
  (∀ (x0 : ZV) (a : Option Nat) (L st : List ZV) (h : PH), zev kJ2_init_2 5 (x0 :: zvr a :: L) st h = zev kJ2_init_2 6 (x0 :: zvr a :: L) (zvr a :: st) h) ∧
  (∀ (a : Option Nat) (q : Nat) (L st : List ZV) (h : PH), zev kJ2_init_2 6 L (zvr a :: zvr (some q) :: st) h = if (ph_K h q).1 = 31 then zev kJ2_init_2 9 L st (st_R h q 0 a) else none) ∧
  (∀ (L : List ZV) (h : PH), zev kJ2_init_2 9 L [] h = zr0 h) :=
  ⟨fun a L st h => e_ld0R (n := 1) rfl,
  fun q L st h => e_callV1 (F := mJ1_init_v15) (kd := 31) (n := 4) rfl,
  fun a L st h => e_ld0R (n := 5) rfl,
  fun x0 a L st h => e_ld1R (n := 6) rfl,
  fun a q L st h => e_putR (kd := 31) (k := 0) (n := 9) rfl,
  fun L h => e_ret rfl⟩
theorem allJ2_init_2 : zall yJ2_init_2 cJ2_init_2 2 none 4 kJ2_init_2.1 :=
  ⟨k_aload_n dJ2_init_2_0,
  k_callI (y2 := yJ1_init) (C := RJ2) (T0 := TJ2) (ci := 15) dJ2_init_2_1 sndJ1_init_v15 rfl q227 q228 q130 q229 rfl (by decide +kernel) ⟨by decide, by decide⟩ (by decide) (by decide),
  k_aload_n dJ2_init_2_4,
  k_aload_n dJ2_init_2_5,
  k_putR (C := RJ2) (T := TJ2) (N := 1) (ci := 15) (k := 0) (ref := "java/util/TreeSet") dJ2_init_2_6 rfl in_J2 tyJ2 tyJ2_ok nmJ2 (by decide) (Or.inl q234) (Or.inl rfl) (Or.inl rfl) (tyJ2_ok 0 (by decide)) (Or.inl ⟨_, rfl⟩) (fun _ _ _ => rfl),
  k_ret dJ2_init_2_9, trivial⟩
theorem sndJ2_init_2 : MSound 4 yJ2_init_2 (ws_ yJ2_init_2 cJ2_init_2 2 none) mJ2_init_2 := msound_M (by decide) allJ2_init_2 (fun _ _ => rfl)
/-! java/util/TreeSet.<init>(Ljava/util/Comparator;)V -/
noncomputable def kJ2_init : ZM := ([(0, zi_ld 1 0 1), (1, zi_new 32 9 4), (4, zi_dup 5), (5, zi_ld 1 1 6), (6, zi_callV mJ4_init 32 2 9), (9, zi_callV mJ2_init_2 31 2 12), (12, zi_ret)], fun _ _ => none)
noncomputable def mJ2_init : ZF := zrunM kJ2_init 2
theorem enJ2_init (x0 : Option Nat) (x1 : Option Nat) (h : PH) : mJ2_init [zvr x0, zvr x1] h = zev kJ2_init 0 [zvr x0, zvr x1] [] h := zrunM_eq rfl rfl
theorem rJ2_init : (∀ (a : Option Nat) (L st : List ZV) (h : PH), zev kJ2_init 0 (zvr a :: L) st h = zev kJ2_init 1 (zvr a :: L) (zvr a :: st) h) ∧
  (∀ (L st : List ZV) (h : PH), zev kJ2_init 1 L st h = zev kJ2_init 4 L (zvr (some (ph_N h)) :: st) (al_ h 32 0 9)) ∧
  (∀ (a : Int) (L st : List ZV) (h : PH), zev kJ2_init 4 L (zvi a :: st) h = zev kJ2_init 5 L (zvi a :: zvi a :: st) h) ∧
  (∀ (a : Option Nat) (L st : List ZV) (h : PH), zev kJ2_init 4 L (zvr a :: st) h = zev kJ2_init 5 L (zvr a :: zvr a :: st) h) ∧
  (∀ (x0 : ZV) (a : Option Nat) (L st : List ZV) (h : PH), zev kJ2_init 5 (x0 :: zvr a :: L) st h = zev kJ2_init 6 (x0 :: zvr a :: L) (zvr a :: st) h) ∧
  (∀ (v0 : ZV) (q : Nat) (L st : List ZV) (h : PH), zev kJ2_init 6 L (v0 :: zvr (some q) :: st) h = if (ph_K h q).1 % 1000 = 32 ∧ zcat st ≤ 8 then zk kJ2_init 6 9 L st (mJ4_init [zvr (some q), v0] h) else none) ∧
  (∀ (v0 : ZV) (q : Nat) (L st : List ZV) (h : PH), zev kJ2_init 9 L (v0 :: zvr (some q) :: st) h = if (ph_K h q).1 % 1000 = 31 ∧ zcat st ≤ 8 then zk kJ2_init 9 12 L st (mJ2_init_2 [zvr (some q), v0] h) else none) ∧
  (∀ (L : List ZV) (h : PH), zev kJ2_init 12 L [] h = zr0 h) :=
  ⟨fun a L st h => e_ld0R (n := 1) rfl,
  fun L st h => e_new (kd := 32) (sl := 9) (n := 4) rfl,
  fun a L st h => e_dupI (n := 5) rfl,
  fun a L st h => e_dupR (n := 5) rfl,
  fun x0 a L st h => e_ld1R (n := 6) rfl,
  fun v0 q L st h => e_callV2 (F := mJ4_init) (kd := 32) (n := 9) rfl,
  fun v0 q L st h => e_callV2 (F := mJ2_init_2) (kd := 31) (n := 12) rfl,
  fun L h => e_ret rfl⟩
theorem allJ2_init : zall yJ2_init cJ2_init 2 none 5 kJ2_init.1 :=
  ⟨k_aload_n dJ2_init_0,
  k_new (C := RJ4) (T := TJ4) (N := 9) (ci := 16) dJ2_init_1 rfl in_J4 tyJ4 tyJ4_ok rfl (by decide) q192 q193 q134,
  k_dup dJ2_init_4,
  k_aload_n dJ2_init_5,
  k_callI (y2 := yJ4_init) (C := RJ4) (T0 := TJ4) (ci := 16) dJ2_init_6 sndJ4_init rfl q194 q195 q134 q196 rfl (by decide +kernel) ⟨by decide, by decide⟩ (by decide) (by decide),
  k_callI (y2 := yJ2_init_2) (C := RJ2) (T0 := TJ2) (ci := 15) dJ2_init_9 sndJ2_init_2 rfl q224 q225 q131 q226 rfl (by decide +kernel) ⟨by decide, by decide⟩ (by decide) (by decide),
  k_ret dJ2_init_12, trivial⟩
theorem sndJ2_init : MSound 5 yJ2_init (ws_ yJ2_init cJ2_init 2 none) mJ2_init := msound_M (by decide) allJ2_init (fun _ _ => rfl)
/-! java/util/TreeSet.clear()V -/
noncomputable def kJ2_clear : ZM := ([(0, zi_ld 1 0 1), (1, zi_getR 31 0 4), (4, zi_callV mJ4_clear 32 1 9), (9, zi_ret)], fun _ _ => none)
noncomputable def mJ2_clear : ZF := zrunM kJ2_clear 1
theorem enJ2_clear (x0 : Option Nat) (h : PH) : mJ2_clear [zvr x0] h = zev kJ2_clear 0 [zvr x0] [] h := zrunM_eq rfl rfl
theorem rJ2_clear : (∀ (a : Option Nat) (L st : List ZV) (h : PH), zev kJ2_clear 0 (zvr a :: L) st h = zev kJ2_clear 1 (zvr a :: L) (zvr a :: st) h) ∧
  (∀ (q : Nat) (L st : List ZV) (h : PH), zev kJ2_clear 1 L (zvr (some q) :: st) h = if (ph_K h q).1 % 1000 = 31 then zev kJ2_clear 4 L (zvr (ph_R h q 0) :: st) h else none) ∧
  (∀ (q : Nat) (L st : List ZV) (h : PH), zev kJ2_clear 4 L (zvr (some q) :: st) h = if (ph_K h q).1 % 1000 = 32 ∧ zcat st ≤ 8 then zk kJ2_clear 4 9 L st (mJ4_clear [zvr (some q)] h) else none) ∧
  (∀ (L : List ZV) (h : PH), zev kJ2_clear 9 L [] h = zr0 h) :=
  ⟨fun a L st h => e_ld0R (n := 1) rfl,
  fun q L st h => e_getR (kd := 31) (k := 0) (n := 4) rfl,
  fun q L st h => e_callV1 (F := mJ4_clear) (kd := 32) (n := 9) rfl,
  fun L h => e_ret rfl⟩
theorem allJ2_clear : zall yJ2_clear cJ2_clear 1 none 2 kJ2_clear.1 :=
  ⟨k_aload_n dJ2_clear_0,
  k_getR (C := RJ2) (T := TJ2) (N := 1) (ci := 15) (k := 0) (ref := "java/util/TreeSet") dJ2_clear_1 rfl in_J2 (by decide) q234 (Or.inl rfl) (fun _ _ _ => rfl),
  k_callIU (J := "java/util/Map") (nm := "clear") (ds := "()V") dJ2_clear_4 rfl (List.mem_of_getElem? (i := 0) rfl) sndJ4_clear q933 q931 q134 q935 (by decide +kernel) (by decide) (by decide),
  k_ret dJ2_clear_9, trivial⟩
theorem sndJ2_clear : MSound 2 yJ2_clear (ws_ yJ2_clear cJ2_clear 1 none) mJ2_clear := msound_M (by decide) allJ2_clear (fun _ _ => rfl)
/-! java/util/TreeSet.add(Ljava/lang/Object;)Z -/
noncomputable def kJ2_add : ZM := ([(0, zi_ld 1 0 1), (1, zi_getR 31 0 4), (4, zi_ld 1 1 5), (5, zi_push (zvr (some 1000000002)) 8), (8, zi_callV mJ4_put 32 3 13), (13, zi_nonnull 20 16), (16, zi_push (zvi 1) 17), (17, zi_goto 21), (20, zi_push (zvi 0) 21), (21, zi_retz)], fun _ _ => none)
noncomputable def mJ2_add : ZF := zrunM kJ2_add 2
theorem enJ2_add (x0 : Option Nat) (x1 : Option Nat) (h : PH) : mJ2_add [zvr x0, zvr x1] h = zev kJ2_add 0 [zvr x0, zvr x1] [] h := zrunM_eq rfl rfl
theorem rJ2_add : (∀ (a : Option Nat) (L st : List ZV) (h : PH), zev kJ2_add 0 (zvr a :: L) st h = zev kJ2_add 1 (zvr a :: L) (zvr a :: st) h) ∧
  (∀ (q : Nat) (L st : List ZV) (h : PH), zev kJ2_add 1 L (zvr (some q) :: st) h = if (ph_K h q).1 % 1000 = 31 then zev kJ2_add 4 L (zvr (ph_R h q 0) :: st) h else none) ∧
  (∀ (x0 : ZV) (a : Option Nat) (L st : List ZV) (h : PH), zev kJ2_add 4 (x0 :: zvr a :: L) st h = zev kJ2_add 5 (x0 :: zvr a :: L) (zvr a :: st) h) ∧
  (∀ (L st : List ZV) (h : PH), zev kJ2_add 5 L st h = zev kJ2_add 8 L (zvr (some 1000000002) :: st) h) ∧
  (∀ (v0 v1 : ZV) (q : Nat) (L st : List ZV) (h : PH), zev kJ2_add 8 L (v1 :: v0 :: zvr (some q) :: st) h = if (ph_K h q).1 % 1000 = 32 ∧ zcat st ≤ 8 then zk kJ2_add 8 13 L st (mJ4_put [zvr (some q), v0, v1] h) else none) ∧
  (∀ (L st : List ZV) (h : PH), zev kJ2_add 13 L (zvr none :: st) h = zev kJ2_add 16 L st h) ∧
  (∀ (q : Nat) (L st : List ZV) (h : PH), zev kJ2_add 13 L (zvr (some q) :: st) h = if (ph_K h q).1 ≠ 0 then zev kJ2_add 20 L st h else none) ∧
  (∀ (L st : List ZV) (h : PH), zev kJ2_add 16 L st h = zev kJ2_add 17 L (zvi 1 :: st) h) ∧
  (∀ (L st : List ZV) (h : PH), zev kJ2_add 17 L st h = zev kJ2_add 21 L st h) ∧
  (∀ (L st : List ZV) (h : PH), zev kJ2_add 20 L st h = zev kJ2_add 21 L (zvi 0 :: st) h) ∧
  (∀ (a : Int) (L : List ZV) (h : PH), zev kJ2_add 21 L [zvi a] h = if a = 0 ∨ a = 1 then zrv (zvi a) h else none) :=
  ⟨fun a L st h => e_ld0R (n := 1) rfl,
  fun q L st h => e_getR (kd := 31) (k := 0) (n := 4) rfl,
  fun x0 a L st h => e_ld1R (n := 5) rfl,
  fun L st h => e_push (v := zvr (some 1000000002)) (n := 8) rfl,
  fun v0 v1 q L st h => e_callV3 (F := mJ4_put) (kd := 32) (n := 13) rfl,
  fun L st h => e_nonnull0 (t := 20) (n := 16) rfl,
  fun q L st h => e_nonnull1 (t := 20) (n := 16) rfl,
  fun L st h => e_push (v := zvi 1) (n := 17) rfl,
  fun L st h => e_goto (t := 21) rfl,
  fun L st h => e_push (v := zvi 0) (n := 21) rfl,
  fun a L h => e_retz rfl⟩
theorem allJ2_add : zall yJ2_add cJ2_add 2 (some .boolean) 8 kJ2_add.1 :=
  ⟨k_aload_n dJ2_add_0,
  k_getR (C := RJ2) (T := TJ2) (N := 1) (ci := 15) (k := 0) (ref := "java/util/TreeSet") dJ2_add_1 rfl in_J2 (by decide) q234 (Or.inl rfl) (fun _ _ _ => rfl),
  k_aload_n dJ2_add_4,
  k_gets (C := "java/util/TreeSet") dJ2_add_5 (List.mem_of_getElem? (i := 1) rfl) q943 rfl trivial,
  k_callIU (J := "java/util/Map") (nm := "put") (ds := "(Ljava/lang/Object;Ljava/lang/Object;)Ljava/lang/Object;") dJ2_add_8 rfl (List.mem_of_getElem? (i := 1) rfl) sndJ4_put q949 q947 q134 q951 (by decide +kernel) (by decide) (by decide),
  k_nonnull (t := 20) dJ2_add_13 (by decide),
  k_iconst dJ2_add_16,
  k_goto (t := 21) dJ2_add_17 (by decide),
  k_iconst dJ2_add_20,
  k_zret dJ2_add_21, trivial⟩
theorem sndJ2_add : MSound 8 yJ2_add (ws_ yJ2_add cJ2_add 2 (some .boolean)) mJ2_add := msound_M (by decide) allJ2_add (fun _ _ => rfl)
/-! java/util/TreeSet.size()I -/
noncomputable def kJ2_size : ZM := ([(0, zi_ld 1 0 1), (1, zi_getR 31 0 4), (4, zi_callV mJ4_size 32 1 9), (9, zi_retv 0)], fun _ _ => none)
noncomputable def mJ2_size : ZF := zrunM kJ2_size 1
theorem enJ2_size (x0 : Option Nat) (h : PH) : mJ2_size [zvr x0] h = zev kJ2_size 0 [zvr x0] [] h := zrunM_eq rfl rfl
theorem rJ2_size : (∀ (a : Option Nat) (L st : List ZV) (h : PH), zev kJ2_size 0 (zvr a :: L) st h = zev kJ2_size 1 (zvr a :: L) (zvr a :: st) h) ∧
  (∀ (q : Nat) (L st : List ZV) (h : PH), zev kJ2_size 1 L (zvr (some q) :: st) h = if (ph_K h q).1 % 1000 = 31 then zev kJ2_size 4 L (zvr (ph_R h q 0) :: st) h else none) ∧
  (∀ (q : Nat) (L st : List ZV) (h : PH), zev kJ2_size 4 L (zvr (some q) :: st) h = if (ph_K h q).1 % 1000 = 32 ∧ zcat st ≤ 8 then zk kJ2_size 4 9 L st (mJ4_size [zvr (some q)] h) else none) ∧
  (∀ (a : Int) (L : List ZV) (h : PH), zev kJ2_size 9 L [zvi a] h = zrv (zvi a) h) :=
  ⟨fun a L st h => e_ld0R (n := 1) rfl,
  fun q L st h => e_getR (kd := 31) (k := 0) (n := 4) rfl,
  fun q L st h => e_callV1 (F := mJ4_size) (kd := 32) (n := 9) rfl,
  fun a L h => e_retI rfl⟩
theorem allJ2_size : zall yJ2_size cJ2_size 1 (some .int) 2 kJ2_size.1 :=
  ⟨k_aload_n dJ2_size_0,
  k_getR (C := RJ2) (T := TJ2) (N := 1) (ci := 15) (k := 0) (ref := "java/util/TreeSet") dJ2_size_1 rfl in_J2 (by decide) q234 (Or.inl rfl) (fun _ _ _ => rfl),
  k_callIU (J := "java/util/Map") (nm := "size") (ds := "()I") dJ2_size_4 rfl (List.mem_of_getElem? (i := 2) rfl) sndJ4_size q1235 q1233 q134 q1237 (by decide +kernel) (by decide) (by decide),
  k_iret dJ2_size_9, trivial⟩
theorem sndJ2_size : MSound 2 yJ2_size (ws_ yJ2_size cJ2_size 1 (some .int)) mJ2_size := msound_M (by decide) allJ2_size (fun _ _ => rfl)
/-! java/util/TreeSet.first()Ljava/lang/Object; -/
noncomputable def kJ2_first : ZM := ([(0, zi_ld 1 0 1), (1, zi_getR 31 0 4), (4, zi_callV mJ4_firstKey 32 1 9), (9, zi_retv 1)], fun _ _ => none)
noncomputable def mJ2_first : ZF := zrunM kJ2_first 1
theorem enJ2_first (x0 : Option Nat) (h : PH) : mJ2_first [zvr x0] h = zev kJ2_first 0 [zvr x0] [] h := zrunM_eq rfl rfl
theorem rJ2_first : (∀ (a : Option Nat) (L st : List ZV) (h : PH), zev kJ2_first 0 (zvr a :: L) st h = zev kJ2_first 1 (zvr a :: L) (zvr a :: st) h) ∧
  (∀ (q : Nat) (L st : List ZV) (h : PH), zev kJ2_first 1 L (zvr (some q) :: st) h = if (ph_K h q).1 % 1000 = 31 then zev kJ2_first 4 L (zvr (ph_R h q 0) :: st) h else none) ∧
  (∀ (q : Nat) (L st : List ZV) (h : PH), zev kJ2_first 4 L (zvr (some q) :: st) h = if (ph_K h q).1 % 1000 = 32 ∧ zcat st ≤ 8 then zk kJ2_first 4 9 L st (mJ4_firstKey [zvr (some q)] h) else none) ∧
  (∀ (a : Option Nat) (L : List ZV) (h : PH), zev kJ2_first 9 L [zvr a] h = zrv (zvr a) h) :=
  ⟨fun a L st h => e_ld0R (n := 1) rfl,
  fun q L st h => e_getR (kd := 31) (k := 0) (n := 4) rfl,
  fun q L st h => e_callV1 (F := mJ4_firstKey) (kd := 32) (n := 9) rfl,
  fun a L h => e_retR rfl⟩
theorem allJ2_first : zall yJ2_first cJ2_first 1 (some (.object "java/lang/Object")) 8 kJ2_first.1 :=
  ⟨k_aload_n dJ2_first_0,
  k_getR (C := RJ2) (T := TJ2) (N := 1) (ci := 15) (k := 0) (ref := "java/util/TreeSet") dJ2_first_1 rfl in_J2 (by decide) q234 (Or.inl rfl) (fun _ _ _ => rfl),
  k_callIU (J := "java/util/SortedMap") (nm := "firstKey") (ds := "()Ljava/lang/Object;") dJ2_first_4 rfl (List.mem_of_getElem? (i := 3) rfl) sndJ4_firstKey q1277 q1275 q134 q1279 (by decide +kernel) (by decide) (by decide),
  k_aret dJ2_first_9 rfl (Or.inl ⟨_, rfl⟩), trivial⟩
theorem sndJ2_first : MSound 8 yJ2_first (ws_ yJ2_first cJ2_first 1 (some (.object "java/lang/Object"))) mJ2_first := msound_M (by decide) allJ2_first (fun _ _ => rfl)
/-! java/util/TreeSet.higher(Ljava/lang/Object;)Ljava/lang/Object; -/
noncomputable def kJ2_higher : ZM := ([(0, zi_ld 1 0 1), (1, zi_getR 31 0 4), (4, zi_ld 1 1 5), (5, zi_callV mJ4_higherKey 32 2 10), (10, zi_retv 1)], fun _ _ => none)
noncomputable def mJ2_higher : ZF := zrunM kJ2_higher 2
theorem enJ2_higher (x0 : Option Nat) (x1 : Option Nat) (h : PH) : mJ2_higher [zvr x0, zvr x1] h = zev kJ2_higher 0 [zvr x0, zvr x1] [] h := zrunM_eq rfl rfl
theorem rJ2_higher : (∀ (a : Option Nat) (L st : List ZV) (h : PH), zev kJ2_higher 0 (zvr a :: L) st h = zev kJ2_higher 1 (zvr a :: L) (zvr a :: st) h) ∧
  (∀ (q : Nat) (L st : List ZV) (h : PH), zev kJ2_higher 1 L (zvr (some q) :: st) h = if (ph_K h q).1 % 1000 = 31 then zev kJ2_higher 4 L (zvr (ph_R h q 0) :: st) h else none) ∧
  (∀ (x0 : ZV) (a : Option Nat) (L st : List ZV) (h : PH), zev kJ2_higher 4 (x0 :: zvr a :: L) st h = zev kJ2_higher 5 (x0 :: zvr a :: L) (zvr a :: st) h) ∧
  (∀ (v0 : ZV) (q : Nat) (L st : List ZV) (h : PH), zev kJ2_higher 5 L (v0 :: zvr (some q) :: st) h = if (ph_K h q).1 % 1000 = 32 ∧ zcat st ≤ 8 then zk kJ2_higher 5 10 L st (mJ4_higherKey [zvr (some q), v0] h) else none) ∧
  (∀ (a : Option Nat) (L : List ZV) (h : PH), zev kJ2_higher 10 L [zvr a] h = zrv (zvr a) h) :=
  ⟨fun a L st h => e_ld0R (n := 1) rfl,
  fun q L st h => e_getR (kd := 31) (k := 0) (n := 4) rfl,
  fun x0 a L st h => e_ld1R (n := 5) rfl,
  fun v0 q L st h => e_callV2 (F := mJ4_higherKey) (kd := 32) (n := 10) rfl,
  fun a L h => e_retR rfl⟩
theorem allJ2_higher : zall yJ2_higher cJ2_higher 2 (some (.object "java/lang/Object")) 7 kJ2_higher.1 :=
  ⟨k_aload_n dJ2_higher_0,
  k_getR (C := RJ2) (T := TJ2) (N := 1) (ci := 15) (k := 0) (ref := "java/util/TreeSet") dJ2_higher_1 rfl in_J2 (by decide) q234 (Or.inl rfl) (fun _ _ _ => rfl),
  k_aload_n dJ2_higher_4,
  k_callIF (x2 := ⟨"java/util/NavigableMap", "higherKey", "(Ljava/lang/Object;)Ljava/lang/Object;"⟩) (y2 := yJ4_higherKey) (C := RJ4) (T0 := TJ4) (ci := 16) dJ2_higher_5 sndJ4_higherKey rfl q1315 (by decide +kernel) q1320 q1318 q134 q1322 (by decide +kernel) ⟨by decide, by decide⟩ (by decide) (by decide),
  k_aret dJ2_higher_10 rfl (Or.inl ⟨_, rfl⟩), trivial⟩
theorem sndJ2_higher : MSound 7 yJ2_higher (ws_ yJ2_higher cJ2_higher 2 (some (.object "java/lang/Object"))) mJ2_higher := msound_M (by decide) allJ2_higher (fun _ _ => rfl)
/-! java/util/TreeSet.remove(Ljava/lang/Object;)Z -/
noncomputable def kJ2_remove : ZM := ([(0, zi_ld 1 0 1), (1, zi_getR 31 0 4), (4, zi_ld 1 1 5), (5, zi_callV mJ4_remove 32 2 10), (10, zi_push (zvr (some 1000000002)) 13), (13, zi_acmp 16 20), (16, zi_push (zvi 1) 17), (17, zi_goto 21), (20, zi_push (zvi 0) 21), (21, zi_retz)], fun _ _ => none)
noncomputable def mJ2_remove : ZF := zrunM kJ2_remove 2
theorem enJ2_remove (x0 : Option Nat) (x1 : Option Nat) (h : PH) : mJ2_remove [zvr x0, zvr x1] h = zev kJ2_remove 0 [zvr x0, zvr x1] [] h := zrunM_eq rfl rfl
theorem rJ2_remove : (∀ (a : Option Nat) (L st : List ZV) (h : PH), zev kJ2_remove 0 (zvr a :: L) st h = zev kJ2_remove 1 (zvr a :: L) (zvr a :: st) h) ∧
  (∀ (q : Nat) (L st : List ZV) (h : PH), zev kJ2_remove 1 L (zvr (some q) :: st) h = if (ph_K h q).1 % 1000 = 31 then zev kJ2_remove 4 L (zvr (ph_R h q 0) :: st) h else none) ∧
  (∀ (x0 : ZV) (a : Option Nat) (L st : List ZV) (h : PH), zev kJ2_remove 4 (x0 :: zvr a :: L) st h = zev kJ2_remove 5 (x0 :: zvr a :: L) (zvr a :: st) h) ∧
  (∀ (v0 : ZV) (q : Nat) (L st : List ZV) (h : PH), zev kJ2_remove 5 L (v0 :: zvr (some q) :: st) h = if (ph_K h q).1 % 1000 = 32 ∧ zcat st ≤ 8 then zk kJ2_remove 5 10 L st (mJ4_remove [zvr (some q), v0] h) else none) ∧
  (∀ (L st : List ZV) (h : PH), zev kJ2_remove 10 L st h = zev kJ2_remove 13 L (zvr (some 1000000002) :: st) h) ∧
  (∀ (a b : Option Nat) (L st : List ZV) (h : PH), zev kJ2_remove 13 L (zvr b :: zvr a :: st) h = if zcomp h a b = true then (if a = b then zev kJ2_remove 16 L st h else zev kJ2_remove 20 L st h) else none) ∧
  (∀ (L st : List ZV) (h : PH), zev kJ2_remove 16 L st h = zev kJ2_remove 17 L (zvi 1 :: st) h) ∧
  (∀ (L st : List ZV) (h : PH), zev kJ2_remove 17 L st h = zev kJ2_remove 21 L st h) ∧
  (∀ (L st : List ZV) (h : PH), zev kJ2_remove 20 L st h = zev kJ2_remove 21 L (zvi 0 :: st) h) ∧
  (∀ (a : Int) (L : List ZV) (h : PH), zev kJ2_remove 21 L [zvi a] h = if a = 0 ∨ a = 1 then zrv (zvi a) h else none) :=
  ⟨fun a L st h => e_ld0R (n := 1) rfl,
  fun q L st h => e_getR (kd := 31) (k := 0) (n := 4) rfl,
  fun x0 a L st h => e_ld1R (n := 5) rfl,
  fun v0 q L st h => e_callV2 (F := mJ4_remove) (kd := 32) (n := 10) rfl,
  fun L st h => e_push (v := zvr (some 1000000002)) (n := 13) rfl,
  fun a b L st h => e_acmp (t := 16) (n := 20) rfl,
  fun L st h => e_push (v := zvi 1) (n := 17) rfl,
  fun L st h => e_goto (t := 21) rfl,
  fun L st h => e_push (v := zvi 0) (n := 21) rfl,
  fun a L h => e_retz rfl⟩
theorem allJ2_remove : zall yJ2_remove cJ2_remove 2 (some .boolean) 7 kJ2_remove.1 :=
  ⟨k_aload_n dJ2_remove_0,
  k_getR (C := RJ2) (T := TJ2) (N := 1) (ci := 15) (k := 0) (ref := "java/util/TreeSet") dJ2_remove_1 rfl in_J2 (by decide) q234 (Or.inl rfl) (fun _ _ _ => rfl),
  k_aload_n dJ2_remove_4,
  k_callIU (J := "java/util/Map") (nm := "remove") (ds := "(Ljava/lang/Object;)Ljava/lang/Object;") dJ2_remove_5 rfl (List.mem_of_getElem? (i := 4) rfl) sndJ4_remove q1683 q1681 q134 q1685 (by decide +kernel) (by decide) (by decide),
  k_gets (C := "java/util/TreeSet") dJ2_remove_10 (List.mem_of_getElem? (i := 1) rfl) q943 rfl trivial,
  k_acmpne (t := 20) dJ2_remove_13 (by decide),
  k_iconst dJ2_remove_16,
  k_goto (t := 21) dJ2_remove_17 (by decide),
  k_iconst dJ2_remove_20,
  k_zret dJ2_remove_21, trivial⟩
theorem sndJ2_remove : MSound 7 yJ2_remove (ws_ yJ2_remove cJ2_remove 2 (some .boolean)) mJ2_remove := msound_M (by decide) allJ2_remove (fun _ _ => rfl)
