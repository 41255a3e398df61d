/-! Z program: LinkTimesModel (written by gen/gen_prog.py) -/
set_option maxRecDepth 100000
/-! LinkTimesModel.no(I)I -/
noncomputable def kX4_no : ZM := ([(0, zi_ld 1 0 1), (1, zi_ld 0 1 2), (2, zi_putI 18 1 5), (5, zi_push (zvi (-1)) 6), (6, zi_retv 0)], fun _ _ => none)
noncomputable def mX4_no : ZF := zrunM kX4_no 2
theorem enX4_no (x0 : Option Nat) (x1 : Int) (h : PH) : mX4_no [zvr x0, zvi x1] h = zev kX4_no 0 [zvr x0, zvi x1] [] h := zrunM_eq rfl rfl
theorem rX4_no : (∀ (a : Option Nat) (L st : List ZV) (h : PH), zev kX4_no 0 (zvr a :: L) st h = zev kX4_no 1 (zvr a :: L) (zvr a :: st) h) ∧
  (∀ (x0 : ZV) (a : Int) (L st : List ZV) (h : PH), zev kX4_no 1 (x0 :: zvi a :: L) st h = zev kX4_no 2 (x0 :: zvi a :: L) (zvi a :: st) h) ∧
  (∀ (a : Int) (q : Nat) (L st : List ZV) (h : PH), zev kX4_no 2 L (zvi a :: zvr (some q) :: st) h = if (ph_K h q).1 = 18 then zev kX4_no 5 L st (st_I h q 1 a) else none) ∧
  (∀ (L st : List ZV) (h : PH), zev kX4_no 5 L st h = zev kX4_no 6 L (zvi (-1) :: st) h) ∧
  (∀ (a : Int) (L : List ZV) (h : PH), zev kX4_no 6 L [zvi a] h = zrv (zvi a) h) :=
  ⟨fun a L st h => e_ld0R (n := 1) rfl,
  fun x0 a L st h => e_ld1I (n := 2) rfl,
  fun a q L st h => e_putI (kd := 18) (k := 1) (n := 5) rfl,
  fun L st h => e_push (v := zvi (-1)) (n := 6) rfl,
  fun a L h => e_retI rfl⟩
theorem allX4_no : zall yX4_no cX4_no 2 (some .int) 1 kX4_no.1 :=
  ⟨k_aload_n dX4_no_0,
  k_iload_n dX4_no_1,
  k_putI (C := RX4) (T := TX4) (N := 42) (ci := 2) (k := 1) (ref := "LinkTimesModel") dX4_no_2 rfl in_X4 tyX4 tyX4_ok nmX4 (by decide) (Or.inl q1800) (Or.inl rfl) (Or.inl rfl) (tyX4_ok 1 (by decide)) (fun _ _ _ => rfl),
  k_iconst dX4_no_5,
  k_iret dX4_no_6, trivial⟩
theorem sndX4_no : MSound 1 yX4_no (ws_ yX4_no cX4_no 2 (some .int)) mX4_no := msound_M (by decide) allX4_no (fun _ _ => rfl)
/-! LinkTimesModel.copies([II[II)V -/
noncomputable def kX4_copies : ZM := ([(0, zi_push (zvi 0) 1), (1, zi_st 0 4 3), (3, zi_ld 0 4 5), (5, zi_push (zvi 985) 8), (8, zi_cmp zc_ge 29 11), (11, zi_ld 1 2 12), (12, zi_ld 0 3 13), (13, zi_ld 0 4 15), (15, zi_bin (fun a b => w32 (a + b)) 16), (16, zi_ld 1 0 17), (17, zi_ld 0 1 18), (18, zi_ld 0 4 20), (20, zi_bin (fun a b => w32 (a + b)) 21), (21, zi_ald 1 22), (22, zi_ast 23), (23, zi_iinc 4 1 26), (26, zi_goto 3), (29, zi_ret)], fun _ _ => none)
noncomputable def mX4_copies : ZF := zrunM kX4_copies 5
theorem enX4_copies (x0 : Option Nat) (x1 : Int) (x2 : Option Nat) (x3 : Int) (h : PH) : mX4_copies [zvr x0, zvi x1, zvr x2, zvi x3] h = zev kX4_copies 0 [zvr x0, zvi x1, zvr x2, zvi x3, zvu] [] h := zrunM_eq rfl rfl
theorem hdX4_copies_3 (x0 x1 x2 x3 : ZV) (a : Int) (L st : List ZV) (h : PH) : zev kX4_copies 3 (x0 :: x1 :: x2 :: x3 :: zvi a :: L) st h = zev kX4_copies 5 (x0 :: x1 :: x2 :: x3 :: zvi a :: L) (zvi a :: st) h := e_ld4I (n := 5) rfl
theorem rX4_copies : (∀ (L st : List ZV) (h : PH), zev kX4_copies 0 L st h = zev kX4_copies 1 L (zvi 0 :: st) h) ∧
  (∀ (x0 x1 x2 x3 x4 : ZV) (a : Int) (L st : List ZV) (h : PH) (hx : zisL x3 = false) , zev kX4_copies 1 (x0 :: x1 :: x2 :: x3 :: x4 :: L) (zvi a :: st) h = zev kX4_copies 3 (x0 :: x1 :: x2 :: x3 :: zvi a :: L) st h) ∧
  (∀ (L st : List ZV) (h : PH), zev kX4_copies 5 L st h = zev kX4_copies 8 L (zvi 985 :: st) h) ∧
  (∀ (a b : Int) (L st : List ZV) (h : PH), zev kX4_copies 8 L (zvi b :: zvi a :: st) h = if a ≥ b then zev kX4_copies 29 L st h else zev kX4_copies 11 L st h) ∧
  (∀ (x0 x1 : ZV) (a : Option Nat) (L st : List ZV) (h : PH), zev kX4_copies 11 (x0 :: x1 :: zvr a :: L) st h = zev kX4_copies 12 (x0 :: x1 :: zvr a :: L) (zvr a :: st) h) ∧
  (∀ (x0 x1 x2 : ZV) (a : Int) (L st : List ZV) (h : PH), zev kX4_copies 12 (x0 :: x1 :: x2 :: zvi a :: L) st h = zev kX4_copies 13 (x0 :: x1 :: x2 :: zvi a :: L) (zvi a :: st) h) ∧
  (∀ (x0 x1 x2 x3 : ZV) (a : Int) (L st : List ZV) (h : PH), zev kX4_copies 13 (x0 :: x1 :: x2 :: x3 :: zvi a :: L) st h = zev kX4_copies 15 (x0 :: x1 :: x2 :: x3 :: zvi a :: L) (zvi a :: st) h) ∧
  (∀ (a b : Int) (L st : List ZV) (h : PH), zev kX4_copies 15 L (zvi b :: zvi a :: st) h = zev kX4_copies 16 L (zvi (w32 (a + b)) :: st) h) ∧
  (∀ (a : Option Nat) (L st : List ZV) (h : PH), zev kX4_copies 16 (zvr a :: L) st h = zev kX4_copies 17 (zvr a :: L) (zvr a :: st) h) ∧
  (∀ (x0 : ZV) (a : Int) (L st : List ZV) (h : PH), zev kX4_copies 17 (x0 :: zvi a :: L) st h = zev kX4_copies 18 (x0 :: zvi a :: L) (zvi a :: st) h) ∧
  (∀ (x0 x1 x2 x3 : ZV) (a : Int) (L st : List ZV) (h : PH), zev kX4_copies 18 (x0 :: x1 :: x2 :: x3 :: zvi a :: L) st h = zev kX4_copies 20 (x0 :: x1 :: x2 :: x3 :: zvi a :: L) (zvi a :: st) h) ∧
  (∀ (a b : Int) (L st : List ZV) (h : PH), zev kX4_copies 20 L (zvi b :: zvi a :: st) h = zev kX4_copies 21 L (zvi (w32 (a + b)) :: st) h) ∧
  (∀ (j : Int) (q : Nat) (L st : List ZV) (h : PH), zev kX4_copies 21 L (zvi j :: zvr (some q) :: st) h = if (ph_K h q).1 % 1000 = 1 ∧ 0 ≤ j ∧ j < (ph_K h q).2 then zev kX4_copies 22 L (zvi (ph_I h q j) :: st) h else none) ∧
  (∀ (x j : Int) (q : Nat) (L st : List ZV) (h : PH), zev kX4_copies 22 L (zvi x :: zvi j :: zvr (some q) :: st) h = if (ph_K h q).1 = 1 ∧ 0 ≤ j ∧ j < (ph_K h q).2 then zev kX4_copies 23 L st (st_I h q j x) else none) ∧
  (∀ (x0 x1 x2 x3 : ZV) (a : Int) (L st : List ZV) (h : PH) (hx : zisL x3 = false) , zev kX4_copies 23 (x0 :: x1 :: x2 :: x3 :: zvi a :: L) st h = zev kX4_copies 26 (x0 :: x1 :: x2 :: x3 :: zvi (w32 (a + 1)) :: L) st h) ∧
  (∀ (L st : List ZV) (h : PH), zev kX4_copies 26 L st h = zev kX4_copies 3 L st h) ∧
  (∀ (L : List ZV) (h : PH), zev kX4_copies 29 L [] h = zr0 h) :=
  ⟨fun L st h => e_push (v := zvi 0) (n := 1) rfl,
  fun x0 x1 x2 x3 x4 a L st h hx => e_st4I (n := 3) rfl hx,
  fun L st h => e_push (v := zvi 985) (n := 8) rfl,
  fun a b L st h => e_cmpge (t := 29) (n := 11) rfl,
  fun x0 x1 a L st h => e_ld2R (n := 12) rfl,
  fun x0 x1 x2 a L st h => e_ld3I (n := 13) rfl,
  fun x0 x1 x2 x3 a L st h => e_ld4I (n := 15) rfl,
  fun a b L st h => e_bin (f := (fun a b => w32 (a + b))) (n := 16) rfl,
  fun a L st h => e_ld0R (n := 17) rfl,
  fun x0 a L st h => e_ld1I (n := 18) rfl,
  fun x0 x1 x2 x3 a L st h => e_ld4I (n := 20) rfl,
  fun a b L st h => e_bin (f := (fun a b => w32 (a + b))) (n := 21) rfl,
  fun j q L st h => e_ald (kd := 1) (n := 22) rfl,
  fun x j q L st h => e_ast (n := 23) rfl,
  fun x0 x1 x2 x3 a L st h hx => e_iinc4 (d := 1) (n := 26) rfl hx,
  fun L st h => e_goto (t := 3) rfl,
  fun L h => e_ret rfl⟩
theorem allX4_copies : zall yX4_copies cX4_copies 5 none 1 kX4_copies.1 :=
  ⟨k_iconst dX4_copies_0,
  k_istore dX4_copies_1,
  k_iload dX4_copies_3,
  k_sipush dX4_copies_5,
  k_cmpge (t := 29) dX4_copies_8 (by decide),
  k_aload_n dX4_copies_11,
  k_iload_n dX4_copies_12,
  k_iload dX4_copies_13,
  k_iadd dX4_copies_15,
  k_aload_n dX4_copies_16,
  k_iload_n dX4_copies_17,
  k_iload dX4_copies_18,
  k_iadd dX4_copies_20,
  k_iald dX4_copies_21,
  k_iast dX4_copies_22,
  k_iinc dX4_copies_23,
  k_goto (t := 3) dX4_copies_26 (by decide),
  k_ret dX4_copies_29, trivial⟩
theorem sndX4_copies : MSound 1 yX4_copies (ws_ yX4_copies cX4_copies 5 none) mX4_copies := msound_M (by decide) allX4_copies (fun _ _ => rfl)
/-! LinkTimesModel.desk(I)I -/
noncomputable def kX4_desk : ZM := ([(0, zi_ld 1 0 1), (1, zi_ld 0 1 2), (2, zi_push (zvi 0) 3), (3, zi_ld 1 0 4), (4, zi_getI 18 5 7), (7, zi_callS mX4_in 3 10), (10, zi_if (fun a => zc_eq a 0) 17 13), (13, zi_push (zvi 0) 14), (14, zi_goto 18), (17, zi_push (zvi 2) 18), (18, zi_callV mX4_isRefused 18 2 21), (21, zi_if (fun a => zc_eq a 0) 26 24), (24, zi_push (zvi (-1)) 25), (25, zi_retv 0), (26, zi_ld 1 0 27), (27, zi_push (zvi 0) 28), (28, zi_putI 18 5 31), (31, zi_ld 1 0 32), (32, zi_push (zvi 0) 33), (33, zi_putI 18 2 36), (36, zi_ld 1 0 37), (37, zi_ld 0 1 38), (38, zi_callV mX4_readAll 18 2 41), (41, zi_if (fun a => zc_ne a 0) 66 44), (44, zi_ld 1 0 45), (45, zi_ld 1 0 46), (46, zi_getI 18 17 49), (49, zi_putI 18 2 52), (52, zi_ld 1 0 53), (53, zi_ld 1 0 54), (54, zi_getI 18 18 57), (57, zi_putI 18 3 60), (60, zi_ld 1 0 61), (61, zi_push (zvi 4) 62), (62, zi_callV mX4_no 18 2 65), (65, zi_retv 0), (66, zi_ld 1 0 67), (67, zi_getR 18 7 70), (70, zi_push (zvi 0) 71), (71, zi_ld 1 0 72), (72, zi_getR 18 6 75), (75, zi_push (zvi 0) 76), (76, zi_callS mX4_copies 4 79), (79, zi_ld 1 0 80), (80, zi_push (zvi 1) 81), (81, zi_putZ 18 11 84), (84, zi_ld 1 0 85), (85, zi_push (zvi 0) 86), (86, zi_putI 18 10 89), (89, zi_ld 1 0 90), (90, zi_getR 18 6 93), (93, zi_push (zvi 4) 94), (94, zi_ald 1 95), (95, zi_retv 0)], fun _ _ => none)
noncomputable def mX4_desk : ZF := zrunM kX4_desk 2
theorem enX4_desk (x0 : Option Nat) (x1 : Int) (h : PH) : mX4_desk [zvr x0, zvi x1] h = zev kX4_desk 0 [zvr x0, zvi x1] [] h := zrunM_eq rfl rfl
theorem rX4_desk : (∀ (a : Option Nat) (L st : List ZV) (h : PH), zev kX4_desk 0 (zvr a :: L) st h = zev kX4_desk 1 (zvr a :: L) (zvr a :: st) h) ∧
  (∀ (x0 : ZV) (a : Int) (L st : List ZV) (h : PH), zev kX4_desk 1 (x0 :: zvi a :: L) st h = zev kX4_desk 2 (x0 :: zvi a :: L) (zvi a :: st) h) ∧
  (∀ (L st : List ZV) (h : PH), zev kX4_desk 2 L st h = zev kX4_desk 3 L (zvi 0 :: st) h) ∧
  (∀ (a : Option Nat) (L st : List ZV) (h : PH), zev kX4_desk 3 (zvr a :: L) st h = zev kX4_desk 4 (zvr a :: L) (zvr a :: st) h) ∧
  (∀ (q : Nat) (L st : List ZV) (h : PH), zev kX4_desk 4 L (zvr (some q) :: st) h = if (ph_K h q).1 % 1000 = 18 then zev kX4_desk 7 L (zvi (ph_I h q 5) :: st) h else none) ∧
  (∀ (v0 v1 v2 : ZV) (L st : List ZV) (h : PH), zev kX4_desk 7 L (v2 :: v1 :: v0 :: st) h = if zcat st ≤ 8 then zk kX4_desk 7 10 L st (mX4_in [v0, v1, v2] h) else none) ∧
  (∀ (a : Int) (L st : List ZV) (h : PH), zev kX4_desk 10 L (zvi a :: st) h = if a = 0 then zev kX4_desk 17 L st h else zev kX4_desk 13 L st h) ∧
  (∀ (L st : List ZV) (h : PH), zev kX4_desk 13 L st h = zev kX4_desk 14 L (zvi 0 :: st) h) ∧
  (∀ (L st : List ZV) (h : PH), zev kX4_desk 14 L st h = zev kX4_desk 18 L st h) ∧
  (∀ (L st : List ZV) (h : PH), zev kX4_desk 17 L st h = zev kX4_desk 18 L (zvi 2 :: st) h) ∧
  (∀ (v0 : ZV) (q : Nat) (L st : List ZV) (h : PH), zev kX4_desk 18 L (v0 :: zvr (some q) :: st) h = if (ph_K h q).1 % 1000 = 18 ∧ zcat st ≤ 8 then zk kX4_desk 18 21 L st (mX4_isRefused [zvr (some q), v0] h) else none) ∧
  (∀ (a : Int) (L st : List ZV) (h : PH), zev kX4_desk 21 L (zvi a :: st) h = if a = 0 then zev kX4_desk 26 L st h else zev kX4_desk 24 L st h) ∧
  (∀ (L st : List ZV) (h : PH), zev kX4_desk 24 L st h = zev kX4_desk 25 L (zvi (-1) :: st) h) ∧
  (∀ (a : Int) (L : List ZV) (h : PH), zev kX4_desk 25 L [zvi a] h = zrv (zvi a) h) ∧
  (∀ (a : Option Nat) (L st : List ZV) (h : PH), zev kX4_desk 26 (zvr a :: L) st h = zev kX4_desk 27 (zvr a :: L) (zvr a :: st) h) ∧
  (∀ (L st : List ZV) (h : PH), zev kX4_desk 27 L st h = zev kX4_desk 28 L (zvi 0 :: st) h) ∧
  (∀ (a : Int) (q : Nat) (L st : List ZV) (h : PH), zev kX4_desk 28 L (zvi a :: zvr (some q) :: st) h = if (ph_K h q).1 = 18 then zev kX4_desk 31 L st (st_I h q 5 a) else none) ∧
  (∀ (a : Option Nat) (L st : List ZV) (h : PH), zev kX4_desk 31 (zvr a :: L) st h = zev kX4_desk 32 (zvr a :: L) (zvr a :: st) h) ∧
  (∀ (L st : List ZV) (h : PH), zev kX4_desk 32 L st h = zev kX4_desk 33 L (zvi 0 :: st) h) ∧
  (∀ (a : Int) (q : Nat) (L st : List ZV) (h : PH), zev kX4_desk 33 L (zvi a :: zvr (some q) :: st) h = if (ph_K h q).1 = 18 then zev kX4_desk 36 L st (st_I h q 2 a) else none) ∧
  (∀ (a : Option Nat) (L st : List ZV) (h : PH), zev kX4_desk 36 (zvr a :: L) st h = zev kX4_desk 37 (zvr a :: L) (zvr a :: st) h) ∧
  (∀ (x0 : ZV) (a : Int) (L st : List ZV) (h : PH), zev kX4_desk 37 (x0 :: zvi a :: L) st h = zev kX4_desk 38 (x0 :: zvi a :: L) (zvi a :: st) h) ∧
  (∀ (v0 : ZV) (q : Nat) (L st : List ZV) (h : PH), zev kX4_desk 38 L (v0 :: zvr (some q) :: st) h = if (ph_K h q).1 % 1000 = 18 ∧ zcat st ≤ 8 then zk kX4_desk 38 41 L st (mX4_readAll [zvr (some q), v0] h) else none) ∧
  (∀ (a : Int) (L st : List ZV) (h : PH), zev kX4_desk 41 L (zvi a :: st) h = if a ≠ 0 then zev kX4_desk 66 L st h else zev kX4_desk 44 L st h) ∧
  (∀ (a : Option Nat) (L st : List ZV) (h : PH), zev kX4_desk 44 (zvr a :: L) st h = zev kX4_desk 45 (zvr a :: L) (zvr a :: st) h) ∧
  (∀ (a : Option Nat) (L st : List ZV) (h : PH), zev kX4_desk 45 (zvr a :: L) st h = zev kX4_desk 46 (zvr a :: L) (zvr a :: st) h) ∧
  (∀ (q : Nat) (L st : List ZV) (h : PH), zev kX4_desk 46 L (zvr (some q) :: st) h = if (ph_K h q).1 % 1000 = 18 then zev kX4_desk 49 L (zvi (ph_I h q 17) :: st) h else none) ∧
  (∀ (a : Int) (q : Nat) (L st : List ZV) (h : PH), zev kX4_desk 49 L (zvi a :: zvr (some q) :: st) h = if (ph_K h q).1 = 18 then zev kX4_desk 52 L st (st_I h q 2 a) else none) ∧
  (∀ (a : Option Nat) (L st : List ZV) (h : PH), zev kX4_desk 52 (zvr a :: L) st h = zev kX4_desk 53 (zvr a :: L) (zvr a :: st) h) ∧
  (∀ (a : Option Nat) (L st : List ZV) (h : PH), zev kX4_desk 53 (zvr a :: L) st h = zev kX4_desk 54 (zvr a :: L) (zvr a :: st) h) ∧
  (∀ (q : Nat) (L st : List ZV) (h : PH), zev kX4_desk 54 L (zvr (some q) :: st) h = if (ph_K h q).1 % 1000 = 18 then zev kX4_desk 57 L (zvi (ph_I h q 18) :: st) h else none) ∧
  (∀ (a : Int) (q : Nat) (L st : List ZV) (h : PH), zev kX4_desk 57 L (zvi a :: zvr (some q) :: st) h = if (ph_K h q).1 = 18 then zev kX4_desk 60 L st (st_I h q 3 a) else none) ∧
  (∀ (a : Option Nat) (L st : List ZV) (h : PH), zev kX4_desk 60 (zvr a :: L) st h = zev kX4_desk 61 (zvr a :: L) (zvr a :: st) h) ∧
  (∀ (L st : List ZV) (h : PH), zev kX4_desk 61 L st h = zev kX4_desk 62 L (zvi 4 :: st) h) ∧
  (∀ (v0 : ZV) (q : Nat) (L st : List ZV) (h : PH), zev kX4_desk 62 L (v0 :: zvr (some q) :: st) h = if (ph_K h q).1 % 1000 = 18 ∧ zcat st ≤ 8 then zk kX4_desk 62 65 L st (mX4_no [zvr (some q), v0] h) else none) ∧
  (∀ (a : Int) (L : List ZV) (h : PH), zev kX4_desk 65 L [zvi a] h = zrv (zvi a) h) ∧
  (∀ (a : Option Nat) (L st : List ZV) (h : PH), zev kX4_desk 66 (zvr a :: L) st h = zev kX4_desk 67 (zvr a :: L) (zvr a :: st) h) ∧
  (∀ (q : Nat) (L st : List ZV) (h : PH), zev kX4_desk 67 L (zvr (some q) :: st) h = if (ph_K h q).1 % 1000 = 18 then zev kX4_desk 70 L (zvr (ph_R h q 7) :: st) h else none) ∧
  (∀ (L st : List ZV) (h : PH), zev kX4_desk 70 L st h = zev kX4_desk 71 L (zvi 0 :: st) h) ∧
  (∀ (a : Option Nat) (L st : List ZV) (h : PH), zev kX4_desk 71 (zvr a :: L) st h = zev kX4_desk 72 (zvr a :: L) (zvr a :: st) h) ∧
  (∀ (q : Nat) (L st : List ZV) (h : PH), zev kX4_desk 72 L (zvr (some q) :: st) h = if (ph_K h q).1 % 1000 = 18 then zev kX4_desk 75 L (zvr (ph_R h q 6) :: st) h else none) ∧
  (∀ (L st : List ZV) (h : PH), zev kX4_desk 75 L st h = zev kX4_desk 76 L (zvi 0 :: st) h) ∧
  (∀ (v0 v1 v2 v3 : ZV) (L st : List ZV) (h : PH), zev kX4_desk 76 L (v3 :: v2 :: v1 :: v0 :: st) h = if zcat st ≤ 8 then zk kX4_desk 76 79 L st (mX4_copies [v0, v1, v2, v3] h) else none) ∧
  (∀ (a : Option Nat) (L st : List ZV) (h : PH), zev kX4_desk 79 (zvr a :: L) st h = zev kX4_desk 80 (zvr a :: L) (zvr a :: st) h) ∧
  (∀ (L st : List ZV) (h : PH), zev kX4_desk 80 L st h = zev kX4_desk 81 L (zvi 1 :: st) h) ∧
  (∀ (a : Int) (q : Nat) (L st : List ZV) (h : PH), zev kX4_desk 81 L (zvi a :: zvr (some q) :: st) h = if (ph_K h q).1 = 18 ∧ (a = 0 ∨ a = 1) then zev kX4_desk 84 L st (st_I h q 11 a) else none) ∧
  (∀ (a : Option Nat) (L st : List ZV) (h : PH), zev kX4_desk 84 (zvr a :: L) st h = zev kX4_desk 85 (zvr a :: L) (zvr a :: st) h) ∧
  (∀ (L st : List ZV) (h : PH), zev kX4_desk 85 L st h = zev kX4_desk 86 L (zvi 0 :: st) h) ∧
  (∀ (a : Int) (q : Nat) (L st : List ZV) (h : PH), zev kX4_desk 86 L (zvi a :: zvr (some q) :: st) h = if (ph_K h q).1 = 18 then zev kX4_desk 89 L st (st_I h q 10 a) else none) ∧
  (∀ (a : Option Nat) (L st : List ZV) (h : PH), zev kX4_desk 89 (zvr a :: L) st h = zev kX4_desk 90 (zvr a :: L) (zvr a :: st) h) ∧
  (∀ (q : Nat) (L st : List ZV) (h : PH), zev kX4_desk 90 L (zvr (some q) :: st) h = if (ph_K h q).1 % 1000 = 18 then zev kX4_desk 93 L (zvr (ph_R h q 6) :: st) h else none) ∧
  (∀ (L st : List ZV) (h : PH), zev kX4_desk 93 L st h = zev kX4_desk 94 L (zvi 4 :: st) h) ∧
  (∀ (j : Int) (q : Nat) (L st : List ZV) (h : PH), zev kX4_desk 94 L (zvi j :: zvr (some q) :: st) h = if (ph_K h q).1 % 1000 = 1 ∧ 0 ≤ j ∧ j < (ph_K h q).2 then zev kX4_desk 95 L (zvi (ph_I h q j) :: st) h else none) ∧
  (∀ (a : Int) (L : List ZV) (h : PH), zev kX4_desk 95 L [zvi a] h = zrv (zvi a) h) :=
  ⟨fun a L st h => e_ld0R (n := 1) rfl,
  fun x0 a L st h => e_ld1I (n := 2) rfl,
  fun L st h => e_push (v := zvi 0) (n := 3) rfl,
  fun a L st h => e_ld0R (n := 4) rfl,
  fun q L st h => e_getI (kd := 18) (k := 5) (n := 7) rfl,
  fun v0 v1 v2 L st h => e_callS3 (F := mX4_in) (n := 10) rfl,
  fun a L st h => e_ifeq (t := 17) (n := 13) rfl,
  fun L st h => e_push (v := zvi 0) (n := 14) rfl,
  fun L st h => e_goto (t := 18) rfl,
  fun L st h => e_push (v := zvi 2) (n := 18) rfl,
  fun v0 q L st h => e_callV2 (F := mX4_isRefused) (kd := 18) (n := 21) rfl,
  fun a L st h => e_ifeq (t := 26) (n := 24) rfl,
  fun L st h => e_push (v := zvi (-1)) (n := 25) rfl,
  fun a L h => e_retI rfl,
  fun a L st h => e_ld0R (n := 27) rfl,
  fun L st h => e_push (v := zvi 0) (n := 28) rfl,
  fun a q L st h => e_putI (kd := 18) (k := 5) (n := 31) rfl,
  fun a L st h => e_ld0R (n := 32) rfl,
  fun L st h => e_push (v := zvi 0) (n := 33) rfl,
  fun a q L st h => e_putI (kd := 18) (k := 2) (n := 36) rfl,
  fun a L st h => e_ld0R (n := 37) rfl,
  fun x0 a L st h => e_ld1I (n := 38) rfl,
  fun v0 q L st h => e_callV2 (F := mX4_readAll) (kd := 18) (n := 41) rfl,
  fun a L st h => e_ifne (t := 66) (n := 44) rfl,
  fun a L st h => e_ld0R (n := 45) rfl,
  fun a L st h => e_ld0R (n := 46) rfl,
  fun q L st h => e_getI (kd := 18) (k := 17) (n := 49) rfl,
  fun a q L st h => e_putI (kd := 18) (k := 2) (n := 52) rfl,
  fun a L st h => e_ld0R (n := 53) rfl,
  fun a L st h => e_ld0R (n := 54) rfl,
  fun q L st h => e_getI (kd := 18) (k := 18) (n := 57) rfl,
  fun a q L st h => e_putI (kd := 18) (k := 3) (n := 60) rfl,
  fun a L st h => e_ld0R (n := 61) rfl,
  fun L st h => e_push (v := zvi 4) (n := 62) rfl,
  fun v0 q L st h => e_callV2 (F := mX4_no) (kd := 18) (n := 65) rfl,
  fun a L h => e_retI rfl,
  fun a L st h => e_ld0R (n := 67) rfl,
  fun q L st h => e_getR (kd := 18) (k := 7) (n := 70) rfl,
  fun L st h => e_push (v := zvi 0) (n := 71) rfl,
  fun a L st h => e_ld0R (n := 72) rfl,
  fun q L st h => e_getR (kd := 18) (k := 6) (n := 75) rfl,
  fun L st h => e_push (v := zvi 0) (n := 76) rfl,
  fun v0 v1 v2 v3 L st h => e_callS4 (F := mX4_copies) (n := 79) rfl,
  fun a L st h => e_ld0R (n := 80) rfl,
  fun L st h => e_push (v := zvi 1) (n := 81) rfl,
  fun a q L st h => e_putZ (kd := 18) (k := 11) (n := 84) rfl,
  fun a L st h => e_ld0R (n := 85) rfl,
  fun L st h => e_push (v := zvi 0) (n := 86) rfl,
  fun a q L st h => e_putI (kd := 18) (k := 10) (n := 89) rfl,
  fun a L st h => e_ld0R (n := 90) rfl,
  fun q L st h => e_getR (kd := 18) (k := 6) (n := 93) rfl,
  fun L st h => e_push (v := zvi 4) (n := 94) rfl,
  fun j q L st h => e_ald (kd := 1) (n := 95) rfl,
  fun a L h => e_retI rfl⟩
theorem allX4_desk : zall yX4_desk cX4_desk 2 (some .int) 12 kX4_desk.1 :=
  ⟨k_aload_n dX4_desk_0,
  k_iload_n dX4_desk_1,
  k_iconst dX4_desk_2,
  k_aload_n dX4_desk_3,
  k_getI (C := RX4) (T := TX4) (N := 42) (ci := 2) (k := 5) (ref := "LinkTimesModel") dX4_desk_4 rfl in_X4 (by decide) q1804 (Or.inl rfl) (fun _ _ _ => rfl),
  k_callS (y2 := yX4_in) dX4_desk_7 sndX4_in q1943 q1944 q137 q1945 (by decide +kernel) ⟨by decide, by decide⟩ (by decide) (by decide),
  k_ifeq (t := 17) dX4_desk_10 (by decide),
  k_iconst dX4_desk_13,
  k_goto (t := 18) dX4_desk_14 (by decide),
  k_iconst dX4_desk_17,
  k_callV (y2 := yX4_isRefused) (C := RX4) (T0 := TX4) (ci := 2) dX4_desk_18 sndX4_isRefused rfl q1946 q1948 qs70 q137 q1949 (by decide +kernel) ⟨by decide, by decide⟩ (by decide) (by decide),
  k_ifeq (t := 26) dX4_desk_21 (by decide),
  k_iconst dX4_desk_24,
  k_iret dX4_desk_25,
  k_aload_n dX4_desk_26,
  k_iconst dX4_desk_27,
  k_putI (C := RX4) (T := TX4) (N := 42) (ci := 2) (k := 5) (ref := "LinkTimesModel") dX4_desk_28 rfl in_X4 tyX4 tyX4_ok nmX4 (by decide) (Or.inl q1804) (Or.inl rfl) (Or.inl rfl) (tyX4_ok 5 (by decide)) (fun _ _ _ => rfl),
  k_aload_n dX4_desk_31,
  k_iconst dX4_desk_32,
  k_putI (C := RX4) (T := TX4) (N := 42) (ci := 2) (k := 2) (ref := "LinkTimesModel") dX4_desk_33 rfl in_X4 tyX4 tyX4_ok nmX4 (by decide) (Or.inl q1801) (Or.inl rfl) (Or.inl rfl) (tyX4_ok 2 (by decide)) (fun _ _ _ => rfl),
  k_aload_n dX4_desk_36,
  k_iload_n dX4_desk_37,
  k_callV (y2 := yX4_readAll) (C := RX4) (T0 := TX4) (ci := 2) dX4_desk_38 sndX4_readAll rfl q1950 q1952 qs71 q137 q1953 (by decide +kernel) ⟨by decide, by decide⟩ (by decide) (by decide),
  k_ifne (t := 66) dX4_desk_41 (by decide),
  k_aload_n dX4_desk_44,
  k_aload_n dX4_desk_45,
  k_getI (C := RX4) (T := TX4) (N := 42) (ci := 2) (k := 17) (ref := "LinkTimesModel") dX4_desk_46 rfl in_X4 (by decide) q1816 (Or.inl rfl) (fun _ _ _ => rfl),
  k_putI (C := RX4) (T := TX4) (N := 42) (ci := 2) (k := 2) (ref := "LinkTimesModel") dX4_desk_49 rfl in_X4 tyX4 tyX4_ok nmX4 (by decide) (Or.inl q1801) (Or.inl rfl) (Or.inl rfl) (tyX4_ok 2 (by decide)) (fun _ _ _ => rfl),
  k_aload_n dX4_desk_52,
  k_aload_n dX4_desk_53,
  k_getI (C := RX4) (T := TX4) (N := 42) (ci := 2) (k := 18) (ref := "LinkTimesModel") dX4_desk_54 rfl in_X4 (by decide) q1817 (Or.inl rfl) (fun _ _ _ => rfl),
  k_putI (C := RX4) (T := TX4) (N := 42) (ci := 2) (k := 3) (ref := "LinkTimesModel") dX4_desk_57 rfl in_X4 tyX4 tyX4_ok nmX4 (by decide) (Or.inl q1802) (Or.inl rfl) (Or.inl rfl) (tyX4_ok 3 (by decide)) (fun _ _ _ => rfl),
  k_aload_n dX4_desk_60,
  k_iconst dX4_desk_61,
  k_callV (y2 := yX4_no) (C := RX4) (T0 := TX4) (ci := 2) dX4_desk_62 sndX4_no rfl q2050 q2052 qs90 q137 q2053 (by decide +kernel) ⟨by decide, by decide⟩ (by decide) (by decide),
  k_iret dX4_desk_65,
  k_aload_n dX4_desk_66,
  k_getR (C := RX4) (T := TX4) (N := 42) (ci := 2) (k := 7) (ref := "LinkTimesModel") dX4_desk_67 rfl in_X4 (by decide) q1806 (Or.inl rfl) (fun _ _ _ => rfl),
  k_iconst dX4_desk_70,
  k_aload_n dX4_desk_71,
  k_getR (C := RX4) (T := TX4) (N := 42) (ci := 2) (k := 6) (ref := "LinkTimesModel") dX4_desk_72 rfl in_X4 (by decide) q1805 (Or.inl rfl) (fun _ _ _ => rfl),
  k_iconst dX4_desk_75,
  k_callS (y2 := yX4_copies) dX4_desk_76 sndX4_copies q2054 q2055 q137 q2056 (by decide +kernel) ⟨by decide, by decide⟩ (by decide) (by decide),
  k_aload_n dX4_desk_79,
  k_iconst dX4_desk_80,
  k_putZ (C := RX4) (T := TX4) (N := 42) (ci := 2) (k := 11) (ref := "LinkTimesModel") dX4_desk_81 rfl in_X4 tyX4 tyX4_ok nmX4 (by decide) (Or.inl q1810) (Or.inl rfl) (Or.inl rfl) (tyX4_ok 11 (by decide)) (fun _ _ _ => rfl),
  k_aload_n dX4_desk_84,
  k_iconst dX4_desk_85,
  k_putI (C := RX4) (T := TX4) (N := 42) (ci := 2) (k := 10) (ref := "LinkTimesModel") dX4_desk_86 rfl in_X4 tyX4 tyX4_ok nmX4 (by decide) (Or.inl q1809) (Or.inl rfl) (Or.inl rfl) (tyX4_ok 10 (by decide)) (fun _ _ _ => rfl),
  k_aload_n dX4_desk_89,
  k_getR (C := RX4) (T := TX4) (N := 42) (ci := 2) (k := 6) (ref := "LinkTimesModel") dX4_desk_90 rfl in_X4 (by decide) q1805 (Or.inl rfl) (fun _ _ _ => rfl),
  k_iconst dX4_desk_93,
  k_iald dX4_desk_94,
  k_iret dX4_desk_95, trivial⟩
theorem sndX4_desk : MSound 12 yX4_desk (ws_ yX4_desk cX4_desk 2 (some .int)) mX4_desk := msound_M (by decide) allX4_desk (fun _ _ => rfl)
/-! LinkTimesModel.fault()I -/
noncomputable def kX4_fault : ZM := ([(0, zi_ld 1 0 1), (1, zi_push (zvi 0) 2), (2, zi_putI 18 0 5), (5, zi_ld 1 0 6), (6, zi_getI 18 2 9), (9, zi_retv 0)], fun _ _ => none)
noncomputable def mX4_fault : ZF := zrunM kX4_fault 1
theorem enX4_fault (x0 : Option Nat) (h : PH) : mX4_fault [zvr x0] h = zev kX4_fault 0 [zvr x0] [] h := zrunM_eq rfl rfl
theorem rX4_fault : (∀ (a : Option Nat) (L st : List ZV) (h : PH), zev kX4_fault 0 (zvr a :: L) st h = zev kX4_fault 1 (zvr a :: L) (zvr a :: st) h) ∧
  (∀ (L st : List ZV) (h : PH), zev kX4_fault 1 L st h = zev kX4_fault 2 L (zvi 0 :: st) h) ∧
  (∀ (a : Int) (q : Nat) (L st : List ZV) (h : PH), zev kX4_fault 2 L (zvi a :: zvr (some q) :: st) h = if (ph_K h q).1 = 18 then zev kX4_fault 5 L st (st_I h q 0 a) else none) ∧
  (∀ (a : Option Nat) (L st : List ZV) (h : PH), zev kX4_fault 5 (zvr a :: L) st h = zev kX4_fault 6 (zvr a :: L) (zvr a :: st) h) ∧
  (∀ (q : Nat) (L st : List ZV) (h : PH), zev kX4_fault 6 L (zvr (some q) :: st) h = if (ph_K h q).1 % 1000 = 18 then zev kX4_fault 9 L (zvi (ph_I h q 2) :: st) h else none) ∧
  (∀ (a : Int) (L : List ZV) (h : PH), zev kX4_fault 9 L [zvi a] h = zrv (zvi a) h) :=
  ⟨fun a L st h => e_ld0R (n := 1) rfl,
  fun L st h => e_push (v := zvi 0) (n := 2) rfl,
  fun a q L st h => e_putI (kd := 18) (k := 0) (n := 5) rfl,
  fun a L st h => e_ld0R (n := 6) rfl,
  fun q L st h => e_getI (kd := 18) (k := 2) (n := 9) rfl,
  fun a L h => e_retI rfl⟩
theorem allX4_fault : zall yX4_fault cX4_fault 1 (some .int) 1 kX4_fault.1 :=
  ⟨k_aload_n dX4_fault_0,
  k_iconst dX4_fault_1,
  k_putI (C := RX4) (T := TX4) (N := 42) (ci := 2) (k := 0) (ref := "LinkTimesModel") dX4_fault_2 rfl in_X4 tyX4 tyX4_ok nmX4 (by decide) (Or.inl q1799) (Or.inl rfl) (Or.inl rfl) (tyX4_ok 0 (by decide)) (fun _ _ _ => rfl),
  k_aload_n dX4_fault_5,
  k_getI (C := RX4) (T := TX4) (N := 42) (ci := 2) (k := 2) (ref := "LinkTimesModel") dX4_fault_6 rfl in_X4 (by decide) q1801 (Or.inl rfl) (fun _ _ _ => rfl),
  k_iret dX4_fault_9, trivial⟩
theorem sndX4_fault : MSound 1 yX4_fault (ws_ yX4_fault cX4_fault 1 (some .int)) mX4_fault := msound_M (by decide) allX4_fault (fun _ _ => rfl)
/-! LinkTimesModel.where()I -/
noncomputable def kX4_where : ZM := ([(0, zi_ld 1 0 1), (1, zi_push (zvi 0) 2), (2, zi_putI 18 0 5), (5, zi_ld 1 0 6), (6, zi_getI 18 1 9), (9, zi_push (zvi 4) 10), (10, zi_cmp zc_ne 20 13), (13, zi_ld 1 0 14), (14, zi_getI 18 3 17), (17, zi_goto 21), (20, zi_push (zvi (-1)) 21), (21, zi_retv 0)], fun _ _ => none)
noncomputable def mX4_where : ZF := zrunM kX4_where 1
theorem enX4_where (x0 : Option Nat) (h : PH) : mX4_where [zvr x0] h = zev kX4_where 0 [zvr x0] [] h := zrunM_eq rfl rfl
theorem rX4_where : (∀ (a : Option Nat) (L st : List ZV) (h : PH), zev kX4_where 0 (zvr a :: L) st h = zev kX4_where 1 (zvr a :: L) (zvr a :: st) h) ∧
  (∀ (L st : List ZV) (h : PH), zev kX4_where 1 L st h = zev kX4_where 2 L (zvi 0 :: st) h) ∧
  (∀ (a : Int) (q : Nat) (L st : List ZV) (h : PH), zev kX4_where 2 L (zvi a :: zvr (some q) :: st) h = if (ph_K h q).1 = 18 then zev kX4_where 5 L st (st_I h q 0 a) else none) ∧
  (∀ (a : Option Nat) (L st : List ZV) (h : PH), zev kX4_where 5 (zvr a :: L) st h = zev kX4_where 6 (zvr a :: L) (zvr a :: st) h) ∧
  (∀ (q : Nat) (L st : List ZV) (h : PH), zev kX4_where 6 L (zvr (some q) :: st) h = if (ph_K h q).1 % 1000 = 18 then zev kX4_where 9 L (zvi (ph_I h q 1) :: st) h else none) ∧
  (∀ (L st : List ZV) (h : PH), zev kX4_where 9 L st h = zev kX4_where 10 L (zvi 4 :: st) h) ∧
  (∀ (a b : Int) (L st : List ZV) (h : PH), zev kX4_where 10 L (zvi b :: zvi a :: st) h = if a ≠ b then zev kX4_where 20 L st h else zev kX4_where 13 L st h) ∧
  (∀ (a : Option Nat) (L st : List ZV) (h : PH), zev kX4_where 13 (zvr a :: L) st h = zev kX4_where 14 (zvr a :: L) (zvr a :: st) h) ∧
  (∀ (q : Nat) (L st : List ZV) (h : PH), zev kX4_where 14 L (zvr (some q) :: st) h = if (ph_K h q).1 % 1000 = 18 then zev kX4_where 17 L (zvi (ph_I h q 3) :: st) h else none) ∧
  (∀ (L st : List ZV) (h : PH), zev kX4_where 17 L st h = zev kX4_where 21 L st h) ∧
  (∀ (L st : List ZV) (h : PH), zev kX4_where 20 L st h = zev kX4_where 21 L (zvi (-1) :: st) h) ∧
  (∀ (a : Int) (L : List ZV) (h : PH), zev kX4_where 21 L [zvi a] h = zrv (zvi a) h) :=
  ⟨fun a L st h => e_ld0R (n := 1) rfl,
  fun L st h => e_push (v := zvi 0) (n := 2) rfl,
  fun a q L st h => e_putI (kd := 18) (k := 0) (n := 5) rfl,
  fun a L st h => e_ld0R (n := 6) rfl,
  fun q L st h => e_getI (kd := 18) (k := 1) (n := 9) rfl,
  fun L st h => e_push (v := zvi 4) (n := 10) rfl,
  fun a b L st h => e_cmpne (t := 20) (n := 13) rfl,
  fun a L st h => e_ld0R (n := 14) rfl,
  fun q L st h => e_getI (kd := 18) (k := 3) (n := 17) rfl,
  fun L st h => e_goto (t := 21) rfl,
  fun L st h => e_push (v := zvi (-1)) (n := 21) rfl,
  fun a L h => e_retI rfl⟩
theorem allX4_where : zall yX4_where cX4_where 1 (some .int) 1 kX4_where.1 :=
  ⟨k_aload_n dX4_where_0,
  k_iconst dX4_where_1,
  k_putI (C := RX4) (T := TX4) (N := 42) (ci := 2) (k := 0) (ref := "LinkTimesModel") dX4_where_2 rfl in_X4 tyX4 tyX4_ok nmX4 (by decide) (Or.inl q1799) (Or.inl rfl) (Or.inl rfl) (tyX4_ok 0 (by decide)) (fun _ _ _ => rfl),
  k_aload_n dX4_where_5,
  k_getI (C := RX4) (T := TX4) (N := 42) (ci := 2) (k := 1) (ref := "LinkTimesModel") dX4_where_6 rfl in_X4 (by decide) q1800 (Or.inl rfl) (fun _ _ _ => rfl),
  k_iconst dX4_where_9,
  k_cmpne (t := 20) dX4_where_10 (by decide),
  k_aload_n dX4_where_13,
  k_getI (C := RX4) (T := TX4) (N := 42) (ci := 2) (k := 3) (ref := "LinkTimesModel") dX4_where_14 rfl in_X4 (by decide) q1802 (Or.inl rfl) (fun _ _ _ => rfl),
  k_goto (t := 21) dX4_where_17 (by decide),
  k_iconst dX4_where_20,
  k_iret dX4_where_21, trivial⟩
theorem sndX4_where : MSound 1 yX4_where (ws_ yX4_where cX4_where 1 (some .int)) mX4_where := msound_M (by decide) allX4_where (fun _ _ => rfl)
/-! LinkTimesModel.unless(Z)I -/
noncomputable def kX4_unless : ZM := ([(0, zi_ld 0 0 1), (1, zi_if (fun a => zc_eq a 0) 8 4), (4, zi_push (zvi 0) 5), (5, zi_goto 9), (8, zi_push (zvi 1) 9), (9, zi_retv 0)], fun _ _ => none)
noncomputable def mX4_unless : ZF := zrunM kX4_unless 1
theorem enX4_unless (x0 : Int) (h : PH) : mX4_unless [zvi x0] h = zev kX4_unless 0 [zvi x0] [] h := zrunM_eq rfl rfl
theorem rX4_unless : (∀ (a : Int) (L st : List ZV) (h : PH), zev kX4_unless 0 (zvi a :: L) st h = zev kX4_unless 1 (zvi a :: L) (zvi a :: st) h) ∧
  (∀ (a : Int) (L st : List ZV) (h : PH), zev kX4_unless 1 L (zvi a :: st) h = if a = 0 then zev kX4_unless 8 L st h else zev kX4_unless 4 L st h) ∧
  (∀ (L st : List ZV) (h : PH), zev kX4_unless 4 L st h = zev kX4_unless 5 L (zvi 0 :: st) h) ∧
  (∀ (L st : List ZV) (h : PH), zev kX4_unless 5 L st h = zev kX4_unless 9 L st h) ∧
  (∀ (L st : List ZV) (h : PH), zev kX4_unless 8 L st h = zev kX4_unless 9 L (zvi 1 :: st) h) ∧
  (∀ (a : Int) (L : List ZV) (h : PH), zev kX4_unless 9 L [zvi a] h = zrv (zvi a) h) :=
  ⟨fun a L st h => e_ld0I (n := 1) rfl,
  fun a L st h => e_ifeq (t := 8) (n := 4) rfl,
  fun L st h => e_push (v := zvi 0) (n := 5) rfl,
  fun L st h => e_goto (t := 9) rfl,
  fun L st h => e_push (v := zvi 1) (n := 9) rfl,
  fun a L h => e_retI rfl⟩
theorem allX4_unless : zall yX4_unless cX4_unless 1 (some .int) 1 kX4_unless.1 :=
  ⟨k_iload_n dX4_unless_0,
  k_ifeq (t := 8) dX4_unless_1 (by decide),
  k_iconst dX4_unless_4,
  k_goto (t := 9) dX4_unless_5 (by decide),
  k_iconst dX4_unless_8,
  k_iret dX4_unless_9, trivial⟩
theorem sndX4_unless : MSound 1 yX4_unless (ws_ yX4_unless cX4_unless 1 (some .int)) mX4_unless := msound_M (by decide) allX4_unless (fun _ _ => rfl)
/-! LinkTimesModel.runs(I)Z -/
noncomputable def kX4_runs : ZM := ([(0, zi_ld 1 0 1), (1, zi_getR 18 6 4), (4, zi_ld 0 1 5), (5, zi_push (zvi 6) 7), (7, zi_callS mX4_at 2 10), (10, zi_ald 1 11), (11, zi_push (zvi 1) 12), (12, zi_cmp zc_ne 19 15), (15, zi_push (zvi 1) 16), (16, zi_goto 20), (19, zi_push (zvi 0) 20), (20, zi_retz)], fun _ _ => none)
noncomputable def mX4_runs : ZF := zrunM kX4_runs 2
theorem enX4_runs (x0 : Option Nat) (x1 : Int) (h : PH) : mX4_runs [zvr x0, zvi x1] h = zev kX4_runs 0 [zvr x0, zvi x1] [] h := zrunM_eq rfl rfl
theorem rX4_runs : (∀ (a : Option Nat) (L st : List ZV) (h : PH), zev kX4_runs 0 (zvr a :: L) st h = zev kX4_runs 1 (zvr a :: L) (zvr a :: st) h) ∧
  (∀ (q : Nat) (L st : List ZV) (h : PH), zev kX4_runs 1 L (zvr (some q) :: st) h = if (ph_K h q).1 % 1000 = 18 then zev kX4_runs 4 L (zvr (ph_R h q 6) :: st) h else none) ∧
  (∀ (x0 : ZV) (a : Int) (L st : List ZV) (h : PH), zev kX4_runs 4 (x0 :: zvi a :: L) st h = zev kX4_runs 5 (x0 :: zvi a :: L) (zvi a :: st) h) ∧
  (∀ (L st : List ZV) (h : PH), zev kX4_runs 5 L st h = zev kX4_runs 7 L (zvi 6 :: st) h) ∧
  (∀ (v0 v1 : ZV) (L st : List ZV) (h : PH), zev kX4_runs 7 L (v1 :: v0 :: st) h = if zcat st ≤ 8 then zk kX4_runs 7 10 L st (mX4_at [v0, v1] h) else none) ∧
  (∀ (j : Int) (q : Nat) (L st : List ZV) (h : PH), zev kX4_runs 10 L (zvi j :: zvr (some q) :: st) h = if (ph_K h q).1 % 1000 = 1 ∧ 0 ≤ j ∧ j < (ph_K h q).2 then zev kX4_runs 11 L (zvi (ph_I h q j) :: st) h else none) ∧
  (∀ (L st : List ZV) (h : PH), zev kX4_runs 11 L st h = zev kX4_runs 12 L (zvi 1 :: st) h) ∧
  (∀ (a b : Int) (L st : List ZV) (h : PH), zev kX4_runs 12 L (zvi b :: zvi a :: st) h = if a ≠ b then zev kX4_runs 19 L st h else zev kX4_runs 15 L st h) ∧
  (∀ (L st : List ZV) (h : PH), zev kX4_runs 15 L st h = zev kX4_runs 16 L (zvi 1 :: st) h) ∧
  (∀ (L st : List ZV) (h : PH), zev kX4_runs 16 L st h = zev kX4_runs 20 L st h) ∧
  (∀ (L st : List ZV) (h : PH), zev kX4_runs 19 L st h = zev kX4_runs 20 L (zvi 0 :: st) h) ∧
  (∀ (a : Int) (L : List ZV) (h : PH), zev kX4_runs 20 L [zvi a] h = if a = 0 ∨ a = 1 then zrv (zvi a) h else none) :=
  ⟨fun a L st h => e_ld0R (n := 1) rfl,
  fun q L st h => e_getR (kd := 18) (k := 6) (n := 4) rfl,
  fun x0 a L st h => e_ld1I (n := 5) rfl,
  fun L st h => e_push (v := zvi 6) (n := 7) rfl,
  fun v0 v1 L st h => e_callS2 (F := mX4_at) (n := 10) rfl,
  fun j q L st h => e_ald (kd := 1) (n := 11) rfl,
  fun L st h => e_push (v := zvi 1) (n := 12) rfl,
  fun a b L st h => e_cmpne (t := 19) (n := 15) rfl,
  fun L st h => e_push (v := zvi 1) (n := 16) rfl,
  fun L st h => e_goto (t := 20) rfl,
  fun L st h => e_push (v := zvi 0) (n := 20) rfl,
  fun a L h => e_retz rfl⟩
theorem allX4_runs : zall yX4_runs cX4_runs 2 (some .boolean) 2 kX4_runs.1 :=
  ⟨k_aload_n dX4_runs_0,
  k_getR (C := RX4) (T := TX4) (N := 42) (ci := 2) (k := 6) (ref := "LinkTimesModel") dX4_runs_1 rfl in_X4 (by decide) q1805 (Or.inl rfl) (fun _ _ _ => rfl),
  k_iload_n dX4_runs_4,
  k_bipush dX4_runs_5,
  k_callS (y2 := yX4_at) dX4_runs_7 sndX4_at q2047 q2048 q137 q2049 (by decide +kernel) ⟨by decide, by decide⟩ (by decide) (by decide),
  k_iald dX4_runs_10,
  k_iconst dX4_runs_11,
  k_cmpne (t := 19) dX4_runs_12 (by decide),
  k_iconst dX4_runs_15,
  k_goto (t := 20) dX4_runs_16 (by decide),
  k_iconst dX4_runs_19,
  k_zret dX4_runs_20, trivial⟩
theorem sndX4_runs : MSound 2 yX4_runs (ws_ yX4_runs cX4_runs 2 (some .boolean)) mX4_runs := msound_M (by decide) allX4_runs (fun _ _ => rfl)
/-! LinkTimesModel.runMany()I -/
noncomputable def kX4_runMany : ZM := ([(0, zi_push (zvi 0) 1), (1, zi_st 0 1 2), (2, zi_push (zvi 0) 3), (3, zi_st 0 2 4), (4, zi_ld 0 2 5), (5, zi_ld 1 0 6), (6, zi_getR 18 6 9), (9, zi_push (zvi 4) 10), (10, zi_ald 1 11), (11, zi_cmp zc_ge 36 14), (14, zi_ld 0 1 15), (15, zi_ld 1 0 16), (16, zi_ld 0 2 17), (17, zi_callV mX4_runs 18 2 20), (20, zi_if (fun a => zc_eq a 0) 27 23), (23, zi_push (zvi 1) 24), (24, zi_goto 28), (27, zi_push (zvi 0) 28), (28, zi_bin (fun a b => w32 (a + b)) 29), (29, zi_st 0 1 30), (30, zi_iinc 2 1 33), (33, zi_goto 4), (36, zi_ld 0 1 37), (37, zi_retv 0)], fun _ _ => none)
noncomputable def mX4_runMany : ZF := zrunM kX4_runMany 3
theorem enX4_runMany (x0 : Option Nat) (h : PH) : mX4_runMany [zvr x0] h = zev kX4_runMany 0 [zvr x0, zvu, zvu] [] h := zrunM_eq rfl rfl
theorem hdX4_runMany_4 (x0 x1 : ZV) (a : Int) (L st : List ZV) (h : PH) : zev kX4_runMany 4 (x0 :: x1 :: zvi a :: L) st h = zev kX4_runMany 5 (x0 :: x1 :: zvi a :: L) (zvi a :: st) h := e_ld2I (n := 5) rfl
theorem rX4_runMany : (∀ (L st : List ZV) (h : PH), zev kX4_runMany 0 L st h = zev kX4_runMany 1 L (zvi 0 :: st) h) ∧
  (∀ (x0 x1 : ZV) (a : Int) (L st : List ZV) (h : PH) (hx : zisL x0 = false) , zev kX4_runMany 1 (x0 :: x1 :: L) (zvi a :: st) h = zev kX4_runMany 2 (x0 :: zvi a :: L) st h) ∧
  (∀ (L st : List ZV) (h : PH), zev kX4_runMany 2 L st h = zev kX4_runMany 3 L (zvi 0 :: st) h) ∧
  (∀ (x0 x1 x2 : ZV) (a : Int) (L st : List ZV) (h : PH) (hx : zisL x1 = false) , zev kX4_runMany 3 (x0 :: x1 :: x2 :: L) (zvi a :: st) h = zev kX4_runMany 4 (x0 :: x1 :: zvi a :: L) st h) ∧
  (∀ (a : Option Nat) (L st : List ZV) (h : PH), zev kX4_runMany 5 (zvr a :: L) st h = zev kX4_runMany 6 (zvr a :: L) (zvr a :: st) h) ∧
  (∀ (q : Nat) (L st : List ZV) (h : PH), zev kX4_runMany 6 L (zvr (some q) :: st) h = if (ph_K h q).1 % 1000 = 18 then zev kX4_runMany 9 L (zvr (ph_R h q 6) :: st) h else none) ∧
  (∀ (L st : List ZV) (h : PH), zev kX4_runMany 9 L st h = zev kX4_runMany 10 L (zvi 4 :: st) h) ∧
  (∀ (j : Int) (q : Nat) (L st : List ZV) (h : PH), zev kX4_runMany 10 L (zvi j :: zvr (some q) :: st) h = if (ph_K h q).1 % 1000 = 1 ∧ 0 ≤ j ∧ j < (ph_K h q).2 then zev kX4_runMany 11 L (zvi (ph_I h q j) :: st) h else none) ∧
  (∀ (a b : Int) (L st : List ZV) (h : PH), zev kX4_runMany 11 L (zvi b :: zvi a :: st) h = if a ≥ b then zev kX4_runMany 36 L st h else zev kX4_runMany 14 L st h) ∧
  (∀ (x0 : ZV) (a : Int) (L st : List ZV) (h : PH), zev kX4_runMany 14 (x0 :: zvi a :: L) st h = zev kX4_runMany 15 (x0 :: zvi a :: L) (zvi a :: st) h) ∧
  (∀ (a : Option Nat) (L st : List ZV) (h : PH), zev kX4_runMany 15 (zvr a :: L) st h = zev kX4_runMany 16 (zvr a :: L) (zvr a :: st) h) ∧
  (∀ (x0 x1 : ZV) (a : Int) (L st : List ZV) (h : PH), zev kX4_runMany 16 (x0 :: x1 :: zvi a :: L) st h = zev kX4_runMany 17 (x0 :: x1 :: zvi a :: L) (zvi a :: st) h) ∧
  (∀ (v0 : ZV) (q : Nat) (L st : List ZV) (h : PH), zev kX4_runMany 17 L (v0 :: zvr (some q) :: st) h = if (ph_K h q).1 % 1000 = 18 ∧ zcat st ≤ 8 then zk kX4_runMany 17 20 L st (mX4_runs [zvr (some q), v0] h) else none) ∧
  (∀ (a : Int) (L st : List ZV) (h : PH), zev kX4_runMany 20 L (zvi a :: st) h = if a = 0 then zev kX4_runMany 27 L st h else zev kX4_runMany 23 L st h) ∧
  (∀ (L st : List ZV) (h : PH), zev kX4_runMany 23 L st h = zev kX4_runMany 24 L (zvi 1 :: st) h) ∧
  (∀ (L st : List ZV) (h : PH), zev kX4_runMany 24 L st h = zev kX4_runMany 28 L st h) ∧
  (∀ (L st : List ZV) (h : PH), zev kX4_runMany 27 L st h = zev kX4_runMany 28 L (zvi 0 :: st) h) ∧
  (∀ (a b : Int) (L st : List ZV) (h : PH), zev kX4_runMany 28 L (zvi b :: zvi a :: st) h = zev kX4_runMany 29 L (zvi (w32 (a + b)) :: st) h) ∧
  (∀ (x0 x1 : ZV) (a : Int) (L st : List ZV) (h : PH) (hx : zisL x0 = false) , zev kX4_runMany 29 (x0 :: x1 :: L) (zvi a :: st) h = zev kX4_runMany 30 (x0 :: zvi a :: L) st h) ∧
  (∀ (x0 x1 : ZV) (a : Int) (L st : List ZV) (h : PH) (hx : zisL x1 = false) , zev kX4_runMany 30 (x0 :: x1 :: zvi a :: L) st h = zev kX4_runMany 33 (x0 :: x1 :: zvi (w32 (a + 1)) :: L) st h) ∧
  (∀ (L st : List ZV) (h : PH), zev kX4_runMany 33 L st h = zev kX4_runMany 4 L st h) ∧
  (∀ (x0 : ZV) (a : Int) (L st : List ZV) (h : PH), zev kX4_runMany 36 (x0 :: zvi a :: L) st h = zev kX4_runMany 37 (x0 :: zvi a :: L) (zvi a :: st) h) ∧
  (∀ (a : Int) (L : List ZV) (h : PH), zev kX4_runMany 37 L [zvi a] h = zrv (zvi a) h) :=
  ⟨fun L st h => e_push (v := zvi 0) (n := 1) rfl,
  fun x0 x1 a L st h hx => e_st1I (n := 2) rfl hx,
  fun L st h => e_push (v := zvi 0) (n := 3) rfl,
  fun x0 x1 x2 a L st h hx => e_st2I (n := 4) rfl hx,
  fun a L st h => e_ld0R (n := 6) rfl,
  fun q L st h => e_getR (kd := 18) (k := 6) (n := 9) rfl,
  fun L st h => e_push (v := zvi 4) (n := 10) rfl,
  fun j q L st h => e_ald (kd := 1) (n := 11) rfl,
  fun a b L st h => e_cmpge (t := 36) (n := 14) rfl,
  fun x0 a L st h => e_ld1I (n := 15) rfl,
  fun a L st h => e_ld0R (n := 16) rfl,
  fun x0 x1 a L st h => e_ld2I (n := 17) rfl,
  fun v0 q L st h => e_callV2 (F := mX4_runs) (kd := 18) (n := 20) rfl,
  fun a L st h => e_ifeq (t := 27) (n := 23) rfl,
  fun L st h => e_push (v := zvi 1) (n := 24) rfl,
  fun L st h => e_goto (t := 28) rfl,
  fun L st h => e_push (v := zvi 0) (n := 28) rfl,
  fun a b L st h => e_bin (f := (fun a b => w32 (a + b))) (n := 29) rfl,
  fun x0 x1 a L st h hx => e_st1I (n := 30) rfl hx,
  fun x0 x1 a L st h hx => e_iinc2 (d := 1) (n := 33) rfl hx,
  fun L st h => e_goto (t := 4) rfl,
  fun x0 a L st h => e_ld1I (n := 37) rfl,
  fun a L h => e_retI rfl⟩
theorem allX4_runMany : zall yX4_runMany cX4_runMany 3 (some .int) 3 kX4_runMany.1 :=
  ⟨k_iconst dX4_runMany_0,
  k_istore_n dX4_runMany_1,
  k_iconst dX4_runMany_2,
  k_istore_n dX4_runMany_3,
  k_iload_n dX4_runMany_4,
  k_aload_n dX4_runMany_5,
  k_getR (C := RX4) (T := TX4) (N := 42) (ci := 2) (k := 6) (ref := "LinkTimesModel") dX4_runMany_6 rfl in_X4 (by decide) q1805 (Or.inl rfl) (fun _ _ _ => rfl),
  k_iconst dX4_runMany_9,
  k_iald dX4_runMany_10,
  k_cmpge (t := 36) dX4_runMany_11 (by decide),
  k_iload_n dX4_runMany_14,
  k_aload_n dX4_runMany_15,
  k_iload_n dX4_runMany_16,
  k_callV (y2 := yX4_runs) (C := RX4) (T0 := TX4) (ci := 2) dX4_runMany_17 sndX4_runs rfl q2076 q2078 qs92 q137 q2079 (by decide +kernel) ⟨by decide, by decide⟩ (by decide) (by decide),
  k_ifeq (t := 27) dX4_runMany_20 (by decide),
  k_iconst dX4_runMany_23,
  k_goto (t := 28) dX4_runMany_24 (by decide),
  k_iconst dX4_runMany_27,
  k_iadd dX4_runMany_28,
  k_istore_n dX4_runMany_29,
  k_iinc dX4_runMany_30,
  k_goto (t := 4) dX4_runMany_33 (by decide),
  k_iload_n dX4_runMany_36,
  k_iret dX4_runMany_37, trivial⟩
theorem sndX4_runMany : MSound 3 yX4_runMany (ws_ yX4_runMany cX4_runMany 3 (some .int)) mX4_runMany := msound_M (by decide) allX4_runMany (fun _ _ => rfl)
/-! LinkTimesModel.about(I)I -/
noncomputable def kX4_about : ZM := ([(0, zi_ld 1 0 1), (1, zi_ld 1 0 2), (2, zi_getI 18 11 5), (5, zi_if (fun a => zc_eq a 0) 21 8), (8, zi_ld 0 1 9), (9, zi_push (zvi 0) 10), (10, zi_push (zvi 5) 11), (11, zi_callS mX4_in 3 14), (14, zi_if (fun a => zc_eq a 0) 21 17), (17, zi_push (zvi 1) 18), (18, zi_goto 22), (21, zi_push (zvi 0) 22), (22, zi_callS mX4_unless 1 25), (25, zi_callV mX4_isRefused 18 2 28), (28, zi_if (fun a => zc_eq a 0) 33 31), (31, zi_push (zvi (-1)) 32), (32, zi_retv 0), (33, zi_ld 0 1 34), (34, zi_push (zvi 5) 35), (35, zi_cmp zc_ne 45 38), (38, zi_ld 1 0 39), (39, zi_callV mX4_runMany 18 1 42), (42, zi_goto 51), (45, zi_ld 1 0 46), (46, zi_getR 18 6 49), (49, zi_ld 0 1 50), (50, zi_ald 1 51), (51, zi_retv 0)], fun _ _ => none)
noncomputable def mX4_about : ZF := zrunM kX4_about 2
theorem enX4_about (x0 : Option Nat) (x1 : Int) (h : PH) : mX4_about [zvr x0, zvi x1] h = zev kX4_about 0 [zvr x0, zvi x1] [] h := zrunM_eq rfl rfl
theorem rX4_about : (∀ (a : Option Nat) (L st : List ZV) (h : PH), zev kX4_about 0 (zvr a :: L) st h = zev kX4_about 1 (zvr a :: L) (zvr a :: st) h) ∧
  (∀ (a : Option Nat) (L st : List ZV) (h : PH), zev kX4_about 1 (zvr a :: L) st h = zev kX4_about 2 (zvr a :: L) (zvr a :: st) h) ∧
  (∀ (q : Nat) (L st : List ZV) (h : PH), zev kX4_about 2 L (zvr (some q) :: st) h = if (ph_K h q).1 % 1000 = 18 then zev kX4_about 5 L (zvi (ph_I h q 11) :: st) h else none) ∧
  (∀ (a : Int) (L st : List ZV) (h : PH), zev kX4_about 5 L (zvi a :: st) h = if a = 0 then zev kX4_about 21 L st h else zev kX4_about 8 L st h) ∧
  (∀ (x0 : ZV) (a : Int) (L st : List ZV) (h : PH), zev kX4_about 8 (x0 :: zvi a :: L) st h = zev kX4_about 9 (x0 :: zvi a :: L) (zvi a :: st) h) ∧
  (∀ (L st : List ZV) (h : PH), zev kX4_about 9 L st h = zev kX4_about 10 L (zvi 0 :: st) h) ∧
  (∀ (L st : List ZV) (h : PH), zev kX4_about 10 L st h = zev kX4_about 11 L (zvi 5 :: st) h) ∧
  (∀ (v0 v1 v2 : ZV) (L st : List ZV) (h : PH), zev kX4_about 11 L (v2 :: v1 :: v0 :: st) h = if zcat st ≤ 8 then zk kX4_about 11 14 L st (mX4_in [v0, v1, v2] h) else none) ∧
  (∀ (a : Int) (L st : List ZV) (h : PH), zev kX4_about 14 L (zvi a :: st) h = if a = 0 then zev kX4_about 21 L st h else zev kX4_about 17 L st h) ∧
  (∀ (L st : List ZV) (h : PH), zev kX4_about 17 L st h = zev kX4_about 18 L (zvi 1 :: st) h) ∧
  (∀ (L st : List ZV) (h : PH), zev kX4_about 18 L st h = zev kX4_about 22 L st h) ∧
  (∀ (L st : List ZV) (h : PH), zev kX4_about 21 L st h = zev kX4_about 22 L (zvi 0 :: st) h) ∧
  (∀ (v0 : ZV) (L st : List ZV) (h : PH), zev kX4_about 22 L (v0 :: st) h = if zcat st ≤ 8 then zk kX4_about 22 25 L st (mX4_unless [v0] h) else none) ∧
  (∀ (v0 : ZV) (q : Nat) (L st : List ZV) (h : PH), zev kX4_about 25 L (v0 :: zvr (some q) :: st) h = if (ph_K h q).1 % 1000 = 18 ∧ zcat st ≤ 8 then zk kX4_about 25 28 L st (mX4_isRefused [zvr (some q), v0] h) else none) ∧
  (∀ (a : Int) (L st : List ZV) (h : PH), zev kX4_about 28 L (zvi a :: st) h = if a = 0 then zev kX4_about 33 L st h else zev kX4_about 31 L st h) ∧
  (∀ (L st : List ZV) (h : PH), zev kX4_about 31 L st h = zev kX4_about 32 L (zvi (-1) :: st) h) ∧
  (∀ (a : Int) (L : List ZV) (h : PH), zev kX4_about 32 L [zvi a] h = zrv (zvi a) h) ∧
  (∀ (x0 : ZV) (a : Int) (L st : List ZV) (h : PH), zev kX4_about 33 (x0 :: zvi a :: L) st h = zev kX4_about 34 (x0 :: zvi a :: L) (zvi a :: st) h) ∧
  (∀ (L st : List ZV) (h : PH), zev kX4_about 34 L st h = zev kX4_about 35 L (zvi 5 :: st) h) ∧
  (∀ (a b : Int) (L st : List ZV) (h : PH), zev kX4_about 35 L (zvi b :: zvi a :: st) h = if a ≠ b then zev kX4_about 45 L st h else zev kX4_about 38 L st h) ∧
  (∀ (a : Option Nat) (L st : List ZV) (h : PH), zev kX4_about 38 (zvr a :: L) st h = zev kX4_about 39 (zvr a :: L) (zvr a :: st) h) ∧
  (∀ (q : Nat) (L st : List ZV) (h : PH), zev kX4_about 39 L (zvr (some q) :: st) h = if (ph_K h q).1 % 1000 = 18 ∧ zcat st ≤ 8 then zk kX4_about 39 42 L st (mX4_runMany [zvr (some q)] h) else none) ∧
  (∀ (L st : List ZV) (h : PH), zev kX4_about 42 L st h = zev kX4_about 51 L st h) ∧
  (∀ (a : Option Nat) (L st : List ZV) (h : PH), zev kX4_about 45 (zvr a :: L) st h = zev kX4_about 46 (zvr a :: L) (zvr a :: st) h) ∧
  (∀ (q : Nat) (L st : List ZV) (h : PH), zev kX4_about 46 L (zvr (some q) :: st) h = if (ph_K h q).1 % 1000 = 18 then zev kX4_about 49 L (zvr (ph_R h q 6) :: st) h else none) ∧
  (∀ (x0 : ZV) (a : Int) (L st : List ZV) (h : PH), zev kX4_about 49 (x0 :: zvi a :: L) st h = zev kX4_about 50 (x0 :: zvi a :: L) (zvi a :: st) h) ∧
  (∀ (j : Int) (q : Nat) (L st : List ZV) (h : PH), zev kX4_about 50 L (zvi j :: zvr (some q) :: st) h = if (ph_K h q).1 % 1000 = 1 ∧ 0 ≤ j ∧ j < (ph_K h q).2 then zev kX4_about 51 L (zvi (ph_I h q j) :: st) h else none) ∧
  (∀ (a : Int) (L : List ZV) (h : PH), zev kX4_about 51 L [zvi a] h = zrv (zvi a) h) :=
  ⟨fun a L st h => e_ld0R (n := 1) rfl,
  fun a L st h => e_ld0R (n := 2) rfl,
  fun q L st h => e_getI (kd := 18) (k := 11) (n := 5) rfl,
  fun a L st h => e_ifeq (t := 21) (n := 8) rfl,
  fun x0 a L st h => e_ld1I (n := 9) rfl,
  fun L st h => e_push (v := zvi 0) (n := 10) rfl,
  fun L st h => e_push (v := zvi 5) (n := 11) rfl,
  fun v0 v1 v2 L st h => e_callS3 (F := mX4_in) (n := 14) rfl,
  fun a L st h => e_ifeq (t := 21) (n := 17) rfl,
  fun L st h => e_push (v := zvi 1) (n := 18) rfl,
  fun L st h => e_goto (t := 22) rfl,
  fun L st h => e_push (v := zvi 0) (n := 22) rfl,
  fun v0 L st h => e_callS1 (F := mX4_unless) (n := 25) rfl,
  fun v0 q L st h => e_callV2 (F := mX4_isRefused) (kd := 18) (n := 28) rfl,
  fun a L st h => e_ifeq (t := 33) (n := 31) rfl,
  fun L st h => e_push (v := zvi (-1)) (n := 32) rfl,
  fun a L h => e_retI rfl,
  fun x0 a L st h => e_ld1I (n := 34) rfl,
  fun L st h => e_push (v := zvi 5) (n := 35) rfl,
  fun a b L st h => e_cmpne (t := 45) (n := 38) rfl,
  fun a L st h => e_ld0R (n := 39) rfl,
  fun q L st h => e_callV1 (F := mX4_runMany) (kd := 18) (n := 42) rfl,
  fun L st h => e_goto (t := 51) rfl,
  fun a L st h => e_ld0R (n := 46) rfl,
  fun q L st h => e_getR (kd := 18) (k := 6) (n := 49) rfl,
  fun x0 a L st h => e_ld1I (n := 50) rfl,
  fun j q L st h => e_ald (kd := 1) (n := 51) rfl,
  fun a L h => e_retI rfl⟩
theorem allX4_about : zall yX4_about cX4_about 2 (some .int) 4 kX4_about.1 :=
  ⟨k_aload_n dX4_about_0,
  k_aload_n dX4_about_1,
  k_getI (C := RX4) (T := TX4) (N := 42) (ci := 2) (k := 11) (ref := "LinkTimesModel") dX4_about_2 rfl in_X4 (by decide) q1810 (Or.inl rfl) (fun _ _ _ => rfl),
  k_ifeq (t := 21) dX4_about_5 (by decide),
  k_iload_n dX4_about_8,
  k_iconst dX4_about_9,
  k_iconst dX4_about_10,
  k_callS (y2 := yX4_in) dX4_about_11 sndX4_in q1943 q1944 q137 q1945 (by decide +kernel) ⟨by decide, by decide⟩ (by decide) (by decide),
  k_ifeq (t := 21) dX4_about_14 (by decide),
  k_iconst dX4_about_17,
  k_goto (t := 22) dX4_about_18 (by decide),
  k_iconst dX4_about_21,
  k_callS (y2 := yX4_unless) dX4_about_22 sndX4_unless q2069 q2070 q137 q2071 (by decide +kernel) ⟨by decide, by decide⟩ (by decide) (by decide),
  k_callV (y2 := yX4_isRefused) (C := RX4) (T0 := TX4) (ci := 2) dX4_about_25 sndX4_isRefused rfl q1946 q1948 qs70 q137 q1949 (by decide +kernel) ⟨by decide, by decide⟩ (by decide) (by decide),
  k_ifeq (t := 33) dX4_about_28 (by decide),
  k_iconst dX4_about_31,
  k_iret dX4_about_32,
  k_iload_n dX4_about_33,
  k_iconst dX4_about_34,
  k_cmpne (t := 45) dX4_about_35 (by decide),
  k_aload_n dX4_about_38,
  k_callV (y2 := yX4_runMany) (C := RX4) (T0 := TX4) (ci := 2) dX4_about_39 sndX4_runMany rfl q2072 q2074 qs91 q137 q2075 (by decide +kernel) ⟨by decide, by decide⟩ (by decide) (by decide),
  k_goto (t := 51) dX4_about_42 (by decide),
  k_aload_n dX4_about_45,
  k_getR (C := RX4) (T := TX4) (N := 42) (ci := 2) (k := 6) (ref := "LinkTimesModel") dX4_about_46 rfl in_X4 (by decide) q1805 (Or.inl rfl) (fun _ _ _ => rfl),
  k_iload_n dX4_about_49,
  k_iald dX4_about_50,
  k_iret dX4_about_51, trivial⟩
theorem sndX4_about : MSound 4 yX4_about (ws_ yX4_about cX4_about 2 (some .int)) mX4_about := msound_M (by decide) allX4_about (fun _ _ => rfl)
/-! LinkTimesModel.isSpot(I)Z -/
noncomputable def kX4_isSpot : ZM := ([(0, zi_ld 1 0 1), (1, zi_getI 18 11 4), (4, zi_if (fun a => zc_eq a 0) 27 7), (7, zi_ld 0 1 8), (8, zi_push (zvi 0) 9), (9, zi_ld 1 0 10), (10, zi_getR 18 6 13), (13, zi_push (zvi 1) 14), (14, zi_ald 1 15), (15, zi_push (zvi 1) 16), (16, zi_bin (fun a b => w32 (a - b)) 17), (17, zi_callS mX4_in 3 20), (20, zi_if (fun a => zc_eq a 0) 27 23), (23, zi_push (zvi 1) 24), (24, zi_goto 28), (27, zi_push (zvi 0) 28), (28, zi_retz)], fun _ _ => none)
noncomputable def mX4_isSpot : ZF := zrunM kX4_isSpot 2
theorem enX4_isSpot (x0 : Option Nat) (x1 : Int) (h : PH) : mX4_isSpot [zvr x0, zvi x1] h = zev kX4_isSpot 0 [zvr x0, zvi x1] [] h := zrunM_eq rfl rfl
theorem rX4_isSpot : (∀ (a : Option Nat) (L st : List ZV) (h : PH), zev kX4_isSpot 0 (zvr a :: L) st h = zev kX4_isSpot 1 (zvr a :: L) (zvr a :: st) h) ∧
  (∀ (q : Nat) (L st : List ZV) (h : PH), zev kX4_isSpot 1 L (zvr (some q) :: st) h = if (ph_K h q).1 % 1000 = 18 then zev kX4_isSpot 4 L (zvi (ph_I h q 11) :: st) h else none) ∧
  (∀ (a : Int) (L st : List ZV) (h : PH), zev kX4_isSpot 4 L (zvi a :: st) h = if a = 0 then zev kX4_isSpot 27 L st h else zev kX4_isSpot 7 L st h) ∧
  (∀ (x0 : ZV) (a : Int) (L st : List ZV) (h : PH), zev kX4_isSpot 7 (x0 :: zvi a :: L) st h = zev kX4_isSpot 8 (x0 :: zvi a :: L) (zvi a :: st) h) ∧
  (∀ (L st : List ZV) (h : PH), zev kX4_isSpot 8 L st h = zev kX4_isSpot 9 L (zvi 0 :: st) h) ∧
  (∀ (a : Option Nat) (L st : List ZV) (h : PH), zev kX4_isSpot 9 (zvr a :: L) st h = zev kX4_isSpot 10 (zvr a :: L) (zvr a :: st) h) ∧
  (∀ (q : Nat) (L st : List ZV) (h : PH), zev kX4_isSpot 10 L (zvr (some q) :: st) h = if (ph_K h q).1 % 1000 = 18 then zev kX4_isSpot 13 L (zvr (ph_R h q 6) :: st) h else none) ∧
  (∀ (L st : List ZV) (h : PH), zev kX4_isSpot 13 L st h = zev kX4_isSpot 14 L (zvi 1 :: st) h) ∧
  (∀ (j : Int) (q : Nat) (L st : List ZV) (h : PH), zev kX4_isSpot 14 L (zvi j :: zvr (some q) :: st) h = if (ph_K h q).1 % 1000 = 1 ∧ 0 ≤ j ∧ j < (ph_K h q).2 then zev kX4_isSpot 15 L (zvi (ph_I h q j) :: st) h else none) ∧
  (∀ (L st : List ZV) (h : PH), zev kX4_isSpot 15 L st h = zev kX4_isSpot 16 L (zvi 1 :: st) h) ∧
  (∀ (a b : Int) (L st : List ZV) (h : PH), zev kX4_isSpot 16 L (zvi b :: zvi a :: st) h = zev kX4_isSpot 17 L (zvi (w32 (a - b)) :: st) h) ∧
  (∀ (v0 v1 v2 : ZV) (L st : List ZV) (h : PH), zev kX4_isSpot 17 L (v2 :: v1 :: v0 :: st) h = if zcat st ≤ 8 then zk kX4_isSpot 17 20 L st (mX4_in [v0, v1, v2] h) else none) ∧
  (∀ (a : Int) (L st : List ZV) (h : PH), zev kX4_isSpot 20 L (zvi a :: st) h = if a = 0 then zev kX4_isSpot 27 L st h else zev kX4_isSpot 23 L st h) ∧
  (∀ (L st : List ZV) (h : PH), zev kX4_isSpot 23 L st h = zev kX4_isSpot 24 L (zvi 1 :: st) h) ∧
  (∀ (L st : List ZV) (h : PH), zev kX4_isSpot 24 L st h = zev kX4_isSpot 28 L st h) ∧
  (∀ (L st : List ZV) (h : PH), zev kX4_isSpot 27 L st h = zev kX4_isSpot 28 L (zvi 0 :: st) h) ∧
  (∀ (a : Int) (L : List ZV) (h : PH), zev kX4_isSpot 28 L [zvi a] h = if a = 0 ∨ a = 1 then zrv (zvi a) h else none) :=
  ⟨fun a L st h => e_ld0R (n := 1) rfl,
  fun q L st h => e_getI (kd := 18) (k := 11) (n := 4) rfl,
  fun a L st h => e_ifeq (t := 27) (n := 7) rfl,
  fun x0 a L st h => e_ld1I (n := 8) rfl,
  fun L st h => e_push (v := zvi 0) (n := 9) rfl,
  fun a L st h => e_ld0R (n := 10) rfl,
  fun q L st h => e_getR (kd := 18) (k := 6) (n := 13) rfl,
  fun L st h => e_push (v := zvi 1) (n := 14) rfl,
  fun j q L st h => e_ald (kd := 1) (n := 15) rfl,
  fun L st h => e_push (v := zvi 1) (n := 16) rfl,
  fun a b L st h => e_bin (f := (fun a b => w32 (a - b))) (n := 17) rfl,
  fun v0 v1 v2 L st h => e_callS3 (F := mX4_in) (n := 20) rfl,
  fun a L st h => e_ifeq (t := 27) (n := 23) rfl,
  fun L st h => e_push (v := zvi 1) (n := 24) rfl,
  fun L st h => e_goto (t := 28) rfl,
  fun L st h => e_push (v := zvi 0) (n := 28) rfl,
  fun a L h => e_retz rfl⟩
theorem allX4_isSpot : zall yX4_isSpot cX4_isSpot 2 (some .boolean) 2 kX4_isSpot.1 :=
  ⟨k_aload_n dX4_isSpot_0,
  k_getI (C := RX4) (T := TX4) (N := 42) (ci := 2) (k := 11) (ref := "LinkTimesModel") dX4_isSpot_1 rfl in_X4 (by decide) q1810 (Or.inl rfl) (fun _ _ _ => rfl),
  k_ifeq (t := 27) dX4_isSpot_4 (by decide),
  k_iload_n dX4_isSpot_7,
  k_iconst dX4_isSpot_8,
  k_aload_n dX4_isSpot_9,
  k_getR (C := RX4) (T := TX4) (N := 42) (ci := 2) (k := 6) (ref := "LinkTimesModel") dX4_isSpot_10 rfl in_X4 (by decide) q1805 (Or.inl rfl) (fun _ _ _ => rfl),
  k_iconst dX4_isSpot_13,
  k_iald dX4_isSpot_14,
  k_iconst dX4_isSpot_15,
  k_isub dX4_isSpot_16,
  k_callS (y2 := yX4_in) dX4_isSpot_17 sndX4_in q1943 q1944 q137 q1945 (by decide +kernel) ⟨by decide, by decide⟩ (by decide) (by decide),
  k_ifeq (t := 27) dX4_isSpot_20 (by decide),
  k_iconst dX4_isSpot_23,
  k_goto (t := 28) dX4_isSpot_24 (by decide),
  k_iconst dX4_isSpot_27,
  k_zret dX4_isSpot_28, trivial⟩
theorem sndX4_isSpot : MSound 2 yX4_isSpot (ws_ yX4_isSpot cX4_isSpot 2 (some .boolean)) mX4_isSpot := msound_M (by decide) allX4_isSpot (fun _ _ => rfl)
/-! LinkTimesModel.runsBy(II)I -/
noncomputable def kX4_runsBy : ZM := ([(0, zi_push (zvi 0) 1), (1, zi_st 0 3 2), (2, zi_push (zvi 0) 3), (3, zi_st 0 4 5), (5, zi_ld 0 4 7), (7, zi_ld 1 0 8), (8, zi_getR 18 6 11), (11, zi_push (zvi 4) 12), (12, zi_ald 1 13), (13, zi_cmp zc_ge 54 16), (16, zi_ld 0 3 17), (17, zi_ld 1 0 18), (18, zi_ld 0 4 20), (20, zi_callV mX4_runs 18 2 23), (23, zi_if (fun a => zc_eq a 0) 45 26), (26, zi_ld 1 0 27), (27, zi_getR 18 6 30), (30, zi_ld 0 4 32), (32, zi_ld 0 2 33), (33, zi_callS mX4_at 2 36), (36, zi_ald 1 37), (37, zi_ld 0 1 38), (38, zi_cmp zc_ne 45 41), (41, zi_push (zvi 1) 42), (42, zi_goto 46), (45, zi_push (zvi 0) 46), (46, zi_bin (fun a b => w32 (a + b)) 47), (47, zi_st 0 3 48), (48, zi_iinc 4 1 51), (51, zi_goto 5), (54, zi_ld 0 3 55), (55, zi_retv 0)], fun _ _ => none)
noncomputable def mX4_runsBy : ZF := zrunM kX4_runsBy 5
theorem enX4_runsBy (x0 : Option Nat) (x1 : Int) (x2 : Int) (h : PH) : mX4_runsBy [zvr x0, zvi x1, zvi x2] h = zev kX4_runsBy 0 [zvr x0, zvi x1, zvi x2, zvu, zvu] [] h := zrunM_eq rfl rfl
theorem hdX4_runsBy_5 (x0 x1 x2 x3 : ZV) (a : Int) (L st : List ZV) (h : PH) : zev kX4_runsBy 5 (x0 :: x1 :: x2 :: x3 :: zvi a :: L) st h = zev kX4_runsBy 7 (x0 :: x1 :: x2 :: x3 :: zvi a :: L) (zvi a :: st) h := e_ld4I (n := 7) rfl
theorem rX4_runsBy : (∀ (L st : List ZV) (h : PH), zev kX4_runsBy 0 L st h = zev kX4_runsBy 1 L (zvi 0 :: st) h) ∧
  (∀ (x0 x1 x2 x3 : ZV) (a : Int) (L st : List ZV) (h : PH) (hx : zisL x2 = false) , zev kX4_runsBy 1 (x0 :: x1 :: x2 :: x3 :: L) (zvi a :: st) h = zev kX4_runsBy 2 (x0 :: x1 :: x2 :: zvi a :: L) st h) ∧
  (∀ (L st : List ZV) (h : PH), zev kX4_runsBy 2 L st h = zev kX4_runsBy 3 L (zvi 0 :: st) h) ∧
  (∀ (x0 x1 x2 x3 x4 : ZV) (a : Int) (L st : List ZV) (h : PH) (hx : zisL x3 = false) , zev kX4_runsBy 3 (x0 :: x1 :: x2 :: x3 :: x4 :: L) (zvi a :: st) h = zev kX4_runsBy 5 (x0 :: x1 :: x2 :: x3 :: zvi a :: L) st h) ∧
  (∀ (a : Option Nat) (L st : List ZV) (h : PH), zev kX4_runsBy 7 (zvr a :: L) st h = zev kX4_runsBy 8 (zvr a :: L) (zvr a :: st) h) ∧
  (∀ (q : Nat) (L st : List ZV) (h : PH), zev kX4_runsBy 8 L (zvr (some q) :: st) h = if (ph_K h q).1 % 1000 = 18 then zev kX4_runsBy 11 L (zvr (ph_R h q 6) :: st) h else none) ∧
  (∀ (L st : List ZV) (h : PH), zev kX4_runsBy 11 L st h = zev kX4_runsBy 12 L (zvi 4 :: st) h) ∧
  (∀ (j : Int) (q : Nat) (L st : List ZV) (h : PH), zev kX4_runsBy 12 L (zvi j :: zvr (some q) :: st) h = if (ph_K h q).1 % 1000 = 1 ∧ 0 ≤ j ∧ j < (ph_K h q).2 then zev kX4_runsBy 13 L (zvi (ph_I h q j) :: st) h else none) ∧
  (∀ (a b : Int) (L st : List ZV) (h : PH), zev kX4_runsBy 13 L (zvi b :: zvi a :: st) h = if a ≥ b then zev kX4_runsBy 54 L st h else zev kX4_runsBy 16 L st h) ∧
  (∀ (x0 x1 x2 : ZV) (a : Int) (L st : List ZV) (h : PH), zev kX4_runsBy 16 (x0 :: x1 :: x2 :: zvi a :: L) st h = zev kX4_runsBy 17 (x0 :: x1 :: x2 :: zvi a :: L) (zvi a :: st) h) ∧
  (∀ (a : Option Nat) (L st : List ZV) (h : PH), zev kX4_runsBy 17 (zvr a :: L) st h = zev kX4_runsBy 18 (zvr a :: L) (zvr a :: st) h) ∧
  (∀ (x0 x1 x2 x3 : ZV) (a : Int) (L st : List ZV) (h : PH), zev kX4_runsBy 18 (x0 :: x1 :: x2 :: x3 :: zvi a :: L) st h = zev kX4_runsBy 20 (x0 :: x1 :: x2 :: x3 :: zvi a :: L) (zvi a :: st) h) ∧
  (∀ (v0 : ZV) (q : Nat) (L st : List ZV) (h : PH), zev kX4_runsBy 20 L (v0 :: zvr (some q) :: st) h = if (ph_K h q).1 % 1000 = 18 ∧ zcat st ≤ 8 then zk kX4_runsBy 20 23 L st (mX4_runs [zvr (some q), v0] h) else none) ∧
  (∀ (a : Int) (L st : List ZV) (h : PH), zev kX4_runsBy 23 L (zvi a :: st) h = if a = 0 then zev kX4_runsBy 45 L st h else zev kX4_runsBy 26 L st h) ∧
  (∀ (a : Option Nat) (L st : List ZV) (h : PH), zev kX4_runsBy 26 (zvr a :: L) st h = zev kX4_runsBy 27 (zvr a :: L) (zvr a :: st) h) ∧
  (∀ (q : Nat) (L st : List ZV) (h : PH), zev kX4_runsBy 27 L (zvr (some q) :: st) h = if (ph_K h q).1 % 1000 = 18 then zev kX4_runsBy 30 L (zvr (ph_R h q 6) :: st) h else none) ∧
  (∀ (x0 x1 x2 x3 : ZV) (a : Int) (L st : List ZV) (h : PH), zev kX4_runsBy 30 (x0 :: x1 :: x2 :: x3 :: zvi a :: L) st h = zev kX4_runsBy 32 (x0 :: x1 :: x2 :: x3 :: zvi a :: L) (zvi a :: st) h) ∧
  (∀ (x0 x1 : ZV) (a : Int) (L st : List ZV) (h : PH), zev kX4_runsBy 32 (x0 :: x1 :: zvi a :: L) st h = zev kX4_runsBy 33 (x0 :: x1 :: zvi a :: L) (zvi a :: st) h) ∧
  (∀ (v0 v1 : ZV) (L st : List ZV) (h : PH), zev kX4_runsBy 33 L (v1 :: v0 :: st) h = if zcat st ≤ 8 then zk kX4_runsBy 33 36 L st (mX4_at [v0, v1] h) else none) ∧
  (∀ (j : Int) (q : Nat) (L st : List ZV) (h : PH), zev kX4_runsBy 36 L (zvi j :: zvr (some q) :: st) h = if (ph_K h q).1 % 1000 = 1 ∧ 0 ≤ j ∧ j < (ph_K h q).2 then zev kX4_runsBy 37 L (zvi (ph_I h q j) :: st) h else none) ∧
  (∀ (x0 : ZV) (a : Int) (L st : List ZV) (h : PH), zev kX4_runsBy 37 (x0 :: zvi a :: L) st h = zev kX4_runsBy 38 (x0 :: zvi a :: L) (zvi a :: st) h) ∧
  (∀ (a b : Int) (L st : List ZV) (h : PH), zev kX4_runsBy 38 L (zvi b :: zvi a :: st) h = if a ≠ b then zev kX4_runsBy 45 L st h else zev kX4_runsBy 41 L st h) ∧
  (∀ (L st : List ZV) (h : PH), zev kX4_runsBy 41 L st h = zev kX4_runsBy 42 L (zvi 1 :: st) h) ∧
  (∀ (L st : List ZV) (h : PH), zev kX4_runsBy 42 L st h = zev kX4_runsBy 46 L st h) ∧
  (∀ (L st : List ZV) (h : PH), zev kX4_runsBy 45 L st h = zev kX4_runsBy 46 L (zvi 0 :: st) h) ∧
  (∀ (a b : Int) (L st : List ZV) (h : PH), zev kX4_runsBy 46 L (zvi b :: zvi a :: st) h = zev kX4_runsBy 47 L (zvi (w32 (a + b)) :: st) h) ∧
  (∀ (x0 x1 x2 x3 : ZV) (a : Int) (L st : List ZV) (h : PH) (hx : zisL x2 = false) , zev kX4_runsBy 47 (x0 :: x1 :: x2 :: x3 :: L) (zvi a :: st) h = zev kX4_runsBy 48 (x0 :: x1 :: x2 :: zvi a :: L) st h) ∧
  (∀ (x0 x1 x2 x3 : ZV) (a : Int) (L st : List ZV) (h : PH) (hx : zisL x3 = false) , zev kX4_runsBy 48 (x0 :: x1 :: x2 :: x3 :: zvi a :: L) st h = zev kX4_runsBy 51 (x0 :: x1 :: x2 :: x3 :: zvi (w32 (a + 1)) :: L) st h) ∧
  (∀ (L st : List ZV) (h : PH), zev kX4_runsBy 51 L st h = zev kX4_runsBy 5 L st h) ∧
  (∀ (x0 x1 x2 : ZV) (a : Int) (L st : List ZV) (h : PH), zev kX4_runsBy 54 (x0 :: x1 :: x2 :: zvi a :: L) st h = zev kX4_runsBy 55 (x0 :: x1 :: x2 :: zvi a :: L) (zvi a :: st) h) ∧
  (∀ (a : Int) (L : List ZV) (h : PH), zev kX4_runsBy 55 L [zvi a] h = zrv (zvi a) h) :=
  ⟨fun L st h => e_push (v := zvi 0) (n := 1) rfl,
  fun x0 x1 x2 x3 a L st h hx => e_st3I (n := 2) rfl hx,
  fun L st h => e_push (v := zvi 0) (n := 3) rfl,
  fun x0 x1 x2 x3 x4 a L st h hx => e_st4I (n := 5) rfl hx,
  fun a L st h => e_ld0R (n := 8) rfl,
  fun q L st h => e_getR (kd := 18) (k := 6) (n := 11) rfl,
  fun L st h => e_push (v := zvi 4) (n := 12) rfl,
  fun j q L st h => e_ald (kd := 1) (n := 13) rfl,
  fun a b L st h => e_cmpge (t := 54) (n := 16) rfl,
  fun x0 x1 x2 a L st h => e_ld3I (n := 17) rfl,
  fun a L st h => e_ld0R (n := 18) rfl,
  fun x0 x1 x2 x3 a L st h => e_ld4I (n := 20) rfl,
  fun v0 q L st h => e_callV2 (F := mX4_runs) (kd := 18) (n := 23) rfl,
  fun a L st h => e_ifeq (t := 45) (n := 26) rfl,
  fun a L st h => e_ld0R (n := 27) rfl,
  fun q L st h => e_getR (kd := 18) (k := 6) (n := 30) rfl,
  fun x0 x1 x2 x3 a L st h => e_ld4I (n := 32) rfl,
  fun x0 x1 a L st h => e_ld2I (n := 33) rfl,
  fun v0 v1 L st h => e_callS2 (F := mX4_at) (n := 36) rfl,
  fun j q L st h => e_ald (kd := 1) (n := 37) rfl,
  fun x0 a L st h => e_ld1I (n := 38) rfl,
  fun a b L st h => e_cmpne (t := 45) (n := 41) rfl,
  fun L st h => e_push (v := zvi 1) (n := 42) rfl,
  fun L st h => e_goto (t := 46) rfl,
  fun L st h => e_push (v := zvi 0) (n := 46) rfl,
  fun a b L st h => e_bin (f := (fun a b => w32 (a + b))) (n := 47) rfl,
  fun x0 x1 x2 x3 a L st h hx => e_st3I (n := 48) rfl hx,
  fun x0 x1 x2 x3 a L st h hx => e_iinc4 (d := 1) (n := 51) rfl hx,
  fun L st h => e_goto (t := 5) rfl,
  fun x0 x1 x2 a L st h => e_ld3I (n := 55) rfl,
  fun a L h => e_retI rfl⟩
theorem allX4_runsBy : zall yX4_runsBy cX4_runsBy 5 (some .int) 3 kX4_runsBy.1 :=
  ⟨k_iconst dX4_runsBy_0,
  k_istore_n dX4_runsBy_1,
  k_iconst dX4_runsBy_2,
  k_istore dX4_runsBy_3,
  k_iload dX4_runsBy_5,
  k_aload_n dX4_runsBy_7,
  k_getR (C := RX4) (T := TX4) (N := 42) (ci := 2) (k := 6) (ref := "LinkTimesModel") dX4_runsBy_8 rfl in_X4 (by decide) q1805 (Or.inl rfl) (fun _ _ _ => rfl),
  k_iconst dX4_runsBy_11,
  k_iald dX4_runsBy_12,
  k_cmpge (t := 54) dX4_runsBy_13 (by decide),
  k_iload_n dX4_runsBy_16,
  k_aload_n dX4_runsBy_17,
  k_iload dX4_runsBy_18,
  k_callV (y2 := yX4_runs) (C := RX4) (T0 := TX4) (ci := 2) dX4_runsBy_20 sndX4_runs rfl q2076 q2078 qs92 q137 q2079 (by decide +kernel) ⟨by decide, by decide⟩ (by decide) (by decide),
  k_ifeq (t := 45) dX4_runsBy_23 (by decide),
  k_aload_n dX4_runsBy_26,
  k_getR (C := RX4) (T := TX4) (N := 42) (ci := 2) (k := 6) (ref := "LinkTimesModel") dX4_runsBy_27 rfl in_X4 (by decide) q1805 (Or.inl rfl) (fun _ _ _ => rfl),
  k_iload dX4_runsBy_30,
  k_iload_n dX4_runsBy_32,
  k_callS (y2 := yX4_at) dX4_runsBy_33 sndX4_at q2047 q2048 q137 q2049 (by decide +kernel) ⟨by decide, by decide⟩ (by decide) (by decide),
  k_iald dX4_runsBy_36,
  k_iload_n dX4_runsBy_37,
  k_cmpne (t := 45) dX4_runsBy_38 (by decide),
  k_iconst dX4_runsBy_41,
  k_goto (t := 46) dX4_runsBy_42 (by decide),
  k_iconst dX4_runsBy_45,
  k_iadd dX4_runsBy_46,
  k_istore_n dX4_runsBy_47,
  k_iinc dX4_runsBy_48,
  k_goto (t := 5) dX4_runsBy_51 (by decide),
  k_iload_n dX4_runsBy_54,
  k_iret dX4_runsBy_55, trivial⟩
theorem sndX4_runsBy : MSound 3 yX4_runsBy (ws_ yX4_runsBy cX4_runsBy 5 (some .int)) mX4_runsBy := msound_M (by decide) allX4_runsBy (fun _ _ => rfl)
/-! LinkTimesModel.spot(II)I -/
noncomputable def kX4_spot : ZM := ([(0, zi_ld 1 0 1), (1, zi_ld 1 0 2), (2, zi_ld 0 1 3), (3, zi_callV mX4_isSpot 18 2 6), (6, zi_if (fun a => zc_eq a 0) 22 9), (9, zi_ld 0 2 10), (10, zi_push (zvi 0) 11), (11, zi_push (zvi 3) 12), (12, zi_callS mX4_in 3 15), (15, zi_if (fun a => zc_eq a 0) 22 18), (18, zi_push (zvi 1) 19), (19, zi_goto 23), (22, zi_push (zvi 0) 23), (23, zi_callS mX4_unless 1 26), (26, zi_callV mX4_isRefused 18 2 29), (29, zi_if (fun a => zc_eq a 0) 34 32), (32, zi_push (zvi (-1)) 33), (33, zi_retv 0), (34, zi_ld 0 2 35), (35, zi_sw 0 2 [60, 69, 79] 86), (60, zi_ld 1 0 61), (61, zi_getR 18 6 64), (64, zi_push (zvi 5) 65), (65, zi_ld 0 1 66), (66, zi_bin (fun a b => w32 (a + b)) 67), (67, zi_ald 1 68), (68, zi_retv 0), (69, zi_ld 1 0 70), (70, zi_getR 18 6 73), (73, zi_push (zvi 15) 75), (75, zi_ld 0 1 76), (76, zi_bin (fun a b => w32 (a + b)) 77), (77, zi_ald 1 78), (78, zi_retv 0), (79, zi_ld 1 0 80), (80, zi_ld 0 1 81), (81, zi_push (zvi 1) 82), (82, zi_callV mX4_runsBy 18 3 85), (85, zi_retv 0), (86, zi_ld 1 0 87), (87, zi_ld 0 1 88), (88, zi_push (zvi 2) 89), (89, zi_callV mX4_runsBy 18 3 92), (92, zi_retv 0)], fun _ _ => none)
noncomputable def mX4_spot : ZF := zrunM kX4_spot 3
theorem enX4_spot (x0 : Option Nat) (x1 : Int) (x2 : Int) (h : PH) : mX4_spot [zvr x0, zvi x1, zvi x2] h = zev kX4_spot 0 [zvr x0, zvi x1, zvi x2] [] h := zrunM_eq rfl rfl
theorem rX4_spot : (∀ (a : Option Nat) (L st : List ZV) (h : PH), zev kX4_spot 0 (zvr a :: L) st h = zev kX4_spot 1 (zvr a :: L) (zvr a :: st) h) ∧
  (∀ (a : Option Nat) (L st : List ZV) (h : PH), zev kX4_spot 1 (zvr a :: L) st h = zev kX4_spot 2 (zvr a :: L) (zvr a :: st) h) ∧
  (∀ (x0 : ZV) (a : Int) (L st : List ZV) (h : PH), zev kX4_spot 2 (x0 :: zvi a :: L) st h = zev kX4_spot 3 (x0 :: zvi a :: L) (zvi a :: st) h) ∧
  (∀ (v0 : ZV) (q : Nat) (L st : List ZV) (h : PH), zev kX4_spot 3 L (v0 :: zvr (some q) :: st) h = if (ph_K h q).1 % 1000 = 18 ∧ zcat st ≤ 8 then zk kX4_spot 3 6 L st (mX4_isSpot [zvr (some q), v0] h) else none) ∧
  (∀ (a : Int) (L st : List ZV) (h : PH), zev kX4_spot 6 L (zvi a :: st) h = if a = 0 then zev kX4_spot 22 L st h else zev kX4_spot 9 L st h) ∧
  (∀ (x0 x1 : ZV) (a : Int) (L st : List ZV) (h : PH), zev kX4_spot 9 (x0 :: x1 :: zvi a :: L) st h = zev kX4_spot 10 (x0 :: x1 :: zvi a :: L) (zvi a :: st) h) ∧
  (∀ (L st : List ZV) (h : PH), zev kX4_spot 10 L st h = zev kX4_spot 11 L (zvi 0 :: st) h) ∧
  (∀ (L st : List ZV) (h : PH), zev kX4_spot 11 L st h = zev kX4_spot 12 L (zvi 3 :: st) h) ∧
  (∀ (v0 v1 v2 : ZV) (L st : List ZV) (h : PH), zev kX4_spot 12 L (v2 :: v1 :: v0 :: st) h = if zcat st ≤ 8 then zk kX4_spot 12 15 L st (mX4_in [v0, v1, v2] h) else none) ∧
  (∀ (a : Int) (L st : List ZV) (h : PH), zev kX4_spot 15 L (zvi a :: st) h = if a = 0 then zev kX4_spot 22 L st h else zev kX4_spot 18 L st h) ∧
  (∀ (L st : List ZV) (h : PH), zev kX4_spot 18 L st h = zev kX4_spot 19 L (zvi 1 :: st) h) ∧
  (∀ (L st : List ZV) (h : PH), zev kX4_spot 19 L st h = zev kX4_spot 23 L st h) ∧
  (∀ (L st : List ZV) (h : PH), zev kX4_spot 22 L st h = zev kX4_spot 23 L (zvi 0 :: st) h) ∧
  (∀ (v0 : ZV) (L st : List ZV) (h : PH), zev kX4_spot 23 L (v0 :: st) h = if zcat st ≤ 8 then zk kX4_spot 23 26 L st (mX4_unless [v0] h) else none) ∧
  (∀ (v0 : ZV) (q : Nat) (L st : List ZV) (h : PH), zev kX4_spot 26 L (v0 :: zvr (some q) :: st) h = if (ph_K h q).1 % 1000 = 18 ∧ zcat st ≤ 8 then zk kX4_spot 26 29 L st (mX4_isRefused [zvr (some q), v0] h) else none) ∧
  (∀ (a : Int) (L st : List ZV) (h : PH), zev kX4_spot 29 L (zvi a :: st) h = if a = 0 then zev kX4_spot 34 L st h else zev kX4_spot 32 L st h) ∧
  (∀ (L st : List ZV) (h : PH), zev kX4_spot 32 L st h = zev kX4_spot 33 L (zvi (-1) :: st) h) ∧
  (∀ (a : Int) (L : List ZV) (h : PH), zev kX4_spot 33 L [zvi a] h = zrv (zvi a) h) ∧
  (∀ (x0 x1 : ZV) (a : Int) (L st : List ZV) (h : PH), zev kX4_spot 34 (x0 :: x1 :: zvi a :: L) st h = zev kX4_spot 35 (x0 :: x1 :: zvi a :: L) (zvi a :: st) h) ∧
  (∀ (a : Int) (L st : List ZV) (h : PH), zev kX4_spot 35 L (zvi a :: st) h = zev kX4_spot (zswt 0 2 [60, 69, 79] 86 a) L st h) ∧
  (∀ (a : Option Nat) (L st : List ZV) (h : PH), zev kX4_spot 60 (zvr a :: L) st h = zev kX4_spot 61 (zvr a :: L) (zvr a :: st) h) ∧
  (∀ (q : Nat) (L st : List ZV) (h : PH), zev kX4_spot 61 L (zvr (some q) :: st) h = if (ph_K h q).1 % 1000 = 18 then zev kX4_spot 64 L (zvr (ph_R h q 6) :: st) h else none) ∧
  (∀ (L st : List ZV) (h : PH), zev kX4_spot 64 L st h = zev kX4_spot 65 L (zvi 5 :: st) h) ∧
  (∀ (x0 : ZV) (a : Int) (L st : List ZV) (h : PH), zev kX4_spot 65 (x0 :: zvi a :: L) st h = zev kX4_spot 66 (x0 :: zvi a :: L) (zvi a :: st) h) ∧
  (∀ (a b : Int) (L st : List ZV) (h : PH), zev kX4_spot 66 L (zvi b :: zvi a :: st) h = zev kX4_spot 67 L (zvi (w32 (a + b)) :: st) h) ∧
  (∀ (j : Int) (q : Nat) (L st : List ZV) (h : PH), zev kX4_spot 67 L (zvi j :: zvr (some q) :: st) h = if (ph_K h q).1 % 1000 = 1 ∧ 0 ≤ j ∧ j < (ph_K h q).2 then zev kX4_spot 68 L (zvi (ph_I h q j) :: st) h else none) ∧
  (∀ (a : Int) (L : List ZV) (h : PH), zev kX4_spot 68 L [zvi a] h = zrv (zvi a) h) ∧
  (∀ (a : Option Nat) (L st : List ZV) (h : PH), zev kX4_spot 69 (zvr a :: L) st h = zev kX4_spot 70 (zvr a :: L) (zvr a :: st) h) ∧
  (∀ (q : Nat) (L st : List ZV) (h : PH), zev kX4_spot 70 L (zvr (some q) :: st) h = if (ph_K h q).1 % 1000 = 18 then zev kX4_spot 73 L (zvr (ph_R h q 6) :: st) h else none) ∧
  (∀ (L st : List ZV) (h : PH), zev kX4_spot 73 L st h = zev kX4_spot 75 L (zvi 15 :: st) h) ∧
  (∀ (x0 : ZV) (a : Int) (L st : List ZV) (h : PH), zev kX4_spot 75 (x0 :: zvi a :: L) st h = zev kX4_spot 76 (x0 :: zvi a :: L) (zvi a :: st) h) ∧
  (∀ (a b : Int) (L st : List ZV) (h : PH), zev kX4_spot 76 L (zvi b :: zvi a :: st) h = zev kX4_spot 77 L (zvi (w32 (a + b)) :: st) h) ∧
  (∀ (j : Int) (q : Nat) (L st : List ZV) (h : PH), zev kX4_spot 77 L (zvi j :: zvr (some q) :: st) h = if (ph_K h q).1 % 1000 = 1 ∧ 0 ≤ j ∧ j < (ph_K h q).2 then zev kX4_spot 78 L (zvi (ph_I h q j) :: st) h else none) ∧
  (∀ (a : Int) (L : List ZV) (h : PH), zev kX4_spot 78 L [zvi a] h = zrv (zvi a) h) ∧
  (∀ (a : Option Nat) (L st : List ZV) (h : PH), zev kX4_spot 79 (zvr a :: L) st h = zev kX4_spot 80 (zvr a :: L) (zvr a :: st) h) ∧
  (∀ (x0 : ZV) (a : Int) (L st : List ZV) (h : PH), zev kX4_spot 80 (x0 :: zvi a :: L) st h = zev kX4_spot 81 (x0 :: zvi a :: L) (zvi a :: st) h) ∧
  (∀ (L st : List ZV) (h : PH), zev kX4_spot 81 L st h = zev kX4_spot 82 L (zvi 1 :: st) h) ∧
  (∀ (v0 v1 : ZV) (q : Nat) (L st : List ZV) (h : PH), zev kX4_spot 82 L (v1 :: v0 :: zvr (some q) :: st) h = if (ph_K h q).1 % 1000 = 18 ∧ zcat st ≤ 8 then zk kX4_spot 82 85 L st (mX4_runsBy [zvr (some q), v0, v1] h) else none) ∧
  (∀ (a : Int) (L : List ZV) (h : PH), zev kX4_spot 85 L [zvi a] h = zrv (zvi a) h) ∧
  (∀ (a : Option Nat) (L st : List ZV) (h : PH), zev kX4_spot 86 (zvr a :: L) st h = zev kX4_spot 87 (zvr a :: L) (zvr a :: st) h) ∧
  (∀ (x0 : ZV) (a : Int) (L st : List ZV) (h : PH), zev kX4_spot 87 (x0 :: zvi a :: L) st h = zev kX4_spot 88 (x0 :: zvi a :: L) (zvi a :: st) h) ∧
  (∀ (L st : List ZV) (h : PH), zev kX4_spot 88 L st h = zev kX4_spot 89 L (zvi 2 :: st) h) ∧
  (∀ (v0 v1 : ZV) (q : Nat) (L st : List ZV) (h : PH), zev kX4_spot 89 L (v1 :: v0 :: zvr (some q) :: st) h = if (ph_K h q).1 % 1000 = 18 ∧ zcat st ≤ 8 then zk kX4_spot 89 92 L st (mX4_runsBy [zvr (some q), v0, v1] h) else none) ∧
  (∀ (a : Int) (L : List ZV) (h : PH), zev kX4_spot 92 L [zvi a] h = zrv (zvi a) h) :=
  ⟨fun a L st h => e_ld0R (n := 1) rfl,
  fun a L st h => e_ld0R (n := 2) rfl,
  fun x0 a L st h => e_ld1I (n := 3) rfl,
  fun v0 q L st h => e_callV2 (F := mX4_isSpot) (kd := 18) (n := 6) rfl,
  fun a L st h => e_ifeq (t := 22) (n := 9) rfl,
  fun x0 x1 a L st h => e_ld2I (n := 10) rfl,
  fun L st h => e_push (v := zvi 0) (n := 11) rfl,
  fun L st h => e_push (v := zvi 3) (n := 12) rfl,
  fun v0 v1 v2 L st h => e_callS3 (F := mX4_in) (n := 15) rfl,
  fun a L st h => e_ifeq (t := 22) (n := 18) rfl,
  fun L st h => e_push (v := zvi 1) (n := 19) rfl,
  fun L st h => e_goto (t := 23) rfl,
  fun L st h => e_push (v := zvi 0) (n := 23) rfl,
  fun v0 L st h => e_callS1 (F := mX4_unless) (n := 26) rfl,
  fun v0 q L st h => e_callV2 (F := mX4_isRefused) (kd := 18) (n := 29) rfl,
  fun a L st h => e_ifeq (t := 34) (n := 32) rfl,
  fun L st h => e_push (v := zvi (-1)) (n := 33) rfl,
  fun a L h => e_retI rfl,
  fun x0 x1 a L st h => e_ld2I (n := 35) rfl,
  fun a L st h => e_sw (lo := 0) (hi := 2) (ts := [60, 69, 79]) (d := 86) rfl,
  fun a L st h => e_ld0R (n := 61) rfl,
  fun q L st h => e_getR (kd := 18) (k := 6) (n := 64) rfl,
  fun L st h => e_push (v := zvi 5) (n := 65) rfl,
  fun x0 a L st h => e_ld1I (n := 66) rfl,
  fun a b L st h => e_bin (f := (fun a b => w32 (a + b))) (n := 67) rfl,
  fun j q L st h => e_ald (kd := 1) (n := 68) rfl,
  fun a L h => e_retI rfl,
  fun a L st h => e_ld0R (n := 70) rfl,
  fun q L st h => e_getR (kd := 18) (k := 6) (n := 73) rfl,
  fun L st h => e_push (v := zvi 15) (n := 75) rfl,
  fun x0 a L st h => e_ld1I (n := 76) rfl,
  fun a b L st h => e_bin (f := (fun a b => w32 (a + b))) (n := 77) rfl,
  fun j q L st h => e_ald (kd := 1) (n := 78) rfl,
  fun a L h => e_retI rfl,
  fun a L st h => e_ld0R (n := 80) rfl,
  fun x0 a L st h => e_ld1I (n := 81) rfl,
  fun L st h => e_push (v := zvi 1) (n := 82) rfl,
  fun v0 v1 q L st h => e_callV3 (F := mX4_runsBy) (kd := 18) (n := 85) rfl,
  fun a L h => e_retI rfl,
  fun a L st h => e_ld0R (n := 87) rfl,
  fun x0 a L st h => e_ld1I (n := 88) rfl,
  fun L st h => e_push (v := zvi 2) (n := 89) rfl,
  fun v0 v1 q L st h => e_callV3 (F := mX4_runsBy) (kd := 18) (n := 92) rfl,
  fun a L h => e_retI rfl⟩
theorem allX4_spot : zall yX4_spot cX4_spot 3 (some .int) 4 kX4_spot.1 :=
  ⟨k_aload_n dX4_spot_0,
  k_aload_n dX4_spot_1,
  k_iload_n dX4_spot_2,
  k_callV (y2 := yX4_isSpot) (C := RX4) (T0 := TX4) (ci := 2) dX4_spot_3 sndX4_isSpot rfl q2084 q2086 qs93 q137 q2087 (by decide +kernel) ⟨by decide, by decide⟩ (by decide) (by decide),
  k_ifeq (t := 22) dX4_spot_6 (by decide),
  k_iload_n dX4_spot_9,
  k_iconst dX4_spot_10,
  k_iconst dX4_spot_11,
  k_callS (y2 := yX4_in) dX4_spot_12 sndX4_in q1943 q1944 q137 q1945 (by decide +kernel) ⟨by decide, by decide⟩ (by decide) (by decide),
  k_ifeq (t := 22) dX4_spot_15 (by decide),
  k_iconst dX4_spot_18,
  k_goto (t := 23) dX4_spot_19 (by decide),
  k_iconst dX4_spot_22,
  k_callS (y2 := yX4_unless) dX4_spot_23 sndX4_unless q2069 q2070 q137 q2071 (by decide +kernel) ⟨by decide, by decide⟩ (by decide) (by decide),
  k_callV (y2 := yX4_isRefused) (C := RX4) (T0 := TX4) (ci := 2) dX4_spot_26 sndX4_isRefused rfl q1946 q1948 qs70 q137 q1949 (by decide +kernel) ⟨by decide, by decide⟩ (by decide) (by decide),
  k_ifeq (t := 34) dX4_spot_29 (by decide),
  k_iconst dX4_spot_32,
  k_iret dX4_spot_33,
  k_iload_n dX4_spot_34,
  k_sw (ts := [60, 69, 79]) (dt := 86) dX4_spot_35 (by decide) (by decide) (by decide),
  k_aload_n dX4_spot_60,
  k_getR (C := RX4) (T := TX4) (N := 42) (ci := 2) (k := 6) (ref := "LinkTimesModel") dX4_spot_61 rfl in_X4 (by decide) q1805 (Or.inl rfl) (fun _ _ _ => rfl),
  k_iconst dX4_spot_64,
  k_iload_n dX4_spot_65,
  k_iadd dX4_spot_66,
  k_iald dX4_spot_67,
  k_iret dX4_spot_68,
  k_aload_n dX4_spot_69,
  k_getR (C := RX4) (T := TX4) (N := 42) (ci := 2) (k := 6) (ref := "LinkTimesModel") dX4_spot_70 rfl in_X4 (by decide) q1805 (Or.inl rfl) (fun _ _ _ => rfl),
  k_bipush dX4_spot_73,
  k_iload_n dX4_spot_75,
  k_iadd dX4_spot_76,
  k_iald dX4_spot_77,
  k_iret dX4_spot_78,
  k_aload_n dX4_spot_79,
  k_iload_n dX4_spot_80,
  k_iconst dX4_spot_81,
  k_callV (y2 := yX4_runsBy) (C := RX4) (T0 := TX4) (ci := 2) dX4_spot_82 sndX4_runsBy rfl q2088 q2090 qs94 q137 q2091 (by decide +kernel) ⟨by decide, by decide⟩ (by decide) (by decide),
  k_iret dX4_spot_85,
  k_aload_n dX4_spot_86,
  k_iload_n dX4_spot_87,
  k_iconst dX4_spot_88,
  k_callV (y2 := yX4_runsBy) (C := RX4) (T0 := TX4) (ci := 2) dX4_spot_89 sndX4_runsBy rfl q2088 q2090 qs94 q137 q2091 (by decide +kernel) ⟨by decide, by decide⟩ (by decide) (by decide),
  k_iret dX4_spot_92, trivial⟩
theorem sndX4_spot : MSound 4 yX4_spot (ws_ yX4_spot cX4_spot 3 (some .int)) mX4_spot := msound_M (by decide) allX4_spot (fun _ _ => rfl)
/-! LinkTimesModel.isOne(I)Z -/
noncomputable def kX4_isOne : ZM := ([(0, zi_ld 1 0 1), (1, zi_getI 18 11 4), (4, zi_if (fun a => zc_eq a 0) 27 7), (7, zi_ld 0 1 8), (8, zi_push (zvi 0) 9), (9, zi_ld 1 0 10), (10, zi_getR 18 6 13), (13, zi_push (zvi 4) 14), (14, zi_ald 1 15), (15, zi_push (zvi 1) 16), (16, zi_bin (fun a b => w32 (a - b)) 17), (17, zi_callS mX4_in 3 20), (20, zi_if (fun a => zc_eq a 0) 27 23), (23, zi_push (zvi 1) 24), (24, zi_goto 28), (27, zi_push (zvi 0) 28), (28, zi_retz)], fun _ _ => none)
noncomputable def mX4_isOne : ZF := zrunM kX4_isOne 2
theorem enX4_isOne (x0 : Option Nat) (x1 : Int) (h : PH) : mX4_isOne [zvr x0, zvi x1] h = zev kX4_isOne 0 [zvr x0, zvi x1] [] h := zrunM_eq rfl rfl
theorem rX4_isOne : (∀ (a : Option Nat) (L st : List ZV) (h : PH), zev kX4_isOne 0 (zvr a :: L) st h = zev kX4_isOne 1 (zvr a :: L) (zvr a :: st) h) ∧
  (∀ (q : Nat) (L st : List ZV) (h : PH), zev kX4_isOne 1 L (zvr (some q) :: st) h = if (ph_K h q).1 % 1000 = 18 then zev kX4_isOne 4 L (zvi (ph_I h q 11) :: st) h else none) ∧
  (∀ (a : Int) (L st : List ZV) (h : PH), zev kX4_isOne 4 L (zvi a :: st) h = if a = 0 then zev kX4_isOne 27 L st h else zev kX4_isOne 7 L st h) ∧
  (∀ (x0 : ZV) (a : Int) (L st : List ZV) (h : PH), zev kX4_isOne 7 (x0 :: zvi a :: L) st h = zev kX4_isOne 8 (x0 :: zvi a :: L) (zvi a :: st) h) ∧
  (∀ (L st : List ZV) (h : PH), zev kX4_isOne 8 L st h = zev kX4_isOne 9 L (zvi 0 :: st) h) ∧
  (∀ (a : Option Nat) (L st : List ZV) (h : PH), zev kX4_isOne 9 (zvr a :: L) st h = zev kX4_isOne 10 (zvr a :: L) (zvr a :: st) h) ∧
  (∀ (q : Nat) (L st : List ZV) (h : PH), zev kX4_isOne 10 L (zvr (some q) :: st) h = if (ph_K h q).1 % 1000 = 18 then zev kX4_isOne 13 L (zvr (ph_R h q 6) :: st) h else none) ∧
  (∀ (L st : List ZV) (h : PH), zev kX4_isOne 13 L st h = zev kX4_isOne 14 L (zvi 4 :: st) h) ∧
  (∀ (j : Int) (q : Nat) (L st : List ZV) (h : PH), zev kX4_isOne 14 L (zvi j :: zvr (some q) :: st) h = if (ph_K h q).1 % 1000 = 1 ∧ 0 ≤ j ∧ j < (ph_K h q).2 then zev kX4_isOne 15 L (zvi (ph_I h q j) :: st) h else none) ∧
  (∀ (L st : List ZV) (h : PH), zev kX4_isOne 15 L st h = zev kX4_isOne 16 L (zvi 1 :: st) h) ∧
  (∀ (a b : Int) (L st : List ZV) (h : PH), zev kX4_isOne 16 L (zvi b :: zvi a :: st) h = zev kX4_isOne 17 L (zvi (w32 (a - b)) :: st) h) ∧
  (∀ (v0 v1 v2 : ZV) (L st : List ZV) (h : PH), zev kX4_isOne 17 L (v2 :: v1 :: v0 :: st) h = if zcat st ≤ 8 then zk kX4_isOne 17 20 L st (mX4_in [v0, v1, v2] h) else none) ∧
  (∀ (a : Int) (L st : List ZV) (h : PH), zev kX4_isOne 20 L (zvi a :: st) h = if a = 0 then zev kX4_isOne 27 L st h else zev kX4_isOne 23 L st h) ∧
  (∀ (L st : List ZV) (h : PH), zev kX4_isOne 23 L st h = zev kX4_isOne 24 L (zvi 1 :: st) h) ∧
  (∀ (L st : List ZV) (h : PH), zev kX4_isOne 24 L st h = zev kX4_isOne 28 L st h) ∧
  (∀ (L st : List ZV) (h : PH), zev kX4_isOne 27 L st h = zev kX4_isOne 28 L (zvi 0 :: st) h) ∧
  (∀ (a : Int) (L : List ZV) (h : PH), zev kX4_isOne 28 L [zvi a] h = if a = 0 ∨ a = 1 then zrv (zvi a) h else none) :=
  ⟨fun a L st h => e_ld0R (n := 1) rfl,
  fun q L st h => e_getI (kd := 18) (k := 11) (n := 4) rfl,
  fun a L st h => e_ifeq (t := 27) (n := 7) rfl,
  fun x0 a L st h => e_ld1I (n := 8) rfl,
  fun L st h => e_push (v := zvi 0) (n := 9) rfl,
  fun a L st h => e_ld0R (n := 10) rfl,
  fun q L st h => e_getR (kd := 18) (k := 6) (n := 13) rfl,
  fun L st h => e_push (v := zvi 4) (n := 14) rfl,
  fun j q L st h => e_ald (kd := 1) (n := 15) rfl,
  fun L st h => e_push (v := zvi 1) (n := 16) rfl,
  fun a b L st h => e_bin (f := (fun a b => w32 (a - b))) (n := 17) rfl,
  fun v0 v1 v2 L st h => e_callS3 (F := mX4_in) (n := 20) rfl,
  fun a L st h => e_ifeq (t := 27) (n := 23) rfl,
  fun L st h => e_push (v := zvi 1) (n := 24) rfl,
  fun L st h => e_goto (t := 28) rfl,
  fun L st h => e_push (v := zvi 0) (n := 28) rfl,
  fun a L h => e_retz rfl⟩
theorem allX4_isOne : zall yX4_isOne cX4_isOne 2 (some .boolean) 2 kX4_isOne.1 :=
  ⟨k_aload_n dX4_isOne_0,
  k_getI (C := RX4) (T := TX4) (N := 42) (ci := 2) (k := 11) (ref := "LinkTimesModel") dX4_isOne_1 rfl in_X4 (by decide) q1810 (Or.inl rfl) (fun _ _ _ => rfl),
  k_ifeq (t := 27) dX4_isOne_4 (by decide),
  k_iload_n dX4_isOne_7,
  k_iconst dX4_isOne_8,
  k_aload_n dX4_isOne_9,
  k_getR (C := RX4) (T := TX4) (N := 42) (ci := 2) (k := 6) (ref := "LinkTimesModel") dX4_isOne_10 rfl in_X4 (by decide) q1805 (Or.inl rfl) (fun _ _ _ => rfl),
  k_iconst dX4_isOne_13,
  k_iald dX4_isOne_14,
  k_iconst dX4_isOne_15,
  k_isub dX4_isOne_16,
  k_callS (y2 := yX4_in) dX4_isOne_17 sndX4_in q1943 q1944 q137 q1945 (by decide +kernel) ⟨by decide, by decide⟩ (by decide) (by decide),
  k_ifeq (t := 27) dX4_isOne_20 (by decide),
  k_iconst dX4_isOne_23,
  k_goto (t := 28) dX4_isOne_24 (by decide),
  k_iconst dX4_isOne_27,
  k_zret dX4_isOne_28, trivial⟩
theorem sndX4_isOne : MSound 2 yX4_isOne (ws_ yX4_isOne cX4_isOne 2 (some .boolean)) mX4_isOne := msound_M (by decide) allX4_isOne (fun _ _ => rfl)
/-! LinkTimesModel.leavesAt(I)I -/
noncomputable def kX4_leavesAt : ZM := ([(0, zi_ld 1 0 1), (1, zi_getR 18 6 4), (4, zi_ld 0 1 5), (5, zi_push (zvi 3) 6), (6, zi_callS mX4_at 2 9), (9, zi_ald 1 10), (10, zi_ld 1 0 11), (11, zi_getR 18 6 14), (14, zi_ld 0 1 15), (15, zi_push (zvi 5) 16), (16, zi_callS mX4_at 2 19), (19, zi_ald 1 20), (20, zi_bin (fun a b => w32 (a + b)) 21), (21, zi_retv 0)], fun _ _ => none)
noncomputable def mX4_leavesAt : ZF := zrunM kX4_leavesAt 2
theorem enX4_leavesAt (x0 : Option Nat) (x1 : Int) (h : PH) : mX4_leavesAt [zvr x0, zvi x1] h = zev kX4_leavesAt 0 [zvr x0, zvi x1] [] h := zrunM_eq rfl rfl
theorem rX4_leavesAt : (∀ (a : Option Nat) (L st : List ZV) (h : PH), zev kX4_leavesAt 0 (zvr a :: L) st h = zev kX4_leavesAt 1 (zvr a :: L) (zvr a :: st) h) ∧
  (∀ (q : Nat) (L st : List ZV) (h : PH), zev kX4_leavesAt 1 L (zvr (some q) :: st) h = if (ph_K h q).1 % 1000 = 18 then zev kX4_leavesAt 4 L (zvr (ph_R h q 6) :: st) h else none) ∧
  (∀ (x0 : ZV) (a : Int) (L st : List ZV) (h : PH), zev kX4_leavesAt 4 (x0 :: zvi a :: L) st h = zev kX4_leavesAt 5 (x0 :: zvi a :: L) (zvi a :: st) h) ∧
  (∀ (L st : List ZV) (h : PH), zev kX4_leavesAt 5 L st h = zev kX4_leavesAt 6 L (zvi 3 :: st) h) ∧
  (∀ (v0 v1 : ZV) (L st : List ZV) (h : PH), zev kX4_leavesAt 6 L (v1 :: v0 :: st) h = if zcat st ≤ 8 then zk kX4_leavesAt 6 9 L st (mX4_at [v0, v1] h) else none) ∧
  (∀ (j : Int) (q : Nat) (L st : List ZV) (h : PH), zev kX4_leavesAt 9 L (zvi j :: zvr (some q) :: st) h = if (ph_K h q).1 % 1000 = 1 ∧ 0 ≤ j ∧ j < (ph_K h q).2 then zev kX4_leavesAt 10 L (zvi (ph_I h q j) :: st) h else none) ∧
  (∀ (a : Option Nat) (L st : List ZV) (h : PH), zev kX4_leavesAt 10 (zvr a :: L) st h = zev kX4_leavesAt 11 (zvr a :: L) (zvr a :: st) h) ∧
  (∀ (q : Nat) (L st : List ZV) (h : PH), zev kX4_leavesAt 11 L (zvr (some q) :: st) h = if (ph_K h q).1 % 1000 = 18 then zev kX4_leavesAt 14 L (zvr (ph_R h q 6) :: st) h else none) ∧
  (∀ (x0 : ZV) (a : Int) (L st : List ZV) (h : PH), zev kX4_leavesAt 14 (x0 :: zvi a :: L) st h = zev kX4_leavesAt 15 (x0 :: zvi a :: L) (zvi a :: st) h) ∧
  (∀ (L st : List ZV) (h : PH), zev kX4_leavesAt 15 L st h = zev kX4_leavesAt 16 L (zvi 5 :: st) h) ∧
  (∀ (v0 v1 : ZV) (L st : List ZV) (h : PH), zev kX4_leavesAt 16 L (v1 :: v0 :: st) h = if zcat st ≤ 8 then zk kX4_leavesAt 16 19 L st (mX4_at [v0, v1] h) else none) ∧
  (∀ (j : Int) (q : Nat) (L st : List ZV) (h : PH), zev kX4_leavesAt 19 L (zvi j :: zvr (some q) :: st) h = if (ph_K h q).1 % 1000 = 1 ∧ 0 ≤ j ∧ j < (ph_K h q).2 then zev kX4_leavesAt 20 L (zvi (ph_I h q j) :: st) h else none) ∧
  (∀ (a b : Int) (L st : List ZV) (h : PH), zev kX4_leavesAt 20 L (zvi b :: zvi a :: st) h = zev kX4_leavesAt 21 L (zvi (w32 (a + b)) :: st) h) ∧
  (∀ (a : Int) (L : List ZV) (h : PH), zev kX4_leavesAt 21 L [zvi a] h = zrv (zvi a) h) :=
  ⟨fun a L st h => e_ld0R (n := 1) rfl,
  fun q L st h => e_getR (kd := 18) (k := 6) (n := 4) rfl,
  fun x0 a L st h => e_ld1I (n := 5) rfl,
  fun L st h => e_push (v := zvi 3) (n := 6) rfl,
  fun v0 v1 L st h => e_callS2 (F := mX4_at) (n := 9) rfl,
  fun j q L st h => e_ald (kd := 1) (n := 10) rfl,
  fun a L st h => e_ld0R (n := 11) rfl,
  fun q L st h => e_getR (kd := 18) (k := 6) (n := 14) rfl,
  fun x0 a L st h => e_ld1I (n := 15) rfl,
  fun L st h => e_push (v := zvi 5) (n := 16) rfl,
  fun v0 v1 L st h => e_callS2 (F := mX4_at) (n := 19) rfl,
  fun j q L st h => e_ald (kd := 1) (n := 20) rfl,
  fun a b L st h => e_bin (f := (fun a b => w32 (a + b))) (n := 21) rfl,
  fun a L h => e_retI rfl⟩
theorem allX4_leavesAt : zall yX4_leavesAt cX4_leavesAt 2 (some .int) 2 kX4_leavesAt.1 :=
  ⟨k_aload_n dX4_leavesAt_0,
  k_getR (C := RX4) (T := TX4) (N := 42) (ci := 2) (k := 6) (ref := "LinkTimesModel") dX4_leavesAt_1 rfl in_X4 (by decide) q1805 (Or.inl rfl) (fun _ _ _ => rfl),
  k_iload_n dX4_leavesAt_4,
  k_iconst dX4_leavesAt_5,
  k_callS (y2 := yX4_at) dX4_leavesAt_6 sndX4_at q2047 q2048 q137 q2049 (by decide +kernel) ⟨by decide, by decide⟩ (by decide) (by decide),
  k_iald dX4_leavesAt_9,
  k_aload_n dX4_leavesAt_10,
  k_getR (C := RX4) (T := TX4) (N := 42) (ci := 2) (k := 6) (ref := "LinkTimesModel") dX4_leavesAt_11 rfl in_X4 (by decide) q1805 (Or.inl rfl) (fun _ _ _ => rfl),
  k_iload_n dX4_leavesAt_14,
  k_iconst dX4_leavesAt_15,
  k_callS (y2 := yX4_at) dX4_leavesAt_16 sndX4_at q2047 q2048 q137 q2049 (by decide +kernel) ⟨by decide, by decide⟩ (by decide) (by decide),
  k_iald dX4_leavesAt_19,
  k_iadd dX4_leavesAt_20,
  k_iret dX4_leavesAt_21, trivial⟩
theorem sndX4_leavesAt : MSound 2 yX4_leavesAt (ws_ yX4_leavesAt cX4_leavesAt 2 (some .int)) mX4_leavesAt := msound_M (by decide) allX4_leavesAt (fun _ _ => rfl)
