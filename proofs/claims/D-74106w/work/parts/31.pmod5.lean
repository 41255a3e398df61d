/-! Z program: LinkTimesModel (written by gen/gen_prog.py) -/
set_option maxRecDepth 100000
/-! LinkTimesModel.stands(III)I -/
noncomputable def kX4_stands : ZM := ([(0, zi_ld 1 0 1), (1, zi_ld 1 0 2), (2, zi_ld 0 1 3), (3, zi_ld 0 2 4), (4, zi_ld 0 3 5), (5, zi_callV mX4_wayWhy 18 4 8), (8, zi_callV mX4_isRefused 18 2 11), (11, zi_if (fun a => zc_eq a 0) 16 14), (14, zi_push (zvi (-1)) 15), (15, zi_retv 0), (16, zi_ld 1 0 17), (17, zi_ld 0 1 18), (18, zi_ld 0 2 19), (19, zi_ld 0 3 20), (20, zi_callV mX4_begins_2 18 4 23), (23, zi_st 0 4 25), (25, zi_ld 0 4 27), (27, zi_push (zvi (-1)) 28), (28, zi_cmp zc_ne 43 31), (31, zi_ld 0 1 32), (32, zi_ld 0 2 33), (33, zi_cmp zc_ne 40 36), (36, zi_push (zvi 0) 37), (37, zi_goto 42), (40, zi_push (zvi (-2)) 42), (42, zi_retv 0), (43, zi_push (zvi 0) 44), (44, zi_st 0 5 46), (46, zi_ld 1 0 47), (47, zi_getR 18 26 50), (50, zi_ld 0 4 52), (52, zi_ald 1 53), (53, zi_push (zvi (-1)) 54), (54, zi_cmp zc_eq 92 57), (57, zi_ld 0 5 59), (59, zi_ld 1 0 60), (60, zi_ld 1 0 61), (61, zi_getR 18 26 64), (64, zi_ld 0 4 66), (66, zi_ald 1 67), (67, zi_callV mX4_leavesAt 18 2 70), (70, zi_ld 1 0 71), (71, zi_ld 0 4 73), (73, zi_callV mX4_arrivesAt 18 2 76), (76, zi_bin (fun a b => w32 (a - b)) 77), (77, zi_bin (fun a b => w32 (a + b)) 78), (78, zi_st 0 5 80), (80, zi_ld 1 0 81), (81, zi_getR 18 26 84), (84, zi_ld 0 4 86), (86, zi_ald 1 87), (87, zi_st 0 4 89), (89, zi_goto 46), (92, zi_ld 0 5 94), (94, zi_retv 0)], fun _ _ => none)
noncomputable def mX4_stands : ZF := zrunM kX4_stands 6
theorem enX4_stands (x0 : Option Nat) (x1 : Int) (x2 : Int) (x3 : Int) (h : PH) : mX4_stands [zvr x0, zvi x1, zvi x2, zvi x3] h = zev kX4_stands 0 [zvr x0, zvi x1, zvi x2, zvi x3, zvu, zvu] [] h := zrunM_eq rfl rfl
theorem hdX4_stands_46 (a : Option Nat) (L st : List ZV) (h : PH) : zev kX4_stands 46 (zvr a :: L) st h = zev kX4_stands 47 (zvr a :: L) (zvr a :: st) h := e_ld0R (n := 47) rfl
theorem rX4_stands : (∀ (a : Option Nat) (L st : List ZV) (h : PH), zev kX4_stands 0 (zvr a :: L) st h = zev kX4_stands 1 (zvr a :: L) (zvr a :: st) h) ∧
  (∀ (a : Option Nat) (L st : List ZV) (h : PH), zev kX4_stands 1 (zvr a :: L) st h = zev kX4_stands 2 (zvr a :: L) (zvr a :: st) h) ∧
  (∀ (x0 : ZV) (a : Int) (L st : List ZV) (h : PH), zev kX4_stands 2 (x0 :: zvi a :: L) st h = zev kX4_stands 3 (x0 :: zvi a :: L) (zvi a :: st) h) ∧
  (∀ (x0 x1 : ZV) (a : Int) (L st : List ZV) (h : PH), zev kX4_stands 3 (x0 :: x1 :: zvi a :: L) st h = zev kX4_stands 4 (x0 :: x1 :: zvi a :: L) (zvi a :: st) h) ∧
  (∀ (x0 x1 x2 : ZV) (a : Int) (L st : List ZV) (h : PH), zev kX4_stands 4 (x0 :: x1 :: x2 :: zvi a :: L) st h = zev kX4_stands 5 (x0 :: x1 :: x2 :: zvi a :: L) (zvi a :: st) h) ∧
  (∀ (v0 v1 v2 : ZV) (q : Nat) (L st : List ZV) (h : PH), zev kX4_stands 5 L (v2 :: v1 :: v0 :: zvr (some q) :: st) h = if (ph_K h q).1 % 1000 = 18 ∧ zcat st ≤ 8 then zk kX4_stands 5 8 L st (mX4_wayWhy [zvr (some q), v0, v1, v2] h) else none) ∧
  (∀ (v0 : ZV) (q : Nat) (L st : List ZV) (h : PH), zev kX4_stands 8 L (v0 :: zvr (some q) :: st) h = if (ph_K h q).1 % 1000 = 18 ∧ zcat st ≤ 8 then zk kX4_stands 8 11 L st (mX4_isRefused [zvr (some q), v0] h) else none) ∧
  (∀ (a : Int) (L st : List ZV) (h : PH), zev kX4_stands 11 L (zvi a :: st) h = if a = 0 then zev kX4_stands 16 L st h else zev kX4_stands 14 L st h) ∧
  (∀ (L st : List ZV) (h : PH), zev kX4_stands 14 L st h = zev kX4_stands 15 L (zvi (-1) :: st) h) ∧
  (∀ (a : Int) (L : List ZV) (h : PH), zev kX4_stands 15 L [zvi a] h = zrv (zvi a) h) ∧
  (∀ (a : Option Nat) (L st : List ZV) (h : PH), zev kX4_stands 16 (zvr a :: L) st h = zev kX4_stands 17 (zvr a :: L) (zvr a :: st) h) ∧
  (∀ (x0 : ZV) (a : Int) (L st : List ZV) (h : PH), zev kX4_stands 17 (x0 :: zvi a :: L) st h = zev kX4_stands 18 (x0 :: zvi a :: L) (zvi a :: st) h) ∧
  (∀ (x0 x1 : ZV) (a : Int) (L st : List ZV) (h : PH), zev kX4_stands 18 (x0 :: x1 :: zvi a :: L) st h = zev kX4_stands 19 (x0 :: x1 :: zvi a :: L) (zvi a :: st) h) ∧
  (∀ (x0 x1 x2 : ZV) (a : Int) (L st : List ZV) (h : PH), zev kX4_stands 19 (x0 :: x1 :: x2 :: zvi a :: L) st h = zev kX4_stands 20 (x0 :: x1 :: x2 :: zvi a :: L) (zvi a :: st) h) ∧
  (∀ (v0 v1 v2 : ZV) (q : Nat) (L st : List ZV) (h : PH), zev kX4_stands 20 L (v2 :: v1 :: v0 :: zvr (some q) :: st) h = if (ph_K h q).1 % 1000 = 18 ∧ zcat st ≤ 8 then zk kX4_stands 20 23 L st (mX4_begins_2 [zvr (some q), v0, v1, v2] h) else none) ∧
  (∀ (x0 x1 x2 x3 x4 : ZV) (a : Int) (L st : List ZV) (h : PH) (hx : zisL x3 = false) , zev kX4_stands 23 (x0 :: x1 :: x2 :: x3 :: x4 :: L) (zvi a :: st) h = zev kX4_stands 25 (x0 :: x1 :: x2 :: x3 :: zvi a :: L) st h) ∧
  (∀ (x0 x1 x2 x3 : ZV) (a : Int) (L st : List ZV) (h : PH), zev kX4_stands 25 (x0 :: x1 :: x2 :: x3 :: zvi a :: L) st h = zev kX4_stands 27 (x0 :: x1 :: x2 :: x3 :: zvi a :: L) (zvi a :: st) h) ∧
  (∀ (L st : List ZV) (h : PH), zev kX4_stands 27 L st h = zev kX4_stands 28 L (zvi (-1) :: st) h) ∧
  (∀ (a b : Int) (L st : List ZV) (h : PH), zev kX4_stands 28 L (zvi b :: zvi a :: st) h = if a ≠ b then zev kX4_stands 43 L st h else zev kX4_stands 31 L st h) ∧
  (∀ (x0 : ZV) (a : Int) (L st : List ZV) (h : PH), zev kX4_stands 31 (x0 :: zvi a :: L) st h = zev kX4_stands 32 (x0 :: zvi a :: L) (zvi a :: st) h) ∧
  (∀ (x0 x1 : ZV) (a : Int) (L st : List ZV) (h : PH), zev kX4_stands 32 (x0 :: x1 :: zvi a :: L) st h = zev kX4_stands 33 (x0 :: x1 :: zvi a :: L) (zvi a :: st) h) ∧
  (∀ (a b : Int) (L st : List ZV) (h : PH), zev kX4_stands 33 L (zvi b :: zvi a :: st) h = if a ≠ b then zev kX4_stands 40 L st h else zev kX4_stands 36 L st h) ∧
  (∀ (L st : List ZV) (h : PH), zev kX4_stands 36 L st h = zev kX4_stands 37 L (zvi 0 :: st) h) ∧
  (∀ (L st : List ZV) (h : PH), zev kX4_stands 37 L st h = zev kX4_stands 42 L st h) ∧
  (∀ (L st : List ZV) (h : PH), zev kX4_stands 40 L st h = zev kX4_stands 42 L (zvi (-2) :: st) h) ∧
  (∀ (a : Int) (L : List ZV) (h : PH), zev kX4_stands 42 L [zvi a] h = zrv (zvi a) h) ∧
  (∀ (L st : List ZV) (h : PH), zev kX4_stands 43 L st h = zev kX4_stands 44 L (zvi 0 :: st) h) ∧
  (∀ (x0 x1 x2 x3 x4 x5 : ZV) (a : Int) (L st : List ZV) (h : PH) (hx : zisL x4 = false) , zev kX4_stands 44 (x0 :: x1 :: x2 :: x3 :: x4 :: x5 :: L) (zvi a :: st) h = zev kX4_stands 46 (x0 :: x1 :: x2 :: x3 :: x4 :: zvi a :: L) st h) ∧
  (∀ (q : Nat) (L st : List ZV) (h : PH), zev kX4_stands 47 L (zvr (some q) :: st) h = if (ph_K h q).1 % 1000 = 18 then zev kX4_stands 50 L (zvr (ph_R h q 26) :: st) h else none) ∧
  (∀ (x0 x1 x2 x3 : ZV) (a : Int) (L st : List ZV) (h : PH), zev kX4_stands 50 (x0 :: x1 :: x2 :: x3 :: zvi a :: L) st h = zev kX4_stands 52 (x0 :: x1 :: x2 :: x3 :: zvi a :: L) (zvi a :: st) h) ∧
  (∀ (j : Int) (q : Nat) (L st : List ZV) (h : PH), zev kX4_stands 52 L (zvi j :: zvr (some q) :: st) h = if (ph_K h q).1 % 1000 = 1 ∧ 0 ≤ j ∧ j < (ph_K h q).2 then zev kX4_stands 53 L (zvi (ph_I h q j) :: st) h else none) ∧
  (∀ (L st : List ZV) (h : PH), zev kX4_stands 53 L st h = zev kX4_stands 54 L (zvi (-1) :: st) h) ∧
  (∀ (a b : Int) (L st : List ZV) (h : PH), zev kX4_stands 54 L (zvi b :: zvi a :: st) h = if a = b then zev kX4_stands 92 L st h else zev kX4_stands 57 L st h) ∧
  (∀ (x0 x1 x2 x3 x4 : ZV) (a : Int) (L st : List ZV) (h : PH), zev kX4_stands 57 (x0 :: x1 :: x2 :: x3 :: x4 :: zvi a :: L) st h = zev kX4_stands 59 (x0 :: x1 :: x2 :: x3 :: x4 :: zvi a :: L) (zvi a :: st) h) ∧
  (∀ (a : Option Nat) (L st : List ZV) (h : PH), zev kX4_stands 59 (zvr a :: L) st h = zev kX4_stands 60 (zvr a :: L) (zvr a :: st) h) ∧
  (∀ (a : Option Nat) (L st : List ZV) (h : PH), zev kX4_stands 60 (zvr a :: L) st h = zev kX4_stands 61 (zvr a :: L) (zvr a :: st) h) ∧
  (∀ (q : Nat) (L st : List ZV) (h : PH), zev kX4_stands 61 L (zvr (some q) :: st) h = if (ph_K h q).1 % 1000 = 18 then zev kX4_stands 64 L (zvr (ph_R h q 26) :: st) h else none) ∧
  (∀ (x0 x1 x2 x3 : ZV) (a : Int) (L st : List ZV) (h : PH), zev kX4_stands 64 (x0 :: x1 :: x2 :: x3 :: zvi a :: L) st h = zev kX4_stands 66 (x0 :: x1 :: x2 :: x3 :: zvi a :: L) (zvi a :: st) h) ∧
  (∀ (j : Int) (q : Nat) (L st : List ZV) (h : PH), zev kX4_stands 66 L (zvi j :: zvr (some q) :: st) h = if (ph_K h q).1 % 1000 = 1 ∧ 0 ≤ j ∧ j < (ph_K h q).2 then zev kX4_stands 67 L (zvi (ph_I h q j) :: st) h else none) ∧
  (∀ (v0 : ZV) (q : Nat) (L st : List ZV) (h : PH), zev kX4_stands 67 L (v0 :: zvr (some q) :: st) h = if (ph_K h q).1 % 1000 = 18 ∧ zcat st ≤ 8 then zk kX4_stands 67 70 L st (mX4_leavesAt [zvr (some q), v0] h) else none) ∧
  (∀ (a : Option Nat) (L st : List ZV) (h : PH), zev kX4_stands 70 (zvr a :: L) st h = zev kX4_stands 71 (zvr a :: L) (zvr a :: st) h) ∧
  (∀ (x0 x1 x2 x3 : ZV) (a : Int) (L st : List ZV) (h : PH), zev kX4_stands 71 (x0 :: x1 :: x2 :: x3 :: zvi a :: L) st h = zev kX4_stands 73 (x0 :: x1 :: x2 :: x3 :: zvi a :: L) (zvi a :: st) h) ∧
  (∀ (v0 : ZV) (q : Nat) (L st : List ZV) (h : PH), zev kX4_stands 73 L (v0 :: zvr (some q) :: st) h = if (ph_K h q).1 % 1000 = 18 ∧ zcat st ≤ 8 then zk kX4_stands 73 76 L st (mX4_arrivesAt [zvr (some q), v0] h) else none) ∧
  (∀ (a b : Int) (L st : List ZV) (h : PH), zev kX4_stands 76 L (zvi b :: zvi a :: st) h = zev kX4_stands 77 L (zvi (w32 (a - b)) :: st) h) ∧
  (∀ (a b : Int) (L st : List ZV) (h : PH), zev kX4_stands 77 L (zvi b :: zvi a :: st) h = zev kX4_stands 78 L (zvi (w32 (a + b)) :: st) h) ∧
  (∀ (x0 x1 x2 x3 x4 x5 : ZV) (a : Int) (L st : List ZV) (h : PH) (hx : zisL x4 = false) , zev kX4_stands 78 (x0 :: x1 :: x2 :: x3 :: x4 :: x5 :: L) (zvi a :: st) h = zev kX4_stands 80 (x0 :: x1 :: x2 :: x3 :: x4 :: zvi a :: L) st h) ∧
  (∀ (a : Option Nat) (L st : List ZV) (h : PH), zev kX4_stands 80 (zvr a :: L) st h = zev kX4_stands 81 (zvr a :: L) (zvr a :: st) h) ∧
  (∀ (q : Nat) (L st : List ZV) (h : PH), zev kX4_stands 81 L (zvr (some q) :: st) h = if (ph_K h q).1 % 1000 = 18 then zev kX4_stands 84 L (zvr (ph_R h q 26) :: st) h else none) ∧
  (∀ (x0 x1 x2 x3 : ZV) (a : Int) (L st : List ZV) (h : PH), zev kX4_stands 84 (x0 :: x1 :: x2 :: x3 :: zvi a :: L) st h = zev kX4_stands 86 (x0 :: x1 :: x2 :: x3 :: zvi a :: L) (zvi a :: st) h) ∧
  (∀ (j : Int) (q : Nat) (L st : List ZV) (h : PH), zev kX4_stands 86 L (zvi j :: zvr (some q) :: st) h = if (ph_K h q).1 % 1000 = 1 ∧ 0 ≤ j ∧ j < (ph_K h q).2 then zev kX4_stands 87 L (zvi (ph_I h q j) :: st) h else none) ∧
  (∀ (x0 x1 x2 x3 x4 : ZV) (a : Int) (L st : List ZV) (h : PH) (hx : zisL x3 = false) , zev kX4_stands 87 (x0 :: x1 :: x2 :: x3 :: x4 :: L) (zvi a :: st) h = zev kX4_stands 89 (x0 :: x1 :: x2 :: x3 :: zvi a :: L) st h) ∧
  (∀ (L st : List ZV) (h : PH), zev kX4_stands 89 L st h = zev kX4_stands 46 L st h) ∧
  (∀ (x0 x1 x2 x3 x4 : ZV) (a : Int) (L st : List ZV) (h : PH), zev kX4_stands 92 (x0 :: x1 :: x2 :: x3 :: x4 :: zvi a :: L) st h = zev kX4_stands 94 (x0 :: x1 :: x2 :: x3 :: x4 :: zvi a :: L) (zvi a :: st) h) ∧
  (∀ (a : Int) (L : List ZV) (h : PH), zev kX4_stands 94 L [zvi a] h = zrv (zvi a) h) :=
  ⟨fun a L st h => e_ld0R (n := 1) rfl,
  fun a L st h => e_ld0R (n := 2) rfl,
  fun x0 a L st h => e_ld1I (n := 3) rfl,
  fun x0 x1 a L st h => e_ld2I (n := 4) rfl,
  fun x0 x1 x2 a L st h => e_ld3I (n := 5) rfl,
  fun v0 v1 v2 q L st h => e_callV4 (F := mX4_wayWhy) (kd := 18) (n := 8) rfl,
  fun v0 q L st h => e_callV2 (F := mX4_isRefused) (kd := 18) (n := 11) rfl,
  fun a L st h => e_ifeq (t := 16) (n := 14) rfl,
  fun L st h => e_push (v := zvi (-1)) (n := 15) rfl,
  fun a L h => e_retI rfl,
  fun a L st h => e_ld0R (n := 17) rfl,
  fun x0 a L st h => e_ld1I (n := 18) rfl,
  fun x0 x1 a L st h => e_ld2I (n := 19) rfl,
  fun x0 x1 x2 a L st h => e_ld3I (n := 20) rfl,
  fun v0 v1 v2 q L st h => e_callV4 (F := mX4_begins_2) (kd := 18) (n := 23) rfl,
  fun x0 x1 x2 x3 x4 a L st h hx => e_st4I (n := 25) rfl hx,
  fun x0 x1 x2 x3 a L st h => e_ld4I (n := 27) rfl,
  fun L st h => e_push (v := zvi (-1)) (n := 28) rfl,
  fun a b L st h => e_cmpne (t := 43) (n := 31) rfl,
  fun x0 a L st h => e_ld1I (n := 32) rfl,
  fun x0 x1 a L st h => e_ld2I (n := 33) rfl,
  fun a b L st h => e_cmpne (t := 40) (n := 36) rfl,
  fun L st h => e_push (v := zvi 0) (n := 37) rfl,
  fun L st h => e_goto (t := 42) rfl,
  fun L st h => e_push (v := zvi (-2)) (n := 42) rfl,
  fun a L h => e_retI rfl,
  fun L st h => e_push (v := zvi 0) (n := 44) rfl,
  fun x0 x1 x2 x3 x4 x5 a L st h hx => e_st5I (n := 46) rfl hx,
  fun q L st h => e_getR (kd := 18) (k := 26) (n := 50) rfl,
  fun x0 x1 x2 x3 a L st h => e_ld4I (n := 52) rfl,
  fun j q L st h => e_ald (kd := 1) (n := 53) rfl,
  fun L st h => e_push (v := zvi (-1)) (n := 54) rfl,
  fun a b L st h => e_cmpeq (t := 92) (n := 57) rfl,
  fun x0 x1 x2 x3 x4 a L st h => e_ld5I (n := 59) rfl,
  fun a L st h => e_ld0R (n := 60) rfl,
  fun a L st h => e_ld0R (n := 61) rfl,
  fun q L st h => e_getR (kd := 18) (k := 26) (n := 64) rfl,
  fun x0 x1 x2 x3 a L st h => e_ld4I (n := 66) rfl,
  fun j q L st h => e_ald (kd := 1) (n := 67) rfl,
  fun v0 q L st h => e_callV2 (F := mX4_leavesAt) (kd := 18) (n := 70) rfl,
  fun a L st h => e_ld0R (n := 71) rfl,
  fun x0 x1 x2 x3 a L st h => e_ld4I (n := 73) rfl,
  fun v0 q L st h => e_callV2 (F := mX4_arrivesAt) (kd := 18) (n := 76) rfl,
  fun a b L st h => e_bin (f := (fun a b => w32 (a - b))) (n := 77) rfl,
  fun a b L st h => e_bin (f := (fun a b => w32 (a + b))) (n := 78) rfl,
  fun x0 x1 x2 x3 x4 x5 a L st h hx => e_st5I (n := 80) rfl hx,
  fun a L st h => e_ld0R (n := 81) rfl,
  fun q L st h => e_getR (kd := 18) (k := 26) (n := 84) rfl,
  fun x0 x1 x2 x3 a L st h => e_ld4I (n := 86) rfl,
  fun j q L st h => e_ald (kd := 1) (n := 87) rfl,
  fun x0 x1 x2 x3 x4 a L st h hx => e_st4I (n := 89) rfl hx,
  fun L st h => e_goto (t := 46) rfl,
  fun x0 x1 x2 x3 x4 a L st h => e_ld5I (n := 94) rfl,
  fun a L h => e_retI rfl⟩
theorem allX4_stands : zall yX4_stands cX4_stands 6 (some .int) 9 kX4_stands.1 :=
  ⟨k_aload_n dX4_stands_0,
  k_aload_n dX4_stands_1,
  k_iload_n dX4_stands_2,
  k_iload_n dX4_stands_3,
  k_iload_n dX4_stands_4,
  k_callV (y2 := yX4_wayWhy) (C := RX4) (T0 := TX4) (ci := 2) dX4_stands_5 sndX4_wayWhy rfl q2116 q2118 qs98 q137 q2119 (by decide +kernel) ⟨by decide, by decide⟩ (by decide) (by decide),
  k_callV (y2 := yX4_isRefused) (C := RX4) (T0 := TX4) (ci := 2) dX4_stands_8 sndX4_isRefused rfl q1946 q1948 qs70 q137 q1949 (by decide +kernel) ⟨by decide, by decide⟩ (by decide) (by decide),
  k_ifeq (t := 16) dX4_stands_11 (by decide),
  k_iconst dX4_stands_14,
  k_iret dX4_stands_15,
  k_aload_n dX4_stands_16,
  k_iload_n dX4_stands_17,
  k_iload_n dX4_stands_18,
  k_iload_n dX4_stands_19,
  k_callV (y2 := yX4_begins_2) (C := RX4) (T0 := TX4) (ci := 2) dX4_stands_20 sndX4_begins_2 rfl q2163 q2165 qs108 q137 q2166 (by decide +kernel) ⟨by decide, by decide⟩ (by decide) (by decide),
  k_istore dX4_stands_23,
  k_iload dX4_stands_25,
  k_iconst dX4_stands_27,
  k_cmpne (t := 43) dX4_stands_28 (by decide),
  k_iload_n dX4_stands_31,
  k_iload_n dX4_stands_32,
  k_cmpne (t := 40) dX4_stands_33 (by decide),
  k_iconst dX4_stands_36,
  k_goto (t := 42) dX4_stands_37 (by decide),
  k_bipush dX4_stands_40,
  k_iret dX4_stands_42,
  k_iconst dX4_stands_43,
  k_istore dX4_stands_44,
  k_aload_n dX4_stands_46,
  k_getR (C := RX4) (T := TX4) (N := 42) (ci := 2) (k := 26) (ref := "LinkTimesModel") dX4_stands_47 rfl in_X4 (by decide) q1825 (Or.inl rfl) (fun _ _ _ => rfl),
  k_iload dX4_stands_50,
  k_iald dX4_stands_52,
  k_iconst dX4_stands_53,
  k_cmpeq (t := 92) dX4_stands_54 (by decide),
  k_iload dX4_stands_57,
  k_aload_n dX4_stands_59,
  k_aload_n dX4_stands_60,
  k_getR (C := RX4) (T := TX4) (N := 42) (ci := 2) (k := 26) (ref := "LinkTimesModel") dX4_stands_61 rfl in_X4 (by decide) q1825 (Or.inl rfl) (fun _ _ _ => rfl),
  k_iload dX4_stands_64,
  k_iald dX4_stands_66,
  k_callV (y2 := yX4_leavesAt) (C := RX4) (T0 := TX4) (ci := 2) dX4_stands_67 sndX4_leavesAt rfl q2100 q2102 qs96 q137 q2103 (by decide +kernel) ⟨by decide, by decide⟩ (by decide) (by decide),
  k_aload_n dX4_stands_70,
  k_iload dX4_stands_71,
  k_callV (y2 := yX4_arrivesAt) (C := RX4) (T0 := TX4) (ci := 2) dX4_stands_73 sndX4_arrivesAt rfl q2104 q2106 qs97 q137 q2107 (by decide +kernel) ⟨by decide, by decide⟩ (by decide) (by decide),
  k_isub dX4_stands_76,
  k_iadd dX4_stands_77,
  k_istore dX4_stands_78,
  k_aload_n dX4_stands_80,
  k_getR (C := RX4) (T := TX4) (N := 42) (ci := 2) (k := 26) (ref := "LinkTimesModel") dX4_stands_81 rfl in_X4 (by decide) q1825 (Or.inl rfl) (fun _ _ _ => rfl),
  k_iload dX4_stands_84,
  k_iald dX4_stands_86,
  k_istore dX4_stands_87,
  k_goto (t := 46) dX4_stands_89 (by decide),
  k_iload dX4_stands_92,
  k_iret dX4_stands_94, trivial⟩
theorem sndX4_stands : MSound 9 yX4_stands (ws_ yX4_stands cX4_stands 6 (some .int)) mX4_stands := msound_M (by decide) allX4_stands (fun _ _ => rfl)
/-! LinkTimesModel.latest(III)I -/
noncomputable def kX4_latest : ZM := ([(0, zi_ld 1 0 1), (1, zi_ld 1 0 2), (2, zi_ld 0 1 3), (3, zi_ld 0 2 4), (4, zi_ld 0 3 5), (5, zi_callV mX4_wayWhy 18 4 8), (8, zi_callV mX4_isRefused 18 2 11), (11, zi_if (fun a => zc_eq a 0) 16 14), (14, zi_push (zvi (-1)) 15), (15, zi_retv 0), (16, zi_ld 0 1 17), (17, zi_ld 0 2 18), (18, zi_cmp zc_ne 23 21), (21, zi_ld 0 3 22), (22, zi_retv 0), (23, zi_ld 1 0 24), (24, zi_ld 0 2 25), (25, zi_callV mX4_laysGoal 18 2 28), (28, zi_push (zvi (-2)) 30), (30, zi_st 0 4 32), (32, zi_push (zvi 0) 33), (33, zi_st 0 5 35), (35, zi_ld 0 5 37), (37, zi_ld 1 0 38), (38, zi_getR 18 6 41), (41, zi_push (zvi 4) 42), (42, zi_ald 1 43), (43, zi_cmp zc_ge 123 46), (46, zi_ld 1 0 47), (47, zi_ld 0 5 49), (49, zi_callV mX4_runs 18 2 52), (52, zi_if (fun a => zc_eq a 0) 85 55), (55, zi_ld 1 0 56), (56, zi_getR 18 6 59), (59, zi_ld 0 5 61), (61, zi_push (zvi 1) 62), (62, zi_callS mX4_at 2 65), (65, zi_ald 1 66), (66, zi_ld 0 1 67), (67, zi_cmp zc_ne 85 70), (70, zi_ld 1 0 71), (71, zi_getR 18 23 74), (74, zi_ld 0 5 76), (76, zi_ald 1 77), (77, zi_ld 0 3 78), (78, zi_cmp zc_gt 85 81), (81, zi_push (zvi 1) 82), (82, zi_goto 86), (85, zi_push (zvi 0) 86), (86, zi_st 0 6 88), (88, zi_ld 0 6 90), (90, zi_if (fun a => zc_eq a 0) 113 93), (93, zi_ld 1 0 94), (94, zi_ld 0 5 96), (96, zi_callV mX4_leavesAt 18 2 99), (99, zi_ld 0 4 101), (101, zi_cmp zc_le 113 104), (104, zi_ld 1 0 105), (105, zi_ld 0 5 107), (107, zi_callV mX4_leavesAt 18 2 110), (110, zi_goto 115), (113, zi_ld 0 4 115), (115, zi_st 0 4 117), (117, zi_iinc 5 1 120), (120, zi_goto 35), (123, zi_ld 0 4 125), (125, zi_retv 0)], fun _ _ => none)
noncomputable def mX4_latest : ZF := zrunM kX4_latest 7
theorem enX4_latest (x0 : Option Nat) (x1 : Int) (x2 : Int) (x3 : Int) (h : PH) : mX4_latest [zvr x0, zvi x1, zvi x2, zvi x3] h = zev kX4_latest 0 [zvr x0, zvi x1, zvi x2, zvi x3, zvu, zvu, zvu] [] h := zrunM_eq rfl rfl
theorem hdX4_latest_35 (x0 x1 x2 x3 x4 : ZV) (a : Int) (L st : List ZV) (h : PH) : zev kX4_latest 35 (x0 :: x1 :: x2 :: x3 :: x4 :: zvi a :: L) st h = zev kX4_latest 37 (x0 :: x1 :: x2 :: x3 :: x4 :: zvi a :: L) (zvi a :: st) h := e_ld5I (n := 37) rfl
theorem rX4_latest : (∀ (a : Option Nat) (L st : List ZV) (h : PH), zev kX4_latest 0 (zvr a :: L) st h = zev kX4_latest 1 (zvr a :: L) (zvr a :: st) h) ∧
  (∀ (a : Option Nat) (L st : List ZV) (h : PH), zev kX4_latest 1 (zvr a :: L) st h = zev kX4_latest 2 (zvr a :: L) (zvr a :: st) h) ∧
  (∀ (x0 : ZV) (a : Int) (L st : List ZV) (h : PH), zev kX4_latest 2 (x0 :: zvi a :: L) st h = zev kX4_latest 3 (x0 :: zvi a :: L) (zvi a :: st) h) ∧
  (∀ (x0 x1 : ZV) (a : Int) (L st : List ZV) (h : PH), zev kX4_latest 3 (x0 :: x1 :: zvi a :: L) st h = zev kX4_latest 4 (x0 :: x1 :: zvi a :: L) (zvi a :: st) h) ∧
  (∀ (x0 x1 x2 : ZV) (a : Int) (L st : List ZV) (h : PH), zev kX4_latest 4 (x0 :: x1 :: x2 :: zvi a :: L) st h = zev kX4_latest 5 (x0 :: x1 :: x2 :: zvi a :: L) (zvi a :: st) h) ∧
  (∀ (v0 v1 v2 : ZV) (q : Nat) (L st : List ZV) (h : PH), zev kX4_latest 5 L (v2 :: v1 :: v0 :: zvr (some q) :: st) h = if (ph_K h q).1 % 1000 = 18 ∧ zcat st ≤ 8 then zk kX4_latest 5 8 L st (mX4_wayWhy [zvr (some q), v0, v1, v2] h) else none) ∧
  (∀ (v0 : ZV) (q : Nat) (L st : List ZV) (h : PH), zev kX4_latest 8 L (v0 :: zvr (some q) :: st) h = if (ph_K h q).1 % 1000 = 18 ∧ zcat st ≤ 8 then zk kX4_latest 8 11 L st (mX4_isRefused [zvr (some q), v0] h) else none) ∧
  (∀ (a : Int) (L st : List ZV) (h : PH), zev kX4_latest 11 L (zvi a :: st) h = if a = 0 then zev kX4_latest 16 L st h else zev kX4_latest 14 L st h) ∧
  (∀ (L st : List ZV) (h : PH), zev kX4_latest 14 L st h = zev kX4_latest 15 L (zvi (-1) :: st) h) ∧
  (∀ (a : Int) (L : List ZV) (h : PH), zev kX4_latest 15 L [zvi a] h = zrv (zvi a) h) ∧
  (∀ (x0 : ZV) (a : Int) (L st : List ZV) (h : PH), zev kX4_latest 16 (x0 :: zvi a :: L) st h = zev kX4_latest 17 (x0 :: zvi a :: L) (zvi a :: st) h) ∧
  (∀ (x0 x1 : ZV) (a : Int) (L st : List ZV) (h : PH), zev kX4_latest 17 (x0 :: x1 :: zvi a :: L) st h = zev kX4_latest 18 (x0 :: x1 :: zvi a :: L) (zvi a :: st) h) ∧
  (∀ (a b : Int) (L st : List ZV) (h : PH), zev kX4_latest 18 L (zvi b :: zvi a :: st) h = if a ≠ b then zev kX4_latest 23 L st h else zev kX4_latest 21 L st h) ∧
  (∀ (x0 x1 x2 : ZV) (a : Int) (L st : List ZV) (h : PH), zev kX4_latest 21 (x0 :: x1 :: x2 :: zvi a :: L) st h = zev kX4_latest 22 (x0 :: x1 :: x2 :: zvi a :: L) (zvi a :: st) h) ∧
  (∀ (a : Int) (L : List ZV) (h : PH), zev kX4_latest 22 L [zvi a] h = zrv (zvi a) h) ∧
  (∀ (a : Option Nat) (L st : List ZV) (h : PH), zev kX4_latest 23 (zvr a :: L) st h = zev kX4_latest 24 (zvr a :: L) (zvr a :: st) h) ∧
  (∀ (x0 x1 : ZV) (a : Int) (L st : List ZV) (h : PH), zev kX4_latest 24 (x0 :: x1 :: zvi a :: L) st h = zev kX4_latest 25 (x0 :: x1 :: zvi a :: L) (zvi a :: st) h) ∧
  (∀ (v0 : ZV) (q : Nat) (L st : List ZV) (h : PH), zev kX4_latest 25 L (v0 :: zvr (some q) :: st) h = if (ph_K h q).1 % 1000 = 18 ∧ zcat st ≤ 8 then zk kX4_latest 25 28 L st (mX4_laysGoal [zvr (some q), v0] h) else none) ∧
  (∀ (L st : List ZV) (h : PH), zev kX4_latest 28 L st h = zev kX4_latest 30 L (zvi (-2) :: st) h) ∧
  (∀ (x0 x1 x2 x3 x4 : ZV) (a : Int) (L st : List ZV) (h : PH) (hx : zisL x3 = false) , zev kX4_latest 30 (x0 :: x1 :: x2 :: x3 :: x4 :: L) (zvi a :: st) h = zev kX4_latest 32 (x0 :: x1 :: x2 :: x3 :: zvi a :: L) st h) ∧
  (∀ (L st : List ZV) (h : PH), zev kX4_latest 32 L st h = zev kX4_latest 33 L (zvi 0 :: st) h) ∧
  (∀ (x0 x1 x2 x3 x4 x5 : ZV) (a : Int) (L st : List ZV) (h : PH) (hx : zisL x4 = false) , zev kX4_latest 33 (x0 :: x1 :: x2 :: x3 :: x4 :: x5 :: L) (zvi a :: st) h = zev kX4_latest 35 (x0 :: x1 :: x2 :: x3 :: x4 :: zvi a :: L) st h) ∧
  (∀ (a : Option Nat) (L st : List ZV) (h : PH), zev kX4_latest 37 (zvr a :: L) st h = zev kX4_latest 38 (zvr a :: L) (zvr a :: st) h) ∧
  (∀ (q : Nat) (L st : List ZV) (h : PH), zev kX4_latest 38 L (zvr (some q) :: st) h = if (ph_K h q).1 % 1000 = 18 then zev kX4_latest 41 L (zvr (ph_R h q 6) :: st) h else none) ∧
  (∀ (L st : List ZV) (h : PH), zev kX4_latest 41 L st h = zev kX4_latest 42 L (zvi 4 :: st) h) ∧
  (∀ (j : Int) (q : Nat) (L st : List ZV) (h : PH), zev kX4_latest 42 L (zvi j :: zvr (some q) :: st) h = if (ph_K h q).1 % 1000 = 1 ∧ 0 ≤ j ∧ j < (ph_K h q).2 then zev kX4_latest 43 L (zvi (ph_I h q j) :: st) h else none) ∧
  (∀ (a b : Int) (L st : List ZV) (h : PH), zev kX4_latest 43 L (zvi b :: zvi a :: st) h = if a ≥ b then zev kX4_latest 123 L st h else zev kX4_latest 46 L st h) ∧
  (∀ (a : Option Nat) (L st : List ZV) (h : PH), zev kX4_latest 46 (zvr a :: L) st h = zev kX4_latest 47 (zvr a :: L) (zvr a :: st) h) ∧
  (∀ (x0 x1 x2 x3 x4 : ZV) (a : Int) (L st : List ZV) (h : PH), zev kX4_latest 47 (x0 :: x1 :: x2 :: x3 :: x4 :: zvi a :: L) st h = zev kX4_latest 49 (x0 :: x1 :: x2 :: x3 :: x4 :: zvi a :: L) (zvi a :: st) h) ∧
  (∀ (v0 : ZV) (q : Nat) (L st : List ZV) (h : PH), zev kX4_latest 49 L (v0 :: zvr (some q) :: st) h = if (ph_K h q).1 % 1000 = 18 ∧ zcat st ≤ 8 then zk kX4_latest 49 52 L st (mX4_runs [zvr (some q), v0] h) else none) ∧
  (∀ (a : Int) (L st : List ZV) (h : PH), zev kX4_latest 52 L (zvi a :: st) h = if a = 0 then zev kX4_latest 85 L st h else zev kX4_latest 55 L st h) ∧
  (∀ (a : Option Nat) (L st : List ZV) (h : PH), zev kX4_latest 55 (zvr a :: L) st h = zev kX4_latest 56 (zvr a :: L) (zvr a :: st) h) ∧
  (∀ (q : Nat) (L st : List ZV) (h : PH), zev kX4_latest 56 L (zvr (some q) :: st) h = if (ph_K h q).1 % 1000 = 18 then zev kX4_latest 59 L (zvr (ph_R h q 6) :: st) h else none) ∧
  (∀ (x0 x1 x2 x3 x4 : ZV) (a : Int) (L st : List ZV) (h : PH), zev kX4_latest 59 (x0 :: x1 :: x2 :: x3 :: x4 :: zvi a :: L) st h = zev kX4_latest 61 (x0 :: x1 :: x2 :: x3 :: x4 :: zvi a :: L) (zvi a :: st) h) ∧
  (∀ (L st : List ZV) (h : PH), zev kX4_latest 61 L st h = zev kX4_latest 62 L (zvi 1 :: st) h) ∧
  (∀ (v0 v1 : ZV) (L st : List ZV) (h : PH), zev kX4_latest 62 L (v1 :: v0 :: st) h = if zcat st ≤ 8 then zk kX4_latest 62 65 L st (mX4_at [v0, v1] h) else none) ∧
  (∀ (j : Int) (q : Nat) (L st : List ZV) (h : PH), zev kX4_latest 65 L (zvi j :: zvr (some q) :: st) h = if (ph_K h q).1 % 1000 = 1 ∧ 0 ≤ j ∧ j < (ph_K h q).2 then zev kX4_latest 66 L (zvi (ph_I h q j) :: st) h else none) ∧
  (∀ (x0 : ZV) (a : Int) (L st : List ZV) (h : PH), zev kX4_latest 66 (x0 :: zvi a :: L) st h = zev kX4_latest 67 (x0 :: zvi a :: L) (zvi a :: st) h) ∧
  (∀ (a b : Int) (L st : List ZV) (h : PH), zev kX4_latest 67 L (zvi b :: zvi a :: st) h = if a ≠ b then zev kX4_latest 85 L st h else zev kX4_latest 70 L st h) ∧
  (∀ (a : Option Nat) (L st : List ZV) (h : PH), zev kX4_latest 70 (zvr a :: L) st h = zev kX4_latest 71 (zvr a :: L) (zvr a :: st) h) ∧
  (∀ (q : Nat) (L st : List ZV) (h : PH), zev kX4_latest 71 L (zvr (some q) :: st) h = if (ph_K h q).1 % 1000 = 18 then zev kX4_latest 74 L (zvr (ph_R h q 23) :: st) h else none) ∧
  (∀ (x0 x1 x2 x3 x4 : ZV) (a : Int) (L st : List ZV) (h : PH), zev kX4_latest 74 (x0 :: x1 :: x2 :: x3 :: x4 :: zvi a :: L) st h = zev kX4_latest 76 (x0 :: x1 :: x2 :: x3 :: x4 :: zvi a :: L) (zvi a :: st) h) ∧
  (∀ (j : Int) (q : Nat) (L st : List ZV) (h : PH), zev kX4_latest 76 L (zvi j :: zvr (some q) :: st) h = if (ph_K h q).1 % 1000 = 1 ∧ 0 ≤ j ∧ j < (ph_K h q).2 then zev kX4_latest 77 L (zvi (ph_I h q j) :: st) h else none) ∧
  (∀ (x0 x1 x2 : ZV) (a : Int) (L st : List ZV) (h : PH), zev kX4_latest 77 (x0 :: x1 :: x2 :: zvi a :: L) st h = zev kX4_latest 78 (x0 :: x1 :: x2 :: zvi a :: L) (zvi a :: st) h) ∧
  (∀ (a b : Int) (L st : List ZV) (h : PH), zev kX4_latest 78 L (zvi b :: zvi a :: st) h = if a > b then zev kX4_latest 85 L st h else zev kX4_latest 81 L st h) ∧
  (∀ (L st : List ZV) (h : PH), zev kX4_latest 81 L st h = zev kX4_latest 82 L (zvi 1 :: st) h) ∧
  (∀ (L st : List ZV) (h : PH), zev kX4_latest 82 L st h = zev kX4_latest 86 L st h) ∧
  (∀ (L st : List ZV) (h : PH), zev kX4_latest 85 L st h = zev kX4_latest 86 L (zvi 0 :: st) h) ∧
  (∀ (x0 x1 x2 x3 x4 x5 x6 : ZV) (a : Int) (L st : List ZV) (h : PH) (hx : zisL x5 = false) , zev kX4_latest 86 (x0 :: x1 :: x2 :: x3 :: x4 :: x5 :: x6 :: L) (zvi a :: st) h = zev kX4_latest 88 (x0 :: x1 :: x2 :: x3 :: x4 :: x5 :: zvi a :: L) st h) ∧
  (∀ (x0 x1 x2 x3 x4 x5 : ZV) (a : Int) (L st : List ZV) (h : PH), zev kX4_latest 88 (x0 :: x1 :: x2 :: x3 :: x4 :: x5 :: zvi a :: L) st h = zev kX4_latest 90 (x0 :: x1 :: x2 :: x3 :: x4 :: x5 :: zvi a :: L) (zvi a :: st) h) ∧
  (∀ (a : Int) (L st : List ZV) (h : PH), zev kX4_latest 90 L (zvi a :: st) h = if a = 0 then zev kX4_latest 113 L st h else zev kX4_latest 93 L st h) ∧
  (∀ (a : Option Nat) (L st : List ZV) (h : PH), zev kX4_latest 93 (zvr a :: L) st h = zev kX4_latest 94 (zvr a :: L) (zvr a :: st) h) ∧
  (∀ (x0 x1 x2 x3 x4 : ZV) (a : Int) (L st : List ZV) (h : PH), zev kX4_latest 94 (x0 :: x1 :: x2 :: x3 :: x4 :: zvi a :: L) st h = zev kX4_latest 96 (x0 :: x1 :: x2 :: x3 :: x4 :: zvi a :: L) (zvi a :: st) h) ∧
  (∀ (v0 : ZV) (q : Nat) (L st : List ZV) (h : PH), zev kX4_latest 96 L (v0 :: zvr (some q) :: st) h = if (ph_K h q).1 % 1000 = 18 ∧ zcat st ≤ 8 then zk kX4_latest 96 99 L st (mX4_leavesAt [zvr (some q), v0] h) else none) ∧
  (∀ (x0 x1 x2 x3 : ZV) (a : Int) (L st : List ZV) (h : PH), zev kX4_latest 99 (x0 :: x1 :: x2 :: x3 :: zvi a :: L) st h = zev kX4_latest 101 (x0 :: x1 :: x2 :: x3 :: zvi a :: L) (zvi a :: st) h) ∧
  (∀ (a b : Int) (L st : List ZV) (h : PH), zev kX4_latest 101 L (zvi b :: zvi a :: st) h = if a ≤ b then zev kX4_latest 113 L st h else zev kX4_latest 104 L st h) ∧
  (∀ (a : Option Nat) (L st : List ZV) (h : PH), zev kX4_latest 104 (zvr a :: L) st h = zev kX4_latest 105 (zvr a :: L) (zvr a :: st) h) ∧
  (∀ (x0 x1 x2 x3 x4 : ZV) (a : Int) (L st : List ZV) (h : PH), zev kX4_latest 105 (x0 :: x1 :: x2 :: x3 :: x4 :: zvi a :: L) st h = zev kX4_latest 107 (x0 :: x1 :: x2 :: x3 :: x4 :: zvi a :: L) (zvi a :: st) h) ∧
  (∀ (v0 : ZV) (q : Nat) (L st : List ZV) (h : PH), zev kX4_latest 107 L (v0 :: zvr (some q) :: st) h = if (ph_K h q).1 % 1000 = 18 ∧ zcat st ≤ 8 then zk kX4_latest 107 110 L st (mX4_leavesAt [zvr (some q), v0] h) else none) ∧
  (∀ (L st : List ZV) (h : PH), zev kX4_latest 110 L st h = zev kX4_latest 115 L st h) ∧
  (∀ (x0 x1 x2 x3 : ZV) (a : Int) (L st : List ZV) (h : PH), zev kX4_latest 113 (x0 :: x1 :: x2 :: x3 :: zvi a :: L) st h = zev kX4_latest 115 (x0 :: x1 :: x2 :: x3 :: zvi a :: L) (zvi a :: st) h) ∧
  (∀ (x0 x1 x2 x3 x4 : ZV) (a : Int) (L st : List ZV) (h : PH) (hx : zisL x3 = false) , zev kX4_latest 115 (x0 :: x1 :: x2 :: x3 :: x4 :: L) (zvi a :: st) h = zev kX4_latest 117 (x0 :: x1 :: x2 :: x3 :: zvi a :: L) st h) ∧
  (∀ (x0 x1 x2 x3 x4 : ZV) (a : Int) (L st : List ZV) (h : PH) (hx : zisL x4 = false) , zev kX4_latest 117 (x0 :: x1 :: x2 :: x3 :: x4 :: zvi a :: L) st h = zev kX4_latest 120 (x0 :: x1 :: x2 :: x3 :: x4 :: zvi (w32 (a + 1)) :: L) st h) ∧
  (∀ (L st : List ZV) (h : PH), zev kX4_latest 120 L st h = zev kX4_latest 35 L st h) ∧
  (∀ (x0 x1 x2 x3 : ZV) (a : Int) (L st : List ZV) (h : PH), zev kX4_latest 123 (x0 :: x1 :: x2 :: x3 :: zvi a :: L) st h = zev kX4_latest 125 (x0 :: x1 :: x2 :: x3 :: zvi a :: L) (zvi a :: st) h) ∧
  (∀ (a : Int) (L : List ZV) (h : PH), zev kX4_latest 125 L [zvi a] h = zrv (zvi a) h) :=
  ⟨fun a L st h => e_ld0R (n := 1) rfl,
  fun a L st h => e_ld0R (n := 2) rfl,
  fun x0 a L st h => e_ld1I (n := 3) rfl,
  fun x0 x1 a L st h => e_ld2I (n := 4) rfl,
  fun x0 x1 x2 a L st h => e_ld3I (n := 5) rfl,
  fun v0 v1 v2 q L st h => e_callV4 (F := mX4_wayWhy) (kd := 18) (n := 8) rfl,
  fun v0 q L st h => e_callV2 (F := mX4_isRefused) (kd := 18) (n := 11) rfl,
  fun a L st h => e_ifeq (t := 16) (n := 14) rfl,
  fun L st h => e_push (v := zvi (-1)) (n := 15) rfl,
  fun a L h => e_retI rfl,
  fun x0 a L st h => e_ld1I (n := 17) rfl,
  fun x0 x1 a L st h => e_ld2I (n := 18) rfl,
  fun a b L st h => e_cmpne (t := 23) (n := 21) rfl,
  fun x0 x1 x2 a L st h => e_ld3I (n := 22) rfl,
  fun a L h => e_retI rfl,
  fun a L st h => e_ld0R (n := 24) rfl,
  fun x0 x1 a L st h => e_ld2I (n := 25) rfl,
  fun v0 q L st h => e_callV2 (F := mX4_laysGoal) (kd := 18) (n := 28) rfl,
  fun L st h => e_push (v := zvi (-2)) (n := 30) rfl,
  fun x0 x1 x2 x3 x4 a L st h hx => e_st4I (n := 32) rfl hx,
  fun L st h => e_push (v := zvi 0) (n := 33) rfl,
  fun x0 x1 x2 x3 x4 x5 a L st h hx => e_st5I (n := 35) rfl hx,
  fun a L st h => e_ld0R (n := 38) rfl,
  fun q L st h => e_getR (kd := 18) (k := 6) (n := 41) rfl,
  fun L st h => e_push (v := zvi 4) (n := 42) rfl,
  fun j q L st h => e_ald (kd := 1) (n := 43) rfl,
  fun a b L st h => e_cmpge (t := 123) (n := 46) rfl,
  fun a L st h => e_ld0R (n := 47) rfl,
  fun x0 x1 x2 x3 x4 a L st h => e_ld5I (n := 49) rfl,
  fun v0 q L st h => e_callV2 (F := mX4_runs) (kd := 18) (n := 52) rfl,
  fun a L st h => e_ifeq (t := 85) (n := 55) rfl,
  fun a L st h => e_ld0R (n := 56) rfl,
  fun q L st h => e_getR (kd := 18) (k := 6) (n := 59) rfl,
  fun x0 x1 x2 x3 x4 a L st h => e_ld5I (n := 61) rfl,
  fun L st h => e_push (v := zvi 1) (n := 62) rfl,
  fun v0 v1 L st h => e_callS2 (F := mX4_at) (n := 65) rfl,
  fun j q L st h => e_ald (kd := 1) (n := 66) rfl,
  fun x0 a L st h => e_ld1I (n := 67) rfl,
  fun a b L st h => e_cmpne (t := 85) (n := 70) rfl,
  fun a L st h => e_ld0R (n := 71) rfl,
  fun q L st h => e_getR (kd := 18) (k := 23) (n := 74) rfl,
  fun x0 x1 x2 x3 x4 a L st h => e_ld5I (n := 76) rfl,
  fun j q L st h => e_ald (kd := 1) (n := 77) rfl,
  fun x0 x1 x2 a L st h => e_ld3I (n := 78) rfl,
  fun a b L st h => e_cmpgt (t := 85) (n := 81) rfl,
  fun L st h => e_push (v := zvi 1) (n := 82) rfl,
  fun L st h => e_goto (t := 86) rfl,
  fun L st h => e_push (v := zvi 0) (n := 86) rfl,
  fun x0 x1 x2 x3 x4 x5 x6 a L st h hx => e_st6I (n := 88) rfl hx,
  fun x0 x1 x2 x3 x4 x5 a L st h => e_ld6I (n := 90) rfl,
  fun a L st h => e_ifeq (t := 113) (n := 93) rfl,
  fun a L st h => e_ld0R (n := 94) rfl,
  fun x0 x1 x2 x3 x4 a L st h => e_ld5I (n := 96) rfl,
  fun v0 q L st h => e_callV2 (F := mX4_leavesAt) (kd := 18) (n := 99) rfl,
  fun x0 x1 x2 x3 a L st h => e_ld4I (n := 101) rfl,
  fun a b L st h => e_cmple (t := 113) (n := 104) rfl,
  fun a L st h => e_ld0R (n := 105) rfl,
  fun x0 x1 x2 x3 x4 a L st h => e_ld5I (n := 107) rfl,
  fun v0 q L st h => e_callV2 (F := mX4_leavesAt) (kd := 18) (n := 110) rfl,
  fun L st h => e_goto (t := 115) rfl,
  fun x0 x1 x2 x3 a L st h => e_ld4I (n := 115) rfl,
  fun x0 x1 x2 x3 x4 a L st h hx => e_st4I (n := 117) rfl hx,
  fun x0 x1 x2 x3 x4 a L st h hx => e_iinc5 (d := 1) (n := 120) rfl hx,
  fun L st h => e_goto (t := 35) rfl,
  fun x0 x1 x2 x3 a L st h => e_ld4I (n := 125) rfl,
  fun a L h => e_retI rfl⟩
theorem allX4_latest : zall yX4_latest cX4_latest 7 (some .int) 7 kX4_latest.1 :=
  ⟨k_aload_n dX4_latest_0,
  k_aload_n dX4_latest_1,
  k_iload_n dX4_latest_2,
  k_iload_n dX4_latest_3,
  k_iload_n dX4_latest_4,
  k_callV (y2 := yX4_wayWhy) (C := RX4) (T0 := TX4) (ci := 2) dX4_latest_5 sndX4_wayWhy rfl q2116 q2118 qs98 q137 q2119 (by decide +kernel) ⟨by decide, by decide⟩ (by decide) (by decide),
  k_callV (y2 := yX4_isRefused) (C := RX4) (T0 := TX4) (ci := 2) dX4_latest_8 sndX4_isRefused rfl q1946 q1948 qs70 q137 q1949 (by decide +kernel) ⟨by decide, by decide⟩ (by decide) (by decide),
  k_ifeq (t := 16) dX4_latest_11 (by decide),
  k_iconst dX4_latest_14,
  k_iret dX4_latest_15,
  k_iload_n dX4_latest_16,
  k_iload_n dX4_latest_17,
  k_cmpne (t := 23) dX4_latest_18 (by decide),
  k_iload_n dX4_latest_21,
  k_iret dX4_latest_22,
  k_aload_n dX4_latest_23,
  k_iload_n dX4_latest_24,
  k_callV (y2 := yX4_laysGoal) (C := RX4) (T0 := TX4) (ci := 2) dX4_latest_25 sndX4_laysGoal rfl q2127 q2129 qs100 q137 q2130 (by decide +kernel) ⟨by decide, by decide⟩ (by decide) (by decide),
  k_bipush dX4_latest_28,
  k_istore dX4_latest_30,
  k_iconst dX4_latest_32,
  k_istore dX4_latest_33,
  k_iload dX4_latest_35,
  k_aload_n dX4_latest_37,
  k_getR (C := RX4) (T := TX4) (N := 42) (ci := 2) (k := 6) (ref := "LinkTimesModel") dX4_latest_38 rfl in_X4 (by decide) q1805 (Or.inl rfl) (fun _ _ _ => rfl),
  k_iconst dX4_latest_41,
  k_iald dX4_latest_42,
  k_cmpge (t := 123) dX4_latest_43 (by decide),
  k_aload_n dX4_latest_46,
  k_iload dX4_latest_47,
  k_callV (y2 := yX4_runs) (C := RX4) (T0 := TX4) (ci := 2) dX4_latest_49 sndX4_runs rfl q2076 q2078 qs92 q137 q2079 (by decide +kernel) ⟨by decide, by decide⟩ (by decide) (by decide),
  k_ifeq (t := 85) dX4_latest_52 (by decide),
  k_aload_n dX4_latest_55,
  k_getR (C := RX4) (T := TX4) (N := 42) (ci := 2) (k := 6) (ref := "LinkTimesModel") dX4_latest_56 rfl in_X4 (by decide) q1805 (Or.inl rfl) (fun _ _ _ => rfl),
  k_iload dX4_latest_59,
  k_iconst dX4_latest_61,
  k_callS (y2 := yX4_at) dX4_latest_62 sndX4_at q2047 q2048 q137 q2049 (by decide +kernel) ⟨by decide, by decide⟩ (by decide) (by decide),
  k_iald dX4_latest_65,
  k_iload_n dX4_latest_66,
  k_cmpne (t := 85) dX4_latest_67 (by decide),
  k_aload_n dX4_latest_70,
  k_getR (C := RX4) (T := TX4) (N := 42) (ci := 2) (k := 23) (ref := "LinkTimesModel") dX4_latest_71 rfl in_X4 (by decide) q1822 (Or.inl rfl) (fun _ _ _ => rfl),
  k_iload dX4_latest_74,
  k_iald dX4_latest_76,
  k_iload_n dX4_latest_77,
  k_cmpgt (t := 85) dX4_latest_78 (by decide),
  k_iconst dX4_latest_81,
  k_goto (t := 86) dX4_latest_82 (by decide),
  k_iconst dX4_latest_85,
  k_istore dX4_latest_86,
  k_iload dX4_latest_88,
  k_ifeq (t := 113) dX4_latest_90 (by decide),
  k_aload_n dX4_latest_93,
  k_iload dX4_latest_94,
  k_callV (y2 := yX4_leavesAt) (C := RX4) (T0 := TX4) (ci := 2) dX4_latest_96 sndX4_leavesAt rfl q2100 q2102 qs96 q137 q2103 (by decide +kernel) ⟨by decide, by decide⟩ (by decide) (by decide),
  k_iload dX4_latest_99,
  k_cmple (t := 113) dX4_latest_101 (by decide),
  k_aload_n dX4_latest_104,
  k_iload dX4_latest_105,
  k_callV (y2 := yX4_leavesAt) (C := RX4) (T0 := TX4) (ci := 2) dX4_latest_107 sndX4_leavesAt rfl q2100 q2102 qs96 q137 q2103 (by decide +kernel) ⟨by decide, by decide⟩ (by decide) (by decide),
  k_goto (t := 115) dX4_latest_110 (by decide),
  k_iload dX4_latest_113,
  k_istore dX4_latest_115,
  k_iinc dX4_latest_117,
  k_goto (t := 35) dX4_latest_120 (by decide),
  k_iload dX4_latest_123,
  k_iret dX4_latest_125, trivial⟩
theorem sndX4_latest : MSound 7 yX4_latest (ws_ yX4_latest cX4_latest 7 (some .int)) mX4_latest := msound_M (by decide) allX4_latest (fun _ _ => rfl)
/-! LinkTimesModel.reach(III)I -/
noncomputable def kX4_reach : ZM := ([(0, zi_ld 1 0 1), (1, zi_ld 1 0 2), (2, zi_ld 0 1 3), (3, zi_callV mX4_isSpot 18 2 6), (6, zi_ld 0 2 7), (7, zi_push (zvi 0) 8), (8, zi_push (zvi 1999) 11), (11, zi_callS mX4_in 3 14), (14, zi_if (fun a => zc_eq a 0) 32 17), (17, zi_ld 0 3 18), (18, zi_push (zvi 0) 19), (19, zi_push (zvi 1999) 22), (22, zi_callS mX4_in 3 25), (25, zi_if (fun a => zc_eq a 0) 32 28), (28, zi_push (zvi 1) 29), (29, zi_goto 33), (32, zi_push (zvi 0) 33), (33, zi_callS mX4_unless_2 2 36), (36, zi_callV mX4_isRefused 18 2 39), (39, zi_if (fun a => zc_eq a 0) 44 42), (42, zi_push (zvi (-1)) 43), (43, zi_retv 0), (44, zi_push (zvi 0) 45), (45, zi_st 0 4 47), (47, zi_push (zvi 0) 48), (48, zi_st 0 5 50), (50, zi_ld 0 5 52), (52, zi_ld 1 0 53), (53, zi_getR 18 6 56), (56, zi_push (zvi 1) 57), (57, zi_ald 1 58), (58, zi_cmp zc_ge 103 61), (61, zi_ld 1 0 62), (62, zi_ld 0 1 63), (63, zi_ld 0 5 65), (65, zi_ld 0 2 66), (66, zi_callV mX4_best 18 4 69), (69, zi_st 0 6 71), (71, zi_ld 0 4 73), (73, zi_ld 0 6 75), (75, zi_push (zvi (-2)) 77), (77, zi_cmp zc_eq 93 80), (80, zi_ld 0 6 82), (82, zi_ld 0 3 83), (83, zi_cmp zc_gt 93 86), (86, zi_push (zvi 1) 87), (87, zi_ld 0 5 89), (89, zi_bin zshl 90), (90, zi_goto 94), (93, zi_push (zvi 0) 94), (94, zi_bin zor 95), (95, zi_st 0 4 97), (97, zi_iinc 5 1 100), (100, zi_goto 50), (103, zi_ld 0 4 105), (105, zi_retv 0)], fun _ _ => none)
noncomputable def mX4_reach : ZF := zrunM kX4_reach 7
theorem enX4_reach (x0 : Option Nat) (x1 : Int) (x2 : Int) (x3 : Int) (h : PH) : mX4_reach [zvr x0, zvi x1, zvi x2, zvi x3] h = zev kX4_reach 0 [zvr x0, zvi x1, zvi x2, zvi x3, zvu, zvu, zvu] [] h := zrunM_eq rfl rfl
theorem hdX4_reach_50 (x0 x1 x2 x3 x4 : ZV) (a : Int) (L st : List ZV) (h : PH) : zev kX4_reach 50 (x0 :: x1 :: x2 :: x3 :: x4 :: zvi a :: L) st h = zev kX4_reach 52 (x0 :: x1 :: x2 :: x3 :: x4 :: zvi a :: L) (zvi a :: st) h := e_ld5I (n := 52) rfl
theorem rX4_reach : (∀ (a : Option Nat) (L st : List ZV) (h : PH), zev kX4_reach 0 (zvr a :: L) st h = zev kX4_reach 1 (zvr a :: L) (zvr a :: st) h) ∧
  (∀ (a : Option Nat) (L st : List ZV) (h : PH), zev kX4_reach 1 (zvr a :: L) st h = zev kX4_reach 2 (zvr a :: L) (zvr a :: st) h) ∧
  (∀ (x0 : ZV) (a : Int) (L st : List ZV) (h : PH), zev kX4_reach 2 (x0 :: zvi a :: L) st h = zev kX4_reach 3 (x0 :: zvi a :: L) (zvi a :: st) h) ∧
  (∀ (v0 : ZV) (q : Nat) (L st : List ZV) (h : PH), zev kX4_reach 3 L (v0 :: zvr (some q) :: st) h = if (ph_K h q).1 % 1000 = 18 ∧ zcat st ≤ 8 then zk kX4_reach 3 6 L st (mX4_isSpot [zvr (some q), v0] h) else none) ∧
  (∀ (x0 x1 : ZV) (a : Int) (L st : List ZV) (h : PH), zev kX4_reach 6 (x0 :: x1 :: zvi a :: L) st h = zev kX4_reach 7 (x0 :: x1 :: zvi a :: L) (zvi a :: st) h) ∧
  (∀ (L st : List ZV) (h : PH), zev kX4_reach 7 L st h = zev kX4_reach 8 L (zvi 0 :: st) h) ∧
  (∀ (L st : List ZV) (h : PH), zev kX4_reach 8 L st h = zev kX4_reach 11 L (zvi 1999 :: st) h) ∧
  (∀ (v0 v1 v2 : ZV) (L st : List ZV) (h : PH), zev kX4_reach 11 L (v2 :: v1 :: v0 :: st) h = if zcat st ≤ 8 then zk kX4_reach 11 14 L st (mX4_in [v0, v1, v2] h) else none) ∧
  (∀ (a : Int) (L st : List ZV) (h : PH), zev kX4_reach 14 L (zvi a :: st) h = if a = 0 then zev kX4_reach 32 L st h else zev kX4_reach 17 L st h) ∧
  (∀ (x0 x1 x2 : ZV) (a : Int) (L st : List ZV) (h : PH), zev kX4_reach 17 (x0 :: x1 :: x2 :: zvi a :: L) st h = zev kX4_reach 18 (x0 :: x1 :: x2 :: zvi a :: L) (zvi a :: st) h) ∧
  (∀ (L st : List ZV) (h : PH), zev kX4_reach 18 L st h = zev kX4_reach 19 L (zvi 0 :: st) h) ∧
  (∀ (L st : List ZV) (h : PH), zev kX4_reach 19 L st h = zev kX4_reach 22 L (zvi 1999 :: st) h) ∧
  (∀ (v0 v1 v2 : ZV) (L st : List ZV) (h : PH), zev kX4_reach 22 L (v2 :: v1 :: v0 :: st) h = if zcat st ≤ 8 then zk kX4_reach 22 25 L st (mX4_in [v0, v1, v2] h) else none) ∧
  (∀ (a : Int) (L st : List ZV) (h : PH), zev kX4_reach 25 L (zvi a :: st) h = if a = 0 then zev kX4_reach 32 L st h else zev kX4_reach 28 L st h) ∧
  (∀ (L st : List ZV) (h : PH), zev kX4_reach 28 L st h = zev kX4_reach 29 L (zvi 1 :: st) h) ∧
  (∀ (L st : List ZV) (h : PH), zev kX4_reach 29 L st h = zev kX4_reach 33 L st h) ∧
  (∀ (L st : List ZV) (h : PH), zev kX4_reach 32 L st h = zev kX4_reach 33 L (zvi 0 :: st) h) ∧
  (∀ (v0 v1 : ZV) (L st : List ZV) (h : PH), zev kX4_reach 33 L (v1 :: v0 :: st) h = if zcat st ≤ 8 then zk kX4_reach 33 36 L st (mX4_unless_2 [v0, v1] h) else none) ∧
  (∀ (v0 : ZV) (q : Nat) (L st : List ZV) (h : PH), zev kX4_reach 36 L (v0 :: zvr (some q) :: st) h = if (ph_K h q).1 % 1000 = 18 ∧ zcat st ≤ 8 then zk kX4_reach 36 39 L st (mX4_isRefused [zvr (some q), v0] h) else none) ∧
  (∀ (a : Int) (L st : List ZV) (h : PH), zev kX4_reach 39 L (zvi a :: st) h = if a = 0 then zev kX4_reach 44 L st h else zev kX4_reach 42 L st h) ∧
  (∀ (L st : List ZV) (h : PH), zev kX4_reach 42 L st h = zev kX4_reach 43 L (zvi (-1) :: st) h) ∧
  (∀ (a : Int) (L : List ZV) (h : PH), zev kX4_reach 43 L [zvi a] h = zrv (zvi a) h) ∧
  (∀ (L st : List ZV) (h : PH), zev kX4_reach 44 L st h = zev kX4_reach 45 L (zvi 0 :: st) h) ∧
  (∀ (x0 x1 x2 x3 x4 : ZV) (a : Int) (L st : List ZV) (h : PH) (hx : zisL x3 = false) , zev kX4_reach 45 (x0 :: x1 :: x2 :: x3 :: x4 :: L) (zvi a :: st) h = zev kX4_reach 47 (x0 :: x1 :: x2 :: x3 :: zvi a :: L) st h) ∧
  (∀ (L st : List ZV) (h : PH), zev kX4_reach 47 L st h = zev kX4_reach 48 L (zvi 0 :: st) h) ∧
  (∀ (x0 x1 x2 x3 x4 x5 : ZV) (a : Int) (L st : List ZV) (h : PH) (hx : zisL x4 = false) , zev kX4_reach 48 (x0 :: x1 :: x2 :: x3 :: x4 :: x5 :: L) (zvi a :: st) h = zev kX4_reach 50 (x0 :: x1 :: x2 :: x3 :: x4 :: zvi a :: L) st h) ∧
  (∀ (a : Option Nat) (L st : List ZV) (h : PH), zev kX4_reach 52 (zvr a :: L) st h = zev kX4_reach 53 (zvr a :: L) (zvr a :: st) h) ∧
  (∀ (q : Nat) (L st : List ZV) (h : PH), zev kX4_reach 53 L (zvr (some q) :: st) h = if (ph_K h q).1 % 1000 = 18 then zev kX4_reach 56 L (zvr (ph_R h q 6) :: st) h else none) ∧
  (∀ (L st : List ZV) (h : PH), zev kX4_reach 56 L st h = zev kX4_reach 57 L (zvi 1 :: st) h) ∧
  (∀ (j : Int) (q : Nat) (L st : List ZV) (h : PH), zev kX4_reach 57 L (zvi j :: zvr (some q) :: st) h = if (ph_K h q).1 % 1000 = 1 ∧ 0 ≤ j ∧ j < (ph_K h q).2 then zev kX4_reach 58 L (zvi (ph_I h q j) :: st) h else none) ∧
  (∀ (a b : Int) (L st : List ZV) (h : PH), zev kX4_reach 58 L (zvi b :: zvi a :: st) h = if a ≥ b then zev kX4_reach 103 L st h else zev kX4_reach 61 L st h) ∧
  (∀ (a : Option Nat) (L st : List ZV) (h : PH), zev kX4_reach 61 (zvr a :: L) st h = zev kX4_reach 62 (zvr a :: L) (zvr a :: st) h) ∧
  (∀ (x0 : ZV) (a : Int) (L st : List ZV) (h : PH), zev kX4_reach 62 (x0 :: zvi a :: L) st h = zev kX4_reach 63 (x0 :: zvi a :: L) (zvi a :: st) h) ∧
  (∀ (x0 x1 x2 x3 x4 : ZV) (a : Int) (L st : List ZV) (h : PH), zev kX4_reach 63 (x0 :: x1 :: x2 :: x3 :: x4 :: zvi a :: L) st h = zev kX4_reach 65 (x0 :: x1 :: x2 :: x3 :: x4 :: zvi a :: L) (zvi a :: st) h) ∧
  (∀ (x0 x1 : ZV) (a : Int) (L st : List ZV) (h : PH), zev kX4_reach 65 (x0 :: x1 :: zvi a :: L) st h = zev kX4_reach 66 (x0 :: x1 :: zvi a :: L) (zvi a :: st) h) ∧
  (∀ (v0 v1 v2 : ZV) (q : Nat) (L st : List ZV) (h : PH), zev kX4_reach 66 L (v2 :: v1 :: v0 :: zvr (some q) :: st) h = if (ph_K h q).1 % 1000 = 18 ∧ zcat st ≤ 8 then zk kX4_reach 66 69 L st (mX4_best [zvr (some q), v0, v1, v2] h) else none) ∧
  (∀ (x0 x1 x2 x3 x4 x5 x6 : ZV) (a : Int) (L st : List ZV) (h : PH) (hx : zisL x5 = false) , zev kX4_reach 69 (x0 :: x1 :: x2 :: x3 :: x4 :: x5 :: x6 :: L) (zvi a :: st) h = zev kX4_reach 71 (x0 :: x1 :: x2 :: x3 :: x4 :: x5 :: zvi a :: L) st h) ∧
  (∀ (x0 x1 x2 x3 : ZV) (a : Int) (L st : List ZV) (h : PH), zev kX4_reach 71 (x0 :: x1 :: x2 :: x3 :: zvi a :: L) st h = zev kX4_reach 73 (x0 :: x1 :: x2 :: x3 :: zvi a :: L) (zvi a :: st) h) ∧
  (∀ (x0 x1 x2 x3 x4 x5 : ZV) (a : Int) (L st : List ZV) (h : PH), zev kX4_reach 73 (x0 :: x1 :: x2 :: x3 :: x4 :: x5 :: zvi a :: L) st h = zev kX4_reach 75 (x0 :: x1 :: x2 :: x3 :: x4 :: x5 :: zvi a :: L) (zvi a :: st) h) ∧
  (∀ (L st : List ZV) (h : PH), zev kX4_reach 75 L st h = zev kX4_reach 77 L (zvi (-2) :: st) h) ∧
  (∀ (a b : Int) (L st : List ZV) (h : PH), zev kX4_reach 77 L (zvi b :: zvi a :: st) h = if a = b then zev kX4_reach 93 L st h else zev kX4_reach 80 L st h) ∧
  (∀ (x0 x1 x2 x3 x4 x5 : ZV) (a : Int) (L st : List ZV) (h : PH), zev kX4_reach 80 (x0 :: x1 :: x2 :: x3 :: x4 :: x5 :: zvi a :: L) st h = zev kX4_reach 82 (x0 :: x1 :: x2 :: x3 :: x4 :: x5 :: zvi a :: L) (zvi a :: st) h) ∧
  (∀ (x0 x1 x2 : ZV) (a : Int) (L st : List ZV) (h : PH), zev kX4_reach 82 (x0 :: x1 :: x2 :: zvi a :: L) st h = zev kX4_reach 83 (x0 :: x1 :: x2 :: zvi a :: L) (zvi a :: st) h) ∧
  (∀ (a b : Int) (L st : List ZV) (h : PH), zev kX4_reach 83 L (zvi b :: zvi a :: st) h = if a > b then zev kX4_reach 93 L st h else zev kX4_reach 86 L st h) ∧
  (∀ (L st : List ZV) (h : PH), zev kX4_reach 86 L st h = zev kX4_reach 87 L (zvi 1 :: st) h) ∧
  (∀ (x0 x1 x2 x3 x4 : ZV) (a : Int) (L st : List ZV) (h : PH), zev kX4_reach 87 (x0 :: x1 :: x2 :: x3 :: x4 :: zvi a :: L) st h = zev kX4_reach 89 (x0 :: x1 :: x2 :: x3 :: x4 :: zvi a :: L) (zvi a :: st) h) ∧
  (∀ (a b : Int) (L st : List ZV) (h : PH), zev kX4_reach 89 L (zvi b :: zvi a :: st) h = zev kX4_reach 90 L (zvi (zshl a b) :: st) h) ∧
  (∀ (L st : List ZV) (h : PH), zev kX4_reach 90 L st h = zev kX4_reach 94 L st h) ∧
  (∀ (L st : List ZV) (h : PH), zev kX4_reach 93 L st h = zev kX4_reach 94 L (zvi 0 :: st) h) ∧
  (∀ (a b : Int) (L st : List ZV) (h : PH), zev kX4_reach 94 L (zvi b :: zvi a :: st) h = zev kX4_reach 95 L (zvi (zor a b) :: st) h) ∧
  (∀ (x0 x1 x2 x3 x4 : ZV) (a : Int) (L st : List ZV) (h : PH) (hx : zisL x3 = false) , zev kX4_reach 95 (x0 :: x1 :: x2 :: x3 :: x4 :: L) (zvi a :: st) h = zev kX4_reach 97 (x0 :: x1 :: x2 :: x3 :: zvi a :: L) st h) ∧
  (∀ (x0 x1 x2 x3 x4 : ZV) (a : Int) (L st : List ZV) (h : PH) (hx : zisL x4 = false) , zev kX4_reach 97 (x0 :: x1 :: x2 :: x3 :: x4 :: zvi a :: L) st h = zev kX4_reach 100 (x0 :: x1 :: x2 :: x3 :: x4 :: zvi (w32 (a + 1)) :: L) st h) ∧
  (∀ (L st : List ZV) (h : PH), zev kX4_reach 100 L st h = zev kX4_reach 50 L st h) ∧
  (∀ (x0 x1 x2 x3 : ZV) (a : Int) (L st : List ZV) (h : PH), zev kX4_reach 103 (x0 :: x1 :: x2 :: x3 :: zvi a :: L) st h = zev kX4_reach 105 (x0 :: x1 :: x2 :: x3 :: zvi a :: L) (zvi a :: st) h) ∧
  (∀ (a : Int) (L : List ZV) (h : PH), zev kX4_reach 105 L [zvi a] h = zrv (zvi a) h) :=
  ⟨fun a L st h => e_ld0R (n := 1) rfl,
  fun a L st h => e_ld0R (n := 2) rfl,
  fun x0 a L st h => e_ld1I (n := 3) rfl,
  fun v0 q L st h => e_callV2 (F := mX4_isSpot) (kd := 18) (n := 6) rfl,
  fun x0 x1 a L st h => e_ld2I (n := 7) rfl,
  fun L st h => e_push (v := zvi 0) (n := 8) rfl,
  fun L st h => e_push (v := zvi 1999) (n := 11) rfl,
  fun v0 v1 v2 L st h => e_callS3 (F := mX4_in) (n := 14) rfl,
  fun a L st h => e_ifeq (t := 32) (n := 17) rfl,
  fun x0 x1 x2 a L st h => e_ld3I (n := 18) rfl,
  fun L st h => e_push (v := zvi 0) (n := 19) rfl,
  fun L st h => e_push (v := zvi 1999) (n := 22) rfl,
  fun v0 v1 v2 L st h => e_callS3 (F := mX4_in) (n := 25) rfl,
  fun a L st h => e_ifeq (t := 32) (n := 28) rfl,
  fun L st h => e_push (v := zvi 1) (n := 29) rfl,
  fun L st h => e_goto (t := 33) rfl,
  fun L st h => e_push (v := zvi 0) (n := 33) rfl,
  fun v0 v1 L st h => e_callS2 (F := mX4_unless_2) (n := 36) rfl,
  fun v0 q L st h => e_callV2 (F := mX4_isRefused) (kd := 18) (n := 39) rfl,
  fun a L st h => e_ifeq (t := 44) (n := 42) rfl,
  fun L st h => e_push (v := zvi (-1)) (n := 43) rfl,
  fun a L h => e_retI rfl,
  fun L st h => e_push (v := zvi 0) (n := 45) rfl,
  fun x0 x1 x2 x3 x4 a L st h hx => e_st4I (n := 47) rfl hx,
  fun L st h => e_push (v := zvi 0) (n := 48) rfl,
  fun x0 x1 x2 x3 x4 x5 a L st h hx => e_st5I (n := 50) rfl hx,
  fun a L st h => e_ld0R (n := 53) rfl,
  fun q L st h => e_getR (kd := 18) (k := 6) (n := 56) rfl,
  fun L st h => e_push (v := zvi 1) (n := 57) rfl,
  fun j q L st h => e_ald (kd := 1) (n := 58) rfl,
  fun a b L st h => e_cmpge (t := 103) (n := 61) rfl,
  fun a L st h => e_ld0R (n := 62) rfl,
  fun x0 a L st h => e_ld1I (n := 63) rfl,
  fun x0 x1 x2 x3 x4 a L st h => e_ld5I (n := 65) rfl,
  fun x0 x1 a L st h => e_ld2I (n := 66) rfl,
  fun v0 v1 v2 q L st h => e_callV4 (F := mX4_best) (kd := 18) (n := 69) rfl,
  fun x0 x1 x2 x3 x4 x5 x6 a L st h hx => e_st6I (n := 71) rfl hx,
  fun x0 x1 x2 x3 a L st h => e_ld4I (n := 73) rfl,
  fun x0 x1 x2 x3 x4 x5 a L st h => e_ld6I (n := 75) rfl,
  fun L st h => e_push (v := zvi (-2)) (n := 77) rfl,
  fun a b L st h => e_cmpeq (t := 93) (n := 80) rfl,
  fun x0 x1 x2 x3 x4 x5 a L st h => e_ld6I (n := 82) rfl,
  fun x0 x1 x2 a L st h => e_ld3I (n := 83) rfl,
  fun a b L st h => e_cmpgt (t := 93) (n := 86) rfl,
  fun L st h => e_push (v := zvi 1) (n := 87) rfl,
  fun x0 x1 x2 x3 x4 a L st h => e_ld5I (n := 89) rfl,
  fun a b L st h => e_bin (f := zshl) (n := 90) rfl,
  fun L st h => e_goto (t := 94) rfl,
  fun L st h => e_push (v := zvi 0) (n := 94) rfl,
  fun a b L st h => e_bin (f := zor) (n := 95) rfl,
  fun x0 x1 x2 x3 x4 a L st h hx => e_st4I (n := 97) rfl hx,
  fun x0 x1 x2 x3 x4 a L st h hx => e_iinc5 (d := 1) (n := 100) rfl hx,
  fun L st h => e_goto (t := 50) rfl,
  fun x0 x1 x2 x3 a L st h => e_ld4I (n := 105) rfl,
  fun a L h => e_retI rfl⟩
theorem allX4_reach : zall yX4_reach cX4_reach 7 (some .int) 8 kX4_reach.1 :=
  ⟨k_aload_n dX4_reach_0,
  k_aload_n dX4_reach_1,
  k_iload_n dX4_reach_2,
  k_callV (y2 := yX4_isSpot) (C := RX4) (T0 := TX4) (ci := 2) dX4_reach_3 sndX4_isSpot rfl q2084 q2086 qs93 q137 q2087 (by decide +kernel) ⟨by decide, by decide⟩ (by decide) (by decide),
  k_iload_n dX4_reach_6,
  k_iconst dX4_reach_7,
  k_sipush dX4_reach_8,
  k_callS (y2 := yX4_in) dX4_reach_11 sndX4_in q1943 q1944 q137 q1945 (by decide +kernel) ⟨by decide, by decide⟩ (by decide) (by decide),
  k_ifeq (t := 32) dX4_reach_14 (by decide),
  k_iload_n dX4_reach_17,
  k_iconst dX4_reach_18,
  k_sipush dX4_reach_19,
  k_callS (y2 := yX4_in) dX4_reach_22 sndX4_in q1943 q1944 q137 q1945 (by decide +kernel) ⟨by decide, by decide⟩ (by decide) (by decide),
  k_ifeq (t := 32) dX4_reach_25 (by decide),
  k_iconst dX4_reach_28,
  k_goto (t := 33) dX4_reach_29 (by decide),
  k_iconst dX4_reach_32,
  k_callS (y2 := yX4_unless_2) dX4_reach_33 sndX4_unless_2 q2120 q2121 q137 q2122 (by decide +kernel) ⟨by decide, by decide⟩ (by decide) (by decide),
  k_callV (y2 := yX4_isRefused) (C := RX4) (T0 := TX4) (ci := 2) dX4_reach_36 sndX4_isRefused rfl q1946 q1948 qs70 q137 q1949 (by decide +kernel) ⟨by decide, by decide⟩ (by decide) (by decide),
  k_ifeq (t := 44) dX4_reach_39 (by decide),
  k_iconst dX4_reach_42,
  k_iret dX4_reach_43,
  k_iconst dX4_reach_44,
  k_istore dX4_reach_45,
  k_iconst dX4_reach_47,
  k_istore dX4_reach_48,
  k_iload dX4_reach_50,
  k_aload_n dX4_reach_52,
  k_getR (C := RX4) (T := TX4) (N := 42) (ci := 2) (k := 6) (ref := "LinkTimesModel") dX4_reach_53 rfl in_X4 (by decide) q1805 (Or.inl rfl) (fun _ _ _ => rfl),
  k_iconst dX4_reach_56,
  k_iald dX4_reach_57,
  k_cmpge (t := 103) dX4_reach_58 (by decide),
  k_aload_n dX4_reach_61,
  k_iload_n dX4_reach_62,
  k_iload dX4_reach_63,
  k_iload_n dX4_reach_65,
  k_callV (y2 := yX4_best) (C := RX4) (T0 := TX4) (ci := 2) dX4_reach_66 sndX4_best rfl q2123 q2125 qs99 q137 q2126 (by decide +kernel) ⟨by decide, by decide⟩ (by decide) (by decide),
  k_istore dX4_reach_69,
  k_iload dX4_reach_71,
  k_iload dX4_reach_73,
  k_bipush dX4_reach_75,
  k_cmpeq (t := 93) dX4_reach_77 (by decide),
  k_iload dX4_reach_80,
  k_iload_n dX4_reach_82,
  k_cmpgt (t := 93) dX4_reach_83 (by decide),
  k_iconst dX4_reach_86,
  k_iload dX4_reach_87,
  k_ishl dX4_reach_89,
  k_goto (t := 94) dX4_reach_90 (by decide),
  k_iconst dX4_reach_93,
  k_ior dX4_reach_94,
  k_istore dX4_reach_95,
  k_iinc dX4_reach_97,
  k_goto (t := 50) dX4_reach_100 (by decide),
  k_iload dX4_reach_103,
  k_iret dX4_reach_105, trivial⟩
theorem sndX4_reach : MSound 8 yX4_reach (ws_ yX4_reach cX4_reach 7 (some .int)) mX4_reach := msound_M (by decide) allX4_reach (fun _ _ => rfl)
/-! LinkTimesModel.farthest(II)I -/
noncomputable def kX4_farthest : ZM := ([(0, zi_ld 1 0 1), (1, zi_ld 1 0 2), (2, zi_ld 0 1 3), (3, zi_callV mX4_isSpot 18 2 6), (6, zi_ld 0 2 7), (7, zi_push (zvi 0) 8), (8, zi_push (zvi 1999) 11), (11, zi_callS mX4_in 3 14), (14, zi_callS mX4_unless_2 2 17), (17, zi_callV mX4_isRefused 18 2 20), (20, zi_if (fun a => zc_eq a 0) 25 23), (23, zi_push (zvi (-1)) 24), (24, zi_retv 0), (25, zi_push (zvi (-1)) 26), (26, zi_st 0 3 27), (27, zi_push (zvi (-2)) 29), (29, zi_st 0 4 31), (31, zi_push (zvi 0) 32), (32, zi_st 0 5 34), (34, zi_ld 0 5 36), (36, zi_ld 1 0 37), (37, zi_getR 18 6 40), (40, zi_push (zvi 1) 41), (41, zi_ald 1 42), (42, zi_cmp zc_ge 75 45), (45, zi_ld 1 0 46), (46, zi_ld 0 1 47), (47, zi_ld 0 5 49), (49, zi_ld 0 2 50), (50, zi_callV mX4_best 18 4 53), (53, zi_st 0 6 55), (55, zi_ld 0 6 57), (57, zi_ld 0 4 59), (59, zi_cmp zc_le 69 62), (62, zi_ld 0 6 64), (64, zi_st 0 4 66), (66, zi_ld 0 5 68), (68, zi_st 0 3 69), (69, zi_iinc 5 1 72), (72, zi_goto 34), (75, zi_ld 0 3 76), (76, zi_retv 0)], fun _ _ => none)
noncomputable def mX4_farthest : ZF := zrunM kX4_farthest 7
theorem enX4_farthest (x0 : Option Nat) (x1 : Int) (x2 : Int) (h : PH) : mX4_farthest [zvr x0, zvi x1, zvi x2] h = zev kX4_farthest 0 [zvr x0, zvi x1, zvi x2, zvu, zvu, zvu, zvu] [] h := zrunM_eq rfl rfl
theorem hdX4_farthest_34 (x0 x1 x2 x3 x4 : ZV) (a : Int) (L st : List ZV) (h : PH) : zev kX4_farthest 34 (x0 :: x1 :: x2 :: x3 :: x4 :: zvi a :: L) st h = zev kX4_farthest 36 (x0 :: x1 :: x2 :: x3 :: x4 :: zvi a :: L) (zvi a :: st) h := e_ld5I (n := 36) rfl
theorem rX4_farthest : (∀ (a : Option Nat) (L st : List ZV) (h : PH), zev kX4_farthest 0 (zvr a :: L) st h = zev kX4_farthest 1 (zvr a :: L) (zvr a :: st) h) ∧
  (∀ (a : Option Nat) (L st : List ZV) (h : PH), zev kX4_farthest 1 (zvr a :: L) st h = zev kX4_farthest 2 (zvr a :: L) (zvr a :: st) h) ∧
  (∀ (x0 : ZV) (a : Int) (L st : List ZV) (h : PH), zev kX4_farthest 2 (x0 :: zvi a :: L) st h = zev kX4_farthest 3 (x0 :: zvi a :: L) (zvi a :: st) h) ∧
  (∀ (v0 : ZV) (q : Nat) (L st : List ZV) (h : PH), zev kX4_farthest 3 L (v0 :: zvr (some q) :: st) h = if (ph_K h q).1 % 1000 = 18 ∧ zcat st ≤ 8 then zk kX4_farthest 3 6 L st (mX4_isSpot [zvr (some q), v0] h) else none) ∧
  (∀ (x0 x1 : ZV) (a : Int) (L st : List ZV) (h : PH), zev kX4_farthest 6 (x0 :: x1 :: zvi a :: L) st h = zev kX4_farthest 7 (x0 :: x1 :: zvi a :: L) (zvi a :: st) h) ∧
  (∀ (L st : List ZV) (h : PH), zev kX4_farthest 7 L st h = zev kX4_farthest 8 L (zvi 0 :: st) h) ∧
  (∀ (L st : List ZV) (h : PH), zev kX4_farthest 8 L st h = zev kX4_farthest 11 L (zvi 1999 :: st) h) ∧
  (∀ (v0 v1 v2 : ZV) (L st : List ZV) (h : PH), zev kX4_farthest 11 L (v2 :: v1 :: v0 :: st) h = if zcat st ≤ 8 then zk kX4_farthest 11 14 L st (mX4_in [v0, v1, v2] h) else none) ∧
  (∀ (v0 v1 : ZV) (L st : List ZV) (h : PH), zev kX4_farthest 14 L (v1 :: v0 :: st) h = if zcat st ≤ 8 then zk kX4_farthest 14 17 L st (mX4_unless_2 [v0, v1] h) else none) ∧
  (∀ (v0 : ZV) (q : Nat) (L st : List ZV) (h : PH), zev kX4_farthest 17 L (v0 :: zvr (some q) :: st) h = if (ph_K h q).1 % 1000 = 18 ∧ zcat st ≤ 8 then zk kX4_farthest 17 20 L st (mX4_isRefused [zvr (some q), v0] h) else none) ∧
  (∀ (a : Int) (L st : List ZV) (h : PH), zev kX4_farthest 20 L (zvi a :: st) h = if a = 0 then zev kX4_farthest 25 L st h else zev kX4_farthest 23 L st h) ∧
  (∀ (L st : List ZV) (h : PH), zev kX4_farthest 23 L st h = zev kX4_farthest 24 L (zvi (-1) :: st) h) ∧
  (∀ (a : Int) (L : List ZV) (h : PH), zev kX4_farthest 24 L [zvi a] h = zrv (zvi a) h) ∧
  (∀ (L st : List ZV) (h : PH), zev kX4_farthest 25 L st h = zev kX4_farthest 26 L (zvi (-1) :: st) h) ∧
  (∀ (x0 x1 x2 x3 : ZV) (a : Int) (L st : List ZV) (h : PH) (hx : zisL x2 = false) , zev kX4_farthest 26 (x0 :: x1 :: x2 :: x3 :: L) (zvi a :: st) h = zev kX4_farthest 27 (x0 :: x1 :: x2 :: zvi a :: L) st h) ∧
  (∀ (L st : List ZV) (h : PH), zev kX4_farthest 27 L st h = zev kX4_farthest 29 L (zvi (-2) :: st) h) ∧
  (∀ (x0 x1 x2 x3 x4 : ZV) (a : Int) (L st : List ZV) (h : PH) (hx : zisL x3 = false) , zev kX4_farthest 29 (x0 :: x1 :: x2 :: x3 :: x4 :: L) (zvi a :: st) h = zev kX4_farthest 31 (x0 :: x1 :: x2 :: x3 :: zvi a :: L) st h) ∧
  (∀ (L st : List ZV) (h : PH), zev kX4_farthest 31 L st h = zev kX4_farthest 32 L (zvi 0 :: st) h) ∧
  (∀ (x0 x1 x2 x3 x4 x5 : ZV) (a : Int) (L st : List ZV) (h : PH) (hx : zisL x4 = false) , zev kX4_farthest 32 (x0 :: x1 :: x2 :: x3 :: x4 :: x5 :: L) (zvi a :: st) h = zev kX4_farthest 34 (x0 :: x1 :: x2 :: x3 :: x4 :: zvi a :: L) st h) ∧
  (∀ (a : Option Nat) (L st : List ZV) (h : PH), zev kX4_farthest 36 (zvr a :: L) st h = zev kX4_farthest 37 (zvr a :: L) (zvr a :: st) h) ∧
  (∀ (q : Nat) (L st : List ZV) (h : PH), zev kX4_farthest 37 L (zvr (some q) :: st) h = if (ph_K h q).1 % 1000 = 18 then zev kX4_farthest 40 L (zvr (ph_R h q 6) :: st) h else none) ∧
  (∀ (L st : List ZV) (h : PH), zev kX4_farthest 40 L st h = zev kX4_farthest 41 L (zvi 1 :: st) h) ∧
  (∀ (j : Int) (q : Nat) (L st : List ZV) (h : PH), zev kX4_farthest 41 L (zvi j :: zvr (some q) :: st) h = if (ph_K h q).1 % 1000 = 1 ∧ 0 ≤ j ∧ j < (ph_K h q).2 then zev kX4_farthest 42 L (zvi (ph_I h q j) :: st) h else none) ∧
  (∀ (a b : Int) (L st : List ZV) (h : PH), zev kX4_farthest 42 L (zvi b :: zvi a :: st) h = if a ≥ b then zev kX4_farthest 75 L st h else zev kX4_farthest 45 L st h) ∧
  (∀ (a : Option Nat) (L st : List ZV) (h : PH), zev kX4_farthest 45 (zvr a :: L) st h = zev kX4_farthest 46 (zvr a :: L) (zvr a :: st) h) ∧
  (∀ (x0 : ZV) (a : Int) (L st : List ZV) (h : PH), zev kX4_farthest 46 (x0 :: zvi a :: L) st h = zev kX4_farthest 47 (x0 :: zvi a :: L) (zvi a :: st) h) ∧
  (∀ (x0 x1 x2 x3 x4 : ZV) (a : Int) (L st : List ZV) (h : PH), zev kX4_farthest 47 (x0 :: x1 :: x2 :: x3 :: x4 :: zvi a :: L) st h = zev kX4_farthest 49 (x0 :: x1 :: x2 :: x3 :: x4 :: zvi a :: L) (zvi a :: st) h) ∧
  (∀ (x0 x1 : ZV) (a : Int) (L st : List ZV) (h : PH), zev kX4_farthest 49 (x0 :: x1 :: zvi a :: L) st h = zev kX4_farthest 50 (x0 :: x1 :: zvi a :: L) (zvi a :: st) h) ∧
  (∀ (v0 v1 v2 : ZV) (q : Nat) (L st : List ZV) (h : PH), zev kX4_farthest 50 L (v2 :: v1 :: v0 :: zvr (some q) :: st) h = if (ph_K h q).1 % 1000 = 18 ∧ zcat st ≤ 8 then zk kX4_farthest 50 53 L st (mX4_best [zvr (some q), v0, v1, v2] h) else none) ∧
  (∀ (x0 x1 x2 x3 x4 x5 x6 : ZV) (a : Int) (L st : List ZV) (h : PH) (hx : zisL x5 = false) , zev kX4_farthest 53 (x0 :: x1 :: x2 :: x3 :: x4 :: x5 :: x6 :: L) (zvi a :: st) h = zev kX4_farthest 55 (x0 :: x1 :: x2 :: x3 :: x4 :: x5 :: zvi a :: L) st h) ∧
  (∀ (x0 x1 x2 x3 x4 x5 : ZV) (a : Int) (L st : List ZV) (h : PH), zev kX4_farthest 55 (x0 :: x1 :: x2 :: x3 :: x4 :: x5 :: zvi a :: L) st h = zev kX4_farthest 57 (x0 :: x1 :: x2 :: x3 :: x4 :: x5 :: zvi a :: L) (zvi a :: st) h) ∧
  (∀ (x0 x1 x2 x3 : ZV) (a : Int) (L st : List ZV) (h : PH), zev kX4_farthest 57 (x0 :: x1 :: x2 :: x3 :: zvi a :: L) st h = zev kX4_farthest 59 (x0 :: x1 :: x2 :: x3 :: zvi a :: L) (zvi a :: st) h) ∧
  (∀ (a b : Int) (L st : List ZV) (h : PH), zev kX4_farthest 59 L (zvi b :: zvi a :: st) h = if a ≤ b then zev kX4_farthest 69 L st h else zev kX4_farthest 62 L st h) ∧
  (∀ (x0 x1 x2 x3 x4 x5 : ZV) (a : Int) (L st : List ZV) (h : PH), zev kX4_farthest 62 (x0 :: x1 :: x2 :: x3 :: x4 :: x5 :: zvi a :: L) st h = zev kX4_farthest 64 (x0 :: x1 :: x2 :: x3 :: x4 :: x5 :: zvi a :: L) (zvi a :: st) h) ∧
  (∀ (x0 x1 x2 x3 x4 : ZV) (a : Int) (L st : List ZV) (h : PH) (hx : zisL x3 = false) , zev kX4_farthest 64 (x0 :: x1 :: x2 :: x3 :: x4 :: L) (zvi a :: st) h = zev kX4_farthest 66 (x0 :: x1 :: x2 :: x3 :: zvi a :: L) st h) ∧
  (∀ (x0 x1 x2 x3 x4 : ZV) (a : Int) (L st : List ZV) (h : PH), zev kX4_farthest 66 (x0 :: x1 :: x2 :: x3 :: x4 :: zvi a :: L) st h = zev kX4_farthest 68 (x0 :: x1 :: x2 :: x3 :: x4 :: zvi a :: L) (zvi a :: st) h) ∧
  (∀ (x0 x1 x2 x3 : ZV) (a : Int) (L st : List ZV) (h : PH) (hx : zisL x2 = false) , zev kX4_farthest 68 (x0 :: x1 :: x2 :: x3 :: L) (zvi a :: st) h = zev kX4_farthest 69 (x0 :: x1 :: x2 :: zvi a :: L) st h) ∧
  (∀ (x0 x1 x2 x3 x4 : ZV) (a : Int) (L st : List ZV) (h : PH) (hx : zisL x4 = false) , zev kX4_farthest 69 (x0 :: x1 :: x2 :: x3 :: x4 :: zvi a :: L) st h = zev kX4_farthest 72 (x0 :: x1 :: x2 :: x3 :: x4 :: zvi (w32 (a + 1)) :: L) st h) ∧
  (∀ (L st : List ZV) (h : PH), zev kX4_farthest 72 L st h = zev kX4_farthest 34 L st h) ∧
  (∀ (x0 x1 x2 : ZV) (a : Int) (L st : List ZV) (h : PH), zev kX4_farthest 75 (x0 :: x1 :: x2 :: zvi a :: L) st h = zev kX4_farthest 76 (x0 :: x1 :: x2 :: zvi a :: L) (zvi a :: st) h) ∧
  (∀ (a : Int) (L : List ZV) (h : PH), zev kX4_farthest 76 L [zvi a] h = zrv (zvi a) h) :=
  ⟨fun a L st h => e_ld0R (n := 1) rfl,
  fun a L st h => e_ld0R (n := 2) rfl,
  fun x0 a L st h => e_ld1I (n := 3) rfl,
  fun v0 q L st h => e_callV2 (F := mX4_isSpot) (kd := 18) (n := 6) rfl,
  fun x0 x1 a L st h => e_ld2I (n := 7) rfl,
  fun L st h => e_push (v := zvi 0) (n := 8) rfl,
  fun L st h => e_push (v := zvi 1999) (n := 11) rfl,
  fun v0 v1 v2 L st h => e_callS3 (F := mX4_in) (n := 14) rfl,
  fun v0 v1 L st h => e_callS2 (F := mX4_unless_2) (n := 17) rfl,
  fun v0 q L st h => e_callV2 (F := mX4_isRefused) (kd := 18) (n := 20) rfl,
  fun a L st h => e_ifeq (t := 25) (n := 23) rfl,
  fun L st h => e_push (v := zvi (-1)) (n := 24) rfl,
  fun a L h => e_retI rfl,
  fun L st h => e_push (v := zvi (-1)) (n := 26) rfl,
  fun x0 x1 x2 x3 a L st h hx => e_st3I (n := 27) rfl hx,
  fun L st h => e_push (v := zvi (-2)) (n := 29) rfl,
  fun x0 x1 x2 x3 x4 a L st h hx => e_st4I (n := 31) rfl hx,
  fun L st h => e_push (v := zvi 0) (n := 32) rfl,
  fun x0 x1 x2 x3 x4 x5 a L st h hx => e_st5I (n := 34) rfl hx,
  fun a L st h => e_ld0R (n := 37) rfl,
  fun q L st h => e_getR (kd := 18) (k := 6) (n := 40) rfl,
  fun L st h => e_push (v := zvi 1) (n := 41) rfl,
  fun j q L st h => e_ald (kd := 1) (n := 42) rfl,
  fun a b L st h => e_cmpge (t := 75) (n := 45) rfl,
  fun a L st h => e_ld0R (n := 46) rfl,
  fun x0 a L st h => e_ld1I (n := 47) rfl,
  fun x0 x1 x2 x3 x4 a L st h => e_ld5I (n := 49) rfl,
  fun x0 x1 a L st h => e_ld2I (n := 50) rfl,
  fun v0 v1 v2 q L st h => e_callV4 (F := mX4_best) (kd := 18) (n := 53) rfl,
  fun x0 x1 x2 x3 x4 x5 x6 a L st h hx => e_st6I (n := 55) rfl hx,
  fun x0 x1 x2 x3 x4 x5 a L st h => e_ld6I (n := 57) rfl,
  fun x0 x1 x2 x3 a L st h => e_ld4I (n := 59) rfl,
  fun a b L st h => e_cmple (t := 69) (n := 62) rfl,
  fun x0 x1 x2 x3 x4 x5 a L st h => e_ld6I (n := 64) rfl,
  fun x0 x1 x2 x3 x4 a L st h hx => e_st4I (n := 66) rfl hx,
  fun x0 x1 x2 x3 x4 a L st h => e_ld5I (n := 68) rfl,
  fun x0 x1 x2 x3 a L st h hx => e_st3I (n := 69) rfl hx,
  fun x0 x1 x2 x3 x4 a L st h hx => e_iinc5 (d := 1) (n := 72) rfl hx,
  fun L st h => e_goto (t := 34) rfl,
  fun x0 x1 x2 a L st h => e_ld3I (n := 76) rfl,
  fun a L h => e_retI rfl⟩
theorem allX4_farthest : zall yX4_farthest cX4_farthest 7 (some .int) 8 kX4_farthest.1 :=
  ⟨k_aload_n dX4_farthest_0,
  k_aload_n dX4_farthest_1,
  k_iload_n dX4_farthest_2,
  k_callV (y2 := yX4_isSpot) (C := RX4) (T0 := TX4) (ci := 2) dX4_farthest_3 sndX4_isSpot rfl q2084 q2086 qs93 q137 q2087 (by decide +kernel) ⟨by decide, by decide⟩ (by decide) (by decide),
  k_iload_n dX4_farthest_6,
  k_iconst dX4_farthest_7,
  k_sipush dX4_farthest_8,
  k_callS (y2 := yX4_in) dX4_farthest_11 sndX4_in q1943 q1944 q137 q1945 (by decide +kernel) ⟨by decide, by decide⟩ (by decide) (by decide),
  k_callS (y2 := yX4_unless_2) dX4_farthest_14 sndX4_unless_2 q2120 q2121 q137 q2122 (by decide +kernel) ⟨by decide, by decide⟩ (by decide) (by decide),
  k_callV (y2 := yX4_isRefused) (C := RX4) (T0 := TX4) (ci := 2) dX4_farthest_17 sndX4_isRefused rfl q1946 q1948 qs70 q137 q1949 (by decide +kernel) ⟨by decide, by decide⟩ (by decide) (by decide),
  k_ifeq (t := 25) dX4_farthest_20 (by decide),
  k_iconst dX4_farthest_23,
  k_iret dX4_farthest_24,
  k_iconst dX4_farthest_25,
  k_istore_n dX4_farthest_26,
  k_bipush dX4_farthest_27,
  k_istore dX4_farthest_29,
  k_iconst dX4_farthest_31,
  k_istore dX4_farthest_32,
  k_iload dX4_farthest_34,
  k_aload_n dX4_farthest_36,
  k_getR (C := RX4) (T := TX4) (N := 42) (ci := 2) (k := 6) (ref := "LinkTimesModel") dX4_farthest_37 rfl in_X4 (by decide) q1805 (Or.inl rfl) (fun _ _ _ => rfl),
  k_iconst dX4_farthest_40,
  k_iald dX4_farthest_41,
  k_cmpge (t := 75) dX4_farthest_42 (by decide),
  k_aload_n dX4_farthest_45,
  k_iload_n dX4_farthest_46,
  k_iload dX4_farthest_47,
  k_iload_n dX4_farthest_49,
  k_callV (y2 := yX4_best) (C := RX4) (T0 := TX4) (ci := 2) dX4_farthest_50 sndX4_best rfl q2123 q2125 qs99 q137 q2126 (by decide +kernel) ⟨by decide, by decide⟩ (by decide) (by decide),
  k_istore dX4_farthest_53,
  k_iload dX4_farthest_55,
  k_iload dX4_farthest_57,
  k_cmple (t := 69) dX4_farthest_59 (by decide),
  k_iload dX4_farthest_62,
  k_istore dX4_farthest_64,
  k_iload dX4_farthest_66,
  k_istore_n dX4_farthest_68,
  k_iinc dX4_farthest_69,
  k_goto (t := 34) dX4_farthest_72 (by decide),
  k_iload_n dX4_farthest_75,
  k_iret dX4_farthest_76, trivial⟩
theorem sndX4_farthest : MSound 8 yX4_farthest (ws_ yX4_farthest cX4_farthest 7 (some .int)) mX4_farthest := msound_M (by decide) allX4_farthest (fun _ _ => rfl)
/-! LinkTimesModel.meets(III)I -/
noncomputable def kX4_meets : ZM := ([(0, zi_ld 1 0 1), (1, zi_ld 1 0 2), (2, zi_ld 0 1 3), (3, zi_ld 0 2 4), (4, zi_ld 0 3 5), (5, zi_callV mX4_wayWhy 18 4 8), (8, zi_callV mX4_isRefused 18 2 11), (11, zi_if (fun a => zc_eq a 0) 16 14), (14, zi_push (zvi (-1)) 15), (15, zi_retv 0), (16, zi_push (zvi (-2)) 18), (18, zi_st 0 4 20), (20, zi_push (zvi 9999) 23), (23, zi_st 0 5 25), (25, zi_push (zvi 0) 26), (26, zi_st 0 6 28), (28, zi_ld 0 6 30), (30, zi_ld 1 0 31), (31, zi_getR 18 6 34), (34, zi_push (zvi 1) 35), (35, zi_ald 1 36), (36, zi_cmp zc_ge 110 39), (39, zi_ld 1 0 40), (40, zi_ld 0 1 41), (41, zi_ld 0 6 43), (43, zi_ld 0 3 44), (44, zi_callV mX4_best 18 4 47), (47, zi_st 0 7 49), (49, zi_ld 1 0 50), (50, zi_ld 0 2 51), (51, zi_ld 0 6 53), (53, zi_ld 0 3 54), (54, zi_callV mX4_best 18 4 57), (57, zi_st 0 8 59), (59, zi_ld 0 7 61), (61, zi_ld 0 8 63), (63, zi_cmp zc_le 71 66), (66, zi_ld 0 7 68), (68, zi_goto 73), (71, zi_ld 0 8 73), (73, zi_st 0 9 75), (75, zi_ld 0 7 77), (77, zi_push (zvi (-2)) 79), (79, zi_cmp zc_eq 104 82), (82, zi_ld 0 8 84), (84, zi_push (zvi (-2)) 86), (86, zi_cmp zc_eq 104 89), (89, zi_ld 0 9 91), (91, zi_ld 0 5 93), (93, zi_cmp zc_ge 104 96), (96, zi_ld 0 9 98), (98, zi_st 0 5 100), (100, zi_ld 0 6 102), (102, zi_st 0 4 104), (104, zi_iinc 6 1 107), (107, zi_goto 28), (110, zi_ld 0 4 112), (112, zi_retv 0)], fun _ _ => none)
noncomputable def mX4_meets : ZF := zrunM kX4_meets 10
theorem enX4_meets (x0 : Option Nat) (x1 : Int) (x2 : Int) (x3 : Int) (h : PH) : mX4_meets [zvr x0, zvi x1, zvi x2, zvi x3] h = zev kX4_meets 0 [zvr x0, zvi x1, zvi x2, zvi x3, zvu, zvu, zvu, zvu, zvu, zvu] [] h := zrunM_eq rfl rfl
theorem hdX4_meets_28 (x0 x1 x2 x3 x4 x5 : ZV) (a : Int) (L st : List ZV) (h : PH) : zev kX4_meets 28 (x0 :: x1 :: x2 :: x3 :: x4 :: x5 :: zvi a :: L) st h = zev kX4_meets 30 (x0 :: x1 :: x2 :: x3 :: x4 :: x5 :: zvi a :: L) (zvi a :: st) h := e_ld6I (n := 30) rfl
theorem rX4_meets : (∀ (a : Option Nat) (L st : List ZV) (h : PH), zev kX4_meets 0 (zvr a :: L) st h = zev kX4_meets 1 (zvr a :: L) (zvr a :: st) h) ∧
  (∀ (a : Option Nat) (L st : List ZV) (h : PH), zev kX4_meets 1 (zvr a :: L) st h = zev kX4_meets 2 (zvr a :: L) (zvr a :: st) h) ∧
  (∀ (x0 : ZV) (a : Int) (L st : List ZV) (h : PH), zev kX4_meets 2 (x0 :: zvi a :: L) st h = zev kX4_meets 3 (x0 :: zvi a :: L) (zvi a :: st) h) ∧
  (∀ (x0 x1 : ZV) (a : Int) (L st : List ZV) (h : PH), zev kX4_meets 3 (x0 :: x1 :: zvi a :: L) st h = zev kX4_meets 4 (x0 :: x1 :: zvi a :: L) (zvi a :: st) h) ∧
  (∀ (x0 x1 x2 : ZV) (a : Int) (L st : List ZV) (h : PH), zev kX4_meets 4 (x0 :: x1 :: x2 :: zvi a :: L) st h = zev kX4_meets 5 (x0 :: x1 :: x2 :: zvi a :: L) (zvi a :: st) h) ∧
  (∀ (v0 v1 v2 : ZV) (q : Nat) (L st : List ZV) (h : PH), zev kX4_meets 5 L (v2 :: v1 :: v0 :: zvr (some q) :: st) h = if (ph_K h q).1 % 1000 = 18 ∧ zcat st ≤ 8 then zk kX4_meets 5 8 L st (mX4_wayWhy [zvr (some q), v0, v1, v2] h) else none) ∧
  (∀ (v0 : ZV) (q : Nat) (L st : List ZV) (h : PH), zev kX4_meets 8 L (v0 :: zvr (some q) :: st) h = if (ph_K h q).1 % 1000 = 18 ∧ zcat st ≤ 8 then zk kX4_meets 8 11 L st (mX4_isRefused [zvr (some q), v0] h) else none) ∧
  (∀ (a : Int) (L st : List ZV) (h : PH), zev kX4_meets 11 L (zvi a :: st) h = if a = 0 then zev kX4_meets 16 L st h else zev kX4_meets 14 L st h) ∧
  (∀ (L st : List ZV) (h : PH), zev kX4_meets 14 L st h = zev kX4_meets 15 L (zvi (-1) :: st) h) ∧
  (∀ (a : Int) (L : List ZV) (h : PH), zev kX4_meets 15 L [zvi a] h = zrv (zvi a) h) ∧
  (∀ (L st : List ZV) (h : PH), zev kX4_meets 16 L st h = zev kX4_meets 18 L (zvi (-2) :: st) h) ∧
  (∀ (x0 x1 x2 x3 x4 : ZV) (a : Int) (L st : List ZV) (h : PH) (hx : zisL x3 = false) , zev kX4_meets 18 (x0 :: x1 :: x2 :: x3 :: x4 :: L) (zvi a :: st) h = zev kX4_meets 20 (x0 :: x1 :: x2 :: x3 :: zvi a :: L) st h) ∧
  (∀ (L st : List ZV) (h : PH), zev kX4_meets 20 L st h = zev kX4_meets 23 L (zvi 9999 :: st) h) ∧
  (∀ (x0 x1 x2 x3 x4 x5 : ZV) (a : Int) (L st : List ZV) (h : PH) (hx : zisL x4 = false) , zev kX4_meets 23 (x0 :: x1 :: x2 :: x3 :: x4 :: x5 :: L) (zvi a :: st) h = zev kX4_meets 25 (x0 :: x1 :: x2 :: x3 :: x4 :: zvi a :: L) st h) ∧
  (∀ (L st : List ZV) (h : PH), zev kX4_meets 25 L st h = zev kX4_meets 26 L (zvi 0 :: st) h) ∧
  (∀ (x0 x1 x2 x3 x4 x5 x6 : ZV) (a : Int) (L st : List ZV) (h : PH) (hx : zisL x5 = false) , zev kX4_meets 26 (x0 :: x1 :: x2 :: x3 :: x4 :: x5 :: x6 :: L) (zvi a :: st) h = zev kX4_meets 28 (x0 :: x1 :: x2 :: x3 :: x4 :: x5 :: zvi a :: L) st h) ∧
  (∀ (a : Option Nat) (L st : List ZV) (h : PH), zev kX4_meets 30 (zvr a :: L) st h = zev kX4_meets 31 (zvr a :: L) (zvr a :: st) h) ∧
  (∀ (q : Nat) (L st : List ZV) (h : PH), zev kX4_meets 31 L (zvr (some q) :: st) h = if (ph_K h q).1 % 1000 = 18 then zev kX4_meets 34 L (zvr (ph_R h q 6) :: st) h else none) ∧
  (∀ (L st : List ZV) (h : PH), zev kX4_meets 34 L st h = zev kX4_meets 35 L (zvi 1 :: st) h) ∧
  (∀ (j : Int) (q : Nat) (L st : List ZV) (h : PH), zev kX4_meets 35 L (zvi j :: zvr (some q) :: st) h = if (ph_K h q).1 % 1000 = 1 ∧ 0 ≤ j ∧ j < (ph_K h q).2 then zev kX4_meets 36 L (zvi (ph_I h q j) :: st) h else none) ∧
  (∀ (a b : Int) (L st : List ZV) (h : PH), zev kX4_meets 36 L (zvi b :: zvi a :: st) h = if a ≥ b then zev kX4_meets 110 L st h else zev kX4_meets 39 L st h) ∧
  (∀ (a : Option Nat) (L st : List ZV) (h : PH), zev kX4_meets 39 (zvr a :: L) st h = zev kX4_meets 40 (zvr a :: L) (zvr a :: st) h) ∧
  (∀ (x0 : ZV) (a : Int) (L st : List ZV) (h : PH), zev kX4_meets 40 (x0 :: zvi a :: L) st h = zev kX4_meets 41 (x0 :: zvi a :: L) (zvi a :: st) h) ∧
  (∀ (x0 x1 x2 x3 x4 x5 : ZV) (a : Int) (L st : List ZV) (h : PH), zev kX4_meets 41 (x0 :: x1 :: x2 :: x3 :: x4 :: x5 :: zvi a :: L) st h = zev kX4_meets 43 (x0 :: x1 :: x2 :: x3 :: x4 :: x5 :: zvi a :: L) (zvi a :: st) h) ∧
  (∀ (x0 x1 x2 : ZV) (a : Int) (L st : List ZV) (h : PH), zev kX4_meets 43 (x0 :: x1 :: x2 :: zvi a :: L) st h = zev kX4_meets 44 (x0 :: x1 :: x2 :: zvi a :: L) (zvi a :: st) h) ∧
  (∀ (v0 v1 v2 : ZV) (q : Nat) (L st : List ZV) (h : PH), zev kX4_meets 44 L (v2 :: v1 :: v0 :: zvr (some q) :: st) h = if (ph_K h q).1 % 1000 = 18 ∧ zcat st ≤ 8 then zk kX4_meets 44 47 L st (mX4_best [zvr (some q), v0, v1, v2] h) else none) ∧
  (∀ (x0 x1 x2 x3 x4 x5 x6 x7 : ZV) (a : Int) (L st : List ZV) (h : PH) (hx : zisL x6 = false) , zev kX4_meets 47 (x0 :: x1 :: x2 :: x3 :: x4 :: x5 :: x6 :: x7 :: L) (zvi a :: st) h = zev kX4_meets 49 (x0 :: x1 :: x2 :: x3 :: x4 :: x5 :: x6 :: zvi a :: L) st h) ∧
  (∀ (a : Option Nat) (L st : List ZV) (h : PH), zev kX4_meets 49 (zvr a :: L) st h = zev kX4_meets 50 (zvr a :: L) (zvr a :: st) h) ∧
  (∀ (x0 x1 : ZV) (a : Int) (L st : List ZV) (h : PH), zev kX4_meets 50 (x0 :: x1 :: zvi a :: L) st h = zev kX4_meets 51 (x0 :: x1 :: zvi a :: L) (zvi a :: st) h) ∧
  (∀ (x0 x1 x2 x3 x4 x5 : ZV) (a : Int) (L st : List ZV) (h : PH), zev kX4_meets 51 (x0 :: x1 :: x2 :: x3 :: x4 :: x5 :: zvi a :: L) st h = zev kX4_meets 53 (x0 :: x1 :: x2 :: x3 :: x4 :: x5 :: zvi a :: L) (zvi a :: st) h) ∧
  (∀ (x0 x1 x2 : ZV) (a : Int) (L st : List ZV) (h : PH), zev kX4_meets 53 (x0 :: x1 :: x2 :: zvi a :: L) st h = zev kX4_meets 54 (x0 :: x1 :: x2 :: zvi a :: L) (zvi a :: st) h) ∧
  (∀ (v0 v1 v2 : ZV) (q : Nat) (L st : List ZV) (h : PH), zev kX4_meets 54 L (v2 :: v1 :: v0 :: zvr (some q) :: st) h = if (ph_K h q).1 % 1000 = 18 ∧ zcat st ≤ 8 then zk kX4_meets 54 57 L st (mX4_best [zvr (some q), v0, v1, v2] h) else none) ∧
  (∀ (x0 x1 x2 x3 x4 x5 x6 x7 x8 : ZV) (a : Int) (L st : List ZV) (h : PH) (hx : zisL x7 = false) , zev kX4_meets 57 (x0 :: x1 :: x2 :: x3 :: x4 :: x5 :: x6 :: x7 :: x8 :: L) (zvi a :: st) h = zev kX4_meets 59 (x0 :: x1 :: x2 :: x3 :: x4 :: x5 :: x6 :: x7 :: zvi a :: L) st h) ∧
  (∀ (x0 x1 x2 x3 x4 x5 x6 : ZV) (a : Int) (L st : List ZV) (h : PH), zev kX4_meets 59 (x0 :: x1 :: x2 :: x3 :: x4 :: x5 :: x6 :: zvi a :: L) st h = zev kX4_meets 61 (x0 :: x1 :: x2 :: x3 :: x4 :: x5 :: x6 :: zvi a :: L) (zvi a :: st) h) ∧
  (∀ (x0 x1 x2 x3 x4 x5 x6 x7 : ZV) (a : Int) (L st : List ZV) (h : PH), zev kX4_meets 61 (x0 :: x1 :: x2 :: x3 :: x4 :: x5 :: x6 :: x7 :: zvi a :: L) st h = zev kX4_meets 63 (x0 :: x1 :: x2 :: x3 :: x4 :: x5 :: x6 :: x7 :: zvi a :: L) (zvi a :: st) h) ∧
  (∀ (a b : Int) (L st : List ZV) (h : PH), zev kX4_meets 63 L (zvi b :: zvi a :: st) h = if a ≤ b then zev kX4_meets 71 L st h else zev kX4_meets 66 L st h) ∧
  (∀ (x0 x1 x2 x3 x4 x5 x6 : ZV) (a : Int) (L st : List ZV) (h : PH), zev kX4_meets 66 (x0 :: x1 :: x2 :: x3 :: x4 :: x5 :: x6 :: zvi a :: L) st h = zev kX4_meets 68 (x0 :: x1 :: x2 :: x3 :: x4 :: x5 :: x6 :: zvi a :: L) (zvi a :: st) h) ∧
  (∀ (L st : List ZV) (h : PH), zev kX4_meets 68 L st h = zev kX4_meets 73 L st h) ∧
  (∀ (x0 x1 x2 x3 x4 x5 x6 x7 : ZV) (a : Int) (L st : List ZV) (h : PH), zev kX4_meets 71 (x0 :: x1 :: x2 :: x3 :: x4 :: x5 :: x6 :: x7 :: zvi a :: L) st h = zev kX4_meets 73 (x0 :: x1 :: x2 :: x3 :: x4 :: x5 :: x6 :: x7 :: zvi a :: L) (zvi a :: st) h) ∧
  (∀ (x0 x1 x2 x3 x4 x5 x6 x7 x8 x9 : ZV) (a : Int) (L st : List ZV) (h : PH) (hx : zisL x8 = false) , zev kX4_meets 73 (x0 :: x1 :: x2 :: x3 :: x4 :: x5 :: x6 :: x7 :: x8 :: x9 :: L) (zvi a :: st) h = zev kX4_meets 75 (x0 :: x1 :: x2 :: x3 :: x4 :: x5 :: x6 :: x7 :: x8 :: zvi a :: L) st h) ∧
  (∀ (x0 x1 x2 x3 x4 x5 x6 : ZV) (a : Int) (L st : List ZV) (h : PH), zev kX4_meets 75 (x0 :: x1 :: x2 :: x3 :: x4 :: x5 :: x6 :: zvi a :: L) st h = zev kX4_meets 77 (x0 :: x1 :: x2 :: x3 :: x4 :: x5 :: x6 :: zvi a :: L) (zvi a :: st) h) ∧
  (∀ (L st : List ZV) (h : PH), zev kX4_meets 77 L st h = zev kX4_meets 79 L (zvi (-2) :: st) h) ∧
  (∀ (a b : Int) (L st : List ZV) (h : PH), zev kX4_meets 79 L (zvi b :: zvi a :: st) h = if a = b then zev kX4_meets 104 L st h else zev kX4_meets 82 L st h) ∧
  (∀ (x0 x1 x2 x3 x4 x5 x6 x7 : ZV) (a : Int) (L st : List ZV) (h : PH), zev kX4_meets 82 (x0 :: x1 :: x2 :: x3 :: x4 :: x5 :: x6 :: x7 :: zvi a :: L) st h = zev kX4_meets 84 (x0 :: x1 :: x2 :: x3 :: x4 :: x5 :: x6 :: x7 :: zvi a :: L) (zvi a :: st) h) ∧
  (∀ (L st : List ZV) (h : PH), zev kX4_meets 84 L st h = zev kX4_meets 86 L (zvi (-2) :: st) h) ∧
  (∀ (a b : Int) (L st : List ZV) (h : PH), zev kX4_meets 86 L (zvi b :: zvi a :: st) h = if a = b then zev kX4_meets 104 L st h else zev kX4_meets 89 L st h) ∧
  (∀ (x0 x1 x2 x3 x4 x5 x6 x7 x8 : ZV) (a : Int) (L st : List ZV) (h : PH), zev kX4_meets 89 (x0 :: x1 :: x2 :: x3 :: x4 :: x5 :: x6 :: x7 :: x8 :: zvi a :: L) st h = zev kX4_meets 91 (x0 :: x1 :: x2 :: x3 :: x4 :: x5 :: x6 :: x7 :: x8 :: zvi a :: L) (zvi a :: st) h) ∧
  (∀ (x0 x1 x2 x3 x4 : ZV) (a : Int) (L st : List ZV) (h : PH), zev kX4_meets 91 (x0 :: x1 :: x2 :: x3 :: x4 :: zvi a :: L) st h = zev kX4_meets 93 (x0 :: x1 :: x2 :: x3 :: x4 :: zvi a :: L) (zvi a :: st) h) ∧
  (∀ (a b : Int) (L st : List ZV) (h : PH), zev kX4_meets 93 L (zvi b :: zvi a :: st) h = if a ≥ b then zev kX4_meets 104 L st h else zev kX4_meets 96 L st h) ∧
  (∀ (x0 x1 x2 x3 x4 x5 x6 x7 x8 : ZV) (a : Int) (L st : List ZV) (h : PH), zev kX4_meets 96 (x0 :: x1 :: x2 :: x3 :: x4 :: x5 :: x6 :: x7 :: x8 :: zvi a :: L) st h = zev kX4_meets 98 (x0 :: x1 :: x2 :: x3 :: x4 :: x5 :: x6 :: x7 :: x8 :: zvi a :: L) (zvi a :: st) h) ∧
  (∀ (x0 x1 x2 x3 x4 x5 : ZV) (a : Int) (L st : List ZV) (h : PH) (hx : zisL x4 = false) , zev kX4_meets 98 (x0 :: x1 :: x2 :: x3 :: x4 :: x5 :: L) (zvi a :: st) h = zev kX4_meets 100 (x0 :: x1 :: x2 :: x3 :: x4 :: zvi a :: L) st h) ∧
  (∀ (x0 x1 x2 x3 x4 x5 : ZV) (a : Int) (L st : List ZV) (h : PH), zev kX4_meets 100 (x0 :: x1 :: x2 :: x3 :: x4 :: x5 :: zvi a :: L) st h = zev kX4_meets 102 (x0 :: x1 :: x2 :: x3 :: x4 :: x5 :: zvi a :: L) (zvi a :: st) h) ∧
  (∀ (x0 x1 x2 x3 x4 : ZV) (a : Int) (L st : List ZV) (h : PH) (hx : zisL x3 = false) , zev kX4_meets 102 (x0 :: x1 :: x2 :: x3 :: x4 :: L) (zvi a :: st) h = zev kX4_meets 104 (x0 :: x1 :: x2 :: x3 :: zvi a :: L) st h) ∧
  (∀ (x0 x1 x2 x3 x4 x5 : ZV) (a : Int) (L st : List ZV) (h : PH) (hx : zisL x5 = false) , zev kX4_meets 104 (x0 :: x1 :: x2 :: x3 :: x4 :: x5 :: zvi a :: L) st h = zev kX4_meets 107 (x0 :: x1 :: x2 :: x3 :: x4 :: x5 :: zvi (w32 (a + 1)) :: L) st h) ∧
  (∀ (L st : List ZV) (h : PH), zev kX4_meets 107 L st h = zev kX4_meets 28 L st h) ∧
  (∀ (x0 x1 x2 x3 : ZV) (a : Int) (L st : List ZV) (h : PH), zev kX4_meets 110 (x0 :: x1 :: x2 :: x3 :: zvi a :: L) st h = zev kX4_meets 112 (x0 :: x1 :: x2 :: x3 :: zvi a :: L) (zvi a :: st) h) ∧
  (∀ (a : Int) (L : List ZV) (h : PH), zev kX4_meets 112 L [zvi a] h = zrv (zvi a) h) :=
  ⟨fun a L st h => e_ld0R (n := 1) rfl,
  fun a L st h => e_ld0R (n := 2) rfl,
  fun x0 a L st h => e_ld1I (n := 3) rfl,
  fun x0 x1 a L st h => e_ld2I (n := 4) rfl,
  fun x0 x1 x2 a L st h => e_ld3I (n := 5) rfl,
  fun v0 v1 v2 q L st h => e_callV4 (F := mX4_wayWhy) (kd := 18) (n := 8) rfl,
  fun v0 q L st h => e_callV2 (F := mX4_isRefused) (kd := 18) (n := 11) rfl,
  fun a L st h => e_ifeq (t := 16) (n := 14) rfl,
  fun L st h => e_push (v := zvi (-1)) (n := 15) rfl,
  fun a L h => e_retI rfl,
  fun L st h => e_push (v := zvi (-2)) (n := 18) rfl,
  fun x0 x1 x2 x3 x4 a L st h hx => e_st4I (n := 20) rfl hx,
  fun L st h => e_push (v := zvi 9999) (n := 23) rfl,
  fun x0 x1 x2 x3 x4 x5 a L st h hx => e_st5I (n := 25) rfl hx,
  fun L st h => e_push (v := zvi 0) (n := 26) rfl,
  fun x0 x1 x2 x3 x4 x5 x6 a L st h hx => e_st6I (n := 28) rfl hx,
  fun a L st h => e_ld0R (n := 31) rfl,
  fun q L st h => e_getR (kd := 18) (k := 6) (n := 34) rfl,
  fun L st h => e_push (v := zvi 1) (n := 35) rfl,
  fun j q L st h => e_ald (kd := 1) (n := 36) rfl,
  fun a b L st h => e_cmpge (t := 110) (n := 39) rfl,
  fun a L st h => e_ld0R (n := 40) rfl,
  fun x0 a L st h => e_ld1I (n := 41) rfl,
  fun x0 x1 x2 x3 x4 x5 a L st h => e_ld6I (n := 43) rfl,
  fun x0 x1 x2 a L st h => e_ld3I (n := 44) rfl,
  fun v0 v1 v2 q L st h => e_callV4 (F := mX4_best) (kd := 18) (n := 47) rfl,
  fun x0 x1 x2 x3 x4 x5 x6 x7 a L st h hx => e_st7I (n := 49) rfl hx,
  fun a L st h => e_ld0R (n := 50) rfl,
  fun x0 x1 a L st h => e_ld2I (n := 51) rfl,
  fun x0 x1 x2 x3 x4 x5 a L st h => e_ld6I (n := 53) rfl,
  fun x0 x1 x2 a L st h => e_ld3I (n := 54) rfl,
  fun v0 v1 v2 q L st h => e_callV4 (F := mX4_best) (kd := 18) (n := 57) rfl,
  fun x0 x1 x2 x3 x4 x5 x6 x7 x8 a L st h hx => e_st8I (n := 59) rfl hx,
  fun x0 x1 x2 x3 x4 x5 x6 a L st h => e_ld7I (n := 61) rfl,
  fun x0 x1 x2 x3 x4 x5 x6 x7 a L st h => e_ld8I (n := 63) rfl,
  fun a b L st h => e_cmple (t := 71) (n := 66) rfl,
  fun x0 x1 x2 x3 x4 x5 x6 a L st h => e_ld7I (n := 68) rfl,
  fun L st h => e_goto (t := 73) rfl,
  fun x0 x1 x2 x3 x4 x5 x6 x7 a L st h => e_ld8I (n := 73) rfl,
  fun x0 x1 x2 x3 x4 x5 x6 x7 x8 x9 a L st h hx => e_st9I (n := 75) rfl hx,
  fun x0 x1 x2 x3 x4 x5 x6 a L st h => e_ld7I (n := 77) rfl,
  fun L st h => e_push (v := zvi (-2)) (n := 79) rfl,
  fun a b L st h => e_cmpeq (t := 104) (n := 82) rfl,
  fun x0 x1 x2 x3 x4 x5 x6 x7 a L st h => e_ld8I (n := 84) rfl,
  fun L st h => e_push (v := zvi (-2)) (n := 86) rfl,
  fun a b L st h => e_cmpeq (t := 104) (n := 89) rfl,
  fun x0 x1 x2 x3 x4 x5 x6 x7 x8 a L st h => e_ld9I (n := 91) rfl,
  fun x0 x1 x2 x3 x4 a L st h => e_ld5I (n := 93) rfl,
  fun a b L st h => e_cmpge (t := 104) (n := 96) rfl,
  fun x0 x1 x2 x3 x4 x5 x6 x7 x8 a L st h => e_ld9I (n := 98) rfl,
  fun x0 x1 x2 x3 x4 x5 a L st h hx => e_st5I (n := 100) rfl hx,
  fun x0 x1 x2 x3 x4 x5 a L st h => e_ld6I (n := 102) rfl,
  fun x0 x1 x2 x3 x4 a L st h hx => e_st4I (n := 104) rfl hx,
  fun x0 x1 x2 x3 x4 x5 a L st h hx => e_iinc6 (d := 1) (n := 107) rfl hx,
  fun L st h => e_goto (t := 28) rfl,
  fun x0 x1 x2 x3 a L st h => e_ld4I (n := 112) rfl,
  fun a L h => e_retI rfl⟩
theorem allX4_meets : zall yX4_meets cX4_meets 10 (some .int) 8 kX4_meets.1 :=
  ⟨k_aload_n dX4_meets_0,
  k_aload_n dX4_meets_1,
  k_iload_n dX4_meets_2,
  k_iload_n dX4_meets_3,
  k_iload_n dX4_meets_4,
  k_callV (y2 := yX4_wayWhy) (C := RX4) (T0 := TX4) (ci := 2) dX4_meets_5 sndX4_wayWhy rfl q2116 q2118 qs98 q137 q2119 (by decide +kernel) ⟨by decide, by decide⟩ (by decide) (by decide),
  k_callV (y2 := yX4_isRefused) (C := RX4) (T0 := TX4) (ci := 2) dX4_meets_8 sndX4_isRefused rfl q1946 q1948 qs70 q137 q1949 (by decide +kernel) ⟨by decide, by decide⟩ (by decide) (by decide),
  k_ifeq (t := 16) dX4_meets_11 (by decide),
  k_iconst dX4_meets_14,
  k_iret dX4_meets_15,
  k_bipush dX4_meets_16,
  k_istore dX4_meets_18,
  k_sipush dX4_meets_20,
  k_istore dX4_meets_23,
  k_iconst dX4_meets_25,
  k_istore dX4_meets_26,
  k_iload dX4_meets_28,
  k_aload_n dX4_meets_30,
  k_getR (C := RX4) (T := TX4) (N := 42) (ci := 2) (k := 6) (ref := "LinkTimesModel") dX4_meets_31 rfl in_X4 (by decide) q1805 (Or.inl rfl) (fun _ _ _ => rfl),
  k_iconst dX4_meets_34,
  k_iald dX4_meets_35,
  k_cmpge (t := 110) dX4_meets_36 (by decide),
  k_aload_n dX4_meets_39,
  k_iload_n dX4_meets_40,
  k_iload dX4_meets_41,
  k_iload_n dX4_meets_43,
  k_callV (y2 := yX4_best) (C := RX4) (T0 := TX4) (ci := 2) dX4_meets_44 sndX4_best rfl q2123 q2125 qs99 q137 q2126 (by decide +kernel) ⟨by decide, by decide⟩ (by decide) (by decide),
  k_istore dX4_meets_47,
  k_aload_n dX4_meets_49,
  k_iload_n dX4_meets_50,
  k_iload dX4_meets_51,
  k_iload_n dX4_meets_53,
  k_callV (y2 := yX4_best) (C := RX4) (T0 := TX4) (ci := 2) dX4_meets_54 sndX4_best rfl q2123 q2125 qs99 q137 q2126 (by decide +kernel) ⟨by decide, by decide⟩ (by decide) (by decide),
  k_istore dX4_meets_57,
  k_iload dX4_meets_59,
  k_iload dX4_meets_61,
  k_cmple (t := 71) dX4_meets_63 (by decide),
  k_iload dX4_meets_66,
  k_goto (t := 73) dX4_meets_68 (by decide),
  k_iload dX4_meets_71,
  k_istore dX4_meets_73,
  k_iload dX4_meets_75,
  k_bipush dX4_meets_77,
  k_cmpeq (t := 104) dX4_meets_79 (by decide),
  k_iload dX4_meets_82,
  k_bipush dX4_meets_84,
  k_cmpeq (t := 104) dX4_meets_86 (by decide),
  k_iload dX4_meets_89,
  k_iload dX4_meets_91,
  k_cmpge (t := 104) dX4_meets_93 (by decide),
  k_iload dX4_meets_96,
  k_istore dX4_meets_98,
  k_iload dX4_meets_100,
  k_istore dX4_meets_102,
  k_iinc dX4_meets_104,
  k_goto (t := 28) dX4_meets_107 (by decide),
  k_iload dX4_meets_110,
  k_iret dX4_meets_112, trivial⟩
theorem sndX4_meets : MSound 8 yX4_meets (ws_ yX4_meets cX4_meets 10 (some .int)) mX4_meets := msound_M (by decide) allX4_meets (fun _ _ => rfl)
/-! LinkTimesModel.round(IIII)I -/
noncomputable def kX4_round : ZM := ([(0, zi_ld 1 0 1), (1, zi_ld 0 1 2), (2, zi_ld 0 2 3), (3, zi_ld 0 3 4), (4, zi_callV mX4_wayWhy 18 4 7), (7, zi_st 0 5 9), (9, zi_ld 1 0 10), (10, zi_ld 0 5 12), (12, zi_if (fun a => zc_ne a 0) 31 15), (15, zi_ld 0 4 17), (17, zi_push (zvi 0) 18), (18, zi_push (zvi 999) 21), (21, zi_callS mX4_in 3 24), (24, zi_if (fun a => zc_ne a 0) 31 27), (27, zi_push (zvi 2) 28), (28, zi_goto 33), (31, zi_ld 0 5 33), (33, zi_callV mX4_isRefused 18 2 36), (36, zi_if (fun a => zc_eq a 0) 41 39), (39, zi_push (zvi (-1)) 40), (40, zi_retv 0), (41, zi_ld 1 0 42), (42, zi_ld 0 1 43), (43, zi_ld 0 2 44), (44, zi_ld 0 3 45), (45, zi_callV mX4_best 18 4 48), (48, zi_st 0 6 50), (50, zi_ld 0 6 52), (52, zi_push (zvi (-2)) 54), (54, zi_cmp zc_ne 62 57), (57, zi_push (zvi (-2)) 59), (59, zi_goto 73), (62, zi_ld 1 0 63), (63, zi_ld 0 2 64), (64, zi_ld 0 1 65), (65, zi_ld 0 6 67), (67, zi_ld 0 4 69), (69, zi_bin (fun a b => w32 (a + b)) 70), (70, zi_callV mX4_best 18 4 73), (73, zi_retv 0)], fun _ _ => none)
noncomputable def mX4_round : ZF := zrunM kX4_round 7
theorem enX4_round (x0 : Option Nat) (x1 : Int) (x2 : Int) (x3 : Int) (x4 : Int) (h : PH) : mX4_round [zvr x0, zvi x1, zvi x2, zvi x3, zvi x4] h = zev kX4_round 0 [zvr x0, zvi x1, zvi x2, zvi x3, zvi x4, zvu, zvu] [] h := zrunM_eq rfl rfl
theorem rX4_round : (∀ (a : Option Nat) (L st : List ZV) (h : PH), zev kX4_round 0 (zvr a :: L) st h = zev kX4_round 1 (zvr a :: L) (zvr a :: st) h) ∧
  (∀ (x0 : ZV) (a : Int) (L st : List ZV) (h : PH), zev kX4_round 1 (x0 :: zvi a :: L) st h = zev kX4_round 2 (x0 :: zvi a :: L) (zvi a :: st) h) ∧
  (∀ (x0 x1 : ZV) (a : Int) (L st : List ZV) (h : PH), zev kX4_round 2 (x0 :: x1 :: zvi a :: L) st h = zev kX4_round 3 (x0 :: x1 :: zvi a :: L) (zvi a :: st) h) ∧
  (∀ (x0 x1 x2 : ZV) (a : Int) (L st : List ZV) (h : PH), zev kX4_round 3 (x0 :: x1 :: x2 :: zvi a :: L) st h = zev kX4_round 4 (x0 :: x1 :: x2 :: zvi a :: L) (zvi a :: st) h) ∧
  (∀ (v0 v1 v2 : ZV) (q : Nat) (L st : List ZV) (h : PH), zev kX4_round 4 L (v2 :: v1 :: v0 :: zvr (some q) :: st) h = if (ph_K h q).1 % 1000 = 18 ∧ zcat st ≤ 8 then zk kX4_round 4 7 L st (mX4_wayWhy [zvr (some q), v0, v1, v2] h) else none) ∧
  (∀ (x0 x1 x2 x3 x4 x5 : ZV) (a : Int) (L st : List ZV) (h : PH) (hx : zisL x4 = false) , zev kX4_round 7 (x0 :: x1 :: x2 :: x3 :: x4 :: x5 :: L) (zvi a :: st) h = zev kX4_round 9 (x0 :: x1 :: x2 :: x3 :: x4 :: zvi a :: L) st h) ∧
  (∀ (a : Option Nat) (L st : List ZV) (h : PH), zev kX4_round 9 (zvr a :: L) st h = zev kX4_round 10 (zvr a :: L) (zvr a :: st) h) ∧
  (∀ (x0 x1 x2 x3 x4 : ZV) (a : Int) (L st : List ZV) (h : PH), zev kX4_round 10 (x0 :: x1 :: x2 :: x3 :: x4 :: zvi a :: L) st h = zev kX4_round 12 (x0 :: x1 :: x2 :: x3 :: x4 :: zvi a :: L) (zvi a :: st) h) ∧
  (∀ (a : Int) (L st : List ZV) (h : PH), zev kX4_round 12 L (zvi a :: st) h = if a ≠ 0 then zev kX4_round 31 L st h else zev kX4_round 15 L st h) ∧
  (∀ (x0 x1 x2 x3 : ZV) (a : Int) (L st : List ZV) (h : PH), zev kX4_round 15 (x0 :: x1 :: x2 :: x3 :: zvi a :: L) st h = zev kX4_round 17 (x0 :: x1 :: x2 :: x3 :: zvi a :: L) (zvi a :: st) h) ∧
  (∀ (L st : List ZV) (h : PH), zev kX4_round 17 L st h = zev kX4_round 18 L (zvi 0 :: st) h) ∧
  (∀ (L st : List ZV) (h : PH), zev kX4_round 18 L st h = zev kX4_round 21 L (zvi 999 :: st) h) ∧
  (∀ (v0 v1 v2 : ZV) (L st : List ZV) (h : PH), zev kX4_round 21 L (v2 :: v1 :: v0 :: st) h = if zcat st ≤ 8 then zk kX4_round 21 24 L st (mX4_in [v0, v1, v2] h) else none) ∧
  (∀ (a : Int) (L st : List ZV) (h : PH), zev kX4_round 24 L (zvi a :: st) h = if a ≠ 0 then zev kX4_round 31 L st h else zev kX4_round 27 L st h) ∧
  (∀ (L st : List ZV) (h : PH), zev kX4_round 27 L st h = zev kX4_round 28 L (zvi 2 :: st) h) ∧
  (∀ (L st : List ZV) (h : PH), zev kX4_round 28 L st h = zev kX4_round 33 L st h) ∧
  (∀ (x0 x1 x2 x3 x4 : ZV) (a : Int) (L st : List ZV) (h : PH), zev kX4_round 31 (x0 :: x1 :: x2 :: x3 :: x4 :: zvi a :: L) st h = zev kX4_round 33 (x0 :: x1 :: x2 :: x3 :: x4 :: zvi a :: L) (zvi a :: st) h) ∧
  (∀ (v0 : ZV) (q : Nat) (L st : List ZV) (h : PH), zev kX4_round 33 L (v0 :: zvr (some q) :: st) h = if (ph_K h q).1 % 1000 = 18 ∧ zcat st ≤ 8 then zk kX4_round 33 36 L st (mX4_isRefused [zvr (some q), v0] h) else none) ∧
  (∀ (a : Int) (L st : List ZV) (h : PH), zev kX4_round 36 L (zvi a :: st) h = if a = 0 then zev kX4_round 41 L st h else zev kX4_round 39 L st h) ∧
  (∀ (L st : List ZV) (h : PH), zev kX4_round 39 L st h = zev kX4_round 40 L (zvi (-1) :: st) h) ∧
  (∀ (a : Int) (L : List ZV) (h : PH), zev kX4_round 40 L [zvi a] h = zrv (zvi a) h) ∧
  (∀ (a : Option Nat) (L st : List ZV) (h : PH), zev kX4_round 41 (zvr a :: L) st h = zev kX4_round 42 (zvr a :: L) (zvr a :: st) h) ∧
  (∀ (x0 : ZV) (a : Int) (L st : List ZV) (h : PH), zev kX4_round 42 (x0 :: zvi a :: L) st h = zev kX4_round 43 (x0 :: zvi a :: L) (zvi a :: st) h) ∧
  (∀ (x0 x1 : ZV) (a : Int) (L st : List ZV) (h : PH), zev kX4_round 43 (x0 :: x1 :: zvi a :: L) st h = zev kX4_round 44 (x0 :: x1 :: zvi a :: L) (zvi a :: st) h) ∧
  (∀ (x0 x1 x2 : ZV) (a : Int) (L st : List ZV) (h : PH), zev kX4_round 44 (x0 :: x1 :: x2 :: zvi a :: L) st h = zev kX4_round 45 (x0 :: x1 :: x2 :: zvi a :: L) (zvi a :: st) h) ∧
  (∀ (v0 v1 v2 : ZV) (q : Nat) (L st : List ZV) (h : PH), zev kX4_round 45 L (v2 :: v1 :: v0 :: zvr (some q) :: st) h = if (ph_K h q).1 % 1000 = 18 ∧ zcat st ≤ 8 then zk kX4_round 45 48 L st (mX4_best [zvr (some q), v0, v1, v2] h) else none) ∧
  (∀ (x0 x1 x2 x3 x4 x5 x6 : ZV) (a : Int) (L st : List ZV) (h : PH) (hx : zisL x5 = false) , zev kX4_round 48 (x0 :: x1 :: x2 :: x3 :: x4 :: x5 :: x6 :: L) (zvi a :: st) h = zev kX4_round 50 (x0 :: x1 :: x2 :: x3 :: x4 :: x5 :: zvi a :: L) st h) ∧
  (∀ (x0 x1 x2 x3 x4 x5 : ZV) (a : Int) (L st : List ZV) (h : PH), zev kX4_round 50 (x0 :: x1 :: x2 :: x3 :: x4 :: x5 :: zvi a :: L) st h = zev kX4_round 52 (x0 :: x1 :: x2 :: x3 :: x4 :: x5 :: zvi a :: L) (zvi a :: st) h) ∧
  (∀ (L st : List ZV) (h : PH), zev kX4_round 52 L st h = zev kX4_round 54 L (zvi (-2) :: st) h) ∧
  (∀ (a b : Int) (L st : List ZV) (h : PH), zev kX4_round 54 L (zvi b :: zvi a :: st) h = if a ≠ b then zev kX4_round 62 L st h else zev kX4_round 57 L st h) ∧
  (∀ (L st : List ZV) (h : PH), zev kX4_round 57 L st h = zev kX4_round 59 L (zvi (-2) :: st) h) ∧
  (∀ (L st : List ZV) (h : PH), zev kX4_round 59 L st h = zev kX4_round 73 L st h) ∧
  (∀ (a : Option Nat) (L st : List ZV) (h : PH), zev kX4_round 62 (zvr a :: L) st h = zev kX4_round 63 (zvr a :: L) (zvr a :: st) h) ∧
  (∀ (x0 x1 : ZV) (a : Int) (L st : List ZV) (h : PH), zev kX4_round 63 (x0 :: x1 :: zvi a :: L) st h = zev kX4_round 64 (x0 :: x1 :: zvi a :: L) (zvi a :: st) h) ∧
  (∀ (x0 : ZV) (a : Int) (L st : List ZV) (h : PH), zev kX4_round 64 (x0 :: zvi a :: L) st h = zev kX4_round 65 (x0 :: zvi a :: L) (zvi a :: st) h) ∧
  (∀ (x0 x1 x2 x3 x4 x5 : ZV) (a : Int) (L st : List ZV) (h : PH), zev kX4_round 65 (x0 :: x1 :: x2 :: x3 :: x4 :: x5 :: zvi a :: L) st h = zev kX4_round 67 (x0 :: x1 :: x2 :: x3 :: x4 :: x5 :: zvi a :: L) (zvi a :: st) h) ∧
  (∀ (x0 x1 x2 x3 : ZV) (a : Int) (L st : List ZV) (h : PH), zev kX4_round 67 (x0 :: x1 :: x2 :: x3 :: zvi a :: L) st h = zev kX4_round 69 (x0 :: x1 :: x2 :: x3 :: zvi a :: L) (zvi a :: st) h) ∧
  (∀ (a b : Int) (L st : List ZV) (h : PH), zev kX4_round 69 L (zvi b :: zvi a :: st) h = zev kX4_round 70 L (zvi (w32 (a + b)) :: st) h) ∧
  (∀ (v0 v1 v2 : ZV) (q : Nat) (L st : List ZV) (h : PH), zev kX4_round 70 L (v2 :: v1 :: v0 :: zvr (some q) :: st) h = if (ph_K h q).1 % 1000 = 18 ∧ zcat st ≤ 8 then zk kX4_round 70 73 L st (mX4_best [zvr (some q), v0, v1, v2] h) else none) ∧
  (∀ (a : Int) (L : List ZV) (h : PH), zev kX4_round 73 L [zvi a] h = zrv (zvi a) h) :=
  ⟨fun a L st h => e_ld0R (n := 1) rfl,
  fun x0 a L st h => e_ld1I (n := 2) rfl,
  fun x0 x1 a L st h => e_ld2I (n := 3) rfl,
  fun x0 x1 x2 a L st h => e_ld3I (n := 4) rfl,
  fun v0 v1 v2 q L st h => e_callV4 (F := mX4_wayWhy) (kd := 18) (n := 7) rfl,
  fun x0 x1 x2 x3 x4 x5 a L st h hx => e_st5I (n := 9) rfl hx,
  fun a L st h => e_ld0R (n := 10) rfl,
  fun x0 x1 x2 x3 x4 a L st h => e_ld5I (n := 12) rfl,
  fun a L st h => e_ifne (t := 31) (n := 15) rfl,
  fun x0 x1 x2 x3 a L st h => e_ld4I (n := 17) rfl,
  fun L st h => e_push (v := zvi 0) (n := 18) rfl,
  fun L st h => e_push (v := zvi 999) (n := 21) rfl,
  fun v0 v1 v2 L st h => e_callS3 (F := mX4_in) (n := 24) rfl,
  fun a L st h => e_ifne (t := 31) (n := 27) rfl,
  fun L st h => e_push (v := zvi 2) (n := 28) rfl,
  fun L st h => e_goto (t := 33) rfl,
  fun x0 x1 x2 x3 x4 a L st h => e_ld5I (n := 33) rfl,
  fun v0 q L st h => e_callV2 (F := mX4_isRefused) (kd := 18) (n := 36) rfl,
  fun a L st h => e_ifeq (t := 41) (n := 39) rfl,
  fun L st h => e_push (v := zvi (-1)) (n := 40) rfl,
  fun a L h => e_retI rfl,
  fun a L st h => e_ld0R (n := 42) rfl,
  fun x0 a L st h => e_ld1I (n := 43) rfl,
  fun x0 x1 a L st h => e_ld2I (n := 44) rfl,
  fun x0 x1 x2 a L st h => e_ld3I (n := 45) rfl,
  fun v0 v1 v2 q L st h => e_callV4 (F := mX4_best) (kd := 18) (n := 48) rfl,
  fun x0 x1 x2 x3 x4 x5 x6 a L st h hx => e_st6I (n := 50) rfl hx,
  fun x0 x1 x2 x3 x4 x5 a L st h => e_ld6I (n := 52) rfl,
  fun L st h => e_push (v := zvi (-2)) (n := 54) rfl,
  fun a b L st h => e_cmpne (t := 62) (n := 57) rfl,
  fun L st h => e_push (v := zvi (-2)) (n := 59) rfl,
  fun L st h => e_goto (t := 73) rfl,
  fun a L st h => e_ld0R (n := 63) rfl,
  fun x0 x1 a L st h => e_ld2I (n := 64) rfl,
  fun x0 a L st h => e_ld1I (n := 65) rfl,
  fun x0 x1 x2 x3 x4 x5 a L st h => e_ld6I (n := 67) rfl,
  fun x0 x1 x2 x3 a L st h => e_ld4I (n := 69) rfl,
  fun a b L st h => e_bin (f := (fun a b => w32 (a + b))) (n := 70) rfl,
  fun v0 v1 v2 q L st h => e_callV4 (F := mX4_best) (kd := 18) (n := 73) rfl,
  fun a L h => e_retI rfl⟩
theorem allX4_round : zall yX4_round cX4_round 7 (some .int) 8 kX4_round.1 :=
  ⟨k_aload_n dX4_round_0,
  k_iload_n dX4_round_1,
  k_iload_n dX4_round_2,
  k_iload_n dX4_round_3,
  k_callV (y2 := yX4_wayWhy) (C := RX4) (T0 := TX4) (ci := 2) dX4_round_4 sndX4_wayWhy rfl q2116 q2118 qs98 q137 q2119 (by decide +kernel) ⟨by decide, by decide⟩ (by decide) (by decide),
  k_istore dX4_round_7,
  k_aload_n dX4_round_9,
  k_iload dX4_round_10,
  k_ifne (t := 31) dX4_round_12 (by decide),
  k_iload dX4_round_15,
  k_iconst dX4_round_17,
  k_sipush dX4_round_18,
  k_callS (y2 := yX4_in) dX4_round_21 sndX4_in q1943 q1944 q137 q1945 (by decide +kernel) ⟨by decide, by decide⟩ (by decide) (by decide),
  k_ifne (t := 31) dX4_round_24 (by decide),
  k_iconst dX4_round_27,
  k_goto (t := 33) dX4_round_28 (by decide),
  k_iload dX4_round_31,
  k_callV (y2 := yX4_isRefused) (C := RX4) (T0 := TX4) (ci := 2) dX4_round_33 sndX4_isRefused rfl q1946 q1948 qs70 q137 q1949 (by decide +kernel) ⟨by decide, by decide⟩ (by decide) (by decide),
  k_ifeq (t := 41) dX4_round_36 (by decide),
  k_iconst dX4_round_39,
  k_iret dX4_round_40,
  k_aload_n dX4_round_41,
  k_iload_n dX4_round_42,
  k_iload_n dX4_round_43,
  k_iload_n dX4_round_44,
  k_callV (y2 := yX4_best) (C := RX4) (T0 := TX4) (ci := 2) dX4_round_45 sndX4_best rfl q2123 q2125 qs99 q137 q2126 (by decide +kernel) ⟨by decide, by decide⟩ (by decide) (by decide),
  k_istore dX4_round_48,
  k_iload dX4_round_50,
  k_bipush dX4_round_52,
  k_cmpne (t := 62) dX4_round_54 (by decide),
  k_bipush dX4_round_57,
  k_goto (t := 73) dX4_round_59 (by decide),
  k_aload_n dX4_round_62,
  k_iload_n dX4_round_63,
  k_iload_n dX4_round_64,
  k_iload dX4_round_65,
  k_iload dX4_round_67,
  k_iadd dX4_round_69,
  k_callV (y2 := yX4_best) (C := RX4) (T0 := TX4) (ci := 2) dX4_round_70 sndX4_best rfl q2123 q2125 qs99 q137 q2126 (by decide +kernel) ⟨by decide, by decide⟩ (by decide) (by decide),
  k_iret dX4_round_73, trivial⟩
theorem sndX4_round : MSound 8 yX4_round (ws_ yX4_round cX4_round 7 (some .int)) mX4_round := msound_M (by decide) allX4_round (fun _ _ => rfl)
/-! LinkTimesModel.areUnlike(II)Z -/
noncomputable def kX4_areUnlike : ZM := ([(0, zi_ld 1 0 1), (1, zi_ld 0 1 2), (2, zi_callV mX4_isSpot 18 2 5), (5, zi_if (fun a => zc_eq a 0) 25 8), (8, zi_ld 1 0 9), (9, zi_ld 0 2 10), (10, zi_callV mX4_isSpot 18 2 13), (13, zi_if (fun a => zc_eq a 0) 25 16), (16, zi_ld 0 1 17), (17, zi_ld 0 2 18), (18, zi_cmp zc_eq 25 21), (21, zi_push (zvi 1) 22), (22, zi_goto 26), (25, zi_push (zvi 0) 26), (26, zi_retz)], fun _ _ => none)
noncomputable def mX4_areUnlike : ZF := zrunM kX4_areUnlike 3
theorem enX4_areUnlike (x0 : Option Nat) (x1 : Int) (x2 : Int) (h : PH) : mX4_areUnlike [zvr x0, zvi x1, zvi x2] h = zev kX4_areUnlike 0 [zvr x0, zvi x1, zvi x2] [] h := zrunM_eq rfl rfl
theorem rX4_areUnlike : (∀ (a : Option Nat) (L st : List ZV) (h : PH), zev kX4_areUnlike 0 (zvr a :: L) st h = zev kX4_areUnlike 1 (zvr a :: L) (zvr a :: st) h) ∧
  (∀ (x0 : ZV) (a : Int) (L st : List ZV) (h : PH), zev kX4_areUnlike 1 (x0 :: zvi a :: L) st h = zev kX4_areUnlike 2 (x0 :: zvi a :: L) (zvi a :: st) h) ∧
  (∀ (v0 : ZV) (q : Nat) (L st : List ZV) (h : PH), zev kX4_areUnlike 2 L (v0 :: zvr (some q) :: st) h = if (ph_K h q).1 % 1000 = 18 ∧ zcat st ≤ 8 then zk kX4_areUnlike 2 5 L st (mX4_isSpot [zvr (some q), v0] h) else none) ∧
  (∀ (a : Int) (L st : List ZV) (h : PH), zev kX4_areUnlike 5 L (zvi a :: st) h = if a = 0 then zev kX4_areUnlike 25 L st h else zev kX4_areUnlike 8 L st h) ∧
  (∀ (a : Option Nat) (L st : List ZV) (h : PH), zev kX4_areUnlike 8 (zvr a :: L) st h = zev kX4_areUnlike 9 (zvr a :: L) (zvr a :: st) h) ∧
  (∀ (x0 x1 : ZV) (a : Int) (L st : List ZV) (h : PH), zev kX4_areUnlike 9 (x0 :: x1 :: zvi a :: L) st h = zev kX4_areUnlike 10 (x0 :: x1 :: zvi a :: L) (zvi a :: st) h) ∧
  (∀ (v0 : ZV) (q : Nat) (L st : List ZV) (h : PH), zev kX4_areUnlike 10 L (v0 :: zvr (some q) :: st) h = if (ph_K h q).1 % 1000 = 18 ∧ zcat st ≤ 8 then zk kX4_areUnlike 10 13 L st (mX4_isSpot [zvr (some q), v0] h) else none) ∧
  (∀ (a : Int) (L st : List ZV) (h : PH), zev kX4_areUnlike 13 L (zvi a :: st) h = if a = 0 then zev kX4_areUnlike 25 L st h else zev kX4_areUnlike 16 L st h) ∧
  (∀ (x0 : ZV) (a : Int) (L st : List ZV) (h : PH), zev kX4_areUnlike 16 (x0 :: zvi a :: L) st h = zev kX4_areUnlike 17 (x0 :: zvi a :: L) (zvi a :: st) h) ∧
  (∀ (x0 x1 : ZV) (a : Int) (L st : List ZV) (h : PH), zev kX4_areUnlike 17 (x0 :: x1 :: zvi a :: L) st h = zev kX4_areUnlike 18 (x0 :: x1 :: zvi a :: L) (zvi a :: st) h) ∧
  (∀ (a b : Int) (L st : List ZV) (h : PH), zev kX4_areUnlike 18 L (zvi b :: zvi a :: st) h = if a = b then zev kX4_areUnlike 25 L st h else zev kX4_areUnlike 21 L st h) ∧
  (∀ (L st : List ZV) (h : PH), zev kX4_areUnlike 21 L st h = zev kX4_areUnlike 22 L (zvi 1 :: st) h) ∧
  (∀ (L st : List ZV) (h : PH), zev kX4_areUnlike 22 L st h = zev kX4_areUnlike 26 L st h) ∧
  (∀ (L st : List ZV) (h : PH), zev kX4_areUnlike 25 L st h = zev kX4_areUnlike 26 L (zvi 0 :: st) h) ∧
  (∀ (a : Int) (L : List ZV) (h : PH), zev kX4_areUnlike 26 L [zvi a] h = if a = 0 ∨ a = 1 then zrv (zvi a) h else none) :=
  ⟨fun a L st h => e_ld0R (n := 1) rfl,
  fun x0 a L st h => e_ld1I (n := 2) rfl,
  fun v0 q L st h => e_callV2 (F := mX4_isSpot) (kd := 18) (n := 5) rfl,
  fun a L st h => e_ifeq (t := 25) (n := 8) rfl,
  fun a L st h => e_ld0R (n := 9) rfl,
  fun x0 x1 a L st h => e_ld2I (n := 10) rfl,
  fun v0 q L st h => e_callV2 (F := mX4_isSpot) (kd := 18) (n := 13) rfl,
  fun a L st h => e_ifeq (t := 25) (n := 16) rfl,
  fun x0 a L st h => e_ld1I (n := 17) rfl,
  fun x0 x1 a L st h => e_ld2I (n := 18) rfl,
  fun a b L st h => e_cmpeq (t := 25) (n := 21) rfl,
  fun L st h => e_push (v := zvi 1) (n := 22) rfl,
  fun L st h => e_goto (t := 26) rfl,
  fun L st h => e_push (v := zvi 0) (n := 26) rfl,
  fun a L h => e_retz rfl⟩
theorem allX4_areUnlike : zall yX4_areUnlike cX4_areUnlike 3 (some .boolean) 3 kX4_areUnlike.1 :=
  ⟨k_aload_n dX4_areUnlike_0,
  k_iload_n dX4_areUnlike_1,
  k_callV (y2 := yX4_isSpot) (C := RX4) (T0 := TX4) (ci := 2) dX4_areUnlike_2 sndX4_isSpot rfl q2084 q2086 qs93 q137 q2087 (by decide +kernel) ⟨by decide, by decide⟩ (by decide) (by decide),
  k_ifeq (t := 25) dX4_areUnlike_5 (by decide),
  k_aload_n dX4_areUnlike_8,
  k_iload_n dX4_areUnlike_9,
  k_callV (y2 := yX4_isSpot) (C := RX4) (T0 := TX4) (ci := 2) dX4_areUnlike_10 sndX4_isSpot rfl q2084 q2086 qs93 q137 q2087 (by decide +kernel) ⟨by decide, by decide⟩ (by decide) (by decide),
  k_ifeq (t := 25) dX4_areUnlike_13 (by decide),
  k_iload_n dX4_areUnlike_16,
  k_iload_n dX4_areUnlike_17,
  k_cmpeq (t := 25) dX4_areUnlike_18 (by decide),
  k_iconst dX4_areUnlike_21,
  k_goto (t := 26) dX4_areUnlike_22 (by decide),
  k_iconst dX4_areUnlike_25,
  k_zret dX4_areUnlike_26, trivial⟩
theorem sndX4_areUnlike : MSound 3 yX4_areUnlike (ws_ yX4_areUnlike cX4_areUnlike 3 (some .boolean)) mX4_areUnlike := msound_M (by decide) allX4_areUnlike (fun _ _ => rfl)
/-! LinkTimesModel.laysAside()V -/
noncomputable def kX4_laysAside : ZM := ([(0, zi_ld 1 0 1), (1, zi_getR 18 6 4), (4, zi_push (zvi 0) 5), (5, zi_ld 1 0 6), (6, zi_getR 18 8 9), (9, zi_push (zvi 0) 10), (10, zi_callS mX4_copies 4 13), (13, zi_ret)], fun _ _ => none)
noncomputable def mX4_laysAside : ZF := zrunM kX4_laysAside 1
theorem enX4_laysAside (x0 : Option Nat) (h : PH) : mX4_laysAside [zvr x0] h = zev kX4_laysAside 0 [zvr x0] [] h := zrunM_eq rfl rfl
theorem rX4_laysAside : (∀ (a : Option Nat) (L st : List ZV) (h : PH), zev kX4_laysAside 0 (zvr a :: L) st h = zev kX4_laysAside 1 (zvr a :: L) (zvr a :: st) h) ∧
  (∀ (q : Nat) (L st : List ZV) (h : PH), zev kX4_laysAside 1 L (zvr (some q) :: st) h = if (ph_K h q).1 % 1000 = 18 then zev kX4_laysAside 4 L (zvr (ph_R h q 6) :: st) h else none) ∧
  (∀ (L st : List ZV) (h : PH), zev kX4_laysAside 4 L st h = zev kX4_laysAside 5 L (zvi 0 :: st) h) ∧
  (∀ (a : Option Nat) (L st : List ZV) (h : PH), zev kX4_laysAside 5 (zvr a :: L) st h = zev kX4_laysAside 6 (zvr a :: L) (zvr a :: st) h) ∧
  (∀ (q : Nat) (L st : List ZV) (h : PH), zev kX4_laysAside 6 L (zvr (some q) :: st) h = if (ph_K h q).1 % 1000 = 18 then zev kX4_laysAside 9 L (zvr (ph_R h q 8) :: st) h else none) ∧
  (∀ (L st : List ZV) (h : PH), zev kX4_laysAside 9 L st h = zev kX4_laysAside 10 L (zvi 0 :: st) h) ∧
  (∀ (v0 v1 v2 v3 : ZV) (L st : List ZV) (h : PH), zev kX4_laysAside 10 L (v3 :: v2 :: v1 :: v0 :: st) h = if zcat st ≤ 8 then zk kX4_laysAside 10 13 L st (mX4_copies [v0, v1, v2, v3] h) else none) ∧
  (∀ (L : List ZV) (h : PH), zev kX4_laysAside 13 L [] h = zr0 h) :=
  ⟨fun a L st h => e_ld0R (n := 1) rfl,
  fun q L st h => e_getR (kd := 18) (k := 6) (n := 4) rfl,
  fun L st h => e_push (v := zvi 0) (n := 5) rfl,
  fun a L st h => e_ld0R (n := 6) rfl,
  fun q L st h => e_getR (kd := 18) (k := 8) (n := 9) rfl,
  fun L st h => e_push (v := zvi 0) (n := 10) rfl,
  fun v0 v1 v2 v3 L st h => e_callS4 (F := mX4_copies) (n := 13) rfl,
  fun L h => e_ret rfl⟩
theorem allX4_laysAside : zall yX4_laysAside cX4_laysAside 1 none 2 kX4_laysAside.1 :=
  ⟨k_aload_n dX4_laysAside_0,
  k_getR (C := RX4) (T := TX4) (N := 42) (ci := 2) (k := 6) (ref := "LinkTimesModel") dX4_laysAside_1 rfl in_X4 (by decide) q1805 (Or.inl rfl) (fun _ _ _ => rfl),
  k_iconst dX4_laysAside_4,
  k_aload_n dX4_laysAside_5,
  k_getR (C := RX4) (T := TX4) (N := 42) (ci := 2) (k := 8) (ref := "LinkTimesModel") dX4_laysAside_6 rfl in_X4 (by decide) q1807 (Or.inl rfl) (fun _ _ _ => rfl),
  k_iconst dX4_laysAside_9,
  k_callS (y2 := yX4_copies) dX4_laysAside_10 sndX4_copies q2054 q2055 q137 q2056 (by decide +kernel) ⟨by decide, by decide⟩ (by decide) (by decide),
  k_ret dX4_laysAside_13, trivial⟩
theorem sndX4_laysAside : MSound 2 yX4_laysAside (ws_ yX4_laysAside cX4_laysAside 1 none) mX4_laysAside := msound_M (by decide) allX4_laysAside (fun _ _ => rfl)
/-! LinkTimesModel.takesBack()V -/
noncomputable def kX4_takesBack : ZM := ([(0, zi_ld 1 0 1), (1, zi_getR 18 8 4), (4, zi_push (zvi 0) 5), (5, zi_ld 1 0 6), (6, zi_getR 18 6 9), (9, zi_push (zvi 0) 10), (10, zi_callS mX4_copies 4 13), (13, zi_ret)], fun _ _ => none)
noncomputable def mX4_takesBack : ZF := zrunM kX4_takesBack 1
theorem enX4_takesBack (x0 : Option Nat) (h : PH) : mX4_takesBack [zvr x0] h = zev kX4_takesBack 0 [zvr x0] [] h := zrunM_eq rfl rfl
theorem rX4_takesBack : (∀ (a : Option Nat) (L st : List ZV) (h : PH), zev kX4_takesBack 0 (zvr a :: L) st h = zev kX4_takesBack 1 (zvr a :: L) (zvr a :: st) h) ∧
  (∀ (q : Nat) (L st : List ZV) (h : PH), zev kX4_takesBack 1 L (zvr (some q) :: st) h = if (ph_K h q).1 % 1000 = 18 then zev kX4_takesBack 4 L (zvr (ph_R h q 8) :: st) h else none) ∧
  (∀ (L st : List ZV) (h : PH), zev kX4_takesBack 4 L st h = zev kX4_takesBack 5 L (zvi 0 :: st) h) ∧
  (∀ (a : Option Nat) (L st : List ZV) (h : PH), zev kX4_takesBack 5 (zvr a :: L) st h = zev kX4_takesBack 6 (zvr a :: L) (zvr a :: st) h) ∧
  (∀ (q : Nat) (L st : List ZV) (h : PH), zev kX4_takesBack 6 L (zvr (some q) :: st) h = if (ph_K h q).1 % 1000 = 18 then zev kX4_takesBack 9 L (zvr (ph_R h q 6) :: st) h else none) ∧
  (∀ (L st : List ZV) (h : PH), zev kX4_takesBack 9 L st h = zev kX4_takesBack 10 L (zvi 0 :: st) h) ∧
  (∀ (v0 v1 v2 v3 : ZV) (L st : List ZV) (h : PH), zev kX4_takesBack 10 L (v3 :: v2 :: v1 :: v0 :: st) h = if zcat st ≤ 8 then zk kX4_takesBack 10 13 L st (mX4_copies [v0, v1, v2, v3] h) else none) ∧
  (∀ (L : List ZV) (h : PH), zev kX4_takesBack 13 L [] h = zr0 h) :=
  ⟨fun a L st h => e_ld0R (n := 1) rfl,
  fun q L st h => e_getR (kd := 18) (k := 8) (n := 4) rfl,
  fun L st h => e_push (v := zvi 0) (n := 5) rfl,
  fun a L st h => e_ld0R (n := 6) rfl,
  fun q L st h => e_getR (kd := 18) (k := 6) (n := 9) rfl,
  fun L st h => e_push (v := zvi 0) (n := 10) rfl,
  fun v0 v1 v2 v3 L st h => e_callS4 (F := mX4_copies) (n := 13) rfl,
  fun L h => e_ret rfl⟩
theorem allX4_takesBack : zall yX4_takesBack cX4_takesBack 1 none 2 kX4_takesBack.1 :=
  ⟨k_aload_n dX4_takesBack_0,
  k_getR (C := RX4) (T := TX4) (N := 42) (ci := 2) (k := 8) (ref := "LinkTimesModel") dX4_takesBack_1 rfl in_X4 (by decide) q1807 (Or.inl rfl) (fun _ _ _ => rfl),
  k_iconst dX4_takesBack_4,
  k_aload_n dX4_takesBack_5,
  k_getR (C := RX4) (T := TX4) (N := 42) (ci := 2) (k := 6) (ref := "LinkTimesModel") dX4_takesBack_6 rfl in_X4 (by decide) q1805 (Or.inl rfl) (fun _ _ _ => rfl),
  k_iconst dX4_takesBack_9,
  k_callS (y2 := yX4_copies) dX4_takesBack_10 sndX4_copies q2054 q2055 q137 q2056 (by decide +kernel) ⟨by decide, by decide⟩ (by decide) (by decide),
  k_ret dX4_takesBack_13, trivial⟩
theorem sndX4_takesBack : MSound 2 yX4_takesBack (ws_ yX4_takesBack cX4_takesBack 1 none) mX4_takesBack := msound_M (by decide) allX4_takesBack (fun _ _ => rfl)
/-! LinkTimesModel.laysOthers(III)V -/
noncomputable def kX4_laysOthers : ZM := ([(0, zi_ld 1 0 1), (1, zi_callV mX4_laysAside 18 1 4), (4, zi_ld 1 0 5), (5, zi_push (zvi 0) 6), (6, zi_putI 18 38 9), (9, zi_ld 1 0 10), (10, zi_ld 0 1 11), (11, zi_ld 0 2 12), (12, zi_ld 0 3 13), (13, zi_callV mX4_begins_2 18 4 16), (16, zi_st 0 4 18), (18, zi_ld 0 4 20), (20, zi_push (zvi (-1)) 21), (21, zi_cmp zc_eq 93 24), (24, zi_ld 1 0 25), (25, zi_getR 18 37 28), (28, zi_ld 1 0 29), (29, zi_getI 18 38 32), (32, zi_ld 1 0 33), (33, zi_getR 18 23 36), (36, zi_ld 0 4 38), (38, zi_ald 1 39), (39, zi_ast 40), (40, zi_ld 1 0 41), (41, zi_dup 42), (42, zi_getI 18 38 45), (45, zi_push (zvi 1) 46), (46, zi_bin (fun a b => w32 (a + b)) 47), (47, zi_putI 18 38 50), (50, zi_ld 0 4 52), (52, zi_push (zvi (-1)) 53), (53, zi_cmp zc_eq 81 56), (56, zi_ld 1 0 57), (57, zi_getR 18 6 60), (60, zi_ld 0 4 62), (62, zi_push (zvi 6) 64), (64, zi_callS mX4_at 2 67), (67, zi_push (zvi 0) 68), (68, zi_ast 69), (69, zi_ld 1 0 70), (70, zi_getR 18 26 73), (73, zi_ld 0 4 75), (75, zi_ald 1 76), (76, zi_st 0 4 78), (78, zi_goto 50), (81, zi_ld 1 0 82), (82, zi_ld 0 1 83), (83, zi_ld 0 2 84), (84, zi_ld 0 3 85), (85, zi_callV mX4_begins_2 18 4 88), (88, zi_st 0 4 90), (90, zi_goto 18), (93, zi_ld 1 0 94), (94, zi_callV mX4_takesBack 18 1 97), (97, zi_ret)], fun _ _ => none)
noncomputable def mX4_laysOthers : ZF := zrunM kX4_laysOthers 5
theorem enX4_laysOthers (x0 : Option Nat) (x1 : Int) (x2 : Int) (x3 : Int) (h : PH) : mX4_laysOthers [zvr x0, zvi x1, zvi x2, zvi x3] h = zev kX4_laysOthers 0 [zvr x0, zvi x1, zvi x2, zvi x3, zvu] [] h := zrunM_eq rfl rfl
theorem hdX4_laysOthers_18 (x0 x1 x2 x3 : ZV) (a : Int) (L st : List ZV) (h : PH) : zev kX4_laysOthers 18 (x0 :: x1 :: x2 :: x3 :: zvi a :: L) st h = zev kX4_laysOthers 20 (x0 :: x1 :: x2 :: x3 :: zvi a :: L) (zvi a :: st) h := e_ld4I (n := 20) rfl
theorem hdX4_laysOthers_50 (x0 x1 x2 x3 : ZV) (a : Int) (L st : List ZV) (h : PH) : zev kX4_laysOthers 50 (x0 :: x1 :: x2 :: x3 :: zvi a :: L) st h = zev kX4_laysOthers 52 (x0 :: x1 :: x2 :: x3 :: zvi a :: L) (zvi a :: st) h := e_ld4I (n := 52) rfl
theorem rX4_laysOthers : (∀ (a : Option Nat) (L st : List ZV) (h : PH), zev kX4_laysOthers 0 (zvr a :: L) st h = zev kX4_laysOthers 1 (zvr a :: L) (zvr a :: st) h) ∧
  (∀ (q : Nat) (L st : List ZV) (h : PH), zev kX4_laysOthers 1 L (zvr (some q) :: st) h = if (ph_K h q).1 % 1000 = 18 ∧ zcat st ≤ 8 then zk kX4_laysOthers 1 4 L st (mX4_laysAside [zvr (some q)] h) else none) ∧
  (∀ (a : Option Nat) (L st : List ZV) (h : PH), zev kX4_laysOthers 4 (zvr a :: L) st h = zev kX4_laysOthers 5 (zvr a :: L) (zvr a :: st) h) ∧
  (∀ (L st : List ZV) (h : PH), zev kX4_laysOthers 5 L st h = zev kX4_laysOthers 6 L (zvi 0 :: st) h) ∧
  (∀ (a : Int) (q : Nat) (L st : List ZV) (h : PH), zev kX4_laysOthers 6 L (zvi a :: zvr (some q) :: st) h = if (ph_K h q).1 = 18 then zev kX4_laysOthers 9 L st (st_I h q 38 a) else none) ∧
  (∀ (a : Option Nat) (L st : List ZV) (h : PH), zev kX4_laysOthers 9 (zvr a :: L) st h = zev kX4_laysOthers 10 (zvr a :: L) (zvr a :: st) h) ∧
  (∀ (x0 : ZV) (a : Int) (L st : List ZV) (h : PH), zev kX4_laysOthers 10 (x0 :: zvi a :: L) st h = zev kX4_laysOthers 11 (x0 :: zvi a :: L) (zvi a :: st) h) ∧
  (∀ (x0 x1 : ZV) (a : Int) (L st : List ZV) (h : PH), zev kX4_laysOthers 11 (x0 :: x1 :: zvi a :: L) st h = zev kX4_laysOthers 12 (x0 :: x1 :: zvi a :: L) (zvi a :: st) h) ∧
  (∀ (x0 x1 x2 : ZV) (a : Int) (L st : List ZV) (h : PH), zev kX4_laysOthers 12 (x0 :: x1 :: x2 :: zvi a :: L) st h = zev kX4_laysOthers 13 (x0 :: x1 :: x2 :: zvi a :: L) (zvi a :: st) h) ∧
  (∀ (v0 v1 v2 : ZV) (q : Nat) (L st : List ZV) (h : PH), zev kX4_laysOthers 13 L (v2 :: v1 :: v0 :: zvr (some q) :: st) h = if (ph_K h q).1 % 1000 = 18 ∧ zcat st ≤ 8 then zk kX4_laysOthers 13 16 L st (mX4_begins_2 [zvr (some q), v0, v1, v2] h) else none) ∧
  (∀ (x0 x1 x2 x3 x4 : ZV) (a : Int) (L st : List ZV) (h : PH) (hx : zisL x3 = false) , zev kX4_laysOthers 16 (x0 :: x1 :: x2 :: x3 :: x4 :: L) (zvi a :: st) h = zev kX4_laysOthers 18 (x0 :: x1 :: x2 :: x3 :: zvi a :: L) st h) ∧
  (∀ (L st : List ZV) (h : PH), zev kX4_laysOthers 20 L st h = zev kX4_laysOthers 21 L (zvi (-1) :: st) h) ∧
  (∀ (a b : Int) (L st : List ZV) (h : PH), zev kX4_laysOthers 21 L (zvi b :: zvi a :: st) h = if a = b then zev kX4_laysOthers 93 L st h else zev kX4_laysOthers 24 L st h) ∧
  (∀ (a : Option Nat) (L st : List ZV) (h : PH), zev kX4_laysOthers 24 (zvr a :: L) st h = zev kX4_laysOthers 25 (zvr a :: L) (zvr a :: st) h) ∧
  (∀ (q : Nat) (L st : List ZV) (h : PH), zev kX4_laysOthers 25 L (zvr (some q) :: st) h = if (ph_K h q).1 % 1000 = 18 then zev kX4_laysOthers 28 L (zvr (ph_R h q 37) :: st) h else none) ∧
  (∀ (a : Option Nat) (L st : List ZV) (h : PH), zev kX4_laysOthers 28 (zvr a :: L) st h = zev kX4_laysOthers 29 (zvr a :: L) (zvr a :: st) h) ∧
  (∀ (q : Nat) (L st : List ZV) (h : PH), zev kX4_laysOthers 29 L (zvr (some q) :: st) h = if (ph_K h q).1 % 1000 = 18 then zev kX4_laysOthers 32 L (zvi (ph_I h q 38) :: st) h else none) ∧
  (∀ (a : Option Nat) (L st : List ZV) (h : PH), zev kX4_laysOthers 32 (zvr a :: L) st h = zev kX4_laysOthers 33 (zvr a :: L) (zvr a :: st) h) ∧
  (∀ (q : Nat) (L st : List ZV) (h : PH), zev kX4_laysOthers 33 L (zvr (some q) :: st) h = if (ph_K h q).1 % 1000 = 18 then zev kX4_laysOthers 36 L (zvr (ph_R h q 23) :: st) h else none) ∧
  (∀ (x0 x1 x2 x3 : ZV) (a : Int) (L st : List ZV) (h : PH), zev kX4_laysOthers 36 (x0 :: x1 :: x2 :: x3 :: zvi a :: L) st h = zev kX4_laysOthers 38 (x0 :: x1 :: x2 :: x3 :: zvi a :: L) (zvi a :: st) h) ∧
  (∀ (j : Int) (q : Nat) (L st : List ZV) (h : PH), zev kX4_laysOthers 38 L (zvi j :: zvr (some q) :: st) h = if (ph_K h q).1 % 1000 = 1 ∧ 0 ≤ j ∧ j < (ph_K h q).2 then zev kX4_laysOthers 39 L (zvi (ph_I h q j) :: st) h else none) ∧
  (∀ (x j : Int) (q : Nat) (L st : List ZV) (h : PH), zev kX4_laysOthers 39 L (zvi x :: zvi j :: zvr (some q) :: st) h = if (ph_K h q).1 = 1 ∧ 0 ≤ j ∧ j < (ph_K h q).2 then zev kX4_laysOthers 40 L st (st_I h q j x) else none) ∧
  (∀ (a : Option Nat) (L st : List ZV) (h : PH), zev kX4_laysOthers 40 (zvr a :: L) st h = zev kX4_laysOthers 41 (zvr a :: L) (zvr a :: st) h) ∧
  (∀ (a : Int) (L st : List ZV) (h : PH), zev kX4_laysOthers 41 L (zvi a :: st) h = zev kX4_laysOthers 42 L (zvi a :: zvi a :: st) h) ∧
  (∀ (a : Option Nat) (L st : List ZV) (h : PH), zev kX4_laysOthers 41 L (zvr a :: st) h = zev kX4_laysOthers 42 L (zvr a :: zvr a :: st) h) ∧
  (∀ (q : Nat) (L st : List ZV) (h : PH), zev kX4_laysOthers 42 L (zvr (some q) :: st) h = if (ph_K h q).1 % 1000 = 18 then zev kX4_laysOthers 45 L (zvi (ph_I h q 38) :: st) h else none) ∧
  (∀ (L st : List ZV) (h : PH), zev kX4_laysOthers 45 L st h = zev kX4_laysOthers 46 L (zvi 1 :: st) h) ∧
  (∀ (a b : Int) (L st : List ZV) (h : PH), zev kX4_laysOthers 46 L (zvi b :: zvi a :: st) h = zev kX4_laysOthers 47 L (zvi (w32 (a + b)) :: st) h) ∧
  (∀ (a : Int) (q : Nat) (L st : List ZV) (h : PH), zev kX4_laysOthers 47 L (zvi a :: zvr (some q) :: st) h = if (ph_K h q).1 = 18 then zev kX4_laysOthers 50 L st (st_I h q 38 a) else none) ∧
  (∀ (L st : List ZV) (h : PH), zev kX4_laysOthers 52 L st h = zev kX4_laysOthers 53 L (zvi (-1) :: st) h) ∧
  (∀ (a b : Int) (L st : List ZV) (h : PH), zev kX4_laysOthers 53 L (zvi b :: zvi a :: st) h = if a = b then zev kX4_laysOthers 81 L st h else zev kX4_laysOthers 56 L st h) ∧
  (∀ (a : Option Nat) (L st : List ZV) (h : PH), zev kX4_laysOthers 56 (zvr a :: L) st h = zev kX4_laysOthers 57 (zvr a :: L) (zvr a :: st) h) ∧
  (∀ (q : Nat) (L st : List ZV) (h : PH), zev kX4_laysOthers 57 L (zvr (some q) :: st) h = if (ph_K h q).1 % 1000 = 18 then zev kX4_laysOthers 60 L (zvr (ph_R h q 6) :: st) h else none) ∧
  (∀ (x0 x1 x2 x3 : ZV) (a : Int) (L st : List ZV) (h : PH), zev kX4_laysOthers 60 (x0 :: x1 :: x2 :: x3 :: zvi a :: L) st h = zev kX4_laysOthers 62 (x0 :: x1 :: x2 :: x3 :: zvi a :: L) (zvi a :: st) h) ∧
  (∀ (L st : List ZV) (h : PH), zev kX4_laysOthers 62 L st h = zev kX4_laysOthers 64 L (zvi 6 :: st) h) ∧
  (∀ (v0 v1 : ZV) (L st : List ZV) (h : PH), zev kX4_laysOthers 64 L (v1 :: v0 :: st) h = if zcat st ≤ 8 then zk kX4_laysOthers 64 67 L st (mX4_at [v0, v1] h) else none) ∧
  (∀ (L st : List ZV) (h : PH), zev kX4_laysOthers 67 L st h = zev kX4_laysOthers 68 L (zvi 0 :: st) h) ∧
  (∀ (x j : Int) (q : Nat) (L st : List ZV) (h : PH), zev kX4_laysOthers 68 L (zvi x :: zvi j :: zvr (some q) :: st) h = if (ph_K h q).1 = 1 ∧ 0 ≤ j ∧ j < (ph_K h q).2 then zev kX4_laysOthers 69 L st (st_I h q j x) else none) ∧
  (∀ (a : Option Nat) (L st : List ZV) (h : PH), zev kX4_laysOthers 69 (zvr a :: L) st h = zev kX4_laysOthers 70 (zvr a :: L) (zvr a :: st) h) ∧
  (∀ (q : Nat) (L st : List ZV) (h : PH), zev kX4_laysOthers 70 L (zvr (some q) :: st) h = if (ph_K h q).1 % 1000 = 18 then zev kX4_laysOthers 73 L (zvr (ph_R h q 26) :: st) h else none) ∧
  (∀ (x0 x1 x2 x3 : ZV) (a : Int) (L st : List ZV) (h : PH), zev kX4_laysOthers 73 (x0 :: x1 :: x2 :: x3 :: zvi a :: L) st h = zev kX4_laysOthers 75 (x0 :: x1 :: x2 :: x3 :: zvi a :: L) (zvi a :: st) h) ∧
  (∀ (j : Int) (q : Nat) (L st : List ZV) (h : PH), zev kX4_laysOthers 75 L (zvi j :: zvr (some q) :: st) h = if (ph_K h q).1 % 1000 = 1 ∧ 0 ≤ j ∧ j < (ph_K h q).2 then zev kX4_laysOthers 76 L (zvi (ph_I h q j) :: st) h else none) ∧
  (∀ (x0 x1 x2 x3 x4 : ZV) (a : Int) (L st : List ZV) (h : PH) (hx : zisL x3 = false) , zev kX4_laysOthers 76 (x0 :: x1 :: x2 :: x3 :: x4 :: L) (zvi a :: st) h = zev kX4_laysOthers 78 (x0 :: x1 :: x2 :: x3 :: zvi a :: L) st h) ∧
  (∀ (L st : List ZV) (h : PH), zev kX4_laysOthers 78 L st h = zev kX4_laysOthers 50 L st h) ∧
  (∀ (a : Option Nat) (L st : List ZV) (h : PH), zev kX4_laysOthers 81 (zvr a :: L) st h = zev kX4_laysOthers 82 (zvr a :: L) (zvr a :: st) h) ∧
  (∀ (x0 : ZV) (a : Int) (L st : List ZV) (h : PH), zev kX4_laysOthers 82 (x0 :: zvi a :: L) st h = zev kX4_laysOthers 83 (x0 :: zvi a :: L) (zvi a :: st) h) ∧
  (∀ (x0 x1 : ZV) (a : Int) (L st : List ZV) (h : PH), zev kX4_laysOthers 83 (x0 :: x1 :: zvi a :: L) st h = zev kX4_laysOthers 84 (x0 :: x1 :: zvi a :: L) (zvi a :: st) h) ∧
  (∀ (x0 x1 x2 : ZV) (a : Int) (L st : List ZV) (h : PH), zev kX4_laysOthers 84 (x0 :: x1 :: x2 :: zvi a :: L) st h = zev kX4_laysOthers 85 (x0 :: x1 :: x2 :: zvi a :: L) (zvi a :: st) h) ∧
  (∀ (v0 v1 v2 : ZV) (q : Nat) (L st : List ZV) (h : PH), zev kX4_laysOthers 85 L (v2 :: v1 :: v0 :: zvr (some q) :: st) h = if (ph_K h q).1 % 1000 = 18 ∧ zcat st ≤ 8 then zk kX4_laysOthers 85 88 L st (mX4_begins_2 [zvr (some q), v0, v1, v2] h) else none) ∧
  (∀ (x0 x1 x2 x3 x4 : ZV) (a : Int) (L st : List ZV) (h : PH) (hx : zisL x3 = false) , zev kX4_laysOthers 88 (x0 :: x1 :: x2 :: x3 :: x4 :: L) (zvi a :: st) h = zev kX4_laysOthers 90 (x0 :: x1 :: x2 :: x3 :: zvi a :: L) st h) ∧
  (∀ (L st : List ZV) (h : PH), zev kX4_laysOthers 90 L st h = zev kX4_laysOthers 18 L st h) ∧
  (∀ (a : Option Nat) (L st : List ZV) (h : PH), zev kX4_laysOthers 93 (zvr a :: L) st h = zev kX4_laysOthers 94 (zvr a :: L) (zvr a :: st) h) ∧
  (∀ (q : Nat) (L st : List ZV) (h : PH), zev kX4_laysOthers 94 L (zvr (some q) :: st) h = if (ph_K h q).1 % 1000 = 18 ∧ zcat st ≤ 8 then zk kX4_laysOthers 94 97 L st (mX4_takesBack [zvr (some q)] h) else none) ∧
  (∀ (L : List ZV) (h : PH), zev kX4_laysOthers 97 L [] h = zr0 h) :=
  ⟨fun a L st h => e_ld0R (n := 1) rfl,
  fun q L st h => e_callV1 (F := mX4_laysAside) (kd := 18) (n := 4) rfl,
  fun a L st h => e_ld0R (n := 5) rfl,
  fun L st h => e_push (v := zvi 0) (n := 6) rfl,
  fun a q L st h => e_putI (kd := 18) (k := 38) (n := 9) rfl,
  fun a L st h => e_ld0R (n := 10) rfl,
  fun x0 a L st h => e_ld1I (n := 11) rfl,
  fun x0 x1 a L st h => e_ld2I (n := 12) rfl,
  fun x0 x1 x2 a L st h => e_ld3I (n := 13) rfl,
  fun v0 v1 v2 q L st h => e_callV4 (F := mX4_begins_2) (kd := 18) (n := 16) rfl,
  fun x0 x1 x2 x3 x4 a L st h hx => e_st4I (n := 18) rfl hx,
  fun L st h => e_push (v := zvi (-1)) (n := 21) rfl,
  fun a b L st h => e_cmpeq (t := 93) (n := 24) rfl,
  fun a L st h => e_ld0R (n := 25) rfl,
  fun q L st h => e_getR (kd := 18) (k := 37) (n := 28) rfl,
  fun a L st h => e_ld0R (n := 29) rfl,
  fun q L st h => e_getI (kd := 18) (k := 38) (n := 32) rfl,
  fun a L st h => e_ld0R (n := 33) rfl,
  fun q L st h => e_getR (kd := 18) (k := 23) (n := 36) rfl,
  fun x0 x1 x2 x3 a L st h => e_ld4I (n := 38) rfl,
  fun j q L st h => e_ald (kd := 1) (n := 39) rfl,
  fun x j q L st h => e_ast (n := 40) rfl,
  fun a L st h => e_ld0R (n := 41) rfl,
  fun a L st h => e_dupI (n := 42) rfl,
  fun a L st h => e_dupR (n := 42) rfl,
  fun q L st h => e_getI (kd := 18) (k := 38) (n := 45) rfl,
  fun L st h => e_push (v := zvi 1) (n := 46) rfl,
  fun a b L st h => e_bin (f := (fun a b => w32 (a + b))) (n := 47) rfl,
  fun a q L st h => e_putI (kd := 18) (k := 38) (n := 50) rfl,
  fun L st h => e_push (v := zvi (-1)) (n := 53) rfl,
  fun a b L st h => e_cmpeq (t := 81) (n := 56) rfl,
  fun a L st h => e_ld0R (n := 57) rfl,
  fun q L st h => e_getR (kd := 18) (k := 6) (n := 60) rfl,
  fun x0 x1 x2 x3 a L st h => e_ld4I (n := 62) rfl,
  fun L st h => e_push (v := zvi 6) (n := 64) rfl,
  fun v0 v1 L st h => e_callS2 (F := mX4_at) (n := 67) rfl,
  fun L st h => e_push (v := zvi 0) (n := 68) rfl,
  fun x j q L st h => e_ast (n := 69) rfl,
  fun a L st h => e_ld0R (n := 70) rfl,
  fun q L st h => e_getR (kd := 18) (k := 26) (n := 73) rfl,
  fun x0 x1 x2 x3 a L st h => e_ld4I (n := 75) rfl,
  fun j q L st h => e_ald (kd := 1) (n := 76) rfl,
  fun x0 x1 x2 x3 x4 a L st h hx => e_st4I (n := 78) rfl hx,
  fun L st h => e_goto (t := 50) rfl,
  fun a L st h => e_ld0R (n := 82) rfl,
  fun x0 a L st h => e_ld1I (n := 83) rfl,
  fun x0 x1 a L st h => e_ld2I (n := 84) rfl,
  fun x0 x1 x2 a L st h => e_ld3I (n := 85) rfl,
  fun v0 v1 v2 q L st h => e_callV4 (F := mX4_begins_2) (kd := 18) (n := 88) rfl,
  fun x0 x1 x2 x3 x4 a L st h hx => e_st4I (n := 90) rfl hx,
  fun L st h => e_goto (t := 18) rfl,
  fun a L st h => e_ld0R (n := 94) rfl,
  fun q L st h => e_callV1 (F := mX4_takesBack) (kd := 18) (n := 97) rfl,
  fun L h => e_ret rfl⟩
theorem allX4_laysOthers : zall yX4_laysOthers cX4_laysOthers 5 none 9 kX4_laysOthers.1 :=
  ⟨k_aload_n dX4_laysOthers_0,
  k_callV (y2 := yX4_laysAside) (C := RX4) (T0 := TX4) (ci := 2) dX4_laysOthers_1 sndX4_laysAside rfl q2247 q2249 qs116 q137 q2250 (by decide +kernel) ⟨by decide, by decide⟩ (by decide) (by decide),
  k_aload_n dX4_laysOthers_4,
  k_iconst dX4_laysOthers_5,
  k_putI (C := RX4) (T := TX4) (N := 42) (ci := 2) (k := 38) (ref := "LinkTimesModel") dX4_laysOthers_6 rfl in_X4 tyX4 tyX4_ok nmX4 (by decide) (Or.inl q1837) (Or.inl rfl) (Or.inl rfl) (tyX4_ok 38 (by decide)) (fun _ _ _ => rfl),
  k_aload_n dX4_laysOthers_9,
  k_iload_n dX4_laysOthers_10,
  k_iload_n dX4_laysOthers_11,
  k_iload_n dX4_laysOthers_12,
  k_callV (y2 := yX4_begins_2) (C := RX4) (T0 := TX4) (ci := 2) dX4_laysOthers_13 sndX4_begins_2 rfl q2163 q2165 qs108 q137 q2166 (by decide +kernel) ⟨by decide, by decide⟩ (by decide) (by decide),
  k_istore dX4_laysOthers_16,
  k_iload dX4_laysOthers_18,
  k_iconst dX4_laysOthers_20,
  k_cmpeq (t := 93) dX4_laysOthers_21 (by decide),
  k_aload_n dX4_laysOthers_24,
  k_getR (C := RX4) (T := TX4) (N := 42) (ci := 2) (k := 37) (ref := "LinkTimesModel") dX4_laysOthers_25 rfl in_X4 (by decide) q1836 (Or.inl rfl) (fun _ _ _ => rfl),
  k_aload_n dX4_laysOthers_28,
  k_getI (C := RX4) (T := TX4) (N := 42) (ci := 2) (k := 38) (ref := "LinkTimesModel") dX4_laysOthers_29 rfl in_X4 (by decide) q1837 (Or.inl rfl) (fun _ _ _ => rfl),
  k_aload_n dX4_laysOthers_32,
  k_getR (C := RX4) (T := TX4) (N := 42) (ci := 2) (k := 23) (ref := "LinkTimesModel") dX4_laysOthers_33 rfl in_X4 (by decide) q1822 (Or.inl rfl) (fun _ _ _ => rfl),
  k_iload dX4_laysOthers_36,
  k_iald dX4_laysOthers_38,
  k_iast dX4_laysOthers_39,
  k_aload_n dX4_laysOthers_40,
  k_dup dX4_laysOthers_41,
  k_getI (C := RX4) (T := TX4) (N := 42) (ci := 2) (k := 38) (ref := "LinkTimesModel") dX4_laysOthers_42 rfl in_X4 (by decide) q1837 (Or.inl rfl) (fun _ _ _ => rfl),
  k_iconst dX4_laysOthers_45,
  k_iadd dX4_laysOthers_46,
  k_putI (C := RX4) (T := TX4) (N := 42) (ci := 2) (k := 38) (ref := "LinkTimesModel") dX4_laysOthers_47 rfl in_X4 tyX4 tyX4_ok nmX4 (by decide) (Or.inl q1837) (Or.inl rfl) (Or.inl rfl) (tyX4_ok 38 (by decide)) (fun _ _ _ => rfl),
  k_iload dX4_laysOthers_50,
  k_iconst dX4_laysOthers_52,
  k_cmpeq (t := 81) dX4_laysOthers_53 (by decide),
  k_aload_n dX4_laysOthers_56,
  k_getR (C := RX4) (T := TX4) (N := 42) (ci := 2) (k := 6) (ref := "LinkTimesModel") dX4_laysOthers_57 rfl in_X4 (by decide) q1805 (Or.inl rfl) (fun _ _ _ => rfl),
  k_iload dX4_laysOthers_60,
  k_bipush dX4_laysOthers_62,
  k_callS (y2 := yX4_at) dX4_laysOthers_64 sndX4_at q2047 q2048 q137 q2049 (by decide +kernel) ⟨by decide, by decide⟩ (by decide) (by decide),
  k_iconst dX4_laysOthers_67,
  k_iast dX4_laysOthers_68,
  k_aload_n dX4_laysOthers_69,
  k_getR (C := RX4) (T := TX4) (N := 42) (ci := 2) (k := 26) (ref := "LinkTimesModel") dX4_laysOthers_70 rfl in_X4 (by decide) q1825 (Or.inl rfl) (fun _ _ _ => rfl),
  k_iload dX4_laysOthers_73,
  k_iald dX4_laysOthers_75,
  k_istore dX4_laysOthers_76,
  k_goto (t := 50) dX4_laysOthers_78 (by decide),
  k_aload_n dX4_laysOthers_81,
  k_iload_n dX4_laysOthers_82,
  k_iload_n dX4_laysOthers_83,
  k_iload_n dX4_laysOthers_84,
  k_callV (y2 := yX4_begins_2) (C := RX4) (T0 := TX4) (ci := 2) dX4_laysOthers_85 sndX4_begins_2 rfl q2163 q2165 qs108 q137 q2166 (by decide +kernel) ⟨by decide, by decide⟩ (by decide) (by decide),
  k_istore dX4_laysOthers_88,
  k_goto (t := 18) dX4_laysOthers_90 (by decide),
  k_aload_n dX4_laysOthers_93,
  k_callV (y2 := yX4_takesBack) (C := RX4) (T0 := TX4) (ci := 2) dX4_laysOthers_94 sndX4_takesBack rfl q2251 q2253 qs117 q137 q2254 (by decide +kernel) ⟨by decide, by decide⟩ (by decide) (by decide),
  k_ret dX4_laysOthers_97, trivial⟩
theorem sndX4_laysOthers : MSound 9 yX4_laysOthers (ws_ yX4_laysOthers cX4_laysOthers 5 none) mX4_laysOthers := msound_M (by decide) allX4_laysOthers (fun _ _ => rfl)
/-! LinkTimesModel.others(III)I -/
noncomputable def kX4_others : ZM := ([(0, zi_ld 1 0 1), (1, zi_ld 1 0 2), (2, zi_ld 0 1 3), (3, zi_ld 0 2 4), (4, zi_callV mX4_areUnlike 18 3 7), (7, zi_ld 0 3 8), (8, zi_push (zvi 0) 9), (9, zi_push (zvi 1999) 12), (12, zi_callS mX4_in 3 15), (15, zi_callS mX4_unless_2 2 18), (18, zi_callV mX4_isRefused 18 2 21), (21, zi_if (fun a => zc_eq a 0) 26 24), (24, zi_push (zvi (-1)) 25), (25, zi_retv 0), (26, zi_ld 1 0 27), (27, zi_ld 0 1 28), (28, zi_ld 0 2 29), (29, zi_ld 0 3 30), (30, zi_callV mX4_laysOthers 18 4 33), (33, zi_ld 1 0 34), (34, zi_getI 18 38 37), (37, zi_retv 0)], fun _ _ => none)
noncomputable def mX4_others : ZF := zrunM kX4_others 4
theorem enX4_others (x0 : Option Nat) (x1 : Int) (x2 : Int) (x3 : Int) (h : PH) : mX4_others [zvr x0, zvi x1, zvi x2, zvi x3] h = zev kX4_others 0 [zvr x0, zvi x1, zvi x2, zvi x3] [] h := zrunM_eq rfl rfl
theorem rX4_others : (∀ (a : Option Nat) (L st : List ZV) (h : PH), zev kX4_others 0 (zvr a :: L) st h = zev kX4_others 1 (zvr a :: L) (zvr a :: st) h) ∧
  (∀ (a : Option Nat) (L st : List ZV) (h : PH), zev kX4_others 1 (zvr a :: L) st h = zev kX4_others 2 (zvr a :: L) (zvr a :: st) h) ∧
  (∀ (x0 : ZV) (a : Int) (L st : List ZV) (h : PH), zev kX4_others 2 (x0 :: zvi a :: L) st h = zev kX4_others 3 (x0 :: zvi a :: L) (zvi a :: st) h) ∧
  (∀ (x0 x1 : ZV) (a : Int) (L st : List ZV) (h : PH), zev kX4_others 3 (x0 :: x1 :: zvi a :: L) st h = zev kX4_others 4 (x0 :: x1 :: zvi a :: L) (zvi a :: st) h) ∧
  (∀ (v0 v1 : ZV) (q : Nat) (L st : List ZV) (h : PH), zev kX4_others 4 L (v1 :: v0 :: zvr (some q) :: st) h = if (ph_K h q).1 % 1000 = 18 ∧ zcat st ≤ 8 then zk kX4_others 4 7 L st (mX4_areUnlike [zvr (some q), v0, v1] h) else none) ∧
  (∀ (x0 x1 x2 : ZV) (a : Int) (L st : List ZV) (h : PH), zev kX4_others 7 (x0 :: x1 :: x2 :: zvi a :: L) st h = zev kX4_others 8 (x0 :: x1 :: x2 :: zvi a :: L) (zvi a :: st) h) ∧
  (∀ (L st : List ZV) (h : PH), zev kX4_others 8 L st h = zev kX4_others 9 L (zvi 0 :: st) h) ∧
  (∀ (L st : List ZV) (h : PH), zev kX4_others 9 L st h = zev kX4_others 12 L (zvi 1999 :: st) h) ∧
  (∀ (v0 v1 v2 : ZV) (L st : List ZV) (h : PH), zev kX4_others 12 L (v2 :: v1 :: v0 :: st) h = if zcat st ≤ 8 then zk kX4_others 12 15 L st (mX4_in [v0, v1, v2] h) else none) ∧
  (∀ (v0 v1 : ZV) (L st : List ZV) (h : PH), zev kX4_others 15 L (v1 :: v0 :: st) h = if zcat st ≤ 8 then zk kX4_others 15 18 L st (mX4_unless_2 [v0, v1] h) else none) ∧
  (∀ (v0 : ZV) (q : Nat) (L st : List ZV) (h : PH), zev kX4_others 18 L (v0 :: zvr (some q) :: st) h = if (ph_K h q).1 % 1000 = 18 ∧ zcat st ≤ 8 then zk kX4_others 18 21 L st (mX4_isRefused [zvr (some q), v0] h) else none) ∧
  (∀ (a : Int) (L st : List ZV) (h : PH), zev kX4_others 21 L (zvi a :: st) h = if a = 0 then zev kX4_others 26 L st h else zev kX4_others 24 L st h) ∧
  (∀ (L st : List ZV) (h : PH), zev kX4_others 24 L st h = zev kX4_others 25 L (zvi (-1) :: st) h) ∧
  (∀ (a : Int) (L : List ZV) (h : PH), zev kX4_others 25 L [zvi a] h = zrv (zvi a) h) ∧
  (∀ (a : Option Nat) (L st : List ZV) (h : PH), zev kX4_others 26 (zvr a :: L) st h = zev kX4_others 27 (zvr a :: L) (zvr a :: st) h) ∧
  (∀ (x0 : ZV) (a : Int) (L st : List ZV) (h : PH), zev kX4_others 27 (x0 :: zvi a :: L) st h = zev kX4_others 28 (x0 :: zvi a :: L) (zvi a :: st) h) ∧
  (∀ (x0 x1 : ZV) (a : Int) (L st : List ZV) (h : PH), zev kX4_others 28 (x0 :: x1 :: zvi a :: L) st h = zev kX4_others 29 (x0 :: x1 :: zvi a :: L) (zvi a :: st) h) ∧
  (∀ (x0 x1 x2 : ZV) (a : Int) (L st : List ZV) (h : PH), zev kX4_others 29 (x0 :: x1 :: x2 :: zvi a :: L) st h = zev kX4_others 30 (x0 :: x1 :: x2 :: zvi a :: L) (zvi a :: st) h) ∧
  (∀ (v0 v1 v2 : ZV) (q : Nat) (L st : List ZV) (h : PH), zev kX4_others 30 L (v2 :: v1 :: v0 :: zvr (some q) :: st) h = if (ph_K h q).1 % 1000 = 18 ∧ zcat st ≤ 8 then zk kX4_others 30 33 L st (mX4_laysOthers [zvr (some q), v0, v1, v2] h) else none) ∧
  (∀ (a : Option Nat) (L st : List ZV) (h : PH), zev kX4_others 33 (zvr a :: L) st h = zev kX4_others 34 (zvr a :: L) (zvr a :: st) h) ∧
  (∀ (q : Nat) (L st : List ZV) (h : PH), zev kX4_others 34 L (zvr (some q) :: st) h = if (ph_K h q).1 % 1000 = 18 then zev kX4_others 37 L (zvi (ph_I h q 38) :: st) h else none) ∧
  (∀ (a : Int) (L : List ZV) (h : PH), zev kX4_others 37 L [zvi a] h = zrv (zvi a) h) :=
  ⟨fun a L st h => e_ld0R (n := 1) rfl,
  fun a L st h => e_ld0R (n := 2) rfl,
  fun x0 a L st h => e_ld1I (n := 3) rfl,
  fun x0 x1 a L st h => e_ld2I (n := 4) rfl,
  fun v0 v1 q L st h => e_callV3 (F := mX4_areUnlike) (kd := 18) (n := 7) rfl,
  fun x0 x1 x2 a L st h => e_ld3I (n := 8) rfl,
  fun L st h => e_push (v := zvi 0) (n := 9) rfl,
  fun L st h => e_push (v := zvi 1999) (n := 12) rfl,
  fun v0 v1 v2 L st h => e_callS3 (F := mX4_in) (n := 15) rfl,
  fun v0 v1 L st h => e_callS2 (F := mX4_unless_2) (n := 18) rfl,
  fun v0 q L st h => e_callV2 (F := mX4_isRefused) (kd := 18) (n := 21) rfl,
  fun a L st h => e_ifeq (t := 26) (n := 24) rfl,
  fun L st h => e_push (v := zvi (-1)) (n := 25) rfl,
  fun a L h => e_retI rfl,
  fun a L st h => e_ld0R (n := 27) rfl,
  fun x0 a L st h => e_ld1I (n := 28) rfl,
  fun x0 x1 a L st h => e_ld2I (n := 29) rfl,
  fun x0 x1 x2 a L st h => e_ld3I (n := 30) rfl,
  fun v0 v1 v2 q L st h => e_callV4 (F := mX4_laysOthers) (kd := 18) (n := 33) rfl,
  fun a L st h => e_ld0R (n := 34) rfl,
  fun q L st h => e_getI (kd := 18) (k := 38) (n := 37) rfl,
  fun a L h => e_retI rfl⟩
theorem allX4_others : zall yX4_others cX4_others 4 (some .int) 10 kX4_others.1 :=
  ⟨k_aload_n dX4_others_0,
  k_aload_n dX4_others_1,
  k_iload_n dX4_others_2,
  k_iload_n dX4_others_3,
  k_callV (y2 := yX4_areUnlike) (C := RX4) (T0 := TX4) (ci := 2) dX4_others_4 sndX4_areUnlike rfl q2239 q2241 qs114 q137 q2242 (by decide +kernel) ⟨by decide, by decide⟩ (by decide) (by decide),
  k_iload_n dX4_others_7,
  k_iconst dX4_others_8,
  k_sipush dX4_others_9,
  k_callS (y2 := yX4_in) dX4_others_12 sndX4_in q1943 q1944 q137 q1945 (by decide +kernel) ⟨by decide, by decide⟩ (by decide) (by decide),
  k_callS (y2 := yX4_unless_2) dX4_others_15 sndX4_unless_2 q2120 q2121 q137 q2122 (by decide +kernel) ⟨by decide, by decide⟩ (by decide) (by decide),
  k_callV (y2 := yX4_isRefused) (C := RX4) (T0 := TX4) (ci := 2) dX4_others_18 sndX4_isRefused rfl q1946 q1948 qs70 q137 q1949 (by decide +kernel) ⟨by decide, by decide⟩ (by decide) (by decide),
  k_ifeq (t := 26) dX4_others_21 (by decide),
  k_iconst dX4_others_24,
  k_iret dX4_others_25,
  k_aload_n dX4_others_26,
  k_iload_n dX4_others_27,
  k_iload_n dX4_others_28,
  k_iload_n dX4_others_29,
  k_callV (y2 := yX4_laysOthers) (C := RX4) (T0 := TX4) (ci := 2) dX4_others_30 sndX4_laysOthers rfl q2243 q2245 qs115 q137 q2246 (by decide +kernel) ⟨by decide, by decide⟩ (by decide) (by decide),
  k_aload_n dX4_others_33,
  k_getI (C := RX4) (T := TX4) (N := 42) (ci := 2) (k := 38) (ref := "LinkTimesModel") dX4_others_34 rfl in_X4 (by decide) q1837 (Or.inl rfl) (fun _ _ _ => rfl),
  k_iret dX4_others_37, trivial⟩
theorem sndX4_others : MSound 10 yX4_others (ws_ yX4_others cX4_others 4 (some .int)) mX4_others := msound_M (by decide) allX4_others (fun _ _ => rfl)
/-! LinkTimesModel.other(IIII)I -/
noncomputable def kX4_other : ZM := ([(0, zi_ld 1 0 1), (1, zi_ld 1 0 2), (2, zi_ld 0 1 3), (3, zi_ld 0 2 4), (4, zi_callV mX4_areUnlike 18 3 7), (7, zi_ld 0 3 8), (8, zi_push (zvi 0) 9), (9, zi_push (zvi 1999) 12), (12, zi_callS mX4_in 3 15), (15, zi_callS mX4_unless_2 2 18), (18, zi_callV mX4_isRefused 18 2 21), (21, zi_if (fun a => zc_eq a 0) 26 24), (24, zi_push (zvi (-1)) 25), (25, zi_retv 0), (26, zi_ld 1 0 27), (27, zi_ld 0 1 28), (28, zi_ld 0 2 29), (29, zi_ld 0 3 30), (30, zi_callV mX4_laysOthers 18 4 33), (33, zi_ld 0 4 35), (35, zi_push (zvi 0) 36), (36, zi_ld 1 0 37), (37, zi_getI 18 38 40), (40, zi_push (zvi 1) 41), (41, zi_bin (fun a b => w32 (a - b)) 42), (42, zi_callS mX4_in 3 45), (45, zi_if (fun a => zc_eq a 0) 58 48), (48, zi_ld 1 0 49), (49, zi_getR 18 37 52), (52, zi_ld 0 4 54), (54, zi_ald 1 55), (55, zi_goto 63), (58, zi_ld 1 0 59), (59, zi_push (zvi 1) 60), (60, zi_callV mX4_no 18 2 63), (63, zi_retv 0)], fun _ _ => none)
noncomputable def mX4_other : ZF := zrunM kX4_other 5
theorem enX4_other (x0 : Option Nat) (x1 : Int) (x2 : Int) (x3 : Int) (x4 : Int) (h : PH) : mX4_other [zvr x0, zvi x1, zvi x2, zvi x3, zvi x4] h = zev kX4_other 0 [zvr x0, zvi x1, zvi x2, zvi x3, zvi x4] [] h := zrunM_eq rfl rfl
theorem rX4_other : (∀ (a : Option Nat) (L st : List ZV) (h : PH), zev kX4_other 0 (zvr a :: L) st h = zev kX4_other 1 (zvr a :: L) (zvr a :: st) h) ∧
  (∀ (a : Option Nat) (L st : List ZV) (h : PH), zev kX4_other 1 (zvr a :: L) st h = zev kX4_other 2 (zvr a :: L) (zvr a :: st) h) ∧
  (∀ (x0 : ZV) (a : Int) (L st : List ZV) (h : PH), zev kX4_other 2 (x0 :: zvi a :: L) st h = zev kX4_other 3 (x0 :: zvi a :: L) (zvi a :: st) h) ∧
  (∀ (x0 x1 : ZV) (a : Int) (L st : List ZV) (h : PH), zev kX4_other 3 (x0 :: x1 :: zvi a :: L) st h = zev kX4_other 4 (x0 :: x1 :: zvi a :: L) (zvi a :: st) h) ∧
  (∀ (v0 v1 : ZV) (q : Nat) (L st : List ZV) (h : PH), zev kX4_other 4 L (v1 :: v0 :: zvr (some q) :: st) h = if (ph_K h q).1 % 1000 = 18 ∧ zcat st ≤ 8 then zk kX4_other 4 7 L st (mX4_areUnlike [zvr (some q), v0, v1] h) else none) ∧
  (∀ (x0 x1 x2 : ZV) (a : Int) (L st : List ZV) (h : PH), zev kX4_other 7 (x0 :: x1 :: x2 :: zvi a :: L) st h = zev kX4_other 8 (x0 :: x1 :: x2 :: zvi a :: L) (zvi a :: st) h) ∧
  (∀ (L st : List ZV) (h : PH), zev kX4_other 8 L st h = zev kX4_other 9 L (zvi 0 :: st) h) ∧
  (∀ (L st : List ZV) (h : PH), zev kX4_other 9 L st h = zev kX4_other 12 L (zvi 1999 :: st) h) ∧
  (∀ (v0 v1 v2 : ZV) (L st : List ZV) (h : PH), zev kX4_other 12 L (v2 :: v1 :: v0 :: st) h = if zcat st ≤ 8 then zk kX4_other 12 15 L st (mX4_in [v0, v1, v2] h) else none) ∧
  (∀ (v0 v1 : ZV) (L st : List ZV) (h : PH), zev kX4_other 15 L (v1 :: v0 :: st) h = if zcat st ≤ 8 then zk kX4_other 15 18 L st (mX4_unless_2 [v0, v1] h) else none) ∧
  (∀ (v0 : ZV) (q : Nat) (L st : List ZV) (h : PH), zev kX4_other 18 L (v0 :: zvr (some q) :: st) h = if (ph_K h q).1 % 1000 = 18 ∧ zcat st ≤ 8 then zk kX4_other 18 21 L st (mX4_isRefused [zvr (some q), v0] h) else none) ∧
  (∀ (a : Int) (L st : List ZV) (h : PH), zev kX4_other 21 L (zvi a :: st) h = if a = 0 then zev kX4_other 26 L st h else zev kX4_other 24 L st h) ∧
  (∀ (L st : List ZV) (h : PH), zev kX4_other 24 L st h = zev kX4_other 25 L (zvi (-1) :: st) h) ∧
  (∀ (a : Int) (L : List ZV) (h : PH), zev kX4_other 25 L [zvi a] h = zrv (zvi a) h) ∧
  (∀ (a : Option Nat) (L st : List ZV) (h : PH), zev kX4_other 26 (zvr a :: L) st h = zev kX4_other 27 (zvr a :: L) (zvr a :: st) h) ∧
  (∀ (x0 : ZV) (a : Int) (L st : List ZV) (h : PH), zev kX4_other 27 (x0 :: zvi a :: L) st h = zev kX4_other 28 (x0 :: zvi a :: L) (zvi a :: st) h) ∧
  (∀ (x0 x1 : ZV) (a : Int) (L st : List ZV) (h : PH), zev kX4_other 28 (x0 :: x1 :: zvi a :: L) st h = zev kX4_other 29 (x0 :: x1 :: zvi a :: L) (zvi a :: st) h) ∧
  (∀ (x0 x1 x2 : ZV) (a : Int) (L st : List ZV) (h : PH), zev kX4_other 29 (x0 :: x1 :: x2 :: zvi a :: L) st h = zev kX4_other 30 (x0 :: x1 :: x2 :: zvi a :: L) (zvi a :: st) h) ∧
  (∀ (v0 v1 v2 : ZV) (q : Nat) (L st : List ZV) (h : PH), zev kX4_other 30 L (v2 :: v1 :: v0 :: zvr (some q) :: st) h = if (ph_K h q).1 % 1000 = 18 ∧ zcat st ≤ 8 then zk kX4_other 30 33 L st (mX4_laysOthers [zvr (some q), v0, v1, v2] h) else none) ∧
  (∀ (x0 x1 x2 x3 : ZV) (a : Int) (L st : List ZV) (h : PH), zev kX4_other 33 (x0 :: x1 :: x2 :: x3 :: zvi a :: L) st h = zev kX4_other 35 (x0 :: x1 :: x2 :: x3 :: zvi a :: L) (zvi a :: st) h) ∧
  (∀ (L st : List ZV) (h : PH), zev kX4_other 35 L st h = zev kX4_other 36 L (zvi 0 :: st) h) ∧
  (∀ (a : Option Nat) (L st : List ZV) (h : PH), zev kX4_other 36 (zvr a :: L) st h = zev kX4_other 37 (zvr a :: L) (zvr a :: st) h) ∧
  (∀ (q : Nat) (L st : List ZV) (h : PH), zev kX4_other 37 L (zvr (some q) :: st) h = if (ph_K h q).1 % 1000 = 18 then zev kX4_other 40 L (zvi (ph_I h q 38) :: st) h else none) ∧
  (∀ (L st : List ZV) (h : PH), zev kX4_other 40 L st h = zev kX4_other 41 L (zvi 1 :: st) h) ∧
  (∀ (a b : Int) (L st : List ZV) (h : PH), zev kX4_other 41 L (zvi b :: zvi a :: st) h = zev kX4_other 42 L (zvi (w32 (a - b)) :: st) h) ∧
  (∀ (v0 v1 v2 : ZV) (L st : List ZV) (h : PH), zev kX4_other 42 L (v2 :: v1 :: v0 :: st) h = if zcat st ≤ 8 then zk kX4_other 42 45 L st (mX4_in [v0, v1, v2] h) else none) ∧
  (∀ (a : Int) (L st : List ZV) (h : PH), zev kX4_other 45 L (zvi a :: st) h = if a = 0 then zev kX4_other 58 L st h else zev kX4_other 48 L st h) ∧
  (∀ (a : Option Nat) (L st : List ZV) (h : PH), zev kX4_other 48 (zvr a :: L) st h = zev kX4_other 49 (zvr a :: L) (zvr a :: st) h) ∧
  (∀ (q : Nat) (L st : List ZV) (h : PH), zev kX4_other 49 L (zvr (some q) :: st) h = if (ph_K h q).1 % 1000 = 18 then zev kX4_other 52 L (zvr (ph_R h q 37) :: st) h else none) ∧
  (∀ (x0 x1 x2 x3 : ZV) (a : Int) (L st : List ZV) (h : PH), zev kX4_other 52 (x0 :: x1 :: x2 :: x3 :: zvi a :: L) st h = zev kX4_other 54 (x0 :: x1 :: x2 :: x3 :: zvi a :: L) (zvi a :: st) h) ∧
  (∀ (j : Int) (q : Nat) (L st : List ZV) (h : PH), zev kX4_other 54 L (zvi j :: zvr (some q) :: st) h = if (ph_K h q).1 % 1000 = 1 ∧ 0 ≤ j ∧ j < (ph_K h q).2 then zev kX4_other 55 L (zvi (ph_I h q j) :: st) h else none) ∧
  (∀ (L st : List ZV) (h : PH), zev kX4_other 55 L st h = zev kX4_other 63 L st h) ∧
  (∀ (a : Option Nat) (L st : List ZV) (h : PH), zev kX4_other 58 (zvr a :: L) st h = zev kX4_other 59 (zvr a :: L) (zvr a :: st) h) ∧
  (∀ (L st : List ZV) (h : PH), zev kX4_other 59 L st h = zev kX4_other 60 L (zvi 1 :: st) h) ∧
  (∀ (v0 : ZV) (q : Nat) (L st : List ZV) (h : PH), zev kX4_other 60 L (v0 :: zvr (some q) :: st) h = if (ph_K h q).1 % 1000 = 18 ∧ zcat st ≤ 8 then zk kX4_other 60 63 L st (mX4_no [zvr (some q), v0] h) else none) ∧
  (∀ (a : Int) (L : List ZV) (h : PH), zev kX4_other 63 L [zvi a] h = zrv (zvi a) h) :=
  ⟨fun a L st h => e_ld0R (n := 1) rfl,
  fun a L st h => e_ld0R (n := 2) rfl,
  fun x0 a L st h => e_ld1I (n := 3) rfl,
  fun x0 x1 a L st h => e_ld2I (n := 4) rfl,
  fun v0 v1 q L st h => e_callV3 (F := mX4_areUnlike) (kd := 18) (n := 7) rfl,
  fun x0 x1 x2 a L st h => e_ld3I (n := 8) rfl,
  fun L st h => e_push (v := zvi 0) (n := 9) rfl,
  fun L st h => e_push (v := zvi 1999) (n := 12) rfl,
  fun v0 v1 v2 L st h => e_callS3 (F := mX4_in) (n := 15) rfl,
  fun v0 v1 L st h => e_callS2 (F := mX4_unless_2) (n := 18) rfl,
  fun v0 q L st h => e_callV2 (F := mX4_isRefused) (kd := 18) (n := 21) rfl,
  fun a L st h => e_ifeq (t := 26) (n := 24) rfl,
  fun L st h => e_push (v := zvi (-1)) (n := 25) rfl,
  fun a L h => e_retI rfl,
  fun a L st h => e_ld0R (n := 27) rfl,
  fun x0 a L st h => e_ld1I (n := 28) rfl,
  fun x0 x1 a L st h => e_ld2I (n := 29) rfl,
  fun x0 x1 x2 a L st h => e_ld3I (n := 30) rfl,
  fun v0 v1 v2 q L st h => e_callV4 (F := mX4_laysOthers) (kd := 18) (n := 33) rfl,
  fun x0 x1 x2 x3 a L st h => e_ld4I (n := 35) rfl,
  fun L st h => e_push (v := zvi 0) (n := 36) rfl,
  fun a L st h => e_ld0R (n := 37) rfl,
  fun q L st h => e_getI (kd := 18) (k := 38) (n := 40) rfl,
  fun L st h => e_push (v := zvi 1) (n := 41) rfl,
  fun a b L st h => e_bin (f := (fun a b => w32 (a - b))) (n := 42) rfl,
  fun v0 v1 v2 L st h => e_callS3 (F := mX4_in) (n := 45) rfl,
  fun a L st h => e_ifeq (t := 58) (n := 48) rfl,
  fun a L st h => e_ld0R (n := 49) rfl,
  fun q L st h => e_getR (kd := 18) (k := 37) (n := 52) rfl,
  fun x0 x1 x2 x3 a L st h => e_ld4I (n := 54) rfl,
  fun j q L st h => e_ald (kd := 1) (n := 55) rfl,
  fun L st h => e_goto (t := 63) rfl,
  fun a L st h => e_ld0R (n := 59) rfl,
  fun L st h => e_push (v := zvi 1) (n := 60) rfl,
  fun v0 q L st h => e_callV2 (F := mX4_no) (kd := 18) (n := 63) rfl,
  fun a L h => e_retI rfl⟩
theorem allX4_other : zall yX4_other cX4_other 5 (some .int) 10 kX4_other.1 :=
  ⟨k_aload_n dX4_other_0,
  k_aload_n dX4_other_1,
  k_iload_n dX4_other_2,
  k_iload_n dX4_other_3,
  k_callV (y2 := yX4_areUnlike) (C := RX4) (T0 := TX4) (ci := 2) dX4_other_4 sndX4_areUnlike rfl q2239 q2241 qs114 q137 q2242 (by decide +kernel) ⟨by decide, by decide⟩ (by decide) (by decide),
  k_iload_n dX4_other_7,
  k_iconst dX4_other_8,
  k_sipush dX4_other_9,
  k_callS (y2 := yX4_in) dX4_other_12 sndX4_in q1943 q1944 q137 q1945 (by decide +kernel) ⟨by decide, by decide⟩ (by decide) (by decide),
  k_callS (y2 := yX4_unless_2) dX4_other_15 sndX4_unless_2 q2120 q2121 q137 q2122 (by decide +kernel) ⟨by decide, by decide⟩ (by decide) (by decide),
  k_callV (y2 := yX4_isRefused) (C := RX4) (T0 := TX4) (ci := 2) dX4_other_18 sndX4_isRefused rfl q1946 q1948 qs70 q137 q1949 (by decide +kernel) ⟨by decide, by decide⟩ (by decide) (by decide),
  k_ifeq (t := 26) dX4_other_21 (by decide),
  k_iconst dX4_other_24,
  k_iret dX4_other_25,
  k_aload_n dX4_other_26,
  k_iload_n dX4_other_27,
  k_iload_n dX4_other_28,
  k_iload_n dX4_other_29,
  k_callV (y2 := yX4_laysOthers) (C := RX4) (T0 := TX4) (ci := 2) dX4_other_30 sndX4_laysOthers rfl q2243 q2245 qs115 q137 q2246 (by decide +kernel) ⟨by decide, by decide⟩ (by decide) (by decide),
  k_iload dX4_other_33,
  k_iconst dX4_other_35,
  k_aload_n dX4_other_36,
  k_getI (C := RX4) (T := TX4) (N := 42) (ci := 2) (k := 38) (ref := "LinkTimesModel") dX4_other_37 rfl in_X4 (by decide) q1837 (Or.inl rfl) (fun _ _ _ => rfl),
  k_iconst dX4_other_40,
  k_isub dX4_other_41,
  k_callS (y2 := yX4_in) dX4_other_42 sndX4_in q1943 q1944 q137 q1945 (by decide +kernel) ⟨by decide, by decide⟩ (by decide) (by decide),
  k_ifeq (t := 58) dX4_other_45 (by decide),
  k_aload_n dX4_other_48,
  k_getR (C := RX4) (T := TX4) (N := 42) (ci := 2) (k := 37) (ref := "LinkTimesModel") dX4_other_49 rfl in_X4 (by decide) q1836 (Or.inl rfl) (fun _ _ _ => rfl),
  k_iload dX4_other_52,
  k_iald dX4_other_54,
  k_goto (t := 63) dX4_other_55 (by decide),
  k_aload_n dX4_other_58,
  k_iconst dX4_other_59,
  k_callV (y2 := yX4_no) (C := RX4) (T0 := TX4) (ci := 2) dX4_other_60 sndX4_no rfl q2050 q2052 qs90 q137 q2053 (by decide +kernel) ⟨by decide, by decide⟩ (by decide) (by decide),
  k_iret dX4_other_63, trivial⟩
theorem sndX4_other : MSound 10 yX4_other (ws_ yX4_other cX4_other 5 (some .int)) mX4_other := msound_M (by decide) allX4_other (fun _ _ => rfl)
/-! LinkTimesModel.laysPairs(I)V -/
noncomputable def kX4_laysPairs : ZM := ([(0, zi_ld 1 0 1), (1, zi_push (zvi 0) 2), (2, zi_putI 18 40 5), (5, zi_ld 1 0 6), (6, zi_push (zvi (-2)) 8), (8, zi_putI 18 41 11), (11, zi_push (zvi 0) 12), (12, zi_st 0 2 13), (13, zi_ld 0 2 14), (14, zi_push (zvi 10) 16), (16, zi_cmp zc_ge 32 19), (19, zi_ld 1 0 20), (20, zi_getR 18 39 23), (23, zi_ld 0 2 24), (24, zi_push (zvi 0) 25), (25, zi_ast 26), (26, zi_iinc 2 1 29), (29, zi_goto 13), (32, zi_push (zvi 0) 33), (33, zi_st 0 2 34), (34, zi_ld 0 2 35), (35, zi_ld 1 0 36), (36, zi_getR 18 6 39), (39, zi_push (zvi 1) 40), (40, zi_ald 1 41), (41, zi_cmp zc_ge 200 44), (44, zi_ld 1 0 45), (45, zi_ld 0 2 46), (46, zi_callV mX4_laysGoal 18 2 49), (49, zi_push (zvi 0) 50), (50, zi_st 0 3 51), (51, zi_ld 0 3 52), (52, zi_ld 1 0 53), (53, zi_getR 18 6 56), (56, zi_push (zvi 1) 57), (57, zi_ald 1 58), (58, zi_cmp zc_ge 194 61), (61, zi_ld 0 3 62), (62, zi_ld 0 2 63), (63, zi_cmp zc_ne 70 66), (66, zi_push (zvi (-1)) 67), (67, zi_goto 76), (70, zi_ld 1 0 71), (71, zi_ld 0 3 72), (72, zi_ld 0 1 73), (73, zi_callV mX4_firstOf 18 3 76), (76, zi_st 0 4 78), (78, zi_ld 0 4 80), (80, zi_push (zvi (-1)) 81), (81, zi_cmp zc_ne 87 84), (84, zi_goto 188), (87, zi_ld 1 0 88), (88, zi_dup 89), (89, zi_getI 18 40 92), (92, zi_push (zvi 1) 93), (93, zi_bin (fun a b => w32 (a + b)) 94), (94, zi_putI 18 40 97), (97, zi_ld 1 0 98), (98, zi_ld 1 0 99), (99, zi_getR 18 23 102), (102, zi_ld 0 4 104), (104, zi_ald 1 105), (105, zi_ld 0 1 106), (106, zi_bin (fun a b => w32 (a - b)) 107), (107, zi_ld 1 0 108), (108, zi_getI 18 41 111), (111, zi_cmp zc_le 126 114), (114, zi_ld 1 0 115), (115, zi_getR 18 23 118), (118, zi_ld 0 4 120), (120, zi_ald 1 121), (121, zi_ld 0 1 122), (122, zi_bin (fun a b => w32 (a - b)) 123), (123, zi_goto 130), (126, zi_ld 1 0 127), (127, zi_getI 18 41 130), (130, zi_putI 18 41 133), (133, zi_ld 1 0 134), (134, zi_getR 18 26 137), (137, zi_ld 0 4 139), (139, zi_ald 1 140), (140, zi_push (zvi (-1)) 141), (141, zi_cmp zc_eq 188 144), (144, zi_ld 1 0 145), (145, zi_getR 18 39 148), (148, zi_ld 1 0 149), (149, zi_getR 18 6 152), (152, zi_ld 0 4 154), (154, zi_push (zvi 2) 155), (155, zi_callS mX4_at 2 158), (158, zi_ald 1 159), (159, zi_dup2 160), (160, zi_ald 1 161), (161, zi_ld 1 0 162), (162, zi_ld 0 4 164), (164, zi_ld 1 0 165), (165, zi_getR 18 26 168), (168, zi_ld 0 4 170), (170, zi_ald 1 171), (171, zi_callV mX4_turns 18 3 174), (174, zi_bin (fun a b => w32 (a + b)) 175), (175, zi_ast 176), (176, zi_ld 1 0 177), (177, zi_getR 18 26 180), (180, zi_ld 0 4 182), (182, zi_ald 1 183), (183, zi_st 0 4 185), (185, zi_goto 133), (188, zi_iinc 3 1 191), (191, zi_goto 51), (194, zi_iinc 2 1 197), (197, zi_goto 34), (200, zi_ret)], fun _ _ => none)
noncomputable def mX4_laysPairs : ZF := zrunM kX4_laysPairs 5
theorem enX4_laysPairs (x0 : Option Nat) (x1 : Int) (h : PH) : mX4_laysPairs [zvr x0, zvi x1] h = zev kX4_laysPairs 0 [zvr x0, zvi x1, zvu, zvu, zvu] [] h := zrunM_eq rfl rfl
theorem hdX4_laysPairs_13 (x0 x1 : ZV) (a : Int) (L st : List ZV) (h : PH) : zev kX4_laysPairs 13 (x0 :: x1 :: zvi a :: L) st h = zev kX4_laysPairs 14 (x0 :: x1 :: zvi a :: L) (zvi a :: st) h := e_ld2I (n := 14) rfl
theorem hdX4_laysPairs_34 (x0 x1 : ZV) (a : Int) (L st : List ZV) (h : PH) : zev kX4_laysPairs 34 (x0 :: x1 :: zvi a :: L) st h = zev kX4_laysPairs 35 (x0 :: x1 :: zvi a :: L) (zvi a :: st) h := e_ld2I (n := 35) rfl
theorem hdX4_laysPairs_51 (x0 x1 x2 : ZV) (a : Int) (L st : List ZV) (h : PH) : zev kX4_laysPairs 51 (x0 :: x1 :: x2 :: zvi a :: L) st h = zev kX4_laysPairs 52 (x0 :: x1 :: x2 :: zvi a :: L) (zvi a :: st) h := e_ld3I (n := 52) rfl
theorem hdX4_laysPairs_133 (a : Option Nat) (L st : List ZV) (h : PH) : zev kX4_laysPairs 133 (zvr a :: L) st h = zev kX4_laysPairs 134 (zvr a :: L) (zvr a :: st) h := e_ld0R (n := 134) rfl
theorem rX4_laysPairs : (∀ (a : Option Nat) (L st : List ZV) (h : PH), zev kX4_laysPairs 0 (zvr a :: L) st h = zev kX4_laysPairs 1 (zvr a :: L) (zvr a :: st) h) ∧
  (∀ (L st : List ZV) (h : PH), zev kX4_laysPairs 1 L st h = zev kX4_laysPairs 2 L (zvi 0 :: st) h) ∧
  (∀ (a : Int) (q : Nat) (L st : List ZV) (h : PH), zev kX4_laysPairs 2 L (zvi a :: zvr (some q) :: st) h = if (ph_K h q).1 = 18 then zev kX4_laysPairs 5 L st (st_I h q 40 a) else none) ∧
  (∀ (a : Option Nat) (L st : List ZV) (h : PH), zev kX4_laysPairs 5 (zvr a :: L) st h = zev kX4_laysPairs 6 (zvr a :: L) (zvr a :: st) h) ∧
  (∀ (L st : List ZV) (h : PH), zev kX4_laysPairs 6 L st h = zev kX4_laysPairs 8 L (zvi (-2) :: st) h) ∧
  (∀ (a : Int) (q : Nat) (L st : List ZV) (h : PH), zev kX4_laysPairs 8 L (zvi a :: zvr (some q) :: st) h = if (ph_K h q).1 = 18 then zev kX4_laysPairs 11 L st (st_I h q 41 a) else none) ∧
  (∀ (L st : List ZV) (h : PH), zev kX4_laysPairs 11 L st h = zev kX4_laysPairs 12 L (zvi 0 :: st) h) ∧
  (∀ (x0 x1 x2 : ZV) (a : Int) (L st : List ZV) (h : PH) (hx : zisL x1 = false) , zev kX4_laysPairs 12 (x0 :: x1 :: x2 :: L) (zvi a :: st) h = zev kX4_laysPairs 13 (x0 :: x1 :: zvi a :: L) st h) ∧
  (∀ (L st : List ZV) (h : PH), zev kX4_laysPairs 14 L st h = zev kX4_laysPairs 16 L (zvi 10 :: st) h) ∧
  (∀ (a b : Int) (L st : List ZV) (h : PH), zev kX4_laysPairs 16 L (zvi b :: zvi a :: st) h = if a ≥ b then zev kX4_laysPairs 32 L st h else zev kX4_laysPairs 19 L st h) ∧
  (∀ (a : Option Nat) (L st : List ZV) (h : PH), zev kX4_laysPairs 19 (zvr a :: L) st h = zev kX4_laysPairs 20 (zvr a :: L) (zvr a :: st) h) ∧
  (∀ (q : Nat) (L st : List ZV) (h : PH), zev kX4_laysPairs 20 L (zvr (some q) :: st) h = if (ph_K h q).1 % 1000 = 18 then zev kX4_laysPairs 23 L (zvr (ph_R h q 39) :: st) h else none) ∧
  (∀ (x0 x1 : ZV) (a : Int) (L st : List ZV) (h : PH), zev kX4_laysPairs 23 (x0 :: x1 :: zvi a :: L) st h = zev kX4_laysPairs 24 (x0 :: x1 :: zvi a :: L) (zvi a :: st) h) ∧
  (∀ (L st : List ZV) (h : PH), zev kX4_laysPairs 24 L st h = zev kX4_laysPairs 25 L (zvi 0 :: st) h) ∧
  (∀ (x j : Int) (q : Nat) (L st : List ZV) (h : PH), zev kX4_laysPairs 25 L (zvi x :: zvi j :: zvr (some q) :: st) h = if (ph_K h q).1 = 1 ∧ 0 ≤ j ∧ j < (ph_K h q).2 then zev kX4_laysPairs 26 L st (st_I h q j x) else none) ∧
  (∀ (x0 x1 : ZV) (a : Int) (L st : List ZV) (h : PH) (hx : zisL x1 = false) , zev kX4_laysPairs 26 (x0 :: x1 :: zvi a :: L) st h = zev kX4_laysPairs 29 (x0 :: x1 :: zvi (w32 (a + 1)) :: L) st h) ∧
  (∀ (L st : List ZV) (h : PH), zev kX4_laysPairs 29 L st h = zev kX4_laysPairs 13 L st h) ∧
  (∀ (L st : List ZV) (h : PH), zev kX4_laysPairs 32 L st h = zev kX4_laysPairs 33 L (zvi 0 :: st) h) ∧
  (∀ (x0 x1 x2 : ZV) (a : Int) (L st : List ZV) (h : PH) (hx : zisL x1 = false) , zev kX4_laysPairs 33 (x0 :: x1 :: x2 :: L) (zvi a :: st) h = zev kX4_laysPairs 34 (x0 :: x1 :: zvi a :: L) st h) ∧
  (∀ (a : Option Nat) (L st : List ZV) (h : PH), zev kX4_laysPairs 35 (zvr a :: L) st h = zev kX4_laysPairs 36 (zvr a :: L) (zvr a :: st) h) ∧
  (∀ (q : Nat) (L st : List ZV) (h : PH), zev kX4_laysPairs 36 L (zvr (some q) :: st) h = if (ph_K h q).1 % 1000 = 18 then zev kX4_laysPairs 39 L (zvr (ph_R h q 6) :: st) h else none) ∧
  (∀ (L st : List ZV) (h : PH), zev kX4_laysPairs 39 L st h = zev kX4_laysPairs 40 L (zvi 1 :: st) h) ∧
  (∀ (j : Int) (q : Nat) (L st : List ZV) (h : PH), zev kX4_laysPairs 40 L (zvi j :: zvr (some q) :: st) h = if (ph_K h q).1 % 1000 = 1 ∧ 0 ≤ j ∧ j < (ph_K h q).2 then zev kX4_laysPairs 41 L (zvi (ph_I h q j) :: st) h else none) ∧
  (∀ (a b : Int) (L st : List ZV) (h : PH), zev kX4_laysPairs 41 L (zvi b :: zvi a :: st) h = if a ≥ b then zev kX4_laysPairs 200 L st h else zev kX4_laysPairs 44 L st h) ∧
  (∀ (a : Option Nat) (L st : List ZV) (h : PH), zev kX4_laysPairs 44 (zvr a :: L) st h = zev kX4_laysPairs 45 (zvr a :: L) (zvr a :: st) h) ∧
  (∀ (x0 x1 : ZV) (a : Int) (L st : List ZV) (h : PH), zev kX4_laysPairs 45 (x0 :: x1 :: zvi a :: L) st h = zev kX4_laysPairs 46 (x0 :: x1 :: zvi a :: L) (zvi a :: st) h) ∧
  (∀ (v0 : ZV) (q : Nat) (L st : List ZV) (h : PH), zev kX4_laysPairs 46 L (v0 :: zvr (some q) :: st) h = if (ph_K h q).1 % 1000 = 18 ∧ zcat st ≤ 8 then zk kX4_laysPairs 46 49 L st (mX4_laysGoal [zvr (some q), v0] h) else none) ∧
  (∀ (L st : List ZV) (h : PH), zev kX4_laysPairs 49 L st h = zev kX4_laysPairs 50 L (zvi 0 :: st) h) ∧
  (∀ (x0 x1 x2 x3 : ZV) (a : Int) (L st : List ZV) (h : PH) (hx : zisL x2 = false) , zev kX4_laysPairs 50 (x0 :: x1 :: x2 :: x3 :: L) (zvi a :: st) h = zev kX4_laysPairs 51 (x0 :: x1 :: x2 :: zvi a :: L) st h) ∧
  (∀ (a : Option Nat) (L st : List ZV) (h : PH), zev kX4_laysPairs 52 (zvr a :: L) st h = zev kX4_laysPairs 53 (zvr a :: L) (zvr a :: st) h) ∧
  (∀ (q : Nat) (L st : List ZV) (h : PH), zev kX4_laysPairs 53 L (zvr (some q) :: st) h = if (ph_K h q).1 % 1000 = 18 then zev kX4_laysPairs 56 L (zvr (ph_R h q 6) :: st) h else none) ∧
  (∀ (L st : List ZV) (h : PH), zev kX4_laysPairs 56 L st h = zev kX4_laysPairs 57 L (zvi 1 :: st) h) ∧
  (∀ (j : Int) (q : Nat) (L st : List ZV) (h : PH), zev kX4_laysPairs 57 L (zvi j :: zvr (some q) :: st) h = if (ph_K h q).1 % 1000 = 1 ∧ 0 ≤ j ∧ j < (ph_K h q).2 then zev kX4_laysPairs 58 L (zvi (ph_I h q j) :: st) h else none) ∧
  (∀ (a b : Int) (L st : List ZV) (h : PH), zev kX4_laysPairs 58 L (zvi b :: zvi a :: st) h = if a ≥ b then zev kX4_laysPairs 194 L st h else zev kX4_laysPairs 61 L st h) ∧
  (∀ (x0 x1 x2 : ZV) (a : Int) (L st : List ZV) (h : PH), zev kX4_laysPairs 61 (x0 :: x1 :: x2 :: zvi a :: L) st h = zev kX4_laysPairs 62 (x0 :: x1 :: x2 :: zvi a :: L) (zvi a :: st) h) ∧
  (∀ (x0 x1 : ZV) (a : Int) (L st : List ZV) (h : PH), zev kX4_laysPairs 62 (x0 :: x1 :: zvi a :: L) st h = zev kX4_laysPairs 63 (x0 :: x1 :: zvi a :: L) (zvi a :: st) h) ∧
  (∀ (a b : Int) (L st : List ZV) (h : PH), zev kX4_laysPairs 63 L (zvi b :: zvi a :: st) h = if a ≠ b then zev kX4_laysPairs 70 L st h else zev kX4_laysPairs 66 L st h) ∧
  (∀ (L st : List ZV) (h : PH), zev kX4_laysPairs 66 L st h = zev kX4_laysPairs 67 L (zvi (-1) :: st) h) ∧
  (∀ (L st : List ZV) (h : PH), zev kX4_laysPairs 67 L st h = zev kX4_laysPairs 76 L st h) ∧
  (∀ (a : Option Nat) (L st : List ZV) (h : PH), zev kX4_laysPairs 70 (zvr a :: L) st h = zev kX4_laysPairs 71 (zvr a :: L) (zvr a :: st) h) ∧
  (∀ (x0 x1 x2 : ZV) (a : Int) (L st : List ZV) (h : PH), zev kX4_laysPairs 71 (x0 :: x1 :: x2 :: zvi a :: L) st h = zev kX4_laysPairs 72 (x0 :: x1 :: x2 :: zvi a :: L) (zvi a :: st) h) ∧
  (∀ (x0 : ZV) (a : Int) (L st : List ZV) (h : PH), zev kX4_laysPairs 72 (x0 :: zvi a :: L) st h = zev kX4_laysPairs 73 (x0 :: zvi a :: L) (zvi a :: st) h) ∧
  (∀ (v0 v1 : ZV) (q : Nat) (L st : List ZV) (h : PH), zev kX4_laysPairs 73 L (v1 :: v0 :: zvr (some q) :: st) h = if (ph_K h q).1 % 1000 = 18 ∧ zcat st ≤ 8 then zk kX4_laysPairs 73 76 L st (mX4_firstOf [zvr (some q), v0, v1] h) else none) ∧
  (∀ (x0 x1 x2 x3 x4 : ZV) (a : Int) (L st : List ZV) (h : PH) (hx : zisL x3 = false) , zev kX4_laysPairs 76 (x0 :: x1 :: x2 :: x3 :: x4 :: L) (zvi a :: st) h = zev kX4_laysPairs 78 (x0 :: x1 :: x2 :: x3 :: zvi a :: L) st h) ∧
  (∀ (x0 x1 x2 x3 : ZV) (a : Int) (L st : List ZV) (h : PH), zev kX4_laysPairs 78 (x0 :: x1 :: x2 :: x3 :: zvi a :: L) st h = zev kX4_laysPairs 80 (x0 :: x1 :: x2 :: x3 :: zvi a :: L) (zvi a :: st) h) ∧
  (∀ (L st : List ZV) (h : PH), zev kX4_laysPairs 80 L st h = zev kX4_laysPairs 81 L (zvi (-1) :: st) h) ∧
  (∀ (a b : Int) (L st : List ZV) (h : PH), zev kX4_laysPairs 81 L (zvi b :: zvi a :: st) h = if a ≠ b then zev kX4_laysPairs 87 L st h else zev kX4_laysPairs 84 L st h) ∧
  (∀ (L st : List ZV) (h : PH), zev kX4_laysPairs 84 L st h = zev kX4_laysPairs 188 L st h) ∧
  (∀ (a : Option Nat) (L st : List ZV) (h : PH), zev kX4_laysPairs 87 (zvr a :: L) st h = zev kX4_laysPairs 88 (zvr a :: L) (zvr a :: st) h) ∧
  (∀ (a : Int) (L st : List ZV) (h : PH), zev kX4_laysPairs 88 L (zvi a :: st) h = zev kX4_laysPairs 89 L (zvi a :: zvi a :: st) h) ∧
  (∀ (a : Option Nat) (L st : List ZV) (h : PH), zev kX4_laysPairs 88 L (zvr a :: st) h = zev kX4_laysPairs 89 L (zvr a :: zvr a :: st) h) ∧
  (∀ (q : Nat) (L st : List ZV) (h : PH), zev kX4_laysPairs 89 L (zvr (some q) :: st) h = if (ph_K h q).1 % 1000 = 18 then zev kX4_laysPairs 92 L (zvi (ph_I h q 40) :: st) h else none) ∧
  (∀ (L st : List ZV) (h : PH), zev kX4_laysPairs 92 L st h = zev kX4_laysPairs 93 L (zvi 1 :: st) h) ∧
  (∀ (a b : Int) (L st : List ZV) (h : PH), zev kX4_laysPairs 93 L (zvi b :: zvi a :: st) h = zev kX4_laysPairs 94 L (zvi (w32 (a + b)) :: st) h) ∧
  (∀ (a : Int) (q : Nat) (L st : List ZV) (h : PH), zev kX4_laysPairs 94 L (zvi a :: zvr (some q) :: st) h = if (ph_K h q).1 = 18 then zev kX4_laysPairs 97 L st (st_I h q 40 a) else none) ∧
  (∀ (a : Option Nat) (L st : List ZV) (h : PH), zev kX4_laysPairs 97 (zvr a :: L) st h = zev kX4_laysPairs 98 (zvr a :: L) (zvr a :: st) h) ∧
  (∀ (a : Option Nat) (L st : List ZV) (h : PH), zev kX4_laysPairs 98 (zvr a :: L) st h = zev kX4_laysPairs 99 (zvr a :: L) (zvr a :: st) h) ∧
  (∀ (q : Nat) (L st : List ZV) (h : PH), zev kX4_laysPairs 99 L (zvr (some q) :: st) h = if (ph_K h q).1 % 1000 = 18 then zev kX4_laysPairs 102 L (zvr (ph_R h q 23) :: st) h else none) ∧
  (∀ (x0 x1 x2 x3 : ZV) (a : Int) (L st : List ZV) (h : PH), zev kX4_laysPairs 102 (x0 :: x1 :: x2 :: x3 :: zvi a :: L) st h = zev kX4_laysPairs 104 (x0 :: x1 :: x2 :: x3 :: zvi a :: L) (zvi a :: st) h) ∧
  (∀ (j : Int) (q : Nat) (L st : List ZV) (h : PH), zev kX4_laysPairs 104 L (zvi j :: zvr (some q) :: st) h = if (ph_K h q).1 % 1000 = 1 ∧ 0 ≤ j ∧ j < (ph_K h q).2 then zev kX4_laysPairs 105 L (zvi (ph_I h q j) :: st) h else none) ∧
  (∀ (x0 : ZV) (a : Int) (L st : List ZV) (h : PH), zev kX4_laysPairs 105 (x0 :: zvi a :: L) st h = zev kX4_laysPairs 106 (x0 :: zvi a :: L) (zvi a :: st) h) ∧
  (∀ (a b : Int) (L st : List ZV) (h : PH), zev kX4_laysPairs 106 L (zvi b :: zvi a :: st) h = zev kX4_laysPairs 107 L (zvi (w32 (a - b)) :: st) h) ∧
  (∀ (a : Option Nat) (L st : List ZV) (h : PH), zev kX4_laysPairs 107 (zvr a :: L) st h = zev kX4_laysPairs 108 (zvr a :: L) (zvr a :: st) h) ∧
  (∀ (q : Nat) (L st : List ZV) (h : PH), zev kX4_laysPairs 108 L (zvr (some q) :: st) h = if (ph_K h q).1 % 1000 = 18 then zev kX4_laysPairs 111 L (zvi (ph_I h q 41) :: st) h else none) ∧
  (∀ (a b : Int) (L st : List ZV) (h : PH), zev kX4_laysPairs 111 L (zvi b :: zvi a :: st) h = if a ≤ b then zev kX4_laysPairs 126 L st h else zev kX4_laysPairs 114 L st h) ∧
  (∀ (a : Option Nat) (L st : List ZV) (h : PH), zev kX4_laysPairs 114 (zvr a :: L) st h = zev kX4_laysPairs 115 (zvr a :: L) (zvr a :: st) h) ∧
  (∀ (q : Nat) (L st : List ZV) (h : PH), zev kX4_laysPairs 115 L (zvr (some q) :: st) h = if (ph_K h q).1 % 1000 = 18 then zev kX4_laysPairs 118 L (zvr (ph_R h q 23) :: st) h else none) ∧
  (∀ (x0 x1 x2 x3 : ZV) (a : Int) (L st : List ZV) (h : PH), zev kX4_laysPairs 118 (x0 :: x1 :: x2 :: x3 :: zvi a :: L) st h = zev kX4_laysPairs 120 (x0 :: x1 :: x2 :: x3 :: zvi a :: L) (zvi a :: st) h) ∧
  (∀ (j : Int) (q : Nat) (L st : List ZV) (h : PH), zev kX4_laysPairs 120 L (zvi j :: zvr (some q) :: st) h = if (ph_K h q).1 % 1000 = 1 ∧ 0 ≤ j ∧ j < (ph_K h q).2 then zev kX4_laysPairs 121 L (zvi (ph_I h q j) :: st) h else none) ∧
  (∀ (x0 : ZV) (a : Int) (L st : List ZV) (h : PH), zev kX4_laysPairs 121 (x0 :: zvi a :: L) st h = zev kX4_laysPairs 122 (x0 :: zvi a :: L) (zvi a :: st) h) ∧
  (∀ (a b : Int) (L st : List ZV) (h : PH), zev kX4_laysPairs 122 L (zvi b :: zvi a :: st) h = zev kX4_laysPairs 123 L (zvi (w32 (a - b)) :: st) h) ∧
  (∀ (L st : List ZV) (h : PH), zev kX4_laysPairs 123 L st h = zev kX4_laysPairs 130 L st h) ∧
  (∀ (a : Option Nat) (L st : List ZV) (h : PH), zev kX4_laysPairs 126 (zvr a :: L) st h = zev kX4_laysPairs 127 (zvr a :: L) (zvr a :: st) h) ∧
  (∀ (q : Nat) (L st : List ZV) (h : PH), zev kX4_laysPairs 127 L (zvr (some q) :: st) h = if (ph_K h q).1 % 1000 = 18 then zev kX4_laysPairs 130 L (zvi (ph_I h q 41) :: st) h else none) ∧
  (∀ (a : Int) (q : Nat) (L st : List ZV) (h : PH), zev kX4_laysPairs 130 L (zvi a :: zvr (some q) :: st) h = if (ph_K h q).1 = 18 then zev kX4_laysPairs 133 L st (st_I h q 41 a) else none) ∧
  (∀ (q : Nat) (L st : List ZV) (h : PH), zev kX4_laysPairs 134 L (zvr (some q) :: st) h = if (ph_K h q).1 % 1000 = 18 then zev kX4_laysPairs 137 L (zvr (ph_R h q 26) :: st) h else none) ∧
  (∀ (x0 x1 x2 x3 : ZV) (a : Int) (L st : List ZV) (h : PH), zev kX4_laysPairs 137 (x0 :: x1 :: x2 :: x3 :: zvi a :: L) st h = zev kX4_laysPairs 139 (x0 :: x1 :: x2 :: x3 :: zvi a :: L) (zvi a :: st) h) ∧
  (∀ (j : Int) (q : Nat) (L st : List ZV) (h : PH), zev kX4_laysPairs 139 L (zvi j :: zvr (some q) :: st) h = if (ph_K h q).1 % 1000 = 1 ∧ 0 ≤ j ∧ j < (ph_K h q).2 then zev kX4_laysPairs 140 L (zvi (ph_I h q j) :: st) h else none) ∧
  (∀ (L st : List ZV) (h : PH), zev kX4_laysPairs 140 L st h = zev kX4_laysPairs 141 L (zvi (-1) :: st) h) ∧
  (∀ (a b : Int) (L st : List ZV) (h : PH), zev kX4_laysPairs 141 L (zvi b :: zvi a :: st) h = if a = b then zev kX4_laysPairs 188 L st h else zev kX4_laysPairs 144 L st h) ∧
  (∀ (a : Option Nat) (L st : List ZV) (h : PH), zev kX4_laysPairs 144 (zvr a :: L) st h = zev kX4_laysPairs 145 (zvr a :: L) (zvr a :: st) h) ∧
  (∀ (q : Nat) (L st : List ZV) (h : PH), zev kX4_laysPairs 145 L (zvr (some q) :: st) h = if (ph_K h q).1 % 1000 = 18 then zev kX4_laysPairs 148 L (zvr (ph_R h q 39) :: st) h else none) ∧
  (∀ (a : Option Nat) (L st : List ZV) (h : PH), zev kX4_laysPairs 148 (zvr a :: L) st h = zev kX4_laysPairs 149 (zvr a :: L) (zvr a :: st) h) ∧
  (∀ (q : Nat) (L st : List ZV) (h : PH), zev kX4_laysPairs 149 L (zvr (some q) :: st) h = if (ph_K h q).1 % 1000 = 18 then zev kX4_laysPairs 152 L (zvr (ph_R h q 6) :: st) h else none) ∧
  (∀ (x0 x1 x2 x3 : ZV) (a : Int) (L st : List ZV) (h : PH), zev kX4_laysPairs 152 (x0 :: x1 :: x2 :: x3 :: zvi a :: L) st h = zev kX4_laysPairs 154 (x0 :: x1 :: x2 :: x3 :: zvi a :: L) (zvi a :: st) h) ∧
  (∀ (L st : List ZV) (h : PH), zev kX4_laysPairs 154 L st h = zev kX4_laysPairs 155 L (zvi 2 :: st) h) ∧
  (∀ (v0 v1 : ZV) (L st : List ZV) (h : PH), zev kX4_laysPairs 155 L (v1 :: v0 :: st) h = if zcat st ≤ 8 then zk kX4_laysPairs 155 158 L st (mX4_at [v0, v1] h) else none) ∧
  (∀ (j : Int) (q : Nat) (L st : List ZV) (h : PH), zev kX4_laysPairs 158 L (zvi j :: zvr (some q) :: st) h = if (ph_K h q).1 % 1000 = 1 ∧ 0 ≤ j ∧ j < (ph_K h q).2 then zev kX4_laysPairs 159 L (zvi (ph_I h q j) :: st) h else none) ∧
  (∀ (a : Int) (b : Int) (L st : List ZV) (h : PH), zev kX4_laysPairs 159 L (zvi a :: zvi b :: st) h = zev kX4_laysPairs 160 L (zvi a :: zvi b :: zvi a :: zvi b :: st) h) ∧
  (∀ (a : Int) (b : Option Nat) (L st : List ZV) (h : PH), zev kX4_laysPairs 159 L (zvi a :: zvr b :: st) h = zev kX4_laysPairs 160 L (zvi a :: zvr b :: zvi a :: zvr b :: st) h) ∧
  (∀ (a : Option Nat) (b : Int) (L st : List ZV) (h : PH), zev kX4_laysPairs 159 L (zvr a :: zvi b :: st) h = zev kX4_laysPairs 160 L (zvr a :: zvi b :: zvr a :: zvi b :: st) h) ∧
  (∀ (a : Option Nat) (b : Option Nat) (L st : List ZV) (h : PH), zev kX4_laysPairs 159 L (zvr a :: zvr b :: st) h = zev kX4_laysPairs 160 L (zvr a :: zvr b :: zvr a :: zvr b :: st) h) ∧
  (∀ (j : Int) (q : Nat) (L st : List ZV) (h : PH), zev kX4_laysPairs 160 L (zvi j :: zvr (some q) :: st) h = if (ph_K h q).1 % 1000 = 1 ∧ 0 ≤ j ∧ j < (ph_K h q).2 then zev kX4_laysPairs 161 L (zvi (ph_I h q j) :: st) h else none) ∧
  (∀ (a : Option Nat) (L st : List ZV) (h : PH), zev kX4_laysPairs 161 (zvr a :: L) st h = zev kX4_laysPairs 162 (zvr a :: L) (zvr a :: st) h) ∧
  (∀ (x0 x1 x2 x3 : ZV) (a : Int) (L st : List ZV) (h : PH), zev kX4_laysPairs 162 (x0 :: x1 :: x2 :: x3 :: zvi a :: L) st h = zev kX4_laysPairs 164 (x0 :: x1 :: x2 :: x3 :: zvi a :: L) (zvi a :: st) h) ∧
  (∀ (a : Option Nat) (L st : List ZV) (h : PH), zev kX4_laysPairs 164 (zvr a :: L) st h = zev kX4_laysPairs 165 (zvr a :: L) (zvr a :: st) h) ∧
  (∀ (q : Nat) (L st : List ZV) (h : PH), zev kX4_laysPairs 165 L (zvr (some q) :: st) h = if (ph_K h q).1 % 1000 = 18 then zev kX4_laysPairs 168 L (zvr (ph_R h q 26) :: st) h else none) ∧
  (∀ (x0 x1 x2 x3 : ZV) (a : Int) (L st : List ZV) (h : PH), zev kX4_laysPairs 168 (x0 :: x1 :: x2 :: x3 :: zvi a :: L) st h = zev kX4_laysPairs 170 (x0 :: x1 :: x2 :: x3 :: zvi a :: L) (zvi a :: st) h) ∧
  (∀ (j : Int) (q : Nat) (L st : List ZV) (h : PH), zev kX4_laysPairs 170 L (zvi j :: zvr (some q) :: st) h = if (ph_K h q).1 % 1000 = 1 ∧ 0 ≤ j ∧ j < (ph_K h q).2 then zev kX4_laysPairs 171 L (zvi (ph_I h q j) :: st) h else none) ∧
  (∀ (v0 v1 : ZV) (q : Nat) (L st : List ZV) (h : PH), zev kX4_laysPairs 171 L (v1 :: v0 :: zvr (some q) :: st) h = if (ph_K h q).1 % 1000 = 18 ∧ zcat st ≤ 8 then zk kX4_laysPairs 171 174 L st (mX4_turns [zvr (some q), v0, v1] h) else none) ∧
  (∀ (a b : Int) (L st : List ZV) (h : PH), zev kX4_laysPairs 174 L (zvi b :: zvi a :: st) h = zev kX4_laysPairs 175 L (zvi (w32 (a + b)) :: st) h) ∧
  (∀ (x j : Int) (q : Nat) (L st : List ZV) (h : PH), zev kX4_laysPairs 175 L (zvi x :: zvi j :: zvr (some q) :: st) h = if (ph_K h q).1 = 1 ∧ 0 ≤ j ∧ j < (ph_K h q).2 then zev kX4_laysPairs 176 L st (st_I h q j x) else none) ∧
  (∀ (a : Option Nat) (L st : List ZV) (h : PH), zev kX4_laysPairs 176 (zvr a :: L) st h = zev kX4_laysPairs 177 (zvr a :: L) (zvr a :: st) h) ∧
  (∀ (q : Nat) (L st : List ZV) (h : PH), zev kX4_laysPairs 177 L (zvr (some q) :: st) h = if (ph_K h q).1 % 1000 = 18 then zev kX4_laysPairs 180 L (zvr (ph_R h q 26) :: st) h else none) ∧
  (∀ (x0 x1 x2 x3 : ZV) (a : Int) (L st : List ZV) (h : PH), zev kX4_laysPairs 180 (x0 :: x1 :: x2 :: x3 :: zvi a :: L) st h = zev kX4_laysPairs 182 (x0 :: x1 :: x2 :: x3 :: zvi a :: L) (zvi a :: st) h) ∧
  (∀ (j : Int) (q : Nat) (L st : List ZV) (h : PH), zev kX4_laysPairs 182 L (zvi j :: zvr (some q) :: st) h = if (ph_K h q).1 % 1000 = 1 ∧ 0 ≤ j ∧ j < (ph_K h q).2 then zev kX4_laysPairs 183 L (zvi (ph_I h q j) :: st) h else none) ∧
  (∀ (x0 x1 x2 x3 x4 : ZV) (a : Int) (L st : List ZV) (h : PH) (hx : zisL x3 = false) , zev kX4_laysPairs 183 (x0 :: x1 :: x2 :: x3 :: x4 :: L) (zvi a :: st) h = zev kX4_laysPairs 185 (x0 :: x1 :: x2 :: x3 :: zvi a :: L) st h) ∧
  (∀ (L st : List ZV) (h : PH), zev kX4_laysPairs 185 L st h = zev kX4_laysPairs 133 L st h) ∧
  (∀ (x0 x1 x2 : ZV) (a : Int) (L st : List ZV) (h : PH) (hx : zisL x2 = false) , zev kX4_laysPairs 188 (x0 :: x1 :: x2 :: zvi a :: L) st h = zev kX4_laysPairs 191 (x0 :: x1 :: x2 :: zvi (w32 (a + 1)) :: L) st h) ∧
  (∀ (L st : List ZV) (h : PH), zev kX4_laysPairs 191 L st h = zev kX4_laysPairs 51 L st h) ∧
  (∀ (x0 x1 : ZV) (a : Int) (L st : List ZV) (h : PH) (hx : zisL x1 = false) , zev kX4_laysPairs 194 (x0 :: x1 :: zvi a :: L) st h = zev kX4_laysPairs 197 (x0 :: x1 :: zvi (w32 (a + 1)) :: L) st h) ∧
  (∀ (L st : List ZV) (h : PH), zev kX4_laysPairs 197 L st h = zev kX4_laysPairs 34 L st h) ∧
  (∀ (L : List ZV) (h : PH), zev kX4_laysPairs 200 L [] h = zr0 h) :=
  ⟨fun a L st h => e_ld0R (n := 1) rfl,
  fun L st h => e_push (v := zvi 0) (n := 2) rfl,
  fun a q L st h => e_putI (kd := 18) (k := 40) (n := 5) rfl,
  fun a L st h => e_ld0R (n := 6) rfl,
  fun L st h => e_push (v := zvi (-2)) (n := 8) rfl,
  fun a q L st h => e_putI (kd := 18) (k := 41) (n := 11) rfl,
  fun L st h => e_push (v := zvi 0) (n := 12) rfl,
  fun x0 x1 x2 a L st h hx => e_st2I (n := 13) rfl hx,
  fun L st h => e_push (v := zvi 10) (n := 16) rfl,
  fun a b L st h => e_cmpge (t := 32) (n := 19) rfl,
  fun a L st h => e_ld0R (n := 20) rfl,
  fun q L st h => e_getR (kd := 18) (k := 39) (n := 23) rfl,
  fun x0 x1 a L st h => e_ld2I (n := 24) rfl,
  fun L st h => e_push (v := zvi 0) (n := 25) rfl,
  fun x j q L st h => e_ast (n := 26) rfl,
  fun x0 x1 a L st h hx => e_iinc2 (d := 1) (n := 29) rfl hx,
  fun L st h => e_goto (t := 13) rfl,
  fun L st h => e_push (v := zvi 0) (n := 33) rfl,
  fun x0 x1 x2 a L st h hx => e_st2I (n := 34) rfl hx,
  fun a L st h => e_ld0R (n := 36) rfl,
  fun q L st h => e_getR (kd := 18) (k := 6) (n := 39) rfl,
  fun L st h => e_push (v := zvi 1) (n := 40) rfl,
  fun j q L st h => e_ald (kd := 1) (n := 41) rfl,
  fun a b L st h => e_cmpge (t := 200) (n := 44) rfl,
  fun a L st h => e_ld0R (n := 45) rfl,
  fun x0 x1 a L st h => e_ld2I (n := 46) rfl,
  fun v0 q L st h => e_callV2 (F := mX4_laysGoal) (kd := 18) (n := 49) rfl,
  fun L st h => e_push (v := zvi 0) (n := 50) rfl,
  fun x0 x1 x2 x3 a L st h hx => e_st3I (n := 51) rfl hx,
  fun a L st h => e_ld0R (n := 53) rfl,
  fun q L st h => e_getR (kd := 18) (k := 6) (n := 56) rfl,
  fun L st h => e_push (v := zvi 1) (n := 57) rfl,
  fun j q L st h => e_ald (kd := 1) (n := 58) rfl,
  fun a b L st h => e_cmpge (t := 194) (n := 61) rfl,
  fun x0 x1 x2 a L st h => e_ld3I (n := 62) rfl,
  fun x0 x1 a L st h => e_ld2I (n := 63) rfl,
  fun a b L st h => e_cmpne (t := 70) (n := 66) rfl,
  fun L st h => e_push (v := zvi (-1)) (n := 67) rfl,
  fun L st h => e_goto (t := 76) rfl,
  fun a L st h => e_ld0R (n := 71) rfl,
  fun x0 x1 x2 a L st h => e_ld3I (n := 72) rfl,
  fun x0 a L st h => e_ld1I (n := 73) rfl,
  fun v0 v1 q L st h => e_callV3 (F := mX4_firstOf) (kd := 18) (n := 76) rfl,
  fun x0 x1 x2 x3 x4 a L st h hx => e_st4I (n := 78) rfl hx,
  fun x0 x1 x2 x3 a L st h => e_ld4I (n := 80) rfl,
  fun L st h => e_push (v := zvi (-1)) (n := 81) rfl,
  fun a b L st h => e_cmpne (t := 87) (n := 84) rfl,
  fun L st h => e_goto (t := 188) rfl,
  fun a L st h => e_ld0R (n := 88) rfl,
  fun a L st h => e_dupI (n := 89) rfl,
  fun a L st h => e_dupR (n := 89) rfl,
  fun q L st h => e_getI (kd := 18) (k := 40) (n := 92) rfl,
  fun L st h => e_push (v := zvi 1) (n := 93) rfl,
  fun a b L st h => e_bin (f := (fun a b => w32 (a + b))) (n := 94) rfl,
  fun a q L st h => e_putI (kd := 18) (k := 40) (n := 97) rfl,
  fun a L st h => e_ld0R (n := 98) rfl,
  fun a L st h => e_ld0R (n := 99) rfl,
  fun q L st h => e_getR (kd := 18) (k := 23) (n := 102) rfl,
  fun x0 x1 x2 x3 a L st h => e_ld4I (n := 104) rfl,
  fun j q L st h => e_ald (kd := 1) (n := 105) rfl,
  fun x0 a L st h => e_ld1I (n := 106) rfl,
  fun a b L st h => e_bin (f := (fun a b => w32 (a - b))) (n := 107) rfl,
  fun a L st h => e_ld0R (n := 108) rfl,
  fun q L st h => e_getI (kd := 18) (k := 41) (n := 111) rfl,
  fun a b L st h => e_cmple (t := 126) (n := 114) rfl,
  fun a L st h => e_ld0R (n := 115) rfl,
  fun q L st h => e_getR (kd := 18) (k := 23) (n := 118) rfl,
  fun x0 x1 x2 x3 a L st h => e_ld4I (n := 120) rfl,
  fun j q L st h => e_ald (kd := 1) (n := 121) rfl,
  fun x0 a L st h => e_ld1I (n := 122) rfl,
  fun a b L st h => e_bin (f := (fun a b => w32 (a - b))) (n := 123) rfl,
  fun L st h => e_goto (t := 130) rfl,
  fun a L st h => e_ld0R (n := 127) rfl,
  fun q L st h => e_getI (kd := 18) (k := 41) (n := 130) rfl,
  fun a q L st h => e_putI (kd := 18) (k := 41) (n := 133) rfl,
  fun q L st h => e_getR (kd := 18) (k := 26) (n := 137) rfl,
  fun x0 x1 x2 x3 a L st h => e_ld4I (n := 139) rfl,
  fun j q L st h => e_ald (kd := 1) (n := 140) rfl,
  fun L st h => e_push (v := zvi (-1)) (n := 141) rfl,
  fun a b L st h => e_cmpeq (t := 188) (n := 144) rfl,
  fun a L st h => e_ld0R (n := 145) rfl,
  fun q L st h => e_getR (kd := 18) (k := 39) (n := 148) rfl,
  fun a L st h => e_ld0R (n := 149) rfl,
  fun q L st h => e_getR (kd := 18) (k := 6) (n := 152) rfl,
  fun x0 x1 x2 x3 a L st h => e_ld4I (n := 154) rfl,
  fun L st h => e_push (v := zvi 2) (n := 155) rfl,
  fun v0 v1 L st h => e_callS2 (F := mX4_at) (n := 158) rfl,
  fun j q L st h => e_ald (kd := 1) (n := 159) rfl,
  fun a b L st h => e_dup2II (n := 160) rfl,
  fun a b L st h => e_dup2IR (n := 160) rfl,
  fun a b L st h => e_dup2RI (n := 160) rfl,
  fun a b L st h => e_dup2RR (n := 160) rfl,
  fun j q L st h => e_ald (kd := 1) (n := 161) rfl,
  fun a L st h => e_ld0R (n := 162) rfl,
  fun x0 x1 x2 x3 a L st h => e_ld4I (n := 164) rfl,
  fun a L st h => e_ld0R (n := 165) rfl,
  fun q L st h => e_getR (kd := 18) (k := 26) (n := 168) rfl,
  fun x0 x1 x2 x3 a L st h => e_ld4I (n := 170) rfl,
  fun j q L st h => e_ald (kd := 1) (n := 171) rfl,
  fun v0 v1 q L st h => e_callV3 (F := mX4_turns) (kd := 18) (n := 174) rfl,
  fun a b L st h => e_bin (f := (fun a b => w32 (a + b))) (n := 175) rfl,
  fun x j q L st h => e_ast (n := 176) rfl,
  fun a L st h => e_ld0R (n := 177) rfl,
  fun q L st h => e_getR (kd := 18) (k := 26) (n := 180) rfl,
  fun x0 x1 x2 x3 a L st h => e_ld4I (n := 182) rfl,
  fun j q L st h => e_ald (kd := 1) (n := 183) rfl,
  fun x0 x1 x2 x3 x4 a L st h hx => e_st4I (n := 185) rfl hx,
  fun L st h => e_goto (t := 133) rfl,
  fun x0 x1 x2 a L st h hx => e_iinc3 (d := 1) (n := 191) rfl hx,
  fun L st h => e_goto (t := 51) rfl,
  fun x0 x1 a L st h hx => e_iinc2 (d := 1) (n := 197) rfl hx,
  fun L st h => e_goto (t := 34) rfl,
  fun L h => e_ret rfl⟩
theorem allX4_laysPairs : zall yX4_laysPairs cX4_laysPairs 5 none 7 kX4_laysPairs.1 :=
  ⟨k_aload_n dX4_laysPairs_0,
  k_iconst dX4_laysPairs_1,
  k_putI (C := RX4) (T := TX4) (N := 42) (ci := 2) (k := 40) (ref := "LinkTimesModel") dX4_laysPairs_2 rfl in_X4 tyX4 tyX4_ok nmX4 (by decide) (Or.inl q1839) (Or.inl rfl) (Or.inl rfl) (tyX4_ok 40 (by decide)) (fun _ _ _ => rfl),
  k_aload_n dX4_laysPairs_5,
  k_bipush dX4_laysPairs_6,
  k_putI (C := RX4) (T := TX4) (N := 42) (ci := 2) (k := 41) (ref := "LinkTimesModel") dX4_laysPairs_8 rfl in_X4 tyX4 tyX4_ok nmX4 (by decide) (Or.inl q1840) (Or.inl rfl) (Or.inl rfl) (tyX4_ok 41 (by decide)) (fun _ _ _ => rfl),
  k_iconst dX4_laysPairs_11,
  k_istore_n dX4_laysPairs_12,
  k_iload_n dX4_laysPairs_13,
  k_bipush dX4_laysPairs_14,
  k_cmpge (t := 32) dX4_laysPairs_16 (by decide),
  k_aload_n dX4_laysPairs_19,
  k_getR (C := RX4) (T := TX4) (N := 42) (ci := 2) (k := 39) (ref := "LinkTimesModel") dX4_laysPairs_20 rfl in_X4 (by decide) q1838 (Or.inl rfl) (fun _ _ _ => rfl),
  k_iload_n dX4_laysPairs_23,
  k_iconst dX4_laysPairs_24,
  k_iast dX4_laysPairs_25,
  k_iinc dX4_laysPairs_26,
  k_goto (t := 13) dX4_laysPairs_29 (by decide),
  k_iconst dX4_laysPairs_32,
  k_istore_n dX4_laysPairs_33,
  k_iload_n dX4_laysPairs_34,
  k_aload_n dX4_laysPairs_35,
  k_getR (C := RX4) (T := TX4) (N := 42) (ci := 2) (k := 6) (ref := "LinkTimesModel") dX4_laysPairs_36 rfl in_X4 (by decide) q1805 (Or.inl rfl) (fun _ _ _ => rfl),
  k_iconst dX4_laysPairs_39,
  k_iald dX4_laysPairs_40,
  k_cmpge (t := 200) dX4_laysPairs_41 (by decide),
  k_aload_n dX4_laysPairs_44,
  k_iload_n dX4_laysPairs_45,
  k_callV (y2 := yX4_laysGoal) (C := RX4) (T0 := TX4) (ci := 2) dX4_laysPairs_46 sndX4_laysGoal rfl q2127 q2129 qs100 q137 q2130 (by decide +kernel) ⟨by decide, by decide⟩ (by decide) (by decide),
  k_iconst dX4_laysPairs_49,
  k_istore_n dX4_laysPairs_50,
  k_iload_n dX4_laysPairs_51,
  k_aload_n dX4_laysPairs_52,
  k_getR (C := RX4) (T := TX4) (N := 42) (ci := 2) (k := 6) (ref := "LinkTimesModel") dX4_laysPairs_53 rfl in_X4 (by decide) q1805 (Or.inl rfl) (fun _ _ _ => rfl),
  k_iconst dX4_laysPairs_56,
  k_iald dX4_laysPairs_57,
  k_cmpge (t := 194) dX4_laysPairs_58 (by decide),
  k_iload_n dX4_laysPairs_61,
  k_iload_n dX4_laysPairs_62,
  k_cmpne (t := 70) dX4_laysPairs_63 (by decide),
  k_iconst dX4_laysPairs_66,
  k_goto (t := 76) dX4_laysPairs_67 (by decide),
  k_aload_n dX4_laysPairs_70,
  k_iload_n dX4_laysPairs_71,
  k_iload_n dX4_laysPairs_72,
  k_callV (y2 := yX4_firstOf) (C := RX4) (T0 := TX4) (ci := 2) dX4_laysPairs_73 sndX4_firstOf rfl q2151 q2153 qs106 q137 q2154 (by decide +kernel) ⟨by decide, by decide⟩ (by decide) (by decide),
  k_istore dX4_laysPairs_76,
  k_iload dX4_laysPairs_78,
  k_iconst dX4_laysPairs_80,
  k_cmpne (t := 87) dX4_laysPairs_81 (by decide),
  k_goto (t := 188) dX4_laysPairs_84 (by decide),
  k_aload_n dX4_laysPairs_87,
  k_dup dX4_laysPairs_88,
  k_getI (C := RX4) (T := TX4) (N := 42) (ci := 2) (k := 40) (ref := "LinkTimesModel") dX4_laysPairs_89 rfl in_X4 (by decide) q1839 (Or.inl rfl) (fun _ _ _ => rfl),
  k_iconst dX4_laysPairs_92,
  k_iadd dX4_laysPairs_93,
  k_putI (C := RX4) (T := TX4) (N := 42) (ci := 2) (k := 40) (ref := "LinkTimesModel") dX4_laysPairs_94 rfl in_X4 tyX4 tyX4_ok nmX4 (by decide) (Or.inl q1839) (Or.inl rfl) (Or.inl rfl) (tyX4_ok 40 (by decide)) (fun _ _ _ => rfl),
  k_aload_n dX4_laysPairs_97,
  k_aload_n dX4_laysPairs_98,
  k_getR (C := RX4) (T := TX4) (N := 42) (ci := 2) (k := 23) (ref := "LinkTimesModel") dX4_laysPairs_99 rfl in_X4 (by decide) q1822 (Or.inl rfl) (fun _ _ _ => rfl),
  k_iload dX4_laysPairs_102,
  k_iald dX4_laysPairs_104,
  k_iload_n dX4_laysPairs_105,
  k_isub dX4_laysPairs_106,
  k_aload_n dX4_laysPairs_107,
  k_getI (C := RX4) (T := TX4) (N := 42) (ci := 2) (k := 41) (ref := "LinkTimesModel") dX4_laysPairs_108 rfl in_X4 (by decide) q1840 (Or.inl rfl) (fun _ _ _ => rfl),
  k_cmple (t := 126) dX4_laysPairs_111 (by decide),
  k_aload_n dX4_laysPairs_114,
  k_getR (C := RX4) (T := TX4) (N := 42) (ci := 2) (k := 23) (ref := "LinkTimesModel") dX4_laysPairs_115 rfl in_X4 (by decide) q1822 (Or.inl rfl) (fun _ _ _ => rfl),
  k_iload dX4_laysPairs_118,
  k_iald dX4_laysPairs_120,
  k_iload_n dX4_laysPairs_121,
  k_isub dX4_laysPairs_122,
  k_goto (t := 130) dX4_laysPairs_123 (by decide),
  k_aload_n dX4_laysPairs_126,
  k_getI (C := RX4) (T := TX4) (N := 42) (ci := 2) (k := 41) (ref := "LinkTimesModel") dX4_laysPairs_127 rfl in_X4 (by decide) q1840 (Or.inl rfl) (fun _ _ _ => rfl),
  k_putI (C := RX4) (T := TX4) (N := 42) (ci := 2) (k := 41) (ref := "LinkTimesModel") dX4_laysPairs_130 rfl in_X4 tyX4 tyX4_ok nmX4 (by decide) (Or.inl q1840) (Or.inl rfl) (Or.inl rfl) (tyX4_ok 41 (by decide)) (fun _ _ _ => rfl),
  k_aload_n dX4_laysPairs_133,
  k_getR (C := RX4) (T := TX4) (N := 42) (ci := 2) (k := 26) (ref := "LinkTimesModel") dX4_laysPairs_134 rfl in_X4 (by decide) q1825 (Or.inl rfl) (fun _ _ _ => rfl),
  k_iload dX4_laysPairs_137,
  k_iald dX4_laysPairs_139,
  k_iconst dX4_laysPairs_140,
  k_cmpeq (t := 188) dX4_laysPairs_141 (by decide),
  k_aload_n dX4_laysPairs_144,
  k_getR (C := RX4) (T := TX4) (N := 42) (ci := 2) (k := 39) (ref := "LinkTimesModel") dX4_laysPairs_145 rfl in_X4 (by decide) q1838 (Or.inl rfl) (fun _ _ _ => rfl),
  k_aload_n dX4_laysPairs_148,
  k_getR (C := RX4) (T := TX4) (N := 42) (ci := 2) (k := 6) (ref := "LinkTimesModel") dX4_laysPairs_149 rfl in_X4 (by decide) q1805 (Or.inl rfl) (fun _ _ _ => rfl),
  k_iload dX4_laysPairs_152,
  k_iconst dX4_laysPairs_154,
  k_callS (y2 := yX4_at) dX4_laysPairs_155 sndX4_at q2047 q2048 q137 q2049 (by decide +kernel) ⟨by decide, by decide⟩ (by decide) (by decide),
  k_iald dX4_laysPairs_158,
  k_dup2 dX4_laysPairs_159,
  k_iald dX4_laysPairs_160,
  k_aload_n dX4_laysPairs_161,
  k_iload dX4_laysPairs_162,
  k_aload_n dX4_laysPairs_164,
  k_getR (C := RX4) (T := TX4) (N := 42) (ci := 2) (k := 26) (ref := "LinkTimesModel") dX4_laysPairs_165 rfl in_X4 (by decide) q1825 (Or.inl rfl) (fun _ _ _ => rfl),
  k_iload dX4_laysPairs_168,
  k_iald dX4_laysPairs_170,
  k_callV (y2 := yX4_turns) (C := RX4) (T0 := TX4) (ci := 2) dX4_laysPairs_171 sndX4_turns rfl q2143 q2145 qs104 q137 q2146 (by decide +kernel) ⟨by decide, by decide⟩ (by decide) (by decide),
  k_iadd dX4_laysPairs_174,
  k_iast dX4_laysPairs_175,
  k_aload_n dX4_laysPairs_176,
  k_getR (C := RX4) (T := TX4) (N := 42) (ci := 2) (k := 26) (ref := "LinkTimesModel") dX4_laysPairs_177 rfl in_X4 (by decide) q1825 (Or.inl rfl) (fun _ _ _ => rfl),
  k_iload dX4_laysPairs_180,
  k_iald dX4_laysPairs_182,
  k_istore dX4_laysPairs_183,
  k_goto (t := 133) dX4_laysPairs_185 (by decide),
  k_iinc dX4_laysPairs_188,
  k_goto (t := 51) dX4_laysPairs_191 (by decide),
  k_iinc dX4_laysPairs_194,
  k_goto (t := 34) dX4_laysPairs_197 (by decide),
  k_ret dX4_laysPairs_200, trivial⟩
theorem sndX4_laysPairs : MSound 7 yX4_laysPairs (ws_ yX4_laysPairs cX4_laysPairs 5 none) mX4_laysPairs := msound_M (by decide) allX4_laysPairs (fun _ _ => rfl)
/-! LinkTimesModel.isAsked(I)Z -/
noncomputable def kX4_isAsked : ZM := ([(0, zi_ld 1 0 1), (1, zi_ld 1 0 2), (2, zi_getI 18 11 5), (5, zi_ld 0 1 6), (6, zi_push (zvi 0) 7), (7, zi_push (zvi 1999) 10), (10, zi_callS mX4_in 3 13), (13, zi_callS mX4_unless_2 2 16), (16, zi_callV mX4_isRefused 18 2 19), (19, zi_if (fun a => zc_eq a 0) 24 22), (22, zi_push (zvi 0) 23), (23, zi_retz), (24, zi_ld 1 0 25), (25, zi_ld 0 1 26), (26, zi_callV mX4_laysPairs 18 2 29), (29, zi_push (zvi 1) 30), (30, zi_retz)], fun _ _ => none)
noncomputable def mX4_isAsked : ZF := zrunM kX4_isAsked 2
theorem enX4_isAsked (x0 : Option Nat) (x1 : Int) (h : PH) : mX4_isAsked [zvr x0, zvi x1] h = zev kX4_isAsked 0 [zvr x0, zvi x1] [] h := zrunM_eq rfl rfl
theorem rX4_isAsked : (∀ (a : Option Nat) (L st : List ZV) (h : PH), zev kX4_isAsked 0 (zvr a :: L) st h = zev kX4_isAsked 1 (zvr a :: L) (zvr a :: st) h) ∧
  (∀ (a : Option Nat) (L st : List ZV) (h : PH), zev kX4_isAsked 1 (zvr a :: L) st h = zev kX4_isAsked 2 (zvr a :: L) (zvr a :: st) h) ∧
  (∀ (q : Nat) (L st : List ZV) (h : PH), zev kX4_isAsked 2 L (zvr (some q) :: st) h = if (ph_K h q).1 % 1000 = 18 then zev kX4_isAsked 5 L (zvi (ph_I h q 11) :: st) h else none) ∧
  (∀ (x0 : ZV) (a : Int) (L st : List ZV) (h : PH), zev kX4_isAsked 5 (x0 :: zvi a :: L) st h = zev kX4_isAsked 6 (x0 :: zvi a :: L) (zvi a :: st) h) ∧
  (∀ (L st : List ZV) (h : PH), zev kX4_isAsked 6 L st h = zev kX4_isAsked 7 L (zvi 0 :: st) h) ∧
  (∀ (L st : List ZV) (h : PH), zev kX4_isAsked 7 L st h = zev kX4_isAsked 10 L (zvi 1999 :: st) h) ∧
  (∀ (v0 v1 v2 : ZV) (L st : List ZV) (h : PH), zev kX4_isAsked 10 L (v2 :: v1 :: v0 :: st) h = if zcat st ≤ 8 then zk kX4_isAsked 10 13 L st (mX4_in [v0, v1, v2] h) else none) ∧
  (∀ (v0 v1 : ZV) (L st : List ZV) (h : PH), zev kX4_isAsked 13 L (v1 :: v0 :: st) h = if zcat st ≤ 8 then zk kX4_isAsked 13 16 L st (mX4_unless_2 [v0, v1] h) else none) ∧
  (∀ (v0 : ZV) (q : Nat) (L st : List ZV) (h : PH), zev kX4_isAsked 16 L (v0 :: zvr (some q) :: st) h = if (ph_K h q).1 % 1000 = 18 ∧ zcat st ≤ 8 then zk kX4_isAsked 16 19 L st (mX4_isRefused [zvr (some q), v0] h) else none) ∧
  (∀ (a : Int) (L st : List ZV) (h : PH), zev kX4_isAsked 19 L (zvi a :: st) h = if a = 0 then zev kX4_isAsked 24 L st h else zev kX4_isAsked 22 L st h) ∧
  (∀ (L st : List ZV) (h : PH), zev kX4_isAsked 22 L st h = zev kX4_isAsked 23 L (zvi 0 :: st) h) ∧
  (∀ (a : Int) (L : List ZV) (h : PH), zev kX4_isAsked 23 L [zvi a] h = if a = 0 ∨ a = 1 then zrv (zvi a) h else none) ∧
  (∀ (a : Option Nat) (L st : List ZV) (h : PH), zev kX4_isAsked 24 (zvr a :: L) st h = zev kX4_isAsked 25 (zvr a :: L) (zvr a :: st) h) ∧
  (∀ (x0 : ZV) (a : Int) (L st : List ZV) (h : PH), zev kX4_isAsked 25 (x0 :: zvi a :: L) st h = zev kX4_isAsked 26 (x0 :: zvi a :: L) (zvi a :: st) h) ∧
  (∀ (v0 : ZV) (q : Nat) (L st : List ZV) (h : PH), zev kX4_isAsked 26 L (v0 :: zvr (some q) :: st) h = if (ph_K h q).1 % 1000 = 18 ∧ zcat st ≤ 8 then zk kX4_isAsked 26 29 L st (mX4_laysPairs [zvr (some q), v0] h) else none) ∧
  (∀ (L st : List ZV) (h : PH), zev kX4_isAsked 29 L st h = zev kX4_isAsked 30 L (zvi 1 :: st) h) ∧
  (∀ (a : Int) (L : List ZV) (h : PH), zev kX4_isAsked 30 L [zvi a] h = if a = 0 ∨ a = 1 then zrv (zvi a) h else none) :=
  ⟨fun a L st h => e_ld0R (n := 1) rfl,
  fun a L st h => e_ld0R (n := 2) rfl,
  fun q L st h => e_getI (kd := 18) (k := 11) (n := 5) rfl,
  fun x0 a L st h => e_ld1I (n := 6) rfl,
  fun L st h => e_push (v := zvi 0) (n := 7) rfl,
  fun L st h => e_push (v := zvi 1999) (n := 10) rfl,
  fun v0 v1 v2 L st h => e_callS3 (F := mX4_in) (n := 13) rfl,
  fun v0 v1 L st h => e_callS2 (F := mX4_unless_2) (n := 16) rfl,
  fun v0 q L st h => e_callV2 (F := mX4_isRefused) (kd := 18) (n := 19) rfl,
  fun a L st h => e_ifeq (t := 24) (n := 22) rfl,
  fun L st h => e_push (v := zvi 0) (n := 23) rfl,
  fun a L h => e_retz rfl,
  fun a L st h => e_ld0R (n := 25) rfl,
  fun x0 a L st h => e_ld1I (n := 26) rfl,
  fun v0 q L st h => e_callV2 (F := mX4_laysPairs) (kd := 18) (n := 29) rfl,
  fun L st h => e_push (v := zvi 1) (n := 30) rfl,
  fun a L h => e_retz rfl⟩
theorem allX4_isAsked : zall yX4_isAsked cX4_isAsked 2 (some .boolean) 8 kX4_isAsked.1 :=
  ⟨k_aload_n dX4_isAsked_0,
  k_aload_n dX4_isAsked_1,
  k_getI (C := RX4) (T := TX4) (N := 42) (ci := 2) (k := 11) (ref := "LinkTimesModel") dX4_isAsked_2 rfl in_X4 (by decide) q1810 (Or.inl rfl) (fun _ _ _ => rfl),
  k_iload_n dX4_isAsked_5,
  k_iconst dX4_isAsked_6,
  k_sipush dX4_isAsked_7,
  k_callS (y2 := yX4_in) dX4_isAsked_10 sndX4_in q1943 q1944 q137 q1945 (by decide +kernel) ⟨by decide, by decide⟩ (by decide) (by decide),
  k_callS (y2 := yX4_unless_2) dX4_isAsked_13 sndX4_unless_2 q2120 q2121 q137 q2122 (by decide +kernel) ⟨by decide, by decide⟩ (by decide) (by decide),
  k_callV (y2 := yX4_isRefused) (C := RX4) (T0 := TX4) (ci := 2) dX4_isAsked_16 sndX4_isRefused rfl q1946 q1948 qs70 q137 q1949 (by decide +kernel) ⟨by decide, by decide⟩ (by decide) (by decide),
  k_ifeq (t := 24) dX4_isAsked_19 (by decide),
  k_iconst dX4_isAsked_22,
  k_zret dX4_isAsked_23,
  k_aload_n dX4_isAsked_24,
  k_iload_n dX4_isAsked_25,
  k_callV (y2 := yX4_laysPairs) (C := RX4) (T0 := TX4) (ci := 2) dX4_isAsked_26 sndX4_laysPairs rfl q2267 q2269 qs119 q137 q2270 (by decide +kernel) ⟨by decide, by decide⟩ (by decide) (by decide),
  k_iconst dX4_isAsked_29,
  k_zret dX4_isAsked_30, trivial⟩
theorem sndX4_isAsked : MSound 8 yX4_isAsked (ws_ yX4_isAsked cX4_isAsked 2 (some .boolean)) mX4_isAsked := msound_M (by decide) allX4_isAsked (fun _ _ => rfl)
