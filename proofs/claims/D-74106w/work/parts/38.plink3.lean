/-! Z program: LinkTimes (written by gen/gen_prog.py) -/
set_option maxRecDepth 100000
/-! LinkTimes.step(IIII)I -/
noncomputable def kX1_step : ZM := ([(0, zi_ld 1 0 1), (1, zi_ld 0 1 2), (2, zi_ld 0 2 3), (3, zi_callV mX1_areTwo 16 3 6), (6, zi_if (fun a => zc_ne a 0) 15 9), (9, zi_ld 1 0 10), (10, zi_push (zvi 1) 11), (11, zi_callV mX1_refused 16 2 14), (14, zi_retv 0), (15, zi_ld 1 0 16), (16, zi_ld 0 1 17), (17, zi_ld 0 2 18), (18, zi_callV mX1_laysSteps 16 3 21), (21, zi_ld 0 3 22), (22, zi_push (zvi 0) 23), (23, zi_ld 1 0 24), (24, zi_getI 16 13 27), (27, zi_push (zvi 1) 28), (28, zi_bin (fun a b => w32 (a - b)) 29), (29, zi_callS mX1_isIn 3 32), (32, zi_if (fun a => zc_ne a 0) 41 35), (35, zi_ld 1 0 36), (36, zi_push (zvi 1) 37), (37, zi_callV mX1_refused 16 2 40), (40, zi_retv 0), (41, zi_ld 1 0 42), (42, zi_getI 16 13 45), (45, zi_push (zvi 1) 46), (46, zi_bin (fun a b => w32 (a - b)) 47), (47, zi_ld 0 3 48), (48, zi_bin (fun a b => w32 (a - b)) 49), (49, zi_st 0 5 51), (51, zi_ld 0 4 53), (53, zi_sw 0 2 [80, 92, 104] 129), (80, zi_ld 1 0 81), (81, zi_ld 1 0 82), (82, zi_getR 16 11 85), (85, zi_ld 0 5 87), (87, zi_ald 1 88), (88, zi_callV mX1_fine 16 2 91), (91, zi_retv 0), (92, zi_ld 1 0 93), (93, zi_ld 1 0 94), (94, zi_getR 16 12 97), (97, zi_ld 0 5 99), (99, zi_ald 1 100), (100, zi_callV mX1_fine 16 2 103), (103, zi_retv 0), (104, zi_ld 1 0 105), (105, zi_ld 1 0 106), (106, zi_ld 0 1 107), (107, zi_ld 0 2 108), (108, zi_ld 1 0 109), (109, zi_getR 16 11 112), (112, zi_ld 0 5 114), (114, zi_ald 1 115), (115, zi_ld 1 0 116), (116, zi_getR 16 12 119), (119, zi_ld 0 5 121), (121, zi_ald 1 122), (122, zi_callV mX1_changesOf 16 5 125), (125, zi_callV mX1_fine 16 2 128), (128, zi_retv 0), (129, zi_ld 1 0 130), (130, zi_push (zvi 1) 131), (131, zi_callV mX1_refused 16 2 134), (134, zi_retv 0)], fun _ _ => none)
noncomputable def mX1_step : ZF := zrunM kX1_step 6
theorem enX1_step (x0 : Option Nat) (x1 : Int) (x2 : Int) (x3 : Int) (x4 : Int) (h : PH) : mX1_step [zvr x0, zvi x1, zvi x2, zvi x3, zvi x4] h = zev kX1_step 0 [zvr x0, zvi x1, zvi x2, zvi x3, zvi x4, zvu] [] h := zrunM_eq rfl rfl
theorem rX1_step : (∀ (a : Option Nat) (L st : List ZV) (h : PH), zev kX1_step 0 (zvr a :: L) st h = zev kX1_step 1 (zvr a :: L) (zvr a :: st) h) ∧
  (∀ (x0 : ZV) (a : Int) (L st : List ZV) (h : PH), zev kX1_step 1 (x0 :: zvi a :: L) st h = zev kX1_step 2 (x0 :: zvi a :: L) (zvi a :: st) h) ∧
  (∀ (x0 x1 : ZV) (a : Int) (L st : List ZV) (h : PH), zev kX1_step 2 (x0 :: x1 :: zvi a :: L) st h = zev kX1_step 3 (x0 :: x1 :: zvi a :: L) (zvi a :: st) h) ∧
  (∀ (v0 v1 : ZV) (q : Nat) (L st : List ZV) (h : PH), zev kX1_step 3 L (v1 :: v0 :: zvr (some q) :: st) h = if (ph_K h q).1 % 1000 = 16 ∧ zcat st ≤ 8 then zk kX1_step 3 6 L st (mX1_areTwo [zvr (some q), v0, v1] h) else none) ∧
  (∀ (a : Int) (L st : List ZV) (h : PH), zev kX1_step 6 L (zvi a :: st) h = if a ≠ 0 then zev kX1_step 15 L st h else zev kX1_step 9 L st h) ∧
  (∀ (a : Option Nat) (L st : List ZV) (h : PH), zev kX1_step 9 (zvr a :: L) st h = zev kX1_step 10 (zvr a :: L) (zvr a :: st) h) ∧
  (∀ (L st : List ZV) (h : PH), zev kX1_step 10 L st h = zev kX1_step 11 L (zvi 1 :: st) h) ∧
  (∀ (v0 : ZV) (q : Nat) (L st : List ZV) (h : PH), zev kX1_step 11 L (v0 :: zvr (some q) :: st) h = if (ph_K h q).1 % 1000 = 16 ∧ zcat st ≤ 8 then zk kX1_step 11 14 L st (mX1_refused [zvr (some q), v0] h) else none) ∧
  (∀ (a : Int) (L : List ZV) (h : PH), zev kX1_step 14 L [zvi a] h = zrv (zvi a) h) ∧
  (∀ (a : Option Nat) (L st : List ZV) (h : PH), zev kX1_step 15 (zvr a :: L) st h = zev kX1_step 16 (zvr a :: L) (zvr a :: st) h) ∧
  (∀ (x0 : ZV) (a : Int) (L st : List ZV) (h : PH), zev kX1_step 16 (x0 :: zvi a :: L) st h = zev kX1_step 17 (x0 :: zvi a :: L) (zvi a :: st) h) ∧
  (∀ (x0 x1 : ZV) (a : Int) (L st : List ZV) (h : PH), zev kX1_step 17 (x0 :: x1 :: zvi a :: L) st h = zev kX1_step 18 (x0 :: x1 :: zvi a :: L) (zvi a :: st) h) ∧
  (∀ (v0 v1 : ZV) (q : Nat) (L st : List ZV) (h : PH), zev kX1_step 18 L (v1 :: v0 :: zvr (some q) :: st) h = if (ph_K h q).1 % 1000 = 16 ∧ zcat st ≤ 8 then zk kX1_step 18 21 L st (mX1_laysSteps [zvr (some q), v0, v1] h) else none) ∧
  (∀ (x0 x1 x2 : ZV) (a : Int) (L st : List ZV) (h : PH), zev kX1_step 21 (x0 :: x1 :: x2 :: zvi a :: L) st h = zev kX1_step 22 (x0 :: x1 :: x2 :: zvi a :: L) (zvi a :: st) h) ∧
  (∀ (L st : List ZV) (h : PH), zev kX1_step 22 L st h = zev kX1_step 23 L (zvi 0 :: st) h) ∧
  (∀ (a : Option Nat) (L st : List ZV) (h : PH), zev kX1_step 23 (zvr a :: L) st h = zev kX1_step 24 (zvr a :: L) (zvr a :: st) h) ∧
  (∀ (q : Nat) (L st : List ZV) (h : PH), zev kX1_step 24 L (zvr (some q) :: st) h = if (ph_K h q).1 % 1000 = 16 then zev kX1_step 27 L (zvi (ph_I h q 13) :: st) h else none) ∧
  (∀ (L st : List ZV) (h : PH), zev kX1_step 27 L st h = zev kX1_step 28 L (zvi 1 :: st) h) ∧
  (∀ (a b : Int) (L st : List ZV) (h : PH), zev kX1_step 28 L (zvi b :: zvi a :: st) h = zev kX1_step 29 L (zvi (w32 (a - b)) :: st) h) ∧
  (∀ (v0 v1 v2 : ZV) (L st : List ZV) (h : PH), zev kX1_step 29 L (v2 :: v1 :: v0 :: st) h = if zcat st ≤ 8 then zk kX1_step 29 32 L st (mX1_isIn [v0, v1, v2] h) else none) ∧
  (∀ (a : Int) (L st : List ZV) (h : PH), zev kX1_step 32 L (zvi a :: st) h = if a ≠ 0 then zev kX1_step 41 L st h else zev kX1_step 35 L st h) ∧
  (∀ (a : Option Nat) (L st : List ZV) (h : PH), zev kX1_step 35 (zvr a :: L) st h = zev kX1_step 36 (zvr a :: L) (zvr a :: st) h) ∧
  (∀ (L st : List ZV) (h : PH), zev kX1_step 36 L st h = zev kX1_step 37 L (zvi 1 :: st) h) ∧
  (∀ (v0 : ZV) (q : Nat) (L st : List ZV) (h : PH), zev kX1_step 37 L (v0 :: zvr (some q) :: st) h = if (ph_K h q).1 % 1000 = 16 ∧ zcat st ≤ 8 then zk kX1_step 37 40 L st (mX1_refused [zvr (some q), v0] h) else none) ∧
  (∀ (a : Int) (L : List ZV) (h : PH), zev kX1_step 40 L [zvi a] h = zrv (zvi a) h) ∧
  (∀ (a : Option Nat) (L st : List ZV) (h : PH), zev kX1_step 41 (zvr a :: L) st h = zev kX1_step 42 (zvr a :: L) (zvr a :: st) h) ∧
  (∀ (q : Nat) (L st : List ZV) (h : PH), zev kX1_step 42 L (zvr (some q) :: st) h = if (ph_K h q).1 % 1000 = 16 then zev kX1_step 45 L (zvi (ph_I h q 13) :: st) h else none) ∧
  (∀ (L st : List ZV) (h : PH), zev kX1_step 45 L st h = zev kX1_step 46 L (zvi 1 :: st) h) ∧
  (∀ (a b : Int) (L st : List ZV) (h : PH), zev kX1_step 46 L (zvi b :: zvi a :: st) h = zev kX1_step 47 L (zvi (w32 (a - b)) :: st) h) ∧
  (∀ (x0 x1 x2 : ZV) (a : Int) (L st : List ZV) (h : PH), zev kX1_step 47 (x0 :: x1 :: x2 :: zvi a :: L) st h = zev kX1_step 48 (x0 :: x1 :: x2 :: zvi a :: L) (zvi a :: st) h) ∧
  (∀ (a b : Int) (L st : List ZV) (h : PH), zev kX1_step 48 L (zvi b :: zvi a :: st) h = zev kX1_step 49 L (zvi (w32 (a - b)) :: st) h) ∧
  (∀ (x0 x1 x2 x3 x4 x5 : ZV) (a : Int) (L st : List ZV) (h : PH) (hx : zisL x4 = false) , zev kX1_step 49 (x0 :: x1 :: x2 :: x3 :: x4 :: x5 :: L) (zvi a :: st) h = zev kX1_step 51 (x0 :: x1 :: x2 :: x3 :: x4 :: zvi a :: L) st h) ∧
  (∀ (x0 x1 x2 x3 : ZV) (a : Int) (L st : List ZV) (h : PH), zev kX1_step 51 (x0 :: x1 :: x2 :: x3 :: zvi a :: L) st h = zev kX1_step 53 (x0 :: x1 :: x2 :: x3 :: zvi a :: L) (zvi a :: st) h) ∧
  (∀ (a : Int) (L st : List ZV) (h : PH), zev kX1_step 53 L (zvi a :: st) h = zev kX1_step (zswt 0 2 [80, 92, 104] 129 a) L st h) ∧
  (∀ (a : Option Nat) (L st : List ZV) (h : PH), zev kX1_step 80 (zvr a :: L) st h = zev kX1_step 81 (zvr a :: L) (zvr a :: st) h) ∧
  (∀ (a : Option Nat) (L st : List ZV) (h : PH), zev kX1_step 81 (zvr a :: L) st h = zev kX1_step 82 (zvr a :: L) (zvr a :: st) h) ∧
  (∀ (q : Nat) (L st : List ZV) (h : PH), zev kX1_step 82 L (zvr (some q) :: st) h = if (ph_K h q).1 % 1000 = 16 then zev kX1_step 85 L (zvr (ph_R h q 11) :: st) h else none) ∧
  (∀ (x0 x1 x2 x3 x4 : ZV) (a : Int) (L st : List ZV) (h : PH), zev kX1_step 85 (x0 :: x1 :: x2 :: x3 :: x4 :: zvi a :: L) st h = zev kX1_step 87 (x0 :: x1 :: x2 :: x3 :: x4 :: zvi a :: L) (zvi a :: st) h) ∧
  (∀ (j : Int) (q : Nat) (L st : List ZV) (h : PH), zev kX1_step 87 L (zvi j :: zvr (some q) :: st) h = if (ph_K h q).1 % 1000 = 1 ∧ 0 ≤ j ∧ j < (ph_K h q).2 then zev kX1_step 88 L (zvi (ph_I h q j) :: st) h else none) ∧
  (∀ (v0 : ZV) (q : Nat) (L st : List ZV) (h : PH), zev kX1_step 88 L (v0 :: zvr (some q) :: st) h = if (ph_K h q).1 % 1000 = 16 ∧ zcat st ≤ 8 then zk kX1_step 88 91 L st (mX1_fine [zvr (some q), v0] h) else none) ∧
  (∀ (a : Int) (L : List ZV) (h : PH), zev kX1_step 91 L [zvi a] h = zrv (zvi a) h) ∧
  (∀ (a : Option Nat) (L st : List ZV) (h : PH), zev kX1_step 92 (zvr a :: L) st h = zev kX1_step 93 (zvr a :: L) (zvr a :: st) h) ∧
  (∀ (a : Option Nat) (L st : List ZV) (h : PH), zev kX1_step 93 (zvr a :: L) st h = zev kX1_step 94 (zvr a :: L) (zvr a :: st) h) ∧
  (∀ (q : Nat) (L st : List ZV) (h : PH), zev kX1_step 94 L (zvr (some q) :: st) h = if (ph_K h q).1 % 1000 = 16 then zev kX1_step 97 L (zvr (ph_R h q 12) :: st) h else none) ∧
  (∀ (x0 x1 x2 x3 x4 : ZV) (a : Int) (L st : List ZV) (h : PH), zev kX1_step 97 (x0 :: x1 :: x2 :: x3 :: x4 :: zvi a :: L) st h = zev kX1_step 99 (x0 :: x1 :: x2 :: x3 :: x4 :: zvi a :: L) (zvi a :: st) h) ∧
  (∀ (j : Int) (q : Nat) (L st : List ZV) (h : PH), zev kX1_step 99 L (zvi j :: zvr (some q) :: st) h = if (ph_K h q).1 % 1000 = 1 ∧ 0 ≤ j ∧ j < (ph_K h q).2 then zev kX1_step 100 L (zvi (ph_I h q j) :: st) h else none) ∧
  (∀ (v0 : ZV) (q : Nat) (L st : List ZV) (h : PH), zev kX1_step 100 L (v0 :: zvr (some q) :: st) h = if (ph_K h q).1 % 1000 = 16 ∧ zcat st ≤ 8 then zk kX1_step 100 103 L st (mX1_fine [zvr (some q), v0] h) else none) ∧
  (∀ (a : Int) (L : List ZV) (h : PH), zev kX1_step 103 L [zvi a] h = zrv (zvi a) h) ∧
  (∀ (a : Option Nat) (L st : List ZV) (h : PH), zev kX1_step 104 (zvr a :: L) st h = zev kX1_step 105 (zvr a :: L) (zvr a :: st) h) ∧
  (∀ (a : Option Nat) (L st : List ZV) (h : PH), zev kX1_step 105 (zvr a :: L) st h = zev kX1_step 106 (zvr a :: L) (zvr a :: st) h) ∧
  (∀ (x0 : ZV) (a : Int) (L st : List ZV) (h : PH), zev kX1_step 106 (x0 :: zvi a :: L) st h = zev kX1_step 107 (x0 :: zvi a :: L) (zvi a :: st) h) ∧
  (∀ (x0 x1 : ZV) (a : Int) (L st : List ZV) (h : PH), zev kX1_step 107 (x0 :: x1 :: zvi a :: L) st h = zev kX1_step 108 (x0 :: x1 :: zvi a :: L) (zvi a :: st) h) ∧
  (∀ (a : Option Nat) (L st : List ZV) (h : PH), zev kX1_step 108 (zvr a :: L) st h = zev kX1_step 109 (zvr a :: L) (zvr a :: st) h) ∧
  (∀ (q : Nat) (L st : List ZV) (h : PH), zev kX1_step 109 L (zvr (some q) :: st) h = if (ph_K h q).1 % 1000 = 16 then zev kX1_step 112 L (zvr (ph_R h q 11) :: st) h else none) ∧
  (∀ (x0 x1 x2 x3 x4 : ZV) (a : Int) (L st : List ZV) (h : PH), zev kX1_step 112 (x0 :: x1 :: x2 :: x3 :: x4 :: zvi a :: L) st h = zev kX1_step 114 (x0 :: x1 :: x2 :: x3 :: x4 :: zvi a :: L) (zvi a :: st) h) ∧
  (∀ (j : Int) (q : Nat) (L st : List ZV) (h : PH), zev kX1_step 114 L (zvi j :: zvr (some q) :: st) h = if (ph_K h q).1 % 1000 = 1 ∧ 0 ≤ j ∧ j < (ph_K h q).2 then zev kX1_step 115 L (zvi (ph_I h q j) :: st) h else none) ∧
  (∀ (a : Option Nat) (L st : List ZV) (h : PH), zev kX1_step 115 (zvr a :: L) st h = zev kX1_step 116 (zvr a :: L) (zvr a :: st) h) ∧
  (∀ (q : Nat) (L st : List ZV) (h : PH), zev kX1_step 116 L (zvr (some q) :: st) h = if (ph_K h q).1 % 1000 = 16 then zev kX1_step 119 L (zvr (ph_R h q 12) :: st) h else none) ∧
  (∀ (x0 x1 x2 x3 x4 : ZV) (a : Int) (L st : List ZV) (h : PH), zev kX1_step 119 (x0 :: x1 :: x2 :: x3 :: x4 :: zvi a :: L) st h = zev kX1_step 121 (x0 :: x1 :: x2 :: x3 :: x4 :: zvi a :: L) (zvi a :: st) h) ∧
  (∀ (j : Int) (q : Nat) (L st : List ZV) (h : PH), zev kX1_step 121 L (zvi j :: zvr (some q) :: st) h = if (ph_K h q).1 % 1000 = 1 ∧ 0 ≤ j ∧ j < (ph_K h q).2 then zev kX1_step 122 L (zvi (ph_I h q j) :: st) h else none) ∧
  (∀ (v0 v1 v2 v3 : ZV) (q : Nat) (L st : List ZV) (h : PH), zev kX1_step 122 L (v3 :: v2 :: v1 :: v0 :: zvr (some q) :: st) h = if (ph_K h q).1 % 1000 = 16 ∧ zcat st ≤ 8 then zk kX1_step 122 125 L st (mX1_changesOf [zvr (some q), v0, v1, v2, v3] h) else none) ∧
  (∀ (v0 : ZV) (q : Nat) (L st : List ZV) (h : PH), zev kX1_step 125 L (v0 :: zvr (some q) :: st) h = if (ph_K h q).1 % 1000 = 16 ∧ zcat st ≤ 8 then zk kX1_step 125 128 L st (mX1_fine [zvr (some q), v0] h) else none) ∧
  (∀ (a : Int) (L : List ZV) (h : PH), zev kX1_step 128 L [zvi a] h = zrv (zvi a) h) ∧
  (∀ (a : Option Nat) (L st : List ZV) (h : PH), zev kX1_step 129 (zvr a :: L) st h = zev kX1_step 130 (zvr a :: L) (zvr a :: st) h) ∧
  (∀ (L st : List ZV) (h : PH), zev kX1_step 130 L st h = zev kX1_step 131 L (zvi 1 :: st) h) ∧
  (∀ (v0 : ZV) (q : Nat) (L st : List ZV) (h : PH), zev kX1_step 131 L (v0 :: zvr (some q) :: st) h = if (ph_K h q).1 % 1000 = 16 ∧ zcat st ≤ 8 then zk kX1_step 131 134 L st (mX1_refused [zvr (some q), v0] h) else none) ∧
  (∀ (a : Int) (L : List ZV) (h : PH), zev kX1_step 134 L [zvi a] h = zrv (zvi a) h) :=
  ⟨fun a L st h => e_ld0R (n := 1) rfl,
  fun x0 a L st h => e_ld1I (n := 2) rfl,
  fun x0 x1 a L st h => e_ld2I (n := 3) rfl,
  fun v0 v1 q L st h => e_callV3 (F := mX1_areTwo) (kd := 16) (n := 6) rfl,
  fun a L st h => e_ifne (t := 15) (n := 9) rfl,
  fun a L st h => e_ld0R (n := 10) rfl,
  fun L st h => e_push (v := zvi 1) (n := 11) rfl,
  fun v0 q L st h => e_callV2 (F := mX1_refused) (kd := 16) (n := 14) rfl,
  fun a L h => e_retI rfl,
  fun a L st h => e_ld0R (n := 16) rfl,
  fun x0 a L st h => e_ld1I (n := 17) rfl,
  fun x0 x1 a L st h => e_ld2I (n := 18) rfl,
  fun v0 v1 q L st h => e_callV3 (F := mX1_laysSteps) (kd := 16) (n := 21) rfl,
  fun x0 x1 x2 a L st h => e_ld3I (n := 22) rfl,
  fun L st h => e_push (v := zvi 0) (n := 23) rfl,
  fun a L st h => e_ld0R (n := 24) rfl,
  fun q L st h => e_getI (kd := 16) (k := 13) (n := 27) rfl,
  fun L st h => e_push (v := zvi 1) (n := 28) rfl,
  fun a b L st h => e_bin (f := (fun a b => w32 (a - b))) (n := 29) rfl,
  fun v0 v1 v2 L st h => e_callS3 (F := mX1_isIn) (n := 32) rfl,
  fun a L st h => e_ifne (t := 41) (n := 35) rfl,
  fun a L st h => e_ld0R (n := 36) rfl,
  fun L st h => e_push (v := zvi 1) (n := 37) rfl,
  fun v0 q L st h => e_callV2 (F := mX1_refused) (kd := 16) (n := 40) rfl,
  fun a L h => e_retI rfl,
  fun a L st h => e_ld0R (n := 42) rfl,
  fun q L st h => e_getI (kd := 16) (k := 13) (n := 45) rfl,
  fun L st h => e_push (v := zvi 1) (n := 46) rfl,
  fun a b L st h => e_bin (f := (fun a b => w32 (a - b))) (n := 47) rfl,
  fun x0 x1 x2 a L st h => e_ld3I (n := 48) rfl,
  fun a b L st h => e_bin (f := (fun a b => w32 (a - b))) (n := 49) rfl,
  fun x0 x1 x2 x3 x4 x5 a L st h hx => e_st5I (n := 51) rfl hx,
  fun x0 x1 x2 x3 a L st h => e_ld4I (n := 53) rfl,
  fun a L st h => e_sw (lo := 0) (hi := 2) (ts := [80, 92, 104]) (d := 129) rfl,
  fun a L st h => e_ld0R (n := 81) rfl,
  fun a L st h => e_ld0R (n := 82) rfl,
  fun q L st h => e_getR (kd := 16) (k := 11) (n := 85) rfl,
  fun x0 x1 x2 x3 x4 a L st h => e_ld5I (n := 87) rfl,
  fun j q L st h => e_ald (kd := 1) (n := 88) rfl,
  fun v0 q L st h => e_callV2 (F := mX1_fine) (kd := 16) (n := 91) rfl,
  fun a L h => e_retI rfl,
  fun a L st h => e_ld0R (n := 93) rfl,
  fun a L st h => e_ld0R (n := 94) rfl,
  fun q L st h => e_getR (kd := 16) (k := 12) (n := 97) rfl,
  fun x0 x1 x2 x3 x4 a L st h => e_ld5I (n := 99) rfl,
  fun j q L st h => e_ald (kd := 1) (n := 100) rfl,
  fun v0 q L st h => e_callV2 (F := mX1_fine) (kd := 16) (n := 103) rfl,
  fun a L h => e_retI rfl,
  fun a L st h => e_ld0R (n := 105) rfl,
  fun a L st h => e_ld0R (n := 106) rfl,
  fun x0 a L st h => e_ld1I (n := 107) rfl,
  fun x0 x1 a L st h => e_ld2I (n := 108) rfl,
  fun a L st h => e_ld0R (n := 109) rfl,
  fun q L st h => e_getR (kd := 16) (k := 11) (n := 112) rfl,
  fun x0 x1 x2 x3 x4 a L st h => e_ld5I (n := 114) rfl,
  fun j q L st h => e_ald (kd := 1) (n := 115) rfl,
  fun a L st h => e_ld0R (n := 116) rfl,
  fun q L st h => e_getR (kd := 16) (k := 12) (n := 119) rfl,
  fun x0 x1 x2 x3 x4 a L st h => e_ld5I (n := 121) rfl,
  fun j q L st h => e_ald (kd := 1) (n := 122) rfl,
  fun v0 v1 v2 v3 q L st h => e_callV5 (F := mX1_changesOf) (kd := 16) (n := 125) rfl,
  fun v0 q L st h => e_callV2 (F := mX1_fine) (kd := 16) (n := 128) rfl,
  fun a L h => e_retI rfl,
  fun a L st h => e_ld0R (n := 130) rfl,
  fun L st h => e_push (v := zvi 1) (n := 131) rfl,
  fun v0 q L st h => e_callV2 (F := mX1_refused) (kd := 16) (n := 134) rfl,
  fun a L h => e_retI rfl⟩
theorem allX1_step : zall yX1_step cX1_step 6 (some .int) 7 kX1_step.1 :=
  ⟨k_aload_n dX1_step_0,
  k_iload_n dX1_step_1,
  k_iload_n dX1_step_2,
  k_callV (y2 := yX1_areTwo) (C := RX1) (T0 := TX1) (ci := 0) dX1_step_3 sndX1_areTwo rfl q1474 q1476 qs47 q128 q1477 (by decide +kernel) ⟨by decide, by decide⟩ (by decide) (by decide),
  k_ifne (t := 15) dX1_step_6 (by decide),
  k_aload_n dX1_step_9,
  k_iconst dX1_step_10,
  k_callV (y2 := yX1_refused) (C := RX1) (T0 := TX1) (ci := 0) dX1_step_11 sndX1_refused rfl q378 q380 qs1 q128 q381 (by decide +kernel) ⟨by decide, by decide⟩ (by decide) (by decide),
  k_iret dX1_step_14,
  k_aload_n dX1_step_15,
  k_iload_n dX1_step_16,
  k_iload_n dX1_step_17,
  k_callV (y2 := yX1_laysSteps) (C := RX1) (T0 := TX1) (ci := 0) dX1_step_18 sndX1_laysSteps rfl q1478 q1480 qs48 q128 q1481 (by decide +kernel) ⟨by decide, by decide⟩ (by decide) (by decide),
  k_iload_n dX1_step_21,
  k_iconst dX1_step_22,
  k_aload_n dX1_step_23,
  k_getI (C := RX1) (T := TX1) (N := 19) (ci := 0) (k := 13) (ref := "LinkTimes") dX1_step_24 rfl in_X1 (by decide) q316 (Or.inl rfl) (fun _ _ _ => rfl),
  k_iconst dX1_step_27,
  k_isub dX1_step_28,
  k_callS (y2 := yX1_isIn) dX1_step_29 sndX1_isIn q375 q376 q128 q377 (by decide +kernel) ⟨by decide, by decide⟩ (by decide) (by decide),
  k_ifne (t := 41) dX1_step_32 (by decide),
  k_aload_n dX1_step_35,
  k_iconst dX1_step_36,
  k_callV (y2 := yX1_refused) (C := RX1) (T0 := TX1) (ci := 0) dX1_step_37 sndX1_refused rfl q378 q380 qs1 q128 q381 (by decide +kernel) ⟨by decide, by decide⟩ (by decide) (by decide),
  k_iret dX1_step_40,
  k_aload_n dX1_step_41,
  k_getI (C := RX1) (T := TX1) (N := 19) (ci := 0) (k := 13) (ref := "LinkTimes") dX1_step_42 rfl in_X1 (by decide) q316 (Or.inl rfl) (fun _ _ _ => rfl),
  k_iconst dX1_step_45,
  k_isub dX1_step_46,
  k_iload_n dX1_step_47,
  k_isub dX1_step_48,
  k_istore dX1_step_49,
  k_iload dX1_step_51,
  k_sw (ts := [80, 92, 104]) (dt := 129) dX1_step_53 (by decide) (by decide) (by decide),
  k_aload_n dX1_step_80,
  k_aload_n dX1_step_81,
  k_getR (C := RX1) (T := TX1) (N := 19) (ci := 0) (k := 11) (ref := "LinkTimes") dX1_step_82 rfl in_X1 (by decide) q314 (Or.inl rfl) (fun _ _ _ => rfl),
  k_iload dX1_step_85,
  k_iald dX1_step_87,
  k_callV (y2 := yX1_fine) (C := RX1) (T0 := TX1) (ci := 0) dX1_step_88 sndX1_fine rfl q1211 q1213 qs32 q128 q1214 (by decide +kernel) ⟨by decide, by decide⟩ (by decide) (by decide),
  k_iret dX1_step_91,
  k_aload_n dX1_step_92,
  k_aload_n dX1_step_93,
  k_getR (C := RX1) (T := TX1) (N := 19) (ci := 0) (k := 12) (ref := "LinkTimes") dX1_step_94 rfl in_X1 (by decide) q315 (Or.inl rfl) (fun _ _ _ => rfl),
  k_iload dX1_step_97,
  k_iald dX1_step_99,
  k_callV (y2 := yX1_fine) (C := RX1) (T0 := TX1) (ci := 0) dX1_step_100 sndX1_fine rfl q1211 q1213 qs32 q128 q1214 (by decide +kernel) ⟨by decide, by decide⟩ (by decide) (by decide),
  k_iret dX1_step_103,
  k_aload_n dX1_step_104,
  k_aload_n dX1_step_105,
  k_iload_n dX1_step_106,
  k_iload_n dX1_step_107,
  k_aload_n dX1_step_108,
  k_getR (C := RX1) (T := TX1) (N := 19) (ci := 0) (k := 11) (ref := "LinkTimes") dX1_step_109 rfl in_X1 (by decide) q314 (Or.inl rfl) (fun _ _ _ => rfl),
  k_iload dX1_step_112,
  k_iald dX1_step_114,
  k_aload_n dX1_step_115,
  k_getR (C := RX1) (T := TX1) (N := 19) (ci := 0) (k := 12) (ref := "LinkTimes") dX1_step_116 rfl in_X1 (by decide) q315 (Or.inl rfl) (fun _ _ _ => rfl),
  k_iload dX1_step_119,
  k_iald dX1_step_121,
  k_callV (y2 := yX1_changesOf) (C := RX1) (T0 := TX1) (ci := 0) dX1_step_122 sndX1_changesOf rfl q1487 q1489 qs49 q128 q1490 (by decide +kernel) ⟨by decide, by decide⟩ (by decide) (by decide),
  k_callV (y2 := yX1_fine) (C := RX1) (T0 := TX1) (ci := 0) dX1_step_125 sndX1_fine rfl q1211 q1213 qs32 q128 q1214 (by decide +kernel) ⟨by decide, by decide⟩ (by decide) (by decide),
  k_iret dX1_step_128,
  k_aload_n dX1_step_129,
  k_iconst dX1_step_130,
  k_callV (y2 := yX1_refused) (C := RX1) (T0 := TX1) (ci := 0) dX1_step_131 sndX1_refused rfl q378 q380 qs1 q128 q381 (by decide +kernel) ⟨by decide, by decide⟩ (by decide) (by decide),
  k_iret dX1_step_134, trivial⟩
theorem sndX1_step : MSound 7 yX1_step (ws_ yX1_step cX1_step 6 (some .int)) mX1_step := msound_M (by decide) allX1_step (fun _ _ => rfl)
/-! LinkTimes.quickest(II)I -/
noncomputable def kX1_quickest : ZM := ([(0, zi_ld 1 0 1), (1, zi_ld 0 1 2), (2, zi_ld 0 2 3), (3, zi_callV mX1_areTwo 16 3 6), (6, zi_if (fun a => zc_ne a 0) 15 9), (9, zi_ld 1 0 10), (10, zi_push (zvi 1) 11), (11, zi_callV mX1_refused 16 2 14), (14, zi_retv 0), (15, zi_ld 1 0 16), (16, zi_ld 0 1 17), (17, zi_ld 0 2 18), (18, zi_callV mX1_laysSteps 16 3 21), (21, zi_push (zvi 99999) 23), (23, zi_st 0 3 24), (24, zi_push (zvi 0) 25), (25, zi_st 0 4 27), (27, zi_ld 0 4 29), (29, zi_ld 1 0 30), (30, zi_getI 16 13 33), (33, zi_cmp zc_ge 62 36), (36, zi_ld 0 3 37), (37, zi_ld 1 0 38), (38, zi_getR 16 12 41), (41, zi_ld 0 4 43), (43, zi_ald 1 44), (44, zi_ld 1 0 45), (45, zi_getR 16 11 48), (48, zi_ld 0 4 50), (50, zi_ald 1 51), (51, zi_bin (fun a b => w32 (a - b)) 52), (52, zi_mm zmin 55), (55, zi_st 0 3 56), (56, zi_iinc 4 1 59), (59, zi_goto 27), (62, zi_ld 1 0 63), (63, zi_ld 0 3 64), (64, zi_push (zvi 99999) 66), (66, zi_cmp zc_ne 74 69), (69, zi_push (zvi (-2)) 71), (71, zi_goto 75), (74, zi_ld 0 3 75), (75, zi_callV mX1_fine 16 2 78), (78, zi_retv 0)], fun _ _ => none)
noncomputable def mX1_quickest : ZF := zrunM kX1_quickest 5
theorem enX1_quickest (x0 : Option Nat) (x1 : Int) (x2 : Int) (h : PH) : mX1_quickest [zvr x0, zvi x1, zvi x2] h = zev kX1_quickest 0 [zvr x0, zvi x1, zvi x2, zvu, zvu] [] h := zrunM_eq rfl rfl
theorem hdX1_quickest_27 (x0 x1 x2 x3 : ZV) (a : Int) (L st : List ZV) (h : PH) : zev kX1_quickest 27 (x0 :: x1 :: x2 :: x3 :: zvi a :: L) st h = zev kX1_quickest 29 (x0 :: x1 :: x2 :: x3 :: zvi a :: L) (zvi a :: st) h := e_ld4I (n := 29) rfl
theorem rX1_quickest : (∀ (a : Option Nat) (L st : List ZV) (h : PH), zev kX1_quickest 0 (zvr a :: L) st h = zev kX1_quickest 1 (zvr a :: L) (zvr a :: st) h) ∧
  (∀ (x0 : ZV) (a : Int) (L st : List ZV) (h : PH), zev kX1_quickest 1 (x0 :: zvi a :: L) st h = zev kX1_quickest 2 (x0 :: zvi a :: L) (zvi a :: st) h) ∧
  (∀ (x0 x1 : ZV) (a : Int) (L st : List ZV) (h : PH), zev kX1_quickest 2 (x0 :: x1 :: zvi a :: L) st h = zev kX1_quickest 3 (x0 :: x1 :: zvi a :: L) (zvi a :: st) h) ∧
  (∀ (v0 v1 : ZV) (q : Nat) (L st : List ZV) (h : PH), zev kX1_quickest 3 L (v1 :: v0 :: zvr (some q) :: st) h = if (ph_K h q).1 % 1000 = 16 ∧ zcat st ≤ 8 then zk kX1_quickest 3 6 L st (mX1_areTwo [zvr (some q), v0, v1] h) else none) ∧
  (∀ (a : Int) (L st : List ZV) (h : PH), zev kX1_quickest 6 L (zvi a :: st) h = if a ≠ 0 then zev kX1_quickest 15 L st h else zev kX1_quickest 9 L st h) ∧
  (∀ (a : Option Nat) (L st : List ZV) (h : PH), zev kX1_quickest 9 (zvr a :: L) st h = zev kX1_quickest 10 (zvr a :: L) (zvr a :: st) h) ∧
  (∀ (L st : List ZV) (h : PH), zev kX1_quickest 10 L st h = zev kX1_quickest 11 L (zvi 1 :: st) h) ∧
  (∀ (v0 : ZV) (q : Nat) (L st : List ZV) (h : PH), zev kX1_quickest 11 L (v0 :: zvr (some q) :: st) h = if (ph_K h q).1 % 1000 = 16 ∧ zcat st ≤ 8 then zk kX1_quickest 11 14 L st (mX1_refused [zvr (some q), v0] h) else none) ∧
  (∀ (a : Int) (L : List ZV) (h : PH), zev kX1_quickest 14 L [zvi a] h = zrv (zvi a) h) ∧
  (∀ (a : Option Nat) (L st : List ZV) (h : PH), zev kX1_quickest 15 (zvr a :: L) st h = zev kX1_quickest 16 (zvr a :: L) (zvr a :: st) h) ∧
  (∀ (x0 : ZV) (a : Int) (L st : List ZV) (h : PH), zev kX1_quickest 16 (x0 :: zvi a :: L) st h = zev kX1_quickest 17 (x0 :: zvi a :: L) (zvi a :: st) h) ∧
  (∀ (x0 x1 : ZV) (a : Int) (L st : List ZV) (h : PH), zev kX1_quickest 17 (x0 :: x1 :: zvi a :: L) st h = zev kX1_quickest 18 (x0 :: x1 :: zvi a :: L) (zvi a :: st) h) ∧
  (∀ (v0 v1 : ZV) (q : Nat) (L st : List ZV) (h : PH), zev kX1_quickest 18 L (v1 :: v0 :: zvr (some q) :: st) h = if (ph_K h q).1 % 1000 = 16 ∧ zcat st ≤ 8 then zk kX1_quickest 18 21 L st (mX1_laysSteps [zvr (some q), v0, v1] h) else none) ∧
  (∀ (L st : List ZV) (h : PH), zev kX1_quickest 21 L st h = zev kX1_quickest 23 L (zvi 99999 :: st) h) ∧
  (∀ (x0 x1 x2 x3 : ZV) (a : Int) (L st : List ZV) (h : PH) (hx : zisL x2 = false) , zev kX1_quickest 23 (x0 :: x1 :: x2 :: x3 :: L) (zvi a :: st) h = zev kX1_quickest 24 (x0 :: x1 :: x2 :: zvi a :: L) st h) ∧
  (∀ (L st : List ZV) (h : PH), zev kX1_quickest 24 L st h = zev kX1_quickest 25 L (zvi 0 :: st) h) ∧
  (∀ (x0 x1 x2 x3 x4 : ZV) (a : Int) (L st : List ZV) (h : PH) (hx : zisL x3 = false) , zev kX1_quickest 25 (x0 :: x1 :: x2 :: x3 :: x4 :: L) (zvi a :: st) h = zev kX1_quickest 27 (x0 :: x1 :: x2 :: x3 :: zvi a :: L) st h) ∧
  (∀ (a : Option Nat) (L st : List ZV) (h : PH), zev kX1_quickest 29 (zvr a :: L) st h = zev kX1_quickest 30 (zvr a :: L) (zvr a :: st) h) ∧
  (∀ (q : Nat) (L st : List ZV) (h : PH), zev kX1_quickest 30 L (zvr (some q) :: st) h = if (ph_K h q).1 % 1000 = 16 then zev kX1_quickest 33 L (zvi (ph_I h q 13) :: st) h else none) ∧
  (∀ (a b : Int) (L st : List ZV) (h : PH), zev kX1_quickest 33 L (zvi b :: zvi a :: st) h = if a ≥ b then zev kX1_quickest 62 L st h else zev kX1_quickest 36 L st h) ∧
  (∀ (x0 x1 x2 : ZV) (a : Int) (L st : List ZV) (h : PH), zev kX1_quickest 36 (x0 :: x1 :: x2 :: zvi a :: L) st h = zev kX1_quickest 37 (x0 :: x1 :: x2 :: zvi a :: L) (zvi a :: st) h) ∧
  (∀ (a : Option Nat) (L st : List ZV) (h : PH), zev kX1_quickest 37 (zvr a :: L) st h = zev kX1_quickest 38 (zvr a :: L) (zvr a :: st) h) ∧
  (∀ (q : Nat) (L st : List ZV) (h : PH), zev kX1_quickest 38 L (zvr (some q) :: st) h = if (ph_K h q).1 % 1000 = 16 then zev kX1_quickest 41 L (zvr (ph_R h q 12) :: st) h else none) ∧
  (∀ (x0 x1 x2 x3 : ZV) (a : Int) (L st : List ZV) (h : PH), zev kX1_quickest 41 (x0 :: x1 :: x2 :: x3 :: zvi a :: L) st h = zev kX1_quickest 43 (x0 :: x1 :: x2 :: x3 :: zvi a :: L) (zvi a :: st) h) ∧
  (∀ (j : Int) (q : Nat) (L st : List ZV) (h : PH), zev kX1_quickest 43 L (zvi j :: zvr (some q) :: st) h = if (ph_K h q).1 % 1000 = 1 ∧ 0 ≤ j ∧ j < (ph_K h q).2 then zev kX1_quickest 44 L (zvi (ph_I h q j) :: st) h else none) ∧
  (∀ (a : Option Nat) (L st : List ZV) (h : PH), zev kX1_quickest 44 (zvr a :: L) st h = zev kX1_quickest 45 (zvr a :: L) (zvr a :: st) h) ∧
  (∀ (q : Nat) (L st : List ZV) (h : PH), zev kX1_quickest 45 L (zvr (some q) :: st) h = if (ph_K h q).1 % 1000 = 16 then zev kX1_quickest 48 L (zvr (ph_R h q 11) :: st) h else none) ∧
  (∀ (x0 x1 x2 x3 : ZV) (a : Int) (L st : List ZV) (h : PH), zev kX1_quickest 48 (x0 :: x1 :: x2 :: x3 :: zvi a :: L) st h = zev kX1_quickest 50 (x0 :: x1 :: x2 :: x3 :: zvi a :: L) (zvi a :: st) h) ∧
  (∀ (j : Int) (q : Nat) (L st : List ZV) (h : PH), zev kX1_quickest 50 L (zvi j :: zvr (some q) :: st) h = if (ph_K h q).1 % 1000 = 1 ∧ 0 ≤ j ∧ j < (ph_K h q).2 then zev kX1_quickest 51 L (zvi (ph_I h q j) :: st) h else none) ∧
  (∀ (a b : Int) (L st : List ZV) (h : PH), zev kX1_quickest 51 L (zvi b :: zvi a :: st) h = zev kX1_quickest 52 L (zvi (w32 (a - b)) :: st) h) ∧
  (∀ (a b : Int) (L st : List ZV) (h : PH), zev kX1_quickest 52 L (zvi b :: zvi a :: st) h = if zcat st ≤ 8 then zev kX1_quickest 55 L (zvi (zmin a b) :: st) h else none) ∧
  (∀ (x0 x1 x2 x3 : ZV) (a : Int) (L st : List ZV) (h : PH) (hx : zisL x2 = false) , zev kX1_quickest 55 (x0 :: x1 :: x2 :: x3 :: L) (zvi a :: st) h = zev kX1_quickest 56 (x0 :: x1 :: x2 :: zvi a :: L) st h) ∧
  (∀ (x0 x1 x2 x3 : ZV) (a : Int) (L st : List ZV) (h : PH) (hx : zisL x3 = false) , zev kX1_quickest 56 (x0 :: x1 :: x2 :: x3 :: zvi a :: L) st h = zev kX1_quickest 59 (x0 :: x1 :: x2 :: x3 :: zvi (w32 (a + 1)) :: L) st h) ∧
  (∀ (L st : List ZV) (h : PH), zev kX1_quickest 59 L st h = zev kX1_quickest 27 L st h) ∧
  (∀ (a : Option Nat) (L st : List ZV) (h : PH), zev kX1_quickest 62 (zvr a :: L) st h = zev kX1_quickest 63 (zvr a :: L) (zvr a :: st) h) ∧
  (∀ (x0 x1 x2 : ZV) (a : Int) (L st : List ZV) (h : PH), zev kX1_quickest 63 (x0 :: x1 :: x2 :: zvi a :: L) st h = zev kX1_quickest 64 (x0 :: x1 :: x2 :: zvi a :: L) (zvi a :: st) h) ∧
  (∀ (L st : List ZV) (h : PH), zev kX1_quickest 64 L st h = zev kX1_quickest 66 L (zvi 99999 :: st) h) ∧
  (∀ (a b : Int) (L st : List ZV) (h : PH), zev kX1_quickest 66 L (zvi b :: zvi a :: st) h = if a ≠ b then zev kX1_quickest 74 L st h else zev kX1_quickest 69 L st h) ∧
  (∀ (L st : List ZV) (h : PH), zev kX1_quickest 69 L st h = zev kX1_quickest 71 L (zvi (-2) :: st) h) ∧
  (∀ (L st : List ZV) (h : PH), zev kX1_quickest 71 L st h = zev kX1_quickest 75 L st h) ∧
  (∀ (x0 x1 x2 : ZV) (a : Int) (L st : List ZV) (h : PH), zev kX1_quickest 74 (x0 :: x1 :: x2 :: zvi a :: L) st h = zev kX1_quickest 75 (x0 :: x1 :: x2 :: zvi a :: L) (zvi a :: st) h) ∧
  (∀ (v0 : ZV) (q : Nat) (L st : List ZV) (h : PH), zev kX1_quickest 75 L (v0 :: zvr (some q) :: st) h = if (ph_K h q).1 % 1000 = 16 ∧ zcat st ≤ 8 then zk kX1_quickest 75 78 L st (mX1_fine [zvr (some q), v0] h) else none) ∧
  (∀ (a : Int) (L : List ZV) (h : PH), zev kX1_quickest 78 L [zvi a] h = zrv (zvi a) h) :=
  ⟨fun a L st h => e_ld0R (n := 1) rfl,
  fun x0 a L st h => e_ld1I (n := 2) rfl,
  fun x0 x1 a L st h => e_ld2I (n := 3) rfl,
  fun v0 v1 q L st h => e_callV3 (F := mX1_areTwo) (kd := 16) (n := 6) rfl,
  fun a L st h => e_ifne (t := 15) (n := 9) rfl,
  fun a L st h => e_ld0R (n := 10) rfl,
  fun L st h => e_push (v := zvi 1) (n := 11) rfl,
  fun v0 q L st h => e_callV2 (F := mX1_refused) (kd := 16) (n := 14) rfl,
  fun a L h => e_retI rfl,
  fun a L st h => e_ld0R (n := 16) rfl,
  fun x0 a L st h => e_ld1I (n := 17) rfl,
  fun x0 x1 a L st h => e_ld2I (n := 18) rfl,
  fun v0 v1 q L st h => e_callV3 (F := mX1_laysSteps) (kd := 16) (n := 21) rfl,
  fun L st h => e_push (v := zvi 99999) (n := 23) rfl,
  fun x0 x1 x2 x3 a L st h hx => e_st3I (n := 24) rfl hx,
  fun L st h => e_push (v := zvi 0) (n := 25) rfl,
  fun x0 x1 x2 x3 x4 a L st h hx => e_st4I (n := 27) rfl hx,
  fun a L st h => e_ld0R (n := 30) rfl,
  fun q L st h => e_getI (kd := 16) (k := 13) (n := 33) rfl,
  fun a b L st h => e_cmpge (t := 62) (n := 36) rfl,
  fun x0 x1 x2 a L st h => e_ld3I (n := 37) rfl,
  fun a L st h => e_ld0R (n := 38) rfl,
  fun q L st h => e_getR (kd := 16) (k := 12) (n := 41) rfl,
  fun x0 x1 x2 x3 a L st h => e_ld4I (n := 43) rfl,
  fun j q L st h => e_ald (kd := 1) (n := 44) rfl,
  fun a L st h => e_ld0R (n := 45) rfl,
  fun q L st h => e_getR (kd := 16) (k := 11) (n := 48) rfl,
  fun x0 x1 x2 x3 a L st h => e_ld4I (n := 50) rfl,
  fun j q L st h => e_ald (kd := 1) (n := 51) rfl,
  fun a b L st h => e_bin (f := (fun a b => w32 (a - b))) (n := 52) rfl,
  fun a b L st h => e_mm (f := zmin) (n := 55) rfl,
  fun x0 x1 x2 x3 a L st h hx => e_st3I (n := 56) rfl hx,
  fun x0 x1 x2 x3 a L st h hx => e_iinc4 (d := 1) (n := 59) rfl hx,
  fun L st h => e_goto (t := 27) rfl,
  fun a L st h => e_ld0R (n := 63) rfl,
  fun x0 x1 x2 a L st h => e_ld3I (n := 64) rfl,
  fun L st h => e_push (v := zvi 99999) (n := 66) rfl,
  fun a b L st h => e_cmpne (t := 74) (n := 69) rfl,
  fun L st h => e_push (v := zvi (-2)) (n := 71) rfl,
  fun L st h => e_goto (t := 75) rfl,
  fun x0 x1 x2 a L st h => e_ld3I (n := 75) rfl,
  fun v0 q L st h => e_callV2 (F := mX1_fine) (kd := 16) (n := 78) rfl,
  fun a L h => e_retI rfl⟩
theorem allX1_quickest : zall yX1_quickest cX1_quickest 5 (some .int) 7 kX1_quickest.1 :=
  ⟨k_aload_n dX1_quickest_0,
  k_iload_n dX1_quickest_1,
  k_iload_n dX1_quickest_2,
  k_callV (y2 := yX1_areTwo) (C := RX1) (T0 := TX1) (ci := 0) dX1_quickest_3 sndX1_areTwo rfl q1474 q1476 qs47 q128 q1477 (by decide +kernel) ⟨by decide, by decide⟩ (by decide) (by decide),
  k_ifne (t := 15) dX1_quickest_6 (by decide),
  k_aload_n dX1_quickest_9,
  k_iconst dX1_quickest_10,
  k_callV (y2 := yX1_refused) (C := RX1) (T0 := TX1) (ci := 0) dX1_quickest_11 sndX1_refused rfl q378 q380 qs1 q128 q381 (by decide +kernel) ⟨by decide, by decide⟩ (by decide) (by decide),
  k_iret dX1_quickest_14,
  k_aload_n dX1_quickest_15,
  k_iload_n dX1_quickest_16,
  k_iload_n dX1_quickest_17,
  k_callV (y2 := yX1_laysSteps) (C := RX1) (T0 := TX1) (ci := 0) dX1_quickest_18 sndX1_laysSteps rfl q1478 q1480 qs48 q128 q1481 (by decide +kernel) ⟨by decide, by decide⟩ (by decide) (by decide),
  k_ldc dX1_quickest_21 q1429,
  k_istore_n dX1_quickest_23,
  k_iconst dX1_quickest_24,
  k_istore dX1_quickest_25,
  k_iload dX1_quickest_27,
  k_aload_n dX1_quickest_29,
  k_getI (C := RX1) (T := TX1) (N := 19) (ci := 0) (k := 13) (ref := "LinkTimes") dX1_quickest_30 rfl in_X1 (by decide) q316 (Or.inl rfl) (fun _ _ _ => rfl),
  k_cmpge (t := 62) dX1_quickest_33 (by decide),
  k_iload_n dX1_quickest_36,
  k_aload_n dX1_quickest_37,
  k_getR (C := RX1) (T := TX1) (N := 19) (ci := 0) (k := 12) (ref := "LinkTimes") dX1_quickest_38 rfl in_X1 (by decide) q315 (Or.inl rfl) (fun _ _ _ => rfl),
  k_iload dX1_quickest_41,
  k_iald dX1_quickest_43,
  k_aload_n dX1_quickest_44,
  k_getR (C := RX1) (T := TX1) (N := 19) (ci := 0) (k := 11) (ref := "LinkTimes") dX1_quickest_45 rfl in_X1 (by decide) q314 (Or.inl rfl) (fun _ _ _ => rfl),
  k_iload dX1_quickest_48,
  k_iald dX1_quickest_50,
  k_isub dX1_quickest_51,
  k_mmin dX1_quickest_52 q1492 q799 q154 q800 (by decide),
  k_istore_n dX1_quickest_55,
  k_iinc dX1_quickest_56,
  k_goto (t := 27) dX1_quickest_59 (by decide),
  k_aload_n dX1_quickest_62,
  k_iload_n dX1_quickest_63,
  k_ldc dX1_quickest_64 q1429,
  k_cmpne (t := 74) dX1_quickest_66 (by decide),
  k_bipush dX1_quickest_69,
  k_goto (t := 75) dX1_quickest_71 (by decide),
  k_iload_n dX1_quickest_74,
  k_callV (y2 := yX1_fine) (C := RX1) (T0 := TX1) (ci := 0) dX1_quickest_75 sndX1_fine rfl q1211 q1213 qs32 q128 q1214 (by decide +kernel) ⟨by decide, by decide⟩ (by decide) (by decide),
  k_iret dX1_quickest_78, trivial⟩
theorem sndX1_quickest : MSound 7 yX1_quickest (ws_ yX1_quickest cX1_quickest 5 (some .int)) mX1_quickest := msound_M (by decide) allX1_quickest (fun _ _ => rfl)
/-! LinkTimes.spent(IIII)I -/
noncomputable def kX1_spent : ZM := ([(0, zi_ld 1 0 1), (1, zi_ld 0 1 2), (2, zi_ld 0 2 3), (3, zi_callV mX1_areTwo 16 3 6), (6, zi_if (fun a => zc_ne a 0) 15 9), (9, zi_ld 1 0 10), (10, zi_push (zvi 1) 11), (11, zi_callV mX1_refused 16 2 14), (14, zi_retv 0), (15, zi_ld 0 3 16), (16, zi_push (zvi 0) 17), (17, zi_push (zvi 1999) 20), (20, zi_callS mX1_isIn 3 23), (23, zi_if (fun a => zc_eq a 0) 38 26), (26, zi_ld 0 4 28), (28, zi_ld 0 3 29), (29, zi_push (zvi 1999) 32), (32, zi_callS mX1_isIn 3 35), (35, zi_if (fun a => zc_ne a 0) 44 38), (38, zi_ld 1 0 39), (39, zi_push (zvi 2) 40), (40, zi_callV mX1_refused 16 2 43), (43, zi_retv 0), (44, zi_ld 1 0 45), (45, zi_ld 0 1 46), (46, zi_ld 0 2 47), (47, zi_callV mX1_laysSteps 16 3 50), (50, zi_push (zvi 0) 51), (51, zi_st 0 5 53), (53, zi_ld 1 0 54), (54, zi_getI 16 13 57), (57, zi_push (zvi 1) 58), (58, zi_bin (fun a b => w32 (a - b)) 59), (59, zi_st 0 6 61), (61, zi_ld 0 3 62), (62, zi_st 0 7 64), (64, zi_ld 0 7 66), (66, zi_ld 0 4 68), (68, zi_cmp zc_gt 127 71), (71, zi_ld 0 6 73), (73, zi_if (fun a => zc_lt a 0) 94 76), (76, zi_ld 1 0 77), (77, zi_getR 16 11 80), (80, zi_ld 0 6 82), (82, zi_ald 1 83), (83, zi_ld 0 7 85), (85, zi_cmp zc_ge 94 88), (88, zi_iinc 6 (-1) 91), (91, zi_goto 71), (94, zi_ld 0 6 96), (96, zi_if (fun a => zc_ge a 0) 106 99), (99, zi_ld 1 0 100), (100, zi_push (zvi (-2)) 102), (102, zi_callV mX1_fine 16 2 105), (105, zi_retv 0), (106, zi_ld 0 5 108), (108, zi_ld 1 0 109), (109, zi_getR 16 12 112), (112, zi_ld 0 6 114), (114, zi_ald 1 115), (115, zi_ld 0 7 117), (117, zi_bin (fun a b => w32 (a - b)) 118), (118, zi_bin (fun a b => w32 (a + b)) 119), (119, zi_st 0 5 121), (121, zi_iinc 7 1 124), (124, zi_goto 64), (127, zi_ld 1 0 128), (128, zi_ld 0 5 130), (130, zi_callV mX1_fine 16 2 133), (133, zi_retv 0)], fun _ _ => none)
noncomputable def mX1_spent : ZF := zrunM kX1_spent 8
theorem enX1_spent (x0 : Option Nat) (x1 : Int) (x2 : Int) (x3 : Int) (x4 : Int) (h : PH) : mX1_spent [zvr x0, zvi x1, zvi x2, zvi x3, zvi x4] h = zev kX1_spent 0 [zvr x0, zvi x1, zvi x2, zvi x3, zvi x4, zvu, zvu, zvu] [] h := zrunM_eq rfl rfl
theorem hdX1_spent_64 (x0 x1 x2 x3 x4 x5 x6 : ZV) (a : Int) (L st : List ZV) (h : PH) : zev kX1_spent 64 (x0 :: x1 :: x2 :: x3 :: x4 :: x5 :: x6 :: zvi a :: L) st h = zev kX1_spent 66 (x0 :: x1 :: x2 :: x3 :: x4 :: x5 :: x6 :: zvi a :: L) (zvi a :: st) h := e_ld7I (n := 66) rfl
theorem hdX1_spent_71 (x0 x1 x2 x3 x4 x5 : ZV) (a : Int) (L st : List ZV) (h : PH) : zev kX1_spent 71 (x0 :: x1 :: x2 :: x3 :: x4 :: x5 :: zvi a :: L) st h = zev kX1_spent 73 (x0 :: x1 :: x2 :: x3 :: x4 :: x5 :: zvi a :: L) (zvi a :: st) h := e_ld6I (n := 73) rfl
theorem rX1_spent : (∀ (a : Option Nat) (L st : List ZV) (h : PH), zev kX1_spent 0 (zvr a :: L) st h = zev kX1_spent 1 (zvr a :: L) (zvr a :: st) h) ∧
  (∀ (x0 : ZV) (a : Int) (L st : List ZV) (h : PH), zev kX1_spent 1 (x0 :: zvi a :: L) st h = zev kX1_spent 2 (x0 :: zvi a :: L) (zvi a :: st) h) ∧
  (∀ (x0 x1 : ZV) (a : Int) (L st : List ZV) (h : PH), zev kX1_spent 2 (x0 :: x1 :: zvi a :: L) st h = zev kX1_spent 3 (x0 :: x1 :: zvi a :: L) (zvi a :: st) h) ∧
  (∀ (v0 v1 : ZV) (q : Nat) (L st : List ZV) (h : PH), zev kX1_spent 3 L (v1 :: v0 :: zvr (some q) :: st) h = if (ph_K h q).1 % 1000 = 16 ∧ zcat st ≤ 8 then zk kX1_spent 3 6 L st (mX1_areTwo [zvr (some q), v0, v1] h) else none) ∧
  (∀ (a : Int) (L st : List ZV) (h : PH), zev kX1_spent 6 L (zvi a :: st) h = if a ≠ 0 then zev kX1_spent 15 L st h else zev kX1_spent 9 L st h) ∧
  (∀ (a : Option Nat) (L st : List ZV) (h : PH), zev kX1_spent 9 (zvr a :: L) st h = zev kX1_spent 10 (zvr a :: L) (zvr a :: st) h) ∧
  (∀ (L st : List ZV) (h : PH), zev kX1_spent 10 L st h = zev kX1_spent 11 L (zvi 1 :: st) h) ∧
  (∀ (v0 : ZV) (q : Nat) (L st : List ZV) (h : PH), zev kX1_spent 11 L (v0 :: zvr (some q) :: st) h = if (ph_K h q).1 % 1000 = 16 ∧ zcat st ≤ 8 then zk kX1_spent 11 14 L st (mX1_refused [zvr (some q), v0] h) else none) ∧
  (∀ (a : Int) (L : List ZV) (h : PH), zev kX1_spent 14 L [zvi a] h = zrv (zvi a) h) ∧
  (∀ (x0 x1 x2 : ZV) (a : Int) (L st : List ZV) (h : PH), zev kX1_spent 15 (x0 :: x1 :: x2 :: zvi a :: L) st h = zev kX1_spent 16 (x0 :: x1 :: x2 :: zvi a :: L) (zvi a :: st) h) ∧
  (∀ (L st : List ZV) (h : PH), zev kX1_spent 16 L st h = zev kX1_spent 17 L (zvi 0 :: st) h) ∧
  (∀ (L st : List ZV) (h : PH), zev kX1_spent 17 L st h = zev kX1_spent 20 L (zvi 1999 :: st) h) ∧
  (∀ (v0 v1 v2 : ZV) (L st : List ZV) (h : PH), zev kX1_spent 20 L (v2 :: v1 :: v0 :: st) h = if zcat st ≤ 8 then zk kX1_spent 20 23 L st (mX1_isIn [v0, v1, v2] h) else none) ∧
  (∀ (a : Int) (L st : List ZV) (h : PH), zev kX1_spent 23 L (zvi a :: st) h = if a = 0 then zev kX1_spent 38 L st h else zev kX1_spent 26 L st h) ∧
  (∀ (x0 x1 x2 x3 : ZV) (a : Int) (L st : List ZV) (h : PH), zev kX1_spent 26 (x0 :: x1 :: x2 :: x3 :: zvi a :: L) st h = zev kX1_spent 28 (x0 :: x1 :: x2 :: x3 :: zvi a :: L) (zvi a :: st) h) ∧
  (∀ (x0 x1 x2 : ZV) (a : Int) (L st : List ZV) (h : PH), zev kX1_spent 28 (x0 :: x1 :: x2 :: zvi a :: L) st h = zev kX1_spent 29 (x0 :: x1 :: x2 :: zvi a :: L) (zvi a :: st) h) ∧
  (∀ (L st : List ZV) (h : PH), zev kX1_spent 29 L st h = zev kX1_spent 32 L (zvi 1999 :: st) h) ∧
  (∀ (v0 v1 v2 : ZV) (L st : List ZV) (h : PH), zev kX1_spent 32 L (v2 :: v1 :: v0 :: st) h = if zcat st ≤ 8 then zk kX1_spent 32 35 L st (mX1_isIn [v0, v1, v2] h) else none) ∧
  (∀ (a : Int) (L st : List ZV) (h : PH), zev kX1_spent 35 L (zvi a :: st) h = if a ≠ 0 then zev kX1_spent 44 L st h else zev kX1_spent 38 L st h) ∧
  (∀ (a : Option Nat) (L st : List ZV) (h : PH), zev kX1_spent 38 (zvr a :: L) st h = zev kX1_spent 39 (zvr a :: L) (zvr a :: st) h) ∧
  (∀ (L st : List ZV) (h : PH), zev kX1_spent 39 L st h = zev kX1_spent 40 L (zvi 2 :: st) h) ∧
  (∀ (v0 : ZV) (q : Nat) (L st : List ZV) (h : PH), zev kX1_spent 40 L (v0 :: zvr (some q) :: st) h = if (ph_K h q).1 % 1000 = 16 ∧ zcat st ≤ 8 then zk kX1_spent 40 43 L st (mX1_refused [zvr (some q), v0] h) else none) ∧
  (∀ (a : Int) (L : List ZV) (h : PH), zev kX1_spent 43 L [zvi a] h = zrv (zvi a) h) ∧
  (∀ (a : Option Nat) (L st : List ZV) (h : PH), zev kX1_spent 44 (zvr a :: L) st h = zev kX1_spent 45 (zvr a :: L) (zvr a :: st) h) ∧
  (∀ (x0 : ZV) (a : Int) (L st : List ZV) (h : PH), zev kX1_spent 45 (x0 :: zvi a :: L) st h = zev kX1_spent 46 (x0 :: zvi a :: L) (zvi a :: st) h) ∧
  (∀ (x0 x1 : ZV) (a : Int) (L st : List ZV) (h : PH), zev kX1_spent 46 (x0 :: x1 :: zvi a :: L) st h = zev kX1_spent 47 (x0 :: x1 :: zvi a :: L) (zvi a :: st) h) ∧
  (∀ (v0 v1 : ZV) (q : Nat) (L st : List ZV) (h : PH), zev kX1_spent 47 L (v1 :: v0 :: zvr (some q) :: st) h = if (ph_K h q).1 % 1000 = 16 ∧ zcat st ≤ 8 then zk kX1_spent 47 50 L st (mX1_laysSteps [zvr (some q), v0, v1] h) else none) ∧
  (∀ (L st : List ZV) (h : PH), zev kX1_spent 50 L st h = zev kX1_spent 51 L (zvi 0 :: st) h) ∧
  (∀ (x0 x1 x2 x3 x4 x5 : ZV) (a : Int) (L st : List ZV) (h : PH) (hx : zisL x4 = false) , zev kX1_spent 51 (x0 :: x1 :: x2 :: x3 :: x4 :: x5 :: L) (zvi a :: st) h = zev kX1_spent 53 (x0 :: x1 :: x2 :: x3 :: x4 :: zvi a :: L) st h) ∧
  (∀ (a : Option Nat) (L st : List ZV) (h : PH), zev kX1_spent 53 (zvr a :: L) st h = zev kX1_spent 54 (zvr a :: L) (zvr a :: st) h) ∧
  (∀ (q : Nat) (L st : List ZV) (h : PH), zev kX1_spent 54 L (zvr (some q) :: st) h = if (ph_K h q).1 % 1000 = 16 then zev kX1_spent 57 L (zvi (ph_I h q 13) :: st) h else none) ∧
  (∀ (L st : List ZV) (h : PH), zev kX1_spent 57 L st h = zev kX1_spent 58 L (zvi 1 :: st) h) ∧
  (∀ (a b : Int) (L st : List ZV) (h : PH), zev kX1_spent 58 L (zvi b :: zvi a :: st) h = zev kX1_spent 59 L (zvi (w32 (a - b)) :: st) h) ∧
  (∀ (x0 x1 x2 x3 x4 x5 x6 : ZV) (a : Int) (L st : List ZV) (h : PH) (hx : zisL x5 = false) , zev kX1_spent 59 (x0 :: x1 :: x2 :: x3 :: x4 :: x5 :: x6 :: L) (zvi a :: st) h = zev kX1_spent 61 (x0 :: x1 :: x2 :: x3 :: x4 :: x5 :: zvi a :: L) st h) ∧
  (∀ (x0 x1 x2 : ZV) (a : Int) (L st : List ZV) (h : PH), zev kX1_spent 61 (x0 :: x1 :: x2 :: zvi a :: L) st h = zev kX1_spent 62 (x0 :: x1 :: x2 :: zvi a :: L) (zvi a :: st) h) ∧
  (∀ (x0 x1 x2 x3 x4 x5 x6 x7 : ZV) (a : Int) (L st : List ZV) (h : PH) (hx : zisL x6 = false) , zev kX1_spent 62 (x0 :: x1 :: x2 :: x3 :: x4 :: x5 :: x6 :: x7 :: L) (zvi a :: st) h = zev kX1_spent 64 (x0 :: x1 :: x2 :: x3 :: x4 :: x5 :: x6 :: zvi a :: L) st h) ∧
  (∀ (x0 x1 x2 x3 : ZV) (a : Int) (L st : List ZV) (h : PH), zev kX1_spent 66 (x0 :: x1 :: x2 :: x3 :: zvi a :: L) st h = zev kX1_spent 68 (x0 :: x1 :: x2 :: x3 :: zvi a :: L) (zvi a :: st) h) ∧
  (∀ (a b : Int) (L st : List ZV) (h : PH), zev kX1_spent 68 L (zvi b :: zvi a :: st) h = if a > b then zev kX1_spent 127 L st h else zev kX1_spent 71 L st h) ∧
  (∀ (a : Int) (L st : List ZV) (h : PH), zev kX1_spent 73 L (zvi a :: st) h = if a < 0 then zev kX1_spent 94 L st h else zev kX1_spent 76 L st h) ∧
  (∀ (a : Option Nat) (L st : List ZV) (h : PH), zev kX1_spent 76 (zvr a :: L) st h = zev kX1_spent 77 (zvr a :: L) (zvr a :: st) h) ∧
  (∀ (q : Nat) (L st : List ZV) (h : PH), zev kX1_spent 77 L (zvr (some q) :: st) h = if (ph_K h q).1 % 1000 = 16 then zev kX1_spent 80 L (zvr (ph_R h q 11) :: st) h else none) ∧
  (∀ (x0 x1 x2 x3 x4 x5 : ZV) (a : Int) (L st : List ZV) (h : PH), zev kX1_spent 80 (x0 :: x1 :: x2 :: x3 :: x4 :: x5 :: zvi a :: L) st h = zev kX1_spent 82 (x0 :: x1 :: x2 :: x3 :: x4 :: x5 :: zvi a :: L) (zvi a :: st) h) ∧
  (∀ (j : Int) (q : Nat) (L st : List ZV) (h : PH), zev kX1_spent 82 L (zvi j :: zvr (some q) :: st) h = if (ph_K h q).1 % 1000 = 1 ∧ 0 ≤ j ∧ j < (ph_K h q).2 then zev kX1_spent 83 L (zvi (ph_I h q j) :: st) h else none) ∧
  (∀ (x0 x1 x2 x3 x4 x5 x6 : ZV) (a : Int) (L st : List ZV) (h : PH), zev kX1_spent 83 (x0 :: x1 :: x2 :: x3 :: x4 :: x5 :: x6 :: zvi a :: L) st h = zev kX1_spent 85 (x0 :: x1 :: x2 :: x3 :: x4 :: x5 :: x6 :: zvi a :: L) (zvi a :: st) h) ∧
  (∀ (a b : Int) (L st : List ZV) (h : PH), zev kX1_spent 85 L (zvi b :: zvi a :: st) h = if a ≥ b then zev kX1_spent 94 L st h else zev kX1_spent 88 L st h) ∧
  (∀ (x0 x1 x2 x3 x4 x5 : ZV) (a : Int) (L st : List ZV) (h : PH) (hx : zisL x5 = false) , zev kX1_spent 88 (x0 :: x1 :: x2 :: x3 :: x4 :: x5 :: zvi a :: L) st h = zev kX1_spent 91 (x0 :: x1 :: x2 :: x3 :: x4 :: x5 :: zvi (w32 (a + (-1))) :: L) st h) ∧
  (∀ (L st : List ZV) (h : PH), zev kX1_spent 91 L st h = zev kX1_spent 71 L st h) ∧
  (∀ (x0 x1 x2 x3 x4 x5 : ZV) (a : Int) (L st : List ZV) (h : PH), zev kX1_spent 94 (x0 :: x1 :: x2 :: x3 :: x4 :: x5 :: zvi a :: L) st h = zev kX1_spent 96 (x0 :: x1 :: x2 :: x3 :: x4 :: x5 :: zvi a :: L) (zvi a :: st) h) ∧
  (∀ (a : Int) (L st : List ZV) (h : PH), zev kX1_spent 96 L (zvi a :: st) h = if a ≥ 0 then zev kX1_spent 106 L st h else zev kX1_spent 99 L st h) ∧
  (∀ (a : Option Nat) (L st : List ZV) (h : PH), zev kX1_spent 99 (zvr a :: L) st h = zev kX1_spent 100 (zvr a :: L) (zvr a :: st) h) ∧
  (∀ (L st : List ZV) (h : PH), zev kX1_spent 100 L st h = zev kX1_spent 102 L (zvi (-2) :: st) h) ∧
  (∀ (v0 : ZV) (q : Nat) (L st : List ZV) (h : PH), zev kX1_spent 102 L (v0 :: zvr (some q) :: st) h = if (ph_K h q).1 % 1000 = 16 ∧ zcat st ≤ 8 then zk kX1_spent 102 105 L st (mX1_fine [zvr (some q), v0] h) else none) ∧
  (∀ (a : Int) (L : List ZV) (h : PH), zev kX1_spent 105 L [zvi a] h = zrv (zvi a) h) ∧
  (∀ (x0 x1 x2 x3 x4 : ZV) (a : Int) (L st : List ZV) (h : PH), zev kX1_spent 106 (x0 :: x1 :: x2 :: x3 :: x4 :: zvi a :: L) st h = zev kX1_spent 108 (x0 :: x1 :: x2 :: x3 :: x4 :: zvi a :: L) (zvi a :: st) h) ∧
  (∀ (a : Option Nat) (L st : List ZV) (h : PH), zev kX1_spent 108 (zvr a :: L) st h = zev kX1_spent 109 (zvr a :: L) (zvr a :: st) h) ∧
  (∀ (q : Nat) (L st : List ZV) (h : PH), zev kX1_spent 109 L (zvr (some q) :: st) h = if (ph_K h q).1 % 1000 = 16 then zev kX1_spent 112 L (zvr (ph_R h q 12) :: st) h else none) ∧
  (∀ (x0 x1 x2 x3 x4 x5 : ZV) (a : Int) (L st : List ZV) (h : PH), zev kX1_spent 112 (x0 :: x1 :: x2 :: x3 :: x4 :: x5 :: zvi a :: L) st h = zev kX1_spent 114 (x0 :: x1 :: x2 :: x3 :: x4 :: x5 :: zvi a :: L) (zvi a :: st) h) ∧
  (∀ (j : Int) (q : Nat) (L st : List ZV) (h : PH), zev kX1_spent 114 L (zvi j :: zvr (some q) :: st) h = if (ph_K h q).1 % 1000 = 1 ∧ 0 ≤ j ∧ j < (ph_K h q).2 then zev kX1_spent 115 L (zvi (ph_I h q j) :: st) h else none) ∧
  (∀ (x0 x1 x2 x3 x4 x5 x6 : ZV) (a : Int) (L st : List ZV) (h : PH), zev kX1_spent 115 (x0 :: x1 :: x2 :: x3 :: x4 :: x5 :: x6 :: zvi a :: L) st h = zev kX1_spent 117 (x0 :: x1 :: x2 :: x3 :: x4 :: x5 :: x6 :: zvi a :: L) (zvi a :: st) h) ∧
  (∀ (a b : Int) (L st : List ZV) (h : PH), zev kX1_spent 117 L (zvi b :: zvi a :: st) h = zev kX1_spent 118 L (zvi (w32 (a - b)) :: st) h) ∧
  (∀ (a b : Int) (L st : List ZV) (h : PH), zev kX1_spent 118 L (zvi b :: zvi a :: st) h = zev kX1_spent 119 L (zvi (w32 (a + b)) :: st) h) ∧
  (∀ (x0 x1 x2 x3 x4 x5 : ZV) (a : Int) (L st : List ZV) (h : PH) (hx : zisL x4 = false) , zev kX1_spent 119 (x0 :: x1 :: x2 :: x3 :: x4 :: x5 :: L) (zvi a :: st) h = zev kX1_spent 121 (x0 :: x1 :: x2 :: x3 :: x4 :: zvi a :: L) st h) ∧
  (∀ (x0 x1 x2 x3 x4 x5 x6 : ZV) (a : Int) (L st : List ZV) (h : PH) (hx : zisL x6 = false) , zev kX1_spent 121 (x0 :: x1 :: x2 :: x3 :: x4 :: x5 :: x6 :: zvi a :: L) st h = zev kX1_spent 124 (x0 :: x1 :: x2 :: x3 :: x4 :: x5 :: x6 :: zvi (w32 (a + 1)) :: L) st h) ∧
  (∀ (L st : List ZV) (h : PH), zev kX1_spent 124 L st h = zev kX1_spent 64 L st h) ∧
  (∀ (a : Option Nat) (L st : List ZV) (h : PH), zev kX1_spent 127 (zvr a :: L) st h = zev kX1_spent 128 (zvr a :: L) (zvr a :: st) h) ∧
  (∀ (x0 x1 x2 x3 x4 : ZV) (a : Int) (L st : List ZV) (h : PH), zev kX1_spent 128 (x0 :: x1 :: x2 :: x3 :: x4 :: zvi a :: L) st h = zev kX1_spent 130 (x0 :: x1 :: x2 :: x3 :: x4 :: zvi a :: L) (zvi a :: st) h) ∧
  (∀ (v0 : ZV) (q : Nat) (L st : List ZV) (h : PH), zev kX1_spent 130 L (v0 :: zvr (some q) :: st) h = if (ph_K h q).1 % 1000 = 16 ∧ zcat st ≤ 8 then zk kX1_spent 130 133 L st (mX1_fine [zvr (some q), v0] h) else none) ∧
  (∀ (a : Int) (L : List ZV) (h : PH), zev kX1_spent 133 L [zvi a] h = zrv (zvi a) h) :=
  ⟨fun a L st h => e_ld0R (n := 1) rfl,
  fun x0 a L st h => e_ld1I (n := 2) rfl,
  fun x0 x1 a L st h => e_ld2I (n := 3) rfl,
  fun v0 v1 q L st h => e_callV3 (F := mX1_areTwo) (kd := 16) (n := 6) rfl,
  fun a L st h => e_ifne (t := 15) (n := 9) rfl,
  fun a L st h => e_ld0R (n := 10) rfl,
  fun L st h => e_push (v := zvi 1) (n := 11) rfl,
  fun v0 q L st h => e_callV2 (F := mX1_refused) (kd := 16) (n := 14) rfl,
  fun a L h => e_retI rfl,
  fun x0 x1 x2 a L st h => e_ld3I (n := 16) rfl,
  fun L st h => e_push (v := zvi 0) (n := 17) rfl,
  fun L st h => e_push (v := zvi 1999) (n := 20) rfl,
  fun v0 v1 v2 L st h => e_callS3 (F := mX1_isIn) (n := 23) rfl,
  fun a L st h => e_ifeq (t := 38) (n := 26) rfl,
  fun x0 x1 x2 x3 a L st h => e_ld4I (n := 28) rfl,
  fun x0 x1 x2 a L st h => e_ld3I (n := 29) rfl,
  fun L st h => e_push (v := zvi 1999) (n := 32) rfl,
  fun v0 v1 v2 L st h => e_callS3 (F := mX1_isIn) (n := 35) rfl,
  fun a L st h => e_ifne (t := 44) (n := 38) rfl,
  fun a L st h => e_ld0R (n := 39) rfl,
  fun L st h => e_push (v := zvi 2) (n := 40) rfl,
  fun v0 q L st h => e_callV2 (F := mX1_refused) (kd := 16) (n := 43) rfl,
  fun a L h => e_retI rfl,
  fun a L st h => e_ld0R (n := 45) rfl,
  fun x0 a L st h => e_ld1I (n := 46) rfl,
  fun x0 x1 a L st h => e_ld2I (n := 47) rfl,
  fun v0 v1 q L st h => e_callV3 (F := mX1_laysSteps) (kd := 16) (n := 50) rfl,
  fun L st h => e_push (v := zvi 0) (n := 51) rfl,
  fun x0 x1 x2 x3 x4 x5 a L st h hx => e_st5I (n := 53) rfl hx,
  fun a L st h => e_ld0R (n := 54) rfl,
  fun q L st h => e_getI (kd := 16) (k := 13) (n := 57) rfl,
  fun L st h => e_push (v := zvi 1) (n := 58) rfl,
  fun a b L st h => e_bin (f := (fun a b => w32 (a - b))) (n := 59) rfl,
  fun x0 x1 x2 x3 x4 x5 x6 a L st h hx => e_st6I (n := 61) rfl hx,
  fun x0 x1 x2 a L st h => e_ld3I (n := 62) rfl,
  fun x0 x1 x2 x3 x4 x5 x6 x7 a L st h hx => e_st7I (n := 64) rfl hx,
  fun x0 x1 x2 x3 a L st h => e_ld4I (n := 68) rfl,
  fun a b L st h => e_cmpgt (t := 127) (n := 71) rfl,
  fun a L st h => e_iflt (t := 94) (n := 76) rfl,
  fun a L st h => e_ld0R (n := 77) rfl,
  fun q L st h => e_getR (kd := 16) (k := 11) (n := 80) rfl,
  fun x0 x1 x2 x3 x4 x5 a L st h => e_ld6I (n := 82) rfl,
  fun j q L st h => e_ald (kd := 1) (n := 83) rfl,
  fun x0 x1 x2 x3 x4 x5 x6 a L st h => e_ld7I (n := 85) rfl,
  fun a b L st h => e_cmpge (t := 94) (n := 88) rfl,
  fun x0 x1 x2 x3 x4 x5 a L st h hx => e_iinc6 (d := (-1)) (n := 91) rfl hx,
  fun L st h => e_goto (t := 71) rfl,
  fun x0 x1 x2 x3 x4 x5 a L st h => e_ld6I (n := 96) rfl,
  fun a L st h => e_ifge (t := 106) (n := 99) rfl,
  fun a L st h => e_ld0R (n := 100) rfl,
  fun L st h => e_push (v := zvi (-2)) (n := 102) rfl,
  fun v0 q L st h => e_callV2 (F := mX1_fine) (kd := 16) (n := 105) rfl,
  fun a L h => e_retI rfl,
  fun x0 x1 x2 x3 x4 a L st h => e_ld5I (n := 108) rfl,
  fun a L st h => e_ld0R (n := 109) rfl,
  fun q L st h => e_getR (kd := 16) (k := 12) (n := 112) rfl,
  fun x0 x1 x2 x3 x4 x5 a L st h => e_ld6I (n := 114) rfl,
  fun j q L st h => e_ald (kd := 1) (n := 115) rfl,
  fun x0 x1 x2 x3 x4 x5 x6 a L st h => e_ld7I (n := 117) rfl,
  fun a b L st h => e_bin (f := (fun a b => w32 (a - b))) (n := 118) rfl,
  fun a b L st h => e_bin (f := (fun a b => w32 (a + b))) (n := 119) rfl,
  fun x0 x1 x2 x3 x4 x5 a L st h hx => e_st5I (n := 121) rfl hx,
  fun x0 x1 x2 x3 x4 x5 x6 a L st h hx => e_iinc7 (d := 1) (n := 124) rfl hx,
  fun L st h => e_goto (t := 64) rfl,
  fun a L st h => e_ld0R (n := 128) rfl,
  fun x0 x1 x2 x3 x4 a L st h => e_ld5I (n := 130) rfl,
  fun v0 q L st h => e_callV2 (F := mX1_fine) (kd := 16) (n := 133) rfl,
  fun a L h => e_retI rfl⟩
theorem allX1_spent : zall yX1_spent cX1_spent 8 (some .int) 7 kX1_spent.1 :=
  ⟨k_aload_n dX1_spent_0,
  k_iload_n dX1_spent_1,
  k_iload_n dX1_spent_2,
  k_callV (y2 := yX1_areTwo) (C := RX1) (T0 := TX1) (ci := 0) dX1_spent_3 sndX1_areTwo rfl q1474 q1476 qs47 q128 q1477 (by decide +kernel) ⟨by decide, by decide⟩ (by decide) (by decide),
  k_ifne (t := 15) dX1_spent_6 (by decide),
  k_aload_n dX1_spent_9,
  k_iconst dX1_spent_10,
  k_callV (y2 := yX1_refused) (C := RX1) (T0 := TX1) (ci := 0) dX1_spent_11 sndX1_refused rfl q378 q380 qs1 q128 q381 (by decide +kernel) ⟨by decide, by decide⟩ (by decide) (by decide),
  k_iret dX1_spent_14,
  k_iload_n dX1_spent_15,
  k_iconst dX1_spent_16,
  k_sipush dX1_spent_17,
  k_callS (y2 := yX1_isIn) dX1_spent_20 sndX1_isIn q375 q376 q128 q377 (by decide +kernel) ⟨by decide, by decide⟩ (by decide) (by decide),
  k_ifeq (t := 38) dX1_spent_23 (by decide),
  k_iload dX1_spent_26,
  k_iload_n dX1_spent_28,
  k_sipush dX1_spent_29,
  k_callS (y2 := yX1_isIn) dX1_spent_32 sndX1_isIn q375 q376 q128 q377 (by decide +kernel) ⟨by decide, by decide⟩ (by decide) (by decide),
  k_ifne (t := 44) dX1_spent_35 (by decide),
  k_aload_n dX1_spent_38,
  k_iconst dX1_spent_39,
  k_callV (y2 := yX1_refused) (C := RX1) (T0 := TX1) (ci := 0) dX1_spent_40 sndX1_refused rfl q378 q380 qs1 q128 q381 (by decide +kernel) ⟨by decide, by decide⟩ (by decide) (by decide),
  k_iret dX1_spent_43,
  k_aload_n dX1_spent_44,
  k_iload_n dX1_spent_45,
  k_iload_n dX1_spent_46,
  k_callV (y2 := yX1_laysSteps) (C := RX1) (T0 := TX1) (ci := 0) dX1_spent_47 sndX1_laysSteps rfl q1478 q1480 qs48 q128 q1481 (by decide +kernel) ⟨by decide, by decide⟩ (by decide) (by decide),
  k_iconst dX1_spent_50,
  k_istore dX1_spent_51,
  k_aload_n dX1_spent_53,
  k_getI (C := RX1) (T := TX1) (N := 19) (ci := 0) (k := 13) (ref := "LinkTimes") dX1_spent_54 rfl in_X1 (by decide) q316 (Or.inl rfl) (fun _ _ _ => rfl),
  k_iconst dX1_spent_57,
  k_isub dX1_spent_58,
  k_istore dX1_spent_59,
  k_iload_n dX1_spent_61,
  k_istore dX1_spent_62,
  k_iload dX1_spent_64,
  k_iload dX1_spent_66,
  k_cmpgt (t := 127) dX1_spent_68 (by decide),
  k_iload dX1_spent_71,
  k_iflt (t := 94) dX1_spent_73 (by decide),
  k_aload_n dX1_spent_76,
  k_getR (C := RX1) (T := TX1) (N := 19) (ci := 0) (k := 11) (ref := "LinkTimes") dX1_spent_77 rfl in_X1 (by decide) q314 (Or.inl rfl) (fun _ _ _ => rfl),
  k_iload dX1_spent_80,
  k_iald dX1_spent_82,
  k_iload dX1_spent_83,
  k_cmpge (t := 94) dX1_spent_85 (by decide),
  k_iinc dX1_spent_88,
  k_goto (t := 71) dX1_spent_91 (by decide),
  k_iload dX1_spent_94,
  k_ifge (t := 106) dX1_spent_96 (by decide),
  k_aload_n dX1_spent_99,
  k_bipush dX1_spent_100,
  k_callV (y2 := yX1_fine) (C := RX1) (T0 := TX1) (ci := 0) dX1_spent_102 sndX1_fine rfl q1211 q1213 qs32 q128 q1214 (by decide +kernel) ⟨by decide, by decide⟩ (by decide) (by decide),
  k_iret dX1_spent_105,
  k_iload dX1_spent_106,
  k_aload_n dX1_spent_108,
  k_getR (C := RX1) (T := TX1) (N := 19) (ci := 0) (k := 12) (ref := "LinkTimes") dX1_spent_109 rfl in_X1 (by decide) q315 (Or.inl rfl) (fun _ _ _ => rfl),
  k_iload dX1_spent_112,
  k_iald dX1_spent_114,
  k_iload dX1_spent_115,
  k_isub dX1_spent_117,
  k_iadd dX1_spent_118,
  k_istore dX1_spent_119,
  k_iinc dX1_spent_121,
  k_goto (t := 64) dX1_spent_124 (by decide),
  k_aload_n dX1_spent_127,
  k_iload dX1_spent_128,
  k_callV (y2 := yX1_fine) (C := RX1) (T0 := TX1) (ci := 0) dX1_spent_130 sndX1_fine rfl q1211 q1213 qs32 q128 q1214 (by decide +kernel) ⟨by decide, by decide⟩ (by decide) (by decide),
  k_iret dX1_spent_133, trivial⟩
theorem sndX1_spent : MSound 7 yX1_spent (ws_ yX1_spent cX1_spent 8 (some .int)) mX1_spent := msound_M (by decide) allX1_spent (fun _ _ => rfl)
/-! LinkTimes.refusesTwo(III)I -/
noncomputable def kX1_refusesTwo : ZM := ([(0, zi_ld 1 0 1), (1, zi_ld 0 1 2), (2, zi_ld 0 2 3), (3, zi_callV mX1_areTwo 16 3 6), (6, zi_if (fun a => zc_ne a 0) 13 9), (9, zi_push (zvi 1) 10), (10, zi_goto 29), (13, zi_ld 0 3 14), (14, zi_push (zvi 0) 15), (15, zi_push (zvi 1999) 18), (18, zi_callS mX1_isIn 3 21), (21, zi_if (fun a => zc_eq a 0) 28 24), (24, zi_push (zvi 0) 25), (25, zi_goto 29), (28, zi_push (zvi 2) 29), (29, zi_retv 0)], fun _ _ => none)
noncomputable def mX1_refusesTwo : ZF := zrunM kX1_refusesTwo 4
theorem enX1_refusesTwo (x0 : Option Nat) (x1 : Int) (x2 : Int) (x3 : Int) (h : PH) : mX1_refusesTwo [zvr x0, zvi x1, zvi x2, zvi x3] h = zev kX1_refusesTwo 0 [zvr x0, zvi x1, zvi x2, zvi x3] [] h := zrunM_eq rfl rfl
theorem rX1_refusesTwo : (∀ (a : Option Nat) (L st : List ZV) (h : PH), zev kX1_refusesTwo 0 (zvr a :: L) st h = zev kX1_refusesTwo 1 (zvr a :: L) (zvr a :: st) h) ∧
  (∀ (x0 : ZV) (a : Int) (L st : List ZV) (h : PH), zev kX1_refusesTwo 1 (x0 :: zvi a :: L) st h = zev kX1_refusesTwo 2 (x0 :: zvi a :: L) (zvi a :: st) h) ∧
  (∀ (x0 x1 : ZV) (a : Int) (L st : List ZV) (h : PH), zev kX1_refusesTwo 2 (x0 :: x1 :: zvi a :: L) st h = zev kX1_refusesTwo 3 (x0 :: x1 :: zvi a :: L) (zvi a :: st) h) ∧
  (∀ (v0 v1 : ZV) (q : Nat) (L st : List ZV) (h : PH), zev kX1_refusesTwo 3 L (v1 :: v0 :: zvr (some q) :: st) h = if (ph_K h q).1 % 1000 = 16 ∧ zcat st ≤ 8 then zk kX1_refusesTwo 3 6 L st (mX1_areTwo [zvr (some q), v0, v1] h) else none) ∧
  (∀ (a : Int) (L st : List ZV) (h : PH), zev kX1_refusesTwo 6 L (zvi a :: st) h = if a ≠ 0 then zev kX1_refusesTwo 13 L st h else zev kX1_refusesTwo 9 L st h) ∧
  (∀ (L st : List ZV) (h : PH), zev kX1_refusesTwo 9 L st h = zev kX1_refusesTwo 10 L (zvi 1 :: st) h) ∧
  (∀ (L st : List ZV) (h : PH), zev kX1_refusesTwo 10 L st h = zev kX1_refusesTwo 29 L st h) ∧
  (∀ (x0 x1 x2 : ZV) (a : Int) (L st : List ZV) (h : PH), zev kX1_refusesTwo 13 (x0 :: x1 :: x2 :: zvi a :: L) st h = zev kX1_refusesTwo 14 (x0 :: x1 :: x2 :: zvi a :: L) (zvi a :: st) h) ∧
  (∀ (L st : List ZV) (h : PH), zev kX1_refusesTwo 14 L st h = zev kX1_refusesTwo 15 L (zvi 0 :: st) h) ∧
  (∀ (L st : List ZV) (h : PH), zev kX1_refusesTwo 15 L st h = zev kX1_refusesTwo 18 L (zvi 1999 :: st) h) ∧
  (∀ (v0 v1 v2 : ZV) (L st : List ZV) (h : PH), zev kX1_refusesTwo 18 L (v2 :: v1 :: v0 :: st) h = if zcat st ≤ 8 then zk kX1_refusesTwo 18 21 L st (mX1_isIn [v0, v1, v2] h) else none) ∧
  (∀ (a : Int) (L st : List ZV) (h : PH), zev kX1_refusesTwo 21 L (zvi a :: st) h = if a = 0 then zev kX1_refusesTwo 28 L st h else zev kX1_refusesTwo 24 L st h) ∧
  (∀ (L st : List ZV) (h : PH), zev kX1_refusesTwo 24 L st h = zev kX1_refusesTwo 25 L (zvi 0 :: st) h) ∧
  (∀ (L st : List ZV) (h : PH), zev kX1_refusesTwo 25 L st h = zev kX1_refusesTwo 29 L st h) ∧
  (∀ (L st : List ZV) (h : PH), zev kX1_refusesTwo 28 L st h = zev kX1_refusesTwo 29 L (zvi 2 :: st) h) ∧
  (∀ (a : Int) (L : List ZV) (h : PH), zev kX1_refusesTwo 29 L [zvi a] h = zrv (zvi a) h) :=
  ⟨fun a L st h => e_ld0R (n := 1) rfl,
  fun x0 a L st h => e_ld1I (n := 2) rfl,
  fun x0 x1 a L st h => e_ld2I (n := 3) rfl,
  fun v0 v1 q L st h => e_callV3 (F := mX1_areTwo) (kd := 16) (n := 6) rfl,
  fun a L st h => e_ifne (t := 13) (n := 9) rfl,
  fun L st h => e_push (v := zvi 1) (n := 10) rfl,
  fun L st h => e_goto (t := 29) rfl,
  fun x0 x1 x2 a L st h => e_ld3I (n := 14) rfl,
  fun L st h => e_push (v := zvi 0) (n := 15) rfl,
  fun L st h => e_push (v := zvi 1999) (n := 18) rfl,
  fun v0 v1 v2 L st h => e_callS3 (F := mX1_isIn) (n := 21) rfl,
  fun a L st h => e_ifeq (t := 28) (n := 24) rfl,
  fun L st h => e_push (v := zvi 0) (n := 25) rfl,
  fun L st h => e_goto (t := 29) rfl,
  fun L st h => e_push (v := zvi 2) (n := 29) rfl,
  fun a L h => e_retI rfl⟩
theorem allX1_refusesTwo : zall yX1_refusesTwo cX1_refusesTwo 4 (some .int) 4 kX1_refusesTwo.1 :=
  ⟨k_aload_n dX1_refusesTwo_0,
  k_iload_n dX1_refusesTwo_1,
  k_iload_n dX1_refusesTwo_2,
  k_callV (y2 := yX1_areTwo) (C := RX1) (T0 := TX1) (ci := 0) dX1_refusesTwo_3 sndX1_areTwo rfl q1474 q1476 qs47 q128 q1477 (by decide +kernel) ⟨by decide, by decide⟩ (by decide) (by decide),
  k_ifne (t := 13) dX1_refusesTwo_6 (by decide),
  k_iconst dX1_refusesTwo_9,
  k_goto (t := 29) dX1_refusesTwo_10 (by decide),
  k_iload_n dX1_refusesTwo_13,
  k_iconst dX1_refusesTwo_14,
  k_sipush dX1_refusesTwo_15,
  k_callS (y2 := yX1_isIn) dX1_refusesTwo_18 sndX1_isIn q375 q376 q128 q377 (by decide +kernel) ⟨by decide, by decide⟩ (by decide) (by decide),
  k_ifeq (t := 28) dX1_refusesTwo_21 (by decide),
  k_iconst dX1_refusesTwo_24,
  k_goto (t := 29) dX1_refusesTwo_25 (by decide),
  k_iconst dX1_refusesTwo_28,
  k_iret dX1_refusesTwo_29, trivial⟩
theorem sndX1_refusesTwo : MSound 4 yX1_refusesTwo (ws_ yX1_refusesTwo cX1_refusesTwo 4 (some .int)) mX1_refusesTwo := msound_M (by decide) allX1_refusesTwo (fun _ _ => rfl)
/-! LinkTimes.laysOthers(III)I -/
noncomputable def kX1_laysOthers : ZM := ([(0, zi_push (zvi 0) 1), (1, zi_st 0 4 3), (3, zi_ld 0 4 5), (5, zi_push (zvi 120) 7), (7, zi_cmp zc_ge 24 10), (10, zi_ld 1 0 11), (11, zi_getR 16 16 14), (14, zi_ld 0 4 16), (16, zi_push (zvi 0) 17), (17, zi_astB 18), (18, zi_iinc 4 1 21), (21, zi_goto 3), (24, zi_push (zvi 0) 25), (25, zi_st 0 4 27), (27, zi_ld 1 0 28), (28, zi_callV mX1_asIs 16 1 31), (31, zi_ld 0 1 32), (32, zi_ld 0 2 33), (33, zi_ld 0 3 34), (34, zi_callV mX3_best 17 4 37), (37, zi_st 0 5 39), (39, zi_ld 0 5 41), (41, zi_push (zvi (-1)) 42), (42, zi_cmp zc_eq 127 45), (45, zi_ld 0 5 47), (47, zi_push (zvi (-1)) 48), (48, zi_cmp zc_eq 102 51), (51, zi_ld 1 0 52), (52, zi_getR 16 16 55), (55, zi_ld 1 0 56), (56, zi_getR 16 8 59), (59, zi_getR 17 0 62), (62, zi_ld 0 5 64), (64, zi_aldR 65), (65, zi_getI 22 0 68), (68, zi_push (zvi 1) 69), (69, zi_astB 70), (70, zi_ld 1 0 71), (71, zi_getR 16 14 74), (74, zi_ld 0 4 76), (76, zi_ld 1 0 77), (77, zi_getR 16 8 80), (80, zi_getR 17 2 83), (83, zi_ld 0 5 85), (85, zi_ald 1 86), (86, zi_ast 87), (87, zi_ld 1 0 88), (88, zi_getR 16 8 91), (91, zi_getR 17 5 94), (94, zi_ld 0 5 96), (96, zi_ald 1 97), (97, zi_st 0 5 99), (99, zi_goto 45), (102, zi_iinc 4 1 105), (105, zi_ld 1 0 106), (106, zi_getR 16 8 109), (109, zi_ld 1 0 110), (110, zi_getR 16 16 113), (113, zi_callV mX3_laysRest 17 2 116), (116, zi_ld 0 1 117), (117, zi_ld 0 2 118), (118, zi_ld 0 3 119), (119, zi_callV mX3_best 17 4 122), (122, zi_st 0 5 124), (124, zi_goto 39), (127, zi_ld 0 4 129), (129, zi_retv 0)], fun _ _ => none)
noncomputable def mX1_laysOthers : ZF := zrunM kX1_laysOthers 6
theorem enX1_laysOthers (x0 : Option Nat) (x1 : Int) (x2 : Int) (x3 : Int) (h : PH) : mX1_laysOthers [zvr x0, zvi x1, zvi x2, zvi x3] h = zev kX1_laysOthers 0 [zvr x0, zvi x1, zvi x2, zvi x3, zvu, zvu] [] h := zrunM_eq rfl rfl
theorem hdX1_laysOthers_3 (x0 x1 x2 x3 : ZV) (a : Int) (L st : List ZV) (h : PH) : zev kX1_laysOthers 3 (x0 :: x1 :: x2 :: x3 :: zvi a :: L) st h = zev kX1_laysOthers 5 (x0 :: x1 :: x2 :: x3 :: zvi a :: L) (zvi a :: st) h := e_ld4I (n := 5) rfl
theorem hdX1_laysOthers_39 (x0 x1 x2 x3 x4 : ZV) (a : Int) (L st : List ZV) (h : PH) : zev kX1_laysOthers 39 (x0 :: x1 :: x2 :: x3 :: x4 :: zvi a :: L) st h = zev kX1_laysOthers 41 (x0 :: x1 :: x2 :: x3 :: x4 :: zvi a :: L) (zvi a :: st) h := e_ld5I (n := 41) rfl
theorem hdX1_laysOthers_45 (x0 x1 x2 x3 x4 : ZV) (a : Int) (L st : List ZV) (h : PH) : zev kX1_laysOthers 45 (x0 :: x1 :: x2 :: x3 :: x4 :: zvi a :: L) st h = zev kX1_laysOthers 47 (x0 :: x1 :: x2 :: x3 :: x4 :: zvi a :: L) (zvi a :: st) h := e_ld5I (n := 47) rfl
theorem rX1_laysOthers : (∀ (L st : List ZV) (h : PH), zev kX1_laysOthers 0 L st h = zev kX1_laysOthers 1 L (zvi 0 :: st) h) ∧
  (∀ (x0 x1 x2 x3 x4 : ZV) (a : Int) (L st : List ZV) (h : PH) (hx : zisL x3 = false) , zev kX1_laysOthers 1 (x0 :: x1 :: x2 :: x3 :: x4 :: L) (zvi a :: st) h = zev kX1_laysOthers 3 (x0 :: x1 :: x2 :: x3 :: zvi a :: L) st h) ∧
  (∀ (L st : List ZV) (h : PH), zev kX1_laysOthers 5 L st h = zev kX1_laysOthers 7 L (zvi 120 :: st) h) ∧
  (∀ (a b : Int) (L st : List ZV) (h : PH), zev kX1_laysOthers 7 L (zvi b :: zvi a :: st) h = if a ≥ b then zev kX1_laysOthers 24 L st h else zev kX1_laysOthers 10 L st h) ∧
  (∀ (a : Option Nat) (L st : List ZV) (h : PH), zev kX1_laysOthers 10 (zvr a :: L) st h = zev kX1_laysOthers 11 (zvr a :: L) (zvr a :: st) h) ∧
  (∀ (q : Nat) (L st : List ZV) (h : PH), zev kX1_laysOthers 11 L (zvr (some q) :: st) h = if (ph_K h q).1 % 1000 = 16 then zev kX1_laysOthers 14 L (zvr (ph_R h q 16) :: st) h else none) ∧
  (∀ (x0 x1 x2 x3 : ZV) (a : Int) (L st : List ZV) (h : PH), zev kX1_laysOthers 14 (x0 :: x1 :: x2 :: x3 :: zvi a :: L) st h = zev kX1_laysOthers 16 (x0 :: x1 :: x2 :: x3 :: zvi a :: L) (zvi a :: st) h) ∧
  (∀ (L st : List ZV) (h : PH), zev kX1_laysOthers 16 L st h = zev kX1_laysOthers 17 L (zvi 0 :: st) h) ∧
  (∀ (x j : Int) (q : Nat) (L st : List ZV) (h : PH), zev kX1_laysOthers 17 L (zvi x :: zvi j :: zvr (some q) :: st) h = if (ph_K h q).1 = 2 ∧ 0 ≤ j ∧ j < (ph_K h q).2 then zev kX1_laysOthers 18 L st (st_I h q j (zi2b x)) else none) ∧
  (∀ (x0 x1 x2 x3 : ZV) (a : Int) (L st : List ZV) (h : PH) (hx : zisL x3 = false) , zev kX1_laysOthers 18 (x0 :: x1 :: x2 :: x3 :: zvi a :: L) st h = zev kX1_laysOthers 21 (x0 :: x1 :: x2 :: x3 :: zvi (w32 (a + 1)) :: L) st h) ∧
  (∀ (L st : List ZV) (h : PH), zev kX1_laysOthers 21 L st h = zev kX1_laysOthers 3 L st h) ∧
  (∀ (L st : List ZV) (h : PH), zev kX1_laysOthers 24 L st h = zev kX1_laysOthers 25 L (zvi 0 :: st) h) ∧
  (∀ (x0 x1 x2 x3 x4 : ZV) (a : Int) (L st : List ZV) (h : PH) (hx : zisL x3 = false) , zev kX1_laysOthers 25 (x0 :: x1 :: x2 :: x3 :: x4 :: L) (zvi a :: st) h = zev kX1_laysOthers 27 (x0 :: x1 :: x2 :: x3 :: zvi a :: L) st h) ∧
  (∀ (a : Option Nat) (L st : List ZV) (h : PH), zev kX1_laysOthers 27 (zvr a :: L) st h = zev kX1_laysOthers 28 (zvr a :: L) (zvr a :: st) h) ∧
  (∀ (q : Nat) (L st : List ZV) (h : PH), zev kX1_laysOthers 28 L (zvr (some q) :: st) h = if (ph_K h q).1 % 1000 = 16 ∧ zcat st ≤ 8 then zk kX1_laysOthers 28 31 L st (mX1_asIs [zvr (some q)] h) else none) ∧
  (∀ (x0 : ZV) (a : Int) (L st : List ZV) (h : PH), zev kX1_laysOthers 31 (x0 :: zvi a :: L) st h = zev kX1_laysOthers 32 (x0 :: zvi a :: L) (zvi a :: st) h) ∧
  (∀ (x0 x1 : ZV) (a : Int) (L st : List ZV) (h : PH), zev kX1_laysOthers 32 (x0 :: x1 :: zvi a :: L) st h = zev kX1_laysOthers 33 (x0 :: x1 :: zvi a :: L) (zvi a :: st) h) ∧
  (∀ (x0 x1 x2 : ZV) (a : Int) (L st : List ZV) (h : PH), zev kX1_laysOthers 33 (x0 :: x1 :: x2 :: zvi a :: L) st h = zev kX1_laysOthers 34 (x0 :: x1 :: x2 :: zvi a :: L) (zvi a :: st) h) ∧
  (∀ (v0 v1 v2 : ZV) (q : Nat) (L st : List ZV) (h : PH), zev kX1_laysOthers 34 L (v2 :: v1 :: v0 :: zvr (some q) :: st) h = if (ph_K h q).1 % 1000 = 17 ∧ zcat st ≤ 8 then zk kX1_laysOthers 34 37 L st (mX3_best [zvr (some q), v0, v1, v2] h) else none) ∧
  (∀ (x0 x1 x2 x3 x4 x5 : ZV) (a : Int) (L st : List ZV) (h : PH) (hx : zisL x4 = false) , zev kX1_laysOthers 37 (x0 :: x1 :: x2 :: x3 :: x4 :: x5 :: L) (zvi a :: st) h = zev kX1_laysOthers 39 (x0 :: x1 :: x2 :: x3 :: x4 :: zvi a :: L) st h) ∧
  (∀ (L st : List ZV) (h : PH), zev kX1_laysOthers 41 L st h = zev kX1_laysOthers 42 L (zvi (-1) :: st) h) ∧
  (∀ (a b : Int) (L st : List ZV) (h : PH), zev kX1_laysOthers 42 L (zvi b :: zvi a :: st) h = if a = b then zev kX1_laysOthers 127 L st h else zev kX1_laysOthers 45 L st h) ∧
  (∀ (L st : List ZV) (h : PH), zev kX1_laysOthers 47 L st h = zev kX1_laysOthers 48 L (zvi (-1) :: st) h) ∧
  (∀ (a b : Int) (L st : List ZV) (h : PH), zev kX1_laysOthers 48 L (zvi b :: zvi a :: st) h = if a = b then zev kX1_laysOthers 102 L st h else zev kX1_laysOthers 51 L st h) ∧
  (∀ (a : Option Nat) (L st : List ZV) (h : PH), zev kX1_laysOthers 51 (zvr a :: L) st h = zev kX1_laysOthers 52 (zvr a :: L) (zvr a :: st) h) ∧
  (∀ (q : Nat) (L st : List ZV) (h : PH), zev kX1_laysOthers 52 L (zvr (some q) :: st) h = if (ph_K h q).1 % 1000 = 16 then zev kX1_laysOthers 55 L (zvr (ph_R h q 16) :: st) h else none) ∧
  (∀ (a : Option Nat) (L st : List ZV) (h : PH), zev kX1_laysOthers 55 (zvr a :: L) st h = zev kX1_laysOthers 56 (zvr a :: L) (zvr a :: st) h) ∧
  (∀ (q : Nat) (L st : List ZV) (h : PH), zev kX1_laysOthers 56 L (zvr (some q) :: st) h = if (ph_K h q).1 % 1000 = 16 then zev kX1_laysOthers 59 L (zvr (ph_R h q 8) :: st) h else none) ∧
  (∀ (q : Nat) (L st : List ZV) (h : PH), zev kX1_laysOthers 59 L (zvr (some q) :: st) h = if (ph_K h q).1 % 1000 = 17 then zev kX1_laysOthers 62 L (zvr (ph_R h q 0) :: st) h else none) ∧
  (∀ (x0 x1 x2 x3 x4 : ZV) (a : Int) (L st : List ZV) (h : PH), zev kX1_laysOthers 62 (x0 :: x1 :: x2 :: x3 :: x4 :: zvi a :: L) st h = zev kX1_laysOthers 64 (x0 :: x1 :: x2 :: x3 :: x4 :: zvi a :: L) (zvi a :: st) h) ∧
  (∀ (j : Int) (q : Nat) (L st : List ZV) (h : PH), zev kX1_laysOthers 64 L (zvi j :: zvr (some q) :: st) h = if 5 ≤ (ph_K h q).1 % 1000 ∧ (ph_K h q).1 % 1000 ≤ 7 ∧ 0 ≤ j ∧ j < (ph_K h q).2 then zev kX1_laysOthers 65 L (zvr (ph_R h q j) :: st) h else none) ∧
  (∀ (q : Nat) (L st : List ZV) (h : PH), zev kX1_laysOthers 65 L (zvr (some q) :: st) h = if (ph_K h q).1 % 1000 = 22 then zev kX1_laysOthers 68 L (zvi (ph_I h q 0) :: st) h else none) ∧
  (∀ (L st : List ZV) (h : PH), zev kX1_laysOthers 68 L st h = zev kX1_laysOthers 69 L (zvi 1 :: st) h) ∧
  (∀ (x j : Int) (q : Nat) (L st : List ZV) (h : PH), zev kX1_laysOthers 69 L (zvi x :: zvi j :: zvr (some q) :: st) h = if (ph_K h q).1 = 2 ∧ 0 ≤ j ∧ j < (ph_K h q).2 then zev kX1_laysOthers 70 L st (st_I h q j (zi2b x)) else none) ∧
  (∀ (a : Option Nat) (L st : List ZV) (h : PH), zev kX1_laysOthers 70 (zvr a :: L) st h = zev kX1_laysOthers 71 (zvr a :: L) (zvr a :: st) h) ∧
  (∀ (q : Nat) (L st : List ZV) (h : PH), zev kX1_laysOthers 71 L (zvr (some q) :: st) h = if (ph_K h q).1 % 1000 = 16 then zev kX1_laysOthers 74 L (zvr (ph_R h q 14) :: st) h else none) ∧
  (∀ (x0 x1 x2 x3 : ZV) (a : Int) (L st : List ZV) (h : PH), zev kX1_laysOthers 74 (x0 :: x1 :: x2 :: x3 :: zvi a :: L) st h = zev kX1_laysOthers 76 (x0 :: x1 :: x2 :: x3 :: zvi a :: L) (zvi a :: st) h) ∧
  (∀ (a : Option Nat) (L st : List ZV) (h : PH), zev kX1_laysOthers 76 (zvr a :: L) st h = zev kX1_laysOthers 77 (zvr a :: L) (zvr a :: st) h) ∧
  (∀ (q : Nat) (L st : List ZV) (h : PH), zev kX1_laysOthers 77 L (zvr (some q) :: st) h = if (ph_K h q).1 % 1000 = 16 then zev kX1_laysOthers 80 L (zvr (ph_R h q 8) :: st) h else none) ∧
  (∀ (q : Nat) (L st : List ZV) (h : PH), zev kX1_laysOthers 80 L (zvr (some q) :: st) h = if (ph_K h q).1 % 1000 = 17 then zev kX1_laysOthers 83 L (zvr (ph_R h q 2) :: st) h else none) ∧
  (∀ (x0 x1 x2 x3 x4 : ZV) (a : Int) (L st : List ZV) (h : PH), zev kX1_laysOthers 83 (x0 :: x1 :: x2 :: x3 :: x4 :: zvi a :: L) st h = zev kX1_laysOthers 85 (x0 :: x1 :: x2 :: x3 :: x4 :: zvi a :: L) (zvi a :: st) h) ∧
  (∀ (j : Int) (q : Nat) (L st : List ZV) (h : PH), zev kX1_laysOthers 85 L (zvi j :: zvr (some q) :: st) h = if (ph_K h q).1 % 1000 = 1 ∧ 0 ≤ j ∧ j < (ph_K h q).2 then zev kX1_laysOthers 86 L (zvi (ph_I h q j) :: st) h else none) ∧
  (∀ (x j : Int) (q : Nat) (L st : List ZV) (h : PH), zev kX1_laysOthers 86 L (zvi x :: zvi j :: zvr (some q) :: st) h = if (ph_K h q).1 = 1 ∧ 0 ≤ j ∧ j < (ph_K h q).2 then zev kX1_laysOthers 87 L st (st_I h q j x) else none) ∧
  (∀ (a : Option Nat) (L st : List ZV) (h : PH), zev kX1_laysOthers 87 (zvr a :: L) st h = zev kX1_laysOthers 88 (zvr a :: L) (zvr a :: st) h) ∧
  (∀ (q : Nat) (L st : List ZV) (h : PH), zev kX1_laysOthers 88 L (zvr (some q) :: st) h = if (ph_K h q).1 % 1000 = 16 then zev kX1_laysOthers 91 L (zvr (ph_R h q 8) :: st) h else none) ∧
  (∀ (q : Nat) (L st : List ZV) (h : PH), zev kX1_laysOthers 91 L (zvr (some q) :: st) h = if (ph_K h q).1 % 1000 = 17 then zev kX1_laysOthers 94 L (zvr (ph_R h q 5) :: st) h else none) ∧
  (∀ (x0 x1 x2 x3 x4 : ZV) (a : Int) (L st : List ZV) (h : PH), zev kX1_laysOthers 94 (x0 :: x1 :: x2 :: x3 :: x4 :: zvi a :: L) st h = zev kX1_laysOthers 96 (x0 :: x1 :: x2 :: x3 :: x4 :: zvi a :: L) (zvi a :: st) h) ∧
  (∀ (j : Int) (q : Nat) (L st : List ZV) (h : PH), zev kX1_laysOthers 96 L (zvi j :: zvr (some q) :: st) h = if (ph_K h q).1 % 1000 = 1 ∧ 0 ≤ j ∧ j < (ph_K h q).2 then zev kX1_laysOthers 97 L (zvi (ph_I h q j) :: st) h else none) ∧
  (∀ (x0 x1 x2 x3 x4 x5 : ZV) (a : Int) (L st : List ZV) (h : PH) (hx : zisL x4 = false) , zev kX1_laysOthers 97 (x0 :: x1 :: x2 :: x3 :: x4 :: x5 :: L) (zvi a :: st) h = zev kX1_laysOthers 99 (x0 :: x1 :: x2 :: x3 :: x4 :: zvi a :: L) st h) ∧
  (∀ (L st : List ZV) (h : PH), zev kX1_laysOthers 99 L st h = zev kX1_laysOthers 45 L st h) ∧
  (∀ (x0 x1 x2 x3 : ZV) (a : Int) (L st : List ZV) (h : PH) (hx : zisL x3 = false) , zev kX1_laysOthers 102 (x0 :: x1 :: x2 :: x3 :: zvi a :: L) st h = zev kX1_laysOthers 105 (x0 :: x1 :: x2 :: x3 :: zvi (w32 (a + 1)) :: L) st h) ∧
  (∀ (a : Option Nat) (L st : List ZV) (h : PH), zev kX1_laysOthers 105 (zvr a :: L) st h = zev kX1_laysOthers 106 (zvr a :: L) (zvr a :: st) h) ∧
  (∀ (q : Nat) (L st : List ZV) (h : PH), zev kX1_laysOthers 106 L (zvr (some q) :: st) h = if (ph_K h q).1 % 1000 = 16 then zev kX1_laysOthers 109 L (zvr (ph_R h q 8) :: st) h else none) ∧
  (∀ (a : Option Nat) (L st : List ZV) (h : PH), zev kX1_laysOthers 109 (zvr a :: L) st h = zev kX1_laysOthers 110 (zvr a :: L) (zvr a :: st) h) ∧
  (∀ (q : Nat) (L st : List ZV) (h : PH), zev kX1_laysOthers 110 L (zvr (some q) :: st) h = if (ph_K h q).1 % 1000 = 16 then zev kX1_laysOthers 113 L (zvr (ph_R h q 16) :: st) h else none) ∧
  (∀ (v0 : ZV) (q : Nat) (L st : List ZV) (h : PH), zev kX1_laysOthers 113 L (v0 :: zvr (some q) :: st) h = if (ph_K h q).1 % 1000 = 17 ∧ zcat st ≤ 8 then zk kX1_laysOthers 113 116 L st (mX3_laysRest [zvr (some q), v0] h) else none) ∧
  (∀ (x0 : ZV) (a : Int) (L st : List ZV) (h : PH), zev kX1_laysOthers 116 (x0 :: zvi a :: L) st h = zev kX1_laysOthers 117 (x0 :: zvi a :: L) (zvi a :: st) h) ∧
  (∀ (x0 x1 : ZV) (a : Int) (L st : List ZV) (h : PH), zev kX1_laysOthers 117 (x0 :: x1 :: zvi a :: L) st h = zev kX1_laysOthers 118 (x0 :: x1 :: zvi a :: L) (zvi a :: st) h) ∧
  (∀ (x0 x1 x2 : ZV) (a : Int) (L st : List ZV) (h : PH), zev kX1_laysOthers 118 (x0 :: x1 :: x2 :: zvi a :: L) st h = zev kX1_laysOthers 119 (x0 :: x1 :: x2 :: zvi a :: L) (zvi a :: st) h) ∧
  (∀ (v0 v1 v2 : ZV) (q : Nat) (L st : List ZV) (h : PH), zev kX1_laysOthers 119 L (v2 :: v1 :: v0 :: zvr (some q) :: st) h = if (ph_K h q).1 % 1000 = 17 ∧ zcat st ≤ 8 then zk kX1_laysOthers 119 122 L st (mX3_best [zvr (some q), v0, v1, v2] h) else none) ∧
  (∀ (x0 x1 x2 x3 x4 x5 : ZV) (a : Int) (L st : List ZV) (h : PH) (hx : zisL x4 = false) , zev kX1_laysOthers 122 (x0 :: x1 :: x2 :: x3 :: x4 :: x5 :: L) (zvi a :: st) h = zev kX1_laysOthers 124 (x0 :: x1 :: x2 :: x3 :: x4 :: zvi a :: L) st h) ∧
  (∀ (L st : List ZV) (h : PH), zev kX1_laysOthers 124 L st h = zev kX1_laysOthers 39 L st h) ∧
  (∀ (x0 x1 x2 x3 : ZV) (a : Int) (L st : List ZV) (h : PH), zev kX1_laysOthers 127 (x0 :: x1 :: x2 :: x3 :: zvi a :: L) st h = zev kX1_laysOthers 129 (x0 :: x1 :: x2 :: x3 :: zvi a :: L) (zvi a :: st) h) ∧
  (∀ (a : Int) (L : List ZV) (h : PH), zev kX1_laysOthers 129 L [zvi a] h = zrv (zvi a) h) :=
  ⟨fun L st h => e_push (v := zvi 0) (n := 1) rfl,
  fun x0 x1 x2 x3 x4 a L st h hx => e_st4I (n := 3) rfl hx,
  fun L st h => e_push (v := zvi 120) (n := 7) rfl,
  fun a b L st h => e_cmpge (t := 24) (n := 10) rfl,
  fun a L st h => e_ld0R (n := 11) rfl,
  fun q L st h => e_getR (kd := 16) (k := 16) (n := 14) rfl,
  fun x0 x1 x2 x3 a L st h => e_ld4I (n := 16) rfl,
  fun L st h => e_push (v := zvi 0) (n := 17) rfl,
  fun x j q L st h => e_astB (n := 18) rfl,
  fun x0 x1 x2 x3 a L st h hx => e_iinc4 (d := 1) (n := 21) rfl hx,
  fun L st h => e_goto (t := 3) rfl,
  fun L st h => e_push (v := zvi 0) (n := 25) rfl,
  fun x0 x1 x2 x3 x4 a L st h hx => e_st4I (n := 27) rfl hx,
  fun a L st h => e_ld0R (n := 28) rfl,
  fun q L st h => e_callV1 (F := mX1_asIs) (kd := 16) (n := 31) rfl,
  fun x0 a L st h => e_ld1I (n := 32) rfl,
  fun x0 x1 a L st h => e_ld2I (n := 33) rfl,
  fun x0 x1 x2 a L st h => e_ld3I (n := 34) rfl,
  fun v0 v1 v2 q L st h => e_callV4 (F := mX3_best) (kd := 17) (n := 37) rfl,
  fun x0 x1 x2 x3 x4 x5 a L st h hx => e_st5I (n := 39) rfl hx,
  fun L st h => e_push (v := zvi (-1)) (n := 42) rfl,
  fun a b L st h => e_cmpeq (t := 127) (n := 45) rfl,
  fun L st h => e_push (v := zvi (-1)) (n := 48) rfl,
  fun a b L st h => e_cmpeq (t := 102) (n := 51) rfl,
  fun a L st h => e_ld0R (n := 52) rfl,
  fun q L st h => e_getR (kd := 16) (k := 16) (n := 55) rfl,
  fun a L st h => e_ld0R (n := 56) rfl,
  fun q L st h => e_getR (kd := 16) (k := 8) (n := 59) rfl,
  fun q L st h => e_getR (kd := 17) (k := 0) (n := 62) rfl,
  fun x0 x1 x2 x3 x4 a L st h => e_ld5I (n := 64) rfl,
  fun j q L st h => e_aldR (n := 65) rfl,
  fun q L st h => e_getI (kd := 22) (k := 0) (n := 68) rfl,
  fun L st h => e_push (v := zvi 1) (n := 69) rfl,
  fun x j q L st h => e_astB (n := 70) rfl,
  fun a L st h => e_ld0R (n := 71) rfl,
  fun q L st h => e_getR (kd := 16) (k := 14) (n := 74) rfl,
  fun x0 x1 x2 x3 a L st h => e_ld4I (n := 76) rfl,
  fun a L st h => e_ld0R (n := 77) rfl,
  fun q L st h => e_getR (kd := 16) (k := 8) (n := 80) rfl,
  fun q L st h => e_getR (kd := 17) (k := 2) (n := 83) rfl,
  fun x0 x1 x2 x3 x4 a L st h => e_ld5I (n := 85) rfl,
  fun j q L st h => e_ald (kd := 1) (n := 86) rfl,
  fun x j q L st h => e_ast (n := 87) rfl,
  fun a L st h => e_ld0R (n := 88) rfl,
  fun q L st h => e_getR (kd := 16) (k := 8) (n := 91) rfl,
  fun q L st h => e_getR (kd := 17) (k := 5) (n := 94) rfl,
  fun x0 x1 x2 x3 x4 a L st h => e_ld5I (n := 96) rfl,
  fun j q L st h => e_ald (kd := 1) (n := 97) rfl,
  fun x0 x1 x2 x3 x4 x5 a L st h hx => e_st5I (n := 99) rfl hx,
  fun L st h => e_goto (t := 45) rfl,
  fun x0 x1 x2 x3 a L st h hx => e_iinc4 (d := 1) (n := 105) rfl hx,
  fun a L st h => e_ld0R (n := 106) rfl,
  fun q L st h => e_getR (kd := 16) (k := 8) (n := 109) rfl,
  fun a L st h => e_ld0R (n := 110) rfl,
  fun q L st h => e_getR (kd := 16) (k := 16) (n := 113) rfl,
  fun v0 q L st h => e_callV2 (F := mX3_laysRest) (kd := 17) (n := 116) rfl,
  fun x0 a L st h => e_ld1I (n := 117) rfl,
  fun x0 x1 a L st h => e_ld2I (n := 118) rfl,
  fun x0 x1 x2 a L st h => e_ld3I (n := 119) rfl,
  fun v0 v1 v2 q L st h => e_callV4 (F := mX3_best) (kd := 17) (n := 122) rfl,
  fun x0 x1 x2 x3 x4 x5 a L st h hx => e_st5I (n := 124) rfl hx,
  fun L st h => e_goto (t := 39) rfl,
  fun x0 x1 x2 x3 a L st h => e_ld4I (n := 129) rfl,
  fun a L h => e_retI rfl⟩
theorem allX1_laysOthers : zall yX1_laysOthers cX1_laysOthers 6 (some .int) 9 kX1_laysOthers.1 :=
  ⟨k_iconst dX1_laysOthers_0,
  k_istore dX1_laysOthers_1,
  k_iload dX1_laysOthers_3,
  k_bipush dX1_laysOthers_5,
  k_cmpge (t := 24) dX1_laysOthers_7 (by decide),
  k_aload_n dX1_laysOthers_10,
  k_getR (C := RX1) (T := TX1) (N := 19) (ci := 0) (k := 16) (ref := "LinkTimes") dX1_laysOthers_11 rfl in_X1 (by decide) q319 (Or.inl rfl) (fun _ _ _ => rfl),
  k_iload dX1_laysOthers_14,
  k_iconst dX1_laysOthers_16,
  k_bast dX1_laysOthers_17,
  k_iinc dX1_laysOthers_18,
  k_goto (t := 3) dX1_laysOthers_21 (by decide),
  k_iconst dX1_laysOthers_24,
  k_istore dX1_laysOthers_25,
  k_aload_n dX1_laysOthers_27,
  k_callV (y2 := yX1_asIs) (C := RX1) (T0 := TX1) (ci := 0) dX1_laysOthers_28 sndX1_asIs rfl q1338 q1340 qs37 q128 q1341 (by decide +kernel) ⟨by decide, by decide⟩ (by decide) (by decide),
  k_iload_n dX1_laysOthers_31,
  k_iload_n dX1_laysOthers_32,
  k_iload_n dX1_laysOthers_33,
  k_callV (y2 := yX3_best) (C := RX3) (T0 := TX3) (ci := 1) dX1_laysOthers_34 sndX3_best rfl q1380 q1381 q1382 q136 q1383 (by decide +kernel) ⟨by decide, by decide⟩ (by decide) (by decide),
  k_istore dX1_laysOthers_37,
  k_iload dX1_laysOthers_39,
  k_iconst dX1_laysOthers_41,
  k_cmpeq (t := 127) dX1_laysOthers_42 (by decide),
  k_iload dX1_laysOthers_45,
  k_iconst dX1_laysOthers_47,
  k_cmpeq (t := 102) dX1_laysOthers_48 (by decide),
  k_aload_n dX1_laysOthers_51,
  k_getR (C := RX1) (T := TX1) (N := 19) (ci := 0) (k := 16) (ref := "LinkTimes") dX1_laysOthers_52 rfl in_X1 (by decide) q319 (Or.inl rfl) (fun _ _ _ => rfl),
  k_aload_n dX1_laysOthers_55,
  k_getR (C := RX1) (T := TX1) (N := 19) (ci := 0) (k := 8) (ref := "LinkTimes") dX1_laysOthers_56 rfl in_X1 (by decide) q311 (Or.inl rfl) (fun _ _ _ => rfl),
  k_getRN (C := RX3) (T := TX3) (N := 9) (ci := 1) (k := 0) (ref := "LinkTimes$Search") dX1_laysOthers_59 rfl in_X3 (by decide) q266 (Or.inl rfl) (fun _ _ _ => rfl),
  k_iload dX1_laysOthers_62,
  k_aald dX1_laysOthers_64,
  k_getIN (C := RX11) (T := TX11) (N := 9) (ci := 6) (k := 0) (ref := "LinkTimes$Departure") dX1_laysOthers_65 rfl in_X11 (by decide) q851 (Or.inl rfl) (fun _ _ _ => rfl),
  k_iconst dX1_laysOthers_68,
  k_bast dX1_laysOthers_69,
  k_aload_n dX1_laysOthers_70,
  k_getR (C := RX1) (T := TX1) (N := 19) (ci := 0) (k := 14) (ref := "LinkTimes") dX1_laysOthers_71 rfl in_X1 (by decide) q317 (Or.inl rfl) (fun _ _ _ => rfl),
  k_iload dX1_laysOthers_74,
  k_aload_n dX1_laysOthers_76,
  k_getR (C := RX1) (T := TX1) (N := 19) (ci := 0) (k := 8) (ref := "LinkTimes") dX1_laysOthers_77 rfl in_X1 (by decide) q311 (Or.inl rfl) (fun _ _ _ => rfl),
  k_getRN (C := RX3) (T := TX3) (N := 9) (ci := 1) (k := 2) (ref := "LinkTimes$Search") dX1_laysOthers_80 rfl in_X3 (by decide) q270 (Or.inl rfl) (fun _ _ _ => rfl),
  k_iload dX1_laysOthers_83,
  k_iald dX1_laysOthers_85,
  k_iast dX1_laysOthers_86,
  k_aload_n dX1_laysOthers_87,
  k_getR (C := RX1) (T := TX1) (N := 19) (ci := 0) (k := 8) (ref := "LinkTimes") dX1_laysOthers_88 rfl in_X1 (by decide) q311 (Or.inl rfl) (fun _ _ _ => rfl),
  k_getRN (C := RX3) (T := TX3) (N := 9) (ci := 1) (k := 5) (ref := "LinkTimes$Search") dX1_laysOthers_91 rfl in_X3 (by decide) q276 (Or.inl rfl) (fun _ _ _ => rfl),
  k_iload dX1_laysOthers_94,
  k_iald dX1_laysOthers_96,
  k_istore dX1_laysOthers_97,
  k_goto (t := 45) dX1_laysOthers_99 (by decide),
  k_iinc dX1_laysOthers_102,
  k_aload_n dX1_laysOthers_105,
  k_getR (C := RX1) (T := TX1) (N := 19) (ci := 0) (k := 8) (ref := "LinkTimes") dX1_laysOthers_106 rfl in_X1 (by decide) q311 (Or.inl rfl) (fun _ _ _ => rfl),
  k_aload_n dX1_laysOthers_109,
  k_getR (C := RX1) (T := TX1) (N := 19) (ci := 0) (k := 16) (ref := "LinkTimes") dX1_laysOthers_110 rfl in_X1 (by decide) q319 (Or.inl rfl) (fun _ _ _ => rfl),
  k_callV (y2 := yX3_laysRest) (C := RX3) (T0 := TX3) (ci := 1) dX1_laysOthers_113 sndX3_laysRest rfl q1513 q1514 q1515 q136 q1516 (by decide +kernel) ⟨by decide, by decide⟩ (by decide) (by decide),
  k_iload_n dX1_laysOthers_116,
  k_iload_n dX1_laysOthers_117,
  k_iload_n dX1_laysOthers_118,
  k_callV (y2 := yX3_best) (C := RX3) (T0 := TX3) (ci := 1) dX1_laysOthers_119 sndX3_best rfl q1380 q1381 q1382 q136 q1383 (by decide +kernel) ⟨by decide, by decide⟩ (by decide) (by decide),
  k_istore dX1_laysOthers_122,
  k_goto (t := 39) dX1_laysOthers_124 (by decide),
  k_iload dX1_laysOthers_127,
  k_iret dX1_laysOthers_129, trivial⟩
theorem sndX1_laysOthers : MSound 9 yX1_laysOthers (ws_ yX1_laysOthers cX1_laysOthers 6 (some .int)) mX1_laysOthers := msound_M (by decide) allX1_laysOthers (fun _ _ => rfl)
/-! LinkTimes.others(III)I -/
noncomputable def kX1_others : ZM := ([(0, zi_ld 1 0 1), (1, zi_ld 0 1 2), (2, zi_ld 0 2 3), (3, zi_ld 0 3 4), (4, zi_callV mX1_refusesTwo 16 4 7), (7, zi_st 0 4 9), (9, zi_ld 0 4 11), (11, zi_if (fun a => zc_le a 0) 23 14), (14, zi_ld 1 0 15), (15, zi_ld 0 4 17), (17, zi_callV mX1_refused 16 2 20), (20, zi_goto 34), (23, zi_ld 1 0 24), (24, zi_ld 1 0 25), (25, zi_ld 0 1 26), (26, zi_ld 0 2 27), (27, zi_ld 0 3 28), (28, zi_callV mX1_laysOthers 16 4 31), (31, zi_callV mX1_fine 16 2 34), (34, zi_retv 0)], fun _ _ => none)
noncomputable def mX1_others : ZF := zrunM kX1_others 5
theorem enX1_others (x0 : Option Nat) (x1 : Int) (x2 : Int) (x3 : Int) (h : PH) : mX1_others [zvr x0, zvi x1, zvi x2, zvi x3] h = zev kX1_others 0 [zvr x0, zvi x1, zvi x2, zvi x3, zvu] [] h := zrunM_eq rfl rfl
theorem rX1_others : (∀ (a : Option Nat) (L st : List ZV) (h : PH), zev kX1_others 0 (zvr a :: L) st h = zev kX1_others 1 (zvr a :: L) (zvr a :: st) h) ∧
  (∀ (x0 : ZV) (a : Int) (L st : List ZV) (h : PH), zev kX1_others 1 (x0 :: zvi a :: L) st h = zev kX1_others 2 (x0 :: zvi a :: L) (zvi a :: st) h) ∧
  (∀ (x0 x1 : ZV) (a : Int) (L st : List ZV) (h : PH), zev kX1_others 2 (x0 :: x1 :: zvi a :: L) st h = zev kX1_others 3 (x0 :: x1 :: zvi a :: L) (zvi a :: st) h) ∧
  (∀ (x0 x1 x2 : ZV) (a : Int) (L st : List ZV) (h : PH), zev kX1_others 3 (x0 :: x1 :: x2 :: zvi a :: L) st h = zev kX1_others 4 (x0 :: x1 :: x2 :: zvi a :: L) (zvi a :: st) h) ∧
  (∀ (v0 v1 v2 : ZV) (q : Nat) (L st : List ZV) (h : PH), zev kX1_others 4 L (v2 :: v1 :: v0 :: zvr (some q) :: st) h = if (ph_K h q).1 % 1000 = 16 ∧ zcat st ≤ 8 then zk kX1_others 4 7 L st (mX1_refusesTwo [zvr (some q), v0, v1, v2] h) else none) ∧
  (∀ (x0 x1 x2 x3 x4 : ZV) (a : Int) (L st : List ZV) (h : PH) (hx : zisL x3 = false) , zev kX1_others 7 (x0 :: x1 :: x2 :: x3 :: x4 :: L) (zvi a :: st) h = zev kX1_others 9 (x0 :: x1 :: x2 :: x3 :: zvi a :: L) st h) ∧
  (∀ (x0 x1 x2 x3 : ZV) (a : Int) (L st : List ZV) (h : PH), zev kX1_others 9 (x0 :: x1 :: x2 :: x3 :: zvi a :: L) st h = zev kX1_others 11 (x0 :: x1 :: x2 :: x3 :: zvi a :: L) (zvi a :: st) h) ∧
  (∀ (a : Int) (L st : List ZV) (h : PH), zev kX1_others 11 L (zvi a :: st) h = if a ≤ 0 then zev kX1_others 23 L st h else zev kX1_others 14 L st h) ∧
  (∀ (a : Option Nat) (L st : List ZV) (h : PH), zev kX1_others 14 (zvr a :: L) st h = zev kX1_others 15 (zvr a :: L) (zvr a :: st) h) ∧
  (∀ (x0 x1 x2 x3 : ZV) (a : Int) (L st : List ZV) (h : PH), zev kX1_others 15 (x0 :: x1 :: x2 :: x3 :: zvi a :: L) st h = zev kX1_others 17 (x0 :: x1 :: x2 :: x3 :: zvi a :: L) (zvi a :: st) h) ∧
  (∀ (v0 : ZV) (q : Nat) (L st : List ZV) (h : PH), zev kX1_others 17 L (v0 :: zvr (some q) :: st) h = if (ph_K h q).1 % 1000 = 16 ∧ zcat st ≤ 8 then zk kX1_others 17 20 L st (mX1_refused [zvr (some q), v0] h) else none) ∧
  (∀ (L st : List ZV) (h : PH), zev kX1_others 20 L st h = zev kX1_others 34 L st h) ∧
  (∀ (a : Option Nat) (L st : List ZV) (h : PH), zev kX1_others 23 (zvr a :: L) st h = zev kX1_others 24 (zvr a :: L) (zvr a :: st) h) ∧
  (∀ (a : Option Nat) (L st : List ZV) (h : PH), zev kX1_others 24 (zvr a :: L) st h = zev kX1_others 25 (zvr a :: L) (zvr a :: st) h) ∧
  (∀ (x0 : ZV) (a : Int) (L st : List ZV) (h : PH), zev kX1_others 25 (x0 :: zvi a :: L) st h = zev kX1_others 26 (x0 :: zvi a :: L) (zvi a :: st) h) ∧
  (∀ (x0 x1 : ZV) (a : Int) (L st : List ZV) (h : PH), zev kX1_others 26 (x0 :: x1 :: zvi a :: L) st h = zev kX1_others 27 (x0 :: x1 :: zvi a :: L) (zvi a :: st) h) ∧
  (∀ (x0 x1 x2 : ZV) (a : Int) (L st : List ZV) (h : PH), zev kX1_others 27 (x0 :: x1 :: x2 :: zvi a :: L) st h = zev kX1_others 28 (x0 :: x1 :: x2 :: zvi a :: L) (zvi a :: st) h) ∧
  (∀ (v0 v1 v2 : ZV) (q : Nat) (L st : List ZV) (h : PH), zev kX1_others 28 L (v2 :: v1 :: v0 :: zvr (some q) :: st) h = if (ph_K h q).1 % 1000 = 16 ∧ zcat st ≤ 8 then zk kX1_others 28 31 L st (mX1_laysOthers [zvr (some q), v0, v1, v2] h) else none) ∧
  (∀ (v0 : ZV) (q : Nat) (L st : List ZV) (h : PH), zev kX1_others 31 L (v0 :: zvr (some q) :: st) h = if (ph_K h q).1 % 1000 = 16 ∧ zcat st ≤ 8 then zk kX1_others 31 34 L st (mX1_fine [zvr (some q), v0] h) else none) ∧
  (∀ (a : Int) (L : List ZV) (h : PH), zev kX1_others 34 L [zvi a] h = zrv (zvi a) h) :=
  ⟨fun a L st h => e_ld0R (n := 1) rfl,
  fun x0 a L st h => e_ld1I (n := 2) rfl,
  fun x0 x1 a L st h => e_ld2I (n := 3) rfl,
  fun x0 x1 x2 a L st h => e_ld3I (n := 4) rfl,
  fun v0 v1 v2 q L st h => e_callV4 (F := mX1_refusesTwo) (kd := 16) (n := 7) rfl,
  fun x0 x1 x2 x3 x4 a L st h hx => e_st4I (n := 9) rfl hx,
  fun x0 x1 x2 x3 a L st h => e_ld4I (n := 11) rfl,
  fun a L st h => e_ifle (t := 23) (n := 14) rfl,
  fun a L st h => e_ld0R (n := 15) rfl,
  fun x0 x1 x2 x3 a L st h => e_ld4I (n := 17) rfl,
  fun v0 q L st h => e_callV2 (F := mX1_refused) (kd := 16) (n := 20) rfl,
  fun L st h => e_goto (t := 34) rfl,
  fun a L st h => e_ld0R (n := 24) rfl,
  fun a L st h => e_ld0R (n := 25) rfl,
  fun x0 a L st h => e_ld1I (n := 26) rfl,
  fun x0 x1 a L st h => e_ld2I (n := 27) rfl,
  fun x0 x1 x2 a L st h => e_ld3I (n := 28) rfl,
  fun v0 v1 v2 q L st h => e_callV4 (F := mX1_laysOthers) (kd := 16) (n := 31) rfl,
  fun v0 q L st h => e_callV2 (F := mX1_fine) (kd := 16) (n := 34) rfl,
  fun a L h => e_retI rfl⟩
theorem allX1_others : zall yX1_others cX1_others 5 (some .int) 10 kX1_others.1 :=
  ⟨k_aload_n dX1_others_0,
  k_iload_n dX1_others_1,
  k_iload_n dX1_others_2,
  k_iload_n dX1_others_3,
  k_callV (y2 := yX1_refusesTwo) (C := RX1) (T0 := TX1) (ci := 0) dX1_others_4 sndX1_refusesTwo rfl q1505 q1507 qs50 q128 q1508 (by decide +kernel) ⟨by decide, by decide⟩ (by decide) (by decide),
  k_istore dX1_others_7,
  k_iload dX1_others_9,
  k_ifle (t := 23) dX1_others_11 (by decide),
  k_aload_n dX1_others_14,
  k_iload dX1_others_15,
  k_callV (y2 := yX1_refused) (C := RX1) (T0 := TX1) (ci := 0) dX1_others_17 sndX1_refused rfl q378 q380 qs1 q128 q381 (by decide +kernel) ⟨by decide, by decide⟩ (by decide) (by decide),
  k_goto (t := 34) dX1_others_20 (by decide),
  k_aload_n dX1_others_23,
  k_aload_n dX1_others_24,
  k_iload_n dX1_others_25,
  k_iload_n dX1_others_26,
  k_iload_n dX1_others_27,
  k_callV (y2 := yX1_laysOthers) (C := RX1) (T0 := TX1) (ci := 0) dX1_others_28 sndX1_laysOthers rfl q1509 q1511 qs51 q128 q1512 (by decide +kernel) ⟨by decide, by decide⟩ (by decide) (by decide),
  k_callV (y2 := yX1_fine) (C := RX1) (T0 := TX1) (ci := 0) dX1_others_31 sndX1_fine rfl q1211 q1213 qs32 q128 q1214 (by decide +kernel) ⟨by decide, by decide⟩ (by decide) (by decide),
  k_iret dX1_others_34, trivial⟩
theorem sndX1_others : MSound 10 yX1_others (ws_ yX1_others cX1_others 5 (some .int)) mX1_others := msound_M (by decide) allX1_others (fun _ _ => rfl)
/-! LinkTimes.other(IIII)I -/
noncomputable def kX1_other : ZM := ([(0, zi_ld 1 0 1), (1, zi_ld 0 1 2), (2, zi_ld 0 2 3), (3, zi_ld 0 3 4), (4, zi_callV mX1_refusesTwo 16 4 7), (7, zi_st 0 5 9), (9, zi_ld 0 5 11), (11, zi_if (fun a => zc_le a 0) 21 14), (14, zi_ld 1 0 15), (15, zi_ld 0 5 17), (17, zi_callV mX1_refused 16 2 20), (20, zi_retv 0), (21, zi_ld 1 0 22), (22, zi_ld 0 1 23), (23, zi_ld 0 2 24), (24, zi_ld 0 3 25), (25, zi_callV mX1_laysOthers 16 4 28), (28, zi_st 0 6 30), (30, zi_ld 0 4 32), (32, zi_push (zvi 0) 33), (33, zi_ld 0 6 35), (35, zi_push (zvi 1) 36), (36, zi_bin (fun a b => w32 (a - b)) 37), (37, zi_callS mX1_isIn 3 40), (40, zi_if (fun a => zc_eq a 0) 57 43), (43, zi_ld 1 0 44), (44, zi_ld 1 0 45), (45, zi_getR 16 14 48), (48, zi_ld 0 4 50), (50, zi_ald 1 51), (51, zi_callV mX1_fine 16 2 54), (54, zi_goto 62), (57, zi_ld 1 0 58), (58, zi_push (zvi 1) 59), (59, zi_callV mX1_refused 16 2 62), (62, zi_retv 0)], fun _ _ => none)
noncomputable def mX1_other : ZF := zrunM kX1_other 7
theorem enX1_other (x0 : Option Nat) (x1 : Int) (x2 : Int) (x3 : Int) (x4 : Int) (h : PH) : mX1_other [zvr x0, zvi x1, zvi x2, zvi x3, zvi x4] h = zev kX1_other 0 [zvr x0, zvi x1, zvi x2, zvi x3, zvi x4, zvu, zvu] [] h := zrunM_eq rfl rfl
theorem rX1_other : (∀ (a : Option Nat) (L st : List ZV) (h : PH), zev kX1_other 0 (zvr a :: L) st h = zev kX1_other 1 (zvr a :: L) (zvr a :: st) h) ∧
  (∀ (x0 : ZV) (a : Int) (L st : List ZV) (h : PH), zev kX1_other 1 (x0 :: zvi a :: L) st h = zev kX1_other 2 (x0 :: zvi a :: L) (zvi a :: st) h) ∧
  (∀ (x0 x1 : ZV) (a : Int) (L st : List ZV) (h : PH), zev kX1_other 2 (x0 :: x1 :: zvi a :: L) st h = zev kX1_other 3 (x0 :: x1 :: zvi a :: L) (zvi a :: st) h) ∧
  (∀ (x0 x1 x2 : ZV) (a : Int) (L st : List ZV) (h : PH), zev kX1_other 3 (x0 :: x1 :: x2 :: zvi a :: L) st h = zev kX1_other 4 (x0 :: x1 :: x2 :: zvi a :: L) (zvi a :: st) h) ∧
  (∀ (v0 v1 v2 : ZV) (q : Nat) (L st : List ZV) (h : PH), zev kX1_other 4 L (v2 :: v1 :: v0 :: zvr (some q) :: st) h = if (ph_K h q).1 % 1000 = 16 ∧ zcat st ≤ 8 then zk kX1_other 4 7 L st (mX1_refusesTwo [zvr (some q), v0, v1, v2] h) else none) ∧
  (∀ (x0 x1 x2 x3 x4 x5 : ZV) (a : Int) (L st : List ZV) (h : PH) (hx : zisL x4 = false) , zev kX1_other 7 (x0 :: x1 :: x2 :: x3 :: x4 :: x5 :: L) (zvi a :: st) h = zev kX1_other 9 (x0 :: x1 :: x2 :: x3 :: x4 :: zvi a :: L) st h) ∧
  (∀ (x0 x1 x2 x3 x4 : ZV) (a : Int) (L st : List ZV) (h : PH), zev kX1_other 9 (x0 :: x1 :: x2 :: x3 :: x4 :: zvi a :: L) st h = zev kX1_other 11 (x0 :: x1 :: x2 :: x3 :: x4 :: zvi a :: L) (zvi a :: st) h) ∧
  (∀ (a : Int) (L st : List ZV) (h : PH), zev kX1_other 11 L (zvi a :: st) h = if a ≤ 0 then zev kX1_other 21 L st h else zev kX1_other 14 L st h) ∧
  (∀ (a : Option Nat) (L st : List ZV) (h : PH), zev kX1_other 14 (zvr a :: L) st h = zev kX1_other 15 (zvr a :: L) (zvr a :: st) h) ∧
  (∀ (x0 x1 x2 x3 x4 : ZV) (a : Int) (L st : List ZV) (h : PH), zev kX1_other 15 (x0 :: x1 :: x2 :: x3 :: x4 :: zvi a :: L) st h = zev kX1_other 17 (x0 :: x1 :: x2 :: x3 :: x4 :: zvi a :: L) (zvi a :: st) h) ∧
  (∀ (v0 : ZV) (q : Nat) (L st : List ZV) (h : PH), zev kX1_other 17 L (v0 :: zvr (some q) :: st) h = if (ph_K h q).1 % 1000 = 16 ∧ zcat st ≤ 8 then zk kX1_other 17 20 L st (mX1_refused [zvr (some q), v0] h) else none) ∧
  (∀ (a : Int) (L : List ZV) (h : PH), zev kX1_other 20 L [zvi a] h = zrv (zvi a) h) ∧
  (∀ (a : Option Nat) (L st : List ZV) (h : PH), zev kX1_other 21 (zvr a :: L) st h = zev kX1_other 22 (zvr a :: L) (zvr a :: st) h) ∧
  (∀ (x0 : ZV) (a : Int) (L st : List ZV) (h : PH), zev kX1_other 22 (x0 :: zvi a :: L) st h = zev kX1_other 23 (x0 :: zvi a :: L) (zvi a :: st) h) ∧
  (∀ (x0 x1 : ZV) (a : Int) (L st : List ZV) (h : PH), zev kX1_other 23 (x0 :: x1 :: zvi a :: L) st h = zev kX1_other 24 (x0 :: x1 :: zvi a :: L) (zvi a :: st) h) ∧
  (∀ (x0 x1 x2 : ZV) (a : Int) (L st : List ZV) (h : PH), zev kX1_other 24 (x0 :: x1 :: x2 :: zvi a :: L) st h = zev kX1_other 25 (x0 :: x1 :: x2 :: zvi a :: L) (zvi a :: st) h) ∧
  (∀ (v0 v1 v2 : ZV) (q : Nat) (L st : List ZV) (h : PH), zev kX1_other 25 L (v2 :: v1 :: v0 :: zvr (some q) :: st) h = if (ph_K h q).1 % 1000 = 16 ∧ zcat st ≤ 8 then zk kX1_other 25 28 L st (mX1_laysOthers [zvr (some q), v0, v1, v2] h) else none) ∧
  (∀ (x0 x1 x2 x3 x4 x5 x6 : ZV) (a : Int) (L st : List ZV) (h : PH) (hx : zisL x5 = false) , zev kX1_other 28 (x0 :: x1 :: x2 :: x3 :: x4 :: x5 :: x6 :: L) (zvi a :: st) h = zev kX1_other 30 (x0 :: x1 :: x2 :: x3 :: x4 :: x5 :: zvi a :: L) st h) ∧
  (∀ (x0 x1 x2 x3 : ZV) (a : Int) (L st : List ZV) (h : PH), zev kX1_other 30 (x0 :: x1 :: x2 :: x3 :: zvi a :: L) st h = zev kX1_other 32 (x0 :: x1 :: x2 :: x3 :: zvi a :: L) (zvi a :: st) h) ∧
  (∀ (L st : List ZV) (h : PH), zev kX1_other 32 L st h = zev kX1_other 33 L (zvi 0 :: st) h) ∧
  (∀ (x0 x1 x2 x3 x4 x5 : ZV) (a : Int) (L st : List ZV) (h : PH), zev kX1_other 33 (x0 :: x1 :: x2 :: x3 :: x4 :: x5 :: zvi a :: L) st h = zev kX1_other 35 (x0 :: x1 :: x2 :: x3 :: x4 :: x5 :: zvi a :: L) (zvi a :: st) h) ∧
  (∀ (L st : List ZV) (h : PH), zev kX1_other 35 L st h = zev kX1_other 36 L (zvi 1 :: st) h) ∧
  (∀ (a b : Int) (L st : List ZV) (h : PH), zev kX1_other 36 L (zvi b :: zvi a :: st) h = zev kX1_other 37 L (zvi (w32 (a - b)) :: st) h) ∧
  (∀ (v0 v1 v2 : ZV) (L st : List ZV) (h : PH), zev kX1_other 37 L (v2 :: v1 :: v0 :: st) h = if zcat st ≤ 8 then zk kX1_other 37 40 L st (mX1_isIn [v0, v1, v2] h) else none) ∧
  (∀ (a : Int) (L st : List ZV) (h : PH), zev kX1_other 40 L (zvi a :: st) h = if a = 0 then zev kX1_other 57 L st h else zev kX1_other 43 L st h) ∧
  (∀ (a : Option Nat) (L st : List ZV) (h : PH), zev kX1_other 43 (zvr a :: L) st h = zev kX1_other 44 (zvr a :: L) (zvr a :: st) h) ∧
  (∀ (a : Option Nat) (L st : List ZV) (h : PH), zev kX1_other 44 (zvr a :: L) st h = zev kX1_other 45 (zvr a :: L) (zvr a :: st) h) ∧
  (∀ (q : Nat) (L st : List ZV) (h : PH), zev kX1_other 45 L (zvr (some q) :: st) h = if (ph_K h q).1 % 1000 = 16 then zev kX1_other 48 L (zvr (ph_R h q 14) :: st) h else none) ∧
  (∀ (x0 x1 x2 x3 : ZV) (a : Int) (L st : List ZV) (h : PH), zev kX1_other 48 (x0 :: x1 :: x2 :: x3 :: zvi a :: L) st h = zev kX1_other 50 (x0 :: x1 :: x2 :: x3 :: zvi a :: L) (zvi a :: st) h) ∧
  (∀ (j : Int) (q : Nat) (L st : List ZV) (h : PH), zev kX1_other 50 L (zvi j :: zvr (some q) :: st) h = if (ph_K h q).1 % 1000 = 1 ∧ 0 ≤ j ∧ j < (ph_K h q).2 then zev kX1_other 51 L (zvi (ph_I h q j) :: st) h else none) ∧
  (∀ (v0 : ZV) (q : Nat) (L st : List ZV) (h : PH), zev kX1_other 51 L (v0 :: zvr (some q) :: st) h = if (ph_K h q).1 % 1000 = 16 ∧ zcat st ≤ 8 then zk kX1_other 51 54 L st (mX1_fine [zvr (some q), v0] h) else none) ∧
  (∀ (L st : List ZV) (h : PH), zev kX1_other 54 L st h = zev kX1_other 62 L st h) ∧
  (∀ (a : Option Nat) (L st : List ZV) (h : PH), zev kX1_other 57 (zvr a :: L) st h = zev kX1_other 58 (zvr a :: L) (zvr a :: st) h) ∧
  (∀ (L st : List ZV) (h : PH), zev kX1_other 58 L st h = zev kX1_other 59 L (zvi 1 :: st) h) ∧
  (∀ (v0 : ZV) (q : Nat) (L st : List ZV) (h : PH), zev kX1_other 59 L (v0 :: zvr (some q) :: st) h = if (ph_K h q).1 % 1000 = 16 ∧ zcat st ≤ 8 then zk kX1_other 59 62 L st (mX1_refused [zvr (some q), v0] h) else none) ∧
  (∀ (a : Int) (L : List ZV) (h : PH), zev kX1_other 62 L [zvi a] h = zrv (zvi a) h) :=
  ⟨fun a L st h => e_ld0R (n := 1) rfl,
  fun x0 a L st h => e_ld1I (n := 2) rfl,
  fun x0 x1 a L st h => e_ld2I (n := 3) rfl,
  fun x0 x1 x2 a L st h => e_ld3I (n := 4) rfl,
  fun v0 v1 v2 q L st h => e_callV4 (F := mX1_refusesTwo) (kd := 16) (n := 7) rfl,
  fun x0 x1 x2 x3 x4 x5 a L st h hx => e_st5I (n := 9) rfl hx,
  fun x0 x1 x2 x3 x4 a L st h => e_ld5I (n := 11) rfl,
  fun a L st h => e_ifle (t := 21) (n := 14) rfl,
  fun a L st h => e_ld0R (n := 15) rfl,
  fun x0 x1 x2 x3 x4 a L st h => e_ld5I (n := 17) rfl,
  fun v0 q L st h => e_callV2 (F := mX1_refused) (kd := 16) (n := 20) rfl,
  fun a L h => e_retI rfl,
  fun a L st h => e_ld0R (n := 22) rfl,
  fun x0 a L st h => e_ld1I (n := 23) rfl,
  fun x0 x1 a L st h => e_ld2I (n := 24) rfl,
  fun x0 x1 x2 a L st h => e_ld3I (n := 25) rfl,
  fun v0 v1 v2 q L st h => e_callV4 (F := mX1_laysOthers) (kd := 16) (n := 28) rfl,
  fun x0 x1 x2 x3 x4 x5 x6 a L st h hx => e_st6I (n := 30) rfl hx,
  fun x0 x1 x2 x3 a L st h => e_ld4I (n := 32) rfl,
  fun L st h => e_push (v := zvi 0) (n := 33) rfl,
  fun x0 x1 x2 x3 x4 x5 a L st h => e_ld6I (n := 35) rfl,
  fun L st h => e_push (v := zvi 1) (n := 36) rfl,
  fun a b L st h => e_bin (f := (fun a b => w32 (a - b))) (n := 37) rfl,
  fun v0 v1 v2 L st h => e_callS3 (F := mX1_isIn) (n := 40) rfl,
  fun a L st h => e_ifeq (t := 57) (n := 43) rfl,
  fun a L st h => e_ld0R (n := 44) rfl,
  fun a L st h => e_ld0R (n := 45) rfl,
  fun q L st h => e_getR (kd := 16) (k := 14) (n := 48) rfl,
  fun x0 x1 x2 x3 a L st h => e_ld4I (n := 50) rfl,
  fun j q L st h => e_ald (kd := 1) (n := 51) rfl,
  fun v0 q L st h => e_callV2 (F := mX1_fine) (kd := 16) (n := 54) rfl,
  fun L st h => e_goto (t := 62) rfl,
  fun a L st h => e_ld0R (n := 58) rfl,
  fun L st h => e_push (v := zvi 1) (n := 59) rfl,
  fun v0 q L st h => e_callV2 (F := mX1_refused) (kd := 16) (n := 62) rfl,
  fun a L h => e_retI rfl⟩
theorem allX1_other : zall yX1_other cX1_other 7 (some .int) 10 kX1_other.1 :=
  ⟨k_aload_n dX1_other_0,
  k_iload_n dX1_other_1,
  k_iload_n dX1_other_2,
  k_iload_n dX1_other_3,
  k_callV (y2 := yX1_refusesTwo) (C := RX1) (T0 := TX1) (ci := 0) dX1_other_4 sndX1_refusesTwo rfl q1505 q1507 qs50 q128 q1508 (by decide +kernel) ⟨by decide, by decide⟩ (by decide) (by decide),
  k_istore dX1_other_7,
  k_iload dX1_other_9,
  k_ifle (t := 21) dX1_other_11 (by decide),
  k_aload_n dX1_other_14,
  k_iload dX1_other_15,
  k_callV (y2 := yX1_refused) (C := RX1) (T0 := TX1) (ci := 0) dX1_other_17 sndX1_refused rfl q378 q380 qs1 q128 q381 (by decide +kernel) ⟨by decide, by decide⟩ (by decide) (by decide),
  k_iret dX1_other_20,
  k_aload_n dX1_other_21,
  k_iload_n dX1_other_22,
  k_iload_n dX1_other_23,
  k_iload_n dX1_other_24,
  k_callV (y2 := yX1_laysOthers) (C := RX1) (T0 := TX1) (ci := 0) dX1_other_25 sndX1_laysOthers rfl q1509 q1511 qs51 q128 q1512 (by decide +kernel) ⟨by decide, by decide⟩ (by decide) (by decide),
  k_istore dX1_other_28,
  k_iload dX1_other_30,
  k_iconst dX1_other_32,
  k_iload dX1_other_33,
  k_iconst dX1_other_35,
  k_isub dX1_other_36,
  k_callS (y2 := yX1_isIn) dX1_other_37 sndX1_isIn q375 q376 q128 q377 (by decide +kernel) ⟨by decide, by decide⟩ (by decide) (by decide),
  k_ifeq (t := 57) dX1_other_40 (by decide),
  k_aload_n dX1_other_43,
  k_aload_n dX1_other_44,
  k_getR (C := RX1) (T := TX1) (N := 19) (ci := 0) (k := 14) (ref := "LinkTimes") dX1_other_45 rfl in_X1 (by decide) q317 (Or.inl rfl) (fun _ _ _ => rfl),
  k_iload dX1_other_48,
  k_iald dX1_other_50,
  k_callV (y2 := yX1_fine) (C := RX1) (T0 := TX1) (ci := 0) dX1_other_51 sndX1_fine rfl q1211 q1213 qs32 q128 q1214 (by decide +kernel) ⟨by decide, by decide⟩ (by decide) (by decide),
  k_goto (t := 62) dX1_other_54 (by decide),
  k_aload_n dX1_other_57,
  k_iconst dX1_other_58,
  k_callV (y2 := yX1_refused) (C := RX1) (T0 := TX1) (ci := 0) dX1_other_59 sndX1_refused rfl q378 q380 qs1 q128 q381 (by decide +kernel) ⟨by decide, by decide⟩ (by decide) (by decide),
  k_iret dX1_other_62, trivial⟩
theorem sndX1_other : MSound 10 yX1_other (ws_ yX1_other cX1_other 7 (some .int)) mX1_other := msound_M (by decide) allX1_other (fun _ _ => rfl)
/-! LinkTimes.refusesTime(I)I -/
noncomputable def kX1_refusesTime : ZM := ([(0, zi_ld 1 0 1), (1, zi_getR 16 5 4), (4, zi_nonnull 11 7), (7, zi_push (zvi 1) 8), (8, zi_goto 27), (11, zi_ld 0 1 12), (12, zi_push (zvi 0) 13), (13, zi_push (zvi 1999) 16), (16, zi_callS mX1_isIn 3 19), (19, zi_if (fun a => zc_eq a 0) 26 22), (22, zi_push (zvi 0) 23), (23, zi_goto 27), (26, zi_push (zvi 2) 27), (27, zi_retv 0)], fun _ _ => none)
noncomputable def mX1_refusesTime : ZF := zrunM kX1_refusesTime 2
theorem enX1_refusesTime (x0 : Option Nat) (x1 : Int) (h : PH) : mX1_refusesTime [zvr x0, zvi x1] h = zev kX1_refusesTime 0 [zvr x0, zvi x1] [] h := zrunM_eq rfl rfl
theorem rX1_refusesTime : (∀ (a : Option Nat) (L st : List ZV) (h : PH), zev kX1_refusesTime 0 (zvr a :: L) st h = zev kX1_refusesTime 1 (zvr a :: L) (zvr a :: st) h) ∧
  (∀ (q : Nat) (L st : List ZV) (h : PH), zev kX1_refusesTime 1 L (zvr (some q) :: st) h = if (ph_K h q).1 % 1000 = 16 then zev kX1_refusesTime 4 L (zvr (ph_R h q 5) :: st) h else none) ∧
  (∀ (L st : List ZV) (h : PH), zev kX1_refusesTime 4 L (zvr none :: st) h = zev kX1_refusesTime 7 L st h) ∧
  (∀ (q : Nat) (L st : List ZV) (h : PH), zev kX1_refusesTime 4 L (zvr (some q) :: st) h = if (ph_K h q).1 ≠ 0 then zev kX1_refusesTime 11 L st h else none) ∧
  (∀ (L st : List ZV) (h : PH), zev kX1_refusesTime 7 L st h = zev kX1_refusesTime 8 L (zvi 1 :: st) h) ∧
  (∀ (L st : List ZV) (h : PH), zev kX1_refusesTime 8 L st h = zev kX1_refusesTime 27 L st h) ∧
  (∀ (x0 : ZV) (a : Int) (L st : List ZV) (h : PH), zev kX1_refusesTime 11 (x0 :: zvi a :: L) st h = zev kX1_refusesTime 12 (x0 :: zvi a :: L) (zvi a :: st) h) ∧
  (∀ (L st : List ZV) (h : PH), zev kX1_refusesTime 12 L st h = zev kX1_refusesTime 13 L (zvi 0 :: st) h) ∧
  (∀ (L st : List ZV) (h : PH), zev kX1_refusesTime 13 L st h = zev kX1_refusesTime 16 L (zvi 1999 :: st) h) ∧
  (∀ (v0 v1 v2 : ZV) (L st : List ZV) (h : PH), zev kX1_refusesTime 16 L (v2 :: v1 :: v0 :: st) h = if zcat st ≤ 8 then zk kX1_refusesTime 16 19 L st (mX1_isIn [v0, v1, v2] h) else none) ∧
  (∀ (a : Int) (L st : List ZV) (h : PH), zev kX1_refusesTime 19 L (zvi a :: st) h = if a = 0 then zev kX1_refusesTime 26 L st h else zev kX1_refusesTime 22 L st h) ∧
  (∀ (L st : List ZV) (h : PH), zev kX1_refusesTime 22 L st h = zev kX1_refusesTime 23 L (zvi 0 :: st) h) ∧
  (∀ (L st : List ZV) (h : PH), zev kX1_refusesTime 23 L st h = zev kX1_refusesTime 27 L st h) ∧
  (∀ (L st : List ZV) (h : PH), zev kX1_refusesTime 26 L st h = zev kX1_refusesTime 27 L (zvi 2 :: st) h) ∧
  (∀ (a : Int) (L : List ZV) (h : PH), zev kX1_refusesTime 27 L [zvi a] h = zrv (zvi a) h) :=
  ⟨fun a L st h => e_ld0R (n := 1) rfl,
  fun q L st h => e_getR (kd := 16) (k := 5) (n := 4) rfl,
  fun L st h => e_nonnull0 (t := 11) (n := 7) rfl,
  fun q L st h => e_nonnull1 (t := 11) (n := 7) rfl,
  fun L st h => e_push (v := zvi 1) (n := 8) rfl,
  fun L st h => e_goto (t := 27) rfl,
  fun x0 a L st h => e_ld1I (n := 12) rfl,
  fun L st h => e_push (v := zvi 0) (n := 13) rfl,
  fun L st h => e_push (v := zvi 1999) (n := 16) rfl,
  fun v0 v1 v2 L st h => e_callS3 (F := mX1_isIn) (n := 19) rfl,
  fun a L st h => e_ifeq (t := 26) (n := 22) rfl,
  fun L st h => e_push (v := zvi 0) (n := 23) rfl,
  fun L st h => e_goto (t := 27) rfl,
  fun L st h => e_push (v := zvi 2) (n := 27) rfl,
  fun a L h => e_retI rfl⟩
theorem allX1_refusesTime : zall yX1_refusesTime cX1_refusesTime 2 (some .int) 2 kX1_refusesTime.1 :=
  ⟨k_aload_n dX1_refusesTime_0,
  k_getR (C := RX1) (T := TX1) (N := 19) (ci := 0) (k := 5) (ref := "LinkTimes") dX1_refusesTime_1 rfl in_X1 (by decide) q308 (Or.inl rfl) (fun _ _ _ => rfl),
  k_nonnull (t := 11) dX1_refusesTime_4 (by decide),
  k_iconst dX1_refusesTime_7,
  k_goto (t := 27) dX1_refusesTime_8 (by decide),
  k_iload_n dX1_refusesTime_11,
  k_iconst dX1_refusesTime_12,
  k_sipush dX1_refusesTime_13,
  k_callS (y2 := yX1_isIn) dX1_refusesTime_16 sndX1_isIn q375 q376 q128 q377 (by decide +kernel) ⟨by decide, by decide⟩ (by decide) (by decide),
  k_ifeq (t := 26) dX1_refusesTime_19 (by decide),
  k_iconst dX1_refusesTime_22,
  k_goto (t := 27) dX1_refusesTime_23 (by decide),
  k_iconst dX1_refusesTime_26,
  k_iret dX1_refusesTime_27, trivial⟩
theorem sndX1_refusesTime : MSound 2 yX1_refusesTime (ws_ yX1_refusesTime cX1_refusesTime 2 (some .int)) mX1_refusesTime := msound_M (by decide) allX1_refusesTime (fun _ _ => rfl)
/-! LinkTimes.lays(III)V -/
noncomputable def kX1_lays : ZM := ([(0, zi_ld 1 0 1), (1, zi_getR 16 8 4), (4, zi_ld 0 1 5), (5, zi_ld 0 2 6), (6, zi_ld 0 3 7), (7, zi_callV mX3_best 17 4 10), (10, zi_st 0 4 12), (12, zi_ld 0 4 14), (14, zi_push (zvi (-1)) 15), (15, zi_cmp zc_ne 19 18), (18, zi_ret), (19, zi_ld 1 0 20), (20, zi_dup 21), (21, zi_getI 16 17 24), (24, zi_push (zvi 1) 25), (25, zi_bin (fun a b => w32 (a + b)) 26), (26, zi_putI 16 17 29), (29, zi_ld 1 0 30), (30, zi_getR 16 8 33), (33, zi_getR 17 5 36), (36, zi_ld 0 4 38), (38, zi_ald 1 39), (39, zi_st 0 5 41), (41, zi_ld 0 5 43), (43, zi_push (zvi (-1)) 44), (44, zi_cmp zc_eq 103 47), (47, zi_ld 1 0 48), (48, zi_getR 16 8 51), (51, zi_ld 0 4 53), (53, zi_ld 0 5 55), (55, zi_callV mX3_changed 17 3 58), (58, zi_push (zvi 1) 59), (59, zi_cmp zc_ne 84 62), (62, zi_ld 1 0 63), (63, zi_getR 16 15 66), (66, zi_ld 1 0 67), (67, zi_getR 16 8 70), (70, zi_getR 17 0 73), (73, zi_ld 0 5 75), (75, zi_aldR 76), (76, zi_getI 22 3 79), (79, zi_dup2 80), (80, zi_ald 1 81), (81, zi_push (zvi 1) 82), (82, zi_bin (fun a b => w32 (a + b)) 83), (83, zi_ast 84), (84, zi_ld 0 5 86), (86, zi_st 0 4 88), (88, zi_ld 1 0 89), (89, zi_getR 16 8 92), (92, zi_getR 17 5 95), (95, zi_ld 0 5 97), (97, zi_ald 1 98), (98, zi_st 0 5 100), (100, zi_goto 41), (103, zi_ld 1 0 104), (104, zi_ld 1 0 105), (105, zi_getI 16 18 108), (108, zi_ld 1 0 109), (109, zi_getR 16 8 112), (112, zi_getR 17 2 115), (115, zi_ld 0 4 117), (117, zi_ald 1 118), (118, zi_ld 0 3 119), (119, zi_bin (fun a b => w32 (a - b)) 120), (120, zi_mm zmax 123), (123, zi_putI 16 18 126), (126, zi_ret)], fun _ _ => none)
noncomputable def mX1_lays : ZF := zrunM kX1_lays 6
theorem enX1_lays (x0 : Option Nat) (x1 : Int) (x2 : Int) (x3 : Int) (h : PH) : mX1_lays [zvr x0, zvi x1, zvi x2, zvi x3] h = zev kX1_lays 0 [zvr x0, zvi x1, zvi x2, zvi x3, zvu, zvu] [] h := zrunM_eq rfl rfl
theorem hdX1_lays_41 (x0 x1 x2 x3 x4 : ZV) (a : Int) (L st : List ZV) (h : PH) : zev kX1_lays 41 (x0 :: x1 :: x2 :: x3 :: x4 :: zvi a :: L) st h = zev kX1_lays 43 (x0 :: x1 :: x2 :: x3 :: x4 :: zvi a :: L) (zvi a :: st) h := e_ld5I (n := 43) rfl
theorem rX1_lays : (∀ (a : Option Nat) (L st : List ZV) (h : PH), zev kX1_lays 0 (zvr a :: L) st h = zev kX1_lays 1 (zvr a :: L) (zvr a :: st) h) ∧
  (∀ (q : Nat) (L st : List ZV) (h : PH), zev kX1_lays 1 L (zvr (some q) :: st) h = if (ph_K h q).1 % 1000 = 16 then zev kX1_lays 4 L (zvr (ph_R h q 8) :: st) h else none) ∧
  (∀ (x0 : ZV) (a : Int) (L st : List ZV) (h : PH), zev kX1_lays 4 (x0 :: zvi a :: L) st h = zev kX1_lays 5 (x0 :: zvi a :: L) (zvi a :: st) h) ∧
  (∀ (x0 x1 : ZV) (a : Int) (L st : List ZV) (h : PH), zev kX1_lays 5 (x0 :: x1 :: zvi a :: L) st h = zev kX1_lays 6 (x0 :: x1 :: zvi a :: L) (zvi a :: st) h) ∧
  (∀ (x0 x1 x2 : ZV) (a : Int) (L st : List ZV) (h : PH), zev kX1_lays 6 (x0 :: x1 :: x2 :: zvi a :: L) st h = zev kX1_lays 7 (x0 :: x1 :: x2 :: zvi a :: L) (zvi a :: st) h) ∧
  (∀ (v0 v1 v2 : ZV) (q : Nat) (L st : List ZV) (h : PH), zev kX1_lays 7 L (v2 :: v1 :: v0 :: zvr (some q) :: st) h = if (ph_K h q).1 % 1000 = 17 ∧ zcat st ≤ 8 then zk kX1_lays 7 10 L st (mX3_best [zvr (some q), v0, v1, v2] h) else none) ∧
  (∀ (x0 x1 x2 x3 x4 : ZV) (a : Int) (L st : List ZV) (h : PH) (hx : zisL x3 = false) , zev kX1_lays 10 (x0 :: x1 :: x2 :: x3 :: x4 :: L) (zvi a :: st) h = zev kX1_lays 12 (x0 :: x1 :: x2 :: x3 :: zvi a :: L) st h) ∧
  (∀ (x0 x1 x2 x3 : ZV) (a : Int) (L st : List ZV) (h : PH), zev kX1_lays 12 (x0 :: x1 :: x2 :: x3 :: zvi a :: L) st h = zev kX1_lays 14 (x0 :: x1 :: x2 :: x3 :: zvi a :: L) (zvi a :: st) h) ∧
  (∀ (L st : List ZV) (h : PH), zev kX1_lays 14 L st h = zev kX1_lays 15 L (zvi (-1) :: st) h) ∧
  (∀ (a b : Int) (L st : List ZV) (h : PH), zev kX1_lays 15 L (zvi b :: zvi a :: st) h = if a ≠ b then zev kX1_lays 19 L st h else zev kX1_lays 18 L st h) ∧
  (∀ (L : List ZV) (h : PH), zev kX1_lays 18 L [] h = zr0 h) ∧
  (∀ (a : Option Nat) (L st : List ZV) (h : PH), zev kX1_lays 19 (zvr a :: L) st h = zev kX1_lays 20 (zvr a :: L) (zvr a :: st) h) ∧
  (∀ (a : Int) (L st : List ZV) (h : PH), zev kX1_lays 20 L (zvi a :: st) h = zev kX1_lays 21 L (zvi a :: zvi a :: st) h) ∧
  (∀ (a : Option Nat) (L st : List ZV) (h : PH), zev kX1_lays 20 L (zvr a :: st) h = zev kX1_lays 21 L (zvr a :: zvr a :: st) h) ∧
  (∀ (q : Nat) (L st : List ZV) (h : PH), zev kX1_lays 21 L (zvr (some q) :: st) h = if (ph_K h q).1 % 1000 = 16 then zev kX1_lays 24 L (zvi (ph_I h q 17) :: st) h else none) ∧
  (∀ (L st : List ZV) (h : PH), zev kX1_lays 24 L st h = zev kX1_lays 25 L (zvi 1 :: st) h) ∧
  (∀ (a b : Int) (L st : List ZV) (h : PH), zev kX1_lays 25 L (zvi b :: zvi a :: st) h = zev kX1_lays 26 L (zvi (w32 (a + b)) :: st) h) ∧
  (∀ (a : Int) (q : Nat) (L st : List ZV) (h : PH), zev kX1_lays 26 L (zvi a :: zvr (some q) :: st) h = if (ph_K h q).1 = 16 then zev kX1_lays 29 L st (st_I h q 17 a) else none) ∧
  (∀ (a : Option Nat) (L st : List ZV) (h : PH), zev kX1_lays 29 (zvr a :: L) st h = zev kX1_lays 30 (zvr a :: L) (zvr a :: st) h) ∧
  (∀ (q : Nat) (L st : List ZV) (h : PH), zev kX1_lays 30 L (zvr (some q) :: st) h = if (ph_K h q).1 % 1000 = 16 then zev kX1_lays 33 L (zvr (ph_R h q 8) :: st) h else none) ∧
  (∀ (q : Nat) (L st : List ZV) (h : PH), zev kX1_lays 33 L (zvr (some q) :: st) h = if (ph_K h q).1 % 1000 = 17 then zev kX1_lays 36 L (zvr (ph_R h q 5) :: st) h else none) ∧
  (∀ (x0 x1 x2 x3 : ZV) (a : Int) (L st : List ZV) (h : PH), zev kX1_lays 36 (x0 :: x1 :: x2 :: x3 :: zvi a :: L) st h = zev kX1_lays 38 (x0 :: x1 :: x2 :: x3 :: zvi a :: L) (zvi a :: st) h) ∧
  (∀ (j : Int) (q : Nat) (L st : List ZV) (h : PH), zev kX1_lays 38 L (zvi j :: zvr (some q) :: st) h = if (ph_K h q).1 % 1000 = 1 ∧ 0 ≤ j ∧ j < (ph_K h q).2 then zev kX1_lays 39 L (zvi (ph_I h q j) :: st) h else none) ∧
  (∀ (x0 x1 x2 x3 x4 x5 : ZV) (a : Int) (L st : List ZV) (h : PH) (hx : zisL x4 = false) , zev kX1_lays 39 (x0 :: x1 :: x2 :: x3 :: x4 :: x5 :: L) (zvi a :: st) h = zev kX1_lays 41 (x0 :: x1 :: x2 :: x3 :: x4 :: zvi a :: L) st h) ∧
  (∀ (L st : List ZV) (h : PH), zev kX1_lays 43 L st h = zev kX1_lays 44 L (zvi (-1) :: st) h) ∧
  (∀ (a b : Int) (L st : List ZV) (h : PH), zev kX1_lays 44 L (zvi b :: zvi a :: st) h = if a = b then zev kX1_lays 103 L st h else zev kX1_lays 47 L st h) ∧
  (∀ (a : Option Nat) (L st : List ZV) (h : PH), zev kX1_lays 47 (zvr a :: L) st h = zev kX1_lays 48 (zvr a :: L) (zvr a :: st) h) ∧
  (∀ (q : Nat) (L st : List ZV) (h : PH), zev kX1_lays 48 L (zvr (some q) :: st) h = if (ph_K h q).1 % 1000 = 16 then zev kX1_lays 51 L (zvr (ph_R h q 8) :: st) h else none) ∧
  (∀ (x0 x1 x2 x3 : ZV) (a : Int) (L st : List ZV) (h : PH), zev kX1_lays 51 (x0 :: x1 :: x2 :: x3 :: zvi a :: L) st h = zev kX1_lays 53 (x0 :: x1 :: x2 :: x3 :: zvi a :: L) (zvi a :: st) h) ∧
  (∀ (x0 x1 x2 x3 x4 : ZV) (a : Int) (L st : List ZV) (h : PH), zev kX1_lays 53 (x0 :: x1 :: x2 :: x3 :: x4 :: zvi a :: L) st h = zev kX1_lays 55 (x0 :: x1 :: x2 :: x3 :: x4 :: zvi a :: L) (zvi a :: st) h) ∧
  (∀ (v0 v1 : ZV) (q : Nat) (L st : List ZV) (h : PH), zev kX1_lays 55 L (v1 :: v0 :: zvr (some q) :: st) h = if (ph_K h q).1 % 1000 = 17 ∧ zcat st ≤ 8 then zk kX1_lays 55 58 L st (mX3_changed [zvr (some q), v0, v1] h) else none) ∧
  (∀ (L st : List ZV) (h : PH), zev kX1_lays 58 L st h = zev kX1_lays 59 L (zvi 1 :: st) h) ∧
  (∀ (a b : Int) (L st : List ZV) (h : PH), zev kX1_lays 59 L (zvi b :: zvi a :: st) h = if a ≠ b then zev kX1_lays 84 L st h else zev kX1_lays 62 L st h) ∧
  (∀ (a : Option Nat) (L st : List ZV) (h : PH), zev kX1_lays 62 (zvr a :: L) st h = zev kX1_lays 63 (zvr a :: L) (zvr a :: st) h) ∧
  (∀ (q : Nat) (L st : List ZV) (h : PH), zev kX1_lays 63 L (zvr (some q) :: st) h = if (ph_K h q).1 % 1000 = 16 then zev kX1_lays 66 L (zvr (ph_R h q 15) :: st) h else none) ∧
  (∀ (a : Option Nat) (L st : List ZV) (h : PH), zev kX1_lays 66 (zvr a :: L) st h = zev kX1_lays 67 (zvr a :: L) (zvr a :: st) h) ∧
  (∀ (q : Nat) (L st : List ZV) (h : PH), zev kX1_lays 67 L (zvr (some q) :: st) h = if (ph_K h q).1 % 1000 = 16 then zev kX1_lays 70 L (zvr (ph_R h q 8) :: st) h else none) ∧
  (∀ (q : Nat) (L st : List ZV) (h : PH), zev kX1_lays 70 L (zvr (some q) :: st) h = if (ph_K h q).1 % 1000 = 17 then zev kX1_lays 73 L (zvr (ph_R h q 0) :: st) h else none) ∧
  (∀ (x0 x1 x2 x3 x4 : ZV) (a : Int) (L st : List ZV) (h : PH), zev kX1_lays 73 (x0 :: x1 :: x2 :: x3 :: x4 :: zvi a :: L) st h = zev kX1_lays 75 (x0 :: x1 :: x2 :: x3 :: x4 :: zvi a :: L) (zvi a :: st) h) ∧
  (∀ (j : Int) (q : Nat) (L st : List ZV) (h : PH), zev kX1_lays 75 L (zvi j :: zvr (some q) :: st) h = if 5 ≤ (ph_K h q).1 % 1000 ∧ (ph_K h q).1 % 1000 ≤ 7 ∧ 0 ≤ j ∧ j < (ph_K h q).2 then zev kX1_lays 76 L (zvr (ph_R h q j) :: st) h else none) ∧
  (∀ (q : Nat) (L st : List ZV) (h : PH), zev kX1_lays 76 L (zvr (some q) :: st) h = if (ph_K h q).1 % 1000 = 22 then zev kX1_lays 79 L (zvi (ph_I h q 3) :: st) h else none) ∧
  (∀ (a : Int) (b : Int) (L st : List ZV) (h : PH), zev kX1_lays 79 L (zvi a :: zvi b :: st) h = zev kX1_lays 80 L (zvi a :: zvi b :: zvi a :: zvi b :: st) h) ∧
  (∀ (a : Int) (b : Option Nat) (L st : List ZV) (h : PH), zev kX1_lays 79 L (zvi a :: zvr b :: st) h = zev kX1_lays 80 L (zvi a :: zvr b :: zvi a :: zvr b :: st) h) ∧
  (∀ (a : Option Nat) (b : Int) (L st : List ZV) (h : PH), zev kX1_lays 79 L (zvr a :: zvi b :: st) h = zev kX1_lays 80 L (zvr a :: zvi b :: zvr a :: zvi b :: st) h) ∧
  (∀ (a : Option Nat) (b : Option Nat) (L st : List ZV) (h : PH), zev kX1_lays 79 L (zvr a :: zvr b :: st) h = zev kX1_lays 80 L (zvr a :: zvr b :: zvr a :: zvr b :: st) h) ∧
  (∀ (j : Int) (q : Nat) (L st : List ZV) (h : PH), zev kX1_lays 80 L (zvi j :: zvr (some q) :: st) h = if (ph_K h q).1 % 1000 = 1 ∧ 0 ≤ j ∧ j < (ph_K h q).2 then zev kX1_lays 81 L (zvi (ph_I h q j) :: st) h else none) ∧
  (∀ (L st : List ZV) (h : PH), zev kX1_lays 81 L st h = zev kX1_lays 82 L (zvi 1 :: st) h) ∧
  (∀ (a b : Int) (L st : List ZV) (h : PH), zev kX1_lays 82 L (zvi b :: zvi a :: st) h = zev kX1_lays 83 L (zvi (w32 (a + b)) :: st) h) ∧
  (∀ (x j : Int) (q : Nat) (L st : List ZV) (h : PH), zev kX1_lays 83 L (zvi x :: zvi j :: zvr (some q) :: st) h = if (ph_K h q).1 = 1 ∧ 0 ≤ j ∧ j < (ph_K h q).2 then zev kX1_lays 84 L st (st_I h q j x) else none) ∧
  (∀ (x0 x1 x2 x3 x4 : ZV) (a : Int) (L st : List ZV) (h : PH), zev kX1_lays 84 (x0 :: x1 :: x2 :: x3 :: x4 :: zvi a :: L) st h = zev kX1_lays 86 (x0 :: x1 :: x2 :: x3 :: x4 :: zvi a :: L) (zvi a :: st) h) ∧
  (∀ (x0 x1 x2 x3 x4 : ZV) (a : Int) (L st : List ZV) (h : PH) (hx : zisL x3 = false) , zev kX1_lays 86 (x0 :: x1 :: x2 :: x3 :: x4 :: L) (zvi a :: st) h = zev kX1_lays 88 (x0 :: x1 :: x2 :: x3 :: zvi a :: L) st h) ∧
  (∀ (a : Option Nat) (L st : List ZV) (h : PH), zev kX1_lays 88 (zvr a :: L) st h = zev kX1_lays 89 (zvr a :: L) (zvr a :: st) h) ∧
  (∀ (q : Nat) (L st : List ZV) (h : PH), zev kX1_lays 89 L (zvr (some q) :: st) h = if (ph_K h q).1 % 1000 = 16 then zev kX1_lays 92 L (zvr (ph_R h q 8) :: st) h else none) ∧
  (∀ (q : Nat) (L st : List ZV) (h : PH), zev kX1_lays 92 L (zvr (some q) :: st) h = if (ph_K h q).1 % 1000 = 17 then zev kX1_lays 95 L (zvr (ph_R h q 5) :: st) h else none) ∧
  (∀ (x0 x1 x2 x3 x4 : ZV) (a : Int) (L st : List ZV) (h : PH), zev kX1_lays 95 (x0 :: x1 :: x2 :: x3 :: x4 :: zvi a :: L) st h = zev kX1_lays 97 (x0 :: x1 :: x2 :: x3 :: x4 :: zvi a :: L) (zvi a :: st) h) ∧
  (∀ (j : Int) (q : Nat) (L st : List ZV) (h : PH), zev kX1_lays 97 L (zvi j :: zvr (some q) :: st) h = if (ph_K h q).1 % 1000 = 1 ∧ 0 ≤ j ∧ j < (ph_K h q).2 then zev kX1_lays 98 L (zvi (ph_I h q j) :: st) h else none) ∧
  (∀ (x0 x1 x2 x3 x4 x5 : ZV) (a : Int) (L st : List ZV) (h : PH) (hx : zisL x4 = false) , zev kX1_lays 98 (x0 :: x1 :: x2 :: x3 :: x4 :: x5 :: L) (zvi a :: st) h = zev kX1_lays 100 (x0 :: x1 :: x2 :: x3 :: x4 :: zvi a :: L) st h) ∧
  (∀ (L st : List ZV) (h : PH), zev kX1_lays 100 L st h = zev kX1_lays 41 L st h) ∧
  (∀ (a : Option Nat) (L st : List ZV) (h : PH), zev kX1_lays 103 (zvr a :: L) st h = zev kX1_lays 104 (zvr a :: L) (zvr a :: st) h) ∧
  (∀ (a : Option Nat) (L st : List ZV) (h : PH), zev kX1_lays 104 (zvr a :: L) st h = zev kX1_lays 105 (zvr a :: L) (zvr a :: st) h) ∧
  (∀ (q : Nat) (L st : List ZV) (h : PH), zev kX1_lays 105 L (zvr (some q) :: st) h = if (ph_K h q).1 % 1000 = 16 then zev kX1_lays 108 L (zvi (ph_I h q 18) :: st) h else none) ∧
  (∀ (a : Option Nat) (L st : List ZV) (h : PH), zev kX1_lays 108 (zvr a :: L) st h = zev kX1_lays 109 (zvr a :: L) (zvr a :: st) h) ∧
  (∀ (q : Nat) (L st : List ZV) (h : PH), zev kX1_lays 109 L (zvr (some q) :: st) h = if (ph_K h q).1 % 1000 = 16 then zev kX1_lays 112 L (zvr (ph_R h q 8) :: st) h else none) ∧
  (∀ (q : Nat) (L st : List ZV) (h : PH), zev kX1_lays 112 L (zvr (some q) :: st) h = if (ph_K h q).1 % 1000 = 17 then zev kX1_lays 115 L (zvr (ph_R h q 2) :: st) h else none) ∧
  (∀ (x0 x1 x2 x3 : ZV) (a : Int) (L st : List ZV) (h : PH), zev kX1_lays 115 (x0 :: x1 :: x2 :: x3 :: zvi a :: L) st h = zev kX1_lays 117 (x0 :: x1 :: x2 :: x3 :: zvi a :: L) (zvi a :: st) h) ∧
  (∀ (j : Int) (q : Nat) (L st : List ZV) (h : PH), zev kX1_lays 117 L (zvi j :: zvr (some q) :: st) h = if (ph_K h q).1 % 1000 = 1 ∧ 0 ≤ j ∧ j < (ph_K h q).2 then zev kX1_lays 118 L (zvi (ph_I h q j) :: st) h else none) ∧
  (∀ (x0 x1 x2 : ZV) (a : Int) (L st : List ZV) (h : PH), zev kX1_lays 118 (x0 :: x1 :: x2 :: zvi a :: L) st h = zev kX1_lays 119 (x0 :: x1 :: x2 :: zvi a :: L) (zvi a :: st) h) ∧
  (∀ (a b : Int) (L st : List ZV) (h : PH), zev kX1_lays 119 L (zvi b :: zvi a :: st) h = zev kX1_lays 120 L (zvi (w32 (a - b)) :: st) h) ∧
  (∀ (a b : Int) (L st : List ZV) (h : PH), zev kX1_lays 120 L (zvi b :: zvi a :: st) h = if zcat st ≤ 8 then zev kX1_lays 123 L (zvi (zmax a b) :: st) h else none) ∧
  (∀ (a : Int) (q : Nat) (L st : List ZV) (h : PH), zev kX1_lays 123 L (zvi a :: zvr (some q) :: st) h = if (ph_K h q).1 = 16 then zev kX1_lays 126 L st (st_I h q 18 a) else none) ∧
  (∀ (L : List ZV) (h : PH), zev kX1_lays 126 L [] h = zr0 h) :=
  ⟨fun a L st h => e_ld0R (n := 1) rfl,
  fun q L st h => e_getR (kd := 16) (k := 8) (n := 4) rfl,
  fun x0 a L st h => e_ld1I (n := 5) rfl,
  fun x0 x1 a L st h => e_ld2I (n := 6) rfl,
  fun x0 x1 x2 a L st h => e_ld3I (n := 7) rfl,
  fun v0 v1 v2 q L st h => e_callV4 (F := mX3_best) (kd := 17) (n := 10) rfl,
  fun x0 x1 x2 x3 x4 a L st h hx => e_st4I (n := 12) rfl hx,
  fun x0 x1 x2 x3 a L st h => e_ld4I (n := 14) rfl,
  fun L st h => e_push (v := zvi (-1)) (n := 15) rfl,
  fun a b L st h => e_cmpne (t := 19) (n := 18) rfl,
  fun L h => e_ret rfl,
  fun a L st h => e_ld0R (n := 20) rfl,
  fun a L st h => e_dupI (n := 21) rfl,
  fun a L st h => e_dupR (n := 21) rfl,
  fun q L st h => e_getI (kd := 16) (k := 17) (n := 24) rfl,
  fun L st h => e_push (v := zvi 1) (n := 25) rfl,
  fun a b L st h => e_bin (f := (fun a b => w32 (a + b))) (n := 26) rfl,
  fun a q L st h => e_putI (kd := 16) (k := 17) (n := 29) rfl,
  fun a L st h => e_ld0R (n := 30) rfl,
  fun q L st h => e_getR (kd := 16) (k := 8) (n := 33) rfl,
  fun q L st h => e_getR (kd := 17) (k := 5) (n := 36) rfl,
  fun x0 x1 x2 x3 a L st h => e_ld4I (n := 38) rfl,
  fun j q L st h => e_ald (kd := 1) (n := 39) rfl,
  fun x0 x1 x2 x3 x4 x5 a L st h hx => e_st5I (n := 41) rfl hx,
  fun L st h => e_push (v := zvi (-1)) (n := 44) rfl,
  fun a b L st h => e_cmpeq (t := 103) (n := 47) rfl,
  fun a L st h => e_ld0R (n := 48) rfl,
  fun q L st h => e_getR (kd := 16) (k := 8) (n := 51) rfl,
  fun x0 x1 x2 x3 a L st h => e_ld4I (n := 53) rfl,
  fun x0 x1 x2 x3 x4 a L st h => e_ld5I (n := 55) rfl,
  fun v0 v1 q L st h => e_callV3 (F := mX3_changed) (kd := 17) (n := 58) rfl,
  fun L st h => e_push (v := zvi 1) (n := 59) rfl,
  fun a b L st h => e_cmpne (t := 84) (n := 62) rfl,
  fun a L st h => e_ld0R (n := 63) rfl,
  fun q L st h => e_getR (kd := 16) (k := 15) (n := 66) rfl,
  fun a L st h => e_ld0R (n := 67) rfl,
  fun q L st h => e_getR (kd := 16) (k := 8) (n := 70) rfl,
  fun q L st h => e_getR (kd := 17) (k := 0) (n := 73) rfl,
  fun x0 x1 x2 x3 x4 a L st h => e_ld5I (n := 75) rfl,
  fun j q L st h => e_aldR (n := 76) rfl,
  fun q L st h => e_getI (kd := 22) (k := 3) (n := 79) rfl,
  fun a b L st h => e_dup2II (n := 80) rfl,
  fun a b L st h => e_dup2IR (n := 80) rfl,
  fun a b L st h => e_dup2RI (n := 80) rfl,
  fun a b L st h => e_dup2RR (n := 80) rfl,
  fun j q L st h => e_ald (kd := 1) (n := 81) rfl,
  fun L st h => e_push (v := zvi 1) (n := 82) rfl,
  fun a b L st h => e_bin (f := (fun a b => w32 (a + b))) (n := 83) rfl,
  fun x j q L st h => e_ast (n := 84) rfl,
  fun x0 x1 x2 x3 x4 a L st h => e_ld5I (n := 86) rfl,
  fun x0 x1 x2 x3 x4 a L st h hx => e_st4I (n := 88) rfl hx,
  fun a L st h => e_ld0R (n := 89) rfl,
  fun q L st h => e_getR (kd := 16) (k := 8) (n := 92) rfl,
  fun q L st h => e_getR (kd := 17) (k := 5) (n := 95) rfl,
  fun x0 x1 x2 x3 x4 a L st h => e_ld5I (n := 97) rfl,
  fun j q L st h => e_ald (kd := 1) (n := 98) rfl,
  fun x0 x1 x2 x3 x4 x5 a L st h hx => e_st5I (n := 100) rfl hx,
  fun L st h => e_goto (t := 41) rfl,
  fun a L st h => e_ld0R (n := 104) rfl,
  fun a L st h => e_ld0R (n := 105) rfl,
  fun q L st h => e_getI (kd := 16) (k := 18) (n := 108) rfl,
  fun a L st h => e_ld0R (n := 109) rfl,
  fun q L st h => e_getR (kd := 16) (k := 8) (n := 112) rfl,
  fun q L st h => e_getR (kd := 17) (k := 2) (n := 115) rfl,
  fun x0 x1 x2 x3 a L st h => e_ld4I (n := 117) rfl,
  fun j q L st h => e_ald (kd := 1) (n := 118) rfl,
  fun x0 x1 x2 a L st h => e_ld3I (n := 119) rfl,
  fun a b L st h => e_bin (f := (fun a b => w32 (a - b))) (n := 120) rfl,
  fun a b L st h => e_mm (f := zmax) (n := 123) rfl,
  fun a q L st h => e_putI (kd := 16) (k := 18) (n := 126) rfl,
  fun L h => e_ret rfl⟩
theorem allX1_lays : zall yX1_lays cX1_lays 6 none 9 kX1_lays.1 :=
  ⟨k_aload_n dX1_lays_0,
  k_getR (C := RX1) (T := TX1) (N := 19) (ci := 0) (k := 8) (ref := "LinkTimes") dX1_lays_1 rfl in_X1 (by decide) q311 (Or.inl rfl) (fun _ _ _ => rfl),
  k_iload_n dX1_lays_4,
  k_iload_n dX1_lays_5,
  k_iload_n dX1_lays_6,
  k_callV (y2 := yX3_best) (C := RX3) (T0 := TX3) (ci := 1) dX1_lays_7 sndX3_best rfl q1380 q1381 q1382 q136 q1383 (by decide +kernel) ⟨by decide, by decide⟩ (by decide) (by decide),
  k_istore dX1_lays_10,
  k_iload dX1_lays_12,
  k_iconst dX1_lays_14,
  k_cmpne (t := 19) dX1_lays_15 (by decide),
  k_ret dX1_lays_18,
  k_aload_n dX1_lays_19,
  k_dup dX1_lays_20,
  k_getI (C := RX1) (T := TX1) (N := 19) (ci := 0) (k := 17) (ref := "LinkTimes") dX1_lays_21 rfl in_X1 (by decide) q320 (Or.inl rfl) (fun _ _ _ => rfl),
  k_iconst dX1_lays_24,
  k_iadd dX1_lays_25,
  k_putI (C := RX1) (T := TX1) (N := 19) (ci := 0) (k := 17) (ref := "LinkTimes") dX1_lays_26 rfl in_X1 tyX1 tyX1_ok nmX1 (by decide) (Or.inl q320) (Or.inl rfl) (Or.inl rfl) (tyX1_ok 17 (by decide)) (fun _ _ _ => rfl),
  k_aload_n dX1_lays_29,
  k_getR (C := RX1) (T := TX1) (N := 19) (ci := 0) (k := 8) (ref := "LinkTimes") dX1_lays_30 rfl in_X1 (by decide) q311 (Or.inl rfl) (fun _ _ _ => rfl),
  k_getRN (C := RX3) (T := TX3) (N := 9) (ci := 1) (k := 5) (ref := "LinkTimes$Search") dX1_lays_33 rfl in_X3 (by decide) q276 (Or.inl rfl) (fun _ _ _ => rfl),
  k_iload dX1_lays_36,
  k_iald dX1_lays_38,
  k_istore dX1_lays_39,
  k_iload dX1_lays_41,
  k_iconst dX1_lays_43,
  k_cmpeq (t := 103) dX1_lays_44 (by decide),
  k_aload_n dX1_lays_47,
  k_getR (C := RX1) (T := TX1) (N := 19) (ci := 0) (k := 8) (ref := "LinkTimes") dX1_lays_48 rfl in_X1 (by decide) q311 (Or.inl rfl) (fun _ _ _ => rfl),
  k_iload dX1_lays_51,
  k_iload dX1_lays_53,
  k_callVN (y2 := yX3_changed) (C := RX3) (T0 := TX3) (ci := 1) dX1_lays_55 sndX3_changed rfl q1537 q1368 qs40 q136 q1369 (by decide +kernel) ⟨by decide, by decide⟩ (by decide) (by decide),
  k_iconst dX1_lays_58,
  k_cmpne (t := 84) dX1_lays_59 (by decide),
  k_aload_n dX1_lays_62,
  k_getR (C := RX1) (T := TX1) (N := 19) (ci := 0) (k := 15) (ref := "LinkTimes") dX1_lays_63 rfl in_X1 (by decide) q318 (Or.inl rfl) (fun _ _ _ => rfl),
  k_aload_n dX1_lays_66,
  k_getR (C := RX1) (T := TX1) (N := 19) (ci := 0) (k := 8) (ref := "LinkTimes") dX1_lays_67 rfl in_X1 (by decide) q311 (Or.inl rfl) (fun _ _ _ => rfl),
  k_getRN (C := RX3) (T := TX3) (N := 9) (ci := 1) (k := 0) (ref := "LinkTimes$Search") dX1_lays_70 rfl in_X3 (by decide) q266 (Or.inl rfl) (fun _ _ _ => rfl),
  k_iload dX1_lays_73,
  k_aald dX1_lays_75,
  k_getIN (C := RX11) (T := TX11) (N := 9) (ci := 6) (k := 3) (ref := "LinkTimes$Departure") dX1_lays_76 rfl in_X11 (by decide) q859 (Or.inl rfl) (fun _ _ _ => rfl),
  k_dup2 dX1_lays_79,
  k_iald dX1_lays_80,
  k_iconst dX1_lays_81,
  k_iadd dX1_lays_82,
  k_iast dX1_lays_83,
  k_iload dX1_lays_84,
  k_istore dX1_lays_86,
  k_aload_n dX1_lays_88,
  k_getR (C := RX1) (T := TX1) (N := 19) (ci := 0) (k := 8) (ref := "LinkTimes") dX1_lays_89 rfl in_X1 (by decide) q311 (Or.inl rfl) (fun _ _ _ => rfl),
  k_getRN (C := RX3) (T := TX3) (N := 9) (ci := 1) (k := 5) (ref := "LinkTimes$Search") dX1_lays_92 rfl in_X3 (by decide) q276 (Or.inl rfl) (fun _ _ _ => rfl),
  k_iload dX1_lays_95,
  k_iald dX1_lays_97,
  k_istore dX1_lays_98,
  k_goto (t := 41) dX1_lays_100 (by decide),
  k_aload_n dX1_lays_103,
  k_aload_n dX1_lays_104,
  k_getI (C := RX1) (T := TX1) (N := 19) (ci := 0) (k := 18) (ref := "LinkTimes") dX1_lays_105 rfl in_X1 (by decide) q321 (Or.inl rfl) (fun _ _ _ => rfl),
  k_aload_n dX1_lays_108,
  k_getR (C := RX1) (T := TX1) (N := 19) (ci := 0) (k := 8) (ref := "LinkTimes") dX1_lays_109 rfl in_X1 (by decide) q311 (Or.inl rfl) (fun _ _ _ => rfl),
  k_getRN (C := RX3) (T := TX3) (N := 9) (ci := 1) (k := 2) (ref := "LinkTimes$Search") dX1_lays_112 rfl in_X3 (by decide) q270 (Or.inl rfl) (fun _ _ _ => rfl),
  k_iload dX1_lays_115,
  k_iald dX1_lays_117,
  k_iload_n dX1_lays_118,
  k_isub dX1_lays_119,
  k_mmax dX1_lays_120 q1465 q759 q154 q760 (by decide),
  k_putI (C := RX1) (T := TX1) (N := 19) (ci := 0) (k := 18) (ref := "LinkTimes") dX1_lays_123 rfl in_X1 tyX1 tyX1_ok nmX1 (by decide) (Or.inl q321) (Or.inl rfl) (Or.inl rfl) (tyX1_ok 18 (by decide)) (fun _ _ _ => rfl),
  k_ret dX1_lays_126, trivial⟩
theorem sndX1_lays : MSound 9 yX1_lays (ws_ yX1_lays cX1_lays 6 none) mX1_lays := msound_M (by decide) allX1_lays (fun _ _ => rfl)
/-! LinkTimes.laysAll(I)V -/
noncomputable def kX1_laysAll : ZM := ([(0, zi_ld 1 0 1), (1, zi_push (zvi 0) 2), (2, zi_putI 16 17 5), (5, zi_ld 1 0 6), (6, zi_push (zvi (-2)) 8), (8, zi_putI 16 18 11), (11, zi_push (zvi 0) 12), (12, zi_st 0 2 13), (13, zi_ld 0 2 14), (14, zi_push (zvi 10) 16), (16, zi_cmp zc_ge 32 19), (19, zi_ld 1 0 20), (20, zi_getR 16 15 23), (23, zi_ld 0 2 24), (24, zi_push (zvi 0) 25), (25, zi_ast 26), (26, zi_iinc 2 1 29), (29, zi_goto 13), (32, zi_ld 1 0 33), (33, zi_callV mX1_asIs 16 1 36), (36, zi_pop 37), (37, zi_push (zvi 0) 38), (38, zi_st 0 2 39), (39, zi_ld 0 2 40), (40, zi_ld 1 0 41), (41, zi_getR 16 5 44), (44, zi_getR 20 2 47), (47, zi_callV mJ7_size 29 1 50), (50, zi_cmp zc_ge 93 53), (53, zi_push (zvi 0) 54), (54, zi_st 0 3 55), (55, zi_ld 0 3 56), (56, zi_ld 1 0 57), (57, zi_getR 16 5 60), (60, zi_getR 20 2 63), (63, zi_callV mJ7_size 29 1 66), (66, zi_cmp zc_ge 87 69), (69, zi_ld 0 2 70), (70, zi_ld 0 3 71), (71, zi_cmp zc_eq 81 74), (74, zi_ld 1 0 75), (75, zi_ld 0 2 76), (76, zi_ld 0 3 77), (77, zi_ld 0 1 78), (78, zi_callV mX1_lays 16 4 81), (81, zi_iinc 3 1 84), (84, zi_goto 55), (87, zi_iinc 2 1 90), (90, zi_goto 39), (93, zi_ret)], fun _ _ => none)
noncomputable def mX1_laysAll : ZF := zrunM kX1_laysAll 4
theorem enX1_laysAll (x0 : Option Nat) (x1 : Int) (h : PH) : mX1_laysAll [zvr x0, zvi x1] h = zev kX1_laysAll 0 [zvr x0, zvi x1, zvu, zvu] [] h := zrunM_eq rfl rfl
theorem hdX1_laysAll_13 (x0 x1 : ZV) (a : Int) (L st : List ZV) (h : PH) : zev kX1_laysAll 13 (x0 :: x1 :: zvi a :: L) st h = zev kX1_laysAll 14 (x0 :: x1 :: zvi a :: L) (zvi a :: st) h := e_ld2I (n := 14) rfl
theorem hdX1_laysAll_39 (x0 x1 : ZV) (a : Int) (L st : List ZV) (h : PH) : zev kX1_laysAll 39 (x0 :: x1 :: zvi a :: L) st h = zev kX1_laysAll 40 (x0 :: x1 :: zvi a :: L) (zvi a :: st) h := e_ld2I (n := 40) rfl
theorem hdX1_laysAll_55 (x0 x1 x2 : ZV) (a : Int) (L st : List ZV) (h : PH) : zev kX1_laysAll 55 (x0 :: x1 :: x2 :: zvi a :: L) st h = zev kX1_laysAll 56 (x0 :: x1 :: x2 :: zvi a :: L) (zvi a :: st) h := e_ld3I (n := 56) rfl
theorem rX1_laysAll : (∀ (a : Option Nat) (L st : List ZV) (h : PH), zev kX1_laysAll 0 (zvr a :: L) st h = zev kX1_laysAll 1 (zvr a :: L) (zvr a :: st) h) ∧
  (∀ (L st : List ZV) (h : PH), zev kX1_laysAll 1 L st h = zev kX1_laysAll 2 L (zvi 0 :: st) h) ∧
  (∀ (a : Int) (q : Nat) (L st : List ZV) (h : PH), zev kX1_laysAll 2 L (zvi a :: zvr (some q) :: st) h = if (ph_K h q).1 = 16 then zev kX1_laysAll 5 L st (st_I h q 17 a) else none) ∧
  (∀ (a : Option Nat) (L st : List ZV) (h : PH), zev kX1_laysAll 5 (zvr a :: L) st h = zev kX1_laysAll 6 (zvr a :: L) (zvr a :: st) h) ∧
  (∀ (L st : List ZV) (h : PH), zev kX1_laysAll 6 L st h = zev kX1_laysAll 8 L (zvi (-2) :: st) h) ∧
  (∀ (a : Int) (q : Nat) (L st : List ZV) (h : PH), zev kX1_laysAll 8 L (zvi a :: zvr (some q) :: st) h = if (ph_K h q).1 = 16 then zev kX1_laysAll 11 L st (st_I h q 18 a) else none) ∧
  (∀ (L st : List ZV) (h : PH), zev kX1_laysAll 11 L st h = zev kX1_laysAll 12 L (zvi 0 :: st) h) ∧
  (∀ (x0 x1 x2 : ZV) (a : Int) (L st : List ZV) (h : PH) (hx : zisL x1 = false) , zev kX1_laysAll 12 (x0 :: x1 :: x2 :: L) (zvi a :: st) h = zev kX1_laysAll 13 (x0 :: x1 :: zvi a :: L) st h) ∧
  (∀ (L st : List ZV) (h : PH), zev kX1_laysAll 14 L st h = zev kX1_laysAll 16 L (zvi 10 :: st) h) ∧
  (∀ (a b : Int) (L st : List ZV) (h : PH), zev kX1_laysAll 16 L (zvi b :: zvi a :: st) h = if a ≥ b then zev kX1_laysAll 32 L st h else zev kX1_laysAll 19 L st h) ∧
  (∀ (a : Option Nat) (L st : List ZV) (h : PH), zev kX1_laysAll 19 (zvr a :: L) st h = zev kX1_laysAll 20 (zvr a :: L) (zvr a :: st) h) ∧
  (∀ (q : Nat) (L st : List ZV) (h : PH), zev kX1_laysAll 20 L (zvr (some q) :: st) h = if (ph_K h q).1 % 1000 = 16 then zev kX1_laysAll 23 L (zvr (ph_R h q 15) :: st) h else none) ∧
  (∀ (x0 x1 : ZV) (a : Int) (L st : List ZV) (h : PH), zev kX1_laysAll 23 (x0 :: x1 :: zvi a :: L) st h = zev kX1_laysAll 24 (x0 :: x1 :: zvi a :: L) (zvi a :: st) h) ∧
  (∀ (L st : List ZV) (h : PH), zev kX1_laysAll 24 L st h = zev kX1_laysAll 25 L (zvi 0 :: st) h) ∧
  (∀ (x j : Int) (q : Nat) (L st : List ZV) (h : PH), zev kX1_laysAll 25 L (zvi x :: zvi j :: zvr (some q) :: st) h = if (ph_K h q).1 = 1 ∧ 0 ≤ j ∧ j < (ph_K h q).2 then zev kX1_laysAll 26 L st (st_I h q j x) else none) ∧
  (∀ (x0 x1 : ZV) (a : Int) (L st : List ZV) (h : PH) (hx : zisL x1 = false) , zev kX1_laysAll 26 (x0 :: x1 :: zvi a :: L) st h = zev kX1_laysAll 29 (x0 :: x1 :: zvi (w32 (a + 1)) :: L) st h) ∧
  (∀ (L st : List ZV) (h : PH), zev kX1_laysAll 29 L st h = zev kX1_laysAll 13 L st h) ∧
  (∀ (a : Option Nat) (L st : List ZV) (h : PH), zev kX1_laysAll 32 (zvr a :: L) st h = zev kX1_laysAll 33 (zvr a :: L) (zvr a :: st) h) ∧
  (∀ (q : Nat) (L st : List ZV) (h : PH), zev kX1_laysAll 33 L (zvr (some q) :: st) h = if (ph_K h q).1 % 1000 = 16 ∧ zcat st ≤ 8 then zk kX1_laysAll 33 36 L st (mX1_asIs [zvr (some q)] h) else none) ∧
  (∀ (a : Int) (L st : List ZV) (h : PH), zev kX1_laysAll 36 L (zvi a :: st) h = zev kX1_laysAll 37 L st h) ∧
  (∀ (a : Option Nat) (L st : List ZV) (h : PH), zev kX1_laysAll 36 L (zvr a :: st) h = zev kX1_laysAll 37 L st h) ∧
  (∀ (L st : List ZV) (h : PH), zev kX1_laysAll 37 L st h = zev kX1_laysAll 38 L (zvi 0 :: st) h) ∧
  (∀ (x0 x1 x2 : ZV) (a : Int) (L st : List ZV) (h : PH) (hx : zisL x1 = false) , zev kX1_laysAll 38 (x0 :: x1 :: x2 :: L) (zvi a :: st) h = zev kX1_laysAll 39 (x0 :: x1 :: zvi a :: L) st h) ∧
  (∀ (a : Option Nat) (L st : List ZV) (h : PH), zev kX1_laysAll 40 (zvr a :: L) st h = zev kX1_laysAll 41 (zvr a :: L) (zvr a :: st) h) ∧
  (∀ (q : Nat) (L st : List ZV) (h : PH), zev kX1_laysAll 41 L (zvr (some q) :: st) h = if (ph_K h q).1 % 1000 = 16 then zev kX1_laysAll 44 L (zvr (ph_R h q 5) :: st) h else none) ∧
  (∀ (q : Nat) (L st : List ZV) (h : PH), zev kX1_laysAll 44 L (zvr (some q) :: st) h = if (ph_K h q).1 % 1000 = 20 then zev kX1_laysAll 47 L (zvr (ph_R h q 2) :: st) h else none) ∧
  (∀ (q : Nat) (L st : List ZV) (h : PH), zev kX1_laysAll 47 L (zvr (some q) :: st) h = if (ph_K h q).1 % 1000 = 29 ∧ zcat st ≤ 8 then zk kX1_laysAll 47 50 L st (mJ7_size [zvr (some q)] h) else none) ∧
  (∀ (a b : Int) (L st : List ZV) (h : PH), zev kX1_laysAll 50 L (zvi b :: zvi a :: st) h = if a ≥ b then zev kX1_laysAll 93 L st h else zev kX1_laysAll 53 L st h) ∧
  (∀ (L st : List ZV) (h : PH), zev kX1_laysAll 53 L st h = zev kX1_laysAll 54 L (zvi 0 :: st) h) ∧
  (∀ (x0 x1 x2 x3 : ZV) (a : Int) (L st : List ZV) (h : PH) (hx : zisL x2 = false) , zev kX1_laysAll 54 (x0 :: x1 :: x2 :: x3 :: L) (zvi a :: st) h = zev kX1_laysAll 55 (x0 :: x1 :: x2 :: zvi a :: L) st h) ∧
  (∀ (a : Option Nat) (L st : List ZV) (h : PH), zev kX1_laysAll 56 (zvr a :: L) st h = zev kX1_laysAll 57 (zvr a :: L) (zvr a :: st) h) ∧
  (∀ (q : Nat) (L st : List ZV) (h : PH), zev kX1_laysAll 57 L (zvr (some q) :: st) h = if (ph_K h q).1 % 1000 = 16 then zev kX1_laysAll 60 L (zvr (ph_R h q 5) :: st) h else none) ∧
  (∀ (q : Nat) (L st : List ZV) (h : PH), zev kX1_laysAll 60 L (zvr (some q) :: st) h = if (ph_K h q).1 % 1000 = 20 then zev kX1_laysAll 63 L (zvr (ph_R h q 2) :: st) h else none) ∧
  (∀ (q : Nat) (L st : List ZV) (h : PH), zev kX1_laysAll 63 L (zvr (some q) :: st) h = if (ph_K h q).1 % 1000 = 29 ∧ zcat st ≤ 8 then zk kX1_laysAll 63 66 L st (mJ7_size [zvr (some q)] h) else none) ∧
  (∀ (a b : Int) (L st : List ZV) (h : PH), zev kX1_laysAll 66 L (zvi b :: zvi a :: st) h = if a ≥ b then zev kX1_laysAll 87 L st h else zev kX1_laysAll 69 L st h) ∧
  (∀ (x0 x1 : ZV) (a : Int) (L st : List ZV) (h : PH), zev kX1_laysAll 69 (x0 :: x1 :: zvi a :: L) st h = zev kX1_laysAll 70 (x0 :: x1 :: zvi a :: L) (zvi a :: st) h) ∧
  (∀ (x0 x1 x2 : ZV) (a : Int) (L st : List ZV) (h : PH), zev kX1_laysAll 70 (x0 :: x1 :: x2 :: zvi a :: L) st h = zev kX1_laysAll 71 (x0 :: x1 :: x2 :: zvi a :: L) (zvi a :: st) h) ∧
  (∀ (a b : Int) (L st : List ZV) (h : PH), zev kX1_laysAll 71 L (zvi b :: zvi a :: st) h = if a = b then zev kX1_laysAll 81 L st h else zev kX1_laysAll 74 L st h) ∧
  (∀ (a : Option Nat) (L st : List ZV) (h : PH), zev kX1_laysAll 74 (zvr a :: L) st h = zev kX1_laysAll 75 (zvr a :: L) (zvr a :: st) h) ∧
  (∀ (x0 x1 : ZV) (a : Int) (L st : List ZV) (h : PH), zev kX1_laysAll 75 (x0 :: x1 :: zvi a :: L) st h = zev kX1_laysAll 76 (x0 :: x1 :: zvi a :: L) (zvi a :: st) h) ∧
  (∀ (x0 x1 x2 : ZV) (a : Int) (L st : List ZV) (h : PH), zev kX1_laysAll 76 (x0 :: x1 :: x2 :: zvi a :: L) st h = zev kX1_laysAll 77 (x0 :: x1 :: x2 :: zvi a :: L) (zvi a :: st) h) ∧
  (∀ (x0 : ZV) (a : Int) (L st : List ZV) (h : PH), zev kX1_laysAll 77 (x0 :: zvi a :: L) st h = zev kX1_laysAll 78 (x0 :: zvi a :: L) (zvi a :: st) h) ∧
  (∀ (v0 v1 v2 : ZV) (q : Nat) (L st : List ZV) (h : PH), zev kX1_laysAll 78 L (v2 :: v1 :: v0 :: zvr (some q) :: st) h = if (ph_K h q).1 % 1000 = 16 ∧ zcat st ≤ 8 then zk kX1_laysAll 78 81 L st (mX1_lays [zvr (some q), v0, v1, v2] h) else none) ∧
  (∀ (x0 x1 x2 : ZV) (a : Int) (L st : List ZV) (h : PH) (hx : zisL x2 = false) , zev kX1_laysAll 81 (x0 :: x1 :: x2 :: zvi a :: L) st h = zev kX1_laysAll 84 (x0 :: x1 :: x2 :: zvi (w32 (a + 1)) :: L) st h) ∧
  (∀ (L st : List ZV) (h : PH), zev kX1_laysAll 84 L st h = zev kX1_laysAll 55 L st h) ∧
  (∀ (x0 x1 : ZV) (a : Int) (L st : List ZV) (h : PH) (hx : zisL x1 = false) , zev kX1_laysAll 87 (x0 :: x1 :: zvi a :: L) st h = zev kX1_laysAll 90 (x0 :: x1 :: zvi (w32 (a + 1)) :: L) st h) ∧
  (∀ (L st : List ZV) (h : PH), zev kX1_laysAll 90 L st h = zev kX1_laysAll 39 L st h) ∧
  (∀ (L : List ZV) (h : PH), zev kX1_laysAll 93 L [] h = zr0 h) :=
  ⟨fun a L st h => e_ld0R (n := 1) rfl,
  fun L st h => e_push (v := zvi 0) (n := 2) rfl,
  fun a q L st h => e_putI (kd := 16) (k := 17) (n := 5) rfl,
  fun a L st h => e_ld0R (n := 6) rfl,
  fun L st h => e_push (v := zvi (-2)) (n := 8) rfl,
  fun a q L st h => e_putI (kd := 16) (k := 18) (n := 11) rfl,
  fun L st h => e_push (v := zvi 0) (n := 12) rfl,
  fun x0 x1 x2 a L st h hx => e_st2I (n := 13) rfl hx,
  fun L st h => e_push (v := zvi 10) (n := 16) rfl,
  fun a b L st h => e_cmpge (t := 32) (n := 19) rfl,
  fun a L st h => e_ld0R (n := 20) rfl,
  fun q L st h => e_getR (kd := 16) (k := 15) (n := 23) rfl,
  fun x0 x1 a L st h => e_ld2I (n := 24) rfl,
  fun L st h => e_push (v := zvi 0) (n := 25) rfl,
  fun x j q L st h => e_ast (n := 26) rfl,
  fun x0 x1 a L st h hx => e_iinc2 (d := 1) (n := 29) rfl hx,
  fun L st h => e_goto (t := 13) rfl,
  fun a L st h => e_ld0R (n := 33) rfl,
  fun q L st h => e_callV1 (F := mX1_asIs) (kd := 16) (n := 36) rfl,
  fun a L st h => e_popI (n := 37) rfl,
  fun a L st h => e_popR (n := 37) rfl,
  fun L st h => e_push (v := zvi 0) (n := 38) rfl,
  fun x0 x1 x2 a L st h hx => e_st2I (n := 39) rfl hx,
  fun a L st h => e_ld0R (n := 41) rfl,
  fun q L st h => e_getR (kd := 16) (k := 5) (n := 44) rfl,
  fun q L st h => e_getR (kd := 20) (k := 2) (n := 47) rfl,
  fun q L st h => e_callV1 (F := mJ7_size) (kd := 29) (n := 50) rfl,
  fun a b L st h => e_cmpge (t := 93) (n := 53) rfl,
  fun L st h => e_push (v := zvi 0) (n := 54) rfl,
  fun x0 x1 x2 x3 a L st h hx => e_st3I (n := 55) rfl hx,
  fun a L st h => e_ld0R (n := 57) rfl,
  fun q L st h => e_getR (kd := 16) (k := 5) (n := 60) rfl,
  fun q L st h => e_getR (kd := 20) (k := 2) (n := 63) rfl,
  fun q L st h => e_callV1 (F := mJ7_size) (kd := 29) (n := 66) rfl,
  fun a b L st h => e_cmpge (t := 87) (n := 69) rfl,
  fun x0 x1 a L st h => e_ld2I (n := 70) rfl,
  fun x0 x1 x2 a L st h => e_ld3I (n := 71) rfl,
  fun a b L st h => e_cmpeq (t := 81) (n := 74) rfl,
  fun a L st h => e_ld0R (n := 75) rfl,
  fun x0 x1 a L st h => e_ld2I (n := 76) rfl,
  fun x0 x1 x2 a L st h => e_ld3I (n := 77) rfl,
  fun x0 a L st h => e_ld1I (n := 78) rfl,
  fun v0 v1 v2 q L st h => e_callV4 (F := mX1_lays) (kd := 16) (n := 81) rfl,
  fun x0 x1 x2 a L st h hx => e_iinc3 (d := 1) (n := 84) rfl hx,
  fun L st h => e_goto (t := 55) rfl,
  fun x0 x1 a L st h hx => e_iinc2 (d := 1) (n := 90) rfl hx,
  fun L st h => e_goto (t := 39) rfl,
  fun L h => e_ret rfl⟩
theorem allX1_laysAll : zall yX1_laysAll cX1_laysAll 4 none 10 kX1_laysAll.1 :=
  ⟨k_aload_n dX1_laysAll_0,
  k_iconst dX1_laysAll_1,
  k_putI (C := RX1) (T := TX1) (N := 19) (ci := 0) (k := 17) (ref := "LinkTimes") dX1_laysAll_2 rfl in_X1 tyX1 tyX1_ok nmX1 (by decide) (Or.inl q320) (Or.inl rfl) (Or.inl rfl) (tyX1_ok 17 (by decide)) (fun _ _ _ => rfl),
  k_aload_n dX1_laysAll_5,
  k_bipush dX1_laysAll_6,
  k_putI (C := RX1) (T := TX1) (N := 19) (ci := 0) (k := 18) (ref := "LinkTimes") dX1_laysAll_8 rfl in_X1 tyX1 tyX1_ok nmX1 (by decide) (Or.inl q321) (Or.inl rfl) (Or.inl rfl) (tyX1_ok 18 (by decide)) (fun _ _ _ => rfl),
  k_iconst dX1_laysAll_11,
  k_istore_n dX1_laysAll_12,
  k_iload_n dX1_laysAll_13,
  k_bipush dX1_laysAll_14,
  k_cmpge (t := 32) dX1_laysAll_16 (by decide),
  k_aload_n dX1_laysAll_19,
  k_getR (C := RX1) (T := TX1) (N := 19) (ci := 0) (k := 15) (ref := "LinkTimes") dX1_laysAll_20 rfl in_X1 (by decide) q318 (Or.inl rfl) (fun _ _ _ => rfl),
  k_iload_n dX1_laysAll_23,
  k_iconst dX1_laysAll_24,
  k_iast dX1_laysAll_25,
  k_iinc dX1_laysAll_26,
  k_goto (t := 13) dX1_laysAll_29 (by decide),
  k_aload_n dX1_laysAll_32,
  k_callV (y2 := yX1_asIs) (C := RX1) (T0 := TX1) (ci := 0) dX1_laysAll_33 sndX1_asIs rfl q1338 q1340 qs37 q128 q1341 (by decide +kernel) ⟨by decide, by decide⟩ (by decide) (by decide),
  k_pop dX1_laysAll_36,
  k_iconst dX1_laysAll_37,
  k_istore_n dX1_laysAll_38,
  k_iload_n dX1_laysAll_39,
  k_aload_n dX1_laysAll_40,
  k_getR (C := RX1) (T := TX1) (N := 19) (ci := 0) (k := 5) (ref := "LinkTimes") dX1_laysAll_41 rfl in_X1 (by decide) q308 (Or.inl rfl) (fun _ _ _ => rfl),
  k_getRN (C := RX6) (T := TX6) (N := 5) (ci := 4) (k := 2) (ref := "LinkTimes$Desk") dX1_laysAll_44 rfl in_X6 (by decide) q423 (Or.inl rfl) (fun _ _ _ => rfl),
  k_callV (y2 := yJ7_size) (C := RJ7) (T0 := TJ7) (ci := 13) dX1_laysAll_47 sndJ7_size rfl q936 q652 q653 q141 q654 (by decide +kernel) ⟨by decide, by decide⟩ (by decide) (by decide),
  k_cmpge (t := 93) dX1_laysAll_50 (by decide),
  k_iconst dX1_laysAll_53,
  k_istore_n dX1_laysAll_54,
  k_iload_n dX1_laysAll_55,
  k_aload_n dX1_laysAll_56,
  k_getR (C := RX1) (T := TX1) (N := 19) (ci := 0) (k := 5) (ref := "LinkTimes") dX1_laysAll_57 rfl in_X1 (by decide) q308 (Or.inl rfl) (fun _ _ _ => rfl),
  k_getRN (C := RX6) (T := TX6) (N := 5) (ci := 4) (k := 2) (ref := "LinkTimes$Desk") dX1_laysAll_60 rfl in_X6 (by decide) q423 (Or.inl rfl) (fun _ _ _ => rfl),
  k_callV (y2 := yJ7_size) (C := RJ7) (T0 := TJ7) (ci := 13) dX1_laysAll_63 sndJ7_size rfl q936 q652 q653 q141 q654 (by decide +kernel) ⟨by decide, by decide⟩ (by decide) (by decide),
  k_cmpge (t := 87) dX1_laysAll_66 (by decide),
  k_iload_n dX1_laysAll_69,
  k_iload_n dX1_laysAll_70,
  k_cmpeq (t := 81) dX1_laysAll_71 (by decide),
  k_aload_n dX1_laysAll_74,
  k_iload_n dX1_laysAll_75,
  k_iload_n dX1_laysAll_76,
  k_iload_n dX1_laysAll_77,
  k_callV (y2 := yX1_lays) (C := RX1) (T0 := TX1) (ci := 0) dX1_laysAll_78 sndX1_lays rfl q1533 q1535 qs54 q128 q1536 (by decide +kernel) ⟨by decide, by decide⟩ (by decide) (by decide),
  k_iinc dX1_laysAll_81,
  k_goto (t := 55) dX1_laysAll_84 (by decide),
  k_iinc dX1_laysAll_87,
  k_goto (t := 39) dX1_laysAll_90 (by decide),
  k_ret dX1_laysAll_93, trivial⟩
theorem sndX1_laysAll : MSound 10 yX1_laysAll (ws_ yX1_laysAll cX1_laysAll 4 none) mX1_laysAll := msound_M (by decide) allX1_laysAll (fun _ _ => rfl)
/-! LinkTimes.pairs(I)I -/
noncomputable def kX1_pairs : ZM := ([(0, zi_ld 1 0 1), (1, zi_ld 0 1 2), (2, zi_callV mX1_refusesTime 16 2 5), (5, zi_st 0 2 6), (6, zi_ld 0 2 7), (7, zi_if (fun a => zc_le a 0) 16 10), (10, zi_ld 1 0 11), (11, zi_ld 0 2 12), (12, zi_callV mX1_refused 16 2 15), (15, zi_retv 0), (16, zi_ld 1 0 17), (17, zi_ld 0 1 18), (18, zi_callV mX1_laysAll 16 2 21), (21, zi_ld 1 0 22), (22, zi_ld 1 0 23), (23, zi_getI 16 17 26), (26, zi_callV mX1_fine 16 2 29), (29, zi_retv 0)], fun _ _ => none)
noncomputable def mX1_pairs : ZF := zrunM kX1_pairs 3
theorem enX1_pairs (x0 : Option Nat) (x1 : Int) (h : PH) : mX1_pairs [zvr x0, zvi x1] h = zev kX1_pairs 0 [zvr x0, zvi x1, zvu] [] h := zrunM_eq rfl rfl
theorem rX1_pairs : (∀ (a : Option Nat) (L st : List ZV) (h : PH), zev kX1_pairs 0 (zvr a :: L) st h = zev kX1_pairs 1 (zvr a :: L) (zvr a :: st) h) ∧
  (∀ (x0 : ZV) (a : Int) (L st : List ZV) (h : PH), zev kX1_pairs 1 (x0 :: zvi a :: L) st h = zev kX1_pairs 2 (x0 :: zvi a :: L) (zvi a :: st) h) ∧
  (∀ (v0 : ZV) (q : Nat) (L st : List ZV) (h : PH), zev kX1_pairs 2 L (v0 :: zvr (some q) :: st) h = if (ph_K h q).1 % 1000 = 16 ∧ zcat st ≤ 8 then zk kX1_pairs 2 5 L st (mX1_refusesTime [zvr (some q), v0] h) else none) ∧
  (∀ (x0 x1 x2 : ZV) (a : Int) (L st : List ZV) (h : PH) (hx : zisL x1 = false) , zev kX1_pairs 5 (x0 :: x1 :: x2 :: L) (zvi a :: st) h = zev kX1_pairs 6 (x0 :: x1 :: zvi a :: L) st h) ∧
  (∀ (x0 x1 : ZV) (a : Int) (L st : List ZV) (h : PH), zev kX1_pairs 6 (x0 :: x1 :: zvi a :: L) st h = zev kX1_pairs 7 (x0 :: x1 :: zvi a :: L) (zvi a :: st) h) ∧
  (∀ (a : Int) (L st : List ZV) (h : PH), zev kX1_pairs 7 L (zvi a :: st) h = if a ≤ 0 then zev kX1_pairs 16 L st h else zev kX1_pairs 10 L st h) ∧
  (∀ (a : Option Nat) (L st : List ZV) (h : PH), zev kX1_pairs 10 (zvr a :: L) st h = zev kX1_pairs 11 (zvr a :: L) (zvr a :: st) h) ∧
  (∀ (x0 x1 : ZV) (a : Int) (L st : List ZV) (h : PH), zev kX1_pairs 11 (x0 :: x1 :: zvi a :: L) st h = zev kX1_pairs 12 (x0 :: x1 :: zvi a :: L) (zvi a :: st) h) ∧
  (∀ (v0 : ZV) (q : Nat) (L st : List ZV) (h : PH), zev kX1_pairs 12 L (v0 :: zvr (some q) :: st) h = if (ph_K h q).1 % 1000 = 16 ∧ zcat st ≤ 8 then zk kX1_pairs 12 15 L st (mX1_refused [zvr (some q), v0] h) else none) ∧
  (∀ (a : Int) (L : List ZV) (h : PH), zev kX1_pairs 15 L [zvi a] h = zrv (zvi a) h) ∧
  (∀ (a : Option Nat) (L st : List ZV) (h : PH), zev kX1_pairs 16 (zvr a :: L) st h = zev kX1_pairs 17 (zvr a :: L) (zvr a :: st) h) ∧
  (∀ (x0 : ZV) (a : Int) (L st : List ZV) (h : PH), zev kX1_pairs 17 (x0 :: zvi a :: L) st h = zev kX1_pairs 18 (x0 :: zvi a :: L) (zvi a :: st) h) ∧
  (∀ (v0 : ZV) (q : Nat) (L st : List ZV) (h : PH), zev kX1_pairs 18 L (v0 :: zvr (some q) :: st) h = if (ph_K h q).1 % 1000 = 16 ∧ zcat st ≤ 8 then zk kX1_pairs 18 21 L st (mX1_laysAll [zvr (some q), v0] h) else none) ∧
  (∀ (a : Option Nat) (L st : List ZV) (h : PH), zev kX1_pairs 21 (zvr a :: L) st h = zev kX1_pairs 22 (zvr a :: L) (zvr a :: st) h) ∧
  (∀ (a : Option Nat) (L st : List ZV) (h : PH), zev kX1_pairs 22 (zvr a :: L) st h = zev kX1_pairs 23 (zvr a :: L) (zvr a :: st) h) ∧
  (∀ (q : Nat) (L st : List ZV) (h : PH), zev kX1_pairs 23 L (zvr (some q) :: st) h = if (ph_K h q).1 % 1000 = 16 then zev kX1_pairs 26 L (zvi (ph_I h q 17) :: st) h else none) ∧
  (∀ (v0 : ZV) (q : Nat) (L st : List ZV) (h : PH), zev kX1_pairs 26 L (v0 :: zvr (some q) :: st) h = if (ph_K h q).1 % 1000 = 16 ∧ zcat st ≤ 8 then zk kX1_pairs 26 29 L st (mX1_fine [zvr (some q), v0] h) else none) ∧
  (∀ (a : Int) (L : List ZV) (h : PH), zev kX1_pairs 29 L [zvi a] h = zrv (zvi a) h) :=
  ⟨fun a L st h => e_ld0R (n := 1) rfl,
  fun x0 a L st h => e_ld1I (n := 2) rfl,
  fun v0 q L st h => e_callV2 (F := mX1_refusesTime) (kd := 16) (n := 5) rfl,
  fun x0 x1 x2 a L st h hx => e_st2I (n := 6) rfl hx,
  fun x0 x1 a L st h => e_ld2I (n := 7) rfl,
  fun a L st h => e_ifle (t := 16) (n := 10) rfl,
  fun a L st h => e_ld0R (n := 11) rfl,
  fun x0 x1 a L st h => e_ld2I (n := 12) rfl,
  fun v0 q L st h => e_callV2 (F := mX1_refused) (kd := 16) (n := 15) rfl,
  fun a L h => e_retI rfl,
  fun a L st h => e_ld0R (n := 17) rfl,
  fun x0 a L st h => e_ld1I (n := 18) rfl,
  fun v0 q L st h => e_callV2 (F := mX1_laysAll) (kd := 16) (n := 21) rfl,
  fun a L st h => e_ld0R (n := 22) rfl,
  fun a L st h => e_ld0R (n := 23) rfl,
  fun q L st h => e_getI (kd := 16) (k := 17) (n := 26) rfl,
  fun v0 q L st h => e_callV2 (F := mX1_fine) (kd := 16) (n := 29) rfl,
  fun a L h => e_retI rfl⟩
theorem allX1_pairs : zall yX1_pairs cX1_pairs 3 (some .int) 11 kX1_pairs.1 :=
  ⟨k_aload_n dX1_pairs_0,
  k_iload_n dX1_pairs_1,
  k_callV (y2 := yX1_refusesTime) (C := RX1) (T0 := TX1) (ci := 0) dX1_pairs_2 sndX1_refusesTime rfl q1525 q1527 qs52 q128 q1528 (by decide +kernel) ⟨by decide, by decide⟩ (by decide) (by decide),
  k_istore_n dX1_pairs_5,
  k_iload_n dX1_pairs_6,
  k_ifle (t := 16) dX1_pairs_7 (by decide),
  k_aload_n dX1_pairs_10,
  k_iload_n dX1_pairs_11,
  k_callV (y2 := yX1_refused) (C := RX1) (T0 := TX1) (ci := 0) dX1_pairs_12 sndX1_refused rfl q378 q380 qs1 q128 q381 (by decide +kernel) ⟨by decide, by decide⟩ (by decide) (by decide),
  k_iret dX1_pairs_15,
  k_aload_n dX1_pairs_16,
  k_iload_n dX1_pairs_17,
  k_callV (y2 := yX1_laysAll) (C := RX1) (T0 := TX1) (ci := 0) dX1_pairs_18 sndX1_laysAll rfl q1529 q1531 qs53 q128 q1532 (by decide +kernel) ⟨by decide, by decide⟩ (by decide) (by decide),
  k_aload_n dX1_pairs_21,
  k_aload_n dX1_pairs_22,
  k_getI (C := RX1) (T := TX1) (N := 19) (ci := 0) (k := 17) (ref := "LinkTimes") dX1_pairs_23 rfl in_X1 (by decide) q320 (Or.inl rfl) (fun _ _ _ => rfl),
  k_callV (y2 := yX1_fine) (C := RX1) (T0 := TX1) (ci := 0) dX1_pairs_26 sndX1_fine rfl q1211 q1213 qs32 q128 q1214 (by decide +kernel) ⟨by decide, by decide⟩ (by decide) (by decide),
  k_iret dX1_pairs_29, trivial⟩
theorem sndX1_pairs : MSound 11 yX1_pairs (ws_ yX1_pairs cX1_pairs 3 (some .int)) mX1_pairs := msound_M (by decide) allX1_pairs (fun _ _ => rfl)
/-! LinkTimes.hub(I)I -/
noncomputable def kX1_hub : ZM := ([(0, zi_ld 1 0 1), (1, zi_ld 0 1 2), (2, zi_callV mX1_refusesTime 16 2 5), (5, zi_st 0 2 6), (6, zi_ld 0 2 7), (7, zi_if (fun a => zc_le a 0) 16 10), (10, zi_ld 1 0 11), (11, zi_ld 0 2 12), (12, zi_callV mX1_refused 16 2 15), (15, zi_retv 0), (16, zi_ld 1 0 17), (17, zi_ld 0 1 18), (18, zi_callV mX1_laysAll 16 2 21), (21, zi_push (zvi (-2)) 23), (23, zi_st 0 3 24), (24, zi_push (zvi 0) 25), (25, zi_st 0 4 27), (27, zi_push (zvi 0) 28), (28, zi_st 0 5 30), (30, zi_ld 0 5 32), (32, zi_push (zvi 10) 34), (34, zi_cmp zc_ge 70 37), (37, zi_ld 1 0 38), (38, zi_getR 16 15 41), (41, zi_ld 0 5 43), (43, zi_ald 1 44), (44, zi_ld 0 4 46), (46, zi_cmp zc_gt 52 49), (49, zi_goto 64), (52, zi_ld 1 0 53), (53, zi_getR 16 15 56), (56, zi_ld 0 5 58), (58, zi_ald 1 59), (59, zi_st 0 4 61), (61, zi_ld 0 5 63), (63, zi_st 0 3 64), (64, zi_iinc 5 1 67), (67, zi_goto 30), (70, zi_ld 1 0 71), (71, zi_ld 0 3 72), (72, zi_callV mX1_fine 16 2 75), (75, zi_retv 0)], fun _ _ => none)
noncomputable def mX1_hub : ZF := zrunM kX1_hub 6
theorem enX1_hub (x0 : Option Nat) (x1 : Int) (h : PH) : mX1_hub [zvr x0, zvi x1] h = zev kX1_hub 0 [zvr x0, zvi x1, zvu, zvu, zvu, zvu] [] h := zrunM_eq rfl rfl
theorem hdX1_hub_30 (x0 x1 x2 x3 x4 : ZV) (a : Int) (L st : List ZV) (h : PH) : zev kX1_hub 30 (x0 :: x1 :: x2 :: x3 :: x4 :: zvi a :: L) st h = zev kX1_hub 32 (x0 :: x1 :: x2 :: x3 :: x4 :: zvi a :: L) (zvi a :: st) h := e_ld5I (n := 32) rfl
theorem rX1_hub : (∀ (a : Option Nat) (L st : List ZV) (h : PH), zev kX1_hub 0 (zvr a :: L) st h = zev kX1_hub 1 (zvr a :: L) (zvr a :: st) h) ∧
  (∀ (x0 : ZV) (a : Int) (L st : List ZV) (h : PH), zev kX1_hub 1 (x0 :: zvi a :: L) st h = zev kX1_hub 2 (x0 :: zvi a :: L) (zvi a :: st) h) ∧
  (∀ (v0 : ZV) (q : Nat) (L st : List ZV) (h : PH), zev kX1_hub 2 L (v0 :: zvr (some q) :: st) h = if (ph_K h q).1 % 1000 = 16 ∧ zcat st ≤ 8 then zk kX1_hub 2 5 L st (mX1_refusesTime [zvr (some q), v0] h) else none) ∧
  (∀ (x0 x1 x2 : ZV) (a : Int) (L st : List ZV) (h : PH) (hx : zisL x1 = false) , zev kX1_hub 5 (x0 :: x1 :: x2 :: L) (zvi a :: st) h = zev kX1_hub 6 (x0 :: x1 :: zvi a :: L) st h) ∧
  (∀ (x0 x1 : ZV) (a : Int) (L st : List ZV) (h : PH), zev kX1_hub 6 (x0 :: x1 :: zvi a :: L) st h = zev kX1_hub 7 (x0 :: x1 :: zvi a :: L) (zvi a :: st) h) ∧
  (∀ (a : Int) (L st : List ZV) (h : PH), zev kX1_hub 7 L (zvi a :: st) h = if a ≤ 0 then zev kX1_hub 16 L st h else zev kX1_hub 10 L st h) ∧
  (∀ (a : Option Nat) (L st : List ZV) (h : PH), zev kX1_hub 10 (zvr a :: L) st h = zev kX1_hub 11 (zvr a :: L) (zvr a :: st) h) ∧
  (∀ (x0 x1 : ZV) (a : Int) (L st : List ZV) (h : PH), zev kX1_hub 11 (x0 :: x1 :: zvi a :: L) st h = zev kX1_hub 12 (x0 :: x1 :: zvi a :: L) (zvi a :: st) h) ∧
  (∀ (v0 : ZV) (q : Nat) (L st : List ZV) (h : PH), zev kX1_hub 12 L (v0 :: zvr (some q) :: st) h = if (ph_K h q).1 % 1000 = 16 ∧ zcat st ≤ 8 then zk kX1_hub 12 15 L st (mX1_refused [zvr (some q), v0] h) else none) ∧
  (∀ (a : Int) (L : List ZV) (h : PH), zev kX1_hub 15 L [zvi a] h = zrv (zvi a) h) ∧
  (∀ (a : Option Nat) (L st : List ZV) (h : PH), zev kX1_hub 16 (zvr a :: L) st h = zev kX1_hub 17 (zvr a :: L) (zvr a :: st) h) ∧
  (∀ (x0 : ZV) (a : Int) (L st : List ZV) (h : PH), zev kX1_hub 17 (x0 :: zvi a :: L) st h = zev kX1_hub 18 (x0 :: zvi a :: L) (zvi a :: st) h) ∧
  (∀ (v0 : ZV) (q : Nat) (L st : List ZV) (h : PH), zev kX1_hub 18 L (v0 :: zvr (some q) :: st) h = if (ph_K h q).1 % 1000 = 16 ∧ zcat st ≤ 8 then zk kX1_hub 18 21 L st (mX1_laysAll [zvr (some q), v0] h) else none) ∧
  (∀ (L st : List ZV) (h : PH), zev kX1_hub 21 L st h = zev kX1_hub 23 L (zvi (-2) :: st) h) ∧
  (∀ (x0 x1 x2 x3 : ZV) (a : Int) (L st : List ZV) (h : PH) (hx : zisL x2 = false) , zev kX1_hub 23 (x0 :: x1 :: x2 :: x3 :: L) (zvi a :: st) h = zev kX1_hub 24 (x0 :: x1 :: x2 :: zvi a :: L) st h) ∧
  (∀ (L st : List ZV) (h : PH), zev kX1_hub 24 L st h = zev kX1_hub 25 L (zvi 0 :: st) h) ∧
  (∀ (x0 x1 x2 x3 x4 : ZV) (a : Int) (L st : List ZV) (h : PH) (hx : zisL x3 = false) , zev kX1_hub 25 (x0 :: x1 :: x2 :: x3 :: x4 :: L) (zvi a :: st) h = zev kX1_hub 27 (x0 :: x1 :: x2 :: x3 :: zvi a :: L) st h) ∧
  (∀ (L st : List ZV) (h : PH), zev kX1_hub 27 L st h = zev kX1_hub 28 L (zvi 0 :: st) h) ∧
  (∀ (x0 x1 x2 x3 x4 x5 : ZV) (a : Int) (L st : List ZV) (h : PH) (hx : zisL x4 = false) , zev kX1_hub 28 (x0 :: x1 :: x2 :: x3 :: x4 :: x5 :: L) (zvi a :: st) h = zev kX1_hub 30 (x0 :: x1 :: x2 :: x3 :: x4 :: zvi a :: L) st h) ∧
  (∀ (L st : List ZV) (h : PH), zev kX1_hub 32 L st h = zev kX1_hub 34 L (zvi 10 :: st) h) ∧
  (∀ (a b : Int) (L st : List ZV) (h : PH), zev kX1_hub 34 L (zvi b :: zvi a :: st) h = if a ≥ b then zev kX1_hub 70 L st h else zev kX1_hub 37 L st h) ∧
  (∀ (a : Option Nat) (L st : List ZV) (h : PH), zev kX1_hub 37 (zvr a :: L) st h = zev kX1_hub 38 (zvr a :: L) (zvr a :: st) h) ∧
  (∀ (q : Nat) (L st : List ZV) (h : PH), zev kX1_hub 38 L (zvr (some q) :: st) h = if (ph_K h q).1 % 1000 = 16 then zev kX1_hub 41 L (zvr (ph_R h q 15) :: st) h else none) ∧
  (∀ (x0 x1 x2 x3 x4 : ZV) (a : Int) (L st : List ZV) (h : PH), zev kX1_hub 41 (x0 :: x1 :: x2 :: x3 :: x4 :: zvi a :: L) st h = zev kX1_hub 43 (x0 :: x1 :: x2 :: x3 :: x4 :: zvi a :: L) (zvi a :: st) h) ∧
  (∀ (j : Int) (q : Nat) (L st : List ZV) (h : PH), zev kX1_hub 43 L (zvi j :: zvr (some q) :: st) h = if (ph_K h q).1 % 1000 = 1 ∧ 0 ≤ j ∧ j < (ph_K h q).2 then zev kX1_hub 44 L (zvi (ph_I h q j) :: st) h else none) ∧
  (∀ (x0 x1 x2 x3 : ZV) (a : Int) (L st : List ZV) (h : PH), zev kX1_hub 44 (x0 :: x1 :: x2 :: x3 :: zvi a :: L) st h = zev kX1_hub 46 (x0 :: x1 :: x2 :: x3 :: zvi a :: L) (zvi a :: st) h) ∧
  (∀ (a b : Int) (L st : List ZV) (h : PH), zev kX1_hub 46 L (zvi b :: zvi a :: st) h = if a > b then zev kX1_hub 52 L st h else zev kX1_hub 49 L st h) ∧
  (∀ (L st : List ZV) (h : PH), zev kX1_hub 49 L st h = zev kX1_hub 64 L st h) ∧
  (∀ (a : Option Nat) (L st : List ZV) (h : PH), zev kX1_hub 52 (zvr a :: L) st h = zev kX1_hub 53 (zvr a :: L) (zvr a :: st) h) ∧
  (∀ (q : Nat) (L st : List ZV) (h : PH), zev kX1_hub 53 L (zvr (some q) :: st) h = if (ph_K h q).1 % 1000 = 16 then zev kX1_hub 56 L (zvr (ph_R h q 15) :: st) h else none) ∧
  (∀ (x0 x1 x2 x3 x4 : ZV) (a : Int) (L st : List ZV) (h : PH), zev kX1_hub 56 (x0 :: x1 :: x2 :: x3 :: x4 :: zvi a :: L) st h = zev kX1_hub 58 (x0 :: x1 :: x2 :: x3 :: x4 :: zvi a :: L) (zvi a :: st) h) ∧
  (∀ (j : Int) (q : Nat) (L st : List ZV) (h : PH), zev kX1_hub 58 L (zvi j :: zvr (some q) :: st) h = if (ph_K h q).1 % 1000 = 1 ∧ 0 ≤ j ∧ j < (ph_K h q).2 then zev kX1_hub 59 L (zvi (ph_I h q j) :: st) h else none) ∧
  (∀ (x0 x1 x2 x3 x4 : ZV) (a : Int) (L st : List ZV) (h : PH) (hx : zisL x3 = false) , zev kX1_hub 59 (x0 :: x1 :: x2 :: x3 :: x4 :: L) (zvi a :: st) h = zev kX1_hub 61 (x0 :: x1 :: x2 :: x3 :: zvi a :: L) st h) ∧
  (∀ (x0 x1 x2 x3 x4 : ZV) (a : Int) (L st : List ZV) (h : PH), zev kX1_hub 61 (x0 :: x1 :: x2 :: x3 :: x4 :: zvi a :: L) st h = zev kX1_hub 63 (x0 :: x1 :: x2 :: x3 :: x4 :: zvi a :: L) (zvi a :: st) h) ∧
  (∀ (x0 x1 x2 x3 : ZV) (a : Int) (L st : List ZV) (h : PH) (hx : zisL x2 = false) , zev kX1_hub 63 (x0 :: x1 :: x2 :: x3 :: L) (zvi a :: st) h = zev kX1_hub 64 (x0 :: x1 :: x2 :: zvi a :: L) st h) ∧
  (∀ (x0 x1 x2 x3 x4 : ZV) (a : Int) (L st : List ZV) (h : PH) (hx : zisL x4 = false) , zev kX1_hub 64 (x0 :: x1 :: x2 :: x3 :: x4 :: zvi a :: L) st h = zev kX1_hub 67 (x0 :: x1 :: x2 :: x3 :: x4 :: zvi (w32 (a + 1)) :: L) st h) ∧
  (∀ (L st : List ZV) (h : PH), zev kX1_hub 67 L st h = zev kX1_hub 30 L st h) ∧
  (∀ (a : Option Nat) (L st : List ZV) (h : PH), zev kX1_hub 70 (zvr a :: L) st h = zev kX1_hub 71 (zvr a :: L) (zvr a :: st) h) ∧
  (∀ (x0 x1 x2 : ZV) (a : Int) (L st : List ZV) (h : PH), zev kX1_hub 71 (x0 :: x1 :: x2 :: zvi a :: L) st h = zev kX1_hub 72 (x0 :: x1 :: x2 :: zvi a :: L) (zvi a :: st) h) ∧
  (∀ (v0 : ZV) (q : Nat) (L st : List ZV) (h : PH), zev kX1_hub 72 L (v0 :: zvr (some q) :: st) h = if (ph_K h q).1 % 1000 = 16 ∧ zcat st ≤ 8 then zk kX1_hub 72 75 L st (mX1_fine [zvr (some q), v0] h) else none) ∧
  (∀ (a : Int) (L : List ZV) (h : PH), zev kX1_hub 75 L [zvi a] h = zrv (zvi a) h) :=
  ⟨fun a L st h => e_ld0R (n := 1) rfl,
  fun x0 a L st h => e_ld1I (n := 2) rfl,
  fun v0 q L st h => e_callV2 (F := mX1_refusesTime) (kd := 16) (n := 5) rfl,
  fun x0 x1 x2 a L st h hx => e_st2I (n := 6) rfl hx,
  fun x0 x1 a L st h => e_ld2I (n := 7) rfl,
  fun a L st h => e_ifle (t := 16) (n := 10) rfl,
  fun a L st h => e_ld0R (n := 11) rfl,
  fun x0 x1 a L st h => e_ld2I (n := 12) rfl,
  fun v0 q L st h => e_callV2 (F := mX1_refused) (kd := 16) (n := 15) rfl,
  fun a L h => e_retI rfl,
  fun a L st h => e_ld0R (n := 17) rfl,
  fun x0 a L st h => e_ld1I (n := 18) rfl,
  fun v0 q L st h => e_callV2 (F := mX1_laysAll) (kd := 16) (n := 21) rfl,
  fun L st h => e_push (v := zvi (-2)) (n := 23) rfl,
  fun x0 x1 x2 x3 a L st h hx => e_st3I (n := 24) rfl hx,
  fun L st h => e_push (v := zvi 0) (n := 25) rfl,
  fun x0 x1 x2 x3 x4 a L st h hx => e_st4I (n := 27) rfl hx,
  fun L st h => e_push (v := zvi 0) (n := 28) rfl,
  fun x0 x1 x2 x3 x4 x5 a L st h hx => e_st5I (n := 30) rfl hx,
  fun L st h => e_push (v := zvi 10) (n := 34) rfl,
  fun a b L st h => e_cmpge (t := 70) (n := 37) rfl,
  fun a L st h => e_ld0R (n := 38) rfl,
  fun q L st h => e_getR (kd := 16) (k := 15) (n := 41) rfl,
  fun x0 x1 x2 x3 x4 a L st h => e_ld5I (n := 43) rfl,
  fun j q L st h => e_ald (kd := 1) (n := 44) rfl,
  fun x0 x1 x2 x3 a L st h => e_ld4I (n := 46) rfl,
  fun a b L st h => e_cmpgt (t := 52) (n := 49) rfl,
  fun L st h => e_goto (t := 64) rfl,
  fun a L st h => e_ld0R (n := 53) rfl,
  fun q L st h => e_getR (kd := 16) (k := 15) (n := 56) rfl,
  fun x0 x1 x2 x3 x4 a L st h => e_ld5I (n := 58) rfl,
  fun j q L st h => e_ald (kd := 1) (n := 59) rfl,
  fun x0 x1 x2 x3 x4 a L st h hx => e_st4I (n := 61) rfl hx,
  fun x0 x1 x2 x3 x4 a L st h => e_ld5I (n := 63) rfl,
  fun x0 x1 x2 x3 a L st h hx => e_st3I (n := 64) rfl hx,
  fun x0 x1 x2 x3 x4 a L st h hx => e_iinc5 (d := 1) (n := 67) rfl hx,
  fun L st h => e_goto (t := 30) rfl,
  fun a L st h => e_ld0R (n := 71) rfl,
  fun x0 x1 x2 a L st h => e_ld3I (n := 72) rfl,
  fun v0 q L st h => e_callV2 (F := mX1_fine) (kd := 16) (n := 75) rfl,
  fun a L h => e_retI rfl⟩
theorem allX1_hub : zall yX1_hub cX1_hub 6 (some .int) 11 kX1_hub.1 :=
  ⟨k_aload_n dX1_hub_0,
  k_iload_n dX1_hub_1,
  k_callV (y2 := yX1_refusesTime) (C := RX1) (T0 := TX1) (ci := 0) dX1_hub_2 sndX1_refusesTime rfl q1525 q1527 qs52 q128 q1528 (by decide +kernel) ⟨by decide, by decide⟩ (by decide) (by decide),
  k_istore_n dX1_hub_5,
  k_iload_n dX1_hub_6,
  k_ifle (t := 16) dX1_hub_7 (by decide),
  k_aload_n dX1_hub_10,
  k_iload_n dX1_hub_11,
  k_callV (y2 := yX1_refused) (C := RX1) (T0 := TX1) (ci := 0) dX1_hub_12 sndX1_refused rfl q378 q380 qs1 q128 q381 (by decide +kernel) ⟨by decide, by decide⟩ (by decide) (by decide),
  k_iret dX1_hub_15,
  k_aload_n dX1_hub_16,
  k_iload_n dX1_hub_17,
  k_callV (y2 := yX1_laysAll) (C := RX1) (T0 := TX1) (ci := 0) dX1_hub_18 sndX1_laysAll rfl q1529 q1531 qs53 q128 q1532 (by decide +kernel) ⟨by decide, by decide⟩ (by decide) (by decide),
  k_bipush dX1_hub_21,
  k_istore_n dX1_hub_23,
  k_iconst dX1_hub_24,
  k_istore dX1_hub_25,
  k_iconst dX1_hub_27,
  k_istore dX1_hub_28,
  k_iload dX1_hub_30,
  k_bipush dX1_hub_32,
  k_cmpge (t := 70) dX1_hub_34 (by decide),
  k_aload_n dX1_hub_37,
  k_getR (C := RX1) (T := TX1) (N := 19) (ci := 0) (k := 15) (ref := "LinkTimes") dX1_hub_38 rfl in_X1 (by decide) q318 (Or.inl rfl) (fun _ _ _ => rfl),
  k_iload dX1_hub_41,
  k_iald dX1_hub_43,
  k_iload dX1_hub_44,
  k_cmpgt (t := 52) dX1_hub_46 (by decide),
  k_goto (t := 64) dX1_hub_49 (by decide),
  k_aload_n dX1_hub_52,
  k_getR (C := RX1) (T := TX1) (N := 19) (ci := 0) (k := 15) (ref := "LinkTimes") dX1_hub_53 rfl in_X1 (by decide) q318 (Or.inl rfl) (fun _ _ _ => rfl),
  k_iload dX1_hub_56,
  k_iald dX1_hub_58,
  k_istore dX1_hub_59,
  k_iload dX1_hub_61,
  k_istore_n dX1_hub_63,
  k_iinc dX1_hub_64,
  k_goto (t := 30) dX1_hub_67 (by decide),
  k_aload_n dX1_hub_70,
  k_iload_n dX1_hub_71,
  k_callV (y2 := yX1_fine) (C := RX1) (T0 := TX1) (ci := 0) dX1_hub_72 sndX1_fine rfl q1211 q1213 qs32 q128 q1214 (by decide +kernel) ⟨by decide, by decide⟩ (by decide) (by decide),
  k_iret dX1_hub_75, trivial⟩
theorem sndX1_hub : MSound 11 yX1_hub (ws_ yX1_hub cX1_hub 6 (some .int)) mX1_hub := msound_M (by decide) allX1_hub (fun _ _ => rfl)
