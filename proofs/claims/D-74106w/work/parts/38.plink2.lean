/-! Z program: LinkTimes (written by gen/gen_prog.py) -/
set_option maxRecDepth 100000
/-! LinkTimes.trades(III)I -/
noncomputable def kX1_trades : ZM := ([(0, zi_ld 1 0 1), (1, zi_ld 0 1 2), (2, zi_ld 0 2 3), (3, zi_ld 0 3 4), (4, zi_callV mX1_refuses 16 4 7), (7, zi_st 0 4 9), (9, zi_ld 0 4 11), (11, zi_if (fun a => zc_le a 0) 21 14), (14, zi_ld 1 0 15), (15, zi_ld 0 4 17), (17, zi_callV mX1_refused 16 2 20), (20, zi_retv 0), (21, zi_ld 1 0 22), (22, zi_ld 0 1 23), (23, zi_ld 0 2 24), (24, zi_ld 0 3 25), (25, zi_callV mX1_laysTrades 16 4 28), (28, zi_st 0 5 30), (30, zi_ld 1 0 31), (31, zi_ld 0 5 33), (33, zi_if (fun a => zc_ne a 0) 41 36), (36, zi_push (zvi (-2)) 38), (38, zi_goto 43), (41, zi_ld 0 5 43), (43, zi_callV mX1_fine 16 2 46), (46, zi_retv 0)], fun _ _ => none)
noncomputable def mX1_trades : ZF := zrunM kX1_trades 6
theorem enX1_trades (x0 : Option Nat) (x1 : Int) (x2 : Int) (x3 : Int) (h : PH) : mX1_trades [zvr x0, zvi x1, zvi x2, zvi x3] h = zev kX1_trades 0 [zvr x0, zvi x1, zvi x2, zvi x3, zvu, zvu] [] h := zrunM_eq rfl rfl
theorem rX1_trades : (∀ (a : Option Nat) (L st : List ZV) (h : PH), zev kX1_trades 0 (zvr a :: L) st h = zev kX1_trades 1 (zvr a :: L) (zvr a :: st) h) ∧
  (∀ (x0 : ZV) (a : Int) (L st : List ZV) (h : PH), zev kX1_trades 1 (x0 :: zvi a :: L) st h = zev kX1_trades 2 (x0 :: zvi a :: L) (zvi a :: st) h) ∧
  (∀ (x0 x1 : ZV) (a : Int) (L st : List ZV) (h : PH), zev kX1_trades 2 (x0 :: x1 :: zvi a :: L) st h = zev kX1_trades 3 (x0 :: x1 :: zvi a :: L) (zvi a :: st) h) ∧
  (∀ (x0 x1 x2 : ZV) (a : Int) (L st : List ZV) (h : PH), zev kX1_trades 3 (x0 :: x1 :: x2 :: zvi a :: L) st h = zev kX1_trades 4 (x0 :: x1 :: x2 :: zvi a :: L) (zvi a :: st) h) ∧
  (∀ (v0 v1 v2 : ZV) (q : Nat) (L st : List ZV) (h : PH), zev kX1_trades 4 L (v2 :: v1 :: v0 :: zvr (some q) :: st) h = if (ph_K h q).1 % 1000 = 16 ∧ zcat st ≤ 8 then zk kX1_trades 4 7 L st (mX1_refuses [zvr (some q), v0, v1, v2] h) else none) ∧
  (∀ (x0 x1 x2 x3 x4 : ZV) (a : Int) (L st : List ZV) (h : PH) (hx : zisL x3 = false) , zev kX1_trades 7 (x0 :: x1 :: x2 :: x3 :: x4 :: L) (zvi a :: st) h = zev kX1_trades 9 (x0 :: x1 :: x2 :: x3 :: zvi a :: L) st h) ∧
  (∀ (x0 x1 x2 x3 : ZV) (a : Int) (L st : List ZV) (h : PH), zev kX1_trades 9 (x0 :: x1 :: x2 :: x3 :: zvi a :: L) st h = zev kX1_trades 11 (x0 :: x1 :: x2 :: x3 :: zvi a :: L) (zvi a :: st) h) ∧
  (∀ (a : Int) (L st : List ZV) (h : PH), zev kX1_trades 11 L (zvi a :: st) h = if a ≤ 0 then zev kX1_trades 21 L st h else zev kX1_trades 14 L st h) ∧
  (∀ (a : Option Nat) (L st : List ZV) (h : PH), zev kX1_trades 14 (zvr a :: L) st h = zev kX1_trades 15 (zvr a :: L) (zvr a :: st) h) ∧
  (∀ (x0 x1 x2 x3 : ZV) (a : Int) (L st : List ZV) (h : PH), zev kX1_trades 15 (x0 :: x1 :: x2 :: x3 :: zvi a :: L) st h = zev kX1_trades 17 (x0 :: x1 :: x2 :: x3 :: zvi a :: L) (zvi a :: st) h) ∧
  (∀ (v0 : ZV) (q : Nat) (L st : List ZV) (h : PH), zev kX1_trades 17 L (v0 :: zvr (some q) :: st) h = if (ph_K h q).1 % 1000 = 16 ∧ zcat st ≤ 8 then zk kX1_trades 17 20 L st (mX1_refused [zvr (some q), v0] h) else none) ∧
  (∀ (a : Int) (L : List ZV) (h : PH), zev kX1_trades 20 L [zvi a] h = zrv (zvi a) h) ∧
  (∀ (a : Option Nat) (L st : List ZV) (h : PH), zev kX1_trades 21 (zvr a :: L) st h = zev kX1_trades 22 (zvr a :: L) (zvr a :: st) h) ∧
  (∀ (x0 : ZV) (a : Int) (L st : List ZV) (h : PH), zev kX1_trades 22 (x0 :: zvi a :: L) st h = zev kX1_trades 23 (x0 :: zvi a :: L) (zvi a :: st) h) ∧
  (∀ (x0 x1 : ZV) (a : Int) (L st : List ZV) (h : PH), zev kX1_trades 23 (x0 :: x1 :: zvi a :: L) st h = zev kX1_trades 24 (x0 :: x1 :: zvi a :: L) (zvi a :: st) h) ∧
  (∀ (x0 x1 x2 : ZV) (a : Int) (L st : List ZV) (h : PH), zev kX1_trades 24 (x0 :: x1 :: x2 :: zvi a :: L) st h = zev kX1_trades 25 (x0 :: x1 :: x2 :: zvi a :: L) (zvi a :: st) h) ∧
  (∀ (v0 v1 v2 : ZV) (q : Nat) (L st : List ZV) (h : PH), zev kX1_trades 25 L (v2 :: v1 :: v0 :: zvr (some q) :: st) h = if (ph_K h q).1 % 1000 = 16 ∧ zcat st ≤ 8 then zk kX1_trades 25 28 L st (mX1_laysTrades [zvr (some q), v0, v1, v2] h) else none) ∧
  (∀ (x0 x1 x2 x3 x4 x5 : ZV) (a : Int) (L st : List ZV) (h : PH) (hx : zisL x4 = false) , zev kX1_trades 28 (x0 :: x1 :: x2 :: x3 :: x4 :: x5 :: L) (zvi a :: st) h = zev kX1_trades 30 (x0 :: x1 :: x2 :: x3 :: x4 :: zvi a :: L) st h) ∧
  (∀ (a : Option Nat) (L st : List ZV) (h : PH), zev kX1_trades 30 (zvr a :: L) st h = zev kX1_trades 31 (zvr a :: L) (zvr a :: st) h) ∧
  (∀ (x0 x1 x2 x3 x4 : ZV) (a : Int) (L st : List ZV) (h : PH), zev kX1_trades 31 (x0 :: x1 :: x2 :: x3 :: x4 :: zvi a :: L) st h = zev kX1_trades 33 (x0 :: x1 :: x2 :: x3 :: x4 :: zvi a :: L) (zvi a :: st) h) ∧
  (∀ (a : Int) (L st : List ZV) (h : PH), zev kX1_trades 33 L (zvi a :: st) h = if a ≠ 0 then zev kX1_trades 41 L st h else zev kX1_trades 36 L st h) ∧
  (∀ (L st : List ZV) (h : PH), zev kX1_trades 36 L st h = zev kX1_trades 38 L (zvi (-2) :: st) h) ∧
  (∀ (L st : List ZV) (h : PH), zev kX1_trades 38 L st h = zev kX1_trades 43 L st h) ∧
  (∀ (x0 x1 x2 x3 x4 : ZV) (a : Int) (L st : List ZV) (h : PH), zev kX1_trades 41 (x0 :: x1 :: x2 :: x3 :: x4 :: zvi a :: L) st h = zev kX1_trades 43 (x0 :: x1 :: x2 :: x3 :: x4 :: zvi a :: L) (zvi a :: st) h) ∧
  (∀ (v0 : ZV) (q : Nat) (L st : List ZV) (h : PH), zev kX1_trades 43 L (v0 :: zvr (some q) :: st) h = if (ph_K h q).1 % 1000 = 16 ∧ zcat st ≤ 8 then zk kX1_trades 43 46 L st (mX1_fine [zvr (some q), v0] h) else none) ∧
  (∀ (a : Int) (L : List ZV) (h : PH), zev kX1_trades 46 L [zvi a] h = zrv (zvi a) h) :=
  ⟨fun a L st h => e_ld0R (n := 1) rfl,
  fun x0 a L st h => e_ld1I (n := 2) rfl,
  fun x0 x1 a L st h => e_ld2I (n := 3) rfl,
  fun x0 x1 x2 a L st h => e_ld3I (n := 4) rfl,
  fun v0 v1 v2 q L st h => e_callV4 (F := mX1_refuses) (kd := 16) (n := 7) rfl,
  fun x0 x1 x2 x3 x4 a L st h hx => e_st4I (n := 9) rfl hx,
  fun x0 x1 x2 x3 a L st h => e_ld4I (n := 11) rfl,
  fun a L st h => e_ifle (t := 21) (n := 14) rfl,
  fun a L st h => e_ld0R (n := 15) rfl,
  fun x0 x1 x2 x3 a L st h => e_ld4I (n := 17) rfl,
  fun v0 q L st h => e_callV2 (F := mX1_refused) (kd := 16) (n := 20) rfl,
  fun a L h => e_retI rfl,
  fun a L st h => e_ld0R (n := 22) rfl,
  fun x0 a L st h => e_ld1I (n := 23) rfl,
  fun x0 x1 a L st h => e_ld2I (n := 24) rfl,
  fun x0 x1 x2 a L st h => e_ld3I (n := 25) rfl,
  fun v0 v1 v2 q L st h => e_callV4 (F := mX1_laysTrades) (kd := 16) (n := 28) rfl,
  fun x0 x1 x2 x3 x4 x5 a L st h hx => e_st5I (n := 30) rfl hx,
  fun a L st h => e_ld0R (n := 31) rfl,
  fun x0 x1 x2 x3 x4 a L st h => e_ld5I (n := 33) rfl,
  fun a L st h => e_ifne (t := 41) (n := 36) rfl,
  fun L st h => e_push (v := zvi (-2)) (n := 38) rfl,
  fun L st h => e_goto (t := 43) rfl,
  fun x0 x1 x2 x3 x4 a L st h => e_ld5I (n := 43) rfl,
  fun v0 q L st h => e_callV2 (F := mX1_fine) (kd := 16) (n := 46) rfl,
  fun a L h => e_retI rfl⟩
theorem allX1_trades : zall yX1_trades cX1_trades 6 (some .int) 9 kX1_trades.1 :=
  ⟨k_aload_n dX1_trades_0,
  k_iload_n dX1_trades_1,
  k_iload_n dX1_trades_2,
  k_iload_n dX1_trades_3,
  k_callV (y2 := yX1_refuses) (C := RX1) (T0 := TX1) (ci := 0) dX1_trades_4 sndX1_refuses rfl q1334 q1336 qs36 q128 q1337 (by decide +kernel) ⟨by decide, by decide⟩ (by decide) (by decide),
  k_istore dX1_trades_7,
  k_iload dX1_trades_9,
  k_ifle (t := 21) dX1_trades_11 (by decide),
  k_aload_n dX1_trades_14,
  k_iload dX1_trades_15,
  k_callV (y2 := yX1_refused) (C := RX1) (T0 := TX1) (ci := 0) dX1_trades_17 sndX1_refused rfl q378 q380 qs1 q128 q381 (by decide +kernel) ⟨by decide, by decide⟩ (by decide) (by decide),
  k_iret dX1_trades_20,
  k_aload_n dX1_trades_21,
  k_iload_n dX1_trades_22,
  k_iload_n dX1_trades_23,
  k_iload_n dX1_trades_24,
  k_callV (y2 := yX1_laysTrades) (C := RX1) (T0 := TX1) (ci := 0) dX1_trades_25 sndX1_laysTrades rfl q1425 q1427 qs46 q128 q1428 (by decide +kernel) ⟨by decide, by decide⟩ (by decide) (by decide),
  k_istore dX1_trades_28,
  k_aload_n dX1_trades_30,
  k_iload dX1_trades_31,
  k_ifne (t := 41) dX1_trades_33 (by decide),
  k_bipush dX1_trades_36,
  k_goto (t := 43) dX1_trades_38 (by decide),
  k_iload dX1_trades_41,
  k_callV (y2 := yX1_fine) (C := RX1) (T0 := TX1) (ci := 0) dX1_trades_43 sndX1_fine rfl q1211 q1213 qs32 q128 q1214 (by decide +kernel) ⟨by decide, by decide⟩ (by decide) (by decide),
  k_iret dX1_trades_46, trivial⟩
theorem sndX1_trades : MSound 9 yX1_trades (ws_ yX1_trades cX1_trades 6 (some .int)) mX1_trades := msound_M (by decide) allX1_trades (fun _ _ => rfl)
/-! LinkTimes.trade(IIIII)I -/
noncomputable def kX1_trade : ZM := ([(0, zi_ld 1 0 1), (1, zi_ld 0 1 2), (2, zi_ld 0 2 3), (3, zi_ld 0 3 4), (4, zi_callV mX1_refuses 16 4 7), (7, zi_st 0 6 9), (9, zi_ld 0 6 11), (11, zi_if (fun a => zc_le a 0) 21 14), (14, zi_ld 1 0 15), (15, zi_ld 0 6 17), (17, zi_callV mX1_refused 16 2 20), (20, zi_retv 0), (21, zi_ld 1 0 22), (22, zi_ld 0 1 23), (23, zi_ld 0 2 24), (24, zi_ld 0 3 25), (25, zi_callV mX1_laysTrades 16 4 28), (28, zi_st 0 7 30), (30, zi_ld 0 7 32), (32, zi_if (fun a => zc_ne a 0) 42 35), (35, zi_ld 1 0 36), (36, zi_push (zvi (-2)) 38), (38, zi_callV mX1_fine 16 2 41), (41, zi_retv 0), (42, zi_ld 0 4 44), (44, zi_push (zvi 0) 45), (45, zi_ld 0 7 47), (47, zi_push (zvi 1) 48), (48, zi_bin (fun a b => w32 (a - b)) 49), (49, zi_callS mX1_isIn 3 52), (52, zi_if (fun a => zc_eq a 0) 65 55), (55, zi_ld 0 5 57), (57, zi_push (zvi 0) 58), (58, zi_push (zvi 2) 59), (59, zi_callS mX1_isIn 3 62), (62, zi_if (fun a => zc_ne a 0) 71 65), (65, zi_ld 1 0 66), (66, zi_push (zvi 1) 67), (67, zi_callV mX1_refused 16 2 70), (70, zi_retv 0), (71, zi_ld 0 5 73), (73, zi_push (zvi 2) 74), (74, zi_cmp zc_ge 104 77), (77, zi_ld 1 0 78), (78, zi_ld 0 5 80), (80, zi_if (fun a => zc_ne a 0) 93 83), (83, zi_ld 1 0 84), (84, zi_getR 16 9 87), (87, zi_ld 0 4 89), (89, zi_ald 1 90), (90, zi_goto 100), (93, zi_ld 1 0 94), (94, zi_getR 16 10 97), (97, zi_ld 0 4 99), (99, zi_ald 1 100), (100, zi_callV mX1_fine 16 2 103), (103, zi_retv 0), (104, zi_ld 1 0 105), (105, zi_ld 0 1 106), (106, zi_ld 0 2 107), (107, zi_cmp zc_ne 114 110), (110, zi_ld 0 3 111), (111, zi_goto 139), (114, zi_ld 1 0 115), (115, zi_getR 16 8 118), (118, zi_getR 17 1 121), (121, zi_ld 1 0 122), (122, zi_getR 16 8 125), (125, zi_ld 0 1 126), (126, zi_ld 0 2 127), (127, zi_ld 0 3 128), (128, zi_ld 1 0 129), (129, zi_getR 16 9 132), (132, zi_ld 0 4 134), (134, zi_ald 1 135), (135, zi_callV mX3_bestBy 17 5 138), (138, zi_ald 1 139), (139, zi_callV mX1_fine 16 2 142), (142, zi_retv 0)], fun _ _ => none)
noncomputable def mX1_trade : ZF := zrunM kX1_trade 8
theorem enX1_trade (x0 : Option Nat) (x1 : Int) (x2 : Int) (x3 : Int) (x4 : Int) (x5 : Int) (h : PH) : mX1_trade [zvr x0, zvi x1, zvi x2, zvi x3, zvi x4, zvi x5] h = zev kX1_trade 0 [zvr x0, zvi x1, zvi x2, zvi x3, zvi x4, zvi x5, zvu, zvu] [] h := zrunM_eq rfl rfl
theorem rX1_trade : (∀ (a : Option Nat) (L st : List ZV) (h : PH), zev kX1_trade 0 (zvr a :: L) st h = zev kX1_trade 1 (zvr a :: L) (zvr a :: st) h) ∧
  (∀ (x0 : ZV) (a : Int) (L st : List ZV) (h : PH), zev kX1_trade 1 (x0 :: zvi a :: L) st h = zev kX1_trade 2 (x0 :: zvi a :: L) (zvi a :: st) h) ∧
  (∀ (x0 x1 : ZV) (a : Int) (L st : List ZV) (h : PH), zev kX1_trade 2 (x0 :: x1 :: zvi a :: L) st h = zev kX1_trade 3 (x0 :: x1 :: zvi a :: L) (zvi a :: st) h) ∧
  (∀ (x0 x1 x2 : ZV) (a : Int) (L st : List ZV) (h : PH), zev kX1_trade 3 (x0 :: x1 :: x2 :: zvi a :: L) st h = zev kX1_trade 4 (x0 :: x1 :: x2 :: zvi a :: L) (zvi a :: st) h) ∧
  (∀ (v0 v1 v2 : ZV) (q : Nat) (L st : List ZV) (h : PH), zev kX1_trade 4 L (v2 :: v1 :: v0 :: zvr (some q) :: st) h = if (ph_K h q).1 % 1000 = 16 ∧ zcat st ≤ 8 then zk kX1_trade 4 7 L st (mX1_refuses [zvr (some q), v0, v1, v2] h) else none) ∧
  (∀ (x0 x1 x2 x3 x4 x5 x6 : ZV) (a : Int) (L st : List ZV) (h : PH) (hx : zisL x5 = false) , zev kX1_trade 7 (x0 :: x1 :: x2 :: x3 :: x4 :: x5 :: x6 :: L) (zvi a :: st) h = zev kX1_trade 9 (x0 :: x1 :: x2 :: x3 :: x4 :: x5 :: zvi a :: L) st h) ∧
  (∀ (x0 x1 x2 x3 x4 x5 : ZV) (a : Int) (L st : List ZV) (h : PH), zev kX1_trade 9 (x0 :: x1 :: x2 :: x3 :: x4 :: x5 :: zvi a :: L) st h = zev kX1_trade 11 (x0 :: x1 :: x2 :: x3 :: x4 :: x5 :: zvi a :: L) (zvi a :: st) h) ∧
  (∀ (a : Int) (L st : List ZV) (h : PH), zev kX1_trade 11 L (zvi a :: st) h = if a ≤ 0 then zev kX1_trade 21 L st h else zev kX1_trade 14 L st h) ∧
  (∀ (a : Option Nat) (L st : List ZV) (h : PH), zev kX1_trade 14 (zvr a :: L) st h = zev kX1_trade 15 (zvr a :: L) (zvr a :: st) h) ∧
  (∀ (x0 x1 x2 x3 x4 x5 : ZV) (a : Int) (L st : List ZV) (h : PH), zev kX1_trade 15 (x0 :: x1 :: x2 :: x3 :: x4 :: x5 :: zvi a :: L) st h = zev kX1_trade 17 (x0 :: x1 :: x2 :: x3 :: x4 :: x5 :: zvi a :: L) (zvi a :: st) h) ∧
  (∀ (v0 : ZV) (q : Nat) (L st : List ZV) (h : PH), zev kX1_trade 17 L (v0 :: zvr (some q) :: st) h = if (ph_K h q).1 % 1000 = 16 ∧ zcat st ≤ 8 then zk kX1_trade 17 20 L st (mX1_refused [zvr (some q), v0] h) else none) ∧
  (∀ (a : Int) (L : List ZV) (h : PH), zev kX1_trade 20 L [zvi a] h = zrv (zvi a) h) ∧
  (∀ (a : Option Nat) (L st : List ZV) (h : PH), zev kX1_trade 21 (zvr a :: L) st h = zev kX1_trade 22 (zvr a :: L) (zvr a :: st) h) ∧
  (∀ (x0 : ZV) (a : Int) (L st : List ZV) (h : PH), zev kX1_trade 22 (x0 :: zvi a :: L) st h = zev kX1_trade 23 (x0 :: zvi a :: L) (zvi a :: st) h) ∧
  (∀ (x0 x1 : ZV) (a : Int) (L st : List ZV) (h : PH), zev kX1_trade 23 (x0 :: x1 :: zvi a :: L) st h = zev kX1_trade 24 (x0 :: x1 :: zvi a :: L) (zvi a :: st) h) ∧
  (∀ (x0 x1 x2 : ZV) (a : Int) (L st : List ZV) (h : PH), zev kX1_trade 24 (x0 :: x1 :: x2 :: zvi a :: L) st h = zev kX1_trade 25 (x0 :: x1 :: x2 :: zvi a :: L) (zvi a :: st) h) ∧
  (∀ (v0 v1 v2 : ZV) (q : Nat) (L st : List ZV) (h : PH), zev kX1_trade 25 L (v2 :: v1 :: v0 :: zvr (some q) :: st) h = if (ph_K h q).1 % 1000 = 16 ∧ zcat st ≤ 8 then zk kX1_trade 25 28 L st (mX1_laysTrades [zvr (some q), v0, v1, v2] h) else none) ∧
  (∀ (x0 x1 x2 x3 x4 x5 x6 x7 : ZV) (a : Int) (L st : List ZV) (h : PH) (hx : zisL x6 = false) , zev kX1_trade 28 (x0 :: x1 :: x2 :: x3 :: x4 :: x5 :: x6 :: x7 :: L) (zvi a :: st) h = zev kX1_trade 30 (x0 :: x1 :: x2 :: x3 :: x4 :: x5 :: x6 :: zvi a :: L) st h) ∧
  (∀ (x0 x1 x2 x3 x4 x5 x6 : ZV) (a : Int) (L st : List ZV) (h : PH), zev kX1_trade 30 (x0 :: x1 :: x2 :: x3 :: x4 :: x5 :: x6 :: zvi a :: L) st h = zev kX1_trade 32 (x0 :: x1 :: x2 :: x3 :: x4 :: x5 :: x6 :: zvi a :: L) (zvi a :: st) h) ∧
  (∀ (a : Int) (L st : List ZV) (h : PH), zev kX1_trade 32 L (zvi a :: st) h = if a ≠ 0 then zev kX1_trade 42 L st h else zev kX1_trade 35 L st h) ∧
  (∀ (a : Option Nat) (L st : List ZV) (h : PH), zev kX1_trade 35 (zvr a :: L) st h = zev kX1_trade 36 (zvr a :: L) (zvr a :: st) h) ∧
  (∀ (L st : List ZV) (h : PH), zev kX1_trade 36 L st h = zev kX1_trade 38 L (zvi (-2) :: st) h) ∧
  (∀ (v0 : ZV) (q : Nat) (L st : List ZV) (h : PH), zev kX1_trade 38 L (v0 :: zvr (some q) :: st) h = if (ph_K h q).1 % 1000 = 16 ∧ zcat st ≤ 8 then zk kX1_trade 38 41 L st (mX1_fine [zvr (some q), v0] h) else none) ∧
  (∀ (a : Int) (L : List ZV) (h : PH), zev kX1_trade 41 L [zvi a] h = zrv (zvi a) h) ∧
  (∀ (x0 x1 x2 x3 : ZV) (a : Int) (L st : List ZV) (h : PH), zev kX1_trade 42 (x0 :: x1 :: x2 :: x3 :: zvi a :: L) st h = zev kX1_trade 44 (x0 :: x1 :: x2 :: x3 :: zvi a :: L) (zvi a :: st) h) ∧
  (∀ (L st : List ZV) (h : PH), zev kX1_trade 44 L st h = zev kX1_trade 45 L (zvi 0 :: st) h) ∧
  (∀ (x0 x1 x2 x3 x4 x5 x6 : ZV) (a : Int) (L st : List ZV) (h : PH), zev kX1_trade 45 (x0 :: x1 :: x2 :: x3 :: x4 :: x5 :: x6 :: zvi a :: L) st h = zev kX1_trade 47 (x0 :: x1 :: x2 :: x3 :: x4 :: x5 :: x6 :: zvi a :: L) (zvi a :: st) h) ∧
  (∀ (L st : List ZV) (h : PH), zev kX1_trade 47 L st h = zev kX1_trade 48 L (zvi 1 :: st) h) ∧
  (∀ (a b : Int) (L st : List ZV) (h : PH), zev kX1_trade 48 L (zvi b :: zvi a :: st) h = zev kX1_trade 49 L (zvi (w32 (a - b)) :: st) h) ∧
  (∀ (v0 v1 v2 : ZV) (L st : List ZV) (h : PH), zev kX1_trade 49 L (v2 :: v1 :: v0 :: st) h = if zcat st ≤ 8 then zk kX1_trade 49 52 L st (mX1_isIn [v0, v1, v2] h) else none) ∧
  (∀ (a : Int) (L st : List ZV) (h : PH), zev kX1_trade 52 L (zvi a :: st) h = if a = 0 then zev kX1_trade 65 L st h else zev kX1_trade 55 L st h) ∧
  (∀ (x0 x1 x2 x3 x4 : ZV) (a : Int) (L st : List ZV) (h : PH), zev kX1_trade 55 (x0 :: x1 :: x2 :: x3 :: x4 :: zvi a :: L) st h = zev kX1_trade 57 (x0 :: x1 :: x2 :: x3 :: x4 :: zvi a :: L) (zvi a :: st) h) ∧
  (∀ (L st : List ZV) (h : PH), zev kX1_trade 57 L st h = zev kX1_trade 58 L (zvi 0 :: st) h) ∧
  (∀ (L st : List ZV) (h : PH), zev kX1_trade 58 L st h = zev kX1_trade 59 L (zvi 2 :: st) h) ∧
  (∀ (v0 v1 v2 : ZV) (L st : List ZV) (h : PH), zev kX1_trade 59 L (v2 :: v1 :: v0 :: st) h = if zcat st ≤ 8 then zk kX1_trade 59 62 L st (mX1_isIn [v0, v1, v2] h) else none) ∧
  (∀ (a : Int) (L st : List ZV) (h : PH), zev kX1_trade 62 L (zvi a :: st) h = if a ≠ 0 then zev kX1_trade 71 L st h else zev kX1_trade 65 L st h) ∧
  (∀ (a : Option Nat) (L st : List ZV) (h : PH), zev kX1_trade 65 (zvr a :: L) st h = zev kX1_trade 66 (zvr a :: L) (zvr a :: st) h) ∧
  (∀ (L st : List ZV) (h : PH), zev kX1_trade 66 L st h = zev kX1_trade 67 L (zvi 1 :: st) h) ∧
  (∀ (v0 : ZV) (q : Nat) (L st : List ZV) (h : PH), zev kX1_trade 67 L (v0 :: zvr (some q) :: st) h = if (ph_K h q).1 % 1000 = 16 ∧ zcat st ≤ 8 then zk kX1_trade 67 70 L st (mX1_refused [zvr (some q), v0] h) else none) ∧
  (∀ (a : Int) (L : List ZV) (h : PH), zev kX1_trade 70 L [zvi a] h = zrv (zvi a) h) ∧
  (∀ (x0 x1 x2 x3 x4 : ZV) (a : Int) (L st : List ZV) (h : PH), zev kX1_trade 71 (x0 :: x1 :: x2 :: x3 :: x4 :: zvi a :: L) st h = zev kX1_trade 73 (x0 :: x1 :: x2 :: x3 :: x4 :: zvi a :: L) (zvi a :: st) h) ∧
  (∀ (L st : List ZV) (h : PH), zev kX1_trade 73 L st h = zev kX1_trade 74 L (zvi 2 :: st) h) ∧
  (∀ (a b : Int) (L st : List ZV) (h : PH), zev kX1_trade 74 L (zvi b :: zvi a :: st) h = if a ≥ b then zev kX1_trade 104 L st h else zev kX1_trade 77 L st h) ∧
  (∀ (a : Option Nat) (L st : List ZV) (h : PH), zev kX1_trade 77 (zvr a :: L) st h = zev kX1_trade 78 (zvr a :: L) (zvr a :: st) h) ∧
  (∀ (x0 x1 x2 x3 x4 : ZV) (a : Int) (L st : List ZV) (h : PH), zev kX1_trade 78 (x0 :: x1 :: x2 :: x3 :: x4 :: zvi a :: L) st h = zev kX1_trade 80 (x0 :: x1 :: x2 :: x3 :: x4 :: zvi a :: L) (zvi a :: st) h) ∧
  (∀ (a : Int) (L st : List ZV) (h : PH), zev kX1_trade 80 L (zvi a :: st) h = if a ≠ 0 then zev kX1_trade 93 L st h else zev kX1_trade 83 L st h) ∧
  (∀ (a : Option Nat) (L st : List ZV) (h : PH), zev kX1_trade 83 (zvr a :: L) st h = zev kX1_trade 84 (zvr a :: L) (zvr a :: st) h) ∧
  (∀ (q : Nat) (L st : List ZV) (h : PH), zev kX1_trade 84 L (zvr (some q) :: st) h = if (ph_K h q).1 % 1000 = 16 then zev kX1_trade 87 L (zvr (ph_R h q 9) :: st) h else none) ∧
  (∀ (x0 x1 x2 x3 : ZV) (a : Int) (L st : List ZV) (h : PH), zev kX1_trade 87 (x0 :: x1 :: x2 :: x3 :: zvi a :: L) st h = zev kX1_trade 89 (x0 :: x1 :: x2 :: x3 :: zvi a :: L) (zvi a :: st) h) ∧
  (∀ (j : Int) (q : Nat) (L st : List ZV) (h : PH), zev kX1_trade 89 L (zvi j :: zvr (some q) :: st) h = if (ph_K h q).1 % 1000 = 1 ∧ 0 ≤ j ∧ j < (ph_K h q).2 then zev kX1_trade 90 L (zvi (ph_I h q j) :: st) h else none) ∧
  (∀ (L st : List ZV) (h : PH), zev kX1_trade 90 L st h = zev kX1_trade 100 L st h) ∧
  (∀ (a : Option Nat) (L st : List ZV) (h : PH), zev kX1_trade 93 (zvr a :: L) st h = zev kX1_trade 94 (zvr a :: L) (zvr a :: st) h) ∧
  (∀ (q : Nat) (L st : List ZV) (h : PH), zev kX1_trade 94 L (zvr (some q) :: st) h = if (ph_K h q).1 % 1000 = 16 then zev kX1_trade 97 L (zvr (ph_R h q 10) :: st) h else none) ∧
  (∀ (x0 x1 x2 x3 : ZV) (a : Int) (L st : List ZV) (h : PH), zev kX1_trade 97 (x0 :: x1 :: x2 :: x3 :: zvi a :: L) st h = zev kX1_trade 99 (x0 :: x1 :: x2 :: x3 :: zvi a :: L) (zvi a :: st) h) ∧
  (∀ (j : Int) (q : Nat) (L st : List ZV) (h : PH), zev kX1_trade 99 L (zvi j :: zvr (some q) :: st) h = if (ph_K h q).1 % 1000 = 1 ∧ 0 ≤ j ∧ j < (ph_K h q).2 then zev kX1_trade 100 L (zvi (ph_I h q j) :: st) h else none) ∧
  (∀ (v0 : ZV) (q : Nat) (L st : List ZV) (h : PH), zev kX1_trade 100 L (v0 :: zvr (some q) :: st) h = if (ph_K h q).1 % 1000 = 16 ∧ zcat st ≤ 8 then zk kX1_trade 100 103 L st (mX1_fine [zvr (some q), v0] h) else none) ∧
  (∀ (a : Int) (L : List ZV) (h : PH), zev kX1_trade 103 L [zvi a] h = zrv (zvi a) h) ∧
  (∀ (a : Option Nat) (L st : List ZV) (h : PH), zev kX1_trade 104 (zvr a :: L) st h = zev kX1_trade 105 (zvr a :: L) (zvr a :: st) h) ∧
  (∀ (x0 : ZV) (a : Int) (L st : List ZV) (h : PH), zev kX1_trade 105 (x0 :: zvi a :: L) st h = zev kX1_trade 106 (x0 :: zvi a :: L) (zvi a :: st) h) ∧
  (∀ (x0 x1 : ZV) (a : Int) (L st : List ZV) (h : PH), zev kX1_trade 106 (x0 :: x1 :: zvi a :: L) st h = zev kX1_trade 107 (x0 :: x1 :: zvi a :: L) (zvi a :: st) h) ∧
  (∀ (a b : Int) (L st : List ZV) (h : PH), zev kX1_trade 107 L (zvi b :: zvi a :: st) h = if a ≠ b then zev kX1_trade 114 L st h else zev kX1_trade 110 L st h) ∧
  (∀ (x0 x1 x2 : ZV) (a : Int) (L st : List ZV) (h : PH), zev kX1_trade 110 (x0 :: x1 :: x2 :: zvi a :: L) st h = zev kX1_trade 111 (x0 :: x1 :: x2 :: zvi a :: L) (zvi a :: st) h) ∧
  (∀ (L st : List ZV) (h : PH), zev kX1_trade 111 L st h = zev kX1_trade 139 L st h) ∧
  (∀ (a : Option Nat) (L st : List ZV) (h : PH), zev kX1_trade 114 (zvr a :: L) st h = zev kX1_trade 115 (zvr a :: L) (zvr a :: st) h) ∧
  (∀ (q : Nat) (L st : List ZV) (h : PH), zev kX1_trade 115 L (zvr (some q) :: st) h = if (ph_K h q).1 % 1000 = 16 then zev kX1_trade 118 L (zvr (ph_R h q 8) :: st) h else none) ∧
  (∀ (q : Nat) (L st : List ZV) (h : PH), zev kX1_trade 118 L (zvr (some q) :: st) h = if (ph_K h q).1 % 1000 = 17 then zev kX1_trade 121 L (zvr (ph_R h q 1) :: st) h else none) ∧
  (∀ (a : Option Nat) (L st : List ZV) (h : PH), zev kX1_trade 121 (zvr a :: L) st h = zev kX1_trade 122 (zvr a :: L) (zvr a :: st) h) ∧
  (∀ (q : Nat) (L st : List ZV) (h : PH), zev kX1_trade 122 L (zvr (some q) :: st) h = if (ph_K h q).1 % 1000 = 16 then zev kX1_trade 125 L (zvr (ph_R h q 8) :: st) h else none) ∧
  (∀ (x0 : ZV) (a : Int) (L st : List ZV) (h : PH), zev kX1_trade 125 (x0 :: zvi a :: L) st h = zev kX1_trade 126 (x0 :: zvi a :: L) (zvi a :: st) h) ∧
  (∀ (x0 x1 : ZV) (a : Int) (L st : List ZV) (h : PH), zev kX1_trade 126 (x0 :: x1 :: zvi a :: L) st h = zev kX1_trade 127 (x0 :: x1 :: zvi a :: L) (zvi a :: st) h) ∧
  (∀ (x0 x1 x2 : ZV) (a : Int) (L st : List ZV) (h : PH), zev kX1_trade 127 (x0 :: x1 :: x2 :: zvi a :: L) st h = zev kX1_trade 128 (x0 :: x1 :: x2 :: zvi a :: L) (zvi a :: st) h) ∧
  (∀ (a : Option Nat) (L st : List ZV) (h : PH), zev kX1_trade 128 (zvr a :: L) st h = zev kX1_trade 129 (zvr a :: L) (zvr a :: st) h) ∧
  (∀ (q : Nat) (L st : List ZV) (h : PH), zev kX1_trade 129 L (zvr (some q) :: st) h = if (ph_K h q).1 % 1000 = 16 then zev kX1_trade 132 L (zvr (ph_R h q 9) :: st) h else none) ∧
  (∀ (x0 x1 x2 x3 : ZV) (a : Int) (L st : List ZV) (h : PH), zev kX1_trade 132 (x0 :: x1 :: x2 :: x3 :: zvi a :: L) st h = zev kX1_trade 134 (x0 :: x1 :: x2 :: x3 :: zvi a :: L) (zvi a :: st) h) ∧
  (∀ (j : Int) (q : Nat) (L st : List ZV) (h : PH), zev kX1_trade 134 L (zvi j :: zvr (some q) :: st) h = if (ph_K h q).1 % 1000 = 1 ∧ 0 ≤ j ∧ j < (ph_K h q).2 then zev kX1_trade 135 L (zvi (ph_I h q j) :: st) h else none) ∧
  (∀ (v0 v1 v2 v3 : ZV) (q : Nat) (L st : List ZV) (h : PH), zev kX1_trade 135 L (v3 :: v2 :: v1 :: v0 :: zvr (some q) :: st) h = if (ph_K h q).1 % 1000 = 17 ∧ zcat st ≤ 8 then zk kX1_trade 135 138 L st (mX3_bestBy [zvr (some q), v0, v1, v2, v3] h) else none) ∧
  (∀ (j : Int) (q : Nat) (L st : List ZV) (h : PH), zev kX1_trade 138 L (zvi j :: zvr (some q) :: st) h = if (ph_K h q).1 % 1000 = 1 ∧ 0 ≤ j ∧ j < (ph_K h q).2 then zev kX1_trade 139 L (zvi (ph_I h q j) :: st) h else none) ∧
  (∀ (v0 : ZV) (q : Nat) (L st : List ZV) (h : PH), zev kX1_trade 139 L (v0 :: zvr (some q) :: st) h = if (ph_K h q).1 % 1000 = 16 ∧ zcat st ≤ 8 then zk kX1_trade 139 142 L st (mX1_fine [zvr (some q), v0] h) else none) ∧
  (∀ (a : Int) (L : List ZV) (h : PH), zev kX1_trade 142 L [zvi a] h = zrv (zvi a) h) :=
  ⟨fun a L st h => e_ld0R (n := 1) rfl,
  fun x0 a L st h => e_ld1I (n := 2) rfl,
  fun x0 x1 a L st h => e_ld2I (n := 3) rfl,
  fun x0 x1 x2 a L st h => e_ld3I (n := 4) rfl,
  fun v0 v1 v2 q L st h => e_callV4 (F := mX1_refuses) (kd := 16) (n := 7) rfl,
  fun x0 x1 x2 x3 x4 x5 x6 a L st h hx => e_st6I (n := 9) rfl hx,
  fun x0 x1 x2 x3 x4 x5 a L st h => e_ld6I (n := 11) rfl,
  fun a L st h => e_ifle (t := 21) (n := 14) rfl,
  fun a L st h => e_ld0R (n := 15) rfl,
  fun x0 x1 x2 x3 x4 x5 a L st h => e_ld6I (n := 17) rfl,
  fun v0 q L st h => e_callV2 (F := mX1_refused) (kd := 16) (n := 20) rfl,
  fun a L h => e_retI rfl,
  fun a L st h => e_ld0R (n := 22) rfl,
  fun x0 a L st h => e_ld1I (n := 23) rfl,
  fun x0 x1 a L st h => e_ld2I (n := 24) rfl,
  fun x0 x1 x2 a L st h => e_ld3I (n := 25) rfl,
  fun v0 v1 v2 q L st h => e_callV4 (F := mX1_laysTrades) (kd := 16) (n := 28) rfl,
  fun x0 x1 x2 x3 x4 x5 x6 x7 a L st h hx => e_st7I (n := 30) rfl hx,
  fun x0 x1 x2 x3 x4 x5 x6 a L st h => e_ld7I (n := 32) rfl,
  fun a L st h => e_ifne (t := 42) (n := 35) rfl,
  fun a L st h => e_ld0R (n := 36) rfl,
  fun L st h => e_push (v := zvi (-2)) (n := 38) rfl,
  fun v0 q L st h => e_callV2 (F := mX1_fine) (kd := 16) (n := 41) rfl,
  fun a L h => e_retI rfl,
  fun x0 x1 x2 x3 a L st h => e_ld4I (n := 44) rfl,
  fun L st h => e_push (v := zvi 0) (n := 45) rfl,
  fun x0 x1 x2 x3 x4 x5 x6 a L st h => e_ld7I (n := 47) rfl,
  fun L st h => e_push (v := zvi 1) (n := 48) rfl,
  fun a b L st h => e_bin (f := (fun a b => w32 (a - b))) (n := 49) rfl,
  fun v0 v1 v2 L st h => e_callS3 (F := mX1_isIn) (n := 52) rfl,
  fun a L st h => e_ifeq (t := 65) (n := 55) rfl,
  fun x0 x1 x2 x3 x4 a L st h => e_ld5I (n := 57) rfl,
  fun L st h => e_push (v := zvi 0) (n := 58) rfl,
  fun L st h => e_push (v := zvi 2) (n := 59) rfl,
  fun v0 v1 v2 L st h => e_callS3 (F := mX1_isIn) (n := 62) rfl,
  fun a L st h => e_ifne (t := 71) (n := 65) rfl,
  fun a L st h => e_ld0R (n := 66) rfl,
  fun L st h => e_push (v := zvi 1) (n := 67) rfl,
  fun v0 q L st h => e_callV2 (F := mX1_refused) (kd := 16) (n := 70) rfl,
  fun a L h => e_retI rfl,
  fun x0 x1 x2 x3 x4 a L st h => e_ld5I (n := 73) rfl,
  fun L st h => e_push (v := zvi 2) (n := 74) rfl,
  fun a b L st h => e_cmpge (t := 104) (n := 77) rfl,
  fun a L st h => e_ld0R (n := 78) rfl,
  fun x0 x1 x2 x3 x4 a L st h => e_ld5I (n := 80) rfl,
  fun a L st h => e_ifne (t := 93) (n := 83) rfl,
  fun a L st h => e_ld0R (n := 84) rfl,
  fun q L st h => e_getR (kd := 16) (k := 9) (n := 87) rfl,
  fun x0 x1 x2 x3 a L st h => e_ld4I (n := 89) rfl,
  fun j q L st h => e_ald (kd := 1) (n := 90) rfl,
  fun L st h => e_goto (t := 100) rfl,
  fun a L st h => e_ld0R (n := 94) rfl,
  fun q L st h => e_getR (kd := 16) (k := 10) (n := 97) rfl,
  fun x0 x1 x2 x3 a L st h => e_ld4I (n := 99) rfl,
  fun j q L st h => e_ald (kd := 1) (n := 100) rfl,
  fun v0 q L st h => e_callV2 (F := mX1_fine) (kd := 16) (n := 103) rfl,
  fun a L h => e_retI rfl,
  fun a L st h => e_ld0R (n := 105) rfl,
  fun x0 a L st h => e_ld1I (n := 106) rfl,
  fun x0 x1 a L st h => e_ld2I (n := 107) rfl,
  fun a b L st h => e_cmpne (t := 114) (n := 110) rfl,
  fun x0 x1 x2 a L st h => e_ld3I (n := 111) rfl,
  fun L st h => e_goto (t := 139) rfl,
  fun a L st h => e_ld0R (n := 115) rfl,
  fun q L st h => e_getR (kd := 16) (k := 8) (n := 118) rfl,
  fun q L st h => e_getR (kd := 17) (k := 1) (n := 121) rfl,
  fun a L st h => e_ld0R (n := 122) rfl,
  fun q L st h => e_getR (kd := 16) (k := 8) (n := 125) rfl,
  fun x0 a L st h => e_ld1I (n := 126) rfl,
  fun x0 x1 a L st h => e_ld2I (n := 127) rfl,
  fun x0 x1 x2 a L st h => e_ld3I (n := 128) rfl,
  fun a L st h => e_ld0R (n := 129) rfl,
  fun q L st h => e_getR (kd := 16) (k := 9) (n := 132) rfl,
  fun x0 x1 x2 x3 a L st h => e_ld4I (n := 134) rfl,
  fun j q L st h => e_ald (kd := 1) (n := 135) rfl,
  fun v0 v1 v2 v3 q L st h => e_callV5 (F := mX3_bestBy) (kd := 17) (n := 138) rfl,
  fun j q L st h => e_ald (kd := 1) (n := 139) rfl,
  fun v0 q L st h => e_callV2 (F := mX1_fine) (kd := 16) (n := 142) rfl,
  fun a L h => e_retI rfl⟩
theorem allX1_trade : zall yX1_trade cX1_trade 8 (some .int) 9 kX1_trade.1 :=
  ⟨k_aload_n dX1_trade_0,
  k_iload_n dX1_trade_1,
  k_iload_n dX1_trade_2,
  k_iload_n dX1_trade_3,
  k_callV (y2 := yX1_refuses) (C := RX1) (T0 := TX1) (ci := 0) dX1_trade_4 sndX1_refuses rfl q1334 q1336 qs36 q128 q1337 (by decide +kernel) ⟨by decide, by decide⟩ (by decide) (by decide),
  k_istore dX1_trade_7,
  k_iload dX1_trade_9,
  k_ifle (t := 21) dX1_trade_11 (by decide),
  k_aload_n dX1_trade_14,
  k_iload dX1_trade_15,
  k_callV (y2 := yX1_refused) (C := RX1) (T0 := TX1) (ci := 0) dX1_trade_17 sndX1_refused rfl q378 q380 qs1 q128 q381 (by decide +kernel) ⟨by decide, by decide⟩ (by decide) (by decide),
  k_iret dX1_trade_20,
  k_aload_n dX1_trade_21,
  k_iload_n dX1_trade_22,
  k_iload_n dX1_trade_23,
  k_iload_n dX1_trade_24,
  k_callV (y2 := yX1_laysTrades) (C := RX1) (T0 := TX1) (ci := 0) dX1_trade_25 sndX1_laysTrades rfl q1425 q1427 qs46 q128 q1428 (by decide +kernel) ⟨by decide, by decide⟩ (by decide) (by decide),
  k_istore dX1_trade_28,
  k_iload dX1_trade_30,
  k_ifne (t := 42) dX1_trade_32 (by decide),
  k_aload_n dX1_trade_35,
  k_bipush dX1_trade_36,
  k_callV (y2 := yX1_fine) (C := RX1) (T0 := TX1) (ci := 0) dX1_trade_38 sndX1_fine rfl q1211 q1213 qs32 q128 q1214 (by decide +kernel) ⟨by decide, by decide⟩ (by decide) (by decide),
  k_iret dX1_trade_41,
  k_iload dX1_trade_42,
  k_iconst dX1_trade_44,
  k_iload dX1_trade_45,
  k_iconst dX1_trade_47,
  k_isub dX1_trade_48,
  k_callS (y2 := yX1_isIn) dX1_trade_49 sndX1_isIn q375 q376 q128 q377 (by decide +kernel) ⟨by decide, by decide⟩ (by decide) (by decide),
  k_ifeq (t := 65) dX1_trade_52 (by decide),
  k_iload dX1_trade_55,
  k_iconst dX1_trade_57,
  k_iconst dX1_trade_58,
  k_callS (y2 := yX1_isIn) dX1_trade_59 sndX1_isIn q375 q376 q128 q377 (by decide +kernel) ⟨by decide, by decide⟩ (by decide) (by decide),
  k_ifne (t := 71) dX1_trade_62 (by decide),
  k_aload_n dX1_trade_65,
  k_iconst dX1_trade_66,
  k_callV (y2 := yX1_refused) (C := RX1) (T0 := TX1) (ci := 0) dX1_trade_67 sndX1_refused rfl q378 q380 qs1 q128 q381 (by decide +kernel) ⟨by decide, by decide⟩ (by decide) (by decide),
  k_iret dX1_trade_70,
  k_iload dX1_trade_71,
  k_iconst dX1_trade_73,
  k_cmpge (t := 104) dX1_trade_74 (by decide),
  k_aload_n dX1_trade_77,
  k_iload dX1_trade_78,
  k_ifne (t := 93) dX1_trade_80 (by decide),
  k_aload_n dX1_trade_83,
  k_getR (C := RX1) (T := TX1) (N := 19) (ci := 0) (k := 9) (ref := "LinkTimes") dX1_trade_84 rfl in_X1 (by decide) q312 (Or.inl rfl) (fun _ _ _ => rfl),
  k_iload dX1_trade_87,
  k_iald dX1_trade_89,
  k_goto (t := 100) dX1_trade_90 (by decide),
  k_aload_n dX1_trade_93,
  k_getR (C := RX1) (T := TX1) (N := 19) (ci := 0) (k := 10) (ref := "LinkTimes") dX1_trade_94 rfl in_X1 (by decide) q313 (Or.inl rfl) (fun _ _ _ => rfl),
  k_iload dX1_trade_97,
  k_iald dX1_trade_99,
  k_callV (y2 := yX1_fine) (C := RX1) (T0 := TX1) (ci := 0) dX1_trade_100 sndX1_fine rfl q1211 q1213 qs32 q128 q1214 (by decide +kernel) ⟨by decide, by decide⟩ (by decide) (by decide),
  k_iret dX1_trade_103,
  k_aload_n dX1_trade_104,
  k_iload_n dX1_trade_105,
  k_iload_n dX1_trade_106,
  k_cmpne (t := 114) dX1_trade_107 (by decide),
  k_iload_n dX1_trade_110,
  k_goto (t := 139) dX1_trade_111 (by decide),
  k_aload_n dX1_trade_114,
  k_getR (C := RX1) (T := TX1) (N := 19) (ci := 0) (k := 8) (ref := "LinkTimes") dX1_trade_115 rfl in_X1 (by decide) q311 (Or.inl rfl) (fun _ _ _ => rfl),
  k_getRN (C := RX3) (T := TX3) (N := 9) (ci := 1) (k := 1) (ref := "LinkTimes$Search") dX1_trade_118 rfl in_X3 (by decide) q268 (Or.inl rfl) (fun _ _ _ => rfl),
  k_aload_n dX1_trade_121,
  k_getR (C := RX1) (T := TX1) (N := 19) (ci := 0) (k := 8) (ref := "LinkTimes") dX1_trade_122 rfl in_X1 (by decide) q311 (Or.inl rfl) (fun _ _ _ => rfl),
  k_iload_n dX1_trade_125,
  k_iload_n dX1_trade_126,
  k_iload_n dX1_trade_127,
  k_aload_n dX1_trade_128,
  k_getR (C := RX1) (T := TX1) (N := 19) (ci := 0) (k := 9) (ref := "LinkTimes") dX1_trade_129 rfl in_X1 (by decide) q312 (Or.inl rfl) (fun _ _ _ => rfl),
  k_iload dX1_trade_132,
  k_iald dX1_trade_134,
  k_callV (y2 := yX3_bestBy) (C := RX3) (T0 := TX3) (ci := 1) dX1_trade_135 sndX3_bestBy rfl q1435 q1386 q1387 q136 q1388 (by decide +kernel) ⟨by decide, by decide⟩ (by decide) (by decide),
  k_iald dX1_trade_138,
  k_callV (y2 := yX1_fine) (C := RX1) (T0 := TX1) (ci := 0) dX1_trade_139 sndX1_fine rfl q1211 q1213 qs32 q128 q1214 (by decide +kernel) ⟨by decide, by decide⟩ (by decide) (by decide),
  k_iret dX1_trade_142, trivial⟩
theorem sndX1_trade : MSound 9 yX1_trade (ws_ yX1_trade cX1_trade 8 (some .int)) mX1_trade := msound_M (by decide) allX1_trade (fun _ _ => rfl)
/-! LinkTimes.within(IIII)I -/
noncomputable def kX1_within : ZM := ([(0, zi_ld 1 0 1), (1, zi_ld 0 1 2), (2, zi_ld 0 2 3), (3, zi_ld 0 3 4), (4, zi_callV mX1_refuses 16 4 7), (7, zi_st 0 5 9), (9, zi_ld 0 5 11), (11, zi_if (fun a => zc_ne a 0) 28 14), (14, zi_ld 0 4 16), (16, zi_push (zvi 0) 17), (17, zi_push (zvi 20) 19), (19, zi_callS mX1_isIn 3 22), (22, zi_if (fun a => zc_ne a 0) 28 25), (25, zi_push (zvi 2) 26), (26, zi_st 0 5 28), (28, zi_ld 0 5 30), (30, zi_if (fun a => zc_le a 0) 42 33), (33, zi_ld 1 0 34), (34, zi_ld 0 5 36), (36, zi_callV mX1_refused 16 2 39), (39, zi_goto 58), (42, zi_ld 1 0 43), (43, zi_ld 1 0 44), (44, zi_callV mX1_asIs 16 1 47), (47, zi_ld 0 1 48), (48, zi_ld 0 2 49), (49, zi_ld 0 3 50), (50, zi_ld 0 4 52), (52, zi_callV mX3_arrivesBy 17 5 55), (55, zi_callV mX1_fine 16 2 58), (58, zi_retv 0)], fun _ _ => none)
noncomputable def mX1_within : ZF := zrunM kX1_within 6
theorem enX1_within (x0 : Option Nat) (x1 : Int) (x2 : Int) (x3 : Int) (x4 : Int) (h : PH) : mX1_within [zvr x0, zvi x1, zvi x2, zvi x3, zvi x4] h = zev kX1_within 0 [zvr x0, zvi x1, zvi x2, zvi x3, zvi x4, zvu] [] h := zrunM_eq rfl rfl
theorem rX1_within : (∀ (a : Option Nat) (L st : List ZV) (h : PH), zev kX1_within 0 (zvr a :: L) st h = zev kX1_within 1 (zvr a :: L) (zvr a :: st) h) ∧
  (∀ (x0 : ZV) (a : Int) (L st : List ZV) (h : PH), zev kX1_within 1 (x0 :: zvi a :: L) st h = zev kX1_within 2 (x0 :: zvi a :: L) (zvi a :: st) h) ∧
  (∀ (x0 x1 : ZV) (a : Int) (L st : List ZV) (h : PH), zev kX1_within 2 (x0 :: x1 :: zvi a :: L) st h = zev kX1_within 3 (x0 :: x1 :: zvi a :: L) (zvi a :: st) h) ∧
  (∀ (x0 x1 x2 : ZV) (a : Int) (L st : List ZV) (h : PH), zev kX1_within 3 (x0 :: x1 :: x2 :: zvi a :: L) st h = zev kX1_within 4 (x0 :: x1 :: x2 :: zvi a :: L) (zvi a :: st) h) ∧
  (∀ (v0 v1 v2 : ZV) (q : Nat) (L st : List ZV) (h : PH), zev kX1_within 4 L (v2 :: v1 :: v0 :: zvr (some q) :: st) h = if (ph_K h q).1 % 1000 = 16 ∧ zcat st ≤ 8 then zk kX1_within 4 7 L st (mX1_refuses [zvr (some q), v0, v1, v2] h) else none) ∧
  (∀ (x0 x1 x2 x3 x4 x5 : ZV) (a : Int) (L st : List ZV) (h : PH) (hx : zisL x4 = false) , zev kX1_within 7 (x0 :: x1 :: x2 :: x3 :: x4 :: x5 :: L) (zvi a :: st) h = zev kX1_within 9 (x0 :: x1 :: x2 :: x3 :: x4 :: zvi a :: L) st h) ∧
  (∀ (x0 x1 x2 x3 x4 : ZV) (a : Int) (L st : List ZV) (h : PH), zev kX1_within 9 (x0 :: x1 :: x2 :: x3 :: x4 :: zvi a :: L) st h = zev kX1_within 11 (x0 :: x1 :: x2 :: x3 :: x4 :: zvi a :: L) (zvi a :: st) h) ∧
  (∀ (a : Int) (L st : List ZV) (h : PH), zev kX1_within 11 L (zvi a :: st) h = if a ≠ 0 then zev kX1_within 28 L st h else zev kX1_within 14 L st h) ∧
  (∀ (x0 x1 x2 x3 : ZV) (a : Int) (L st : List ZV) (h : PH), zev kX1_within 14 (x0 :: x1 :: x2 :: x3 :: zvi a :: L) st h = zev kX1_within 16 (x0 :: x1 :: x2 :: x3 :: zvi a :: L) (zvi a :: st) h) ∧
  (∀ (L st : List ZV) (h : PH), zev kX1_within 16 L st h = zev kX1_within 17 L (zvi 0 :: st) h) ∧
  (∀ (L st : List ZV) (h : PH), zev kX1_within 17 L st h = zev kX1_within 19 L (zvi 20 :: st) h) ∧
  (∀ (v0 v1 v2 : ZV) (L st : List ZV) (h : PH), zev kX1_within 19 L (v2 :: v1 :: v0 :: st) h = if zcat st ≤ 8 then zk kX1_within 19 22 L st (mX1_isIn [v0, v1, v2] h) else none) ∧
  (∀ (a : Int) (L st : List ZV) (h : PH), zev kX1_within 22 L (zvi a :: st) h = if a ≠ 0 then zev kX1_within 28 L st h else zev kX1_within 25 L st h) ∧
  (∀ (L st : List ZV) (h : PH), zev kX1_within 25 L st h = zev kX1_within 26 L (zvi 2 :: st) h) ∧
  (∀ (x0 x1 x2 x3 x4 x5 : ZV) (a : Int) (L st : List ZV) (h : PH) (hx : zisL x4 = false) , zev kX1_within 26 (x0 :: x1 :: x2 :: x3 :: x4 :: x5 :: L) (zvi a :: st) h = zev kX1_within 28 (x0 :: x1 :: x2 :: x3 :: x4 :: zvi a :: L) st h) ∧
  (∀ (x0 x1 x2 x3 x4 : ZV) (a : Int) (L st : List ZV) (h : PH), zev kX1_within 28 (x0 :: x1 :: x2 :: x3 :: x4 :: zvi a :: L) st h = zev kX1_within 30 (x0 :: x1 :: x2 :: x3 :: x4 :: zvi a :: L) (zvi a :: st) h) ∧
  (∀ (a : Int) (L st : List ZV) (h : PH), zev kX1_within 30 L (zvi a :: st) h = if a ≤ 0 then zev kX1_within 42 L st h else zev kX1_within 33 L st h) ∧
  (∀ (a : Option Nat) (L st : List ZV) (h : PH), zev kX1_within 33 (zvr a :: L) st h = zev kX1_within 34 (zvr a :: L) (zvr a :: st) h) ∧
  (∀ (x0 x1 x2 x3 x4 : ZV) (a : Int) (L st : List ZV) (h : PH), zev kX1_within 34 (x0 :: x1 :: x2 :: x3 :: x4 :: zvi a :: L) st h = zev kX1_within 36 (x0 :: x1 :: x2 :: x3 :: x4 :: zvi a :: L) (zvi a :: st) h) ∧
  (∀ (v0 : ZV) (q : Nat) (L st : List ZV) (h : PH), zev kX1_within 36 L (v0 :: zvr (some q) :: st) h = if (ph_K h q).1 % 1000 = 16 ∧ zcat st ≤ 8 then zk kX1_within 36 39 L st (mX1_refused [zvr (some q), v0] h) else none) ∧
  (∀ (L st : List ZV) (h : PH), zev kX1_within 39 L st h = zev kX1_within 58 L st h) ∧
  (∀ (a : Option Nat) (L st : List ZV) (h : PH), zev kX1_within 42 (zvr a :: L) st h = zev kX1_within 43 (zvr a :: L) (zvr a :: st) h) ∧
  (∀ (a : Option Nat) (L st : List ZV) (h : PH), zev kX1_within 43 (zvr a :: L) st h = zev kX1_within 44 (zvr a :: L) (zvr a :: st) h) ∧
  (∀ (q : Nat) (L st : List ZV) (h : PH), zev kX1_within 44 L (zvr (some q) :: st) h = if (ph_K h q).1 % 1000 = 16 ∧ zcat st ≤ 8 then zk kX1_within 44 47 L st (mX1_asIs [zvr (some q)] h) else none) ∧
  (∀ (x0 : ZV) (a : Int) (L st : List ZV) (h : PH), zev kX1_within 47 (x0 :: zvi a :: L) st h = zev kX1_within 48 (x0 :: zvi a :: L) (zvi a :: st) h) ∧
  (∀ (x0 x1 : ZV) (a : Int) (L st : List ZV) (h : PH), zev kX1_within 48 (x0 :: x1 :: zvi a :: L) st h = zev kX1_within 49 (x0 :: x1 :: zvi a :: L) (zvi a :: st) h) ∧
  (∀ (x0 x1 x2 : ZV) (a : Int) (L st : List ZV) (h : PH), zev kX1_within 49 (x0 :: x1 :: x2 :: zvi a :: L) st h = zev kX1_within 50 (x0 :: x1 :: x2 :: zvi a :: L) (zvi a :: st) h) ∧
  (∀ (x0 x1 x2 x3 : ZV) (a : Int) (L st : List ZV) (h : PH), zev kX1_within 50 (x0 :: x1 :: x2 :: x3 :: zvi a :: L) st h = zev kX1_within 52 (x0 :: x1 :: x2 :: x3 :: zvi a :: L) (zvi a :: st) h) ∧
  (∀ (v0 v1 v2 v3 : ZV) (q : Nat) (L st : List ZV) (h : PH), zev kX1_within 52 L (v3 :: v2 :: v1 :: v0 :: zvr (some q) :: st) h = if (ph_K h q).1 % 1000 = 17 ∧ zcat st ≤ 8 then zk kX1_within 52 55 L st (mX3_arrivesBy [zvr (some q), v0, v1, v2, v3] h) else none) ∧
  (∀ (v0 : ZV) (q : Nat) (L st : List ZV) (h : PH), zev kX1_within 55 L (v0 :: zvr (some q) :: st) h = if (ph_K h q).1 % 1000 = 16 ∧ zcat st ≤ 8 then zk kX1_within 55 58 L st (mX1_fine [zvr (some q), v0] h) else none) ∧
  (∀ (a : Int) (L : List ZV) (h : PH), zev kX1_within 58 L [zvi a] h = zrv (zvi a) h) :=
  ⟨fun a L st h => e_ld0R (n := 1) rfl,
  fun x0 a L st h => e_ld1I (n := 2) rfl,
  fun x0 x1 a L st h => e_ld2I (n := 3) rfl,
  fun x0 x1 x2 a L st h => e_ld3I (n := 4) rfl,
  fun v0 v1 v2 q L st h => e_callV4 (F := mX1_refuses) (kd := 16) (n := 7) rfl,
  fun x0 x1 x2 x3 x4 x5 a L st h hx => e_st5I (n := 9) rfl hx,
  fun x0 x1 x2 x3 x4 a L st h => e_ld5I (n := 11) rfl,
  fun a L st h => e_ifne (t := 28) (n := 14) rfl,
  fun x0 x1 x2 x3 a L st h => e_ld4I (n := 16) rfl,
  fun L st h => e_push (v := zvi 0) (n := 17) rfl,
  fun L st h => e_push (v := zvi 20) (n := 19) rfl,
  fun v0 v1 v2 L st h => e_callS3 (F := mX1_isIn) (n := 22) rfl,
  fun a L st h => e_ifne (t := 28) (n := 25) rfl,
  fun L st h => e_push (v := zvi 2) (n := 26) rfl,
  fun x0 x1 x2 x3 x4 x5 a L st h hx => e_st5I (n := 28) rfl hx,
  fun x0 x1 x2 x3 x4 a L st h => e_ld5I (n := 30) rfl,
  fun a L st h => e_ifle (t := 42) (n := 33) rfl,
  fun a L st h => e_ld0R (n := 34) rfl,
  fun x0 x1 x2 x3 x4 a L st h => e_ld5I (n := 36) rfl,
  fun v0 q L st h => e_callV2 (F := mX1_refused) (kd := 16) (n := 39) rfl,
  fun L st h => e_goto (t := 58) rfl,
  fun a L st h => e_ld0R (n := 43) rfl,
  fun a L st h => e_ld0R (n := 44) rfl,
  fun q L st h => e_callV1 (F := mX1_asIs) (kd := 16) (n := 47) rfl,
  fun x0 a L st h => e_ld1I (n := 48) rfl,
  fun x0 x1 a L st h => e_ld2I (n := 49) rfl,
  fun x0 x1 x2 a L st h => e_ld3I (n := 50) rfl,
  fun x0 x1 x2 x3 a L st h => e_ld4I (n := 52) rfl,
  fun v0 v1 v2 v3 q L st h => e_callV5 (F := mX3_arrivesBy) (kd := 17) (n := 55) rfl,
  fun v0 q L st h => e_callV2 (F := mX1_fine) (kd := 16) (n := 58) rfl,
  fun a L h => e_retI rfl⟩
theorem allX1_within : zall yX1_within cX1_within 6 (some .int) 7 kX1_within.1 :=
  ⟨k_aload_n dX1_within_0,
  k_iload_n dX1_within_1,
  k_iload_n dX1_within_2,
  k_iload_n dX1_within_3,
  k_callV (y2 := yX1_refuses) (C := RX1) (T0 := TX1) (ci := 0) dX1_within_4 sndX1_refuses rfl q1334 q1336 qs36 q128 q1337 (by decide +kernel) ⟨by decide, by decide⟩ (by decide) (by decide),
  k_istore dX1_within_7,
  k_iload dX1_within_9,
  k_ifne (t := 28) dX1_within_11 (by decide),
  k_iload dX1_within_14,
  k_iconst dX1_within_16,
  k_bipush dX1_within_17,
  k_callS (y2 := yX1_isIn) dX1_within_19 sndX1_isIn q375 q376 q128 q377 (by decide +kernel) ⟨by decide, by decide⟩ (by decide) (by decide),
  k_ifne (t := 28) dX1_within_22 (by decide),
  k_iconst dX1_within_25,
  k_istore dX1_within_26,
  k_iload dX1_within_28,
  k_ifle (t := 42) dX1_within_30 (by decide),
  k_aload_n dX1_within_33,
  k_iload dX1_within_34,
  k_callV (y2 := yX1_refused) (C := RX1) (T0 := TX1) (ci := 0) dX1_within_36 sndX1_refused rfl q378 q380 qs1 q128 q381 (by decide +kernel) ⟨by decide, by decide⟩ (by decide) (by decide),
  k_goto (t := 58) dX1_within_39 (by decide),
  k_aload_n dX1_within_42,
  k_aload_n dX1_within_43,
  k_callV (y2 := yX1_asIs) (C := RX1) (T0 := TX1) (ci := 0) dX1_within_44 sndX1_asIs rfl q1338 q1340 qs37 q128 q1341 (by decide +kernel) ⟨by decide, by decide⟩ (by decide) (by decide),
  k_iload_n dX1_within_47,
  k_iload_n dX1_within_48,
  k_iload_n dX1_within_49,
  k_iload dX1_within_50,
  k_callV (y2 := yX3_arrivesBy) (C := RX3) (T0 := TX3) (ci := 1) dX1_within_52 sndX3_arrivesBy rfl q1430 q1358 q1359 q136 q1360 (by decide +kernel) ⟨by decide, by decide⟩ (by decide) (by decide),
  k_callV (y2 := yX1_fine) (C := RX1) (T0 := TX1) (ci := 0) dX1_within_55 sndX1_fine rfl q1211 q1213 qs32 q128 q1214 (by decide +kernel) ⟨by decide, by decide⟩ (by decide) (by decide),
  k_iret dX1_within_58, trivial⟩
theorem sndX1_within : MSound 7 yX1_within (ws_ yX1_within cX1_within 6 (some .int)) mX1_within := msound_M (by decide) allX1_within (fun _ _ => rfl)
/-! LinkTimes.latest(III)I -/
noncomputable def kX1_latest : ZM := ([(0, zi_ld 1 0 1), (1, zi_ld 0 1 2), (2, zi_ld 0 2 3), (3, zi_ld 0 3 4), (4, zi_callV mX1_refuses 16 4 7), (7, zi_st 0 4 9), (9, zi_ld 0 4 11), (11, zi_if (fun a => zc_le a 0) 21 14), (14, zi_ld 1 0 15), (15, zi_ld 0 4 17), (17, zi_callV mX1_refused 16 2 20), (20, zi_retv 0), (21, zi_ld 1 0 22), (22, zi_ld 0 1 23), (23, zi_ld 0 2 24), (24, zi_cmp zc_ne 31 27), (27, zi_ld 0 3 28), (28, zi_goto 41), (31, zi_ld 1 0 32), (32, zi_callV mX1_asIs 16 1 35), (35, zi_ld 0 1 36), (36, zi_ld 0 2 37), (37, zi_ld 0 3 38), (38, zi_callV mX3_latest 17 4 41), (41, zi_callV mX1_fine 16 2 44), (44, zi_retv 0)], fun _ _ => none)
noncomputable def mX1_latest : ZF := zrunM kX1_latest 5
theorem enX1_latest (x0 : Option Nat) (x1 : Int) (x2 : Int) (x3 : Int) (h : PH) : mX1_latest [zvr x0, zvi x1, zvi x2, zvi x3] h = zev kX1_latest 0 [zvr x0, zvi x1, zvi x2, zvi x3, zvu] [] h := zrunM_eq rfl rfl
theorem rX1_latest : (∀ (a : Option Nat) (L st : List ZV) (h : PH), zev kX1_latest 0 (zvr a :: L) st h = zev kX1_latest 1 (zvr a :: L) (zvr a :: st) h) ∧
  (∀ (x0 : ZV) (a : Int) (L st : List ZV) (h : PH), zev kX1_latest 1 (x0 :: zvi a :: L) st h = zev kX1_latest 2 (x0 :: zvi a :: L) (zvi a :: st) h) ∧
  (∀ (x0 x1 : ZV) (a : Int) (L st : List ZV) (h : PH), zev kX1_latest 2 (x0 :: x1 :: zvi a :: L) st h = zev kX1_latest 3 (x0 :: x1 :: zvi a :: L) (zvi a :: st) h) ∧
  (∀ (x0 x1 x2 : ZV) (a : Int) (L st : List ZV) (h : PH), zev kX1_latest 3 (x0 :: x1 :: x2 :: zvi a :: L) st h = zev kX1_latest 4 (x0 :: x1 :: x2 :: zvi a :: L) (zvi a :: st) h) ∧
  (∀ (v0 v1 v2 : ZV) (q : Nat) (L st : List ZV) (h : PH), zev kX1_latest 4 L (v2 :: v1 :: v0 :: zvr (some q) :: st) h = if (ph_K h q).1 % 1000 = 16 ∧ zcat st ≤ 8 then zk kX1_latest 4 7 L st (mX1_refuses [zvr (some q), v0, v1, v2] h) else none) ∧
  (∀ (x0 x1 x2 x3 x4 : ZV) (a : Int) (L st : List ZV) (h : PH) (hx : zisL x3 = false) , zev kX1_latest 7 (x0 :: x1 :: x2 :: x3 :: x4 :: L) (zvi a :: st) h = zev kX1_latest 9 (x0 :: x1 :: x2 :: x3 :: zvi a :: L) st h) ∧
  (∀ (x0 x1 x2 x3 : ZV) (a : Int) (L st : List ZV) (h : PH), zev kX1_latest 9 (x0 :: x1 :: x2 :: x3 :: zvi a :: L) st h = zev kX1_latest 11 (x0 :: x1 :: x2 :: x3 :: zvi a :: L) (zvi a :: st) h) ∧
  (∀ (a : Int) (L st : List ZV) (h : PH), zev kX1_latest 11 L (zvi a :: st) h = if a ≤ 0 then zev kX1_latest 21 L st h else zev kX1_latest 14 L st h) ∧
  (∀ (a : Option Nat) (L st : List ZV) (h : PH), zev kX1_latest 14 (zvr a :: L) st h = zev kX1_latest 15 (zvr a :: L) (zvr a :: st) h) ∧
  (∀ (x0 x1 x2 x3 : ZV) (a : Int) (L st : List ZV) (h : PH), zev kX1_latest 15 (x0 :: x1 :: x2 :: x3 :: zvi a :: L) st h = zev kX1_latest 17 (x0 :: x1 :: x2 :: x3 :: zvi a :: L) (zvi a :: st) h) ∧
  (∀ (v0 : ZV) (q : Nat) (L st : List ZV) (h : PH), zev kX1_latest 17 L (v0 :: zvr (some q) :: st) h = if (ph_K h q).1 % 1000 = 16 ∧ zcat st ≤ 8 then zk kX1_latest 17 20 L st (mX1_refused [zvr (some q), v0] h) else none) ∧
  (∀ (a : Int) (L : List ZV) (h : PH), zev kX1_latest 20 L [zvi a] h = zrv (zvi a) h) ∧
  (∀ (a : Option Nat) (L st : List ZV) (h : PH), zev kX1_latest 21 (zvr a :: L) st h = zev kX1_latest 22 (zvr a :: L) (zvr a :: st) h) ∧
  (∀ (x0 : ZV) (a : Int) (L st : List ZV) (h : PH), zev kX1_latest 22 (x0 :: zvi a :: L) st h = zev kX1_latest 23 (x0 :: zvi a :: L) (zvi a :: st) h) ∧
  (∀ (x0 x1 : ZV) (a : Int) (L st : List ZV) (h : PH), zev kX1_latest 23 (x0 :: x1 :: zvi a :: L) st h = zev kX1_latest 24 (x0 :: x1 :: zvi a :: L) (zvi a :: st) h) ∧
  (∀ (a b : Int) (L st : List ZV) (h : PH), zev kX1_latest 24 L (zvi b :: zvi a :: st) h = if a ≠ b then zev kX1_latest 31 L st h else zev kX1_latest 27 L st h) ∧
  (∀ (x0 x1 x2 : ZV) (a : Int) (L st : List ZV) (h : PH), zev kX1_latest 27 (x0 :: x1 :: x2 :: zvi a :: L) st h = zev kX1_latest 28 (x0 :: x1 :: x2 :: zvi a :: L) (zvi a :: st) h) ∧
  (∀ (L st : List ZV) (h : PH), zev kX1_latest 28 L st h = zev kX1_latest 41 L st h) ∧
  (∀ (a : Option Nat) (L st : List ZV) (h : PH), zev kX1_latest 31 (zvr a :: L) st h = zev kX1_latest 32 (zvr a :: L) (zvr a :: st) h) ∧
  (∀ (q : Nat) (L st : List ZV) (h : PH), zev kX1_latest 32 L (zvr (some q) :: st) h = if (ph_K h q).1 % 1000 = 16 ∧ zcat st ≤ 8 then zk kX1_latest 32 35 L st (mX1_asIs [zvr (some q)] h) else none) ∧
  (∀ (x0 : ZV) (a : Int) (L st : List ZV) (h : PH), zev kX1_latest 35 (x0 :: zvi a :: L) st h = zev kX1_latest 36 (x0 :: zvi a :: L) (zvi a :: st) h) ∧
  (∀ (x0 x1 : ZV) (a : Int) (L st : List ZV) (h : PH), zev kX1_latest 36 (x0 :: x1 :: zvi a :: L) st h = zev kX1_latest 37 (x0 :: x1 :: zvi a :: L) (zvi a :: st) h) ∧
  (∀ (x0 x1 x2 : ZV) (a : Int) (L st : List ZV) (h : PH), zev kX1_latest 37 (x0 :: x1 :: x2 :: zvi a :: L) st h = zev kX1_latest 38 (x0 :: x1 :: x2 :: zvi a :: L) (zvi a :: st) h) ∧
  (∀ (v0 v1 v2 : ZV) (q : Nat) (L st : List ZV) (h : PH), zev kX1_latest 38 L (v2 :: v1 :: v0 :: zvr (some q) :: st) h = if (ph_K h q).1 % 1000 = 17 ∧ zcat st ≤ 8 then zk kX1_latest 38 41 L st (mX3_latest [zvr (some q), v0, v1, v2] h) else none) ∧
  (∀ (v0 : ZV) (q : Nat) (L st : List ZV) (h : PH), zev kX1_latest 41 L (v0 :: zvr (some q) :: st) h = if (ph_K h q).1 % 1000 = 16 ∧ zcat st ≤ 8 then zk kX1_latest 41 44 L st (mX1_fine [zvr (some q), v0] h) else none) ∧
  (∀ (a : Int) (L : List ZV) (h : PH), zev kX1_latest 44 L [zvi a] h = zrv (zvi a) h) :=
  ⟨fun a L st h => e_ld0R (n := 1) rfl,
  fun x0 a L st h => e_ld1I (n := 2) rfl,
  fun x0 x1 a L st h => e_ld2I (n := 3) rfl,
  fun x0 x1 x2 a L st h => e_ld3I (n := 4) rfl,
  fun v0 v1 v2 q L st h => e_callV4 (F := mX1_refuses) (kd := 16) (n := 7) rfl,
  fun x0 x1 x2 x3 x4 a L st h hx => e_st4I (n := 9) rfl hx,
  fun x0 x1 x2 x3 a L st h => e_ld4I (n := 11) rfl,
  fun a L st h => e_ifle (t := 21) (n := 14) rfl,
  fun a L st h => e_ld0R (n := 15) rfl,
  fun x0 x1 x2 x3 a L st h => e_ld4I (n := 17) rfl,
  fun v0 q L st h => e_callV2 (F := mX1_refused) (kd := 16) (n := 20) rfl,
  fun a L h => e_retI rfl,
  fun a L st h => e_ld0R (n := 22) rfl,
  fun x0 a L st h => e_ld1I (n := 23) rfl,
  fun x0 x1 a L st h => e_ld2I (n := 24) rfl,
  fun a b L st h => e_cmpne (t := 31) (n := 27) rfl,
  fun x0 x1 x2 a L st h => e_ld3I (n := 28) rfl,
  fun L st h => e_goto (t := 41) rfl,
  fun a L st h => e_ld0R (n := 32) rfl,
  fun q L st h => e_callV1 (F := mX1_asIs) (kd := 16) (n := 35) rfl,
  fun x0 a L st h => e_ld1I (n := 36) rfl,
  fun x0 x1 a L st h => e_ld2I (n := 37) rfl,
  fun x0 x1 x2 a L st h => e_ld3I (n := 38) rfl,
  fun v0 v1 v2 q L st h => e_callV4 (F := mX3_latest) (kd := 17) (n := 41) rfl,
  fun v0 q L st h => e_callV2 (F := mX1_fine) (kd := 16) (n := 44) rfl,
  fun a L h => e_retI rfl⟩
theorem allX1_latest : zall yX1_latest cX1_latest 5 (some .int) 7 kX1_latest.1 :=
  ⟨k_aload_n dX1_latest_0,
  k_iload_n dX1_latest_1,
  k_iload_n dX1_latest_2,
  k_iload_n dX1_latest_3,
  k_callV (y2 := yX1_refuses) (C := RX1) (T0 := TX1) (ci := 0) dX1_latest_4 sndX1_refuses rfl q1334 q1336 qs36 q128 q1337 (by decide +kernel) ⟨by decide, by decide⟩ (by decide) (by decide),
  k_istore dX1_latest_7,
  k_iload dX1_latest_9,
  k_ifle (t := 21) dX1_latest_11 (by decide),
  k_aload_n dX1_latest_14,
  k_iload dX1_latest_15,
  k_callV (y2 := yX1_refused) (C := RX1) (T0 := TX1) (ci := 0) dX1_latest_17 sndX1_refused rfl q378 q380 qs1 q128 q381 (by decide +kernel) ⟨by decide, by decide⟩ (by decide) (by decide),
  k_iret dX1_latest_20,
  k_aload_n dX1_latest_21,
  k_iload_n dX1_latest_22,
  k_iload_n dX1_latest_23,
  k_cmpne (t := 31) dX1_latest_24 (by decide),
  k_iload_n dX1_latest_27,
  k_goto (t := 41) dX1_latest_28 (by decide),
  k_aload_n dX1_latest_31,
  k_callV (y2 := yX1_asIs) (C := RX1) (T0 := TX1) (ci := 0) dX1_latest_32 sndX1_asIs rfl q1338 q1340 qs37 q128 q1341 (by decide +kernel) ⟨by decide, by decide⟩ (by decide) (by decide),
  k_iload_n dX1_latest_35,
  k_iload_n dX1_latest_36,
  k_iload_n dX1_latest_37,
  k_callV (y2 := yX3_latest) (C := RX3) (T0 := TX3) (ci := 1) dX1_latest_38 sndX3_latest rfl q1444 q1445 q1446 q136 q1447 (by decide +kernel) ⟨by decide, by decide⟩ (by decide) (by decide),
  k_callV (y2 := yX1_fine) (C := RX1) (T0 := TX1) (ci := 0) dX1_latest_41 sndX1_fine rfl q1211 q1213 qs32 q128 q1214 (by decide +kernel) ⟨by decide, by decide⟩ (by decide) (by decide),
  k_iret dX1_latest_44, trivial⟩
theorem sndX1_latest : MSound 7 yX1_latest (ws_ yX1_latest cX1_latest 5 (some .int)) mX1_latest := msound_M (by decide) allX1_latest (fun _ _ => rfl)
/-! LinkTimes.reach(III)I -/
noncomputable def kX1_reach : ZM := ([(0, zi_ld 1 0 1), (1, zi_ld 0 1 2), (2, zi_ld 0 1 3), (3, zi_ld 0 2 4), (4, zi_callV mX1_refuses 16 4 7), (7, zi_st 0 4 9), (9, zi_ld 0 4 11), (11, zi_if (fun a => zc_ne a 0) 28 14), (14, zi_ld 0 3 15), (15, zi_push (zvi 0) 16), (16, zi_push (zvi 1999) 19), (19, zi_callS mX1_isIn 3 22), (22, zi_if (fun a => zc_ne a 0) 28 25), (25, zi_push (zvi 2) 26), (26, zi_st 0 4 28), (28, zi_ld 0 4 30), (30, zi_if (fun a => zc_le a 0) 40 33), (33, zi_ld 1 0 34), (34, zi_ld 0 4 36), (36, zi_callV mX1_refused 16 2 39), (39, zi_retv 0), (40, zi_push (zvi 0) 41), (41, zi_st 0 5 43), (43, zi_ld 1 0 44), (44, zi_callV mX1_asIs 16 1 47), (47, zi_pop 48), (48, zi_push (zvi 0) 49), (49, zi_st 0 6 51), (51, zi_ld 0 6 53), (53, zi_ld 1 0 54), (54, zi_getR 16 5 57), (57, zi_getR 20 2 60), (60, zi_callV mJ7_size 29 1 63), (63, zi_cmp zc_ge 107 66), (66, zi_ld 1 0 67), (67, zi_getR 16 8 70), (70, zi_ld 0 1 71), (71, zi_ld 0 6 73), (73, zi_ld 0 2 74), (74, zi_callV mX3_arrives 17 4 77), (77, zi_st 0 7 79), (79, zi_ld 0 7 81), (81, zi_push (zvi (-2)) 83), (83, zi_cmp zc_eq 101 86), (86, zi_ld 0 7 88), (88, zi_ld 0 3 89), (89, zi_cmp zc_gt 101 92), (92, zi_ld 0 5 94), (94, zi_push (zvi 1) 95), (95, zi_ld 0 6 97), (97, zi_bin zshl 98), (98, zi_bin zor 99), (99, zi_st 0 5 101), (101, zi_iinc 6 1 104), (104, zi_goto 51), (107, zi_ld 1 0 108), (108, zi_ld 0 5 110), (110, zi_callV mX1_fine 16 2 113), (113, zi_retv 0)], fun _ _ => none)
noncomputable def mX1_reach : ZF := zrunM kX1_reach 8
theorem enX1_reach (x0 : Option Nat) (x1 : Int) (x2 : Int) (x3 : Int) (h : PH) : mX1_reach [zvr x0, zvi x1, zvi x2, zvi x3] h = zev kX1_reach 0 [zvr x0, zvi x1, zvi x2, zvi x3, zvu, zvu, zvu, zvu] [] h := zrunM_eq rfl rfl
theorem hdX1_reach_51 (x0 x1 x2 x3 x4 x5 : ZV) (a : Int) (L st : List ZV) (h : PH) : zev kX1_reach 51 (x0 :: x1 :: x2 :: x3 :: x4 :: x5 :: zvi a :: L) st h = zev kX1_reach 53 (x0 :: x1 :: x2 :: x3 :: x4 :: x5 :: zvi a :: L) (zvi a :: st) h := e_ld6I (n := 53) rfl
theorem rX1_reach : (∀ (a : Option Nat) (L st : List ZV) (h : PH), zev kX1_reach 0 (zvr a :: L) st h = zev kX1_reach 1 (zvr a :: L) (zvr a :: st) h) ∧
  (∀ (x0 : ZV) (a : Int) (L st : List ZV) (h : PH), zev kX1_reach 1 (x0 :: zvi a :: L) st h = zev kX1_reach 2 (x0 :: zvi a :: L) (zvi a :: st) h) ∧
  (∀ (x0 : ZV) (a : Int) (L st : List ZV) (h : PH), zev kX1_reach 2 (x0 :: zvi a :: L) st h = zev kX1_reach 3 (x0 :: zvi a :: L) (zvi a :: st) h) ∧
  (∀ (x0 x1 : ZV) (a : Int) (L st : List ZV) (h : PH), zev kX1_reach 3 (x0 :: x1 :: zvi a :: L) st h = zev kX1_reach 4 (x0 :: x1 :: zvi a :: L) (zvi a :: st) h) ∧
  (∀ (v0 v1 v2 : ZV) (q : Nat) (L st : List ZV) (h : PH), zev kX1_reach 4 L (v2 :: v1 :: v0 :: zvr (some q) :: st) h = if (ph_K h q).1 % 1000 = 16 ∧ zcat st ≤ 8 then zk kX1_reach 4 7 L st (mX1_refuses [zvr (some q), v0, v1, v2] h) else none) ∧
  (∀ (x0 x1 x2 x3 x4 : ZV) (a : Int) (L st : List ZV) (h : PH) (hx : zisL x3 = false) , zev kX1_reach 7 (x0 :: x1 :: x2 :: x3 :: x4 :: L) (zvi a :: st) h = zev kX1_reach 9 (x0 :: x1 :: x2 :: x3 :: zvi a :: L) st h) ∧
  (∀ (x0 x1 x2 x3 : ZV) (a : Int) (L st : List ZV) (h : PH), zev kX1_reach 9 (x0 :: x1 :: x2 :: x3 :: zvi a :: L) st h = zev kX1_reach 11 (x0 :: x1 :: x2 :: x3 :: zvi a :: L) (zvi a :: st) h) ∧
  (∀ (a : Int) (L st : List ZV) (h : PH), zev kX1_reach 11 L (zvi a :: st) h = if a ≠ 0 then zev kX1_reach 28 L st h else zev kX1_reach 14 L st h) ∧
  (∀ (x0 x1 x2 : ZV) (a : Int) (L st : List ZV) (h : PH), zev kX1_reach 14 (x0 :: x1 :: x2 :: zvi a :: L) st h = zev kX1_reach 15 (x0 :: x1 :: x2 :: zvi a :: L) (zvi a :: st) h) ∧
  (∀ (L st : List ZV) (h : PH), zev kX1_reach 15 L st h = zev kX1_reach 16 L (zvi 0 :: st) h) ∧
  (∀ (L st : List ZV) (h : PH), zev kX1_reach 16 L st h = zev kX1_reach 19 L (zvi 1999 :: st) h) ∧
  (∀ (v0 v1 v2 : ZV) (L st : List ZV) (h : PH), zev kX1_reach 19 L (v2 :: v1 :: v0 :: st) h = if zcat st ≤ 8 then zk kX1_reach 19 22 L st (mX1_isIn [v0, v1, v2] h) else none) ∧
  (∀ (a : Int) (L st : List ZV) (h : PH), zev kX1_reach 22 L (zvi a :: st) h = if a ≠ 0 then zev kX1_reach 28 L st h else zev kX1_reach 25 L st h) ∧
  (∀ (L st : List ZV) (h : PH), zev kX1_reach 25 L st h = zev kX1_reach 26 L (zvi 2 :: st) h) ∧
  (∀ (x0 x1 x2 x3 x4 : ZV) (a : Int) (L st : List ZV) (h : PH) (hx : zisL x3 = false) , zev kX1_reach 26 (x0 :: x1 :: x2 :: x3 :: x4 :: L) (zvi a :: st) h = zev kX1_reach 28 (x0 :: x1 :: x2 :: x3 :: zvi a :: L) st h) ∧
  (∀ (x0 x1 x2 x3 : ZV) (a : Int) (L st : List ZV) (h : PH), zev kX1_reach 28 (x0 :: x1 :: x2 :: x3 :: zvi a :: L) st h = zev kX1_reach 30 (x0 :: x1 :: x2 :: x3 :: zvi a :: L) (zvi a :: st) h) ∧
  (∀ (a : Int) (L st : List ZV) (h : PH), zev kX1_reach 30 L (zvi a :: st) h = if a ≤ 0 then zev kX1_reach 40 L st h else zev kX1_reach 33 L st h) ∧
  (∀ (a : Option Nat) (L st : List ZV) (h : PH), zev kX1_reach 33 (zvr a :: L) st h = zev kX1_reach 34 (zvr a :: L) (zvr a :: st) h) ∧
  (∀ (x0 x1 x2 x3 : ZV) (a : Int) (L st : List ZV) (h : PH), zev kX1_reach 34 (x0 :: x1 :: x2 :: x3 :: zvi a :: L) st h = zev kX1_reach 36 (x0 :: x1 :: x2 :: x3 :: zvi a :: L) (zvi a :: st) h) ∧
  (∀ (v0 : ZV) (q : Nat) (L st : List ZV) (h : PH), zev kX1_reach 36 L (v0 :: zvr (some q) :: st) h = if (ph_K h q).1 % 1000 = 16 ∧ zcat st ≤ 8 then zk kX1_reach 36 39 L st (mX1_refused [zvr (some q), v0] h) else none) ∧
  (∀ (a : Int) (L : List ZV) (h : PH), zev kX1_reach 39 L [zvi a] h = zrv (zvi a) h) ∧
  (∀ (L st : List ZV) (h : PH), zev kX1_reach 40 L st h = zev kX1_reach 41 L (zvi 0 :: st) h) ∧
  (∀ (x0 x1 x2 x3 x4 x5 : ZV) (a : Int) (L st : List ZV) (h : PH) (hx : zisL x4 = false) , zev kX1_reach 41 (x0 :: x1 :: x2 :: x3 :: x4 :: x5 :: L) (zvi a :: st) h = zev kX1_reach 43 (x0 :: x1 :: x2 :: x3 :: x4 :: zvi a :: L) st h) ∧
  (∀ (a : Option Nat) (L st : List ZV) (h : PH), zev kX1_reach 43 (zvr a :: L) st h = zev kX1_reach 44 (zvr a :: L) (zvr a :: st) h) ∧
  (∀ (q : Nat) (L st : List ZV) (h : PH), zev kX1_reach 44 L (zvr (some q) :: st) h = if (ph_K h q).1 % 1000 = 16 ∧ zcat st ≤ 8 then zk kX1_reach 44 47 L st (mX1_asIs [zvr (some q)] h) else none) ∧
  (∀ (a : Int) (L st : List ZV) (h : PH), zev kX1_reach 47 L (zvi a :: st) h = zev kX1_reach 48 L st h) ∧
  (∀ (a : Option Nat) (L st : List ZV) (h : PH), zev kX1_reach 47 L (zvr a :: st) h = zev kX1_reach 48 L st h) ∧
  (∀ (L st : List ZV) (h : PH), zev kX1_reach 48 L st h = zev kX1_reach 49 L (zvi 0 :: st) h) ∧
  (∀ (x0 x1 x2 x3 x4 x5 x6 : ZV) (a : Int) (L st : List ZV) (h : PH) (hx : zisL x5 = false) , zev kX1_reach 49 (x0 :: x1 :: x2 :: x3 :: x4 :: x5 :: x6 :: L) (zvi a :: st) h = zev kX1_reach 51 (x0 :: x1 :: x2 :: x3 :: x4 :: x5 :: zvi a :: L) st h) ∧
  (∀ (a : Option Nat) (L st : List ZV) (h : PH), zev kX1_reach 53 (zvr a :: L) st h = zev kX1_reach 54 (zvr a :: L) (zvr a :: st) h) ∧
  (∀ (q : Nat) (L st : List ZV) (h : PH), zev kX1_reach 54 L (zvr (some q) :: st) h = if (ph_K h q).1 % 1000 = 16 then zev kX1_reach 57 L (zvr (ph_R h q 5) :: st) h else none) ∧
  (∀ (q : Nat) (L st : List ZV) (h : PH), zev kX1_reach 57 L (zvr (some q) :: st) h = if (ph_K h q).1 % 1000 = 20 then zev kX1_reach 60 L (zvr (ph_R h q 2) :: st) h else none) ∧
  (∀ (q : Nat) (L st : List ZV) (h : PH), zev kX1_reach 60 L (zvr (some q) :: st) h = if (ph_K h q).1 % 1000 = 29 ∧ zcat st ≤ 8 then zk kX1_reach 60 63 L st (mJ7_size [zvr (some q)] h) else none) ∧
  (∀ (a b : Int) (L st : List ZV) (h : PH), zev kX1_reach 63 L (zvi b :: zvi a :: st) h = if a ≥ b then zev kX1_reach 107 L st h else zev kX1_reach 66 L st h) ∧
  (∀ (a : Option Nat) (L st : List ZV) (h : PH), zev kX1_reach 66 (zvr a :: L) st h = zev kX1_reach 67 (zvr a :: L) (zvr a :: st) h) ∧
  (∀ (q : Nat) (L st : List ZV) (h : PH), zev kX1_reach 67 L (zvr (some q) :: st) h = if (ph_K h q).1 % 1000 = 16 then zev kX1_reach 70 L (zvr (ph_R h q 8) :: st) h else none) ∧
  (∀ (x0 : ZV) (a : Int) (L st : List ZV) (h : PH), zev kX1_reach 70 (x0 :: zvi a :: L) st h = zev kX1_reach 71 (x0 :: zvi a :: L) (zvi a :: st) h) ∧
  (∀ (x0 x1 x2 x3 x4 x5 : ZV) (a : Int) (L st : List ZV) (h : PH), zev kX1_reach 71 (x0 :: x1 :: x2 :: x3 :: x4 :: x5 :: zvi a :: L) st h = zev kX1_reach 73 (x0 :: x1 :: x2 :: x3 :: x4 :: x5 :: zvi a :: L) (zvi a :: st) h) ∧
  (∀ (x0 x1 : ZV) (a : Int) (L st : List ZV) (h : PH), zev kX1_reach 73 (x0 :: x1 :: zvi a :: L) st h = zev kX1_reach 74 (x0 :: x1 :: zvi a :: L) (zvi a :: st) h) ∧
  (∀ (v0 v1 v2 : ZV) (q : Nat) (L st : List ZV) (h : PH), zev kX1_reach 74 L (v2 :: v1 :: v0 :: zvr (some q) :: st) h = if (ph_K h q).1 % 1000 = 17 ∧ zcat st ≤ 8 then zk kX1_reach 74 77 L st (mX3_arrives [zvr (some q), v0, v1, v2] h) else none) ∧
  (∀ (x0 x1 x2 x3 x4 x5 x6 x7 : ZV) (a : Int) (L st : List ZV) (h : PH) (hx : zisL x6 = false) , zev kX1_reach 77 (x0 :: x1 :: x2 :: x3 :: x4 :: x5 :: x6 :: x7 :: L) (zvi a :: st) h = zev kX1_reach 79 (x0 :: x1 :: x2 :: x3 :: x4 :: x5 :: x6 :: zvi a :: L) st h) ∧
  (∀ (x0 x1 x2 x3 x4 x5 x6 : ZV) (a : Int) (L st : List ZV) (h : PH), zev kX1_reach 79 (x0 :: x1 :: x2 :: x3 :: x4 :: x5 :: x6 :: zvi a :: L) st h = zev kX1_reach 81 (x0 :: x1 :: x2 :: x3 :: x4 :: x5 :: x6 :: zvi a :: L) (zvi a :: st) h) ∧
  (∀ (L st : List ZV) (h : PH), zev kX1_reach 81 L st h = zev kX1_reach 83 L (zvi (-2) :: st) h) ∧
  (∀ (a b : Int) (L st : List ZV) (h : PH), zev kX1_reach 83 L (zvi b :: zvi a :: st) h = if a = b then zev kX1_reach 101 L st h else zev kX1_reach 86 L st h) ∧
  (∀ (x0 x1 x2 x3 x4 x5 x6 : ZV) (a : Int) (L st : List ZV) (h : PH), zev kX1_reach 86 (x0 :: x1 :: x2 :: x3 :: x4 :: x5 :: x6 :: zvi a :: L) st h = zev kX1_reach 88 (x0 :: x1 :: x2 :: x3 :: x4 :: x5 :: x6 :: zvi a :: L) (zvi a :: st) h) ∧
  (∀ (x0 x1 x2 : ZV) (a : Int) (L st : List ZV) (h : PH), zev kX1_reach 88 (x0 :: x1 :: x2 :: zvi a :: L) st h = zev kX1_reach 89 (x0 :: x1 :: x2 :: zvi a :: L) (zvi a :: st) h) ∧
  (∀ (a b : Int) (L st : List ZV) (h : PH), zev kX1_reach 89 L (zvi b :: zvi a :: st) h = if a > b then zev kX1_reach 101 L st h else zev kX1_reach 92 L st h) ∧
  (∀ (x0 x1 x2 x3 x4 : ZV) (a : Int) (L st : List ZV) (h : PH), zev kX1_reach 92 (x0 :: x1 :: x2 :: x3 :: x4 :: zvi a :: L) st h = zev kX1_reach 94 (x0 :: x1 :: x2 :: x3 :: x4 :: zvi a :: L) (zvi a :: st) h) ∧
  (∀ (L st : List ZV) (h : PH), zev kX1_reach 94 L st h = zev kX1_reach 95 L (zvi 1 :: st) h) ∧
  (∀ (x0 x1 x2 x3 x4 x5 : ZV) (a : Int) (L st : List ZV) (h : PH), zev kX1_reach 95 (x0 :: x1 :: x2 :: x3 :: x4 :: x5 :: zvi a :: L) st h = zev kX1_reach 97 (x0 :: x1 :: x2 :: x3 :: x4 :: x5 :: zvi a :: L) (zvi a :: st) h) ∧
  (∀ (a b : Int) (L st : List ZV) (h : PH), zev kX1_reach 97 L (zvi b :: zvi a :: st) h = zev kX1_reach 98 L (zvi (zshl a b) :: st) h) ∧
  (∀ (a b : Int) (L st : List ZV) (h : PH), zev kX1_reach 98 L (zvi b :: zvi a :: st) h = zev kX1_reach 99 L (zvi (zor a b) :: st) h) ∧
  (∀ (x0 x1 x2 x3 x4 x5 : ZV) (a : Int) (L st : List ZV) (h : PH) (hx : zisL x4 = false) , zev kX1_reach 99 (x0 :: x1 :: x2 :: x3 :: x4 :: x5 :: L) (zvi a :: st) h = zev kX1_reach 101 (x0 :: x1 :: x2 :: x3 :: x4 :: zvi a :: L) st h) ∧
  (∀ (x0 x1 x2 x3 x4 x5 : ZV) (a : Int) (L st : List ZV) (h : PH) (hx : zisL x5 = false) , zev kX1_reach 101 (x0 :: x1 :: x2 :: x3 :: x4 :: x5 :: zvi a :: L) st h = zev kX1_reach 104 (x0 :: x1 :: x2 :: x3 :: x4 :: x5 :: zvi (w32 (a + 1)) :: L) st h) ∧
  (∀ (L st : List ZV) (h : PH), zev kX1_reach 104 L st h = zev kX1_reach 51 L st h) ∧
  (∀ (a : Option Nat) (L st : List ZV) (h : PH), zev kX1_reach 107 (zvr a :: L) st h = zev kX1_reach 108 (zvr a :: L) (zvr a :: st) h) ∧
  (∀ (x0 x1 x2 x3 x4 : ZV) (a : Int) (L st : List ZV) (h : PH), zev kX1_reach 108 (x0 :: x1 :: x2 :: x3 :: x4 :: zvi a :: L) st h = zev kX1_reach 110 (x0 :: x1 :: x2 :: x3 :: x4 :: zvi a :: L) (zvi a :: st) h) ∧
  (∀ (v0 : ZV) (q : Nat) (L st : List ZV) (h : PH), zev kX1_reach 110 L (v0 :: zvr (some q) :: st) h = if (ph_K h q).1 % 1000 = 16 ∧ zcat st ≤ 8 then zk kX1_reach 110 113 L st (mX1_fine [zvr (some q), v0] h) else none) ∧
  (∀ (a : Int) (L : List ZV) (h : PH), zev kX1_reach 113 L [zvi a] h = zrv (zvi a) h) :=
  ⟨fun a L st h => e_ld0R (n := 1) rfl,
  fun x0 a L st h => e_ld1I (n := 2) rfl,
  fun x0 a L st h => e_ld1I (n := 3) rfl,
  fun x0 x1 a L st h => e_ld2I (n := 4) rfl,
  fun v0 v1 v2 q L st h => e_callV4 (F := mX1_refuses) (kd := 16) (n := 7) rfl,
  fun x0 x1 x2 x3 x4 a L st h hx => e_st4I (n := 9) rfl hx,
  fun x0 x1 x2 x3 a L st h => e_ld4I (n := 11) rfl,
  fun a L st h => e_ifne (t := 28) (n := 14) rfl,
  fun x0 x1 x2 a L st h => e_ld3I (n := 15) rfl,
  fun L st h => e_push (v := zvi 0) (n := 16) rfl,
  fun L st h => e_push (v := zvi 1999) (n := 19) rfl,
  fun v0 v1 v2 L st h => e_callS3 (F := mX1_isIn) (n := 22) rfl,
  fun a L st h => e_ifne (t := 28) (n := 25) rfl,
  fun L st h => e_push (v := zvi 2) (n := 26) rfl,
  fun x0 x1 x2 x3 x4 a L st h hx => e_st4I (n := 28) rfl hx,
  fun x0 x1 x2 x3 a L st h => e_ld4I (n := 30) rfl,
  fun a L st h => e_ifle (t := 40) (n := 33) rfl,
  fun a L st h => e_ld0R (n := 34) rfl,
  fun x0 x1 x2 x3 a L st h => e_ld4I (n := 36) rfl,
  fun v0 q L st h => e_callV2 (F := mX1_refused) (kd := 16) (n := 39) rfl,
  fun a L h => e_retI rfl,
  fun L st h => e_push (v := zvi 0) (n := 41) rfl,
  fun x0 x1 x2 x3 x4 x5 a L st h hx => e_st5I (n := 43) rfl hx,
  fun a L st h => e_ld0R (n := 44) rfl,
  fun q L st h => e_callV1 (F := mX1_asIs) (kd := 16) (n := 47) rfl,
  fun a L st h => e_popI (n := 48) rfl,
  fun a L st h => e_popR (n := 48) rfl,
  fun L st h => e_push (v := zvi 0) (n := 49) rfl,
  fun x0 x1 x2 x3 x4 x5 x6 a L st h hx => e_st6I (n := 51) rfl hx,
  fun a L st h => e_ld0R (n := 54) rfl,
  fun q L st h => e_getR (kd := 16) (k := 5) (n := 57) rfl,
  fun q L st h => e_getR (kd := 20) (k := 2) (n := 60) rfl,
  fun q L st h => e_callV1 (F := mJ7_size) (kd := 29) (n := 63) rfl,
  fun a b L st h => e_cmpge (t := 107) (n := 66) rfl,
  fun a L st h => e_ld0R (n := 67) rfl,
  fun q L st h => e_getR (kd := 16) (k := 8) (n := 70) rfl,
  fun x0 a L st h => e_ld1I (n := 71) rfl,
  fun x0 x1 x2 x3 x4 x5 a L st h => e_ld6I (n := 73) rfl,
  fun x0 x1 a L st h => e_ld2I (n := 74) rfl,
  fun v0 v1 v2 q L st h => e_callV4 (F := mX3_arrives) (kd := 17) (n := 77) rfl,
  fun x0 x1 x2 x3 x4 x5 x6 x7 a L st h hx => e_st7I (n := 79) rfl hx,
  fun x0 x1 x2 x3 x4 x5 x6 a L st h => e_ld7I (n := 81) rfl,
  fun L st h => e_push (v := zvi (-2)) (n := 83) rfl,
  fun a b L st h => e_cmpeq (t := 101) (n := 86) rfl,
  fun x0 x1 x2 x3 x4 x5 x6 a L st h => e_ld7I (n := 88) rfl,
  fun x0 x1 x2 a L st h => e_ld3I (n := 89) rfl,
  fun a b L st h => e_cmpgt (t := 101) (n := 92) rfl,
  fun x0 x1 x2 x3 x4 a L st h => e_ld5I (n := 94) rfl,
  fun L st h => e_push (v := zvi 1) (n := 95) rfl,
  fun x0 x1 x2 x3 x4 x5 a L st h => e_ld6I (n := 97) rfl,
  fun a b L st h => e_bin (f := zshl) (n := 98) rfl,
  fun a b L st h => e_bin (f := zor) (n := 99) rfl,
  fun x0 x1 x2 x3 x4 x5 a L st h hx => e_st5I (n := 101) rfl hx,
  fun x0 x1 x2 x3 x4 x5 a L st h hx => e_iinc6 (d := 1) (n := 104) rfl hx,
  fun L st h => e_goto (t := 51) rfl,
  fun a L st h => e_ld0R (n := 108) rfl,
  fun x0 x1 x2 x3 x4 a L st h => e_ld5I (n := 110) rfl,
  fun v0 q L st h => e_callV2 (F := mX1_fine) (kd := 16) (n := 113) rfl,
  fun a L h => e_retI rfl⟩
theorem allX1_reach : zall yX1_reach cX1_reach 8 (some .int) 8 kX1_reach.1 :=
  ⟨k_aload_n dX1_reach_0,
  k_iload_n dX1_reach_1,
  k_iload_n dX1_reach_2,
  k_iload_n dX1_reach_3,
  k_callV (y2 := yX1_refuses) (C := RX1) (T0 := TX1) (ci := 0) dX1_reach_4 sndX1_refuses rfl q1334 q1336 qs36 q128 q1337 (by decide +kernel) ⟨by decide, by decide⟩ (by decide) (by decide),
  k_istore dX1_reach_7,
  k_iload dX1_reach_9,
  k_ifne (t := 28) dX1_reach_11 (by decide),
  k_iload_n dX1_reach_14,
  k_iconst dX1_reach_15,
  k_sipush dX1_reach_16,
  k_callS (y2 := yX1_isIn) dX1_reach_19 sndX1_isIn q375 q376 q128 q377 (by decide +kernel) ⟨by decide, by decide⟩ (by decide) (by decide),
  k_ifne (t := 28) dX1_reach_22 (by decide),
  k_iconst dX1_reach_25,
  k_istore dX1_reach_26,
  k_iload dX1_reach_28,
  k_ifle (t := 40) dX1_reach_30 (by decide),
  k_aload_n dX1_reach_33,
  k_iload dX1_reach_34,
  k_callV (y2 := yX1_refused) (C := RX1) (T0 := TX1) (ci := 0) dX1_reach_36 sndX1_refused rfl q378 q380 qs1 q128 q381 (by decide +kernel) ⟨by decide, by decide⟩ (by decide) (by decide),
  k_iret dX1_reach_39,
  k_iconst dX1_reach_40,
  k_istore dX1_reach_41,
  k_aload_n dX1_reach_43,
  k_callV (y2 := yX1_asIs) (C := RX1) (T0 := TX1) (ci := 0) dX1_reach_44 sndX1_asIs rfl q1338 q1340 qs37 q128 q1341 (by decide +kernel) ⟨by decide, by decide⟩ (by decide) (by decide),
  k_pop dX1_reach_47,
  k_iconst dX1_reach_48,
  k_istore dX1_reach_49,
  k_iload dX1_reach_51,
  k_aload_n dX1_reach_53,
  k_getR (C := RX1) (T := TX1) (N := 19) (ci := 0) (k := 5) (ref := "LinkTimes") dX1_reach_54 rfl in_X1 (by decide) q308 (Or.inl rfl) (fun _ _ _ => rfl),
  k_getRN (C := RX6) (T := TX6) (N := 5) (ci := 4) (k := 2) (ref := "LinkTimes$Desk") dX1_reach_57 rfl in_X6 (by decide) q423 (Or.inl rfl) (fun _ _ _ => rfl),
  k_callV (y2 := yJ7_size) (C := RJ7) (T0 := TJ7) (ci := 13) dX1_reach_60 sndJ7_size rfl q936 q652 q653 q141 q654 (by decide +kernel) ⟨by decide, by decide⟩ (by decide) (by decide),
  k_cmpge (t := 107) dX1_reach_63 (by decide),
  k_aload_n dX1_reach_66,
  k_getR (C := RX1) (T := TX1) (N := 19) (ci := 0) (k := 8) (ref := "LinkTimes") dX1_reach_67 rfl in_X1 (by decide) q311 (Or.inl rfl) (fun _ _ _ => rfl),
  k_iload_n dX1_reach_70,
  k_iload dX1_reach_71,
  k_iload_n dX1_reach_73,
  k_callV (y2 := yX3_arrives) (C := RX3) (T0 := TX3) (ci := 1) dX1_reach_74 sndX3_arrives rfl q1353 q1354 q1355 q136 q1356 (by decide +kernel) ⟨by decide, by decide⟩ (by decide) (by decide),
  k_istore dX1_reach_77,
  k_iload dX1_reach_79,
  k_bipush dX1_reach_81,
  k_cmpeq (t := 101) dX1_reach_83 (by decide),
  k_iload dX1_reach_86,
  k_iload_n dX1_reach_88,
  k_cmpgt (t := 101) dX1_reach_89 (by decide),
  k_iload dX1_reach_92,
  k_iconst dX1_reach_94,
  k_iload dX1_reach_95,
  k_ishl dX1_reach_97,
  k_ior dX1_reach_98,
  k_istore dX1_reach_99,
  k_iinc dX1_reach_101,
  k_goto (t := 51) dX1_reach_104 (by decide),
  k_aload_n dX1_reach_107,
  k_iload dX1_reach_108,
  k_callV (y2 := yX1_fine) (C := RX1) (T0 := TX1) (ci := 0) dX1_reach_110 sndX1_fine rfl q1211 q1213 qs32 q128 q1214 (by decide +kernel) ⟨by decide, by decide⟩ (by decide) (by decide),
  k_iret dX1_reach_113, trivial⟩
theorem sndX1_reach : MSound 8 yX1_reach (ws_ yX1_reach cX1_reach 8 (some .int)) mX1_reach := msound_M (by decide) allX1_reach (fun _ _ => rfl)
/-! LinkTimes.farthest(II)I -/
noncomputable def kX1_farthest : ZM := ([(0, zi_ld 1 0 1), (1, zi_ld 0 1 2), (2, zi_ld 0 1 3), (3, zi_ld 0 2 4), (4, zi_callV mX1_refuses 16 4 7), (7, zi_st 0 3 8), (8, zi_ld 0 3 9), (9, zi_if (fun a => zc_le a 0) 18 12), (12, zi_ld 1 0 13), (13, zi_ld 0 3 14), (14, zi_callV mX1_refused 16 2 17), (17, zi_retv 0), (18, zi_push (zvi (-1)) 19), (19, zi_st 0 4 21), (21, zi_push (zvi (-1)) 22), (22, zi_st 0 5 24), (24, zi_ld 1 0 25), (25, zi_callV mX1_asIs 16 1 28), (28, zi_pop 29), (29, zi_push (zvi 0) 30), (30, zi_st 0 6 32), (32, zi_ld 0 6 34), (34, zi_ld 1 0 35), (35, zi_getR 16 5 38), (38, zi_getR 20 2 41), (41, zi_callV mJ7_size 29 1 44), (44, zi_cmp zc_ge 84 47), (47, zi_ld 1 0 48), (48, zi_getR 16 8 51), (51, zi_ld 0 1 52), (52, zi_ld 0 6 54), (54, zi_ld 0 2 55), (55, zi_callV mX3_arrives 17 4 58), (58, zi_st 0 7 60), (60, zi_ld 0 7 62), (62, zi_ld 0 5 64), (64, zi_cmp zc_gt 70 67), (67, zi_goto 78), (70, zi_ld 0 7 72), (72, zi_st 0 5 74), (74, zi_ld 0 6 76), (76, zi_st 0 4 78), (78, zi_iinc 6 1 81), (81, zi_goto 32), (84, zi_ld 1 0 85), (85, zi_ld 0 4 87), (87, zi_callV mX1_fine 16 2 90), (90, zi_retv 0)], fun _ _ => none)
noncomputable def mX1_farthest : ZF := zrunM kX1_farthest 8
theorem enX1_farthest (x0 : Option Nat) (x1 : Int) (x2 : Int) (h : PH) : mX1_farthest [zvr x0, zvi x1, zvi x2] h = zev kX1_farthest 0 [zvr x0, zvi x1, zvi x2, zvu, zvu, zvu, zvu, zvu] [] h := zrunM_eq rfl rfl
theorem hdX1_farthest_32 (x0 x1 x2 x3 x4 x5 : ZV) (a : Int) (L st : List ZV) (h : PH) : zev kX1_farthest 32 (x0 :: x1 :: x2 :: x3 :: x4 :: x5 :: zvi a :: L) st h = zev kX1_farthest 34 (x0 :: x1 :: x2 :: x3 :: x4 :: x5 :: zvi a :: L) (zvi a :: st) h := e_ld6I (n := 34) rfl
theorem rX1_farthest : (∀ (a : Option Nat) (L st : List ZV) (h : PH), zev kX1_farthest 0 (zvr a :: L) st h = zev kX1_farthest 1 (zvr a :: L) (zvr a :: st) h) ∧
  (∀ (x0 : ZV) (a : Int) (L st : List ZV) (h : PH), zev kX1_farthest 1 (x0 :: zvi a :: L) st h = zev kX1_farthest 2 (x0 :: zvi a :: L) (zvi a :: st) h) ∧
  (∀ (x0 : ZV) (a : Int) (L st : List ZV) (h : PH), zev kX1_farthest 2 (x0 :: zvi a :: L) st h = zev kX1_farthest 3 (x0 :: zvi a :: L) (zvi a :: st) h) ∧
  (∀ (x0 x1 : ZV) (a : Int) (L st : List ZV) (h : PH), zev kX1_farthest 3 (x0 :: x1 :: zvi a :: L) st h = zev kX1_farthest 4 (x0 :: x1 :: zvi a :: L) (zvi a :: st) h) ∧
  (∀ (v0 v1 v2 : ZV) (q : Nat) (L st : List ZV) (h : PH), zev kX1_farthest 4 L (v2 :: v1 :: v0 :: zvr (some q) :: st) h = if (ph_K h q).1 % 1000 = 16 ∧ zcat st ≤ 8 then zk kX1_farthest 4 7 L st (mX1_refuses [zvr (some q), v0, v1, v2] h) else none) ∧
  (∀ (x0 x1 x2 x3 : ZV) (a : Int) (L st : List ZV) (h : PH) (hx : zisL x2 = false) , zev kX1_farthest 7 (x0 :: x1 :: x2 :: x3 :: L) (zvi a :: st) h = zev kX1_farthest 8 (x0 :: x1 :: x2 :: zvi a :: L) st h) ∧
  (∀ (x0 x1 x2 : ZV) (a : Int) (L st : List ZV) (h : PH), zev kX1_farthest 8 (x0 :: x1 :: x2 :: zvi a :: L) st h = zev kX1_farthest 9 (x0 :: x1 :: x2 :: zvi a :: L) (zvi a :: st) h) ∧
  (∀ (a : Int) (L st : List ZV) (h : PH), zev kX1_farthest 9 L (zvi a :: st) h = if a ≤ 0 then zev kX1_farthest 18 L st h else zev kX1_farthest 12 L st h) ∧
  (∀ (a : Option Nat) (L st : List ZV) (h : PH), zev kX1_farthest 12 (zvr a :: L) st h = zev kX1_farthest 13 (zvr a :: L) (zvr a :: st) h) ∧
  (∀ (x0 x1 x2 : ZV) (a : Int) (L st : List ZV) (h : PH), zev kX1_farthest 13 (x0 :: x1 :: x2 :: zvi a :: L) st h = zev kX1_farthest 14 (x0 :: x1 :: x2 :: zvi a :: L) (zvi a :: st) h) ∧
  (∀ (v0 : ZV) (q : Nat) (L st : List ZV) (h : PH), zev kX1_farthest 14 L (v0 :: zvr (some q) :: st) h = if (ph_K h q).1 % 1000 = 16 ∧ zcat st ≤ 8 then zk kX1_farthest 14 17 L st (mX1_refused [zvr (some q), v0] h) else none) ∧
  (∀ (a : Int) (L : List ZV) (h : PH), zev kX1_farthest 17 L [zvi a] h = zrv (zvi a) h) ∧
  (∀ (L st : List ZV) (h : PH), zev kX1_farthest 18 L st h = zev kX1_farthest 19 L (zvi (-1) :: st) h) ∧
  (∀ (x0 x1 x2 x3 x4 : ZV) (a : Int) (L st : List ZV) (h : PH) (hx : zisL x3 = false) , zev kX1_farthest 19 (x0 :: x1 :: x2 :: x3 :: x4 :: L) (zvi a :: st) h = zev kX1_farthest 21 (x0 :: x1 :: x2 :: x3 :: zvi a :: L) st h) ∧
  (∀ (L st : List ZV) (h : PH), zev kX1_farthest 21 L st h = zev kX1_farthest 22 L (zvi (-1) :: st) h) ∧
  (∀ (x0 x1 x2 x3 x4 x5 : ZV) (a : Int) (L st : List ZV) (h : PH) (hx : zisL x4 = false) , zev kX1_farthest 22 (x0 :: x1 :: x2 :: x3 :: x4 :: x5 :: L) (zvi a :: st) h = zev kX1_farthest 24 (x0 :: x1 :: x2 :: x3 :: x4 :: zvi a :: L) st h) ∧
  (∀ (a : Option Nat) (L st : List ZV) (h : PH), zev kX1_farthest 24 (zvr a :: L) st h = zev kX1_farthest 25 (zvr a :: L) (zvr a :: st) h) ∧
  (∀ (q : Nat) (L st : List ZV) (h : PH), zev kX1_farthest 25 L (zvr (some q) :: st) h = if (ph_K h q).1 % 1000 = 16 ∧ zcat st ≤ 8 then zk kX1_farthest 25 28 L st (mX1_asIs [zvr (some q)] h) else none) ∧
  (∀ (a : Int) (L st : List ZV) (h : PH), zev kX1_farthest 28 L (zvi a :: st) h = zev kX1_farthest 29 L st h) ∧
  (∀ (a : Option Nat) (L st : List ZV) (h : PH), zev kX1_farthest 28 L (zvr a :: st) h = zev kX1_farthest 29 L st h) ∧
  (∀ (L st : List ZV) (h : PH), zev kX1_farthest 29 L st h = zev kX1_farthest 30 L (zvi 0 :: st) h) ∧
  (∀ (x0 x1 x2 x3 x4 x5 x6 : ZV) (a : Int) (L st : List ZV) (h : PH) (hx : zisL x5 = false) , zev kX1_farthest 30 (x0 :: x1 :: x2 :: x3 :: x4 :: x5 :: x6 :: L) (zvi a :: st) h = zev kX1_farthest 32 (x0 :: x1 :: x2 :: x3 :: x4 :: x5 :: zvi a :: L) st h) ∧
  (∀ (a : Option Nat) (L st : List ZV) (h : PH), zev kX1_farthest 34 (zvr a :: L) st h = zev kX1_farthest 35 (zvr a :: L) (zvr a :: st) h) ∧
  (∀ (q : Nat) (L st : List ZV) (h : PH), zev kX1_farthest 35 L (zvr (some q) :: st) h = if (ph_K h q).1 % 1000 = 16 then zev kX1_farthest 38 L (zvr (ph_R h q 5) :: st) h else none) ∧
  (∀ (q : Nat) (L st : List ZV) (h : PH), zev kX1_farthest 38 L (zvr (some q) :: st) h = if (ph_K h q).1 % 1000 = 20 then zev kX1_farthest 41 L (zvr (ph_R h q 2) :: st) h else none) ∧
  (∀ (q : Nat) (L st : List ZV) (h : PH), zev kX1_farthest 41 L (zvr (some q) :: st) h = if (ph_K h q).1 % 1000 = 29 ∧ zcat st ≤ 8 then zk kX1_farthest 41 44 L st (mJ7_size [zvr (some q)] h) else none) ∧
  (∀ (a b : Int) (L st : List ZV) (h : PH), zev kX1_farthest 44 L (zvi b :: zvi a :: st) h = if a ≥ b then zev kX1_farthest 84 L st h else zev kX1_farthest 47 L st h) ∧
  (∀ (a : Option Nat) (L st : List ZV) (h : PH), zev kX1_farthest 47 (zvr a :: L) st h = zev kX1_farthest 48 (zvr a :: L) (zvr a :: st) h) ∧
  (∀ (q : Nat) (L st : List ZV) (h : PH), zev kX1_farthest 48 L (zvr (some q) :: st) h = if (ph_K h q).1 % 1000 = 16 then zev kX1_farthest 51 L (zvr (ph_R h q 8) :: st) h else none) ∧
  (∀ (x0 : ZV) (a : Int) (L st : List ZV) (h : PH), zev kX1_farthest 51 (x0 :: zvi a :: L) st h = zev kX1_farthest 52 (x0 :: zvi a :: L) (zvi a :: st) h) ∧
  (∀ (x0 x1 x2 x3 x4 x5 : ZV) (a : Int) (L st : List ZV) (h : PH), zev kX1_farthest 52 (x0 :: x1 :: x2 :: x3 :: x4 :: x5 :: zvi a :: L) st h = zev kX1_farthest 54 (x0 :: x1 :: x2 :: x3 :: x4 :: x5 :: zvi a :: L) (zvi a :: st) h) ∧
  (∀ (x0 x1 : ZV) (a : Int) (L st : List ZV) (h : PH), zev kX1_farthest 54 (x0 :: x1 :: zvi a :: L) st h = zev kX1_farthest 55 (x0 :: x1 :: zvi a :: L) (zvi a :: st) h) ∧
  (∀ (v0 v1 v2 : ZV) (q : Nat) (L st : List ZV) (h : PH), zev kX1_farthest 55 L (v2 :: v1 :: v0 :: zvr (some q) :: st) h = if (ph_K h q).1 % 1000 = 17 ∧ zcat st ≤ 8 then zk kX1_farthest 55 58 L st (mX3_arrives [zvr (some q), v0, v1, v2] h) else none) ∧
  (∀ (x0 x1 x2 x3 x4 x5 x6 x7 : ZV) (a : Int) (L st : List ZV) (h : PH) (hx : zisL x6 = false) , zev kX1_farthest 58 (x0 :: x1 :: x2 :: x3 :: x4 :: x5 :: x6 :: x7 :: L) (zvi a :: st) h = zev kX1_farthest 60 (x0 :: x1 :: x2 :: x3 :: x4 :: x5 :: x6 :: zvi a :: L) st h) ∧
  (∀ (x0 x1 x2 x3 x4 x5 x6 : ZV) (a : Int) (L st : List ZV) (h : PH), zev kX1_farthest 60 (x0 :: x1 :: x2 :: x3 :: x4 :: x5 :: x6 :: zvi a :: L) st h = zev kX1_farthest 62 (x0 :: x1 :: x2 :: x3 :: x4 :: x5 :: x6 :: zvi a :: L) (zvi a :: st) h) ∧
  (∀ (x0 x1 x2 x3 x4 : ZV) (a : Int) (L st : List ZV) (h : PH), zev kX1_farthest 62 (x0 :: x1 :: x2 :: x3 :: x4 :: zvi a :: L) st h = zev kX1_farthest 64 (x0 :: x1 :: x2 :: x3 :: x4 :: zvi a :: L) (zvi a :: st) h) ∧
  (∀ (a b : Int) (L st : List ZV) (h : PH), zev kX1_farthest 64 L (zvi b :: zvi a :: st) h = if a > b then zev kX1_farthest 70 L st h else zev kX1_farthest 67 L st h) ∧
  (∀ (L st : List ZV) (h : PH), zev kX1_farthest 67 L st h = zev kX1_farthest 78 L st h) ∧
  (∀ (x0 x1 x2 x3 x4 x5 x6 : ZV) (a : Int) (L st : List ZV) (h : PH), zev kX1_farthest 70 (x0 :: x1 :: x2 :: x3 :: x4 :: x5 :: x6 :: zvi a :: L) st h = zev kX1_farthest 72 (x0 :: x1 :: x2 :: x3 :: x4 :: x5 :: x6 :: zvi a :: L) (zvi a :: st) h) ∧
  (∀ (x0 x1 x2 x3 x4 x5 : ZV) (a : Int) (L st : List ZV) (h : PH) (hx : zisL x4 = false) , zev kX1_farthest 72 (x0 :: x1 :: x2 :: x3 :: x4 :: x5 :: L) (zvi a :: st) h = zev kX1_farthest 74 (x0 :: x1 :: x2 :: x3 :: x4 :: zvi a :: L) st h) ∧
  (∀ (x0 x1 x2 x3 x4 x5 : ZV) (a : Int) (L st : List ZV) (h : PH), zev kX1_farthest 74 (x0 :: x1 :: x2 :: x3 :: x4 :: x5 :: zvi a :: L) st h = zev kX1_farthest 76 (x0 :: x1 :: x2 :: x3 :: x4 :: x5 :: zvi a :: L) (zvi a :: st) h) ∧
  (∀ (x0 x1 x2 x3 x4 : ZV) (a : Int) (L st : List ZV) (h : PH) (hx : zisL x3 = false) , zev kX1_farthest 76 (x0 :: x1 :: x2 :: x3 :: x4 :: L) (zvi a :: st) h = zev kX1_farthest 78 (x0 :: x1 :: x2 :: x3 :: zvi a :: L) st h) ∧
  (∀ (x0 x1 x2 x3 x4 x5 : ZV) (a : Int) (L st : List ZV) (h : PH) (hx : zisL x5 = false) , zev kX1_farthest 78 (x0 :: x1 :: x2 :: x3 :: x4 :: x5 :: zvi a :: L) st h = zev kX1_farthest 81 (x0 :: x1 :: x2 :: x3 :: x4 :: x5 :: zvi (w32 (a + 1)) :: L) st h) ∧
  (∀ (L st : List ZV) (h : PH), zev kX1_farthest 81 L st h = zev kX1_farthest 32 L st h) ∧
  (∀ (a : Option Nat) (L st : List ZV) (h : PH), zev kX1_farthest 84 (zvr a :: L) st h = zev kX1_farthest 85 (zvr a :: L) (zvr a :: st) h) ∧
  (∀ (x0 x1 x2 x3 : ZV) (a : Int) (L st : List ZV) (h : PH), zev kX1_farthest 85 (x0 :: x1 :: x2 :: x3 :: zvi a :: L) st h = zev kX1_farthest 87 (x0 :: x1 :: x2 :: x3 :: zvi a :: L) (zvi a :: st) h) ∧
  (∀ (v0 : ZV) (q : Nat) (L st : List ZV) (h : PH), zev kX1_farthest 87 L (v0 :: zvr (some q) :: st) h = if (ph_K h q).1 % 1000 = 16 ∧ zcat st ≤ 8 then zk kX1_farthest 87 90 L st (mX1_fine [zvr (some q), v0] h) else none) ∧
  (∀ (a : Int) (L : List ZV) (h : PH), zev kX1_farthest 90 L [zvi a] h = zrv (zvi a) h) :=
  ⟨fun a L st h => e_ld0R (n := 1) rfl,
  fun x0 a L st h => e_ld1I (n := 2) rfl,
  fun x0 a L st h => e_ld1I (n := 3) rfl,
  fun x0 x1 a L st h => e_ld2I (n := 4) rfl,
  fun v0 v1 v2 q L st h => e_callV4 (F := mX1_refuses) (kd := 16) (n := 7) rfl,
  fun x0 x1 x2 x3 a L st h hx => e_st3I (n := 8) rfl hx,
  fun x0 x1 x2 a L st h => e_ld3I (n := 9) rfl,
  fun a L st h => e_ifle (t := 18) (n := 12) rfl,
  fun a L st h => e_ld0R (n := 13) rfl,
  fun x0 x1 x2 a L st h => e_ld3I (n := 14) rfl,
  fun v0 q L st h => e_callV2 (F := mX1_refused) (kd := 16) (n := 17) rfl,
  fun a L h => e_retI rfl,
  fun L st h => e_push (v := zvi (-1)) (n := 19) rfl,
  fun x0 x1 x2 x3 x4 a L st h hx => e_st4I (n := 21) rfl hx,
  fun L st h => e_push (v := zvi (-1)) (n := 22) rfl,
  fun x0 x1 x2 x3 x4 x5 a L st h hx => e_st5I (n := 24) rfl hx,
  fun a L st h => e_ld0R (n := 25) rfl,
  fun q L st h => e_callV1 (F := mX1_asIs) (kd := 16) (n := 28) rfl,
  fun a L st h => e_popI (n := 29) rfl,
  fun a L st h => e_popR (n := 29) rfl,
  fun L st h => e_push (v := zvi 0) (n := 30) rfl,
  fun x0 x1 x2 x3 x4 x5 x6 a L st h hx => e_st6I (n := 32) rfl hx,
  fun a L st h => e_ld0R (n := 35) rfl,
  fun q L st h => e_getR (kd := 16) (k := 5) (n := 38) rfl,
  fun q L st h => e_getR (kd := 20) (k := 2) (n := 41) rfl,
  fun q L st h => e_callV1 (F := mJ7_size) (kd := 29) (n := 44) rfl,
  fun a b L st h => e_cmpge (t := 84) (n := 47) rfl,
  fun a L st h => e_ld0R (n := 48) rfl,
  fun q L st h => e_getR (kd := 16) (k := 8) (n := 51) rfl,
  fun x0 a L st h => e_ld1I (n := 52) rfl,
  fun x0 x1 x2 x3 x4 x5 a L st h => e_ld6I (n := 54) rfl,
  fun x0 x1 a L st h => e_ld2I (n := 55) rfl,
  fun v0 v1 v2 q L st h => e_callV4 (F := mX3_arrives) (kd := 17) (n := 58) rfl,
  fun x0 x1 x2 x3 x4 x5 x6 x7 a L st h hx => e_st7I (n := 60) rfl hx,
  fun x0 x1 x2 x3 x4 x5 x6 a L st h => e_ld7I (n := 62) rfl,
  fun x0 x1 x2 x3 x4 a L st h => e_ld5I (n := 64) rfl,
  fun a b L st h => e_cmpgt (t := 70) (n := 67) rfl,
  fun L st h => e_goto (t := 78) rfl,
  fun x0 x1 x2 x3 x4 x5 x6 a L st h => e_ld7I (n := 72) rfl,
  fun x0 x1 x2 x3 x4 x5 a L st h hx => e_st5I (n := 74) rfl hx,
  fun x0 x1 x2 x3 x4 x5 a L st h => e_ld6I (n := 76) rfl,
  fun x0 x1 x2 x3 x4 a L st h hx => e_st4I (n := 78) rfl hx,
  fun x0 x1 x2 x3 x4 x5 a L st h hx => e_iinc6 (d := 1) (n := 81) rfl hx,
  fun L st h => e_goto (t := 32) rfl,
  fun a L st h => e_ld0R (n := 85) rfl,
  fun x0 x1 x2 x3 a L st h => e_ld4I (n := 87) rfl,
  fun v0 q L st h => e_callV2 (F := mX1_fine) (kd := 16) (n := 90) rfl,
  fun a L h => e_retI rfl⟩
theorem allX1_farthest : zall yX1_farthest cX1_farthest 8 (some .int) 8 kX1_farthest.1 :=
  ⟨k_aload_n dX1_farthest_0,
  k_iload_n dX1_farthest_1,
  k_iload_n dX1_farthest_2,
  k_iload_n dX1_farthest_3,
  k_callV (y2 := yX1_refuses) (C := RX1) (T0 := TX1) (ci := 0) dX1_farthest_4 sndX1_refuses rfl q1334 q1336 qs36 q128 q1337 (by decide +kernel) ⟨by decide, by decide⟩ (by decide) (by decide),
  k_istore_n dX1_farthest_7,
  k_iload_n dX1_farthest_8,
  k_ifle (t := 18) dX1_farthest_9 (by decide),
  k_aload_n dX1_farthest_12,
  k_iload_n dX1_farthest_13,
  k_callV (y2 := yX1_refused) (C := RX1) (T0 := TX1) (ci := 0) dX1_farthest_14 sndX1_refused rfl q378 q380 qs1 q128 q381 (by decide +kernel) ⟨by decide, by decide⟩ (by decide) (by decide),
  k_iret dX1_farthest_17,
  k_iconst dX1_farthest_18,
  k_istore dX1_farthest_19,
  k_iconst dX1_farthest_21,
  k_istore dX1_farthest_22,
  k_aload_n dX1_farthest_24,
  k_callV (y2 := yX1_asIs) (C := RX1) (T0 := TX1) (ci := 0) dX1_farthest_25 sndX1_asIs rfl q1338 q1340 qs37 q128 q1341 (by decide +kernel) ⟨by decide, by decide⟩ (by decide) (by decide),
  k_pop dX1_farthest_28,
  k_iconst dX1_farthest_29,
  k_istore dX1_farthest_30,
  k_iload dX1_farthest_32,
  k_aload_n dX1_farthest_34,
  k_getR (C := RX1) (T := TX1) (N := 19) (ci := 0) (k := 5) (ref := "LinkTimes") dX1_farthest_35 rfl in_X1 (by decide) q308 (Or.inl rfl) (fun _ _ _ => rfl),
  k_getRN (C := RX6) (T := TX6) (N := 5) (ci := 4) (k := 2) (ref := "LinkTimes$Desk") dX1_farthest_38 rfl in_X6 (by decide) q423 (Or.inl rfl) (fun _ _ _ => rfl),
  k_callV (y2 := yJ7_size) (C := RJ7) (T0 := TJ7) (ci := 13) dX1_farthest_41 sndJ7_size rfl q936 q652 q653 q141 q654 (by decide +kernel) ⟨by decide, by decide⟩ (by decide) (by decide),
  k_cmpge (t := 84) dX1_farthest_44 (by decide),
  k_aload_n dX1_farthest_47,
  k_getR (C := RX1) (T := TX1) (N := 19) (ci := 0) (k := 8) (ref := "LinkTimes") dX1_farthest_48 rfl in_X1 (by decide) q311 (Or.inl rfl) (fun _ _ _ => rfl),
  k_iload_n dX1_farthest_51,
  k_iload dX1_farthest_52,
  k_iload_n dX1_farthest_54,
  k_callV (y2 := yX3_arrives) (C := RX3) (T0 := TX3) (ci := 1) dX1_farthest_55 sndX3_arrives rfl q1353 q1354 q1355 q136 q1356 (by decide +kernel) ⟨by decide, by decide⟩ (by decide) (by decide),
  k_istore dX1_farthest_58,
  k_iload dX1_farthest_60,
  k_iload dX1_farthest_62,
  k_cmpgt (t := 70) dX1_farthest_64 (by decide),
  k_goto (t := 78) dX1_farthest_67 (by decide),
  k_iload dX1_farthest_70,
  k_istore dX1_farthest_72,
  k_iload dX1_farthest_74,
  k_istore dX1_farthest_76,
  k_iinc dX1_farthest_78,
  k_goto (t := 32) dX1_farthest_81 (by decide),
  k_aload_n dX1_farthest_84,
  k_iload dX1_farthest_85,
  k_callV (y2 := yX1_fine) (C := RX1) (T0 := TX1) (ci := 0) dX1_farthest_87 sndX1_fine rfl q1211 q1213 qs32 q128 q1214 (by decide +kernel) ⟨by decide, by decide⟩ (by decide) (by decide),
  k_iret dX1_farthest_90, trivial⟩
theorem sndX1_farthest : MSound 8 yX1_farthest (ws_ yX1_farthest cX1_farthest 8 (some .int)) mX1_farthest := msound_M (by decide) allX1_farthest (fun _ _ => rfl)
/-! LinkTimes.meets(III)I -/
noncomputable def kX1_meets : ZM := ([(0, zi_ld 1 0 1), (1, zi_ld 0 1 2), (2, zi_ld 0 2 3), (3, zi_ld 0 3 4), (4, zi_callV mX1_refuses 16 4 7), (7, zi_st 0 4 9), (9, zi_ld 0 4 11), (11, zi_if (fun a => zc_le a 0) 21 14), (14, zi_ld 1 0 15), (15, zi_ld 0 4 17), (17, zi_callV mX1_refused 16 2 20), (20, zi_retv 0), (21, zi_push (zvi (-2)) 23), (23, zi_st 0 5 25), (25, zi_push (zvi 99999) 27), (27, zi_st 0 6 29), (29, zi_ld 1 0 30), (30, zi_callV mX1_asIs 16 1 33), (33, zi_pop 34), (34, zi_push (zvi 0) 35), (35, zi_st 0 7 37), (37, zi_ld 0 7 39), (39, zi_ld 1 0 40), (40, zi_getR 16 5 43), (43, zi_getR 20 2 46), (46, zi_callV mJ7_size 29 1 49), (49, zi_cmp zc_ge 126 52), (52, zi_ld 1 0 53), (53, zi_getR 16 8 56), (56, zi_ld 0 1 57), (57, zi_ld 0 7 59), (59, zi_ld 0 3 60), (60, zi_callV mX3_arrives 17 4 63), (63, zi_st 0 8 65), (65, zi_ld 1 0 66), (66, zi_getR 16 8 69), (69, zi_ld 0 2 70), (70, zi_ld 0 7 72), (72, zi_ld 0 3 73), (73, zi_callV mX3_arrives 17 4 76), (76, zi_st 0 9 78), (78, zi_ld 0 8 80), (80, zi_push (zvi (-2)) 82), (82, zi_cmp zc_eq 120 85), (85, zi_ld 0 9 87), (87, zi_push (zvi (-2)) 89), (89, zi_cmp zc_eq 120 92), (92, zi_ld 0 8 94), (94, zi_ld 0 9 96), (96, zi_mm zmax 99), (99, zi_ld 0 6 101), (101, zi_cmp zc_lt 107 104), (104, zi_goto 120), (107, zi_ld 0 8 109), (109, zi_ld 0 9 111), (111, zi_mm zmax 114), (114, zi_st 0 6 116), (116, zi_ld 0 7 118), (118, zi_st 0 5 120), (120, zi_iinc 7 1 123), (123, zi_goto 37), (126, zi_ld 1 0 127), (127, zi_ld 0 5 129), (129, zi_callV mX1_fine 16 2 132), (132, zi_retv 0)], fun _ _ => none)
noncomputable def mX1_meets : ZF := zrunM kX1_meets 10
theorem enX1_meets (x0 : Option Nat) (x1 : Int) (x2 : Int) (x3 : Int) (h : PH) : mX1_meets [zvr x0, zvi x1, zvi x2, zvi x3] h = zev kX1_meets 0 [zvr x0, zvi x1, zvi x2, zvi x3, zvu, zvu, zvu, zvu, zvu, zvu] [] h := zrunM_eq rfl rfl
theorem hdX1_meets_37 (x0 x1 x2 x3 x4 x5 x6 : ZV) (a : Int) (L st : List ZV) (h : PH) : zev kX1_meets 37 (x0 :: x1 :: x2 :: x3 :: x4 :: x5 :: x6 :: zvi a :: L) st h = zev kX1_meets 39 (x0 :: x1 :: x2 :: x3 :: x4 :: x5 :: x6 :: zvi a :: L) (zvi a :: st) h := e_ld7I (n := 39) rfl
theorem rX1_meets : (∀ (a : Option Nat) (L st : List ZV) (h : PH), zev kX1_meets 0 (zvr a :: L) st h = zev kX1_meets 1 (zvr a :: L) (zvr a :: st) h) ∧
  (∀ (x0 : ZV) (a : Int) (L st : List ZV) (h : PH), zev kX1_meets 1 (x0 :: zvi a :: L) st h = zev kX1_meets 2 (x0 :: zvi a :: L) (zvi a :: st) h) ∧
  (∀ (x0 x1 : ZV) (a : Int) (L st : List ZV) (h : PH), zev kX1_meets 2 (x0 :: x1 :: zvi a :: L) st h = zev kX1_meets 3 (x0 :: x1 :: zvi a :: L) (zvi a :: st) h) ∧
  (∀ (x0 x1 x2 : ZV) (a : Int) (L st : List ZV) (h : PH), zev kX1_meets 3 (x0 :: x1 :: x2 :: zvi a :: L) st h = zev kX1_meets 4 (x0 :: x1 :: x2 :: zvi a :: L) (zvi a :: st) h) ∧
  (∀ (v0 v1 v2 : ZV) (q : Nat) (L st : List ZV) (h : PH), zev kX1_meets 4 L (v2 :: v1 :: v0 :: zvr (some q) :: st) h = if (ph_K h q).1 % 1000 = 16 ∧ zcat st ≤ 8 then zk kX1_meets 4 7 L st (mX1_refuses [zvr (some q), v0, v1, v2] h) else none) ∧
  (∀ (x0 x1 x2 x3 x4 : ZV) (a : Int) (L st : List ZV) (h : PH) (hx : zisL x3 = false) , zev kX1_meets 7 (x0 :: x1 :: x2 :: x3 :: x4 :: L) (zvi a :: st) h = zev kX1_meets 9 (x0 :: x1 :: x2 :: x3 :: zvi a :: L) st h) ∧
  (∀ (x0 x1 x2 x3 : ZV) (a : Int) (L st : List ZV) (h : PH), zev kX1_meets 9 (x0 :: x1 :: x2 :: x3 :: zvi a :: L) st h = zev kX1_meets 11 (x0 :: x1 :: x2 :: x3 :: zvi a :: L) (zvi a :: st) h) ∧
  (∀ (a : Int) (L st : List ZV) (h : PH), zev kX1_meets 11 L (zvi a :: st) h = if a ≤ 0 then zev kX1_meets 21 L st h else zev kX1_meets 14 L st h) ∧
  (∀ (a : Option Nat) (L st : List ZV) (h : PH), zev kX1_meets 14 (zvr a :: L) st h = zev kX1_meets 15 (zvr a :: L) (zvr a :: st) h) ∧
  (∀ (x0 x1 x2 x3 : ZV) (a : Int) (L st : List ZV) (h : PH), zev kX1_meets 15 (x0 :: x1 :: x2 :: x3 :: zvi a :: L) st h = zev kX1_meets 17 (x0 :: x1 :: x2 :: x3 :: zvi a :: L) (zvi a :: st) h) ∧
  (∀ (v0 : ZV) (q : Nat) (L st : List ZV) (h : PH), zev kX1_meets 17 L (v0 :: zvr (some q) :: st) h = if (ph_K h q).1 % 1000 = 16 ∧ zcat st ≤ 8 then zk kX1_meets 17 20 L st (mX1_refused [zvr (some q), v0] h) else none) ∧
  (∀ (a : Int) (L : List ZV) (h : PH), zev kX1_meets 20 L [zvi a] h = zrv (zvi a) h) ∧
  (∀ (L st : List ZV) (h : PH), zev kX1_meets 21 L st h = zev kX1_meets 23 L (zvi (-2) :: st) h) ∧
  (∀ (x0 x1 x2 x3 x4 x5 : ZV) (a : Int) (L st : List ZV) (h : PH) (hx : zisL x4 = false) , zev kX1_meets 23 (x0 :: x1 :: x2 :: x3 :: x4 :: x5 :: L) (zvi a :: st) h = zev kX1_meets 25 (x0 :: x1 :: x2 :: x3 :: x4 :: zvi a :: L) st h) ∧
  (∀ (L st : List ZV) (h : PH), zev kX1_meets 25 L st h = zev kX1_meets 27 L (zvi 99999 :: st) h) ∧
  (∀ (x0 x1 x2 x3 x4 x5 x6 : ZV) (a : Int) (L st : List ZV) (h : PH) (hx : zisL x5 = false) , zev kX1_meets 27 (x0 :: x1 :: x2 :: x3 :: x4 :: x5 :: x6 :: L) (zvi a :: st) h = zev kX1_meets 29 (x0 :: x1 :: x2 :: x3 :: x4 :: x5 :: zvi a :: L) st h) ∧
  (∀ (a : Option Nat) (L st : List ZV) (h : PH), zev kX1_meets 29 (zvr a :: L) st h = zev kX1_meets 30 (zvr a :: L) (zvr a :: st) h) ∧
  (∀ (q : Nat) (L st : List ZV) (h : PH), zev kX1_meets 30 L (zvr (some q) :: st) h = if (ph_K h q).1 % 1000 = 16 ∧ zcat st ≤ 8 then zk kX1_meets 30 33 L st (mX1_asIs [zvr (some q)] h) else none) ∧
  (∀ (a : Int) (L st : List ZV) (h : PH), zev kX1_meets 33 L (zvi a :: st) h = zev kX1_meets 34 L st h) ∧
  (∀ (a : Option Nat) (L st : List ZV) (h : PH), zev kX1_meets 33 L (zvr a :: st) h = zev kX1_meets 34 L st h) ∧
  (∀ (L st : List ZV) (h : PH), zev kX1_meets 34 L st h = zev kX1_meets 35 L (zvi 0 :: st) h) ∧
  (∀ (x0 x1 x2 x3 x4 x5 x6 x7 : ZV) (a : Int) (L st : List ZV) (h : PH) (hx : zisL x6 = false) , zev kX1_meets 35 (x0 :: x1 :: x2 :: x3 :: x4 :: x5 :: x6 :: x7 :: L) (zvi a :: st) h = zev kX1_meets 37 (x0 :: x1 :: x2 :: x3 :: x4 :: x5 :: x6 :: zvi a :: L) st h) ∧
  (∀ (a : Option Nat) (L st : List ZV) (h : PH), zev kX1_meets 39 (zvr a :: L) st h = zev kX1_meets 40 (zvr a :: L) (zvr a :: st) h) ∧
  (∀ (q : Nat) (L st : List ZV) (h : PH), zev kX1_meets 40 L (zvr (some q) :: st) h = if (ph_K h q).1 % 1000 = 16 then zev kX1_meets 43 L (zvr (ph_R h q 5) :: st) h else none) ∧
  (∀ (q : Nat) (L st : List ZV) (h : PH), zev kX1_meets 43 L (zvr (some q) :: st) h = if (ph_K h q).1 % 1000 = 20 then zev kX1_meets 46 L (zvr (ph_R h q 2) :: st) h else none) ∧
  (∀ (q : Nat) (L st : List ZV) (h : PH), zev kX1_meets 46 L (zvr (some q) :: st) h = if (ph_K h q).1 % 1000 = 29 ∧ zcat st ≤ 8 then zk kX1_meets 46 49 L st (mJ7_size [zvr (some q)] h) else none) ∧
  (∀ (a b : Int) (L st : List ZV) (h : PH), zev kX1_meets 49 L (zvi b :: zvi a :: st) h = if a ≥ b then zev kX1_meets 126 L st h else zev kX1_meets 52 L st h) ∧
  (∀ (a : Option Nat) (L st : List ZV) (h : PH), zev kX1_meets 52 (zvr a :: L) st h = zev kX1_meets 53 (zvr a :: L) (zvr a :: st) h) ∧
  (∀ (q : Nat) (L st : List ZV) (h : PH), zev kX1_meets 53 L (zvr (some q) :: st) h = if (ph_K h q).1 % 1000 = 16 then zev kX1_meets 56 L (zvr (ph_R h q 8) :: st) h else none) ∧
  (∀ (x0 : ZV) (a : Int) (L st : List ZV) (h : PH), zev kX1_meets 56 (x0 :: zvi a :: L) st h = zev kX1_meets 57 (x0 :: zvi a :: L) (zvi a :: st) h) ∧
  (∀ (x0 x1 x2 x3 x4 x5 x6 : ZV) (a : Int) (L st : List ZV) (h : PH), zev kX1_meets 57 (x0 :: x1 :: x2 :: x3 :: x4 :: x5 :: x6 :: zvi a :: L) st h = zev kX1_meets 59 (x0 :: x1 :: x2 :: x3 :: x4 :: x5 :: x6 :: zvi a :: L) (zvi a :: st) h) ∧
  (∀ (x0 x1 x2 : ZV) (a : Int) (L st : List ZV) (h : PH), zev kX1_meets 59 (x0 :: x1 :: x2 :: zvi a :: L) st h = zev kX1_meets 60 (x0 :: x1 :: x2 :: zvi a :: L) (zvi a :: st) h) ∧
  (∀ (v0 v1 v2 : ZV) (q : Nat) (L st : List ZV) (h : PH), zev kX1_meets 60 L (v2 :: v1 :: v0 :: zvr (some q) :: st) h = if (ph_K h q).1 % 1000 = 17 ∧ zcat st ≤ 8 then zk kX1_meets 60 63 L st (mX3_arrives [zvr (some q), v0, v1, v2] h) else none) ∧
  (∀ (x0 x1 x2 x3 x4 x5 x6 x7 x8 : ZV) (a : Int) (L st : List ZV) (h : PH) (hx : zisL x7 = false) , zev kX1_meets 63 (x0 :: x1 :: x2 :: x3 :: x4 :: x5 :: x6 :: x7 :: x8 :: L) (zvi a :: st) h = zev kX1_meets 65 (x0 :: x1 :: x2 :: x3 :: x4 :: x5 :: x6 :: x7 :: zvi a :: L) st h) ∧
  (∀ (a : Option Nat) (L st : List ZV) (h : PH), zev kX1_meets 65 (zvr a :: L) st h = zev kX1_meets 66 (zvr a :: L) (zvr a :: st) h) ∧
  (∀ (q : Nat) (L st : List ZV) (h : PH), zev kX1_meets 66 L (zvr (some q) :: st) h = if (ph_K h q).1 % 1000 = 16 then zev kX1_meets 69 L (zvr (ph_R h q 8) :: st) h else none) ∧
  (∀ (x0 x1 : ZV) (a : Int) (L st : List ZV) (h : PH), zev kX1_meets 69 (x0 :: x1 :: zvi a :: L) st h = zev kX1_meets 70 (x0 :: x1 :: zvi a :: L) (zvi a :: st) h) ∧
  (∀ (x0 x1 x2 x3 x4 x5 x6 : ZV) (a : Int) (L st : List ZV) (h : PH), zev kX1_meets 70 (x0 :: x1 :: x2 :: x3 :: x4 :: x5 :: x6 :: zvi a :: L) st h = zev kX1_meets 72 (x0 :: x1 :: x2 :: x3 :: x4 :: x5 :: x6 :: zvi a :: L) (zvi a :: st) h) ∧
  (∀ (x0 x1 x2 : ZV) (a : Int) (L st : List ZV) (h : PH), zev kX1_meets 72 (x0 :: x1 :: x2 :: zvi a :: L) st h = zev kX1_meets 73 (x0 :: x1 :: x2 :: zvi a :: L) (zvi a :: st) h) ∧
  (∀ (v0 v1 v2 : ZV) (q : Nat) (L st : List ZV) (h : PH), zev kX1_meets 73 L (v2 :: v1 :: v0 :: zvr (some q) :: st) h = if (ph_K h q).1 % 1000 = 17 ∧ zcat st ≤ 8 then zk kX1_meets 73 76 L st (mX3_arrives [zvr (some q), v0, v1, v2] h) else none) ∧
  (∀ (x0 x1 x2 x3 x4 x5 x6 x7 x8 x9 : ZV) (a : Int) (L st : List ZV) (h : PH) (hx : zisL x8 = false) , zev kX1_meets 76 (x0 :: x1 :: x2 :: x3 :: x4 :: x5 :: x6 :: x7 :: x8 :: x9 :: L) (zvi a :: st) h = zev kX1_meets 78 (x0 :: x1 :: x2 :: x3 :: x4 :: x5 :: x6 :: x7 :: x8 :: zvi a :: L) st h) ∧
  (∀ (x0 x1 x2 x3 x4 x5 x6 x7 : ZV) (a : Int) (L st : List ZV) (h : PH), zev kX1_meets 78 (x0 :: x1 :: x2 :: x3 :: x4 :: x5 :: x6 :: x7 :: zvi a :: L) st h = zev kX1_meets 80 (x0 :: x1 :: x2 :: x3 :: x4 :: x5 :: x6 :: x7 :: zvi a :: L) (zvi a :: st) h) ∧
  (∀ (L st : List ZV) (h : PH), zev kX1_meets 80 L st h = zev kX1_meets 82 L (zvi (-2) :: st) h) ∧
  (∀ (a b : Int) (L st : List ZV) (h : PH), zev kX1_meets 82 L (zvi b :: zvi a :: st) h = if a = b then zev kX1_meets 120 L st h else zev kX1_meets 85 L st h) ∧
  (∀ (x0 x1 x2 x3 x4 x5 x6 x7 x8 : ZV) (a : Int) (L st : List ZV) (h : PH), zev kX1_meets 85 (x0 :: x1 :: x2 :: x3 :: x4 :: x5 :: x6 :: x7 :: x8 :: zvi a :: L) st h = zev kX1_meets 87 (x0 :: x1 :: x2 :: x3 :: x4 :: x5 :: x6 :: x7 :: x8 :: zvi a :: L) (zvi a :: st) h) ∧
  (∀ (L st : List ZV) (h : PH), zev kX1_meets 87 L st h = zev kX1_meets 89 L (zvi (-2) :: st) h) ∧
  (∀ (a b : Int) (L st : List ZV) (h : PH), zev kX1_meets 89 L (zvi b :: zvi a :: st) h = if a = b then zev kX1_meets 120 L st h else zev kX1_meets 92 L st h) ∧
  (∀ (x0 x1 x2 x3 x4 x5 x6 x7 : ZV) (a : Int) (L st : List ZV) (h : PH), zev kX1_meets 92 (x0 :: x1 :: x2 :: x3 :: x4 :: x5 :: x6 :: x7 :: zvi a :: L) st h = zev kX1_meets 94 (x0 :: x1 :: x2 :: x3 :: x4 :: x5 :: x6 :: x7 :: zvi a :: L) (zvi a :: st) h) ∧
  (∀ (x0 x1 x2 x3 x4 x5 x6 x7 x8 : ZV) (a : Int) (L st : List ZV) (h : PH), zev kX1_meets 94 (x0 :: x1 :: x2 :: x3 :: x4 :: x5 :: x6 :: x7 :: x8 :: zvi a :: L) st h = zev kX1_meets 96 (x0 :: x1 :: x2 :: x3 :: x4 :: x5 :: x6 :: x7 :: x8 :: zvi a :: L) (zvi a :: st) h) ∧
  (∀ (a b : Int) (L st : List ZV) (h : PH), zev kX1_meets 96 L (zvi b :: zvi a :: st) h = if zcat st ≤ 8 then zev kX1_meets 99 L (zvi (zmax a b) :: st) h else none) ∧
  (∀ (x0 x1 x2 x3 x4 x5 : ZV) (a : Int) (L st : List ZV) (h : PH), zev kX1_meets 99 (x0 :: x1 :: x2 :: x3 :: x4 :: x5 :: zvi a :: L) st h = zev kX1_meets 101 (x0 :: x1 :: x2 :: x3 :: x4 :: x5 :: zvi a :: L) (zvi a :: st) h) ∧
  (∀ (a b : Int) (L st : List ZV) (h : PH), zev kX1_meets 101 L (zvi b :: zvi a :: st) h = if a < b then zev kX1_meets 107 L st h else zev kX1_meets 104 L st h) ∧
  (∀ (L st : List ZV) (h : PH), zev kX1_meets 104 L st h = zev kX1_meets 120 L st h) ∧
  (∀ (x0 x1 x2 x3 x4 x5 x6 x7 : ZV) (a : Int) (L st : List ZV) (h : PH), zev kX1_meets 107 (x0 :: x1 :: x2 :: x3 :: x4 :: x5 :: x6 :: x7 :: zvi a :: L) st h = zev kX1_meets 109 (x0 :: x1 :: x2 :: x3 :: x4 :: x5 :: x6 :: x7 :: zvi a :: L) (zvi a :: st) h) ∧
  (∀ (x0 x1 x2 x3 x4 x5 x6 x7 x8 : ZV) (a : Int) (L st : List ZV) (h : PH), zev kX1_meets 109 (x0 :: x1 :: x2 :: x3 :: x4 :: x5 :: x6 :: x7 :: x8 :: zvi a :: L) st h = zev kX1_meets 111 (x0 :: x1 :: x2 :: x3 :: x4 :: x5 :: x6 :: x7 :: x8 :: zvi a :: L) (zvi a :: st) h) ∧
  (∀ (a b : Int) (L st : List ZV) (h : PH), zev kX1_meets 111 L (zvi b :: zvi a :: st) h = if zcat st ≤ 8 then zev kX1_meets 114 L (zvi (zmax a b) :: st) h else none) ∧
  (∀ (x0 x1 x2 x3 x4 x5 x6 : ZV) (a : Int) (L st : List ZV) (h : PH) (hx : zisL x5 = false) , zev kX1_meets 114 (x0 :: x1 :: x2 :: x3 :: x4 :: x5 :: x6 :: L) (zvi a :: st) h = zev kX1_meets 116 (x0 :: x1 :: x2 :: x3 :: x4 :: x5 :: zvi a :: L) st h) ∧
  (∀ (x0 x1 x2 x3 x4 x5 x6 : ZV) (a : Int) (L st : List ZV) (h : PH), zev kX1_meets 116 (x0 :: x1 :: x2 :: x3 :: x4 :: x5 :: x6 :: zvi a :: L) st h = zev kX1_meets 118 (x0 :: x1 :: x2 :: x3 :: x4 :: x5 :: x6 :: zvi a :: L) (zvi a :: st) h) ∧
  (∀ (x0 x1 x2 x3 x4 x5 : ZV) (a : Int) (L st : List ZV) (h : PH) (hx : zisL x4 = false) , zev kX1_meets 118 (x0 :: x1 :: x2 :: x3 :: x4 :: x5 :: L) (zvi a :: st) h = zev kX1_meets 120 (x0 :: x1 :: x2 :: x3 :: x4 :: zvi a :: L) st h) ∧
  (∀ (x0 x1 x2 x3 x4 x5 x6 : ZV) (a : Int) (L st : List ZV) (h : PH) (hx : zisL x6 = false) , zev kX1_meets 120 (x0 :: x1 :: x2 :: x3 :: x4 :: x5 :: x6 :: zvi a :: L) st h = zev kX1_meets 123 (x0 :: x1 :: x2 :: x3 :: x4 :: x5 :: x6 :: zvi (w32 (a + 1)) :: L) st h) ∧
  (∀ (L st : List ZV) (h : PH), zev kX1_meets 123 L st h = zev kX1_meets 37 L st h) ∧
  (∀ (a : Option Nat) (L st : List ZV) (h : PH), zev kX1_meets 126 (zvr a :: L) st h = zev kX1_meets 127 (zvr a :: L) (zvr a :: st) h) ∧
  (∀ (x0 x1 x2 x3 x4 : ZV) (a : Int) (L st : List ZV) (h : PH), zev kX1_meets 127 (x0 :: x1 :: x2 :: x3 :: x4 :: zvi a :: L) st h = zev kX1_meets 129 (x0 :: x1 :: x2 :: x3 :: x4 :: zvi a :: L) (zvi a :: st) h) ∧
  (∀ (v0 : ZV) (q : Nat) (L st : List ZV) (h : PH), zev kX1_meets 129 L (v0 :: zvr (some q) :: st) h = if (ph_K h q).1 % 1000 = 16 ∧ zcat st ≤ 8 then zk kX1_meets 129 132 L st (mX1_fine [zvr (some q), v0] h) else none) ∧
  (∀ (a : Int) (L : List ZV) (h : PH), zev kX1_meets 132 L [zvi a] h = zrv (zvi a) h) :=
  ⟨fun a L st h => e_ld0R (n := 1) rfl,
  fun x0 a L st h => e_ld1I (n := 2) rfl,
  fun x0 x1 a L st h => e_ld2I (n := 3) rfl,
  fun x0 x1 x2 a L st h => e_ld3I (n := 4) rfl,
  fun v0 v1 v2 q L st h => e_callV4 (F := mX1_refuses) (kd := 16) (n := 7) rfl,
  fun x0 x1 x2 x3 x4 a L st h hx => e_st4I (n := 9) rfl hx,
  fun x0 x1 x2 x3 a L st h => e_ld4I (n := 11) rfl,
  fun a L st h => e_ifle (t := 21) (n := 14) rfl,
  fun a L st h => e_ld0R (n := 15) rfl,
  fun x0 x1 x2 x3 a L st h => e_ld4I (n := 17) rfl,
  fun v0 q L st h => e_callV2 (F := mX1_refused) (kd := 16) (n := 20) rfl,
  fun a L h => e_retI rfl,
  fun L st h => e_push (v := zvi (-2)) (n := 23) rfl,
  fun x0 x1 x2 x3 x4 x5 a L st h hx => e_st5I (n := 25) rfl hx,
  fun L st h => e_push (v := zvi 99999) (n := 27) rfl,
  fun x0 x1 x2 x3 x4 x5 x6 a L st h hx => e_st6I (n := 29) rfl hx,
  fun a L st h => e_ld0R (n := 30) rfl,
  fun q L st h => e_callV1 (F := mX1_asIs) (kd := 16) (n := 33) rfl,
  fun a L st h => e_popI (n := 34) rfl,
  fun a L st h => e_popR (n := 34) rfl,
  fun L st h => e_push (v := zvi 0) (n := 35) rfl,
  fun x0 x1 x2 x3 x4 x5 x6 x7 a L st h hx => e_st7I (n := 37) rfl hx,
  fun a L st h => e_ld0R (n := 40) rfl,
  fun q L st h => e_getR (kd := 16) (k := 5) (n := 43) rfl,
  fun q L st h => e_getR (kd := 20) (k := 2) (n := 46) rfl,
  fun q L st h => e_callV1 (F := mJ7_size) (kd := 29) (n := 49) rfl,
  fun a b L st h => e_cmpge (t := 126) (n := 52) rfl,
  fun a L st h => e_ld0R (n := 53) rfl,
  fun q L st h => e_getR (kd := 16) (k := 8) (n := 56) rfl,
  fun x0 a L st h => e_ld1I (n := 57) rfl,
  fun x0 x1 x2 x3 x4 x5 x6 a L st h => e_ld7I (n := 59) rfl,
  fun x0 x1 x2 a L st h => e_ld3I (n := 60) rfl,
  fun v0 v1 v2 q L st h => e_callV4 (F := mX3_arrives) (kd := 17) (n := 63) rfl,
  fun x0 x1 x2 x3 x4 x5 x6 x7 x8 a L st h hx => e_st8I (n := 65) rfl hx,
  fun a L st h => e_ld0R (n := 66) rfl,
  fun q L st h => e_getR (kd := 16) (k := 8) (n := 69) rfl,
  fun x0 x1 a L st h => e_ld2I (n := 70) rfl,
  fun x0 x1 x2 x3 x4 x5 x6 a L st h => e_ld7I (n := 72) rfl,
  fun x0 x1 x2 a L st h => e_ld3I (n := 73) rfl,
  fun v0 v1 v2 q L st h => e_callV4 (F := mX3_arrives) (kd := 17) (n := 76) rfl,
  fun x0 x1 x2 x3 x4 x5 x6 x7 x8 x9 a L st h hx => e_st9I (n := 78) rfl hx,
  fun x0 x1 x2 x3 x4 x5 x6 x7 a L st h => e_ld8I (n := 80) rfl,
  fun L st h => e_push (v := zvi (-2)) (n := 82) rfl,
  fun a b L st h => e_cmpeq (t := 120) (n := 85) rfl,
  fun x0 x1 x2 x3 x4 x5 x6 x7 x8 a L st h => e_ld9I (n := 87) rfl,
  fun L st h => e_push (v := zvi (-2)) (n := 89) rfl,
  fun a b L st h => e_cmpeq (t := 120) (n := 92) rfl,
  fun x0 x1 x2 x3 x4 x5 x6 x7 a L st h => e_ld8I (n := 94) rfl,
  fun x0 x1 x2 x3 x4 x5 x6 x7 x8 a L st h => e_ld9I (n := 96) rfl,
  fun a b L st h => e_mm (f := zmax) (n := 99) rfl,
  fun x0 x1 x2 x3 x4 x5 a L st h => e_ld6I (n := 101) rfl,
  fun a b L st h => e_cmplt (t := 107) (n := 104) rfl,
  fun L st h => e_goto (t := 120) rfl,
  fun x0 x1 x2 x3 x4 x5 x6 x7 a L st h => e_ld8I (n := 109) rfl,
  fun x0 x1 x2 x3 x4 x5 x6 x7 x8 a L st h => e_ld9I (n := 111) rfl,
  fun a b L st h => e_mm (f := zmax) (n := 114) rfl,
  fun x0 x1 x2 x3 x4 x5 x6 a L st h hx => e_st6I (n := 116) rfl hx,
  fun x0 x1 x2 x3 x4 x5 x6 a L st h => e_ld7I (n := 118) rfl,
  fun x0 x1 x2 x3 x4 x5 a L st h hx => e_st5I (n := 120) rfl hx,
  fun x0 x1 x2 x3 x4 x5 x6 a L st h hx => e_iinc7 (d := 1) (n := 123) rfl hx,
  fun L st h => e_goto (t := 37) rfl,
  fun a L st h => e_ld0R (n := 127) rfl,
  fun x0 x1 x2 x3 x4 a L st h => e_ld5I (n := 129) rfl,
  fun v0 q L st h => e_callV2 (F := mX1_fine) (kd := 16) (n := 132) rfl,
  fun a L h => e_retI rfl⟩
theorem allX1_meets : zall yX1_meets cX1_meets 10 (some .int) 8 kX1_meets.1 :=
  ⟨k_aload_n dX1_meets_0,
  k_iload_n dX1_meets_1,
  k_iload_n dX1_meets_2,
  k_iload_n dX1_meets_3,
  k_callV (y2 := yX1_refuses) (C := RX1) (T0 := TX1) (ci := 0) dX1_meets_4 sndX1_refuses rfl q1334 q1336 qs36 q128 q1337 (by decide +kernel) ⟨by decide, by decide⟩ (by decide) (by decide),
  k_istore dX1_meets_7,
  k_iload dX1_meets_9,
  k_ifle (t := 21) dX1_meets_11 (by decide),
  k_aload_n dX1_meets_14,
  k_iload dX1_meets_15,
  k_callV (y2 := yX1_refused) (C := RX1) (T0 := TX1) (ci := 0) dX1_meets_17 sndX1_refused rfl q378 q380 qs1 q128 q381 (by decide +kernel) ⟨by decide, by decide⟩ (by decide) (by decide),
  k_iret dX1_meets_20,
  k_bipush dX1_meets_21,
  k_istore dX1_meets_23,
  k_ldc dX1_meets_25 q1429,
  k_istore dX1_meets_27,
  k_aload_n dX1_meets_29,
  k_callV (y2 := yX1_asIs) (C := RX1) (T0 := TX1) (ci := 0) dX1_meets_30 sndX1_asIs rfl q1338 q1340 qs37 q128 q1341 (by decide +kernel) ⟨by decide, by decide⟩ (by decide) (by decide),
  k_pop dX1_meets_33,
  k_iconst dX1_meets_34,
  k_istore dX1_meets_35,
  k_iload dX1_meets_37,
  k_aload_n dX1_meets_39,
  k_getR (C := RX1) (T := TX1) (N := 19) (ci := 0) (k := 5) (ref := "LinkTimes") dX1_meets_40 rfl in_X1 (by decide) q308 (Or.inl rfl) (fun _ _ _ => rfl),
  k_getRN (C := RX6) (T := TX6) (N := 5) (ci := 4) (k := 2) (ref := "LinkTimes$Desk") dX1_meets_43 rfl in_X6 (by decide) q423 (Or.inl rfl) (fun _ _ _ => rfl),
  k_callV (y2 := yJ7_size) (C := RJ7) (T0 := TJ7) (ci := 13) dX1_meets_46 sndJ7_size rfl q936 q652 q653 q141 q654 (by decide +kernel) ⟨by decide, by decide⟩ (by decide) (by decide),
  k_cmpge (t := 126) dX1_meets_49 (by decide),
  k_aload_n dX1_meets_52,
  k_getR (C := RX1) (T := TX1) (N := 19) (ci := 0) (k := 8) (ref := "LinkTimes") dX1_meets_53 rfl in_X1 (by decide) q311 (Or.inl rfl) (fun _ _ _ => rfl),
  k_iload_n dX1_meets_56,
  k_iload dX1_meets_57,
  k_iload_n dX1_meets_59,
  k_callV (y2 := yX3_arrives) (C := RX3) (T0 := TX3) (ci := 1) dX1_meets_60 sndX3_arrives rfl q1353 q1354 q1355 q136 q1356 (by decide +kernel) ⟨by decide, by decide⟩ (by decide) (by decide),
  k_istore dX1_meets_63,
  k_aload_n dX1_meets_65,
  k_getR (C := RX1) (T := TX1) (N := 19) (ci := 0) (k := 8) (ref := "LinkTimes") dX1_meets_66 rfl in_X1 (by decide) q311 (Or.inl rfl) (fun _ _ _ => rfl),
  k_iload_n dX1_meets_69,
  k_iload dX1_meets_70,
  k_iload_n dX1_meets_72,
  k_callV (y2 := yX3_arrives) (C := RX3) (T0 := TX3) (ci := 1) dX1_meets_73 sndX3_arrives rfl q1353 q1354 q1355 q136 q1356 (by decide +kernel) ⟨by decide, by decide⟩ (by decide) (by decide),
  k_istore dX1_meets_76,
  k_iload dX1_meets_78,
  k_bipush dX1_meets_80,
  k_cmpeq (t := 120) dX1_meets_82 (by decide),
  k_iload dX1_meets_85,
  k_bipush dX1_meets_87,
  k_cmpeq (t := 120) dX1_meets_89 (by decide),
  k_iload dX1_meets_92,
  k_iload dX1_meets_94,
  k_mmax dX1_meets_96 q1465 q759 q154 q760 (by decide),
  k_iload dX1_meets_99,
  k_cmplt (t := 107) dX1_meets_101 (by decide),
  k_goto (t := 120) dX1_meets_104 (by decide),
  k_iload dX1_meets_107,
  k_iload dX1_meets_109,
  k_mmax dX1_meets_111 q1465 q759 q154 q760 (by decide),
  k_istore dX1_meets_114,
  k_iload dX1_meets_116,
  k_istore dX1_meets_118,
  k_iinc dX1_meets_120,
  k_goto (t := 37) dX1_meets_123 (by decide),
  k_aload_n dX1_meets_126,
  k_iload dX1_meets_127,
  k_callV (y2 := yX1_fine) (C := RX1) (T0 := TX1) (ci := 0) dX1_meets_129 sndX1_fine rfl q1211 q1213 qs32 q128 q1214 (by decide +kernel) ⟨by decide, by decide⟩ (by decide) (by decide),
  k_iret dX1_meets_132, trivial⟩
theorem sndX1_meets : MSound 8 yX1_meets (ws_ yX1_meets cX1_meets 10 (some .int)) mX1_meets := msound_M (by decide) allX1_meets (fun _ _ => rfl)
/-! LinkTimes.round(IIII)I -/
noncomputable def kX1_round : ZM := ([(0, zi_ld 1 0 1), (1, zi_ld 0 1 2), (2, zi_ld 0 2 3), (3, zi_ld 0 3 4), (4, zi_callV mX1_refuses 16 4 7), (7, zi_st 0 5 9), (9, zi_ld 0 5 11), (11, zi_if (fun a => zc_ne a 0) 29 14), (14, zi_ld 0 4 16), (16, zi_push (zvi 0) 17), (17, zi_push (zvi 999) 20), (20, zi_callS mX1_isIn 3 23), (23, zi_if (fun a => zc_ne a 0) 29 26), (26, zi_push (zvi 2) 27), (27, zi_st 0 5 29), (29, zi_ld 0 5 31), (31, zi_if (fun a => zc_le a 0) 41 34), (34, zi_ld 1 0 35), (35, zi_ld 0 5 37), (37, zi_callV mX1_refused 16 2 40), (40, zi_retv 0), (41, zi_ld 1 0 42), (42, zi_callV mX1_asIs 16 1 45), (45, zi_ld 0 1 46), (46, zi_ld 0 2 47), (47, zi_ld 0 3 48), (48, zi_callV mX3_arrives 17 4 51), (51, zi_st 0 6 53), (53, zi_ld 1 0 54), (54, zi_ld 0 6 56), (56, zi_push (zvi (-2)) 58), (58, zi_cmp zc_ne 66 61), (61, zi_push (zvi (-2)) 63), (63, zi_goto 80), (66, zi_ld 1 0 67), (67, zi_getR 16 8 70), (70, zi_ld 0 2 71), (71, zi_ld 0 1 72), (72, zi_ld 0 6 74), (74, zi_ld 0 4 76), (76, zi_bin (fun a b => w32 (a + b)) 77), (77, zi_callV mX3_arrives 17 4 80), (80, zi_callV mX1_fine 16 2 83), (83, zi_retv 0)], fun _ _ => none)
noncomputable def mX1_round : ZF := zrunM kX1_round 7
theorem enX1_round (x0 : Option Nat) (x1 : Int) (x2 : Int) (x3 : Int) (x4 : Int) (h : PH) : mX1_round [zvr x0, zvi x1, zvi x2, zvi x3, zvi x4] h = zev kX1_round 0 [zvr x0, zvi x1, zvi x2, zvi x3, zvi x4, zvu, zvu] [] h := zrunM_eq rfl rfl
theorem rX1_round : (∀ (a : Option Nat) (L st : List ZV) (h : PH), zev kX1_round 0 (zvr a :: L) st h = zev kX1_round 1 (zvr a :: L) (zvr a :: st) h) ∧
  (∀ (x0 : ZV) (a : Int) (L st : List ZV) (h : PH), zev kX1_round 1 (x0 :: zvi a :: L) st h = zev kX1_round 2 (x0 :: zvi a :: L) (zvi a :: st) h) ∧
  (∀ (x0 x1 : ZV) (a : Int) (L st : List ZV) (h : PH), zev kX1_round 2 (x0 :: x1 :: zvi a :: L) st h = zev kX1_round 3 (x0 :: x1 :: zvi a :: L) (zvi a :: st) h) ∧
  (∀ (x0 x1 x2 : ZV) (a : Int) (L st : List ZV) (h : PH), zev kX1_round 3 (x0 :: x1 :: x2 :: zvi a :: L) st h = zev kX1_round 4 (x0 :: x1 :: x2 :: zvi a :: L) (zvi a :: st) h) ∧
  (∀ (v0 v1 v2 : ZV) (q : Nat) (L st : List ZV) (h : PH), zev kX1_round 4 L (v2 :: v1 :: v0 :: zvr (some q) :: st) h = if (ph_K h q).1 % 1000 = 16 ∧ zcat st ≤ 8 then zk kX1_round 4 7 L st (mX1_refuses [zvr (some q), v0, v1, v2] h) else none) ∧
  (∀ (x0 x1 x2 x3 x4 x5 : ZV) (a : Int) (L st : List ZV) (h : PH) (hx : zisL x4 = false) , zev kX1_round 7 (x0 :: x1 :: x2 :: x3 :: x4 :: x5 :: L) (zvi a :: st) h = zev kX1_round 9 (x0 :: x1 :: x2 :: x3 :: x4 :: zvi a :: L) st h) ∧
  (∀ (x0 x1 x2 x3 x4 : ZV) (a : Int) (L st : List ZV) (h : PH), zev kX1_round 9 (x0 :: x1 :: x2 :: x3 :: x4 :: zvi a :: L) st h = zev kX1_round 11 (x0 :: x1 :: x2 :: x3 :: x4 :: zvi a :: L) (zvi a :: st) h) ∧
  (∀ (a : Int) (L st : List ZV) (h : PH), zev kX1_round 11 L (zvi a :: st) h = if a ≠ 0 then zev kX1_round 29 L st h else zev kX1_round 14 L st h) ∧
  (∀ (x0 x1 x2 x3 : ZV) (a : Int) (L st : List ZV) (h : PH), zev kX1_round 14 (x0 :: x1 :: x2 :: x3 :: zvi a :: L) st h = zev kX1_round 16 (x0 :: x1 :: x2 :: x3 :: zvi a :: L) (zvi a :: st) h) ∧
  (∀ (L st : List ZV) (h : PH), zev kX1_round 16 L st h = zev kX1_round 17 L (zvi 0 :: st) h) ∧
  (∀ (L st : List ZV) (h : PH), zev kX1_round 17 L st h = zev kX1_round 20 L (zvi 999 :: st) h) ∧
  (∀ (v0 v1 v2 : ZV) (L st : List ZV) (h : PH), zev kX1_round 20 L (v2 :: v1 :: v0 :: st) h = if zcat st ≤ 8 then zk kX1_round 20 23 L st (mX1_isIn [v0, v1, v2] h) else none) ∧
  (∀ (a : Int) (L st : List ZV) (h : PH), zev kX1_round 23 L (zvi a :: st) h = if a ≠ 0 then zev kX1_round 29 L st h else zev kX1_round 26 L st h) ∧
  (∀ (L st : List ZV) (h : PH), zev kX1_round 26 L st h = zev kX1_round 27 L (zvi 2 :: st) h) ∧
  (∀ (x0 x1 x2 x3 x4 x5 : ZV) (a : Int) (L st : List ZV) (h : PH) (hx : zisL x4 = false) , zev kX1_round 27 (x0 :: x1 :: x2 :: x3 :: x4 :: x5 :: L) (zvi a :: st) h = zev kX1_round 29 (x0 :: x1 :: x2 :: x3 :: x4 :: zvi a :: L) st h) ∧
  (∀ (x0 x1 x2 x3 x4 : ZV) (a : Int) (L st : List ZV) (h : PH), zev kX1_round 29 (x0 :: x1 :: x2 :: x3 :: x4 :: zvi a :: L) st h = zev kX1_round 31 (x0 :: x1 :: x2 :: x3 :: x4 :: zvi a :: L) (zvi a :: st) h) ∧
  (∀ (a : Int) (L st : List ZV) (h : PH), zev kX1_round 31 L (zvi a :: st) h = if a ≤ 0 then zev kX1_round 41 L st h else zev kX1_round 34 L st h) ∧
  (∀ (a : Option Nat) (L st : List ZV) (h : PH), zev kX1_round 34 (zvr a :: L) st h = zev kX1_round 35 (zvr a :: L) (zvr a :: st) h) ∧
  (∀ (x0 x1 x2 x3 x4 : ZV) (a : Int) (L st : List ZV) (h : PH), zev kX1_round 35 (x0 :: x1 :: x2 :: x3 :: x4 :: zvi a :: L) st h = zev kX1_round 37 (x0 :: x1 :: x2 :: x3 :: x4 :: zvi a :: L) (zvi a :: st) h) ∧
  (∀ (v0 : ZV) (q : Nat) (L st : List ZV) (h : PH), zev kX1_round 37 L (v0 :: zvr (some q) :: st) h = if (ph_K h q).1 % 1000 = 16 ∧ zcat st ≤ 8 then zk kX1_round 37 40 L st (mX1_refused [zvr (some q), v0] h) else none) ∧
  (∀ (a : Int) (L : List ZV) (h : PH), zev kX1_round 40 L [zvi a] h = zrv (zvi a) h) ∧
  (∀ (a : Option Nat) (L st : List ZV) (h : PH), zev kX1_round 41 (zvr a :: L) st h = zev kX1_round 42 (zvr a :: L) (zvr a :: st) h) ∧
  (∀ (q : Nat) (L st : List ZV) (h : PH), zev kX1_round 42 L (zvr (some q) :: st) h = if (ph_K h q).1 % 1000 = 16 ∧ zcat st ≤ 8 then zk kX1_round 42 45 L st (mX1_asIs [zvr (some q)] h) else none) ∧
  (∀ (x0 : ZV) (a : Int) (L st : List ZV) (h : PH), zev kX1_round 45 (x0 :: zvi a :: L) st h = zev kX1_round 46 (x0 :: zvi a :: L) (zvi a :: st) h) ∧
  (∀ (x0 x1 : ZV) (a : Int) (L st : List ZV) (h : PH), zev kX1_round 46 (x0 :: x1 :: zvi a :: L) st h = zev kX1_round 47 (x0 :: x1 :: zvi a :: L) (zvi a :: st) h) ∧
  (∀ (x0 x1 x2 : ZV) (a : Int) (L st : List ZV) (h : PH), zev kX1_round 47 (x0 :: x1 :: x2 :: zvi a :: L) st h = zev kX1_round 48 (x0 :: x1 :: x2 :: zvi a :: L) (zvi a :: st) h) ∧
  (∀ (v0 v1 v2 : ZV) (q : Nat) (L st : List ZV) (h : PH), zev kX1_round 48 L (v2 :: v1 :: v0 :: zvr (some q) :: st) h = if (ph_K h q).1 % 1000 = 17 ∧ zcat st ≤ 8 then zk kX1_round 48 51 L st (mX3_arrives [zvr (some q), v0, v1, v2] h) else none) ∧
  (∀ (x0 x1 x2 x3 x4 x5 x6 : ZV) (a : Int) (L st : List ZV) (h : PH) (hx : zisL x5 = false) , zev kX1_round 51 (x0 :: x1 :: x2 :: x3 :: x4 :: x5 :: x6 :: L) (zvi a :: st) h = zev kX1_round 53 (x0 :: x1 :: x2 :: x3 :: x4 :: x5 :: zvi a :: L) st h) ∧
  (∀ (a : Option Nat) (L st : List ZV) (h : PH), zev kX1_round 53 (zvr a :: L) st h = zev kX1_round 54 (zvr a :: L) (zvr a :: st) h) ∧
  (∀ (x0 x1 x2 x3 x4 x5 : ZV) (a : Int) (L st : List ZV) (h : PH), zev kX1_round 54 (x0 :: x1 :: x2 :: x3 :: x4 :: x5 :: zvi a :: L) st h = zev kX1_round 56 (x0 :: x1 :: x2 :: x3 :: x4 :: x5 :: zvi a :: L) (zvi a :: st) h) ∧
  (∀ (L st : List ZV) (h : PH), zev kX1_round 56 L st h = zev kX1_round 58 L (zvi (-2) :: st) h) ∧
  (∀ (a b : Int) (L st : List ZV) (h : PH), zev kX1_round 58 L (zvi b :: zvi a :: st) h = if a ≠ b then zev kX1_round 66 L st h else zev kX1_round 61 L st h) ∧
  (∀ (L st : List ZV) (h : PH), zev kX1_round 61 L st h = zev kX1_round 63 L (zvi (-2) :: st) h) ∧
  (∀ (L st : List ZV) (h : PH), zev kX1_round 63 L st h = zev kX1_round 80 L st h) ∧
  (∀ (a : Option Nat) (L st : List ZV) (h : PH), zev kX1_round 66 (zvr a :: L) st h = zev kX1_round 67 (zvr a :: L) (zvr a :: st) h) ∧
  (∀ (q : Nat) (L st : List ZV) (h : PH), zev kX1_round 67 L (zvr (some q) :: st) h = if (ph_K h q).1 % 1000 = 16 then zev kX1_round 70 L (zvr (ph_R h q 8) :: st) h else none) ∧
  (∀ (x0 x1 : ZV) (a : Int) (L st : List ZV) (h : PH), zev kX1_round 70 (x0 :: x1 :: zvi a :: L) st h = zev kX1_round 71 (x0 :: x1 :: zvi a :: L) (zvi a :: st) h) ∧
  (∀ (x0 : ZV) (a : Int) (L st : List ZV) (h : PH), zev kX1_round 71 (x0 :: zvi a :: L) st h = zev kX1_round 72 (x0 :: zvi a :: L) (zvi a :: st) h) ∧
  (∀ (x0 x1 x2 x3 x4 x5 : ZV) (a : Int) (L st : List ZV) (h : PH), zev kX1_round 72 (x0 :: x1 :: x2 :: x3 :: x4 :: x5 :: zvi a :: L) st h = zev kX1_round 74 (x0 :: x1 :: x2 :: x3 :: x4 :: x5 :: zvi a :: L) (zvi a :: st) h) ∧
  (∀ (x0 x1 x2 x3 : ZV) (a : Int) (L st : List ZV) (h : PH), zev kX1_round 74 (x0 :: x1 :: x2 :: x3 :: zvi a :: L) st h = zev kX1_round 76 (x0 :: x1 :: x2 :: x3 :: zvi a :: L) (zvi a :: st) h) ∧
  (∀ (a b : Int) (L st : List ZV) (h : PH), zev kX1_round 76 L (zvi b :: zvi a :: st) h = zev kX1_round 77 L (zvi (w32 (a + b)) :: st) h) ∧
  (∀ (v0 v1 v2 : ZV) (q : Nat) (L st : List ZV) (h : PH), zev kX1_round 77 L (v2 :: v1 :: v0 :: zvr (some q) :: st) h = if (ph_K h q).1 % 1000 = 17 ∧ zcat st ≤ 8 then zk kX1_round 77 80 L st (mX3_arrives [zvr (some q), v0, v1, v2] h) else none) ∧
  (∀ (v0 : ZV) (q : Nat) (L st : List ZV) (h : PH), zev kX1_round 80 L (v0 :: zvr (some q) :: st) h = if (ph_K h q).1 % 1000 = 16 ∧ zcat st ≤ 8 then zk kX1_round 80 83 L st (mX1_fine [zvr (some q), v0] h) else none) ∧
  (∀ (a : Int) (L : List ZV) (h : PH), zev kX1_round 83 L [zvi a] h = zrv (zvi a) h) :=
  ⟨fun a L st h => e_ld0R (n := 1) rfl,
  fun x0 a L st h => e_ld1I (n := 2) rfl,
  fun x0 x1 a L st h => e_ld2I (n := 3) rfl,
  fun x0 x1 x2 a L st h => e_ld3I (n := 4) rfl,
  fun v0 v1 v2 q L st h => e_callV4 (F := mX1_refuses) (kd := 16) (n := 7) rfl,
  fun x0 x1 x2 x3 x4 x5 a L st h hx => e_st5I (n := 9) rfl hx,
  fun x0 x1 x2 x3 x4 a L st h => e_ld5I (n := 11) rfl,
  fun a L st h => e_ifne (t := 29) (n := 14) rfl,
  fun x0 x1 x2 x3 a L st h => e_ld4I (n := 16) rfl,
  fun L st h => e_push (v := zvi 0) (n := 17) rfl,
  fun L st h => e_push (v := zvi 999) (n := 20) rfl,
  fun v0 v1 v2 L st h => e_callS3 (F := mX1_isIn) (n := 23) rfl,
  fun a L st h => e_ifne (t := 29) (n := 26) rfl,
  fun L st h => e_push (v := zvi 2) (n := 27) rfl,
  fun x0 x1 x2 x3 x4 x5 a L st h hx => e_st5I (n := 29) rfl hx,
  fun x0 x1 x2 x3 x4 a L st h => e_ld5I (n := 31) rfl,
  fun a L st h => e_ifle (t := 41) (n := 34) rfl,
  fun a L st h => e_ld0R (n := 35) rfl,
  fun x0 x1 x2 x3 x4 a L st h => e_ld5I (n := 37) rfl,
  fun v0 q L st h => e_callV2 (F := mX1_refused) (kd := 16) (n := 40) rfl,
  fun a L h => e_retI rfl,
  fun a L st h => e_ld0R (n := 42) rfl,
  fun q L st h => e_callV1 (F := mX1_asIs) (kd := 16) (n := 45) rfl,
  fun x0 a L st h => e_ld1I (n := 46) rfl,
  fun x0 x1 a L st h => e_ld2I (n := 47) rfl,
  fun x0 x1 x2 a L st h => e_ld3I (n := 48) rfl,
  fun v0 v1 v2 q L st h => e_callV4 (F := mX3_arrives) (kd := 17) (n := 51) rfl,
  fun x0 x1 x2 x3 x4 x5 x6 a L st h hx => e_st6I (n := 53) rfl hx,
  fun a L st h => e_ld0R (n := 54) rfl,
  fun x0 x1 x2 x3 x4 x5 a L st h => e_ld6I (n := 56) rfl,
  fun L st h => e_push (v := zvi (-2)) (n := 58) rfl,
  fun a b L st h => e_cmpne (t := 66) (n := 61) rfl,
  fun L st h => e_push (v := zvi (-2)) (n := 63) rfl,
  fun L st h => e_goto (t := 80) rfl,
  fun a L st h => e_ld0R (n := 67) rfl,
  fun q L st h => e_getR (kd := 16) (k := 8) (n := 70) rfl,
  fun x0 x1 a L st h => e_ld2I (n := 71) rfl,
  fun x0 a L st h => e_ld1I (n := 72) rfl,
  fun x0 x1 x2 x3 x4 x5 a L st h => e_ld6I (n := 74) rfl,
  fun x0 x1 x2 x3 a L st h => e_ld4I (n := 76) rfl,
  fun a b L st h => e_bin (f := (fun a b => w32 (a + b))) (n := 77) rfl,
  fun v0 v1 v2 q L st h => e_callV4 (F := mX3_arrives) (kd := 17) (n := 80) rfl,
  fun v0 q L st h => e_callV2 (F := mX1_fine) (kd := 16) (n := 83) rfl,
  fun a L h => e_retI rfl⟩
theorem allX1_round : zall yX1_round cX1_round 7 (some .int) 8 kX1_round.1 :=
  ⟨k_aload_n dX1_round_0,
  k_iload_n dX1_round_1,
  k_iload_n dX1_round_2,
  k_iload_n dX1_round_3,
  k_callV (y2 := yX1_refuses) (C := RX1) (T0 := TX1) (ci := 0) dX1_round_4 sndX1_refuses rfl q1334 q1336 qs36 q128 q1337 (by decide +kernel) ⟨by decide, by decide⟩ (by decide) (by decide),
  k_istore dX1_round_7,
  k_iload dX1_round_9,
  k_ifne (t := 29) dX1_round_11 (by decide),
  k_iload dX1_round_14,
  k_iconst dX1_round_16,
  k_sipush dX1_round_17,
  k_callS (y2 := yX1_isIn) dX1_round_20 sndX1_isIn q375 q376 q128 q377 (by decide +kernel) ⟨by decide, by decide⟩ (by decide) (by decide),
  k_ifne (t := 29) dX1_round_23 (by decide),
  k_iconst dX1_round_26,
  k_istore dX1_round_27,
  k_iload dX1_round_29,
  k_ifle (t := 41) dX1_round_31 (by decide),
  k_aload_n dX1_round_34,
  k_iload dX1_round_35,
  k_callV (y2 := yX1_refused) (C := RX1) (T0 := TX1) (ci := 0) dX1_round_37 sndX1_refused rfl q378 q380 qs1 q128 q381 (by decide +kernel) ⟨by decide, by decide⟩ (by decide) (by decide),
  k_iret dX1_round_40,
  k_aload_n dX1_round_41,
  k_callV (y2 := yX1_asIs) (C := RX1) (T0 := TX1) (ci := 0) dX1_round_42 sndX1_asIs rfl q1338 q1340 qs37 q128 q1341 (by decide +kernel) ⟨by decide, by decide⟩ (by decide) (by decide),
  k_iload_n dX1_round_45,
  k_iload_n dX1_round_46,
  k_iload_n dX1_round_47,
  k_callV (y2 := yX3_arrives) (C := RX3) (T0 := TX3) (ci := 1) dX1_round_48 sndX3_arrives rfl q1353 q1354 q1355 q136 q1356 (by decide +kernel) ⟨by decide, by decide⟩ (by decide) (by decide),
  k_istore dX1_round_51,
  k_aload_n dX1_round_53,
  k_iload dX1_round_54,
  k_bipush dX1_round_56,
  k_cmpne (t := 66) dX1_round_58 (by decide),
  k_bipush dX1_round_61,
  k_goto (t := 80) dX1_round_63 (by decide),
  k_aload_n dX1_round_66,
  k_getR (C := RX1) (T := TX1) (N := 19) (ci := 0) (k := 8) (ref := "LinkTimes") dX1_round_67 rfl in_X1 (by decide) q311 (Or.inl rfl) (fun _ _ _ => rfl),
  k_iload_n dX1_round_70,
  k_iload_n dX1_round_71,
  k_iload dX1_round_72,
  k_iload dX1_round_74,
  k_iadd dX1_round_76,
  k_callV (y2 := yX3_arrives) (C := RX3) (T0 := TX3) (ci := 1) dX1_round_77 sndX3_arrives rfl q1353 q1354 q1355 q136 q1356 (by decide +kernel) ⟨by decide, by decide⟩ (by decide) (by decide),
  k_callV (y2 := yX1_fine) (C := RX1) (T0 := TX1) (ci := 0) dX1_round_80 sndX1_fine rfl q1211 q1213 qs32 q128 q1214 (by decide +kernel) ⟨by decide, by decide⟩ (by decide) (by decide),
  k_iret dX1_round_83, trivial⟩
theorem sndX1_round : MSound 8 yX1_round (ws_ yX1_round cX1_round 7 (some .int)) mX1_round := msound_M (by decide) allX1_round (fun _ _ => rfl)
/-! LinkTimes.areTwo(II)Z -/
noncomputable def kX1_areTwo : ZM := ([(0, zi_ld 1 0 1), (1, zi_ld 0 1 2), (2, zi_callV mX1_isSpot 16 2 5), (5, zi_if (fun a => zc_eq a 0) 25 8), (8, zi_ld 1 0 9), (9, zi_ld 0 2 10), (10, zi_callV mX1_isSpot 16 2 13), (13, zi_if (fun a => zc_eq a 0) 25 16), (16, zi_ld 0 1 17), (17, zi_ld 0 2 18), (18, zi_cmp zc_eq 25 21), (21, zi_push (zvi 1) 22), (22, zi_goto 26), (25, zi_push (zvi 0) 26), (26, zi_retz)], fun _ _ => none)
noncomputable def mX1_areTwo : ZF := zrunM kX1_areTwo 3
theorem enX1_areTwo (x0 : Option Nat) (x1 : Int) (x2 : Int) (h : PH) : mX1_areTwo [zvr x0, zvi x1, zvi x2] h = zev kX1_areTwo 0 [zvr x0, zvi x1, zvi x2] [] h := zrunM_eq rfl rfl
theorem rX1_areTwo : (∀ (a : Option Nat) (L st : List ZV) (h : PH), zev kX1_areTwo 0 (zvr a :: L) st h = zev kX1_areTwo 1 (zvr a :: L) (zvr a :: st) h) ∧
  (∀ (x0 : ZV) (a : Int) (L st : List ZV) (h : PH), zev kX1_areTwo 1 (x0 :: zvi a :: L) st h = zev kX1_areTwo 2 (x0 :: zvi a :: L) (zvi a :: st) h) ∧
  (∀ (v0 : ZV) (q : Nat) (L st : List ZV) (h : PH), zev kX1_areTwo 2 L (v0 :: zvr (some q) :: st) h = if (ph_K h q).1 % 1000 = 16 ∧ zcat st ≤ 8 then zk kX1_areTwo 2 5 L st (mX1_isSpot [zvr (some q), v0] h) else none) ∧
  (∀ (a : Int) (L st : List ZV) (h : PH), zev kX1_areTwo 5 L (zvi a :: st) h = if a = 0 then zev kX1_areTwo 25 L st h else zev kX1_areTwo 8 L st h) ∧
  (∀ (a : Option Nat) (L st : List ZV) (h : PH), zev kX1_areTwo 8 (zvr a :: L) st h = zev kX1_areTwo 9 (zvr a :: L) (zvr a :: st) h) ∧
  (∀ (x0 x1 : ZV) (a : Int) (L st : List ZV) (h : PH), zev kX1_areTwo 9 (x0 :: x1 :: zvi a :: L) st h = zev kX1_areTwo 10 (x0 :: x1 :: zvi a :: L) (zvi a :: st) h) ∧
  (∀ (v0 : ZV) (q : Nat) (L st : List ZV) (h : PH), zev kX1_areTwo 10 L (v0 :: zvr (some q) :: st) h = if (ph_K h q).1 % 1000 = 16 ∧ zcat st ≤ 8 then zk kX1_areTwo 10 13 L st (mX1_isSpot [zvr (some q), v0] h) else none) ∧
  (∀ (a : Int) (L st : List ZV) (h : PH), zev kX1_areTwo 13 L (zvi a :: st) h = if a = 0 then zev kX1_areTwo 25 L st h else zev kX1_areTwo 16 L st h) ∧
  (∀ (x0 : ZV) (a : Int) (L st : List ZV) (h : PH), zev kX1_areTwo 16 (x0 :: zvi a :: L) st h = zev kX1_areTwo 17 (x0 :: zvi a :: L) (zvi a :: st) h) ∧
  (∀ (x0 x1 : ZV) (a : Int) (L st : List ZV) (h : PH), zev kX1_areTwo 17 (x0 :: x1 :: zvi a :: L) st h = zev kX1_areTwo 18 (x0 :: x1 :: zvi a :: L) (zvi a :: st) h) ∧
  (∀ (a b : Int) (L st : List ZV) (h : PH), zev kX1_areTwo 18 L (zvi b :: zvi a :: st) h = if a = b then zev kX1_areTwo 25 L st h else zev kX1_areTwo 21 L st h) ∧
  (∀ (L st : List ZV) (h : PH), zev kX1_areTwo 21 L st h = zev kX1_areTwo 22 L (zvi 1 :: st) h) ∧
  (∀ (L st : List ZV) (h : PH), zev kX1_areTwo 22 L st h = zev kX1_areTwo 26 L st h) ∧
  (∀ (L st : List ZV) (h : PH), zev kX1_areTwo 25 L st h = zev kX1_areTwo 26 L (zvi 0 :: st) h) ∧
  (∀ (a : Int) (L : List ZV) (h : PH), zev kX1_areTwo 26 L [zvi a] h = if a = 0 ∨ a = 1 then zrv (zvi a) h else none) :=
  ⟨fun a L st h => e_ld0R (n := 1) rfl,
  fun x0 a L st h => e_ld1I (n := 2) rfl,
  fun v0 q L st h => e_callV2 (F := mX1_isSpot) (kd := 16) (n := 5) rfl,
  fun a L st h => e_ifeq (t := 25) (n := 8) rfl,
  fun a L st h => e_ld0R (n := 9) rfl,
  fun x0 x1 a L st h => e_ld2I (n := 10) rfl,
  fun v0 q L st h => e_callV2 (F := mX1_isSpot) (kd := 16) (n := 13) rfl,
  fun a L st h => e_ifeq (t := 25) (n := 16) rfl,
  fun x0 a L st h => e_ld1I (n := 17) rfl,
  fun x0 x1 a L st h => e_ld2I (n := 18) rfl,
  fun a b L st h => e_cmpeq (t := 25) (n := 21) rfl,
  fun L st h => e_push (v := zvi 1) (n := 22) rfl,
  fun L st h => e_goto (t := 26) rfl,
  fun L st h => e_push (v := zvi 0) (n := 26) rfl,
  fun a L h => e_retz rfl⟩
theorem allX1_areTwo : zall yX1_areTwo cX1_areTwo 3 (some .boolean) 3 kX1_areTwo.1 :=
  ⟨k_aload_n dX1_areTwo_0,
  k_iload_n dX1_areTwo_1,
  k_callV (y2 := yX1_isSpot) (C := RX1) (T0 := TX1) (ci := 0) dX1_areTwo_2 sndX1_isSpot rfl q1242 q1244 qs33 q128 q1245 (by decide +kernel) ⟨by decide, by decide⟩ (by decide) (by decide),
  k_ifeq (t := 25) dX1_areTwo_5 (by decide),
  k_aload_n dX1_areTwo_8,
  k_iload_n dX1_areTwo_9,
  k_callV (y2 := yX1_isSpot) (C := RX1) (T0 := TX1) (ci := 0) dX1_areTwo_10 sndX1_isSpot rfl q1242 q1244 qs33 q128 q1245 (by decide +kernel) ⟨by decide, by decide⟩ (by decide) (by decide),
  k_ifeq (t := 25) dX1_areTwo_13 (by decide),
  k_iload_n dX1_areTwo_16,
  k_iload_n dX1_areTwo_17,
  k_cmpeq (t := 25) dX1_areTwo_18 (by decide),
  k_iconst dX1_areTwo_21,
  k_goto (t := 26) dX1_areTwo_22 (by decide),
  k_iconst dX1_areTwo_25,
  k_zret dX1_areTwo_26, trivial⟩
theorem sndX1_areTwo : MSound 3 yX1_areTwo (ws_ yX1_areTwo cX1_areTwo 3 (some .boolean)) mX1_areTwo := msound_M (by decide) allX1_areTwo (fun _ _ => rfl)
/-! LinkTimes.laysSteps(II)V -/
noncomputable def kX1_laysSteps : ZM := ([(0, zi_ld 1 0 1), (1, zi_callV mX1_asIs 16 1 4), (4, zi_ld 0 2 5), (5, zi_callV mX3_laysFirst 17 2 8), (8, zi_ld 1 0 9), (9, zi_push (zvi 0) 10), (10, zi_putI 16 13 13), (13, zi_push (zvi 99999) 15), (15, zi_st 0 3 16), (16, zi_ld 1 0 17), (17, zi_getR 16 8 20), (20, zi_getI 17 6 23), (23, zi_push (zvi 1) 24), (24, zi_bin (fun a b => w32 (a - b)) 25), (25, zi_st 0 4 27), (27, zi_ld 0 4 29), (29, zi_if (fun a => zc_lt a 0) 163 32), (32, zi_ld 1 0 33), (33, zi_getR 16 8 36), (36, zi_getR 17 0 39), (39, zi_ld 0 4 41), (41, zi_aldR 42), (42, zi_getI 22 3 45), (45, zi_ld 0 1 46), (46, zi_cmp zc_ne 157 49), (49, zi_ld 1 0 50), (50, zi_getR 16 8 53), (53, zi_getR 17 3 56), (56, zi_ld 0 4 58), (58, zi_ald 1 59), (59, zi_ld 0 3 60), (60, zi_cmp zc_lt 66 63), (63, zi_goto 157), (66, zi_ld 1 0 67), (67, zi_getR 16 8 70), (70, zi_getR 17 3 73), (73, zi_ld 0 4 75), (75, zi_ald 1 76), (76, zi_st 0 3 77), (77, zi_ld 1 0 78), (78, zi_getI 16 13 81), (81, zi_if (fun a => zc_le a 0) 118 84), (84, zi_ld 1 0 85), (85, zi_getR 16 11 88), (88, zi_ld 1 0 89), (89, zi_getI 16 13 92), (92, zi_push (zvi 1) 93), (93, zi_bin (fun a b => w32 (a - b)) 94), (94, zi_ald 1 95), (95, zi_ld 1 0 96), (96, zi_getR 16 8 99), (99, zi_getR 17 1 102), (102, zi_ld 0 4 104), (104, zi_ald 1 105), (105, zi_cmp zc_ne 118 108), (108, zi_ld 1 0 109), (109, zi_dup 110), (110, zi_getI 16 13 113), (113, zi_push (zvi 1) 114), (114, zi_bin (fun a b => w32 (a - b)) 115), (115, zi_putI 16 13 118), (118, zi_ld 1 0 119), (119, zi_getR 16 11 122), (122, zi_ld 1 0 123), (123, zi_getI 16 13 126), (126, zi_ld 1 0 127), (127, zi_getR 16 8 130), (130, zi_getR 17 1 133), (133, zi_ld 0 4 135), (135, zi_ald 1 136), (136, zi_ast 137), (137, zi_ld 1 0 138), (138, zi_getR 16 12 141), (141, zi_ld 1 0 142), (142, zi_getI 16 13 145), (145, zi_ld 0 3 146), (146, zi_ast 147), (147, zi_ld 1 0 148), (148, zi_dup 149), (149, zi_getI 16 13 152), (152, zi_push (zvi 1) 153), (153, zi_bin (fun a b => w32 (a + b)) 154), (154, zi_putI 16 13 157), (157, zi_iinc 4 (-1) 160), (160, zi_goto 27), (163, zi_ret)], fun _ _ => none)
noncomputable def mX1_laysSteps : ZF := zrunM kX1_laysSteps 5
theorem enX1_laysSteps (x0 : Option Nat) (x1 : Int) (x2 : Int) (h : PH) : mX1_laysSteps [zvr x0, zvi x1, zvi x2] h = zev kX1_laysSteps 0 [zvr x0, zvi x1, zvi x2, zvu, zvu] [] h := zrunM_eq rfl rfl
theorem hdX1_laysSteps_27 (x0 x1 x2 x3 : ZV) (a : Int) (L st : List ZV) (h : PH) : zev kX1_laysSteps 27 (x0 :: x1 :: x2 :: x3 :: zvi a :: L) st h = zev kX1_laysSteps 29 (x0 :: x1 :: x2 :: x3 :: zvi a :: L) (zvi a :: st) h := e_ld4I (n := 29) rfl
theorem rX1_laysSteps : (∀ (a : Option Nat) (L st : List ZV) (h : PH), zev kX1_laysSteps 0 (zvr a :: L) st h = zev kX1_laysSteps 1 (zvr a :: L) (zvr a :: st) h) ∧
  (∀ (q : Nat) (L st : List ZV) (h : PH), zev kX1_laysSteps 1 L (zvr (some q) :: st) h = if (ph_K h q).1 % 1000 = 16 ∧ zcat st ≤ 8 then zk kX1_laysSteps 1 4 L st (mX1_asIs [zvr (some q)] h) else none) ∧
  (∀ (x0 x1 : ZV) (a : Int) (L st : List ZV) (h : PH), zev kX1_laysSteps 4 (x0 :: x1 :: zvi a :: L) st h = zev kX1_laysSteps 5 (x0 :: x1 :: zvi a :: L) (zvi a :: st) h) ∧
  (∀ (v0 : ZV) (q : Nat) (L st : List ZV) (h : PH), zev kX1_laysSteps 5 L (v0 :: zvr (some q) :: st) h = if (ph_K h q).1 % 1000 = 17 ∧ zcat st ≤ 8 then zk kX1_laysSteps 5 8 L st (mX3_laysFirst [zvr (some q), v0] h) else none) ∧
  (∀ (a : Option Nat) (L st : List ZV) (h : PH), zev kX1_laysSteps 8 (zvr a :: L) st h = zev kX1_laysSteps 9 (zvr a :: L) (zvr a :: st) h) ∧
  (∀ (L st : List ZV) (h : PH), zev kX1_laysSteps 9 L st h = zev kX1_laysSteps 10 L (zvi 0 :: st) h) ∧
  (∀ (a : Int) (q : Nat) (L st : List ZV) (h : PH), zev kX1_laysSteps 10 L (zvi a :: zvr (some q) :: st) h = if (ph_K h q).1 = 16 then zev kX1_laysSteps 13 L st (st_I h q 13 a) else none) ∧
  (∀ (L st : List ZV) (h : PH), zev kX1_laysSteps 13 L st h = zev kX1_laysSteps 15 L (zvi 99999 :: st) h) ∧
  (∀ (x0 x1 x2 x3 : ZV) (a : Int) (L st : List ZV) (h : PH) (hx : zisL x2 = false) , zev kX1_laysSteps 15 (x0 :: x1 :: x2 :: x3 :: L) (zvi a :: st) h = zev kX1_laysSteps 16 (x0 :: x1 :: x2 :: zvi a :: L) st h) ∧
  (∀ (a : Option Nat) (L st : List ZV) (h : PH), zev kX1_laysSteps 16 (zvr a :: L) st h = zev kX1_laysSteps 17 (zvr a :: L) (zvr a :: st) h) ∧
  (∀ (q : Nat) (L st : List ZV) (h : PH), zev kX1_laysSteps 17 L (zvr (some q) :: st) h = if (ph_K h q).1 % 1000 = 16 then zev kX1_laysSteps 20 L (zvr (ph_R h q 8) :: st) h else none) ∧
  (∀ (q : Nat) (L st : List ZV) (h : PH), zev kX1_laysSteps 20 L (zvr (some q) :: st) h = if (ph_K h q).1 % 1000 = 17 then zev kX1_laysSteps 23 L (zvi (ph_I h q 6) :: st) h else none) ∧
  (∀ (L st : List ZV) (h : PH), zev kX1_laysSteps 23 L st h = zev kX1_laysSteps 24 L (zvi 1 :: st) h) ∧
  (∀ (a b : Int) (L st : List ZV) (h : PH), zev kX1_laysSteps 24 L (zvi b :: zvi a :: st) h = zev kX1_laysSteps 25 L (zvi (w32 (a - b)) :: st) h) ∧
  (∀ (x0 x1 x2 x3 x4 : ZV) (a : Int) (L st : List ZV) (h : PH) (hx : zisL x3 = false) , zev kX1_laysSteps 25 (x0 :: x1 :: x2 :: x3 :: x4 :: L) (zvi a :: st) h = zev kX1_laysSteps 27 (x0 :: x1 :: x2 :: x3 :: zvi a :: L) st h) ∧
  (∀ (a : Int) (L st : List ZV) (h : PH), zev kX1_laysSteps 29 L (zvi a :: st) h = if a < 0 then zev kX1_laysSteps 163 L st h else zev kX1_laysSteps 32 L st h) ∧
  (∀ (a : Option Nat) (L st : List ZV) (h : PH), zev kX1_laysSteps 32 (zvr a :: L) st h = zev kX1_laysSteps 33 (zvr a :: L) (zvr a :: st) h) ∧
  (∀ (q : Nat) (L st : List ZV) (h : PH), zev kX1_laysSteps 33 L (zvr (some q) :: st) h = if (ph_K h q).1 % 1000 = 16 then zev kX1_laysSteps 36 L (zvr (ph_R h q 8) :: st) h else none) ∧
  (∀ (q : Nat) (L st : List ZV) (h : PH), zev kX1_laysSteps 36 L (zvr (some q) :: st) h = if (ph_K h q).1 % 1000 = 17 then zev kX1_laysSteps 39 L (zvr (ph_R h q 0) :: st) h else none) ∧
  (∀ (x0 x1 x2 x3 : ZV) (a : Int) (L st : List ZV) (h : PH), zev kX1_laysSteps 39 (x0 :: x1 :: x2 :: x3 :: zvi a :: L) st h = zev kX1_laysSteps 41 (x0 :: x1 :: x2 :: x3 :: zvi a :: L) (zvi a :: st) h) ∧
  (∀ (j : Int) (q : Nat) (L st : List ZV) (h : PH), zev kX1_laysSteps 41 L (zvi j :: zvr (some q) :: st) h = if 5 ≤ (ph_K h q).1 % 1000 ∧ (ph_K h q).1 % 1000 ≤ 7 ∧ 0 ≤ j ∧ j < (ph_K h q).2 then zev kX1_laysSteps 42 L (zvr (ph_R h q j) :: st) h else none) ∧
  (∀ (q : Nat) (L st : List ZV) (h : PH), zev kX1_laysSteps 42 L (zvr (some q) :: st) h = if (ph_K h q).1 % 1000 = 22 then zev kX1_laysSteps 45 L (zvi (ph_I h q 3) :: st) h else none) ∧
  (∀ (x0 : ZV) (a : Int) (L st : List ZV) (h : PH), zev kX1_laysSteps 45 (x0 :: zvi a :: L) st h = zev kX1_laysSteps 46 (x0 :: zvi a :: L) (zvi a :: st) h) ∧
  (∀ (a b : Int) (L st : List ZV) (h : PH), zev kX1_laysSteps 46 L (zvi b :: zvi a :: st) h = if a ≠ b then zev kX1_laysSteps 157 L st h else zev kX1_laysSteps 49 L st h) ∧
  (∀ (a : Option Nat) (L st : List ZV) (h : PH), zev kX1_laysSteps 49 (zvr a :: L) st h = zev kX1_laysSteps 50 (zvr a :: L) (zvr a :: st) h) ∧
  (∀ (q : Nat) (L st : List ZV) (h : PH), zev kX1_laysSteps 50 L (zvr (some q) :: st) h = if (ph_K h q).1 % 1000 = 16 then zev kX1_laysSteps 53 L (zvr (ph_R h q 8) :: st) h else none) ∧
  (∀ (q : Nat) (L st : List ZV) (h : PH), zev kX1_laysSteps 53 L (zvr (some q) :: st) h = if (ph_K h q).1 % 1000 = 17 then zev kX1_laysSteps 56 L (zvr (ph_R h q 3) :: st) h else none) ∧
  (∀ (x0 x1 x2 x3 : ZV) (a : Int) (L st : List ZV) (h : PH), zev kX1_laysSteps 56 (x0 :: x1 :: x2 :: x3 :: zvi a :: L) st h = zev kX1_laysSteps 58 (x0 :: x1 :: x2 :: x3 :: zvi a :: L) (zvi a :: st) h) ∧
  (∀ (j : Int) (q : Nat) (L st : List ZV) (h : PH), zev kX1_laysSteps 58 L (zvi j :: zvr (some q) :: st) h = if (ph_K h q).1 % 1000 = 1 ∧ 0 ≤ j ∧ j < (ph_K h q).2 then zev kX1_laysSteps 59 L (zvi (ph_I h q j) :: st) h else none) ∧
  (∀ (x0 x1 x2 : ZV) (a : Int) (L st : List ZV) (h : PH), zev kX1_laysSteps 59 (x0 :: x1 :: x2 :: zvi a :: L) st h = zev kX1_laysSteps 60 (x0 :: x1 :: x2 :: zvi a :: L) (zvi a :: st) h) ∧
  (∀ (a b : Int) (L st : List ZV) (h : PH), zev kX1_laysSteps 60 L (zvi b :: zvi a :: st) h = if a < b then zev kX1_laysSteps 66 L st h else zev kX1_laysSteps 63 L st h) ∧
  (∀ (L st : List ZV) (h : PH), zev kX1_laysSteps 63 L st h = zev kX1_laysSteps 157 L st h) ∧
  (∀ (a : Option Nat) (L st : List ZV) (h : PH), zev kX1_laysSteps 66 (zvr a :: L) st h = zev kX1_laysSteps 67 (zvr a :: L) (zvr a :: st) h) ∧
  (∀ (q : Nat) (L st : List ZV) (h : PH), zev kX1_laysSteps 67 L (zvr (some q) :: st) h = if (ph_K h q).1 % 1000 = 16 then zev kX1_laysSteps 70 L (zvr (ph_R h q 8) :: st) h else none) ∧
  (∀ (q : Nat) (L st : List ZV) (h : PH), zev kX1_laysSteps 70 L (zvr (some q) :: st) h = if (ph_K h q).1 % 1000 = 17 then zev kX1_laysSteps 73 L (zvr (ph_R h q 3) :: st) h else none) ∧
  (∀ (x0 x1 x2 x3 : ZV) (a : Int) (L st : List ZV) (h : PH), zev kX1_laysSteps 73 (x0 :: x1 :: x2 :: x3 :: zvi a :: L) st h = zev kX1_laysSteps 75 (x0 :: x1 :: x2 :: x3 :: zvi a :: L) (zvi a :: st) h) ∧
  (∀ (j : Int) (q : Nat) (L st : List ZV) (h : PH), zev kX1_laysSteps 75 L (zvi j :: zvr (some q) :: st) h = if (ph_K h q).1 % 1000 = 1 ∧ 0 ≤ j ∧ j < (ph_K h q).2 then zev kX1_laysSteps 76 L (zvi (ph_I h q j) :: st) h else none) ∧
  (∀ (x0 x1 x2 x3 : ZV) (a : Int) (L st : List ZV) (h : PH) (hx : zisL x2 = false) , zev kX1_laysSteps 76 (x0 :: x1 :: x2 :: x3 :: L) (zvi a :: st) h = zev kX1_laysSteps 77 (x0 :: x1 :: x2 :: zvi a :: L) st h) ∧
  (∀ (a : Option Nat) (L st : List ZV) (h : PH), zev kX1_laysSteps 77 (zvr a :: L) st h = zev kX1_laysSteps 78 (zvr a :: L) (zvr a :: st) h) ∧
  (∀ (q : Nat) (L st : List ZV) (h : PH), zev kX1_laysSteps 78 L (zvr (some q) :: st) h = if (ph_K h q).1 % 1000 = 16 then zev kX1_laysSteps 81 L (zvi (ph_I h q 13) :: st) h else none) ∧
  (∀ (a : Int) (L st : List ZV) (h : PH), zev kX1_laysSteps 81 L (zvi a :: st) h = if a ≤ 0 then zev kX1_laysSteps 118 L st h else zev kX1_laysSteps 84 L st h) ∧
  (∀ (a : Option Nat) (L st : List ZV) (h : PH), zev kX1_laysSteps 84 (zvr a :: L) st h = zev kX1_laysSteps 85 (zvr a :: L) (zvr a :: st) h) ∧
  (∀ (q : Nat) (L st : List ZV) (h : PH), zev kX1_laysSteps 85 L (zvr (some q) :: st) h = if (ph_K h q).1 % 1000 = 16 then zev kX1_laysSteps 88 L (zvr (ph_R h q 11) :: st) h else none) ∧
  (∀ (a : Option Nat) (L st : List ZV) (h : PH), zev kX1_laysSteps 88 (zvr a :: L) st h = zev kX1_laysSteps 89 (zvr a :: L) (zvr a :: st) h) ∧
  (∀ (q : Nat) (L st : List ZV) (h : PH), zev kX1_laysSteps 89 L (zvr (some q) :: st) h = if (ph_K h q).1 % 1000 = 16 then zev kX1_laysSteps 92 L (zvi (ph_I h q 13) :: st) h else none) ∧
  (∀ (L st : List ZV) (h : PH), zev kX1_laysSteps 92 L st h = zev kX1_laysSteps 93 L (zvi 1 :: st) h) ∧
  (∀ (a b : Int) (L st : List ZV) (h : PH), zev kX1_laysSteps 93 L (zvi b :: zvi a :: st) h = zev kX1_laysSteps 94 L (zvi (w32 (a - b)) :: st) h) ∧
  (∀ (j : Int) (q : Nat) (L st : List ZV) (h : PH), zev kX1_laysSteps 94 L (zvi j :: zvr (some q) :: st) h = if (ph_K h q).1 % 1000 = 1 ∧ 0 ≤ j ∧ j < (ph_K h q).2 then zev kX1_laysSteps 95 L (zvi (ph_I h q j) :: st) h else none) ∧
  (∀ (a : Option Nat) (L st : List ZV) (h : PH), zev kX1_laysSteps 95 (zvr a :: L) st h = zev kX1_laysSteps 96 (zvr a :: L) (zvr a :: st) h) ∧
  (∀ (q : Nat) (L st : List ZV) (h : PH), zev kX1_laysSteps 96 L (zvr (some q) :: st) h = if (ph_K h q).1 % 1000 = 16 then zev kX1_laysSteps 99 L (zvr (ph_R h q 8) :: st) h else none) ∧
  (∀ (q : Nat) (L st : List ZV) (h : PH), zev kX1_laysSteps 99 L (zvr (some q) :: st) h = if (ph_K h q).1 % 1000 = 17 then zev kX1_laysSteps 102 L (zvr (ph_R h q 1) :: st) h else none) ∧
  (∀ (x0 x1 x2 x3 : ZV) (a : Int) (L st : List ZV) (h : PH), zev kX1_laysSteps 102 (x0 :: x1 :: x2 :: x3 :: zvi a :: L) st h = zev kX1_laysSteps 104 (x0 :: x1 :: x2 :: x3 :: zvi a :: L) (zvi a :: st) h) ∧
  (∀ (j : Int) (q : Nat) (L st : List ZV) (h : PH), zev kX1_laysSteps 104 L (zvi j :: zvr (some q) :: st) h = if (ph_K h q).1 % 1000 = 1 ∧ 0 ≤ j ∧ j < (ph_K h q).2 then zev kX1_laysSteps 105 L (zvi (ph_I h q j) :: st) h else none) ∧
  (∀ (a b : Int) (L st : List ZV) (h : PH), zev kX1_laysSteps 105 L (zvi b :: zvi a :: st) h = if a ≠ b then zev kX1_laysSteps 118 L st h else zev kX1_laysSteps 108 L st h) ∧
  (∀ (a : Option Nat) (L st : List ZV) (h : PH), zev kX1_laysSteps 108 (zvr a :: L) st h = zev kX1_laysSteps 109 (zvr a :: L) (zvr a :: st) h) ∧
  (∀ (a : Int) (L st : List ZV) (h : PH), zev kX1_laysSteps 109 L (zvi a :: st) h = zev kX1_laysSteps 110 L (zvi a :: zvi a :: st) h) ∧
  (∀ (a : Option Nat) (L st : List ZV) (h : PH), zev kX1_laysSteps 109 L (zvr a :: st) h = zev kX1_laysSteps 110 L (zvr a :: zvr a :: st) h) ∧
  (∀ (q : Nat) (L st : List ZV) (h : PH), zev kX1_laysSteps 110 L (zvr (some q) :: st) h = if (ph_K h q).1 % 1000 = 16 then zev kX1_laysSteps 113 L (zvi (ph_I h q 13) :: st) h else none) ∧
  (∀ (L st : List ZV) (h : PH), zev kX1_laysSteps 113 L st h = zev kX1_laysSteps 114 L (zvi 1 :: st) h) ∧
  (∀ (a b : Int) (L st : List ZV) (h : PH), zev kX1_laysSteps 114 L (zvi b :: zvi a :: st) h = zev kX1_laysSteps 115 L (zvi (w32 (a - b)) :: st) h) ∧
  (∀ (a : Int) (q : Nat) (L st : List ZV) (h : PH), zev kX1_laysSteps 115 L (zvi a :: zvr (some q) :: st) h = if (ph_K h q).1 = 16 then zev kX1_laysSteps 118 L st (st_I h q 13 a) else none) ∧
  (∀ (a : Option Nat) (L st : List ZV) (h : PH), zev kX1_laysSteps 118 (zvr a :: L) st h = zev kX1_laysSteps 119 (zvr a :: L) (zvr a :: st) h) ∧
  (∀ (q : Nat) (L st : List ZV) (h : PH), zev kX1_laysSteps 119 L (zvr (some q) :: st) h = if (ph_K h q).1 % 1000 = 16 then zev kX1_laysSteps 122 L (zvr (ph_R h q 11) :: st) h else none) ∧
  (∀ (a : Option Nat) (L st : List ZV) (h : PH), zev kX1_laysSteps 122 (zvr a :: L) st h = zev kX1_laysSteps 123 (zvr a :: L) (zvr a :: st) h) ∧
  (∀ (q : Nat) (L st : List ZV) (h : PH), zev kX1_laysSteps 123 L (zvr (some q) :: st) h = if (ph_K h q).1 % 1000 = 16 then zev kX1_laysSteps 126 L (zvi (ph_I h q 13) :: st) h else none) ∧
  (∀ (a : Option Nat) (L st : List ZV) (h : PH), zev kX1_laysSteps 126 (zvr a :: L) st h = zev kX1_laysSteps 127 (zvr a :: L) (zvr a :: st) h) ∧
  (∀ (q : Nat) (L st : List ZV) (h : PH), zev kX1_laysSteps 127 L (zvr (some q) :: st) h = if (ph_K h q).1 % 1000 = 16 then zev kX1_laysSteps 130 L (zvr (ph_R h q 8) :: st) h else none) ∧
  (∀ (q : Nat) (L st : List ZV) (h : PH), zev kX1_laysSteps 130 L (zvr (some q) :: st) h = if (ph_K h q).1 % 1000 = 17 then zev kX1_laysSteps 133 L (zvr (ph_R h q 1) :: st) h else none) ∧
  (∀ (x0 x1 x2 x3 : ZV) (a : Int) (L st : List ZV) (h : PH), zev kX1_laysSteps 133 (x0 :: x1 :: x2 :: x3 :: zvi a :: L) st h = zev kX1_laysSteps 135 (x0 :: x1 :: x2 :: x3 :: zvi a :: L) (zvi a :: st) h) ∧
  (∀ (j : Int) (q : Nat) (L st : List ZV) (h : PH), zev kX1_laysSteps 135 L (zvi j :: zvr (some q) :: st) h = if (ph_K h q).1 % 1000 = 1 ∧ 0 ≤ j ∧ j < (ph_K h q).2 then zev kX1_laysSteps 136 L (zvi (ph_I h q j) :: st) h else none) ∧
  (∀ (x j : Int) (q : Nat) (L st : List ZV) (h : PH), zev kX1_laysSteps 136 L (zvi x :: zvi j :: zvr (some q) :: st) h = if (ph_K h q).1 = 1 ∧ 0 ≤ j ∧ j < (ph_K h q).2 then zev kX1_laysSteps 137 L st (st_I h q j x) else none) ∧
  (∀ (a : Option Nat) (L st : List ZV) (h : PH), zev kX1_laysSteps 137 (zvr a :: L) st h = zev kX1_laysSteps 138 (zvr a :: L) (zvr a :: st) h) ∧
  (∀ (q : Nat) (L st : List ZV) (h : PH), zev kX1_laysSteps 138 L (zvr (some q) :: st) h = if (ph_K h q).1 % 1000 = 16 then zev kX1_laysSteps 141 L (zvr (ph_R h q 12) :: st) h else none) ∧
  (∀ (a : Option Nat) (L st : List ZV) (h : PH), zev kX1_laysSteps 141 (zvr a :: L) st h = zev kX1_laysSteps 142 (zvr a :: L) (zvr a :: st) h) ∧
  (∀ (q : Nat) (L st : List ZV) (h : PH), zev kX1_laysSteps 142 L (zvr (some q) :: st) h = if (ph_K h q).1 % 1000 = 16 then zev kX1_laysSteps 145 L (zvi (ph_I h q 13) :: st) h else none) ∧
  (∀ (x0 x1 x2 : ZV) (a : Int) (L st : List ZV) (h : PH), zev kX1_laysSteps 145 (x0 :: x1 :: x2 :: zvi a :: L) st h = zev kX1_laysSteps 146 (x0 :: x1 :: x2 :: zvi a :: L) (zvi a :: st) h) ∧
  (∀ (x j : Int) (q : Nat) (L st : List ZV) (h : PH), zev kX1_laysSteps 146 L (zvi x :: zvi j :: zvr (some q) :: st) h = if (ph_K h q).1 = 1 ∧ 0 ≤ j ∧ j < (ph_K h q).2 then zev kX1_laysSteps 147 L st (st_I h q j x) else none) ∧
  (∀ (a : Option Nat) (L st : List ZV) (h : PH), zev kX1_laysSteps 147 (zvr a :: L) st h = zev kX1_laysSteps 148 (zvr a :: L) (zvr a :: st) h) ∧
  (∀ (a : Int) (L st : List ZV) (h : PH), zev kX1_laysSteps 148 L (zvi a :: st) h = zev kX1_laysSteps 149 L (zvi a :: zvi a :: st) h) ∧
  (∀ (a : Option Nat) (L st : List ZV) (h : PH), zev kX1_laysSteps 148 L (zvr a :: st) h = zev kX1_laysSteps 149 L (zvr a :: zvr a :: st) h) ∧
  (∀ (q : Nat) (L st : List ZV) (h : PH), zev kX1_laysSteps 149 L (zvr (some q) :: st) h = if (ph_K h q).1 % 1000 = 16 then zev kX1_laysSteps 152 L (zvi (ph_I h q 13) :: st) h else none) ∧
  (∀ (L st : List ZV) (h : PH), zev kX1_laysSteps 152 L st h = zev kX1_laysSteps 153 L (zvi 1 :: st) h) ∧
  (∀ (a b : Int) (L st : List ZV) (h : PH), zev kX1_laysSteps 153 L (zvi b :: zvi a :: st) h = zev kX1_laysSteps 154 L (zvi (w32 (a + b)) :: st) h) ∧
  (∀ (a : Int) (q : Nat) (L st : List ZV) (h : PH), zev kX1_laysSteps 154 L (zvi a :: zvr (some q) :: st) h = if (ph_K h q).1 = 16 then zev kX1_laysSteps 157 L st (st_I h q 13 a) else none) ∧
  (∀ (x0 x1 x2 x3 : ZV) (a : Int) (L st : List ZV) (h : PH) (hx : zisL x3 = false) , zev kX1_laysSteps 157 (x0 :: x1 :: x2 :: x3 :: zvi a :: L) st h = zev kX1_laysSteps 160 (x0 :: x1 :: x2 :: x3 :: zvi (w32 (a + (-1))) :: L) st h) ∧
  (∀ (L st : List ZV) (h : PH), zev kX1_laysSteps 160 L st h = zev kX1_laysSteps 27 L st h) ∧
  (∀ (L : List ZV) (h : PH), zev kX1_laysSteps 163 L [] h = zr0 h) :=
  ⟨fun a L st h => e_ld0R (n := 1) rfl,
  fun q L st h => e_callV1 (F := mX1_asIs) (kd := 16) (n := 4) rfl,
  fun x0 x1 a L st h => e_ld2I (n := 5) rfl,
  fun v0 q L st h => e_callV2 (F := mX3_laysFirst) (kd := 17) (n := 8) rfl,
  fun a L st h => e_ld0R (n := 9) rfl,
  fun L st h => e_push (v := zvi 0) (n := 10) rfl,
  fun a q L st h => e_putI (kd := 16) (k := 13) (n := 13) rfl,
  fun L st h => e_push (v := zvi 99999) (n := 15) rfl,
  fun x0 x1 x2 x3 a L st h hx => e_st3I (n := 16) rfl hx,
  fun a L st h => e_ld0R (n := 17) rfl,
  fun q L st h => e_getR (kd := 16) (k := 8) (n := 20) rfl,
  fun q L st h => e_getI (kd := 17) (k := 6) (n := 23) rfl,
  fun L st h => e_push (v := zvi 1) (n := 24) rfl,
  fun a b L st h => e_bin (f := (fun a b => w32 (a - b))) (n := 25) rfl,
  fun x0 x1 x2 x3 x4 a L st h hx => e_st4I (n := 27) rfl hx,
  fun a L st h => e_iflt (t := 163) (n := 32) rfl,
  fun a L st h => e_ld0R (n := 33) rfl,
  fun q L st h => e_getR (kd := 16) (k := 8) (n := 36) rfl,
  fun q L st h => e_getR (kd := 17) (k := 0) (n := 39) rfl,
  fun x0 x1 x2 x3 a L st h => e_ld4I (n := 41) rfl,
  fun j q L st h => e_aldR (n := 42) rfl,
  fun q L st h => e_getI (kd := 22) (k := 3) (n := 45) rfl,
  fun x0 a L st h => e_ld1I (n := 46) rfl,
  fun a b L st h => e_cmpne (t := 157) (n := 49) rfl,
  fun a L st h => e_ld0R (n := 50) rfl,
  fun q L st h => e_getR (kd := 16) (k := 8) (n := 53) rfl,
  fun q L st h => e_getR (kd := 17) (k := 3) (n := 56) rfl,
  fun x0 x1 x2 x3 a L st h => e_ld4I (n := 58) rfl,
  fun j q L st h => e_ald (kd := 1) (n := 59) rfl,
  fun x0 x1 x2 a L st h => e_ld3I (n := 60) rfl,
  fun a b L st h => e_cmplt (t := 66) (n := 63) rfl,
  fun L st h => e_goto (t := 157) rfl,
  fun a L st h => e_ld0R (n := 67) rfl,
  fun q L st h => e_getR (kd := 16) (k := 8) (n := 70) rfl,
  fun q L st h => e_getR (kd := 17) (k := 3) (n := 73) rfl,
  fun x0 x1 x2 x3 a L st h => e_ld4I (n := 75) rfl,
  fun j q L st h => e_ald (kd := 1) (n := 76) rfl,
  fun x0 x1 x2 x3 a L st h hx => e_st3I (n := 77) rfl hx,
  fun a L st h => e_ld0R (n := 78) rfl,
  fun q L st h => e_getI (kd := 16) (k := 13) (n := 81) rfl,
  fun a L st h => e_ifle (t := 118) (n := 84) rfl,
  fun a L st h => e_ld0R (n := 85) rfl,
  fun q L st h => e_getR (kd := 16) (k := 11) (n := 88) rfl,
  fun a L st h => e_ld0R (n := 89) rfl,
  fun q L st h => e_getI (kd := 16) (k := 13) (n := 92) rfl,
  fun L st h => e_push (v := zvi 1) (n := 93) rfl,
  fun a b L st h => e_bin (f := (fun a b => w32 (a - b))) (n := 94) rfl,
  fun j q L st h => e_ald (kd := 1) (n := 95) rfl,
  fun a L st h => e_ld0R (n := 96) rfl,
  fun q L st h => e_getR (kd := 16) (k := 8) (n := 99) rfl,
  fun q L st h => e_getR (kd := 17) (k := 1) (n := 102) rfl,
  fun x0 x1 x2 x3 a L st h => e_ld4I (n := 104) rfl,
  fun j q L st h => e_ald (kd := 1) (n := 105) rfl,
  fun a b L st h => e_cmpne (t := 118) (n := 108) rfl,
  fun a L st h => e_ld0R (n := 109) rfl,
  fun a L st h => e_dupI (n := 110) rfl,
  fun a L st h => e_dupR (n := 110) rfl,
  fun q L st h => e_getI (kd := 16) (k := 13) (n := 113) rfl,
  fun L st h => e_push (v := zvi 1) (n := 114) rfl,
  fun a b L st h => e_bin (f := (fun a b => w32 (a - b))) (n := 115) rfl,
  fun a q L st h => e_putI (kd := 16) (k := 13) (n := 118) rfl,
  fun a L st h => e_ld0R (n := 119) rfl,
  fun q L st h => e_getR (kd := 16) (k := 11) (n := 122) rfl,
  fun a L st h => e_ld0R (n := 123) rfl,
  fun q L st h => e_getI (kd := 16) (k := 13) (n := 126) rfl,
  fun a L st h => e_ld0R (n := 127) rfl,
  fun q L st h => e_getR (kd := 16) (k := 8) (n := 130) rfl,
  fun q L st h => e_getR (kd := 17) (k := 1) (n := 133) rfl,
  fun x0 x1 x2 x3 a L st h => e_ld4I (n := 135) rfl,
  fun j q L st h => e_ald (kd := 1) (n := 136) rfl,
  fun x j q L st h => e_ast (n := 137) rfl,
  fun a L st h => e_ld0R (n := 138) rfl,
  fun q L st h => e_getR (kd := 16) (k := 12) (n := 141) rfl,
  fun a L st h => e_ld0R (n := 142) rfl,
  fun q L st h => e_getI (kd := 16) (k := 13) (n := 145) rfl,
  fun x0 x1 x2 a L st h => e_ld3I (n := 146) rfl,
  fun x j q L st h => e_ast (n := 147) rfl,
  fun a L st h => e_ld0R (n := 148) rfl,
  fun a L st h => e_dupI (n := 149) rfl,
  fun a L st h => e_dupR (n := 149) rfl,
  fun q L st h => e_getI (kd := 16) (k := 13) (n := 152) rfl,
  fun L st h => e_push (v := zvi 1) (n := 153) rfl,
  fun a b L st h => e_bin (f := (fun a b => w32 (a + b))) (n := 154) rfl,
  fun a q L st h => e_putI (kd := 16) (k := 13) (n := 157) rfl,
  fun x0 x1 x2 x3 a L st h hx => e_iinc4 (d := (-1)) (n := 160) rfl hx,
  fun L st h => e_goto (t := 27) rfl,
  fun L h => e_ret rfl⟩
theorem allX1_laysSteps : zall yX1_laysSteps cX1_laysSteps 5 none 6 kX1_laysSteps.1 :=
  ⟨k_aload_n dX1_laysSteps_0,
  k_callV (y2 := yX1_asIs) (C := RX1) (T0 := TX1) (ci := 0) dX1_laysSteps_1 sndX1_asIs rfl q1338 q1340 qs37 q128 q1341 (by decide +kernel) ⟨by decide, by decide⟩ (by decide) (by decide),
  k_iload_n dX1_laysSteps_4,
  k_callV (y2 := yX3_laysFirst) (C := RX3) (T0 := TX3) (ci := 1) dX1_laysSteps_5 sndX3_laysFirst rfl q1482 q1449 q1450 q136 q1451 (by decide +kernel) ⟨by decide, by decide⟩ (by decide) (by decide),
  k_aload_n dX1_laysSteps_8,
  k_iconst dX1_laysSteps_9,
  k_putI (C := RX1) (T := TX1) (N := 19) (ci := 0) (k := 13) (ref := "LinkTimes") dX1_laysSteps_10 rfl in_X1 tyX1 tyX1_ok nmX1 (by decide) (Or.inl q316) (Or.inl rfl) (Or.inl rfl) (tyX1_ok 13 (by decide)) (fun _ _ _ => rfl),
  k_ldc dX1_laysSteps_13 q1429,
  k_istore_n dX1_laysSteps_15,
  k_aload_n dX1_laysSteps_16,
  k_getR (C := RX1) (T := TX1) (N := 19) (ci := 0) (k := 8) (ref := "LinkTimes") dX1_laysSteps_17 rfl in_X1 (by decide) q311 (Or.inl rfl) (fun _ _ _ => rfl),
  k_getIN (C := RX3) (T := TX3) (N := 9) (ci := 1) (k := 6) (ref := "LinkTimes$Search") dX1_laysSteps_20 rfl in_X3 (by decide) q278 (Or.inl rfl) (fun _ _ _ => rfl),
  k_iconst dX1_laysSteps_23,
  k_isub dX1_laysSteps_24,
  k_istore dX1_laysSteps_25,
  k_iload dX1_laysSteps_27,
  k_iflt (t := 163) dX1_laysSteps_29 (by decide),
  k_aload_n dX1_laysSteps_32,
  k_getR (C := RX1) (T := TX1) (N := 19) (ci := 0) (k := 8) (ref := "LinkTimes") dX1_laysSteps_33 rfl in_X1 (by decide) q311 (Or.inl rfl) (fun _ _ _ => rfl),
  k_getRN (C := RX3) (T := TX3) (N := 9) (ci := 1) (k := 0) (ref := "LinkTimes$Search") dX1_laysSteps_36 rfl in_X3 (by decide) q266 (Or.inl rfl) (fun _ _ _ => rfl),
  k_iload dX1_laysSteps_39,
  k_aald dX1_laysSteps_41,
  k_getIN (C := RX11) (T := TX11) (N := 9) (ci := 6) (k := 3) (ref := "LinkTimes$Departure") dX1_laysSteps_42 rfl in_X11 (by decide) q859 (Or.inl rfl) (fun _ _ _ => rfl),
  k_iload_n dX1_laysSteps_45,
  k_cmpne (t := 157) dX1_laysSteps_46 (by decide),
  k_aload_n dX1_laysSteps_49,
  k_getR (C := RX1) (T := TX1) (N := 19) (ci := 0) (k := 8) (ref := "LinkTimes") dX1_laysSteps_50 rfl in_X1 (by decide) q311 (Or.inl rfl) (fun _ _ _ => rfl),
  k_getRN (C := RX3) (T := TX3) (N := 9) (ci := 1) (k := 3) (ref := "LinkTimes$Search") dX1_laysSteps_53 rfl in_X3 (by decide) q272 (Or.inl rfl) (fun _ _ _ => rfl),
  k_iload dX1_laysSteps_56,
  k_iald dX1_laysSteps_58,
  k_iload_n dX1_laysSteps_59,
  k_cmplt (t := 66) dX1_laysSteps_60 (by decide),
  k_goto (t := 157) dX1_laysSteps_63 (by decide),
  k_aload_n dX1_laysSteps_66,
  k_getR (C := RX1) (T := TX1) (N := 19) (ci := 0) (k := 8) (ref := "LinkTimes") dX1_laysSteps_67 rfl in_X1 (by decide) q311 (Or.inl rfl) (fun _ _ _ => rfl),
  k_getRN (C := RX3) (T := TX3) (N := 9) (ci := 1) (k := 3) (ref := "LinkTimes$Search") dX1_laysSteps_70 rfl in_X3 (by decide) q272 (Or.inl rfl) (fun _ _ _ => rfl),
  k_iload dX1_laysSteps_73,
  k_iald dX1_laysSteps_75,
  k_istore_n dX1_laysSteps_76,
  k_aload_n dX1_laysSteps_77,
  k_getI (C := RX1) (T := TX1) (N := 19) (ci := 0) (k := 13) (ref := "LinkTimes") dX1_laysSteps_78 rfl in_X1 (by decide) q316 (Or.inl rfl) (fun _ _ _ => rfl),
  k_ifle (t := 118) dX1_laysSteps_81 (by decide),
  k_aload_n dX1_laysSteps_84,
  k_getR (C := RX1) (T := TX1) (N := 19) (ci := 0) (k := 11) (ref := "LinkTimes") dX1_laysSteps_85 rfl in_X1 (by decide) q314 (Or.inl rfl) (fun _ _ _ => rfl),
  k_aload_n dX1_laysSteps_88,
  k_getI (C := RX1) (T := TX1) (N := 19) (ci := 0) (k := 13) (ref := "LinkTimes") dX1_laysSteps_89 rfl in_X1 (by decide) q316 (Or.inl rfl) (fun _ _ _ => rfl),
  k_iconst dX1_laysSteps_92,
  k_isub dX1_laysSteps_93,
  k_iald dX1_laysSteps_94,
  k_aload_n dX1_laysSteps_95,
  k_getR (C := RX1) (T := TX1) (N := 19) (ci := 0) (k := 8) (ref := "LinkTimes") dX1_laysSteps_96 rfl in_X1 (by decide) q311 (Or.inl rfl) (fun _ _ _ => rfl),
  k_getRN (C := RX3) (T := TX3) (N := 9) (ci := 1) (k := 1) (ref := "LinkTimes$Search") dX1_laysSteps_99 rfl in_X3 (by decide) q268 (Or.inl rfl) (fun _ _ _ => rfl),
  k_iload dX1_laysSteps_102,
  k_iald dX1_laysSteps_104,
  k_cmpne (t := 118) dX1_laysSteps_105 (by decide),
  k_aload_n dX1_laysSteps_108,
  k_dup dX1_laysSteps_109,
  k_getI (C := RX1) (T := TX1) (N := 19) (ci := 0) (k := 13) (ref := "LinkTimes") dX1_laysSteps_110 rfl in_X1 (by decide) q316 (Or.inl rfl) (fun _ _ _ => rfl),
  k_iconst dX1_laysSteps_113,
  k_isub dX1_laysSteps_114,
  k_putI (C := RX1) (T := TX1) (N := 19) (ci := 0) (k := 13) (ref := "LinkTimes") dX1_laysSteps_115 rfl in_X1 tyX1 tyX1_ok nmX1 (by decide) (Or.inl q316) (Or.inl rfl) (Or.inl rfl) (tyX1_ok 13 (by decide)) (fun _ _ _ => rfl),
  k_aload_n dX1_laysSteps_118,
  k_getR (C := RX1) (T := TX1) (N := 19) (ci := 0) (k := 11) (ref := "LinkTimes") dX1_laysSteps_119 rfl in_X1 (by decide) q314 (Or.inl rfl) (fun _ _ _ => rfl),
  k_aload_n dX1_laysSteps_122,
  k_getI (C := RX1) (T := TX1) (N := 19) (ci := 0) (k := 13) (ref := "LinkTimes") dX1_laysSteps_123 rfl in_X1 (by decide) q316 (Or.inl rfl) (fun _ _ _ => rfl),
  k_aload_n dX1_laysSteps_126,
  k_getR (C := RX1) (T := TX1) (N := 19) (ci := 0) (k := 8) (ref := "LinkTimes") dX1_laysSteps_127 rfl in_X1 (by decide) q311 (Or.inl rfl) (fun _ _ _ => rfl),
  k_getRN (C := RX3) (T := TX3) (N := 9) (ci := 1) (k := 1) (ref := "LinkTimes$Search") dX1_laysSteps_130 rfl in_X3 (by decide) q268 (Or.inl rfl) (fun _ _ _ => rfl),
  k_iload dX1_laysSteps_133,
  k_iald dX1_laysSteps_135,
  k_iast dX1_laysSteps_136,
  k_aload_n dX1_laysSteps_137,
  k_getR (C := RX1) (T := TX1) (N := 19) (ci := 0) (k := 12) (ref := "LinkTimes") dX1_laysSteps_138 rfl in_X1 (by decide) q315 (Or.inl rfl) (fun _ _ _ => rfl),
  k_aload_n dX1_laysSteps_141,
  k_getI (C := RX1) (T := TX1) (N := 19) (ci := 0) (k := 13) (ref := "LinkTimes") dX1_laysSteps_142 rfl in_X1 (by decide) q316 (Or.inl rfl) (fun _ _ _ => rfl),
  k_iload_n dX1_laysSteps_145,
  k_iast dX1_laysSteps_146,
  k_aload_n dX1_laysSteps_147,
  k_dup dX1_laysSteps_148,
  k_getI (C := RX1) (T := TX1) (N := 19) (ci := 0) (k := 13) (ref := "LinkTimes") dX1_laysSteps_149 rfl in_X1 (by decide) q316 (Or.inl rfl) (fun _ _ _ => rfl),
  k_iconst dX1_laysSteps_152,
  k_iadd dX1_laysSteps_153,
  k_putI (C := RX1) (T := TX1) (N := 19) (ci := 0) (k := 13) (ref := "LinkTimes") dX1_laysSteps_154 rfl in_X1 tyX1 tyX1_ok nmX1 (by decide) (Or.inl q316) (Or.inl rfl) (Or.inl rfl) (tyX1_ok 13 (by decide)) (fun _ _ _ => rfl),
  k_iinc dX1_laysSteps_157,
  k_goto (t := 27) dX1_laysSteps_160 (by decide),
  k_ret dX1_laysSteps_163, trivial⟩
theorem sndX1_laysSteps : MSound 6 yX1_laysSteps (ws_ yX1_laysSteps cX1_laysSteps 5 none) mX1_laysSteps := msound_M (by decide) allX1_laysSteps (fun _ _ => rfl)
/-! LinkTimes.steps(II)I -/
noncomputable def kX1_steps : ZM := ([(0, zi_ld 1 0 1), (1, zi_ld 0 1 2), (2, zi_ld 0 2 3), (3, zi_callV mX1_areTwo 16 3 6), (6, zi_if (fun a => zc_ne a 0) 15 9), (9, zi_ld 1 0 10), (10, zi_push (zvi 1) 11), (11, zi_callV mX1_refused 16 2 14), (14, zi_retv 0), (15, zi_ld 1 0 16), (16, zi_ld 0 1 17), (17, zi_ld 0 2 18), (18, zi_callV mX1_laysSteps 16 3 21), (21, zi_ld 1 0 22), (22, zi_ld 1 0 23), (23, zi_getI 16 13 26), (26, zi_callV mX1_fine 16 2 29), (29, zi_retv 0)], fun _ _ => none)
noncomputable def mX1_steps : ZF := zrunM kX1_steps 3
theorem enX1_steps (x0 : Option Nat) (x1 : Int) (x2 : Int) (h : PH) : mX1_steps [zvr x0, zvi x1, zvi x2] h = zev kX1_steps 0 [zvr x0, zvi x1, zvi x2] [] h := zrunM_eq rfl rfl
theorem rX1_steps : (∀ (a : Option Nat) (L st : List ZV) (h : PH), zev kX1_steps 0 (zvr a :: L) st h = zev kX1_steps 1 (zvr a :: L) (zvr a :: st) h) ∧
  (∀ (x0 : ZV) (a : Int) (L st : List ZV) (h : PH), zev kX1_steps 1 (x0 :: zvi a :: L) st h = zev kX1_steps 2 (x0 :: zvi a :: L) (zvi a :: st) h) ∧
  (∀ (x0 x1 : ZV) (a : Int) (L st : List ZV) (h : PH), zev kX1_steps 2 (x0 :: x1 :: zvi a :: L) st h = zev kX1_steps 3 (x0 :: x1 :: zvi a :: L) (zvi a :: st) h) ∧
  (∀ (v0 v1 : ZV) (q : Nat) (L st : List ZV) (h : PH), zev kX1_steps 3 L (v1 :: v0 :: zvr (some q) :: st) h = if (ph_K h q).1 % 1000 = 16 ∧ zcat st ≤ 8 then zk kX1_steps 3 6 L st (mX1_areTwo [zvr (some q), v0, v1] h) else none) ∧
  (∀ (a : Int) (L st : List ZV) (h : PH), zev kX1_steps 6 L (zvi a :: st) h = if a ≠ 0 then zev kX1_steps 15 L st h else zev kX1_steps 9 L st h) ∧
  (∀ (a : Option Nat) (L st : List ZV) (h : PH), zev kX1_steps 9 (zvr a :: L) st h = zev kX1_steps 10 (zvr a :: L) (zvr a :: st) h) ∧
  (∀ (L st : List ZV) (h : PH), zev kX1_steps 10 L st h = zev kX1_steps 11 L (zvi 1 :: st) h) ∧
  (∀ (v0 : ZV) (q : Nat) (L st : List ZV) (h : PH), zev kX1_steps 11 L (v0 :: zvr (some q) :: st) h = if (ph_K h q).1 % 1000 = 16 ∧ zcat st ≤ 8 then zk kX1_steps 11 14 L st (mX1_refused [zvr (some q), v0] h) else none) ∧
  (∀ (a : Int) (L : List ZV) (h : PH), zev kX1_steps 14 L [zvi a] h = zrv (zvi a) h) ∧
  (∀ (a : Option Nat) (L st : List ZV) (h : PH), zev kX1_steps 15 (zvr a :: L) st h = zev kX1_steps 16 (zvr a :: L) (zvr a :: st) h) ∧
  (∀ (x0 : ZV) (a : Int) (L st : List ZV) (h : PH), zev kX1_steps 16 (x0 :: zvi a :: L) st h = zev kX1_steps 17 (x0 :: zvi a :: L) (zvi a :: st) h) ∧
  (∀ (x0 x1 : ZV) (a : Int) (L st : List ZV) (h : PH), zev kX1_steps 17 (x0 :: x1 :: zvi a :: L) st h = zev kX1_steps 18 (x0 :: x1 :: zvi a :: L) (zvi a :: st) h) ∧
  (∀ (v0 v1 : ZV) (q : Nat) (L st : List ZV) (h : PH), zev kX1_steps 18 L (v1 :: v0 :: zvr (some q) :: st) h = if (ph_K h q).1 % 1000 = 16 ∧ zcat st ≤ 8 then zk kX1_steps 18 21 L st (mX1_laysSteps [zvr (some q), v0, v1] h) else none) ∧
  (∀ (a : Option Nat) (L st : List ZV) (h : PH), zev kX1_steps 21 (zvr a :: L) st h = zev kX1_steps 22 (zvr a :: L) (zvr a :: st) h) ∧
  (∀ (a : Option Nat) (L st : List ZV) (h : PH), zev kX1_steps 22 (zvr a :: L) st h = zev kX1_steps 23 (zvr a :: L) (zvr a :: st) h) ∧
  (∀ (q : Nat) (L st : List ZV) (h : PH), zev kX1_steps 23 L (zvr (some q) :: st) h = if (ph_K h q).1 % 1000 = 16 then zev kX1_steps 26 L (zvi (ph_I h q 13) :: st) h else none) ∧
  (∀ (v0 : ZV) (q : Nat) (L st : List ZV) (h : PH), zev kX1_steps 26 L (v0 :: zvr (some q) :: st) h = if (ph_K h q).1 % 1000 = 16 ∧ zcat st ≤ 8 then zk kX1_steps 26 29 L st (mX1_fine [zvr (some q), v0] h) else none) ∧
  (∀ (a : Int) (L : List ZV) (h : PH), zev kX1_steps 29 L [zvi a] h = zrv (zvi a) h) :=
  ⟨fun a L st h => e_ld0R (n := 1) rfl,
  fun x0 a L st h => e_ld1I (n := 2) rfl,
  fun x0 x1 a L st h => e_ld2I (n := 3) rfl,
  fun v0 v1 q L st h => e_callV3 (F := mX1_areTwo) (kd := 16) (n := 6) rfl,
  fun a L st h => e_ifne (t := 15) (n := 9) rfl,
  fun a L st h => e_ld0R (n := 10) rfl,
  fun L st h => e_push (v := zvi 1) (n := 11) rfl,
  fun v0 q L st h => e_callV2 (F := mX1_refused) (kd := 16) (n := 14) rfl,
  fun a L h => e_retI rfl,
  fun a L st h => e_ld0R (n := 16) rfl,
  fun x0 a L st h => e_ld1I (n := 17) rfl,
  fun x0 x1 a L st h => e_ld2I (n := 18) rfl,
  fun v0 v1 q L st h => e_callV3 (F := mX1_laysSteps) (kd := 16) (n := 21) rfl,
  fun a L st h => e_ld0R (n := 22) rfl,
  fun a L st h => e_ld0R (n := 23) rfl,
  fun q L st h => e_getI (kd := 16) (k := 13) (n := 26) rfl,
  fun v0 q L st h => e_callV2 (F := mX1_fine) (kd := 16) (n := 29) rfl,
  fun a L h => e_retI rfl⟩
theorem allX1_steps : zall yX1_steps cX1_steps 3 (some .int) 7 kX1_steps.1 :=
  ⟨k_aload_n dX1_steps_0,
  k_iload_n dX1_steps_1,
  k_iload_n dX1_steps_2,
  k_callV (y2 := yX1_areTwo) (C := RX1) (T0 := TX1) (ci := 0) dX1_steps_3 sndX1_areTwo rfl q1474 q1476 qs47 q128 q1477 (by decide +kernel) ⟨by decide, by decide⟩ (by decide) (by decide),
  k_ifne (t := 15) dX1_steps_6 (by decide),
  k_aload_n dX1_steps_9,
  k_iconst dX1_steps_10,
  k_callV (y2 := yX1_refused) (C := RX1) (T0 := TX1) (ci := 0) dX1_steps_11 sndX1_refused rfl q378 q380 qs1 q128 q381 (by decide +kernel) ⟨by decide, by decide⟩ (by decide) (by decide),
  k_iret dX1_steps_14,
  k_aload_n dX1_steps_15,
  k_iload_n dX1_steps_16,
  k_iload_n dX1_steps_17,
  k_callV (y2 := yX1_laysSteps) (C := RX1) (T0 := TX1) (ci := 0) dX1_steps_18 sndX1_laysSteps rfl q1478 q1480 qs48 q128 q1481 (by decide +kernel) ⟨by decide, by decide⟩ (by decide) (by decide),
  k_aload_n dX1_steps_21,
  k_aload_n dX1_steps_22,
  k_getI (C := RX1) (T := TX1) (N := 19) (ci := 0) (k := 13) (ref := "LinkTimes") dX1_steps_23 rfl in_X1 (by decide) q316 (Or.inl rfl) (fun _ _ _ => rfl),
  k_callV (y2 := yX1_fine) (C := RX1) (T0 := TX1) (ci := 0) dX1_steps_26 sndX1_fine rfl q1211 q1213 qs32 q128 q1214 (by decide +kernel) ⟨by decide, by decide⟩ (by decide) (by decide),
  k_iret dX1_steps_29, trivial⟩
theorem sndX1_steps : MSound 7 yX1_steps (ws_ yX1_steps cX1_steps 3 (some .int)) mX1_steps := msound_M (by decide) allX1_steps (fun _ _ => rfl)
/-! LinkTimes.changesOf(IIII)I -/
noncomputable def kX1_changesOf : ZM := ([(0, zi_ld 1 0 1), (1, zi_getR 16 8 4), (4, zi_ld 0 2 5), (5, zi_ld 0 4 7), (7, zi_callV mX3_laysBackwards 17 3 10), (10, zi_push (zvi 99999) 12), (12, zi_st 0 5 14), (14, zi_push (zvi 0) 15), (15, zi_st 0 6 17), (17, zi_ld 0 6 19), (19, zi_ld 1 0 20), (20, zi_getR 16 8 23), (23, zi_getI 17 6 26), (26, zi_cmp zc_ge 83 29), (29, zi_ld 1 0 30), (30, zi_getR 16 8 33), (33, zi_getR 17 0 36), (36, zi_ld 0 6 38), (38, zi_aldR 39), (39, zi_getI 22 3 42), (42, zi_ld 0 1 43), (43, zi_cmp zc_ne 77 46), (46, zi_ld 1 0 47), (47, zi_getR 16 8 50), (50, zi_getR 17 1 53), (53, zi_ld 0 6 55), (55, zi_ald 1 56), (56, zi_ld 0 3 57), (57, zi_cmp zc_ne 77 60), (60, zi_ld 0 5 62), (62, zi_ld 1 0 63), (63, zi_getR 16 8 66), (66, zi_getR 17 3 69), (69, zi_ld 0 6 71), (71, zi_ald 1 72), (72, zi_mm zmin 75), (75, zi_st 0 5 77), (77, zi_iinc 6 1 80), (80, zi_goto 17), (83, zi_ld 0 5 85), (85, zi_retv 0)], fun _ _ => none)
noncomputable def mX1_changesOf : ZF := zrunM kX1_changesOf 7
theorem enX1_changesOf (x0 : Option Nat) (x1 : Int) (x2 : Int) (x3 : Int) (x4 : Int) (h : PH) : mX1_changesOf [zvr x0, zvi x1, zvi x2, zvi x3, zvi x4] h = zev kX1_changesOf 0 [zvr x0, zvi x1, zvi x2, zvi x3, zvi x4, zvu, zvu] [] h := zrunM_eq rfl rfl
theorem hdX1_changesOf_17 (x0 x1 x2 x3 x4 x5 : ZV) (a : Int) (L st : List ZV) (h : PH) : zev kX1_changesOf 17 (x0 :: x1 :: x2 :: x3 :: x4 :: x5 :: zvi a :: L) st h = zev kX1_changesOf 19 (x0 :: x1 :: x2 :: x3 :: x4 :: x5 :: zvi a :: L) (zvi a :: st) h := e_ld6I (n := 19) rfl
theorem rX1_changesOf : (∀ (a : Option Nat) (L st : List ZV) (h : PH), zev kX1_changesOf 0 (zvr a :: L) st h = zev kX1_changesOf 1 (zvr a :: L) (zvr a :: st) h) ∧
  (∀ (q : Nat) (L st : List ZV) (h : PH), zev kX1_changesOf 1 L (zvr (some q) :: st) h = if (ph_K h q).1 % 1000 = 16 then zev kX1_changesOf 4 L (zvr (ph_R h q 8) :: st) h else none) ∧
  (∀ (x0 x1 : ZV) (a : Int) (L st : List ZV) (h : PH), zev kX1_changesOf 4 (x0 :: x1 :: zvi a :: L) st h = zev kX1_changesOf 5 (x0 :: x1 :: zvi a :: L) (zvi a :: st) h) ∧
  (∀ (x0 x1 x2 x3 : ZV) (a : Int) (L st : List ZV) (h : PH), zev kX1_changesOf 5 (x0 :: x1 :: x2 :: x3 :: zvi a :: L) st h = zev kX1_changesOf 7 (x0 :: x1 :: x2 :: x3 :: zvi a :: L) (zvi a :: st) h) ∧
  (∀ (v0 v1 : ZV) (q : Nat) (L st : List ZV) (h : PH), zev kX1_changesOf 7 L (v1 :: v0 :: zvr (some q) :: st) h = if (ph_K h q).1 % 1000 = 17 ∧ zcat st ≤ 8 then zk kX1_changesOf 7 10 L st (mX3_laysBackwards [zvr (some q), v0, v1] h) else none) ∧
  (∀ (L st : List ZV) (h : PH), zev kX1_changesOf 10 L st h = zev kX1_changesOf 12 L (zvi 99999 :: st) h) ∧
  (∀ (x0 x1 x2 x3 x4 x5 : ZV) (a : Int) (L st : List ZV) (h : PH) (hx : zisL x4 = false) , zev kX1_changesOf 12 (x0 :: x1 :: x2 :: x3 :: x4 :: x5 :: L) (zvi a :: st) h = zev kX1_changesOf 14 (x0 :: x1 :: x2 :: x3 :: x4 :: zvi a :: L) st h) ∧
  (∀ (L st : List ZV) (h : PH), zev kX1_changesOf 14 L st h = zev kX1_changesOf 15 L (zvi 0 :: st) h) ∧
  (∀ (x0 x1 x2 x3 x4 x5 x6 : ZV) (a : Int) (L st : List ZV) (h : PH) (hx : zisL x5 = false) , zev kX1_changesOf 15 (x0 :: x1 :: x2 :: x3 :: x4 :: x5 :: x6 :: L) (zvi a :: st) h = zev kX1_changesOf 17 (x0 :: x1 :: x2 :: x3 :: x4 :: x5 :: zvi a :: L) st h) ∧
  (∀ (a : Option Nat) (L st : List ZV) (h : PH), zev kX1_changesOf 19 (zvr a :: L) st h = zev kX1_changesOf 20 (zvr a :: L) (zvr a :: st) h) ∧
  (∀ (q : Nat) (L st : List ZV) (h : PH), zev kX1_changesOf 20 L (zvr (some q) :: st) h = if (ph_K h q).1 % 1000 = 16 then zev kX1_changesOf 23 L (zvr (ph_R h q 8) :: st) h else none) ∧
  (∀ (q : Nat) (L st : List ZV) (h : PH), zev kX1_changesOf 23 L (zvr (some q) :: st) h = if (ph_K h q).1 % 1000 = 17 then zev kX1_changesOf 26 L (zvi (ph_I h q 6) :: st) h else none) ∧
  (∀ (a b : Int) (L st : List ZV) (h : PH), zev kX1_changesOf 26 L (zvi b :: zvi a :: st) h = if a ≥ b then zev kX1_changesOf 83 L st h else zev kX1_changesOf 29 L st h) ∧
  (∀ (a : Option Nat) (L st : List ZV) (h : PH), zev kX1_changesOf 29 (zvr a :: L) st h = zev kX1_changesOf 30 (zvr a :: L) (zvr a :: st) h) ∧
  (∀ (q : Nat) (L st : List ZV) (h : PH), zev kX1_changesOf 30 L (zvr (some q) :: st) h = if (ph_K h q).1 % 1000 = 16 then zev kX1_changesOf 33 L (zvr (ph_R h q 8) :: st) h else none) ∧
  (∀ (q : Nat) (L st : List ZV) (h : PH), zev kX1_changesOf 33 L (zvr (some q) :: st) h = if (ph_K h q).1 % 1000 = 17 then zev kX1_changesOf 36 L (zvr (ph_R h q 0) :: st) h else none) ∧
  (∀ (x0 x1 x2 x3 x4 x5 : ZV) (a : Int) (L st : List ZV) (h : PH), zev kX1_changesOf 36 (x0 :: x1 :: x2 :: x3 :: x4 :: x5 :: zvi a :: L) st h = zev kX1_changesOf 38 (x0 :: x1 :: x2 :: x3 :: x4 :: x5 :: zvi a :: L) (zvi a :: st) h) ∧
  (∀ (j : Int) (q : Nat) (L st : List ZV) (h : PH), zev kX1_changesOf 38 L (zvi j :: zvr (some q) :: st) h = if 5 ≤ (ph_K h q).1 % 1000 ∧ (ph_K h q).1 % 1000 ≤ 7 ∧ 0 ≤ j ∧ j < (ph_K h q).2 then zev kX1_changesOf 39 L (zvr (ph_R h q j) :: st) h else none) ∧
  (∀ (q : Nat) (L st : List ZV) (h : PH), zev kX1_changesOf 39 L (zvr (some q) :: st) h = if (ph_K h q).1 % 1000 = 22 then zev kX1_changesOf 42 L (zvi (ph_I h q 3) :: st) h else none) ∧
  (∀ (x0 : ZV) (a : Int) (L st : List ZV) (h : PH), zev kX1_changesOf 42 (x0 :: zvi a :: L) st h = zev kX1_changesOf 43 (x0 :: zvi a :: L) (zvi a :: st) h) ∧
  (∀ (a b : Int) (L st : List ZV) (h : PH), zev kX1_changesOf 43 L (zvi b :: zvi a :: st) h = if a ≠ b then zev kX1_changesOf 77 L st h else zev kX1_changesOf 46 L st h) ∧
  (∀ (a : Option Nat) (L st : List ZV) (h : PH), zev kX1_changesOf 46 (zvr a :: L) st h = zev kX1_changesOf 47 (zvr a :: L) (zvr a :: st) h) ∧
  (∀ (q : Nat) (L st : List ZV) (h : PH), zev kX1_changesOf 47 L (zvr (some q) :: st) h = if (ph_K h q).1 % 1000 = 16 then zev kX1_changesOf 50 L (zvr (ph_R h q 8) :: st) h else none) ∧
  (∀ (q : Nat) (L st : List ZV) (h : PH), zev kX1_changesOf 50 L (zvr (some q) :: st) h = if (ph_K h q).1 % 1000 = 17 then zev kX1_changesOf 53 L (zvr (ph_R h q 1) :: st) h else none) ∧
  (∀ (x0 x1 x2 x3 x4 x5 : ZV) (a : Int) (L st : List ZV) (h : PH), zev kX1_changesOf 53 (x0 :: x1 :: x2 :: x3 :: x4 :: x5 :: zvi a :: L) st h = zev kX1_changesOf 55 (x0 :: x1 :: x2 :: x3 :: x4 :: x5 :: zvi a :: L) (zvi a :: st) h) ∧
  (∀ (j : Int) (q : Nat) (L st : List ZV) (h : PH), zev kX1_changesOf 55 L (zvi j :: zvr (some q) :: st) h = if (ph_K h q).1 % 1000 = 1 ∧ 0 ≤ j ∧ j < (ph_K h q).2 then zev kX1_changesOf 56 L (zvi (ph_I h q j) :: st) h else none) ∧
  (∀ (x0 x1 x2 : ZV) (a : Int) (L st : List ZV) (h : PH), zev kX1_changesOf 56 (x0 :: x1 :: x2 :: zvi a :: L) st h = zev kX1_changesOf 57 (x0 :: x1 :: x2 :: zvi a :: L) (zvi a :: st) h) ∧
  (∀ (a b : Int) (L st : List ZV) (h : PH), zev kX1_changesOf 57 L (zvi b :: zvi a :: st) h = if a ≠ b then zev kX1_changesOf 77 L st h else zev kX1_changesOf 60 L st h) ∧
  (∀ (x0 x1 x2 x3 x4 : ZV) (a : Int) (L st : List ZV) (h : PH), zev kX1_changesOf 60 (x0 :: x1 :: x2 :: x3 :: x4 :: zvi a :: L) st h = zev kX1_changesOf 62 (x0 :: x1 :: x2 :: x3 :: x4 :: zvi a :: L) (zvi a :: st) h) ∧
  (∀ (a : Option Nat) (L st : List ZV) (h : PH), zev kX1_changesOf 62 (zvr a :: L) st h = zev kX1_changesOf 63 (zvr a :: L) (zvr a :: st) h) ∧
  (∀ (q : Nat) (L st : List ZV) (h : PH), zev kX1_changesOf 63 L (zvr (some q) :: st) h = if (ph_K h q).1 % 1000 = 16 then zev kX1_changesOf 66 L (zvr (ph_R h q 8) :: st) h else none) ∧
  (∀ (q : Nat) (L st : List ZV) (h : PH), zev kX1_changesOf 66 L (zvr (some q) :: st) h = if (ph_K h q).1 % 1000 = 17 then zev kX1_changesOf 69 L (zvr (ph_R h q 3) :: st) h else none) ∧
  (∀ (x0 x1 x2 x3 x4 x5 : ZV) (a : Int) (L st : List ZV) (h : PH), zev kX1_changesOf 69 (x0 :: x1 :: x2 :: x3 :: x4 :: x5 :: zvi a :: L) st h = zev kX1_changesOf 71 (x0 :: x1 :: x2 :: x3 :: x4 :: x5 :: zvi a :: L) (zvi a :: st) h) ∧
  (∀ (j : Int) (q : Nat) (L st : List ZV) (h : PH), zev kX1_changesOf 71 L (zvi j :: zvr (some q) :: st) h = if (ph_K h q).1 % 1000 = 1 ∧ 0 ≤ j ∧ j < (ph_K h q).2 then zev kX1_changesOf 72 L (zvi (ph_I h q j) :: st) h else none) ∧
  (∀ (a b : Int) (L st : List ZV) (h : PH), zev kX1_changesOf 72 L (zvi b :: zvi a :: st) h = if zcat st ≤ 8 then zev kX1_changesOf 75 L (zvi (zmin a b) :: st) h else none) ∧
  (∀ (x0 x1 x2 x3 x4 x5 : ZV) (a : Int) (L st : List ZV) (h : PH) (hx : zisL x4 = false) , zev kX1_changesOf 75 (x0 :: x1 :: x2 :: x3 :: x4 :: x5 :: L) (zvi a :: st) h = zev kX1_changesOf 77 (x0 :: x1 :: x2 :: x3 :: x4 :: zvi a :: L) st h) ∧
  (∀ (x0 x1 x2 x3 x4 x5 : ZV) (a : Int) (L st : List ZV) (h : PH) (hx : zisL x5 = false) , zev kX1_changesOf 77 (x0 :: x1 :: x2 :: x3 :: x4 :: x5 :: zvi a :: L) st h = zev kX1_changesOf 80 (x0 :: x1 :: x2 :: x3 :: x4 :: x5 :: zvi (w32 (a + 1)) :: L) st h) ∧
  (∀ (L st : List ZV) (h : PH), zev kX1_changesOf 80 L st h = zev kX1_changesOf 17 L st h) ∧
  (∀ (x0 x1 x2 x3 x4 : ZV) (a : Int) (L st : List ZV) (h : PH), zev kX1_changesOf 83 (x0 :: x1 :: x2 :: x3 :: x4 :: zvi a :: L) st h = zev kX1_changesOf 85 (x0 :: x1 :: x2 :: x3 :: x4 :: zvi a :: L) (zvi a :: st) h) ∧
  (∀ (a : Int) (L : List ZV) (h : PH), zev kX1_changesOf 85 L [zvi a] h = zrv (zvi a) h) :=
  ⟨fun a L st h => e_ld0R (n := 1) rfl,
  fun q L st h => e_getR (kd := 16) (k := 8) (n := 4) rfl,
  fun x0 x1 a L st h => e_ld2I (n := 5) rfl,
  fun x0 x1 x2 x3 a L st h => e_ld4I (n := 7) rfl,
  fun v0 v1 q L st h => e_callV3 (F := mX3_laysBackwards) (kd := 17) (n := 10) rfl,
  fun L st h => e_push (v := zvi 99999) (n := 12) rfl,
  fun x0 x1 x2 x3 x4 x5 a L st h hx => e_st5I (n := 14) rfl hx,
  fun L st h => e_push (v := zvi 0) (n := 15) rfl,
  fun x0 x1 x2 x3 x4 x5 x6 a L st h hx => e_st6I (n := 17) rfl hx,
  fun a L st h => e_ld0R (n := 20) rfl,
  fun q L st h => e_getR (kd := 16) (k := 8) (n := 23) rfl,
  fun q L st h => e_getI (kd := 17) (k := 6) (n := 26) rfl,
  fun a b L st h => e_cmpge (t := 83) (n := 29) rfl,
  fun a L st h => e_ld0R (n := 30) rfl,
  fun q L st h => e_getR (kd := 16) (k := 8) (n := 33) rfl,
  fun q L st h => e_getR (kd := 17) (k := 0) (n := 36) rfl,
  fun x0 x1 x2 x3 x4 x5 a L st h => e_ld6I (n := 38) rfl,
  fun j q L st h => e_aldR (n := 39) rfl,
  fun q L st h => e_getI (kd := 22) (k := 3) (n := 42) rfl,
  fun x0 a L st h => e_ld1I (n := 43) rfl,
  fun a b L st h => e_cmpne (t := 77) (n := 46) rfl,
  fun a L st h => e_ld0R (n := 47) rfl,
  fun q L st h => e_getR (kd := 16) (k := 8) (n := 50) rfl,
  fun q L st h => e_getR (kd := 17) (k := 1) (n := 53) rfl,
  fun x0 x1 x2 x3 x4 x5 a L st h => e_ld6I (n := 55) rfl,
  fun j q L st h => e_ald (kd := 1) (n := 56) rfl,
  fun x0 x1 x2 a L st h => e_ld3I (n := 57) rfl,
  fun a b L st h => e_cmpne (t := 77) (n := 60) rfl,
  fun x0 x1 x2 x3 x4 a L st h => e_ld5I (n := 62) rfl,
  fun a L st h => e_ld0R (n := 63) rfl,
  fun q L st h => e_getR (kd := 16) (k := 8) (n := 66) rfl,
  fun q L st h => e_getR (kd := 17) (k := 3) (n := 69) rfl,
  fun x0 x1 x2 x3 x4 x5 a L st h => e_ld6I (n := 71) rfl,
  fun j q L st h => e_ald (kd := 1) (n := 72) rfl,
  fun a b L st h => e_mm (f := zmin) (n := 75) rfl,
  fun x0 x1 x2 x3 x4 x5 a L st h hx => e_st5I (n := 77) rfl hx,
  fun x0 x1 x2 x3 x4 x5 a L st h hx => e_iinc6 (d := 1) (n := 80) rfl hx,
  fun L st h => e_goto (t := 17) rfl,
  fun x0 x1 x2 x3 x4 a L st h => e_ld5I (n := 85) rfl,
  fun a L h => e_retI rfl⟩
theorem allX1_changesOf : zall yX1_changesOf cX1_changesOf 7 (some .int) 6 kX1_changesOf.1 :=
  ⟨k_aload_n dX1_changesOf_0,
  k_getR (C := RX1) (T := TX1) (N := 19) (ci := 0) (k := 8) (ref := "LinkTimes") dX1_changesOf_1 rfl in_X1 (by decide) q311 (Or.inl rfl) (fun _ _ _ => rfl),
  k_iload_n dX1_changesOf_4,
  k_iload dX1_changesOf_5,
  k_callVN (y2 := yX3_laysBackwards) (C := RX3) (T0 := TX3) (ci := 1) dX1_changesOf_7 sndX3_laysBackwards rfl q1491 q1391 qs42 q136 q1392 (by decide +kernel) ⟨by decide, by decide⟩ (by decide) (by decide),
  k_ldc dX1_changesOf_10 q1429,
  k_istore dX1_changesOf_12,
  k_iconst dX1_changesOf_14,
  k_istore dX1_changesOf_15,
  k_iload dX1_changesOf_17,
  k_aload_n dX1_changesOf_19,
  k_getR (C := RX1) (T := TX1) (N := 19) (ci := 0) (k := 8) (ref := "LinkTimes") dX1_changesOf_20 rfl in_X1 (by decide) q311 (Or.inl rfl) (fun _ _ _ => rfl),
  k_getIN (C := RX3) (T := TX3) (N := 9) (ci := 1) (k := 6) (ref := "LinkTimes$Search") dX1_changesOf_23 rfl in_X3 (by decide) q278 (Or.inl rfl) (fun _ _ _ => rfl),
  k_cmpge (t := 83) dX1_changesOf_26 (by decide),
  k_aload_n dX1_changesOf_29,
  k_getR (C := RX1) (T := TX1) (N := 19) (ci := 0) (k := 8) (ref := "LinkTimes") dX1_changesOf_30 rfl in_X1 (by decide) q311 (Or.inl rfl) (fun _ _ _ => rfl),
  k_getRN (C := RX3) (T := TX3) (N := 9) (ci := 1) (k := 0) (ref := "LinkTimes$Search") dX1_changesOf_33 rfl in_X3 (by decide) q266 (Or.inl rfl) (fun _ _ _ => rfl),
  k_iload dX1_changesOf_36,
  k_aald dX1_changesOf_38,
  k_getIN (C := RX11) (T := TX11) (N := 9) (ci := 6) (k := 3) (ref := "LinkTimes$Departure") dX1_changesOf_39 rfl in_X11 (by decide) q859 (Or.inl rfl) (fun _ _ _ => rfl),
  k_iload_n dX1_changesOf_42,
  k_cmpne (t := 77) dX1_changesOf_43 (by decide),
  k_aload_n dX1_changesOf_46,
  k_getR (C := RX1) (T := TX1) (N := 19) (ci := 0) (k := 8) (ref := "LinkTimes") dX1_changesOf_47 rfl in_X1 (by decide) q311 (Or.inl rfl) (fun _ _ _ => rfl),
  k_getRN (C := RX3) (T := TX3) (N := 9) (ci := 1) (k := 1) (ref := "LinkTimes$Search") dX1_changesOf_50 rfl in_X3 (by decide) q268 (Or.inl rfl) (fun _ _ _ => rfl),
  k_iload dX1_changesOf_53,
  k_iald dX1_changesOf_55,
  k_iload_n dX1_changesOf_56,
  k_cmpne (t := 77) dX1_changesOf_57 (by decide),
  k_iload dX1_changesOf_60,
  k_aload_n dX1_changesOf_62,
  k_getR (C := RX1) (T := TX1) (N := 19) (ci := 0) (k := 8) (ref := "LinkTimes") dX1_changesOf_63 rfl in_X1 (by decide) q311 (Or.inl rfl) (fun _ _ _ => rfl),
  k_getRN (C := RX3) (T := TX3) (N := 9) (ci := 1) (k := 3) (ref := "LinkTimes$Search") dX1_changesOf_66 rfl in_X3 (by decide) q272 (Or.inl rfl) (fun _ _ _ => rfl),
  k_iload dX1_changesOf_69,
  k_iald dX1_changesOf_71,
  k_mmin dX1_changesOf_72 q1492 q799 q154 q800 (by decide),
  k_istore dX1_changesOf_75,
  k_iinc dX1_changesOf_77,
  k_goto (t := 17) dX1_changesOf_80 (by decide),
  k_iload dX1_changesOf_83,
  k_iret dX1_changesOf_85, trivial⟩
theorem sndX1_changesOf : MSound 6 yX1_changesOf (ws_ yX1_changesOf cX1_changesOf 7 (some .int)) mX1_changesOf := msound_M (by decide) allX1_changesOf (fun _ _ => rfl)
