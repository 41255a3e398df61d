/-! Z program: LinkTimes (written by gen/gen_prog.py) -/
set_option maxRecDepth 100000
/-! LinkTimes.isDeparture(I)Z -/
noncomputable def kX1_isDeparture : ZM := ([(0, zi_ld 1 0 1), (1, zi_getR 16 5 4), (4, zi_null 31 7), (7, zi_ld 0 1 8), (8, zi_push (zvi 0) 9), (9, zi_ld 1 0 10), (10, zi_getR 16 5 13), (13, zi_getR 20 4 16), (16, zi_callV mJ7_size 29 1 19), (19, zi_push (zvi 1) 20), (20, zi_bin (fun a b => w32 (a - b)) 21), (21, zi_callS mX1_isIn 3 24), (24, zi_if (fun a => zc_eq a 0) 31 27), (27, zi_push (zvi 1) 28), (28, zi_goto 32), (31, zi_push (zvi 0) 32), (32, zi_retz)], fun _ _ => none)
noncomputable def mX1_isDeparture : ZF := zrunM kX1_isDeparture 2
theorem enX1_isDeparture (x0 : Option Nat) (x1 : Int) (h : PH) : mX1_isDeparture [zvr x0, zvi x1] h = zev kX1_isDeparture 0 [zvr x0, zvi x1] [] h := zrunM_eq rfl rfl
theorem rX1_isDeparture : (∀ (a : Option Nat) (L st : List ZV) (h : PH), zev kX1_isDeparture 0 (zvr a :: L) st h = zev kX1_isDeparture 1 (zvr a :: L) (zvr a :: st) h) ∧
  (∀ (q : Nat) (L st : List ZV) (h : PH), zev kX1_isDeparture 1 L (zvr (some q) :: st) h = if (ph_K h q).1 % 1000 = 16 then zev kX1_isDeparture 4 L (zvr (ph_R h q 5) :: st) h else none) ∧
  (∀ (L st : List ZV) (h : PH), zev kX1_isDeparture 4 L (zvr none :: st) h = zev kX1_isDeparture 31 L st h) ∧
  (∀ (q : Nat) (L st : List ZV) (h : PH), zev kX1_isDeparture 4 L (zvr (some q) :: st) h = if (ph_K h q).1 ≠ 0 then zev kX1_isDeparture 7 L st h else none) ∧
  (∀ (x0 : ZV) (a : Int) (L st : List ZV) (h : PH), zev kX1_isDeparture 7 (x0 :: zvi a :: L) st h = zev kX1_isDeparture 8 (x0 :: zvi a :: L) (zvi a :: st) h) ∧
  (∀ (L st : List ZV) (h : PH), zev kX1_isDeparture 8 L st h = zev kX1_isDeparture 9 L (zvi 0 :: st) h) ∧
  (∀ (a : Option Nat) (L st : List ZV) (h : PH), zev kX1_isDeparture 9 (zvr a :: L) st h = zev kX1_isDeparture 10 (zvr a :: L) (zvr a :: st) h) ∧
  (∀ (q : Nat) (L st : List ZV) (h : PH), zev kX1_isDeparture 10 L (zvr (some q) :: st) h = if (ph_K h q).1 % 1000 = 16 then zev kX1_isDeparture 13 L (zvr (ph_R h q 5) :: st) h else none) ∧
  (∀ (q : Nat) (L st : List ZV) (h : PH), zev kX1_isDeparture 13 L (zvr (some q) :: st) h = if (ph_K h q).1 % 1000 = 20 then zev kX1_isDeparture 16 L (zvr (ph_R h q 4) :: st) h else none) ∧
  (∀ (q : Nat) (L st : List ZV) (h : PH), zev kX1_isDeparture 16 L (zvr (some q) :: st) h = if (ph_K h q).1 % 1000 = 29 ∧ zcat st ≤ 8 then zk kX1_isDeparture 16 19 L st (mJ7_size [zvr (some q)] h) else none) ∧
  (∀ (L st : List ZV) (h : PH), zev kX1_isDeparture 19 L st h = zev kX1_isDeparture 20 L (zvi 1 :: st) h) ∧
  (∀ (a b : Int) (L st : List ZV) (h : PH), zev kX1_isDeparture 20 L (zvi b :: zvi a :: st) h = zev kX1_isDeparture 21 L (zvi (w32 (a - b)) :: st) h) ∧
  (∀ (v0 v1 v2 : ZV) (L st : List ZV) (h : PH), zev kX1_isDeparture 21 L (v2 :: v1 :: v0 :: st) h = if zcat st ≤ 8 then zk kX1_isDeparture 21 24 L st (mX1_isIn [v0, v1, v2] h) else none) ∧
  (∀ (a : Int) (L st : List ZV) (h : PH), zev kX1_isDeparture 24 L (zvi a :: st) h = if a = 0 then zev kX1_isDeparture 31 L st h else zev kX1_isDeparture 27 L st h) ∧
  (∀ (L st : List ZV) (h : PH), zev kX1_isDeparture 27 L st h = zev kX1_isDeparture 28 L (zvi 1 :: st) h) ∧
  (∀ (L st : List ZV) (h : PH), zev kX1_isDeparture 28 L st h = zev kX1_isDeparture 32 L st h) ∧
  (∀ (L st : List ZV) (h : PH), zev kX1_isDeparture 31 L st h = zev kX1_isDeparture 32 L (zvi 0 :: st) h) ∧
  (∀ (a : Int) (L : List ZV) (h : PH), zev kX1_isDeparture 32 L [zvi a] h = if a = 0 ∨ a = 1 then zrv (zvi a) h else none) :=
  ⟨fun a L st h => e_ld0R (n := 1) rfl,
  fun q L st h => e_getR (kd := 16) (k := 5) (n := 4) rfl,
  fun L st h => e_null0 (t := 31) (n := 7) rfl,
  fun q L st h => e_null1 (t := 31) (n := 7) rfl,
  fun x0 a L st h => e_ld1I (n := 8) rfl,
  fun L st h => e_push (v := zvi 0) (n := 9) rfl,
  fun a L st h => e_ld0R (n := 10) rfl,
  fun q L st h => e_getR (kd := 16) (k := 5) (n := 13) rfl,
  fun q L st h => e_getR (kd := 20) (k := 4) (n := 16) rfl,
  fun q L st h => e_callV1 (F := mJ7_size) (kd := 29) (n := 19) rfl,
  fun L st h => e_push (v := zvi 1) (n := 20) rfl,
  fun a b L st h => e_bin (f := (fun a b => w32 (a - b))) (n := 21) rfl,
  fun v0 v1 v2 L st h => e_callS3 (F := mX1_isIn) (n := 24) rfl,
  fun a L st h => e_ifeq (t := 31) (n := 27) rfl,
  fun L st h => e_push (v := zvi 1) (n := 28) rfl,
  fun L st h => e_goto (t := 32) rfl,
  fun L st h => e_push (v := zvi 0) (n := 32) rfl,
  fun a L h => e_retz rfl⟩
theorem allX1_isDeparture : zall yX1_isDeparture cX1_isDeparture 2 (some .boolean) 2 kX1_isDeparture.1 :=
  ⟨k_aload_n dX1_isDeparture_0,
  k_getR (C := RX1) (T := TX1) (N := 19) (ci := 0) (k := 5) (ref := "LinkTimes") dX1_isDeparture_1 rfl in_X1 (by decide) q308 (Or.inl rfl) (fun _ _ _ => rfl),
  k_null (t := 31) dX1_isDeparture_4 (by decide),
  k_iload_n dX1_isDeparture_7,
  k_iconst dX1_isDeparture_8,
  k_aload_n dX1_isDeparture_9,
  k_getR (C := RX1) (T := TX1) (N := 19) (ci := 0) (k := 5) (ref := "LinkTimes") dX1_isDeparture_10 rfl in_X1 (by decide) q308 (Or.inl rfl) (fun _ _ _ => rfl),
  k_getRN (C := RX6) (T := TX6) (N := 5) (ci := 4) (k := 4) (ref := "LinkTimes$Desk") dX1_isDeparture_13 rfl in_X6 (by decide) q430 (Or.inl rfl) (fun _ _ _ => rfl),
  k_callV (y2 := yJ7_size) (C := RJ7) (T0 := TJ7) (ci := 13) dX1_isDeparture_16 sndJ7_size rfl q936 q652 q653 q141 q654 (by decide +kernel) ⟨by decide, by decide⟩ (by decide) (by decide),
  k_iconst dX1_isDeparture_19,
  k_isub dX1_isDeparture_20,
  k_callS (y2 := yX1_isIn) dX1_isDeparture_21 sndX1_isIn q375 q376 q128 q377 (by decide +kernel) ⟨by decide, by decide⟩ (by decide) (by decide),
  k_ifeq (t := 31) dX1_isDeparture_24 (by decide),
  k_iconst dX1_isDeparture_27,
  k_goto (t := 32) dX1_isDeparture_28 (by decide),
  k_iconst dX1_isDeparture_31,
  k_zret dX1_isDeparture_32, trivial⟩
theorem sndX1_isDeparture : MSound 2 yX1_isDeparture (ws_ yX1_isDeparture cX1_isDeparture 2 (some .boolean)) mX1_isDeparture := msound_M (by decide) allX1_isDeparture (fun _ _ => rfl)
/-! LinkTimes.departure(II)I -/
noncomputable def kX1_departure : ZM := ([(0, zi_ld 1 0 1), (1, zi_ld 0 1 2), (2, zi_callV mX1_isDeparture 16 2 5), (5, zi_if (fun a => zc_ne a 0) 14 8), (8, zi_ld 1 0 9), (9, zi_push (zvi 1) 10), (10, zi_callV mX1_refused 16 2 13), (13, zi_retv 0), (14, zi_ld 1 0 15), (15, zi_getR 16 5 18), (18, zi_getR 20 4 21), (21, zi_ld 0 1 22), (22, zi_callV mJ7_get 29 2 25), (25, zi_cast zokDep 28), (28, zi_st 1 3 29), (29, zi_ld 0 2 30), (30, zi_sw 0 7 [76, 85, 94, 103, 112, 121, 130, 147] 156), (76, zi_ld 1 0 77), (77, zi_ld 1 3 78), (78, zi_getI 22 2 81), (81, zi_callV mX1_fine 16 2 84), (84, zi_retv 0), (85, zi_ld 1 0 86), (86, zi_ld 1 3 87), (87, zi_getI 22 3 90), (90, zi_callV mX1_fine 16 2 93), (93, zi_retv 0), (94, zi_ld 1 0 95), (95, zi_ld 1 3 96), (96, zi_getI 22 4 99), (99, zi_callV mX1_fine 16 2 102), (102, zi_retv 0), (103, zi_ld 1 0 104), (104, zi_ld 1 3 105), (105, zi_callV mX11_leaves 22 1 108), (108, zi_callV mX1_fine 16 2 111), (111, zi_retv 0), (112, zi_ld 1 0 113), (113, zi_ld 1 3 114), (114, zi_callV mX11_arrives 22 1 117), (117, zi_callV mX1_fine 16 2 120), (120, zi_retv 0), (121, zi_ld 1 0 122), (122, zi_ld 1 3 123), (123, zi_getI 22 7 126), (126, zi_callV mX1_fine 16 2 129), (129, zi_retv 0), (130, zi_ld 1 0 131), (131, zi_ld 1 3 132), (132, zi_getI 22 8 135), (135, zi_if (fun a => zc_eq a 0) 142 138), (138, zi_push (zvi 1) 139), (139, zi_goto 143), (142, zi_push (zvi 0) 143), (143, zi_callV mX1_fine 16 2 146), (146, zi_retv 0), (147, zi_ld 1 0 148), (148, zi_ld 1 3 149), (149, zi_getI 22 1 152), (152, zi_callV mX1_fine 16 2 155), (155, zi_retv 0), (156, zi_ld 1 0 157), (157, zi_push (zvi 1) 158), (158, zi_callV mX1_refused 16 2 161), (161, zi_retv 0)], fun _ _ => none)
noncomputable def mX1_departure : ZF := zrunM kX1_departure 4
theorem enX1_departure (x0 : Option Nat) (x1 : Int) (x2 : Int) (h : PH) : mX1_departure [zvr x0, zvi x1, zvi x2] h = zev kX1_departure 0 [zvr x0, zvi x1, zvi x2, zvu] [] h := zrunM_eq rfl rfl
theorem rX1_departure : (∀ (a : Option Nat) (L st : List ZV) (h : PH), zev kX1_departure 0 (zvr a :: L) st h = zev kX1_departure 1 (zvr a :: L) (zvr a :: st) h) ∧
  (∀ (x0 : ZV) (a : Int) (L st : List ZV) (h : PH), zev kX1_departure 1 (x0 :: zvi a :: L) st h = zev kX1_departure 2 (x0 :: zvi a :: L) (zvi a :: st) h) ∧
  (∀ (v0 : ZV) (q : Nat) (L st : List ZV) (h : PH), zev kX1_departure 2 L (v0 :: zvr (some q) :: st) h = if (ph_K h q).1 % 1000 = 16 ∧ zcat st ≤ 8 then zk kX1_departure 2 5 L st (mX1_isDeparture [zvr (some q), v0] h) else none) ∧
  (∀ (a : Int) (L st : List ZV) (h : PH), zev kX1_departure 5 L (zvi a :: st) h = if a ≠ 0 then zev kX1_departure 14 L st h else zev kX1_departure 8 L st h) ∧
  (∀ (a : Option Nat) (L st : List ZV) (h : PH), zev kX1_departure 8 (zvr a :: L) st h = zev kX1_departure 9 (zvr a :: L) (zvr a :: st) h) ∧
  (∀ (L st : List ZV) (h : PH), zev kX1_departure 9 L st h = zev kX1_departure 10 L (zvi 1 :: st) h) ∧
  (∀ (v0 : ZV) (q : Nat) (L st : List ZV) (h : PH), zev kX1_departure 10 L (v0 :: zvr (some q) :: st) h = if (ph_K h q).1 % 1000 = 16 ∧ zcat st ≤ 8 then zk kX1_departure 10 13 L st (mX1_refused [zvr (some q), v0] h) else none) ∧
  (∀ (a : Int) (L : List ZV) (h : PH), zev kX1_departure 13 L [zvi a] h = zrv (zvi a) h) ∧
  (∀ (a : Option Nat) (L st : List ZV) (h : PH), zev kX1_departure 14 (zvr a :: L) st h = zev kX1_departure 15 (zvr a :: L) (zvr a :: st) h) ∧
  (∀ (q : Nat) (L st : List ZV) (h : PH), zev kX1_departure 15 L (zvr (some q) :: st) h = if (ph_K h q).1 % 1000 = 16 then zev kX1_departure 18 L (zvr (ph_R h q 5) :: st) h else none) ∧
  (∀ (q : Nat) (L st : List ZV) (h : PH), zev kX1_departure 18 L (zvr (some q) :: st) h = if (ph_K h q).1 % 1000 = 20 then zev kX1_departure 21 L (zvr (ph_R h q 4) :: st) h else none) ∧
  (∀ (x0 : ZV) (a : Int) (L st : List ZV) (h : PH), zev kX1_departure 21 (x0 :: zvi a :: L) st h = zev kX1_departure 22 (x0 :: zvi a :: L) (zvi a :: st) h) ∧
  (∀ (v0 : ZV) (q : Nat) (L st : List ZV) (h : PH), zev kX1_departure 22 L (v0 :: zvr (some q) :: st) h = if (ph_K h q).1 % 1000 = 29 ∧ zcat st ≤ 8 then zk kX1_departure 22 25 L st (mJ7_get [zvr (some q), v0] h) else none) ∧
  (∀ (L st : List ZV) (h : PH), zev kX1_departure 25 L (zvr none :: st) h = zev kX1_departure 28 L (zvr none :: st) h) ∧
  (∀ (q : Nat) (L st : List ZV) (h : PH), zev kX1_departure 25 L (zvr (some q) :: st) h = if zokDep (ph_K h q).1 = true then zev kX1_departure 28 L (zvr (some q) :: st) h else none) ∧
  (∀ (x0 x1 x2 x3 : ZV) (a : Option Nat) (L st : List ZV) (h : PH) (hx : zisL x2 = false) , zev kX1_departure 28 (x0 :: x1 :: x2 :: x3 :: L) (zvr a :: st) h = zev kX1_departure 29 (x0 :: x1 :: x2 :: zvr a :: L) st h) ∧
  (∀ (x0 x1 : ZV) (a : Int) (L st : List ZV) (h : PH), zev kX1_departure 29 (x0 :: x1 :: zvi a :: L) st h = zev kX1_departure 30 (x0 :: x1 :: zvi a :: L) (zvi a :: st) h) ∧
  (∀ (a : Int) (L st : List ZV) (h : PH), zev kX1_departure 30 L (zvi a :: st) h = zev kX1_departure (zswt 0 7 [76, 85, 94, 103, 112, 121, 130, 147] 156 a) L st h) ∧
  (∀ (a : Option Nat) (L st : List ZV) (h : PH), zev kX1_departure 76 (zvr a :: L) st h = zev kX1_departure 77 (zvr a :: L) (zvr a :: st) h) ∧
  (∀ (x0 x1 x2 : ZV) (a : Option Nat) (L st : List ZV) (h : PH), zev kX1_departure 77 (x0 :: x1 :: x2 :: zvr a :: L) st h = zev kX1_departure 78 (x0 :: x1 :: x2 :: zvr a :: L) (zvr a :: st) h) ∧
  (∀ (q : Nat) (L st : List ZV) (h : PH), zev kX1_departure 78 L (zvr (some q) :: st) h = if (ph_K h q).1 % 1000 = 22 then zev kX1_departure 81 L (zvi (ph_I h q 2) :: st) h else none) ∧
  (∀ (v0 : ZV) (q : Nat) (L st : List ZV) (h : PH), zev kX1_departure 81 L (v0 :: zvr (some q) :: st) h = if (ph_K h q).1 % 1000 = 16 ∧ zcat st ≤ 8 then zk kX1_departure 81 84 L st (mX1_fine [zvr (some q), v0] h) else none) ∧
  (∀ (a : Int) (L : List ZV) (h : PH), zev kX1_departure 84 L [zvi a] h = zrv (zvi a) h) ∧
  (∀ (a : Option Nat) (L st : List ZV) (h : PH), zev kX1_departure 85 (zvr a :: L) st h = zev kX1_departure 86 (zvr a :: L) (zvr a :: st) h) ∧
  (∀ (x0 x1 x2 : ZV) (a : Option Nat) (L st : List ZV) (h : PH), zev kX1_departure 86 (x0 :: x1 :: x2 :: zvr a :: L) st h = zev kX1_departure 87 (x0 :: x1 :: x2 :: zvr a :: L) (zvr a :: st) h) ∧
  (∀ (q : Nat) (L st : List ZV) (h : PH), zev kX1_departure 87 L (zvr (some q) :: st) h = if (ph_K h q).1 % 1000 = 22 then zev kX1_departure 90 L (zvi (ph_I h q 3) :: st) h else none) ∧
  (∀ (v0 : ZV) (q : Nat) (L st : List ZV) (h : PH), zev kX1_departure 90 L (v0 :: zvr (some q) :: st) h = if (ph_K h q).1 % 1000 = 16 ∧ zcat st ≤ 8 then zk kX1_departure 90 93 L st (mX1_fine [zvr (some q), v0] h) else none) ∧
  (∀ (a : Int) (L : List ZV) (h : PH), zev kX1_departure 93 L [zvi a] h = zrv (zvi a) h) ∧
  (∀ (a : Option Nat) (L st : List ZV) (h : PH), zev kX1_departure 94 (zvr a :: L) st h = zev kX1_departure 95 (zvr a :: L) (zvr a :: st) h) ∧
  (∀ (x0 x1 x2 : ZV) (a : Option Nat) (L st : List ZV) (h : PH), zev kX1_departure 95 (x0 :: x1 :: x2 :: zvr a :: L) st h = zev kX1_departure 96 (x0 :: x1 :: x2 :: zvr a :: L) (zvr a :: st) h) ∧
  (∀ (q : Nat) (L st : List ZV) (h : PH), zev kX1_departure 96 L (zvr (some q) :: st) h = if (ph_K h q).1 % 1000 = 22 then zev kX1_departure 99 L (zvi (ph_I h q 4) :: st) h else none) ∧
  (∀ (v0 : ZV) (q : Nat) (L st : List ZV) (h : PH), zev kX1_departure 99 L (v0 :: zvr (some q) :: st) h = if (ph_K h q).1 % 1000 = 16 ∧ zcat st ≤ 8 then zk kX1_departure 99 102 L st (mX1_fine [zvr (some q), v0] h) else none) ∧
  (∀ (a : Int) (L : List ZV) (h : PH), zev kX1_departure 102 L [zvi a] h = zrv (zvi a) h) ∧
  (∀ (a : Option Nat) (L st : List ZV) (h : PH), zev kX1_departure 103 (zvr a :: L) st h = zev kX1_departure 104 (zvr a :: L) (zvr a :: st) h) ∧
  (∀ (x0 x1 x2 : ZV) (a : Option Nat) (L st : List ZV) (h : PH), zev kX1_departure 104 (x0 :: x1 :: x2 :: zvr a :: L) st h = zev kX1_departure 105 (x0 :: x1 :: x2 :: zvr a :: L) (zvr a :: st) h) ∧
  (∀ (q : Nat) (L st : List ZV) (h : PH), zev kX1_departure 105 L (zvr (some q) :: st) h = if (ph_K h q).1 % 1000 = 22 ∧ zcat st ≤ 8 then zk kX1_departure 105 108 L st (mX11_leaves [zvr (some q)] h) else none) ∧
  (∀ (v0 : ZV) (q : Nat) (L st : List ZV) (h : PH), zev kX1_departure 108 L (v0 :: zvr (some q) :: st) h = if (ph_K h q).1 % 1000 = 16 ∧ zcat st ≤ 8 then zk kX1_departure 108 111 L st (mX1_fine [zvr (some q), v0] h) else none) ∧
  (∀ (a : Int) (L : List ZV) (h : PH), zev kX1_departure 111 L [zvi a] h = zrv (zvi a) h) ∧
  (∀ (a : Option Nat) (L st : List ZV) (h : PH), zev kX1_departure 112 (zvr a :: L) st h = zev kX1_departure 113 (zvr a :: L) (zvr a :: st) h) ∧
  (∀ (x0 x1 x2 : ZV) (a : Option Nat) (L st : List ZV) (h : PH), zev kX1_departure 113 (x0 :: x1 :: x2 :: zvr a :: L) st h = zev kX1_departure 114 (x0 :: x1 :: x2 :: zvr a :: L) (zvr a :: st) h) ∧
  (∀ (q : Nat) (L st : List ZV) (h : PH), zev kX1_departure 114 L (zvr (some q) :: st) h = if (ph_K h q).1 % 1000 = 22 ∧ zcat st ≤ 8 then zk kX1_departure 114 117 L st (mX11_arrives [zvr (some q)] h) else none) ∧
  (∀ (v0 : ZV) (q : Nat) (L st : List ZV) (h : PH), zev kX1_departure 117 L (v0 :: zvr (some q) :: st) h = if (ph_K h q).1 % 1000 = 16 ∧ zcat st ≤ 8 then zk kX1_departure 117 120 L st (mX1_fine [zvr (some q), v0] h) else none) ∧
  (∀ (a : Int) (L : List ZV) (h : PH), zev kX1_departure 120 L [zvi a] h = zrv (zvi a) h) ∧
  (∀ (a : Option Nat) (L st : List ZV) (h : PH), zev kX1_departure 121 (zvr a :: L) st h = zev kX1_departure 122 (zvr a :: L) (zvr a :: st) h) ∧
  (∀ (x0 x1 x2 : ZV) (a : Option Nat) (L st : List ZV) (h : PH), zev kX1_departure 122 (x0 :: x1 :: x2 :: zvr a :: L) st h = zev kX1_departure 123 (x0 :: x1 :: x2 :: zvr a :: L) (zvr a :: st) h) ∧
  (∀ (q : Nat) (L st : List ZV) (h : PH), zev kX1_departure 123 L (zvr (some q) :: st) h = if (ph_K h q).1 % 1000 = 22 then zev kX1_departure 126 L (zvi (ph_I h q 7) :: st) h else none) ∧
  (∀ (v0 : ZV) (q : Nat) (L st : List ZV) (h : PH), zev kX1_departure 126 L (v0 :: zvr (some q) :: st) h = if (ph_K h q).1 % 1000 = 16 ∧ zcat st ≤ 8 then zk kX1_departure 126 129 L st (mX1_fine [zvr (some q), v0] h) else none) ∧
  (∀ (a : Int) (L : List ZV) (h : PH), zev kX1_departure 129 L [zvi a] h = zrv (zvi a) h) ∧
  (∀ (a : Option Nat) (L st : List ZV) (h : PH), zev kX1_departure 130 (zvr a :: L) st h = zev kX1_departure 131 (zvr a :: L) (zvr a :: st) h) ∧
  (∀ (x0 x1 x2 : ZV) (a : Option Nat) (L st : List ZV) (h : PH), zev kX1_departure 131 (x0 :: x1 :: x2 :: zvr a :: L) st h = zev kX1_departure 132 (x0 :: x1 :: x2 :: zvr a :: L) (zvr a :: st) h) ∧
  (∀ (q : Nat) (L st : List ZV) (h : PH), zev kX1_departure 132 L (zvr (some q) :: st) h = if (ph_K h q).1 % 1000 = 22 then zev kX1_departure 135 L (zvi (ph_I h q 8) :: st) h else none) ∧
  (∀ (a : Int) (L st : List ZV) (h : PH), zev kX1_departure 135 L (zvi a :: st) h = if a = 0 then zev kX1_departure 142 L st h else zev kX1_departure 138 L st h) ∧
  (∀ (L st : List ZV) (h : PH), zev kX1_departure 138 L st h = zev kX1_departure 139 L (zvi 1 :: st) h) ∧
  (∀ (L st : List ZV) (h : PH), zev kX1_departure 139 L st h = zev kX1_departure 143 L st h) ∧
  (∀ (L st : List ZV) (h : PH), zev kX1_departure 142 L st h = zev kX1_departure 143 L (zvi 0 :: st) h) ∧
  (∀ (v0 : ZV) (q : Nat) (L st : List ZV) (h : PH), zev kX1_departure 143 L (v0 :: zvr (some q) :: st) h = if (ph_K h q).1 % 1000 = 16 ∧ zcat st ≤ 8 then zk kX1_departure 143 146 L st (mX1_fine [zvr (some q), v0] h) else none) ∧
  (∀ (a : Int) (L : List ZV) (h : PH), zev kX1_departure 146 L [zvi a] h = zrv (zvi a) h) ∧
  (∀ (a : Option Nat) (L st : List ZV) (h : PH), zev kX1_departure 147 (zvr a :: L) st h = zev kX1_departure 148 (zvr a :: L) (zvr a :: st) h) ∧
  (∀ (x0 x1 x2 : ZV) (a : Option Nat) (L st : List ZV) (h : PH), zev kX1_departure 148 (x0 :: x1 :: x2 :: zvr a :: L) st h = zev kX1_departure 149 (x0 :: x1 :: x2 :: zvr a :: L) (zvr a :: st) h) ∧
  (∀ (q : Nat) (L st : List ZV) (h : PH), zev kX1_departure 149 L (zvr (some q) :: st) h = if (ph_K h q).1 % 1000 = 22 then zev kX1_departure 152 L (zvi (ph_I h q 1) :: st) h else none) ∧
  (∀ (v0 : ZV) (q : Nat) (L st : List ZV) (h : PH), zev kX1_departure 152 L (v0 :: zvr (some q) :: st) h = if (ph_K h q).1 % 1000 = 16 ∧ zcat st ≤ 8 then zk kX1_departure 152 155 L st (mX1_fine [zvr (some q), v0] h) else none) ∧
  (∀ (a : Int) (L : List ZV) (h : PH), zev kX1_departure 155 L [zvi a] h = zrv (zvi a) h) ∧
  (∀ (a : Option Nat) (L st : List ZV) (h : PH), zev kX1_departure 156 (zvr a :: L) st h = zev kX1_departure 157 (zvr a :: L) (zvr a :: st) h) ∧
  (∀ (L st : List ZV) (h : PH), zev kX1_departure 157 L st h = zev kX1_departure 158 L (zvi 1 :: st) h) ∧
  (∀ (v0 : ZV) (q : Nat) (L st : List ZV) (h : PH), zev kX1_departure 158 L (v0 :: zvr (some q) :: st) h = if (ph_K h q).1 % 1000 = 16 ∧ zcat st ≤ 8 then zk kX1_departure 158 161 L st (mX1_refused [zvr (some q), v0] h) else none) ∧
  (∀ (a : Int) (L : List ZV) (h : PH), zev kX1_departure 161 L [zvi a] h = zrv (zvi a) h) :=
  ⟨fun a L st h => e_ld0R (n := 1) rfl,
  fun x0 a L st h => e_ld1I (n := 2) rfl,
  fun v0 q L st h => e_callV2 (F := mX1_isDeparture) (kd := 16) (n := 5) rfl,
  fun a L st h => e_ifne (t := 14) (n := 8) rfl,
  fun a L st h => e_ld0R (n := 9) rfl,
  fun L st h => e_push (v := zvi 1) (n := 10) rfl,
  fun v0 q L st h => e_callV2 (F := mX1_refused) (kd := 16) (n := 13) rfl,
  fun a L h => e_retI rfl,
  fun a L st h => e_ld0R (n := 15) rfl,
  fun q L st h => e_getR (kd := 16) (k := 5) (n := 18) rfl,
  fun q L st h => e_getR (kd := 20) (k := 4) (n := 21) rfl,
  fun x0 a L st h => e_ld1I (n := 22) rfl,
  fun v0 q L st h => e_callV2 (F := mJ7_get) (kd := 29) (n := 25) rfl,
  fun L st h => e_cast0 (ok := zokDep) (n := 28) rfl,
  fun q L st h => e_cast1 (ok := zokDep) (n := 28) rfl,
  fun x0 x1 x2 x3 a L st h hx => e_st3R (n := 29) rfl hx,
  fun x0 x1 a L st h => e_ld2I (n := 30) rfl,
  fun a L st h => e_sw (lo := 0) (hi := 7) (ts := [76, 85, 94, 103, 112, 121, 130, 147]) (d := 156) rfl,
  fun a L st h => e_ld0R (n := 77) rfl,
  fun x0 x1 x2 a L st h => e_ld3R (n := 78) rfl,
  fun q L st h => e_getI (kd := 22) (k := 2) (n := 81) rfl,
  fun v0 q L st h => e_callV2 (F := mX1_fine) (kd := 16) (n := 84) rfl,
  fun a L h => e_retI rfl,
  fun a L st h => e_ld0R (n := 86) rfl,
  fun x0 x1 x2 a L st h => e_ld3R (n := 87) rfl,
  fun q L st h => e_getI (kd := 22) (k := 3) (n := 90) rfl,
  fun v0 q L st h => e_callV2 (F := mX1_fine) (kd := 16) (n := 93) rfl,
  fun a L h => e_retI rfl,
  fun a L st h => e_ld0R (n := 95) rfl,
  fun x0 x1 x2 a L st h => e_ld3R (n := 96) rfl,
  fun q L st h => e_getI (kd := 22) (k := 4) (n := 99) rfl,
  fun v0 q L st h => e_callV2 (F := mX1_fine) (kd := 16) (n := 102) rfl,
  fun a L h => e_retI rfl,
  fun a L st h => e_ld0R (n := 104) rfl,
  fun x0 x1 x2 a L st h => e_ld3R (n := 105) rfl,
  fun q L st h => e_callV1 (F := mX11_leaves) (kd := 22) (n := 108) rfl,
  fun v0 q L st h => e_callV2 (F := mX1_fine) (kd := 16) (n := 111) rfl,
  fun a L h => e_retI rfl,
  fun a L st h => e_ld0R (n := 113) rfl,
  fun x0 x1 x2 a L st h => e_ld3R (n := 114) rfl,
  fun q L st h => e_callV1 (F := mX11_arrives) (kd := 22) (n := 117) rfl,
  fun v0 q L st h => e_callV2 (F := mX1_fine) (kd := 16) (n := 120) rfl,
  fun a L h => e_retI rfl,
  fun a L st h => e_ld0R (n := 122) rfl,
  fun x0 x1 x2 a L st h => e_ld3R (n := 123) rfl,
  fun q L st h => e_getI (kd := 22) (k := 7) (n := 126) rfl,
  fun v0 q L st h => e_callV2 (F := mX1_fine) (kd := 16) (n := 129) rfl,
  fun a L h => e_retI rfl,
  fun a L st h => e_ld0R (n := 131) rfl,
  fun x0 x1 x2 a L st h => e_ld3R (n := 132) rfl,
  fun q L st h => e_getI (kd := 22) (k := 8) (n := 135) rfl,
  fun a L st h => e_ifeq (t := 142) (n := 138) rfl,
  fun L st h => e_push (v := zvi 1) (n := 139) rfl,
  fun L st h => e_goto (t := 143) rfl,
  fun L st h => e_push (v := zvi 0) (n := 143) rfl,
  fun v0 q L st h => e_callV2 (F := mX1_fine) (kd := 16) (n := 146) rfl,
  fun a L h => e_retI rfl,
  fun a L st h => e_ld0R (n := 148) rfl,
  fun x0 x1 x2 a L st h => e_ld3R (n := 149) rfl,
  fun q L st h => e_getI (kd := 22) (k := 1) (n := 152) rfl,
  fun v0 q L st h => e_callV2 (F := mX1_fine) (kd := 16) (n := 155) rfl,
  fun a L h => e_retI rfl,
  fun a L st h => e_ld0R (n := 157) rfl,
  fun L st h => e_push (v := zvi 1) (n := 158) rfl,
  fun v0 q L st h => e_callV2 (F := mX1_refused) (kd := 16) (n := 161) rfl,
  fun a L h => e_retI rfl⟩
theorem allX1_departure : zall yX1_departure cX1_departure 4 (some .int) 4 kX1_departure.1 :=
  ⟨k_aload_n dX1_departure_0,
  k_iload_n dX1_departure_1,
  k_callV (y2 := yX1_isDeparture) (C := RX1) (T0 := TX1) (ci := 0) dX1_departure_2 sndX1_isDeparture rfl q1255 q1257 qs35 q128 q1258 (by decide +kernel) ⟨by decide, by decide⟩ (by decide) (by decide),
  k_ifne (t := 14) dX1_departure_5 (by decide),
  k_aload_n dX1_departure_8,
  k_iconst dX1_departure_9,
  k_callV (y2 := yX1_refused) (C := RX1) (T0 := TX1) (ci := 0) dX1_departure_10 sndX1_refused rfl q378 q380 qs1 q128 q381 (by decide +kernel) ⟨by decide, by decide⟩ (by decide) (by decide),
  k_iret dX1_departure_13,
  k_aload_n dX1_departure_14,
  k_getR (C := RX1) (T := TX1) (N := 19) (ci := 0) (k := 5) (ref := "LinkTimes") dX1_departure_15 rfl in_X1 (by decide) q308 (Or.inl rfl) (fun _ _ _ => rfl),
  k_getRN (C := RX6) (T := TX6) (N := 5) (ci := 4) (k := 4) (ref := "LinkTimes$Desk") dX1_departure_18 rfl in_X6 (by decide) q430 (Or.inl rfl) (fun _ _ _ => rfl),
  k_iload_n dX1_departure_21,
  k_callV (y2 := yJ7_get) (C := RJ7) (T0 := TJ7) (ci := 13) dX1_departure_22 sndJ7_get rfl q937 q695 q696 q141 q697 (by decide +kernel) ⟨by decide, by decide⟩ (by decide) (by decide),
  k_cast (nm := "LinkTimes$Departure") dX1_departure_25 q938 zokDep_can,
  k_astore_n dX1_departure_28,
  k_iload_n dX1_departure_29,
  k_sw (ts := [76, 85, 94, 103, 112, 121, 130, 147]) (dt := 156) dX1_departure_30 (by decide) (by decide) (by decide),
  k_aload_n dX1_departure_76,
  k_aload_n dX1_departure_77,
  k_getIN (C := RX11) (T := TX11) (N := 9) (ci := 6) (k := 2) (ref := "LinkTimes$Departure") dX1_departure_78 rfl in_X11 (by decide) q856 (Or.inl rfl) (fun _ _ _ => rfl),
  k_callV (y2 := yX1_fine) (C := RX1) (T0 := TX1) (ci := 0) dX1_departure_81 sndX1_fine rfl q1211 q1213 qs32 q128 q1214 (by decide +kernel) ⟨by decide, by decide⟩ (by decide) (by decide),
  k_iret dX1_departure_84,
  k_aload_n dX1_departure_85,
  k_aload_n dX1_departure_86,
  k_getIN (C := RX11) (T := TX11) (N := 9) (ci := 6) (k := 3) (ref := "LinkTimes$Departure") dX1_departure_87 rfl in_X11 (by decide) q859 (Or.inl rfl) (fun _ _ _ => rfl),
  k_callV (y2 := yX1_fine) (C := RX1) (T0 := TX1) (ci := 0) dX1_departure_90 sndX1_fine rfl q1211 q1213 qs32 q128 q1214 (by decide +kernel) ⟨by decide, by decide⟩ (by decide) (by decide),
  k_iret dX1_departure_93,
  k_aload_n dX1_departure_94,
  k_aload_n dX1_departure_95,
  k_getIN (C := RX11) (T := TX11) (N := 9) (ci := 6) (k := 4) (ref := "LinkTimes$Departure") dX1_departure_96 rfl in_X11 (by decide) q862 (Or.inl rfl) (fun _ _ _ => rfl),
  k_callV (y2 := yX1_fine) (C := RX1) (T0 := TX1) (ci := 0) dX1_departure_99 sndX1_fine rfl q1211 q1213 qs32 q128 q1214 (by decide +kernel) ⟨by decide, by decide⟩ (by decide) (by decide),
  k_iret dX1_departure_102,
  k_aload_n dX1_departure_103,
  k_aload_n dX1_departure_104,
  k_callV (y2 := yX11_leaves) (C := RX11) (T0 := TX11) (ci := 6) dX1_departure_105 sndX11_leaves rfl q1259 q1145 q1146 q160 q1147 (by decide +kernel) ⟨by decide, by decide⟩ (by decide) (by decide),
  k_callV (y2 := yX1_fine) (C := RX1) (T0 := TX1) (ci := 0) dX1_departure_108 sndX1_fine rfl q1211 q1213 qs32 q128 q1214 (by decide +kernel) ⟨by decide, by decide⟩ (by decide) (by decide),
  k_iret dX1_departure_111,
  k_aload_n dX1_departure_112,
  k_aload_n dX1_departure_113,
  k_callV (y2 := yX11_arrives) (C := RX11) (T0 := TX11) (ci := 6) dX1_departure_114 sndX11_arrives rfl q1260 q1261 q1262 q160 q1263 (by decide +kernel) ⟨by decide, by decide⟩ (by decide) (by decide),
  k_callV (y2 := yX1_fine) (C := RX1) (T0 := TX1) (ci := 0) dX1_departure_117 sndX1_fine rfl q1211 q1213 qs32 q128 q1214 (by decide +kernel) ⟨by decide, by decide⟩ (by decide) (by decide),
  k_iret dX1_departure_120,
  k_aload_n dX1_departure_121,
  k_aload_n dX1_departure_122,
  k_getIN (C := RX11) (T := TX11) (N := 9) (ci := 6) (k := 7) (ref := "LinkTimes$Departure") dX1_departure_123 rfl in_X11 (by decide) q868 (Or.inl rfl) (fun _ _ _ => rfl),
  k_callV (y2 := yX1_fine) (C := RX1) (T0 := TX1) (ci := 0) dX1_departure_126 sndX1_fine rfl q1211 q1213 qs32 q128 q1214 (by decide +kernel) ⟨by decide, by decide⟩ (by decide) (by decide),
  k_iret dX1_departure_129,
  k_aload_n dX1_departure_130,
  k_aload_n dX1_departure_131,
  k_getIN (C := RX11) (T := TX11) (N := 9) (ci := 6) (k := 8) (ref := "LinkTimes$Departure") dX1_departure_132 rfl in_X11 (by decide) q871 (Or.inl rfl) (fun _ _ _ => rfl),
  k_ifeq (t := 142) dX1_departure_135 (by decide),
  k_iconst dX1_departure_138,
  k_goto (t := 143) dX1_departure_139 (by decide),
  k_iconst dX1_departure_142,
  k_callV (y2 := yX1_fine) (C := RX1) (T0 := TX1) (ci := 0) dX1_departure_143 sndX1_fine rfl q1211 q1213 qs32 q128 q1214 (by decide +kernel) ⟨by decide, by decide⟩ (by decide) (by decide),
  k_iret dX1_departure_146,
  k_aload_n dX1_departure_147,
  k_aload_n dX1_departure_148,
  k_getIN (C := RX11) (T := TX11) (N := 9) (ci := 6) (k := 1) (ref := "LinkTimes$Departure") dX1_departure_149 rfl in_X11 (by decide) q853 (Or.inl rfl) (fun _ _ _ => rfl),
  k_callV (y2 := yX1_fine) (C := RX1) (T0 := TX1) (ci := 0) dX1_departure_152 sndX1_fine rfl q1211 q1213 qs32 q128 q1214 (by decide +kernel) ⟨by decide, by decide⟩ (by decide) (by decide),
  k_iret dX1_departure_155,
  k_aload_n dX1_departure_156,
  k_iconst dX1_departure_157,
  k_callV (y2 := yX1_refused) (C := RX1) (T0 := TX1) (ci := 0) dX1_departure_158 sndX1_refused rfl q378 q380 qs1 q128 q381 (by decide +kernel) ⟨by decide, by decide⟩ (by decide) (by decide),
  k_iret dX1_departure_161, trivial⟩
theorem sndX1_departure : MSound 4 yX1_departure (ws_ yX1_departure cX1_departure 4 (some .int)) mX1_departure := msound_M (by decide) allX1_departure (fun _ _ => rfl)
/-! LinkTimes.ordered(I)I -/
noncomputable def kX1_ordered : ZM := ([(0, zi_ld 1 0 1), (1, zi_getR 16 5 4), (4, zi_null 24 7), (7, zi_ld 0 1 8), (8, zi_push (zvi 0) 9), (9, zi_ld 1 0 10), (10, zi_getR 16 6 13), (13, zi_callV mJ2_size 31 1 16), (16, zi_push (zvi 1) 17), (17, zi_bin (fun a b => w32 (a - b)) 18), (18, zi_callS mX1_isIn 3 21), (21, zi_if (fun a => zc_ne a 0) 30 24), (24, zi_ld 1 0 25), (25, zi_push (zvi 1) 26), (26, zi_callV mX1_refused 16 2 29), (29, zi_retv 0), (30, zi_ld 1 0 31), (31, zi_getR 16 6 34), (34, zi_callV mJ2_first 31 1 37), (37, zi_cast zokDep 40), (40, zi_st 1 2 41), (41, zi_push (zvi 0) 42), (42, zi_st 0 3 43), (43, zi_ld 0 3 44), (44, zi_ld 0 1 45), (45, zi_cmp zc_ge 66 48), (48, zi_ld 1 0 49), (49, zi_getR 16 6 52), (52, zi_ld 1 2 53), (53, zi_callV mJ2_higher 31 2 56), (56, zi_cast zokDep 59), (59, zi_st 1 2 60), (60, zi_iinc 3 1 63), (63, zi_goto 43), (66, zi_ld 1 0 67), (67, zi_ld 1 2 68), (68, zi_getI 22 0 71), (71, zi_callV mX1_fine 16 2 74), (74, zi_retv 0)], fun _ _ => none)
noncomputable def mX1_ordered : ZF := zrunM kX1_ordered 4
theorem enX1_ordered (x0 : Option Nat) (x1 : Int) (h : PH) : mX1_ordered [zvr x0, zvi x1] h = zev kX1_ordered 0 [zvr x0, zvi x1, zvu, zvu] [] h := zrunM_eq rfl rfl
theorem hdX1_ordered_43 (x0 x1 x2 : ZV) (a : Int) (L st : List ZV) (h : PH) : zev kX1_ordered 43 (x0 :: x1 :: x2 :: zvi a :: L) st h = zev kX1_ordered 44 (x0 :: x1 :: x2 :: zvi a :: L) (zvi a :: st) h := e_ld3I (n := 44) rfl
theorem rX1_ordered : (∀ (a : Option Nat) (L st : List ZV) (h : PH), zev kX1_ordered 0 (zvr a :: L) st h = zev kX1_ordered 1 (zvr a :: L) (zvr a :: st) h) ∧
  (∀ (q : Nat) (L st : List ZV) (h : PH), zev kX1_ordered 1 L (zvr (some q) :: st) h = if (ph_K h q).1 % 1000 = 16 then zev kX1_ordered 4 L (zvr (ph_R h q 5) :: st) h else none) ∧
  (∀ (L st : List ZV) (h : PH), zev kX1_ordered 4 L (zvr none :: st) h = zev kX1_ordered 24 L st h) ∧
  (∀ (q : Nat) (L st : List ZV) (h : PH), zev kX1_ordered 4 L (zvr (some q) :: st) h = if (ph_K h q).1 ≠ 0 then zev kX1_ordered 7 L st h else none) ∧
  (∀ (x0 : ZV) (a : Int) (L st : List ZV) (h : PH), zev kX1_ordered 7 (x0 :: zvi a :: L) st h = zev kX1_ordered 8 (x0 :: zvi a :: L) (zvi a :: st) h) ∧
  (∀ (L st : List ZV) (h : PH), zev kX1_ordered 8 L st h = zev kX1_ordered 9 L (zvi 0 :: st) h) ∧
  (∀ (a : Option Nat) (L st : List ZV) (h : PH), zev kX1_ordered 9 (zvr a :: L) st h = zev kX1_ordered 10 (zvr a :: L) (zvr a :: st) h) ∧
  (∀ (q : Nat) (L st : List ZV) (h : PH), zev kX1_ordered 10 L (zvr (some q) :: st) h = if (ph_K h q).1 % 1000 = 16 then zev kX1_ordered 13 L (zvr (ph_R h q 6) :: st) h else none) ∧
  (∀ (q : Nat) (L st : List ZV) (h : PH), zev kX1_ordered 13 L (zvr (some q) :: st) h = if (ph_K h q).1 % 1000 = 31 ∧ zcat st ≤ 8 then zk kX1_ordered 13 16 L st (mJ2_size [zvr (some q)] h) else none) ∧
  (∀ (L st : List ZV) (h : PH), zev kX1_ordered 16 L st h = zev kX1_ordered 17 L (zvi 1 :: st) h) ∧
  (∀ (a b : Int) (L st : List ZV) (h : PH), zev kX1_ordered 17 L (zvi b :: zvi a :: st) h = zev kX1_ordered 18 L (zvi (w32 (a - b)) :: st) h) ∧
  (∀ (v0 v1 v2 : ZV) (L st : List ZV) (h : PH), zev kX1_ordered 18 L (v2 :: v1 :: v0 :: st) h = if zcat st ≤ 8 then zk kX1_ordered 18 21 L st (mX1_isIn [v0, v1, v2] h) else none) ∧
  (∀ (a : Int) (L st : List ZV) (h : PH), zev kX1_ordered 21 L (zvi a :: st) h = if a ≠ 0 then zev kX1_ordered 30 L st h else zev kX1_ordered 24 L st h) ∧
  (∀ (a : Option Nat) (L st : List ZV) (h : PH), zev kX1_ordered 24 (zvr a :: L) st h = zev kX1_ordered 25 (zvr a :: L) (zvr a :: st) h) ∧
  (∀ (L st : List ZV) (h : PH), zev kX1_ordered 25 L st h = zev kX1_ordered 26 L (zvi 1 :: st) h) ∧
  (∀ (v0 : ZV) (q : Nat) (L st : List ZV) (h : PH), zev kX1_ordered 26 L (v0 :: zvr (some q) :: st) h = if (ph_K h q).1 % 1000 = 16 ∧ zcat st ≤ 8 then zk kX1_ordered 26 29 L st (mX1_refused [zvr (some q), v0] h) else none) ∧
  (∀ (a : Int) (L : List ZV) (h : PH), zev kX1_ordered 29 L [zvi a] h = zrv (zvi a) h) ∧
  (∀ (a : Option Nat) (L st : List ZV) (h : PH), zev kX1_ordered 30 (zvr a :: L) st h = zev kX1_ordered 31 (zvr a :: L) (zvr a :: st) h) ∧
  (∀ (q : Nat) (L st : List ZV) (h : PH), zev kX1_ordered 31 L (zvr (some q) :: st) h = if (ph_K h q).1 % 1000 = 16 then zev kX1_ordered 34 L (zvr (ph_R h q 6) :: st) h else none) ∧
  (∀ (q : Nat) (L st : List ZV) (h : PH), zev kX1_ordered 34 L (zvr (some q) :: st) h = if (ph_K h q).1 % 1000 = 31 ∧ zcat st ≤ 8 then zk kX1_ordered 34 37 L st (mJ2_first [zvr (some q)] h) else none) ∧
  (∀ (L st : List ZV) (h : PH), zev kX1_ordered 37 L (zvr none :: st) h = zev kX1_ordered 40 L (zvr none :: st) h) ∧
  (∀ (q : Nat) (L st : List ZV) (h : PH), zev kX1_ordered 37 L (zvr (some q) :: st) h = if zokDep (ph_K h q).1 = true then zev kX1_ordered 40 L (zvr (some q) :: st) h else none) ∧
  (∀ (x0 x1 x2 : ZV) (a : Option Nat) (L st : List ZV) (h : PH) (hx : zisL x1 = false) , zev kX1_ordered 40 (x0 :: x1 :: x2 :: L) (zvr a :: st) h = zev kX1_ordered 41 (x0 :: x1 :: zvr a :: L) st h) ∧
  (∀ (L st : List ZV) (h : PH), zev kX1_ordered 41 L st h = zev kX1_ordered 42 L (zvi 0 :: st) h) ∧
  (∀ (x0 x1 x2 x3 : ZV) (a : Int) (L st : List ZV) (h : PH) (hx : zisL x2 = false) , zev kX1_ordered 42 (x0 :: x1 :: x2 :: x3 :: L) (zvi a :: st) h = zev kX1_ordered 43 (x0 :: x1 :: x2 :: zvi a :: L) st h) ∧
  (∀ (x0 : ZV) (a : Int) (L st : List ZV) (h : PH), zev kX1_ordered 44 (x0 :: zvi a :: L) st h = zev kX1_ordered 45 (x0 :: zvi a :: L) (zvi a :: st) h) ∧
  (∀ (a b : Int) (L st : List ZV) (h : PH), zev kX1_ordered 45 L (zvi b :: zvi a :: st) h = if a ≥ b then zev kX1_ordered 66 L st h else zev kX1_ordered 48 L st h) ∧
  (∀ (a : Option Nat) (L st : List ZV) (h : PH), zev kX1_ordered 48 (zvr a :: L) st h = zev kX1_ordered 49 (zvr a :: L) (zvr a :: st) h) ∧
  (∀ (q : Nat) (L st : List ZV) (h : PH), zev kX1_ordered 49 L (zvr (some q) :: st) h = if (ph_K h q).1 % 1000 = 16 then zev kX1_ordered 52 L (zvr (ph_R h q 6) :: st) h else none) ∧
  (∀ (x0 x1 : ZV) (a : Option Nat) (L st : List ZV) (h : PH), zev kX1_ordered 52 (x0 :: x1 :: zvr a :: L) st h = zev kX1_ordered 53 (x0 :: x1 :: zvr a :: L) (zvr a :: st) h) ∧
  (∀ (v0 : ZV) (q : Nat) (L st : List ZV) (h : PH), zev kX1_ordered 53 L (v0 :: zvr (some q) :: st) h = if (ph_K h q).1 % 1000 = 31 ∧ zcat st ≤ 8 then zk kX1_ordered 53 56 L st (mJ2_higher [zvr (some q), v0] h) else none) ∧
  (∀ (L st : List ZV) (h : PH), zev kX1_ordered 56 L (zvr none :: st) h = zev kX1_ordered 59 L (zvr none :: st) h) ∧
  (∀ (q : Nat) (L st : List ZV) (h : PH), zev kX1_ordered 56 L (zvr (some q) :: st) h = if zokDep (ph_K h q).1 = true then zev kX1_ordered 59 L (zvr (some q) :: st) h else none) ∧
  (∀ (x0 x1 x2 : ZV) (a : Option Nat) (L st : List ZV) (h : PH) (hx : zisL x1 = false) , zev kX1_ordered 59 (x0 :: x1 :: x2 :: L) (zvr a :: st) h = zev kX1_ordered 60 (x0 :: x1 :: zvr a :: L) st h) ∧
  (∀ (x0 x1 x2 : ZV) (a : Int) (L st : List ZV) (h : PH) (hx : zisL x2 = false) , zev kX1_ordered 60 (x0 :: x1 :: x2 :: zvi a :: L) st h = zev kX1_ordered 63 (x0 :: x1 :: x2 :: zvi (w32 (a + 1)) :: L) st h) ∧
  (∀ (L st : List ZV) (h : PH), zev kX1_ordered 63 L st h = zev kX1_ordered 43 L st h) ∧
  (∀ (a : Option Nat) (L st : List ZV) (h : PH), zev kX1_ordered 66 (zvr a :: L) st h = zev kX1_ordered 67 (zvr a :: L) (zvr a :: st) h) ∧
  (∀ (x0 x1 : ZV) (a : Option Nat) (L st : List ZV) (h : PH), zev kX1_ordered 67 (x0 :: x1 :: zvr a :: L) st h = zev kX1_ordered 68 (x0 :: x1 :: zvr a :: L) (zvr a :: st) h) ∧
  (∀ (q : Nat) (L st : List ZV) (h : PH), zev kX1_ordered 68 L (zvr (some q) :: st) h = if (ph_K h q).1 % 1000 = 22 then zev kX1_ordered 71 L (zvi (ph_I h q 0) :: st) h else none) ∧
  (∀ (v0 : ZV) (q : Nat) (L st : List ZV) (h : PH), zev kX1_ordered 71 L (v0 :: zvr (some q) :: st) h = if (ph_K h q).1 % 1000 = 16 ∧ zcat st ≤ 8 then zk kX1_ordered 71 74 L st (mX1_fine [zvr (some q), v0] h) else none) ∧
  (∀ (a : Int) (L : List ZV) (h : PH), zev kX1_ordered 74 L [zvi a] h = zrv (zvi a) h) :=
  ⟨fun a L st h => e_ld0R (n := 1) rfl,
  fun q L st h => e_getR (kd := 16) (k := 5) (n := 4) rfl,
  fun L st h => e_null0 (t := 24) (n := 7) rfl,
  fun q L st h => e_null1 (t := 24) (n := 7) rfl,
  fun x0 a L st h => e_ld1I (n := 8) rfl,
  fun L st h => e_push (v := zvi 0) (n := 9) rfl,
  fun a L st h => e_ld0R (n := 10) rfl,
  fun q L st h => e_getR (kd := 16) (k := 6) (n := 13) rfl,
  fun q L st h => e_callV1 (F := mJ2_size) (kd := 31) (n := 16) rfl,
  fun L st h => e_push (v := zvi 1) (n := 17) rfl,
  fun a b L st h => e_bin (f := (fun a b => w32 (a - b))) (n := 18) rfl,
  fun v0 v1 v2 L st h => e_callS3 (F := mX1_isIn) (n := 21) rfl,
  fun a L st h => e_ifne (t := 30) (n := 24) rfl,
  fun a L st h => e_ld0R (n := 25) rfl,
  fun L st h => e_push (v := zvi 1) (n := 26) rfl,
  fun v0 q L st h => e_callV2 (F := mX1_refused) (kd := 16) (n := 29) rfl,
  fun a L h => e_retI rfl,
  fun a L st h => e_ld0R (n := 31) rfl,
  fun q L st h => e_getR (kd := 16) (k := 6) (n := 34) rfl,
  fun q L st h => e_callV1 (F := mJ2_first) (kd := 31) (n := 37) rfl,
  fun L st h => e_cast0 (ok := zokDep) (n := 40) rfl,
  fun q L st h => e_cast1 (ok := zokDep) (n := 40) rfl,
  fun x0 x1 x2 a L st h hx => e_st2R (n := 41) rfl hx,
  fun L st h => e_push (v := zvi 0) (n := 42) rfl,
  fun x0 x1 x2 x3 a L st h hx => e_st3I (n := 43) rfl hx,
  fun x0 a L st h => e_ld1I (n := 45) rfl,
  fun a b L st h => e_cmpge (t := 66) (n := 48) rfl,
  fun a L st h => e_ld0R (n := 49) rfl,
  fun q L st h => e_getR (kd := 16) (k := 6) (n := 52) rfl,
  fun x0 x1 a L st h => e_ld2R (n := 53) rfl,
  fun v0 q L st h => e_callV2 (F := mJ2_higher) (kd := 31) (n := 56) rfl,
  fun L st h => e_cast0 (ok := zokDep) (n := 59) rfl,
  fun q L st h => e_cast1 (ok := zokDep) (n := 59) rfl,
  fun x0 x1 x2 a L st h hx => e_st2R (n := 60) rfl hx,
  fun x0 x1 x2 a L st h hx => e_iinc3 (d := 1) (n := 63) rfl hx,
  fun L st h => e_goto (t := 43) rfl,
  fun a L st h => e_ld0R (n := 67) rfl,
  fun x0 x1 a L st h => e_ld2R (n := 68) rfl,
  fun q L st h => e_getI (kd := 22) (k := 0) (n := 71) rfl,
  fun v0 q L st h => e_callV2 (F := mX1_fine) (kd := 16) (n := 74) rfl,
  fun a L h => e_retI rfl⟩
theorem allX1_ordered : zall yX1_ordered cX1_ordered 4 (some .int) 9 kX1_ordered.1 :=
  ⟨k_aload_n dX1_ordered_0,
  k_getR (C := RX1) (T := TX1) (N := 19) (ci := 0) (k := 5) (ref := "LinkTimes") dX1_ordered_1 rfl in_X1 (by decide) q308 (Or.inl rfl) (fun _ _ _ => rfl),
  k_null (t := 24) dX1_ordered_4 (by decide),
  k_iload_n dX1_ordered_7,
  k_iconst dX1_ordered_8,
  k_aload_n dX1_ordered_9,
  k_getR (C := RX1) (T := TX1) (N := 19) (ci := 0) (k := 6) (ref := "LinkTimes") dX1_ordered_10 rfl in_X1 (by decide) q309 (Or.inl rfl) (fun _ _ _ => rfl),
  k_callV (y2 := yJ2_size) (C := RJ2) (T0 := TJ2) (ci := 15) dX1_ordered_13 sndJ2_size rfl q1227 q1228 q1229 q131 q1230 (by decide +kernel) ⟨by decide, by decide⟩ (by decide) (by decide),
  k_iconst dX1_ordered_16,
  k_isub dX1_ordered_17,
  k_callS (y2 := yX1_isIn) dX1_ordered_18 sndX1_isIn q375 q376 q128 q377 (by decide +kernel) ⟨by decide, by decide⟩ (by decide) (by decide),
  k_ifne (t := 30) dX1_ordered_21 (by decide),
  k_aload_n dX1_ordered_24,
  k_iconst dX1_ordered_25,
  k_callV (y2 := yX1_refused) (C := RX1) (T0 := TX1) (ci := 0) dX1_ordered_26 sndX1_refused rfl q378 q380 qs1 q128 q381 (by decide +kernel) ⟨by decide, by decide⟩ (by decide) (by decide),
  k_iret dX1_ordered_29,
  k_aload_n dX1_ordered_30,
  k_getR (C := RX1) (T := TX1) (N := 19) (ci := 0) (k := 6) (ref := "LinkTimes") dX1_ordered_31 rfl in_X1 (by decide) q309 (Or.inl rfl) (fun _ _ _ => rfl),
  k_callV (y2 := yJ2_first) (C := RJ2) (T0 := TJ2) (ci := 15) dX1_ordered_34 sndJ2_first rfl q1269 q1270 q1271 q131 q1272 (by decide +kernel) ⟨by decide, by decide⟩ (by decide) (by decide),
  k_cast (nm := "LinkTimes$Departure") dX1_ordered_37 q938 zokDep_can,
  k_astore_n dX1_ordered_40,
  k_iconst dX1_ordered_41,
  k_istore_n dX1_ordered_42,
  k_iload_n dX1_ordered_43,
  k_iload_n dX1_ordered_44,
  k_cmpge (t := 66) dX1_ordered_45 (by decide),
  k_aload_n dX1_ordered_48,
  k_getR (C := RX1) (T := TX1) (N := 19) (ci := 0) (k := 6) (ref := "LinkTimes") dX1_ordered_49 rfl in_X1 (by decide) q309 (Or.inl rfl) (fun _ _ _ => rfl),
  k_aload_n dX1_ordered_52,
  k_callV (y2 := yJ2_higher) (C := RJ2) (T0 := TJ2) (ci := 15) dX1_ordered_53 sndJ2_higher rfl q1310 q1311 q1312 q131 q1313 (by decide +kernel) ⟨by decide, by decide⟩ (by decide) (by decide),
  k_cast (nm := "LinkTimes$Departure") dX1_ordered_56 q938 zokDep_can,
  k_astore_n dX1_ordered_59,
  k_iinc dX1_ordered_60,
  k_goto (t := 43) dX1_ordered_63 (by decide),
  k_aload_n dX1_ordered_66,
  k_aload_n dX1_ordered_67,
  k_getIN (C := RX11) (T := TX11) (N := 9) (ci := 6) (k := 0) (ref := "LinkTimes$Departure") dX1_ordered_68 rfl in_X11 (by decide) q851 (Or.inl rfl) (fun _ _ _ => rfl),
  k_callV (y2 := yX1_fine) (C := RX1) (T0 := TX1) (ci := 0) dX1_ordered_71 sndX1_fine rfl q1211 q1213 qs32 q128 q1214 (by decide +kernel) ⟨by decide, by decide⟩ (by decide) (by decide),
  k_iret dX1_ordered_74, trivial⟩
theorem sndX1_ordered : MSound 9 yX1_ordered (ws_ yX1_ordered cX1_ordered 4 (some .int)) mX1_ordered := msound_M (by decide) allX1_ordered (fun _ _ => rfl)
/-! LinkTimes.refuses(III)I -/
noncomputable def kX1_refuses : ZM := ([(0, zi_ld 1 0 1), (1, zi_ld 0 1 2), (2, zi_callV mX1_isSpot 16 2 5), (5, zi_if (fun a => zc_eq a 0) 16 8), (8, zi_ld 1 0 9), (9, zi_ld 0 2 10), (10, zi_callV mX1_isSpot 16 2 13), (13, zi_if (fun a => zc_ne a 0) 20 16), (16, zi_push (zvi 1) 17), (17, zi_goto 36), (20, zi_ld 0 3 21), (21, zi_push (zvi 0) 22), (22, zi_push (zvi 1999) 25), (25, zi_callS mX1_isIn 3 28), (28, zi_if (fun a => zc_eq a 0) 35 31), (31, zi_push (zvi 0) 32), (32, zi_goto 36), (35, zi_push (zvi 2) 36), (36, zi_retv 0)], fun _ _ => none)
noncomputable def mX1_refuses : ZF := zrunM kX1_refuses 4
theorem enX1_refuses (x0 : Option Nat) (x1 : Int) (x2 : Int) (x3 : Int) (h : PH) : mX1_refuses [zvr x0, zvi x1, zvi x2, zvi x3] h = zev kX1_refuses 0 [zvr x0, zvi x1, zvi x2, zvi x3] [] h := zrunM_eq rfl rfl
theorem rX1_refuses : (∀ (a : Option Nat) (L st : List ZV) (h : PH), zev kX1_refuses 0 (zvr a :: L) st h = zev kX1_refuses 1 (zvr a :: L) (zvr a :: st) h) ∧
  (∀ (x0 : ZV) (a : Int) (L st : List ZV) (h : PH), zev kX1_refuses 1 (x0 :: zvi a :: L) st h = zev kX1_refuses 2 (x0 :: zvi a :: L) (zvi a :: st) h) ∧
  (∀ (v0 : ZV) (q : Nat) (L st : List ZV) (h : PH), zev kX1_refuses 2 L (v0 :: zvr (some q) :: st) h = if (ph_K h q).1 % 1000 = 16 ∧ zcat st ≤ 8 then zk kX1_refuses 2 5 L st (mX1_isSpot [zvr (some q), v0] h) else none) ∧
  (∀ (a : Int) (L st : List ZV) (h : PH), zev kX1_refuses 5 L (zvi a :: st) h = if a = 0 then zev kX1_refuses 16 L st h else zev kX1_refuses 8 L st h) ∧
  (∀ (a : Option Nat) (L st : List ZV) (h : PH), zev kX1_refuses 8 (zvr a :: L) st h = zev kX1_refuses 9 (zvr a :: L) (zvr a :: st) h) ∧
  (∀ (x0 x1 : ZV) (a : Int) (L st : List ZV) (h : PH), zev kX1_refuses 9 (x0 :: x1 :: zvi a :: L) st h = zev kX1_refuses 10 (x0 :: x1 :: zvi a :: L) (zvi a :: st) h) ∧
  (∀ (v0 : ZV) (q : Nat) (L st : List ZV) (h : PH), zev kX1_refuses 10 L (v0 :: zvr (some q) :: st) h = if (ph_K h q).1 % 1000 = 16 ∧ zcat st ≤ 8 then zk kX1_refuses 10 13 L st (mX1_isSpot [zvr (some q), v0] h) else none) ∧
  (∀ (a : Int) (L st : List ZV) (h : PH), zev kX1_refuses 13 L (zvi a :: st) h = if a ≠ 0 then zev kX1_refuses 20 L st h else zev kX1_refuses 16 L st h) ∧
  (∀ (L st : List ZV) (h : PH), zev kX1_refuses 16 L st h = zev kX1_refuses 17 L (zvi 1 :: st) h) ∧
  (∀ (L st : List ZV) (h : PH), zev kX1_refuses 17 L st h = zev kX1_refuses 36 L st h) ∧
  (∀ (x0 x1 x2 : ZV) (a : Int) (L st : List ZV) (h : PH), zev kX1_refuses 20 (x0 :: x1 :: x2 :: zvi a :: L) st h = zev kX1_refuses 21 (x0 :: x1 :: x2 :: zvi a :: L) (zvi a :: st) h) ∧
  (∀ (L st : List ZV) (h : PH), zev kX1_refuses 21 L st h = zev kX1_refuses 22 L (zvi 0 :: st) h) ∧
  (∀ (L st : List ZV) (h : PH), zev kX1_refuses 22 L st h = zev kX1_refuses 25 L (zvi 1999 :: st) h) ∧
  (∀ (v0 v1 v2 : ZV) (L st : List ZV) (h : PH), zev kX1_refuses 25 L (v2 :: v1 :: v0 :: st) h = if zcat st ≤ 8 then zk kX1_refuses 25 28 L st (mX1_isIn [v0, v1, v2] h) else none) ∧
  (∀ (a : Int) (L st : List ZV) (h : PH), zev kX1_refuses 28 L (zvi a :: st) h = if a = 0 then zev kX1_refuses 35 L st h else zev kX1_refuses 31 L st h) ∧
  (∀ (L st : List ZV) (h : PH), zev kX1_refuses 31 L st h = zev kX1_refuses 32 L (zvi 0 :: st) h) ∧
  (∀ (L st : List ZV) (h : PH), zev kX1_refuses 32 L st h = zev kX1_refuses 36 L st h) ∧
  (∀ (L st : List ZV) (h : PH), zev kX1_refuses 35 L st h = zev kX1_refuses 36 L (zvi 2 :: st) h) ∧
  (∀ (a : Int) (L : List ZV) (h : PH), zev kX1_refuses 36 L [zvi a] h = zrv (zvi a) h) :=
  ⟨fun a L st h => e_ld0R (n := 1) rfl,
  fun x0 a L st h => e_ld1I (n := 2) rfl,
  fun v0 q L st h => e_callV2 (F := mX1_isSpot) (kd := 16) (n := 5) rfl,
  fun a L st h => e_ifeq (t := 16) (n := 8) rfl,
  fun a L st h => e_ld0R (n := 9) rfl,
  fun x0 x1 a L st h => e_ld2I (n := 10) rfl,
  fun v0 q L st h => e_callV2 (F := mX1_isSpot) (kd := 16) (n := 13) rfl,
  fun a L st h => e_ifne (t := 20) (n := 16) rfl,
  fun L st h => e_push (v := zvi 1) (n := 17) rfl,
  fun L st h => e_goto (t := 36) rfl,
  fun x0 x1 x2 a L st h => e_ld3I (n := 21) rfl,
  fun L st h => e_push (v := zvi 0) (n := 22) rfl,
  fun L st h => e_push (v := zvi 1999) (n := 25) rfl,
  fun v0 v1 v2 L st h => e_callS3 (F := mX1_isIn) (n := 28) rfl,
  fun a L st h => e_ifeq (t := 35) (n := 31) rfl,
  fun L st h => e_push (v := zvi 0) (n := 32) rfl,
  fun L st h => e_goto (t := 36) rfl,
  fun L st h => e_push (v := zvi 2) (n := 36) rfl,
  fun a L h => e_retI rfl⟩
theorem allX1_refuses : zall yX1_refuses cX1_refuses 4 (some .int) 3 kX1_refuses.1 :=
  ⟨k_aload_n dX1_refuses_0,
  k_iload_n dX1_refuses_1,
  k_callV (y2 := yX1_isSpot) (C := RX1) (T0 := TX1) (ci := 0) dX1_refuses_2 sndX1_isSpot rfl q1242 q1244 qs33 q128 q1245 (by decide +kernel) ⟨by decide, by decide⟩ (by decide) (by decide),
  k_ifeq (t := 16) dX1_refuses_5 (by decide),
  k_aload_n dX1_refuses_8,
  k_iload_n dX1_refuses_9,
  k_callV (y2 := yX1_isSpot) (C := RX1) (T0 := TX1) (ci := 0) dX1_refuses_10 sndX1_isSpot rfl q1242 q1244 qs33 q128 q1245 (by decide +kernel) ⟨by decide, by decide⟩ (by decide) (by decide),
  k_ifne (t := 20) dX1_refuses_13 (by decide),
  k_iconst dX1_refuses_16,
  k_goto (t := 36) dX1_refuses_17 (by decide),
  k_iload_n dX1_refuses_20,
  k_iconst dX1_refuses_21,
  k_sipush dX1_refuses_22,
  k_callS (y2 := yX1_isIn) dX1_refuses_25 sndX1_isIn q375 q376 q128 q377 (by decide +kernel) ⟨by decide, by decide⟩ (by decide) (by decide),
  k_ifeq (t := 35) dX1_refuses_28 (by decide),
  k_iconst dX1_refuses_31,
  k_goto (t := 36) dX1_refuses_32 (by decide),
  k_iconst dX1_refuses_35,
  k_iret dX1_refuses_36, trivial⟩
theorem sndX1_refuses : MSound 3 yX1_refuses (ws_ yX1_refuses cX1_refuses 4 (some .int)) mX1_refuses := msound_M (by decide) allX1_refuses (fun _ _ => rfl)
/-! LinkTimes.asIs()LLinkTimes$Search; -/
noncomputable def kX1_asIs : ZM := ([(0, zi_ld 1 0 1), (1, zi_getR 16 8 4), (4, zi_push (zvi (-1)) 5), (5, zi_push (zvi (-1)) 6), (6, zi_push (zvi 0) 7), (7, zi_callV mX3_lays 17 4 10), (10, zi_retv 1)], fun _ _ => none)
noncomputable def mX1_asIs : ZF := zrunM kX1_asIs 1
theorem enX1_asIs (x0 : Option Nat) (h : PH) : mX1_asIs [zvr x0] h = zev kX1_asIs 0 [zvr x0] [] h := zrunM_eq rfl rfl
theorem rX1_asIs : (∀ (a : Option Nat) (L st : List ZV) (h : PH), zev kX1_asIs 0 (zvr a :: L) st h = zev kX1_asIs 1 (zvr a :: L) (zvr a :: st) h) ∧
  (∀ (q : Nat) (L st : List ZV) (h : PH), zev kX1_asIs 1 L (zvr (some q) :: st) h = if (ph_K h q).1 % 1000 = 16 then zev kX1_asIs 4 L (zvr (ph_R h q 8) :: st) h else none) ∧
  (∀ (L st : List ZV) (h : PH), zev kX1_asIs 4 L st h = zev kX1_asIs 5 L (zvi (-1) :: st) h) ∧
  (∀ (L st : List ZV) (h : PH), zev kX1_asIs 5 L st h = zev kX1_asIs 6 L (zvi (-1) :: st) h) ∧
  (∀ (L st : List ZV) (h : PH), zev kX1_asIs 6 L st h = zev kX1_asIs 7 L (zvi 0 :: st) h) ∧
  (∀ (v0 v1 v2 : ZV) (q : Nat) (L st : List ZV) (h : PH), zev kX1_asIs 7 L (v2 :: v1 :: v0 :: zvr (some q) :: st) h = if (ph_K h q).1 % 1000 = 17 ∧ zcat st ≤ 8 then zk kX1_asIs 7 10 L st (mX3_lays [zvr (some q), v0, v1, v2] h) else none) ∧
  (∀ (a : Option Nat) (L : List ZV) (h : PH), zev kX1_asIs 10 L [zvr a] h = zrv (zvr a) h) :=
  ⟨fun a L st h => e_ld0R (n := 1) rfl,
  fun q L st h => e_getR (kd := 16) (k := 8) (n := 4) rfl,
  fun L st h => e_push (v := zvi (-1)) (n := 5) rfl,
  fun L st h => e_push (v := zvi (-1)) (n := 6) rfl,
  fun L st h => e_push (v := zvi 0) (n := 7) rfl,
  fun v0 v1 v2 q L st h => e_callV4 (F := mX3_lays) (kd := 17) (n := 10) rfl,
  fun a L h => e_retR rfl⟩
theorem allX1_asIs : zall yX1_asIs cX1_asIs 1 (some (.object "LinkTimes$Search")) 5 kX1_asIs.1 :=
  ⟨k_aload_n dX1_asIs_0,
  k_getR (C := RX1) (T := TX1) (N := 19) (ci := 0) (k := 8) (ref := "LinkTimes") dX1_asIs_1 rfl in_X1 (by decide) q311 (Or.inl rfl) (fun _ _ _ => rfl),
  k_iconst dX1_asIs_4,
  k_iconst dX1_asIs_5,
  k_iconst dX1_asIs_6,
  k_callV (y2 := yX3_lays) (C := RX3) (T0 := TX3) (ci := 1) dX1_asIs_7 sndX3_lays rfl q1342 q1343 q1344 q136 q1345 (by decide +kernel) ⟨by decide, by decide⟩ (by decide) (by decide),
  k_aret dX1_asIs_10 rfl (Or.inl ⟨_, rfl⟩), trivial⟩
theorem sndX1_asIs : MSound 5 yX1_asIs (ws_ yX1_asIs cX1_asIs 1 (some (.object "LinkTimes$Search"))) mX1_asIs := msound_M (by decide) allX1_asIs (fun _ _ => rfl)
/-! LinkTimes.arrives(III)I -/
noncomputable def kX1_arrives : ZM := ([(0, zi_ld 1 0 1), (1, zi_ld 0 1 2), (2, zi_ld 0 2 3), (3, zi_ld 0 3 4), (4, zi_callV mX1_refuses 16 4 7), (7, zi_st 0 4 9), (9, zi_ld 0 4 11), (11, zi_if (fun a => zc_le a 0) 23 14), (14, zi_ld 1 0 15), (15, zi_ld 0 4 17), (17, zi_callV mX1_refused 16 2 20), (20, zi_goto 37), (23, zi_ld 1 0 24), (24, zi_ld 1 0 25), (25, zi_callV mX1_asIs 16 1 28), (28, zi_ld 0 1 29), (29, zi_ld 0 2 30), (30, zi_ld 0 3 31), (31, zi_callV mX3_arrives 17 4 34), (34, zi_callV mX1_fine 16 2 37), (37, zi_retv 0)], fun _ _ => none)
noncomputable def mX1_arrives : ZF := zrunM kX1_arrives 5
theorem enX1_arrives (x0 : Option Nat) (x1 : Int) (x2 : Int) (x3 : Int) (h : PH) : mX1_arrives [zvr x0, zvi x1, zvi x2, zvi x3] h = zev kX1_arrives 0 [zvr x0, zvi x1, zvi x2, zvi x3, zvu] [] h := zrunM_eq rfl rfl
theorem rX1_arrives : (∀ (a : Option Nat) (L st : List ZV) (h : PH), zev kX1_arrives 0 (zvr a :: L) st h = zev kX1_arrives 1 (zvr a :: L) (zvr a :: st) h) ∧
  (∀ (x0 : ZV) (a : Int) (L st : List ZV) (h : PH), zev kX1_arrives 1 (x0 :: zvi a :: L) st h = zev kX1_arrives 2 (x0 :: zvi a :: L) (zvi a :: st) h) ∧
  (∀ (x0 x1 : ZV) (a : Int) (L st : List ZV) (h : PH), zev kX1_arrives 2 (x0 :: x1 :: zvi a :: L) st h = zev kX1_arrives 3 (x0 :: x1 :: zvi a :: L) (zvi a :: st) h) ∧
  (∀ (x0 x1 x2 : ZV) (a : Int) (L st : List ZV) (h : PH), zev kX1_arrives 3 (x0 :: x1 :: x2 :: zvi a :: L) st h = zev kX1_arrives 4 (x0 :: x1 :: x2 :: zvi a :: L) (zvi a :: st) h) ∧
  (∀ (v0 v1 v2 : ZV) (q : Nat) (L st : List ZV) (h : PH), zev kX1_arrives 4 L (v2 :: v1 :: v0 :: zvr (some q) :: st) h = if (ph_K h q).1 % 1000 = 16 ∧ zcat st ≤ 8 then zk kX1_arrives 4 7 L st (mX1_refuses [zvr (some q), v0, v1, v2] h) else none) ∧
  (∀ (x0 x1 x2 x3 x4 : ZV) (a : Int) (L st : List ZV) (h : PH) (hx : zisL x3 = false) , zev kX1_arrives 7 (x0 :: x1 :: x2 :: x3 :: x4 :: L) (zvi a :: st) h = zev kX1_arrives 9 (x0 :: x1 :: x2 :: x3 :: zvi a :: L) st h) ∧
  (∀ (x0 x1 x2 x3 : ZV) (a : Int) (L st : List ZV) (h : PH), zev kX1_arrives 9 (x0 :: x1 :: x2 :: x3 :: zvi a :: L) st h = zev kX1_arrives 11 (x0 :: x1 :: x2 :: x3 :: zvi a :: L) (zvi a :: st) h) ∧
  (∀ (a : Int) (L st : List ZV) (h : PH), zev kX1_arrives 11 L (zvi a :: st) h = if a ≤ 0 then zev kX1_arrives 23 L st h else zev kX1_arrives 14 L st h) ∧
  (∀ (a : Option Nat) (L st : List ZV) (h : PH), zev kX1_arrives 14 (zvr a :: L) st h = zev kX1_arrives 15 (zvr a :: L) (zvr a :: st) h) ∧
  (∀ (x0 x1 x2 x3 : ZV) (a : Int) (L st : List ZV) (h : PH), zev kX1_arrives 15 (x0 :: x1 :: x2 :: x3 :: zvi a :: L) st h = zev kX1_arrives 17 (x0 :: x1 :: x2 :: x3 :: zvi a :: L) (zvi a :: st) h) ∧
  (∀ (v0 : ZV) (q : Nat) (L st : List ZV) (h : PH), zev kX1_arrives 17 L (v0 :: zvr (some q) :: st) h = if (ph_K h q).1 % 1000 = 16 ∧ zcat st ≤ 8 then zk kX1_arrives 17 20 L st (mX1_refused [zvr (some q), v0] h) else none) ∧
  (∀ (L st : List ZV) (h : PH), zev kX1_arrives 20 L st h = zev kX1_arrives 37 L st h) ∧
  (∀ (a : Option Nat) (L st : List ZV) (h : PH), zev kX1_arrives 23 (zvr a :: L) st h = zev kX1_arrives 24 (zvr a :: L) (zvr a :: st) h) ∧
  (∀ (a : Option Nat) (L st : List ZV) (h : PH), zev kX1_arrives 24 (zvr a :: L) st h = zev kX1_arrives 25 (zvr a :: L) (zvr a :: st) h) ∧
  (∀ (q : Nat) (L st : List ZV) (h : PH), zev kX1_arrives 25 L (zvr (some q) :: st) h = if (ph_K h q).1 % 1000 = 16 ∧ zcat st ≤ 8 then zk kX1_arrives 25 28 L st (mX1_asIs [zvr (some q)] h) else none) ∧
  (∀ (x0 : ZV) (a : Int) (L st : List ZV) (h : PH), zev kX1_arrives 28 (x0 :: zvi a :: L) st h = zev kX1_arrives 29 (x0 :: zvi a :: L) (zvi a :: st) h) ∧
  (∀ (x0 x1 : ZV) (a : Int) (L st : List ZV) (h : PH), zev kX1_arrives 29 (x0 :: x1 :: zvi a :: L) st h = zev kX1_arrives 30 (x0 :: x1 :: zvi a :: L) (zvi a :: st) h) ∧
  (∀ (x0 x1 x2 : ZV) (a : Int) (L st : List ZV) (h : PH), zev kX1_arrives 30 (x0 :: x1 :: x2 :: zvi a :: L) st h = zev kX1_arrives 31 (x0 :: x1 :: x2 :: zvi a :: L) (zvi a :: st) h) ∧
  (∀ (v0 v1 v2 : ZV) (q : Nat) (L st : List ZV) (h : PH), zev kX1_arrives 31 L (v2 :: v1 :: v0 :: zvr (some q) :: st) h = if (ph_K h q).1 % 1000 = 17 ∧ zcat st ≤ 8 then zk kX1_arrives 31 34 L st (mX3_arrives [zvr (some q), v0, v1, v2] h) else none) ∧
  (∀ (v0 : ZV) (q : Nat) (L st : List ZV) (h : PH), zev kX1_arrives 34 L (v0 :: zvr (some q) :: st) h = if (ph_K h q).1 % 1000 = 16 ∧ zcat st ≤ 8 then zk kX1_arrives 34 37 L st (mX1_fine [zvr (some q), v0] h) else none) ∧
  (∀ (a : Int) (L : List ZV) (h : PH), zev kX1_arrives 37 L [zvi a] h = zrv (zvi a) h) :=
  ⟨fun a L st h => e_ld0R (n := 1) rfl,
  fun x0 a L st h => e_ld1I (n := 2) rfl,
  fun x0 x1 a L st h => e_ld2I (n := 3) rfl,
  fun x0 x1 x2 a L st h => e_ld3I (n := 4) rfl,
  fun v0 v1 v2 q L st h => e_callV4 (F := mX1_refuses) (kd := 16) (n := 7) rfl,
  fun x0 x1 x2 x3 x4 a L st h hx => e_st4I (n := 9) rfl hx,
  fun x0 x1 x2 x3 a L st h => e_ld4I (n := 11) rfl,
  fun a L st h => e_ifle (t := 23) (n := 14) rfl,
  fun a L st h => e_ld0R (n := 15) rfl,
  fun x0 x1 x2 x3 a L st h => e_ld4I (n := 17) rfl,
  fun v0 q L st h => e_callV2 (F := mX1_refused) (kd := 16) (n := 20) rfl,
  fun L st h => e_goto (t := 37) rfl,
  fun a L st h => e_ld0R (n := 24) rfl,
  fun a L st h => e_ld0R (n := 25) rfl,
  fun q L st h => e_callV1 (F := mX1_asIs) (kd := 16) (n := 28) rfl,
  fun x0 a L st h => e_ld1I (n := 29) rfl,
  fun x0 x1 a L st h => e_ld2I (n := 30) rfl,
  fun x0 x1 x2 a L st h => e_ld3I (n := 31) rfl,
  fun v0 v1 v2 q L st h => e_callV4 (F := mX3_arrives) (kd := 17) (n := 34) rfl,
  fun v0 q L st h => e_callV2 (F := mX1_fine) (kd := 16) (n := 37) rfl,
  fun a L h => e_retI rfl⟩
theorem allX1_arrives : zall yX1_arrives cX1_arrives 5 (some .int) 8 kX1_arrives.1 :=
  ⟨k_aload_n dX1_arrives_0,
  k_iload_n dX1_arrives_1,
  k_iload_n dX1_arrives_2,
  k_iload_n dX1_arrives_3,
  k_callV (y2 := yX1_refuses) (C := RX1) (T0 := TX1) (ci := 0) dX1_arrives_4 sndX1_refuses rfl q1334 q1336 qs36 q128 q1337 (by decide +kernel) ⟨by decide, by decide⟩ (by decide) (by decide),
  k_istore dX1_arrives_7,
  k_iload dX1_arrives_9,
  k_ifle (t := 23) dX1_arrives_11 (by decide),
  k_aload_n dX1_arrives_14,
  k_iload dX1_arrives_15,
  k_callV (y2 := yX1_refused) (C := RX1) (T0 := TX1) (ci := 0) dX1_arrives_17 sndX1_refused rfl q378 q380 qs1 q128 q381 (by decide +kernel) ⟨by decide, by decide⟩ (by decide) (by decide),
  k_goto (t := 37) dX1_arrives_20 (by decide),
  k_aload_n dX1_arrives_23,
  k_aload_n dX1_arrives_24,
  k_callV (y2 := yX1_asIs) (C := RX1) (T0 := TX1) (ci := 0) dX1_arrives_25 sndX1_asIs rfl q1338 q1340 qs37 q128 q1341 (by decide +kernel) ⟨by decide, by decide⟩ (by decide) (by decide),
  k_iload_n dX1_arrives_28,
  k_iload_n dX1_arrives_29,
  k_iload_n dX1_arrives_30,
  k_callV (y2 := yX3_arrives) (C := RX3) (T0 := TX3) (ci := 1) dX1_arrives_31 sndX3_arrives rfl q1353 q1354 q1355 q136 q1356 (by decide +kernel) ⟨by decide, by decide⟩ (by decide) (by decide),
  k_callV (y2 := yX1_fine) (C := RX1) (T0 := TX1) (ci := 0) dX1_arrives_34 sndX1_fine rfl q1211 q1213 qs32 q128 q1214 (by decide +kernel) ⟨by decide, by decide⟩ (by decide) (by decide),
  k_iret dX1_arrives_37, trivial⟩
theorem sndX1_arrives : MSound 8 yX1_arrives (ws_ yX1_arrives cX1_arrives 5 (some .int)) mX1_arrives := msound_M (by decide) allX1_arrives (fun _ _ => rfl)
/-! LinkTimes.changes(III)I -/
noncomputable def kX1_changes : ZM := ([(0, zi_ld 1 0 1), (1, zi_ld 0 1 2), (2, zi_ld 0 2 3), (3, zi_ld 0 3 4), (4, zi_callV mX1_refuses 16 4 7), (7, zi_st 0 4 9), (9, zi_ld 0 4 11), (11, zi_if (fun a => zc_le a 0) 21 14), (14, zi_ld 1 0 15), (15, zi_ld 0 4 17), (17, zi_callV mX1_refused 16 2 20), (20, zi_retv 0), (21, zi_ld 1 0 22), (22, zi_callV mX1_asIs 16 1 25), (25, zi_ld 0 1 26), (26, zi_ld 0 2 27), (27, zi_ld 0 3 28), (28, zi_callV mX3_best 17 4 31), (31, zi_st 0 5 33), (33, zi_ld 1 0 34), (34, zi_ld 0 5 36), (36, zi_push (zvi (-1)) 37), (37, zi_cmp zc_ne 54 40), (40, zi_ld 0 1 41), (41, zi_ld 0 2 42), (42, zi_cmp zc_ne 49 45), (45, zi_push (zvi 0) 46), (46, zi_goto 64), (49, zi_push (zvi (-2)) 51), (51, zi_goto 64), (54, zi_ld 1 0 55), (55, zi_getR 16 8 58), (58, zi_getR 17 3 61), (61, zi_ld 0 5 63), (63, zi_ald 1 64), (64, zi_callV mX1_fine 16 2 67), (67, zi_retv 0)], fun _ _ => none)
noncomputable def mX1_changes : ZF := zrunM kX1_changes 6
theorem enX1_changes (x0 : Option Nat) (x1 : Int) (x2 : Int) (x3 : Int) (h : PH) : mX1_changes [zvr x0, zvi x1, zvi x2, zvi x3] h = zev kX1_changes 0 [zvr x0, zvi x1, zvi x2, zvi x3, zvu, zvu] [] h := zrunM_eq rfl rfl
theorem rX1_changes : (∀ (a : Option Nat) (L st : List ZV) (h : PH), zev kX1_changes 0 (zvr a :: L) st h = zev kX1_changes 1 (zvr a :: L) (zvr a :: st) h) ∧
  (∀ (x0 : ZV) (a : Int) (L st : List ZV) (h : PH), zev kX1_changes 1 (x0 :: zvi a :: L) st h = zev kX1_changes 2 (x0 :: zvi a :: L) (zvi a :: st) h) ∧
  (∀ (x0 x1 : ZV) (a : Int) (L st : List ZV) (h : PH), zev kX1_changes 2 (x0 :: x1 :: zvi a :: L) st h = zev kX1_changes 3 (x0 :: x1 :: zvi a :: L) (zvi a :: st) h) ∧
  (∀ (x0 x1 x2 : ZV) (a : Int) (L st : List ZV) (h : PH), zev kX1_changes 3 (x0 :: x1 :: x2 :: zvi a :: L) st h = zev kX1_changes 4 (x0 :: x1 :: x2 :: zvi a :: L) (zvi a :: st) h) ∧
  (∀ (v0 v1 v2 : ZV) (q : Nat) (L st : List ZV) (h : PH), zev kX1_changes 4 L (v2 :: v1 :: v0 :: zvr (some q) :: st) h = if (ph_K h q).1 % 1000 = 16 ∧ zcat st ≤ 8 then zk kX1_changes 4 7 L st (mX1_refuses [zvr (some q), v0, v1, v2] h) else none) ∧
  (∀ (x0 x1 x2 x3 x4 : ZV) (a : Int) (L st : List ZV) (h : PH) (hx : zisL x3 = false) , zev kX1_changes 7 (x0 :: x1 :: x2 :: x3 :: x4 :: L) (zvi a :: st) h = zev kX1_changes 9 (x0 :: x1 :: x2 :: x3 :: zvi a :: L) st h) ∧
  (∀ (x0 x1 x2 x3 : ZV) (a : Int) (L st : List ZV) (h : PH), zev kX1_changes 9 (x0 :: x1 :: x2 :: x3 :: zvi a :: L) st h = zev kX1_changes 11 (x0 :: x1 :: x2 :: x3 :: zvi a :: L) (zvi a :: st) h) ∧
  (∀ (a : Int) (L st : List ZV) (h : PH), zev kX1_changes 11 L (zvi a :: st) h = if a ≤ 0 then zev kX1_changes 21 L st h else zev kX1_changes 14 L st h) ∧
  (∀ (a : Option Nat) (L st : List ZV) (h : PH), zev kX1_changes 14 (zvr a :: L) st h = zev kX1_changes 15 (zvr a :: L) (zvr a :: st) h) ∧
  (∀ (x0 x1 x2 x3 : ZV) (a : Int) (L st : List ZV) (h : PH), zev kX1_changes 15 (x0 :: x1 :: x2 :: x3 :: zvi a :: L) st h = zev kX1_changes 17 (x0 :: x1 :: x2 :: x3 :: zvi a :: L) (zvi a :: st) h) ∧
  (∀ (v0 : ZV) (q : Nat) (L st : List ZV) (h : PH), zev kX1_changes 17 L (v0 :: zvr (some q) :: st) h = if (ph_K h q).1 % 1000 = 16 ∧ zcat st ≤ 8 then zk kX1_changes 17 20 L st (mX1_refused [zvr (some q), v0] h) else none) ∧
  (∀ (a : Int) (L : List ZV) (h : PH), zev kX1_changes 20 L [zvi a] h = zrv (zvi a) h) ∧
  (∀ (a : Option Nat) (L st : List ZV) (h : PH), zev kX1_changes 21 (zvr a :: L) st h = zev kX1_changes 22 (zvr a :: L) (zvr a :: st) h) ∧
  (∀ (q : Nat) (L st : List ZV) (h : PH), zev kX1_changes 22 L (zvr (some q) :: st) h = if (ph_K h q).1 % 1000 = 16 ∧ zcat st ≤ 8 then zk kX1_changes 22 25 L st (mX1_asIs [zvr (some q)] h) else none) ∧
  (∀ (x0 : ZV) (a : Int) (L st : List ZV) (h : PH), zev kX1_changes 25 (x0 :: zvi a :: L) st h = zev kX1_changes 26 (x0 :: zvi a :: L) (zvi a :: st) h) ∧
  (∀ (x0 x1 : ZV) (a : Int) (L st : List ZV) (h : PH), zev kX1_changes 26 (x0 :: x1 :: zvi a :: L) st h = zev kX1_changes 27 (x0 :: x1 :: zvi a :: L) (zvi a :: st) h) ∧
  (∀ (x0 x1 x2 : ZV) (a : Int) (L st : List ZV) (h : PH), zev kX1_changes 27 (x0 :: x1 :: x2 :: zvi a :: L) st h = zev kX1_changes 28 (x0 :: x1 :: x2 :: zvi a :: L) (zvi a :: st) h) ∧
  (∀ (v0 v1 v2 : ZV) (q : Nat) (L st : List ZV) (h : PH), zev kX1_changes 28 L (v2 :: v1 :: v0 :: zvr (some q) :: st) h = if (ph_K h q).1 % 1000 = 17 ∧ zcat st ≤ 8 then zk kX1_changes 28 31 L st (mX3_best [zvr (some q), v0, v1, v2] h) else none) ∧
  (∀ (x0 x1 x2 x3 x4 x5 : ZV) (a : Int) (L st : List ZV) (h : PH) (hx : zisL x4 = false) , zev kX1_changes 31 (x0 :: x1 :: x2 :: x3 :: x4 :: x5 :: L) (zvi a :: st) h = zev kX1_changes 33 (x0 :: x1 :: x2 :: x3 :: x4 :: zvi a :: L) st h) ∧
  (∀ (a : Option Nat) (L st : List ZV) (h : PH), zev kX1_changes 33 (zvr a :: L) st h = zev kX1_changes 34 (zvr a :: L) (zvr a :: st) h) ∧
  (∀ (x0 x1 x2 x3 x4 : ZV) (a : Int) (L st : List ZV) (h : PH), zev kX1_changes 34 (x0 :: x1 :: x2 :: x3 :: x4 :: zvi a :: L) st h = zev kX1_changes 36 (x0 :: x1 :: x2 :: x3 :: x4 :: zvi a :: L) (zvi a :: st) h) ∧
  (∀ (L st : List ZV) (h : PH), zev kX1_changes 36 L st h = zev kX1_changes 37 L (zvi (-1) :: st) h) ∧
  (∀ (a b : Int) (L st : List ZV) (h : PH), zev kX1_changes 37 L (zvi b :: zvi a :: st) h = if a ≠ b then zev kX1_changes 54 L st h else zev kX1_changes 40 L st h) ∧
  (∀ (x0 : ZV) (a : Int) (L st : List ZV) (h : PH), zev kX1_changes 40 (x0 :: zvi a :: L) st h = zev kX1_changes 41 (x0 :: zvi a :: L) (zvi a :: st) h) ∧
  (∀ (x0 x1 : ZV) (a : Int) (L st : List ZV) (h : PH), zev kX1_changes 41 (x0 :: x1 :: zvi a :: L) st h = zev kX1_changes 42 (x0 :: x1 :: zvi a :: L) (zvi a :: st) h) ∧
  (∀ (a b : Int) (L st : List ZV) (h : PH), zev kX1_changes 42 L (zvi b :: zvi a :: st) h = if a ≠ b then zev kX1_changes 49 L st h else zev kX1_changes 45 L st h) ∧
  (∀ (L st : List ZV) (h : PH), zev kX1_changes 45 L st h = zev kX1_changes 46 L (zvi 0 :: st) h) ∧
  (∀ (L st : List ZV) (h : PH), zev kX1_changes 46 L st h = zev kX1_changes 64 L st h) ∧
  (∀ (L st : List ZV) (h : PH), zev kX1_changes 49 L st h = zev kX1_changes 51 L (zvi (-2) :: st) h) ∧
  (∀ (L st : List ZV) (h : PH), zev kX1_changes 51 L st h = zev kX1_changes 64 L st h) ∧
  (∀ (a : Option Nat) (L st : List ZV) (h : PH), zev kX1_changes 54 (zvr a :: L) st h = zev kX1_changes 55 (zvr a :: L) (zvr a :: st) h) ∧
  (∀ (q : Nat) (L st : List ZV) (h : PH), zev kX1_changes 55 L (zvr (some q) :: st) h = if (ph_K h q).1 % 1000 = 16 then zev kX1_changes 58 L (zvr (ph_R h q 8) :: st) h else none) ∧
  (∀ (q : Nat) (L st : List ZV) (h : PH), zev kX1_changes 58 L (zvr (some q) :: st) h = if (ph_K h q).1 % 1000 = 17 then zev kX1_changes 61 L (zvr (ph_R h q 3) :: st) h else none) ∧
  (∀ (x0 x1 x2 x3 x4 : ZV) (a : Int) (L st : List ZV) (h : PH), zev kX1_changes 61 (x0 :: x1 :: x2 :: x3 :: x4 :: zvi a :: L) st h = zev kX1_changes 63 (x0 :: x1 :: x2 :: x3 :: x4 :: zvi a :: L) (zvi a :: st) h) ∧
  (∀ (j : Int) (q : Nat) (L st : List ZV) (h : PH), zev kX1_changes 63 L (zvi j :: zvr (some q) :: st) h = if (ph_K h q).1 % 1000 = 1 ∧ 0 ≤ j ∧ j < (ph_K h q).2 then zev kX1_changes 64 L (zvi (ph_I h q j) :: st) h else none) ∧
  (∀ (v0 : ZV) (q : Nat) (L st : List ZV) (h : PH), zev kX1_changes 64 L (v0 :: zvr (some q) :: st) h = if (ph_K h q).1 % 1000 = 16 ∧ zcat st ≤ 8 then zk kX1_changes 64 67 L st (mX1_fine [zvr (some q), v0] h) else none) ∧
  (∀ (a : Int) (L : List ZV) (h : PH), zev kX1_changes 67 L [zvi a] h = zrv (zvi a) h) :=
  ⟨fun a L st h => e_ld0R (n := 1) rfl,
  fun x0 a L st h => e_ld1I (n := 2) rfl,
  fun x0 x1 a L st h => e_ld2I (n := 3) rfl,
  fun x0 x1 x2 a L st h => e_ld3I (n := 4) rfl,
  fun v0 v1 v2 q L st h => e_callV4 (F := mX1_refuses) (kd := 16) (n := 7) rfl,
  fun x0 x1 x2 x3 x4 a L st h hx => e_st4I (n := 9) rfl hx,
  fun x0 x1 x2 x3 a L st h => e_ld4I (n := 11) rfl,
  fun a L st h => e_ifle (t := 21) (n := 14) rfl,
  fun a L st h => e_ld0R (n := 15) rfl,
  fun x0 x1 x2 x3 a L st h => e_ld4I (n := 17) rfl,
  fun v0 q L st h => e_callV2 (F := mX1_refused) (kd := 16) (n := 20) rfl,
  fun a L h => e_retI rfl,
  fun a L st h => e_ld0R (n := 22) rfl,
  fun q L st h => e_callV1 (F := mX1_asIs) (kd := 16) (n := 25) rfl,
  fun x0 a L st h => e_ld1I (n := 26) rfl,
  fun x0 x1 a L st h => e_ld2I (n := 27) rfl,
  fun x0 x1 x2 a L st h => e_ld3I (n := 28) rfl,
  fun v0 v1 v2 q L st h => e_callV4 (F := mX3_best) (kd := 17) (n := 31) rfl,
  fun x0 x1 x2 x3 x4 x5 a L st h hx => e_st5I (n := 33) rfl hx,
  fun a L st h => e_ld0R (n := 34) rfl,
  fun x0 x1 x2 x3 x4 a L st h => e_ld5I (n := 36) rfl,
  fun L st h => e_push (v := zvi (-1)) (n := 37) rfl,
  fun a b L st h => e_cmpne (t := 54) (n := 40) rfl,
  fun x0 a L st h => e_ld1I (n := 41) rfl,
  fun x0 x1 a L st h => e_ld2I (n := 42) rfl,
  fun a b L st h => e_cmpne (t := 49) (n := 45) rfl,
  fun L st h => e_push (v := zvi 0) (n := 46) rfl,
  fun L st h => e_goto (t := 64) rfl,
  fun L st h => e_push (v := zvi (-2)) (n := 51) rfl,
  fun L st h => e_goto (t := 64) rfl,
  fun a L st h => e_ld0R (n := 55) rfl,
  fun q L st h => e_getR (kd := 16) (k := 8) (n := 58) rfl,
  fun q L st h => e_getR (kd := 17) (k := 3) (n := 61) rfl,
  fun x0 x1 x2 x3 x4 a L st h => e_ld5I (n := 63) rfl,
  fun j q L st h => e_ald (kd := 1) (n := 64) rfl,
  fun v0 q L st h => e_callV2 (F := mX1_fine) (kd := 16) (n := 67) rfl,
  fun a L h => e_retI rfl⟩
theorem allX1_changes : zall yX1_changes cX1_changes 6 (some .int) 9 kX1_changes.1 :=
  ⟨k_aload_n dX1_changes_0,
  k_iload_n dX1_changes_1,
  k_iload_n dX1_changes_2,
  k_iload_n dX1_changes_3,
  k_callV (y2 := yX1_refuses) (C := RX1) (T0 := TX1) (ci := 0) dX1_changes_4 sndX1_refuses rfl q1334 q1336 qs36 q128 q1337 (by decide +kernel) ⟨by decide, by decide⟩ (by decide) (by decide),
  k_istore dX1_changes_7,
  k_iload dX1_changes_9,
  k_ifle (t := 21) dX1_changes_11 (by decide),
  k_aload_n dX1_changes_14,
  k_iload dX1_changes_15,
  k_callV (y2 := yX1_refused) (C := RX1) (T0 := TX1) (ci := 0) dX1_changes_17 sndX1_refused rfl q378 q380 qs1 q128 q381 (by decide +kernel) ⟨by decide, by decide⟩ (by decide) (by decide),
  k_iret dX1_changes_20,
  k_aload_n dX1_changes_21,
  k_callV (y2 := yX1_asIs) (C := RX1) (T0 := TX1) (ci := 0) dX1_changes_22 sndX1_asIs rfl q1338 q1340 qs37 q128 q1341 (by decide +kernel) ⟨by decide, by decide⟩ (by decide) (by decide),
  k_iload_n dX1_changes_25,
  k_iload_n dX1_changes_26,
  k_iload_n dX1_changes_27,
  k_callV (y2 := yX3_best) (C := RX3) (T0 := TX3) (ci := 1) dX1_changes_28 sndX3_best rfl q1380 q1381 q1382 q136 q1383 (by decide +kernel) ⟨by decide, by decide⟩ (by decide) (by decide),
  k_istore dX1_changes_31,
  k_aload_n dX1_changes_33,
  k_iload dX1_changes_34,
  k_iconst dX1_changes_36,
  k_cmpne (t := 54) dX1_changes_37 (by decide),
  k_iload_n dX1_changes_40,
  k_iload_n dX1_changes_41,
  k_cmpne (t := 49) dX1_changes_42 (by decide),
  k_iconst dX1_changes_45,
  k_goto (t := 64) dX1_changes_46 (by decide),
  k_bipush dX1_changes_49,
  k_goto (t := 64) dX1_changes_51 (by decide),
  k_aload_n dX1_changes_54,
  k_getR (C := RX1) (T := TX1) (N := 19) (ci := 0) (k := 8) (ref := "LinkTimes") dX1_changes_55 rfl in_X1 (by decide) q311 (Or.inl rfl) (fun _ _ _ => rfl),
  k_getRN (C := RX3) (T := TX3) (N := 9) (ci := 1) (k := 3) (ref := "LinkTimes$Search") dX1_changes_58 rfl in_X3 (by decide) q272 (Or.inl rfl) (fun _ _ _ => rfl),
  k_iload dX1_changes_61,
  k_iald dX1_changes_63,
  k_callV (y2 := yX1_fine) (C := RX1) (T0 := TX1) (ci := 0) dX1_changes_64 sndX1_fine rfl q1211 q1213 qs32 q128 q1214 (by decide +kernel) ⟨by decide, by decide⟩ (by decide) (by decide),
  k_iret dX1_changes_67, trivial⟩
theorem sndX1_changes : MSound 9 yX1_changes (ws_ yX1_changes cX1_changes 6 (some .int)) mX1_changes := msound_M (by decide) allX1_changes (fun _ _ => rfl)
/-! LinkTimes.leaves(III)I -/
noncomputable def kX1_leaves : ZM := ([(0, zi_ld 1 0 1), (1, zi_ld 0 1 2), (2, zi_ld 0 2 3), (3, zi_ld 0 3 4), (4, zi_callV mX1_refuses 16 4 7), (7, zi_st 0 4 9), (9, zi_ld 0 4 11), (11, zi_if (fun a => zc_le a 0) 21 14), (14, zi_ld 1 0 15), (15, zi_ld 0 4 17), (17, zi_callV mX1_refused 16 2 20), (20, zi_retv 0), (21, zi_ld 1 0 22), (22, zi_callV mX1_asIs 16 1 25), (25, zi_ld 0 1 26), (26, zi_ld 0 2 27), (27, zi_ld 0 3 28), (28, zi_callV mX3_best 17 4 31), (31, zi_st 0 5 33), (33, zi_ld 1 0 34), (34, zi_ld 0 5 36), (36, zi_push (zvi (-1)) 37), (37, zi_cmp zc_ne 54 40), (40, zi_ld 0 1 41), (41, zi_ld 0 2 42), (42, zi_cmp zc_ne 49 45), (45, zi_ld 0 3 46), (46, zi_goto 64), (49, zi_push (zvi (-2)) 51), (51, zi_goto 64), (54, zi_ld 1 0 55), (55, zi_getR 16 8 58), (58, zi_getR 17 1 61), (61, zi_ld 0 5 63), (63, zi_ald 1 64), (64, zi_callV mX1_fine 16 2 67), (67, zi_retv 0)], fun _ _ => none)
noncomputable def mX1_leaves : ZF := zrunM kX1_leaves 6
theorem enX1_leaves (x0 : Option Nat) (x1 : Int) (x2 : Int) (x3 : Int) (h : PH) : mX1_leaves [zvr x0, zvi x1, zvi x2, zvi x3] h = zev kX1_leaves 0 [zvr x0, zvi x1, zvi x2, zvi x3, zvu, zvu] [] h := zrunM_eq rfl rfl
theorem rX1_leaves : (∀ (a : Option Nat) (L st : List ZV) (h : PH), zev kX1_leaves 0 (zvr a :: L) st h = zev kX1_leaves 1 (zvr a :: L) (zvr a :: st) h) ∧
  (∀ (x0 : ZV) (a : Int) (L st : List ZV) (h : PH), zev kX1_leaves 1 (x0 :: zvi a :: L) st h = zev kX1_leaves 2 (x0 :: zvi a :: L) (zvi a :: st) h) ∧
  (∀ (x0 x1 : ZV) (a : Int) (L st : List ZV) (h : PH), zev kX1_leaves 2 (x0 :: x1 :: zvi a :: L) st h = zev kX1_leaves 3 (x0 :: x1 :: zvi a :: L) (zvi a :: st) h) ∧
  (∀ (x0 x1 x2 : ZV) (a : Int) (L st : List ZV) (h : PH), zev kX1_leaves 3 (x0 :: x1 :: x2 :: zvi a :: L) st h = zev kX1_leaves 4 (x0 :: x1 :: x2 :: zvi a :: L) (zvi a :: st) h) ∧
  (∀ (v0 v1 v2 : ZV) (q : Nat) (L st : List ZV) (h : PH), zev kX1_leaves 4 L (v2 :: v1 :: v0 :: zvr (some q) :: st) h = if (ph_K h q).1 % 1000 = 16 ∧ zcat st ≤ 8 then zk kX1_leaves 4 7 L st (mX1_refuses [zvr (some q), v0, v1, v2] h) else none) ∧
  (∀ (x0 x1 x2 x3 x4 : ZV) (a : Int) (L st : List ZV) (h : PH) (hx : zisL x3 = false) , zev kX1_leaves 7 (x0 :: x1 :: x2 :: x3 :: x4 :: L) (zvi a :: st) h = zev kX1_leaves 9 (x0 :: x1 :: x2 :: x3 :: zvi a :: L) st h) ∧
  (∀ (x0 x1 x2 x3 : ZV) (a : Int) (L st : List ZV) (h : PH), zev kX1_leaves 9 (x0 :: x1 :: x2 :: x3 :: zvi a :: L) st h = zev kX1_leaves 11 (x0 :: x1 :: x2 :: x3 :: zvi a :: L) (zvi a :: st) h) ∧
  (∀ (a : Int) (L st : List ZV) (h : PH), zev kX1_leaves 11 L (zvi a :: st) h = if a ≤ 0 then zev kX1_leaves 21 L st h else zev kX1_leaves 14 L st h) ∧
  (∀ (a : Option Nat) (L st : List ZV) (h : PH), zev kX1_leaves 14 (zvr a :: L) st h = zev kX1_leaves 15 (zvr a :: L) (zvr a :: st) h) ∧
  (∀ (x0 x1 x2 x3 : ZV) (a : Int) (L st : List ZV) (h : PH), zev kX1_leaves 15 (x0 :: x1 :: x2 :: x3 :: zvi a :: L) st h = zev kX1_leaves 17 (x0 :: x1 :: x2 :: x3 :: zvi a :: L) (zvi a :: st) h) ∧
  (∀ (v0 : ZV) (q : Nat) (L st : List ZV) (h : PH), zev kX1_leaves 17 L (v0 :: zvr (some q) :: st) h = if (ph_K h q).1 % 1000 = 16 ∧ zcat st ≤ 8 then zk kX1_leaves 17 20 L st (mX1_refused [zvr (some q), v0] h) else none) ∧
  (∀ (a : Int) (L : List ZV) (h : PH), zev kX1_leaves 20 L [zvi a] h = zrv (zvi a) h) ∧
  (∀ (a : Option Nat) (L st : List ZV) (h : PH), zev kX1_leaves 21 (zvr a :: L) st h = zev kX1_leaves 22 (zvr a :: L) (zvr a :: st) h) ∧
  (∀ (q : Nat) (L st : List ZV) (h : PH), zev kX1_leaves 22 L (zvr (some q) :: st) h = if (ph_K h q).1 % 1000 = 16 ∧ zcat st ≤ 8 then zk kX1_leaves 22 25 L st (mX1_asIs [zvr (some q)] h) else none) ∧
  (∀ (x0 : ZV) (a : Int) (L st : List ZV) (h : PH), zev kX1_leaves 25 (x0 :: zvi a :: L) st h = zev kX1_leaves 26 (x0 :: zvi a :: L) (zvi a :: st) h) ∧
  (∀ (x0 x1 : ZV) (a : Int) (L st : List ZV) (h : PH), zev kX1_leaves 26 (x0 :: x1 :: zvi a :: L) st h = zev kX1_leaves 27 (x0 :: x1 :: zvi a :: L) (zvi a :: st) h) ∧
  (∀ (x0 x1 x2 : ZV) (a : Int) (L st : List ZV) (h : PH), zev kX1_leaves 27 (x0 :: x1 :: x2 :: zvi a :: L) st h = zev kX1_leaves 28 (x0 :: x1 :: x2 :: zvi a :: L) (zvi a :: st) h) ∧
  (∀ (v0 v1 v2 : ZV) (q : Nat) (L st : List ZV) (h : PH), zev kX1_leaves 28 L (v2 :: v1 :: v0 :: zvr (some q) :: st) h = if (ph_K h q).1 % 1000 = 17 ∧ zcat st ≤ 8 then zk kX1_leaves 28 31 L st (mX3_best [zvr (some q), v0, v1, v2] h) else none) ∧
  (∀ (x0 x1 x2 x3 x4 x5 : ZV) (a : Int) (L st : List ZV) (h : PH) (hx : zisL x4 = false) , zev kX1_leaves 31 (x0 :: x1 :: x2 :: x3 :: x4 :: x5 :: L) (zvi a :: st) h = zev kX1_leaves 33 (x0 :: x1 :: x2 :: x3 :: x4 :: zvi a :: L) st h) ∧
  (∀ (a : Option Nat) (L st : List ZV) (h : PH), zev kX1_leaves 33 (zvr a :: L) st h = zev kX1_leaves 34 (zvr a :: L) (zvr a :: st) h) ∧
  (∀ (x0 x1 x2 x3 x4 : ZV) (a : Int) (L st : List ZV) (h : PH), zev kX1_leaves 34 (x0 :: x1 :: x2 :: x3 :: x4 :: zvi a :: L) st h = zev kX1_leaves 36 (x0 :: x1 :: x2 :: x3 :: x4 :: zvi a :: L) (zvi a :: st) h) ∧
  (∀ (L st : List ZV) (h : PH), zev kX1_leaves 36 L st h = zev kX1_leaves 37 L (zvi (-1) :: st) h) ∧
  (∀ (a b : Int) (L st : List ZV) (h : PH), zev kX1_leaves 37 L (zvi b :: zvi a :: st) h = if a ≠ b then zev kX1_leaves 54 L st h else zev kX1_leaves 40 L st h) ∧
  (∀ (x0 : ZV) (a : Int) (L st : List ZV) (h : PH), zev kX1_leaves 40 (x0 :: zvi a :: L) st h = zev kX1_leaves 41 (x0 :: zvi a :: L) (zvi a :: st) h) ∧
  (∀ (x0 x1 : ZV) (a : Int) (L st : List ZV) (h : PH), zev kX1_leaves 41 (x0 :: x1 :: zvi a :: L) st h = zev kX1_leaves 42 (x0 :: x1 :: zvi a :: L) (zvi a :: st) h) ∧
  (∀ (a b : Int) (L st : List ZV) (h : PH), zev kX1_leaves 42 L (zvi b :: zvi a :: st) h = if a ≠ b then zev kX1_leaves 49 L st h else zev kX1_leaves 45 L st h) ∧
  (∀ (x0 x1 x2 : ZV) (a : Int) (L st : List ZV) (h : PH), zev kX1_leaves 45 (x0 :: x1 :: x2 :: zvi a :: L) st h = zev kX1_leaves 46 (x0 :: x1 :: x2 :: zvi a :: L) (zvi a :: st) h) ∧
  (∀ (L st : List ZV) (h : PH), zev kX1_leaves 46 L st h = zev kX1_leaves 64 L st h) ∧
  (∀ (L st : List ZV) (h : PH), zev kX1_leaves 49 L st h = zev kX1_leaves 51 L (zvi (-2) :: st) h) ∧
  (∀ (L st : List ZV) (h : PH), zev kX1_leaves 51 L st h = zev kX1_leaves 64 L st h) ∧
  (∀ (a : Option Nat) (L st : List ZV) (h : PH), zev kX1_leaves 54 (zvr a :: L) st h = zev kX1_leaves 55 (zvr a :: L) (zvr a :: st) h) ∧
  (∀ (q : Nat) (L st : List ZV) (h : PH), zev kX1_leaves 55 L (zvr (some q) :: st) h = if (ph_K h q).1 % 1000 = 16 then zev kX1_leaves 58 L (zvr (ph_R h q 8) :: st) h else none) ∧
  (∀ (q : Nat) (L st : List ZV) (h : PH), zev kX1_leaves 58 L (zvr (some q) :: st) h = if (ph_K h q).1 % 1000 = 17 then zev kX1_leaves 61 L (zvr (ph_R h q 1) :: st) h else none) ∧
  (∀ (x0 x1 x2 x3 x4 : ZV) (a : Int) (L st : List ZV) (h : PH), zev kX1_leaves 61 (x0 :: x1 :: x2 :: x3 :: x4 :: zvi a :: L) st h = zev kX1_leaves 63 (x0 :: x1 :: x2 :: x3 :: x4 :: zvi a :: L) (zvi a :: st) h) ∧
  (∀ (j : Int) (q : Nat) (L st : List ZV) (h : PH), zev kX1_leaves 63 L (zvi j :: zvr (some q) :: st) h = if (ph_K h q).1 % 1000 = 1 ∧ 0 ≤ j ∧ j < (ph_K h q).2 then zev kX1_leaves 64 L (zvi (ph_I h q j) :: st) h else none) ∧
  (∀ (v0 : ZV) (q : Nat) (L st : List ZV) (h : PH), zev kX1_leaves 64 L (v0 :: zvr (some q) :: st) h = if (ph_K h q).1 % 1000 = 16 ∧ zcat st ≤ 8 then zk kX1_leaves 64 67 L st (mX1_fine [zvr (some q), v0] h) else none) ∧
  (∀ (a : Int) (L : List ZV) (h : PH), zev kX1_leaves 67 L [zvi a] h = zrv (zvi a) h) :=
  ⟨fun a L st h => e_ld0R (n := 1) rfl,
  fun x0 a L st h => e_ld1I (n := 2) rfl,
  fun x0 x1 a L st h => e_ld2I (n := 3) rfl,
  fun x0 x1 x2 a L st h => e_ld3I (n := 4) rfl,
  fun v0 v1 v2 q L st h => e_callV4 (F := mX1_refuses) (kd := 16) (n := 7) rfl,
  fun x0 x1 x2 x3 x4 a L st h hx => e_st4I (n := 9) rfl hx,
  fun x0 x1 x2 x3 a L st h => e_ld4I (n := 11) rfl,
  fun a L st h => e_ifle (t := 21) (n := 14) rfl,
  fun a L st h => e_ld0R (n := 15) rfl,
  fun x0 x1 x2 x3 a L st h => e_ld4I (n := 17) rfl,
  fun v0 q L st h => e_callV2 (F := mX1_refused) (kd := 16) (n := 20) rfl,
  fun a L h => e_retI rfl,
  fun a L st h => e_ld0R (n := 22) rfl,
  fun q L st h => e_callV1 (F := mX1_asIs) (kd := 16) (n := 25) rfl,
  fun x0 a L st h => e_ld1I (n := 26) rfl,
  fun x0 x1 a L st h => e_ld2I (n := 27) rfl,
  fun x0 x1 x2 a L st h => e_ld3I (n := 28) rfl,
  fun v0 v1 v2 q L st h => e_callV4 (F := mX3_best) (kd := 17) (n := 31) rfl,
  fun x0 x1 x2 x3 x4 x5 a L st h hx => e_st5I (n := 33) rfl hx,
  fun a L st h => e_ld0R (n := 34) rfl,
  fun x0 x1 x2 x3 x4 a L st h => e_ld5I (n := 36) rfl,
  fun L st h => e_push (v := zvi (-1)) (n := 37) rfl,
  fun a b L st h => e_cmpne (t := 54) (n := 40) rfl,
  fun x0 a L st h => e_ld1I (n := 41) rfl,
  fun x0 x1 a L st h => e_ld2I (n := 42) rfl,
  fun a b L st h => e_cmpne (t := 49) (n := 45) rfl,
  fun x0 x1 x2 a L st h => e_ld3I (n := 46) rfl,
  fun L st h => e_goto (t := 64) rfl,
  fun L st h => e_push (v := zvi (-2)) (n := 51) rfl,
  fun L st h => e_goto (t := 64) rfl,
  fun a L st h => e_ld0R (n := 55) rfl,
  fun q L st h => e_getR (kd := 16) (k := 8) (n := 58) rfl,
  fun q L st h => e_getR (kd := 17) (k := 1) (n := 61) rfl,
  fun x0 x1 x2 x3 x4 a L st h => e_ld5I (n := 63) rfl,
  fun j q L st h => e_ald (kd := 1) (n := 64) rfl,
  fun v0 q L st h => e_callV2 (F := mX1_fine) (kd := 16) (n := 67) rfl,
  fun a L h => e_retI rfl⟩
theorem allX1_leaves : zall yX1_leaves cX1_leaves 6 (some .int) 9 kX1_leaves.1 :=
  ⟨k_aload_n dX1_leaves_0,
  k_iload_n dX1_leaves_1,
  k_iload_n dX1_leaves_2,
  k_iload_n dX1_leaves_3,
  k_callV (y2 := yX1_refuses) (C := RX1) (T0 := TX1) (ci := 0) dX1_leaves_4 sndX1_refuses rfl q1334 q1336 qs36 q128 q1337 (by decide +kernel) ⟨by decide, by decide⟩ (by decide) (by decide),
  k_istore dX1_leaves_7,
  k_iload dX1_leaves_9,
  k_ifle (t := 21) dX1_leaves_11 (by decide),
  k_aload_n dX1_leaves_14,
  k_iload dX1_leaves_15,
  k_callV (y2 := yX1_refused) (C := RX1) (T0 := TX1) (ci := 0) dX1_leaves_17 sndX1_refused rfl q378 q380 qs1 q128 q381 (by decide +kernel) ⟨by decide, by decide⟩ (by decide) (by decide),
  k_iret dX1_leaves_20,
  k_aload_n dX1_leaves_21,
  k_callV (y2 := yX1_asIs) (C := RX1) (T0 := TX1) (ci := 0) dX1_leaves_22 sndX1_asIs rfl q1338 q1340 qs37 q128 q1341 (by decide +kernel) ⟨by decide, by decide⟩ (by decide) (by decide),
  k_iload_n dX1_leaves_25,
  k_iload_n dX1_leaves_26,
  k_iload_n dX1_leaves_27,
  k_callV (y2 := yX3_best) (C := RX3) (T0 := TX3) (ci := 1) dX1_leaves_28 sndX3_best rfl q1380 q1381 q1382 q136 q1383 (by decide +kernel) ⟨by decide, by decide⟩ (by decide) (by decide),
  k_istore dX1_leaves_31,
  k_aload_n dX1_leaves_33,
  k_iload dX1_leaves_34,
  k_iconst dX1_leaves_36,
  k_cmpne (t := 54) dX1_leaves_37 (by decide),
  k_iload_n dX1_leaves_40,
  k_iload_n dX1_leaves_41,
  k_cmpne (t := 49) dX1_leaves_42 (by decide),
  k_iload_n dX1_leaves_45,
  k_goto (t := 64) dX1_leaves_46 (by decide),
  k_bipush dX1_leaves_49,
  k_goto (t := 64) dX1_leaves_51 (by decide),
  k_aload_n dX1_leaves_54,
  k_getR (C := RX1) (T := TX1) (N := 19) (ci := 0) (k := 8) (ref := "LinkTimes") dX1_leaves_55 rfl in_X1 (by decide) q311 (Or.inl rfl) (fun _ _ _ => rfl),
  k_getRN (C := RX3) (T := TX3) (N := 9) (ci := 1) (k := 1) (ref := "LinkTimes$Search") dX1_leaves_58 rfl in_X3 (by decide) q268 (Or.inl rfl) (fun _ _ _ => rfl),
  k_iload dX1_leaves_61,
  k_iald dX1_leaves_63,
  k_callV (y2 := yX1_fine) (C := RX1) (T0 := TX1) (ci := 0) dX1_leaves_64 sndX1_fine rfl q1211 q1213 qs32 q128 q1214 (by decide +kernel) ⟨by decide, by decide⟩ (by decide) (by decide),
  k_iret dX1_leaves_67, trivial⟩
theorem sndX1_leaves : MSound 9 yX1_leaves (ws_ yX1_leaves cX1_leaves 6 (some .int)) mX1_leaves := msound_M (by decide) allX1_leaves (fun _ _ => rfl)
/-! LinkTimes.rides(III)I -/
noncomputable def kX1_rides : ZM := ([(0, zi_ld 1 0 1), (1, zi_ld 0 1 2), (2, zi_ld 0 2 3), (3, zi_ld 0 3 4), (4, zi_callV mX1_refuses 16 4 7), (7, zi_st 0 4 9), (9, zi_ld 0 4 11), (11, zi_if (fun a => zc_le a 0) 21 14), (14, zi_ld 1 0 15), (15, zi_ld 0 4 17), (17, zi_callV mX1_refused 16 2 20), (20, zi_retv 0), (21, zi_ld 1 0 22), (22, zi_callV mX1_asIs 16 1 25), (25, zi_ld 0 1 26), (26, zi_ld 0 2 27), (27, zi_ld 0 3 28), (28, zi_callV mX3_best 17 4 31), (31, zi_st 0 5 33), (33, zi_ld 1 0 34), (34, zi_ld 0 5 36), (36, zi_push (zvi (-1)) 37), (37, zi_cmp zc_ne 54 40), (40, zi_ld 0 1 41), (41, zi_ld 0 2 42), (42, zi_cmp zc_ne 49 45), (45, zi_push (zvi 0) 46), (46, zi_goto 64), (49, zi_push (zvi (-2)) 51), (51, zi_goto 64), (54, zi_ld 1 0 55), (55, zi_getR 16 8 58), (58, zi_getR 17 4 61), (61, zi_ld 0 5 63), (63, zi_ald 1 64), (64, zi_callV mX1_fine 16 2 67), (67, zi_retv 0)], fun _ _ => none)
noncomputable def mX1_rides : ZF := zrunM kX1_rides 6
theorem enX1_rides (x0 : Option Nat) (x1 : Int) (x2 : Int) (x3 : Int) (h : PH) : mX1_rides [zvr x0, zvi x1, zvi x2, zvi x3] h = zev kX1_rides 0 [zvr x0, zvi x1, zvi x2, zvi x3, zvu, zvu] [] h := zrunM_eq rfl rfl
theorem rX1_rides : (∀ (a : Option Nat) (L st : List ZV) (h : PH), zev kX1_rides 0 (zvr a :: L) st h = zev kX1_rides 1 (zvr a :: L) (zvr a :: st) h) ∧
  (∀ (x0 : ZV) (a : Int) (L st : List ZV) (h : PH), zev kX1_rides 1 (x0 :: zvi a :: L) st h = zev kX1_rides 2 (x0 :: zvi a :: L) (zvi a :: st) h) ∧
  (∀ (x0 x1 : ZV) (a : Int) (L st : List ZV) (h : PH), zev kX1_rides 2 (x0 :: x1 :: zvi a :: L) st h = zev kX1_rides 3 (x0 :: x1 :: zvi a :: L) (zvi a :: st) h) ∧
  (∀ (x0 x1 x2 : ZV) (a : Int) (L st : List ZV) (h : PH), zev kX1_rides 3 (x0 :: x1 :: x2 :: zvi a :: L) st h = zev kX1_rides 4 (x0 :: x1 :: x2 :: zvi a :: L) (zvi a :: st) h) ∧
  (∀ (v0 v1 v2 : ZV) (q : Nat) (L st : List ZV) (h : PH), zev kX1_rides 4 L (v2 :: v1 :: v0 :: zvr (some q) :: st) h = if (ph_K h q).1 % 1000 = 16 ∧ zcat st ≤ 8 then zk kX1_rides 4 7 L st (mX1_refuses [zvr (some q), v0, v1, v2] h) else none) ∧
  (∀ (x0 x1 x2 x3 x4 : ZV) (a : Int) (L st : List ZV) (h : PH) (hx : zisL x3 = false) , zev kX1_rides 7 (x0 :: x1 :: x2 :: x3 :: x4 :: L) (zvi a :: st) h = zev kX1_rides 9 (x0 :: x1 :: x2 :: x3 :: zvi a :: L) st h) ∧
  (∀ (x0 x1 x2 x3 : ZV) (a : Int) (L st : List ZV) (h : PH), zev kX1_rides 9 (x0 :: x1 :: x2 :: x3 :: zvi a :: L) st h = zev kX1_rides 11 (x0 :: x1 :: x2 :: x3 :: zvi a :: L) (zvi a :: st) h) ∧
  (∀ (a : Int) (L st : List ZV) (h : PH), zev kX1_rides 11 L (zvi a :: st) h = if a ≤ 0 then zev kX1_rides 21 L st h else zev kX1_rides 14 L st h) ∧
  (∀ (a : Option Nat) (L st : List ZV) (h : PH), zev kX1_rides 14 (zvr a :: L) st h = zev kX1_rides 15 (zvr a :: L) (zvr a :: st) h) ∧
  (∀ (x0 x1 x2 x3 : ZV) (a : Int) (L st : List ZV) (h : PH), zev kX1_rides 15 (x0 :: x1 :: x2 :: x3 :: zvi a :: L) st h = zev kX1_rides 17 (x0 :: x1 :: x2 :: x3 :: zvi a :: L) (zvi a :: st) h) ∧
  (∀ (v0 : ZV) (q : Nat) (L st : List ZV) (h : PH), zev kX1_rides 17 L (v0 :: zvr (some q) :: st) h = if (ph_K h q).1 % 1000 = 16 ∧ zcat st ≤ 8 then zk kX1_rides 17 20 L st (mX1_refused [zvr (some q), v0] h) else none) ∧
  (∀ (a : Int) (L : List ZV) (h : PH), zev kX1_rides 20 L [zvi a] h = zrv (zvi a) h) ∧
  (∀ (a : Option Nat) (L st : List ZV) (h : PH), zev kX1_rides 21 (zvr a :: L) st h = zev kX1_rides 22 (zvr a :: L) (zvr a :: st) h) ∧
  (∀ (q : Nat) (L st : List ZV) (h : PH), zev kX1_rides 22 L (zvr (some q) :: st) h = if (ph_K h q).1 % 1000 = 16 ∧ zcat st ≤ 8 then zk kX1_rides 22 25 L st (mX1_asIs [zvr (some q)] h) else none) ∧
  (∀ (x0 : ZV) (a : Int) (L st : List ZV) (h : PH), zev kX1_rides 25 (x0 :: zvi a :: L) st h = zev kX1_rides 26 (x0 :: zvi a :: L) (zvi a :: st) h) ∧
  (∀ (x0 x1 : ZV) (a : Int) (L st : List ZV) (h : PH), zev kX1_rides 26 (x0 :: x1 :: zvi a :: L) st h = zev kX1_rides 27 (x0 :: x1 :: zvi a :: L) (zvi a :: st) h) ∧
  (∀ (x0 x1 x2 : ZV) (a : Int) (L st : List ZV) (h : PH), zev kX1_rides 27 (x0 :: x1 :: x2 :: zvi a :: L) st h = zev kX1_rides 28 (x0 :: x1 :: x2 :: zvi a :: L) (zvi a :: st) h) ∧
  (∀ (v0 v1 v2 : ZV) (q : Nat) (L st : List ZV) (h : PH), zev kX1_rides 28 L (v2 :: v1 :: v0 :: zvr (some q) :: st) h = if (ph_K h q).1 % 1000 = 17 ∧ zcat st ≤ 8 then zk kX1_rides 28 31 L st (mX3_best [zvr (some q), v0, v1, v2] h) else none) ∧
  (∀ (x0 x1 x2 x3 x4 x5 : ZV) (a : Int) (L st : List ZV) (h : PH) (hx : zisL x4 = false) , zev kX1_rides 31 (x0 :: x1 :: x2 :: x3 :: x4 :: x5 :: L) (zvi a :: st) h = zev kX1_rides 33 (x0 :: x1 :: x2 :: x3 :: x4 :: zvi a :: L) st h) ∧
  (∀ (a : Option Nat) (L st : List ZV) (h : PH), zev kX1_rides 33 (zvr a :: L) st h = zev kX1_rides 34 (zvr a :: L) (zvr a :: st) h) ∧
  (∀ (x0 x1 x2 x3 x4 : ZV) (a : Int) (L st : List ZV) (h : PH), zev kX1_rides 34 (x0 :: x1 :: x2 :: x3 :: x4 :: zvi a :: L) st h = zev kX1_rides 36 (x0 :: x1 :: x2 :: x3 :: x4 :: zvi a :: L) (zvi a :: st) h) ∧
  (∀ (L st : List ZV) (h : PH), zev kX1_rides 36 L st h = zev kX1_rides 37 L (zvi (-1) :: st) h) ∧
  (∀ (a b : Int) (L st : List ZV) (h : PH), zev kX1_rides 37 L (zvi b :: zvi a :: st) h = if a ≠ b then zev kX1_rides 54 L st h else zev kX1_rides 40 L st h) ∧
  (∀ (x0 : ZV) (a : Int) (L st : List ZV) (h : PH), zev kX1_rides 40 (x0 :: zvi a :: L) st h = zev kX1_rides 41 (x0 :: zvi a :: L) (zvi a :: st) h) ∧
  (∀ (x0 x1 : ZV) (a : Int) (L st : List ZV) (h : PH), zev kX1_rides 41 (x0 :: x1 :: zvi a :: L) st h = zev kX1_rides 42 (x0 :: x1 :: zvi a :: L) (zvi a :: st) h) ∧
  (∀ (a b : Int) (L st : List ZV) (h : PH), zev kX1_rides 42 L (zvi b :: zvi a :: st) h = if a ≠ b then zev kX1_rides 49 L st h else zev kX1_rides 45 L st h) ∧
  (∀ (L st : List ZV) (h : PH), zev kX1_rides 45 L st h = zev kX1_rides 46 L (zvi 0 :: st) h) ∧
  (∀ (L st : List ZV) (h : PH), zev kX1_rides 46 L st h = zev kX1_rides 64 L st h) ∧
  (∀ (L st : List ZV) (h : PH), zev kX1_rides 49 L st h = zev kX1_rides 51 L (zvi (-2) :: st) h) ∧
  (∀ (L st : List ZV) (h : PH), zev kX1_rides 51 L st h = zev kX1_rides 64 L st h) ∧
  (∀ (a : Option Nat) (L st : List ZV) (h : PH), zev kX1_rides 54 (zvr a :: L) st h = zev kX1_rides 55 (zvr a :: L) (zvr a :: st) h) ∧
  (∀ (q : Nat) (L st : List ZV) (h : PH), zev kX1_rides 55 L (zvr (some q) :: st) h = if (ph_K h q).1 % 1000 = 16 then zev kX1_rides 58 L (zvr (ph_R h q 8) :: st) h else none) ∧
  (∀ (q : Nat) (L st : List ZV) (h : PH), zev kX1_rides 58 L (zvr (some q) :: st) h = if (ph_K h q).1 % 1000 = 17 then zev kX1_rides 61 L (zvr (ph_R h q 4) :: st) h else none) ∧
  (∀ (x0 x1 x2 x3 x4 : ZV) (a : Int) (L st : List ZV) (h : PH), zev kX1_rides 61 (x0 :: x1 :: x2 :: x3 :: x4 :: zvi a :: L) st h = zev kX1_rides 63 (x0 :: x1 :: x2 :: x3 :: x4 :: zvi a :: L) (zvi a :: st) h) ∧
  (∀ (j : Int) (q : Nat) (L st : List ZV) (h : PH), zev kX1_rides 63 L (zvi j :: zvr (some q) :: st) h = if (ph_K h q).1 % 1000 = 1 ∧ 0 ≤ j ∧ j < (ph_K h q).2 then zev kX1_rides 64 L (zvi (ph_I h q j) :: st) h else none) ∧
  (∀ (v0 : ZV) (q : Nat) (L st : List ZV) (h : PH), zev kX1_rides 64 L (v0 :: zvr (some q) :: st) h = if (ph_K h q).1 % 1000 = 16 ∧ zcat st ≤ 8 then zk kX1_rides 64 67 L st (mX1_fine [zvr (some q), v0] h) else none) ∧
  (∀ (a : Int) (L : List ZV) (h : PH), zev kX1_rides 67 L [zvi a] h = zrv (zvi a) h) :=
  ⟨fun a L st h => e_ld0R (n := 1) rfl,
  fun x0 a L st h => e_ld1I (n := 2) rfl,
  fun x0 x1 a L st h => e_ld2I (n := 3) rfl,
  fun x0 x1 x2 a L st h => e_ld3I (n := 4) rfl,
  fun v0 v1 v2 q L st h => e_callV4 (F := mX1_refuses) (kd := 16) (n := 7) rfl,
  fun x0 x1 x2 x3 x4 a L st h hx => e_st4I (n := 9) rfl hx,
  fun x0 x1 x2 x3 a L st h => e_ld4I (n := 11) rfl,
  fun a L st h => e_ifle (t := 21) (n := 14) rfl,
  fun a L st h => e_ld0R (n := 15) rfl,
  fun x0 x1 x2 x3 a L st h => e_ld4I (n := 17) rfl,
  fun v0 q L st h => e_callV2 (F := mX1_refused) (kd := 16) (n := 20) rfl,
  fun a L h => e_retI rfl,
  fun a L st h => e_ld0R (n := 22) rfl,
  fun q L st h => e_callV1 (F := mX1_asIs) (kd := 16) (n := 25) rfl,
  fun x0 a L st h => e_ld1I (n := 26) rfl,
  fun x0 x1 a L st h => e_ld2I (n := 27) rfl,
  fun x0 x1 x2 a L st h => e_ld3I (n := 28) rfl,
  fun v0 v1 v2 q L st h => e_callV4 (F := mX3_best) (kd := 17) (n := 31) rfl,
  fun x0 x1 x2 x3 x4 x5 a L st h hx => e_st5I (n := 33) rfl hx,
  fun a L st h => e_ld0R (n := 34) rfl,
  fun x0 x1 x2 x3 x4 a L st h => e_ld5I (n := 36) rfl,
  fun L st h => e_push (v := zvi (-1)) (n := 37) rfl,
  fun a b L st h => e_cmpne (t := 54) (n := 40) rfl,
  fun x0 a L st h => e_ld1I (n := 41) rfl,
  fun x0 x1 a L st h => e_ld2I (n := 42) rfl,
  fun a b L st h => e_cmpne (t := 49) (n := 45) rfl,
  fun L st h => e_push (v := zvi 0) (n := 46) rfl,
  fun L st h => e_goto (t := 64) rfl,
  fun L st h => e_push (v := zvi (-2)) (n := 51) rfl,
  fun L st h => e_goto (t := 64) rfl,
  fun a L st h => e_ld0R (n := 55) rfl,
  fun q L st h => e_getR (kd := 16) (k := 8) (n := 58) rfl,
  fun q L st h => e_getR (kd := 17) (k := 4) (n := 61) rfl,
  fun x0 x1 x2 x3 x4 a L st h => e_ld5I (n := 63) rfl,
  fun j q L st h => e_ald (kd := 1) (n := 64) rfl,
  fun v0 q L st h => e_callV2 (F := mX1_fine) (kd := 16) (n := 67) rfl,
  fun a L h => e_retI rfl⟩
theorem allX1_rides : zall yX1_rides cX1_rides 6 (some .int) 9 kX1_rides.1 :=
  ⟨k_aload_n dX1_rides_0,
  k_iload_n dX1_rides_1,
  k_iload_n dX1_rides_2,
  k_iload_n dX1_rides_3,
  k_callV (y2 := yX1_refuses) (C := RX1) (T0 := TX1) (ci := 0) dX1_rides_4 sndX1_refuses rfl q1334 q1336 qs36 q128 q1337 (by decide +kernel) ⟨by decide, by decide⟩ (by decide) (by decide),
  k_istore dX1_rides_7,
  k_iload dX1_rides_9,
  k_ifle (t := 21) dX1_rides_11 (by decide),
  k_aload_n dX1_rides_14,
  k_iload dX1_rides_15,
  k_callV (y2 := yX1_refused) (C := RX1) (T0 := TX1) (ci := 0) dX1_rides_17 sndX1_refused rfl q378 q380 qs1 q128 q381 (by decide +kernel) ⟨by decide, by decide⟩ (by decide) (by decide),
  k_iret dX1_rides_20,
  k_aload_n dX1_rides_21,
  k_callV (y2 := yX1_asIs) (C := RX1) (T0 := TX1) (ci := 0) dX1_rides_22 sndX1_asIs rfl q1338 q1340 qs37 q128 q1341 (by decide +kernel) ⟨by decide, by decide⟩ (by decide) (by decide),
  k_iload_n dX1_rides_25,
  k_iload_n dX1_rides_26,
  k_iload_n dX1_rides_27,
  k_callV (y2 := yX3_best) (C := RX3) (T0 := TX3) (ci := 1) dX1_rides_28 sndX3_best rfl q1380 q1381 q1382 q136 q1383 (by decide +kernel) ⟨by decide, by decide⟩ (by decide) (by decide),
  k_istore dX1_rides_31,
  k_aload_n dX1_rides_33,
  k_iload dX1_rides_34,
  k_iconst dX1_rides_36,
  k_cmpne (t := 54) dX1_rides_37 (by decide),
  k_iload_n dX1_rides_40,
  k_iload_n dX1_rides_41,
  k_cmpne (t := 49) dX1_rides_42 (by decide),
  k_iconst dX1_rides_45,
  k_goto (t := 64) dX1_rides_46 (by decide),
  k_bipush dX1_rides_49,
  k_goto (t := 64) dX1_rides_51 (by decide),
  k_aload_n dX1_rides_54,
  k_getR (C := RX1) (T := TX1) (N := 19) (ci := 0) (k := 8) (ref := "LinkTimes") dX1_rides_55 rfl in_X1 (by decide) q311 (Or.inl rfl) (fun _ _ _ => rfl),
  k_getRN (C := RX3) (T := TX3) (N := 9) (ci := 1) (k := 4) (ref := "LinkTimes$Search") dX1_rides_58 rfl in_X3 (by decide) q274 (Or.inl rfl) (fun _ _ _ => rfl),
  k_iload dX1_rides_61,
  k_iald dX1_rides_63,
  k_callV (y2 := yX1_fine) (C := RX1) (T0 := TX1) (ci := 0) dX1_rides_64 sndX1_fine rfl q1211 q1213 qs32 q128 q1214 (by decide +kernel) ⟨by decide, by decide⟩ (by decide) (by decide),
  k_iret dX1_rides_67, trivial⟩
theorem sndX1_rides : MSound 9 yX1_rides (ws_ yX1_rides cX1_rides 6 (some .int)) mX1_rides := msound_M (by decide) allX1_rides (fun _ _ => rfl)
/-! LinkTimes.ride(IIII)I -/
noncomputable def kX1_ride : ZM := ([(0, zi_ld 1 0 1), (1, zi_ld 0 1 2), (2, zi_ld 0 2 3), (3, zi_ld 0 3 4), (4, zi_callV mX1_refuses 16 4 7), (7, zi_st 0 5 9), (9, zi_ld 0 5 11), (11, zi_if (fun a => zc_le a 0) 21 14), (14, zi_ld 1 0 15), (15, zi_ld 0 5 17), (17, zi_callV mX1_refused 16 2 20), (20, zi_retv 0), (21, zi_ld 1 0 22), (22, zi_callV mX1_asIs 16 1 25), (25, zi_ld 0 1 26), (26, zi_ld 0 2 27), (27, zi_ld 0 3 28), (28, zi_callV mX3_best 17 4 31), (31, zi_st 0 6 33), (33, zi_ld 0 6 35), (35, zi_push (zvi (-1)) 36), (36, zi_cmp zc_ne 51 39), (39, zi_ld 0 1 40), (40, zi_ld 0 2 41), (41, zi_cmp zc_eq 51 44), (44, zi_ld 1 0 45), (45, zi_push (zvi (-2)) 47), (47, zi_callV mX1_fine 16 2 50), (50, zi_retv 0), (51, zi_ld 0 6 53), (53, zi_push (zvi (-1)) 54), (54, zi_cmp zc_eq 78 57), (57, zi_ld 0 4 59), (59, zi_push (zvi 0) 60), (60, zi_ld 1 0 61), (61, zi_getR 16 8 64), (64, zi_getR 17 4 67), (67, zi_ld 0 6 69), (69, zi_ald 1 70), (70, zi_push (zvi 1) 71), (71, zi_bin (fun a b => w32 (a - b)) 72), (72, zi_callS mX1_isIn 3 75), (75, zi_if (fun a => zc_ne a 0) 84 78), (78, zi_ld 1 0 79), (79, zi_push (zvi 1) 80), (80, zi_callV mX1_refused 16 2 83), (83, zi_retv 0), (84, zi_push (zvi 0) 85), (85, zi_st 0 7 87), (87, zi_ld 0 7 89), (89, zi_ld 0 4 91), (91, zi_cmp zc_ge 112 94), (94, zi_ld 1 0 95), (95, zi_getR 16 8 98), (98, zi_getR 17 5 101), (101, zi_ld 0 6 103), (103, zi_ald 1 104), (104, zi_st 0 6 106), (106, zi_iinc 7 1 109), (109, zi_goto 87), (112, zi_ld 1 0 113), (113, zi_ld 1 0 114), (114, zi_getR 16 8 117), (117, zi_getR 17 0 120), (120, zi_ld 0 6 122), (122, zi_aldR 123), (123, zi_getI 22 0 126), (126, zi_callV mX1_fine 16 2 129), (129, zi_retv 0)], fun _ _ => none)
noncomputable def mX1_ride : ZF := zrunM kX1_ride 8
theorem enX1_ride (x0 : Option Nat) (x1 : Int) (x2 : Int) (x3 : Int) (x4 : Int) (h : PH) : mX1_ride [zvr x0, zvi x1, zvi x2, zvi x3, zvi x4] h = zev kX1_ride 0 [zvr x0, zvi x1, zvi x2, zvi x3, zvi x4, zvu, zvu, zvu] [] h := zrunM_eq rfl rfl
theorem hdX1_ride_87 (x0 x1 x2 x3 x4 x5 x6 : ZV) (a : Int) (L st : List ZV) (h : PH) : zev kX1_ride 87 (x0 :: x1 :: x2 :: x3 :: x4 :: x5 :: x6 :: zvi a :: L) st h = zev kX1_ride 89 (x0 :: x1 :: x2 :: x3 :: x4 :: x5 :: x6 :: zvi a :: L) (zvi a :: st) h := e_ld7I (n := 89) rfl
theorem rX1_ride : (∀ (a : Option Nat) (L st : List ZV) (h : PH), zev kX1_ride 0 (zvr a :: L) st h = zev kX1_ride 1 (zvr a :: L) (zvr a :: st) h) ∧
  (∀ (x0 : ZV) (a : Int) (L st : List ZV) (h : PH), zev kX1_ride 1 (x0 :: zvi a :: L) st h = zev kX1_ride 2 (x0 :: zvi a :: L) (zvi a :: st) h) ∧
  (∀ (x0 x1 : ZV) (a : Int) (L st : List ZV) (h : PH), zev kX1_ride 2 (x0 :: x1 :: zvi a :: L) st h = zev kX1_ride 3 (x0 :: x1 :: zvi a :: L) (zvi a :: st) h) ∧
  (∀ (x0 x1 x2 : ZV) (a : Int) (L st : List ZV) (h : PH), zev kX1_ride 3 (x0 :: x1 :: x2 :: zvi a :: L) st h = zev kX1_ride 4 (x0 :: x1 :: x2 :: zvi a :: L) (zvi a :: st) h) ∧
  (∀ (v0 v1 v2 : ZV) (q : Nat) (L st : List ZV) (h : PH), zev kX1_ride 4 L (v2 :: v1 :: v0 :: zvr (some q) :: st) h = if (ph_K h q).1 % 1000 = 16 ∧ zcat st ≤ 8 then zk kX1_ride 4 7 L st (mX1_refuses [zvr (some q), v0, v1, v2] h) else none) ∧
  (∀ (x0 x1 x2 x3 x4 x5 : ZV) (a : Int) (L st : List ZV) (h : PH) (hx : zisL x4 = false) , zev kX1_ride 7 (x0 :: x1 :: x2 :: x3 :: x4 :: x5 :: L) (zvi a :: st) h = zev kX1_ride 9 (x0 :: x1 :: x2 :: x3 :: x4 :: zvi a :: L) st h) ∧
  (∀ (x0 x1 x2 x3 x4 : ZV) (a : Int) (L st : List ZV) (h : PH), zev kX1_ride 9 (x0 :: x1 :: x2 :: x3 :: x4 :: zvi a :: L) st h = zev kX1_ride 11 (x0 :: x1 :: x2 :: x3 :: x4 :: zvi a :: L) (zvi a :: st) h) ∧
  (∀ (a : Int) (L st : List ZV) (h : PH), zev kX1_ride 11 L (zvi a :: st) h = if a ≤ 0 then zev kX1_ride 21 L st h else zev kX1_ride 14 L st h) ∧
  (∀ (a : Option Nat) (L st : List ZV) (h : PH), zev kX1_ride 14 (zvr a :: L) st h = zev kX1_ride 15 (zvr a :: L) (zvr a :: st) h) ∧
  (∀ (x0 x1 x2 x3 x4 : ZV) (a : Int) (L st : List ZV) (h : PH), zev kX1_ride 15 (x0 :: x1 :: x2 :: x3 :: x4 :: zvi a :: L) st h = zev kX1_ride 17 (x0 :: x1 :: x2 :: x3 :: x4 :: zvi a :: L) (zvi a :: st) h) ∧
  (∀ (v0 : ZV) (q : Nat) (L st : List ZV) (h : PH), zev kX1_ride 17 L (v0 :: zvr (some q) :: st) h = if (ph_K h q).1 % 1000 = 16 ∧ zcat st ≤ 8 then zk kX1_ride 17 20 L st (mX1_refused [zvr (some q), v0] h) else none) ∧
  (∀ (a : Int) (L : List ZV) (h : PH), zev kX1_ride 20 L [zvi a] h = zrv (zvi a) h) ∧
  (∀ (a : Option Nat) (L st : List ZV) (h : PH), zev kX1_ride 21 (zvr a :: L) st h = zev kX1_ride 22 (zvr a :: L) (zvr a :: st) h) ∧
  (∀ (q : Nat) (L st : List ZV) (h : PH), zev kX1_ride 22 L (zvr (some q) :: st) h = if (ph_K h q).1 % 1000 = 16 ∧ zcat st ≤ 8 then zk kX1_ride 22 25 L st (mX1_asIs [zvr (some q)] h) else none) ∧
  (∀ (x0 : ZV) (a : Int) (L st : List ZV) (h : PH), zev kX1_ride 25 (x0 :: zvi a :: L) st h = zev kX1_ride 26 (x0 :: zvi a :: L) (zvi a :: st) h) ∧
  (∀ (x0 x1 : ZV) (a : Int) (L st : List ZV) (h : PH), zev kX1_ride 26 (x0 :: x1 :: zvi a :: L) st h = zev kX1_ride 27 (x0 :: x1 :: zvi a :: L) (zvi a :: st) h) ∧
  (∀ (x0 x1 x2 : ZV) (a : Int) (L st : List ZV) (h : PH), zev kX1_ride 27 (x0 :: x1 :: x2 :: zvi a :: L) st h = zev kX1_ride 28 (x0 :: x1 :: x2 :: zvi a :: L) (zvi a :: st) h) ∧
  (∀ (v0 v1 v2 : ZV) (q : Nat) (L st : List ZV) (h : PH), zev kX1_ride 28 L (v2 :: v1 :: v0 :: zvr (some q) :: st) h = if (ph_K h q).1 % 1000 = 17 ∧ zcat st ≤ 8 then zk kX1_ride 28 31 L st (mX3_best [zvr (some q), v0, v1, v2] h) else none) ∧
  (∀ (x0 x1 x2 x3 x4 x5 x6 : ZV) (a : Int) (L st : List ZV) (h : PH) (hx : zisL x5 = false) , zev kX1_ride 31 (x0 :: x1 :: x2 :: x3 :: x4 :: x5 :: x6 :: L) (zvi a :: st) h = zev kX1_ride 33 (x0 :: x1 :: x2 :: x3 :: x4 :: x5 :: zvi a :: L) st h) ∧
  (∀ (x0 x1 x2 x3 x4 x5 : ZV) (a : Int) (L st : List ZV) (h : PH), zev kX1_ride 33 (x0 :: x1 :: x2 :: x3 :: x4 :: x5 :: zvi a :: L) st h = zev kX1_ride 35 (x0 :: x1 :: x2 :: x3 :: x4 :: x5 :: zvi a :: L) (zvi a :: st) h) ∧
  (∀ (L st : List ZV) (h : PH), zev kX1_ride 35 L st h = zev kX1_ride 36 L (zvi (-1) :: st) h) ∧
  (∀ (a b : Int) (L st : List ZV) (h : PH), zev kX1_ride 36 L (zvi b :: zvi a :: st) h = if a ≠ b then zev kX1_ride 51 L st h else zev kX1_ride 39 L st h) ∧
  (∀ (x0 : ZV) (a : Int) (L st : List ZV) (h : PH), zev kX1_ride 39 (x0 :: zvi a :: L) st h = zev kX1_ride 40 (x0 :: zvi a :: L) (zvi a :: st) h) ∧
  (∀ (x0 x1 : ZV) (a : Int) (L st : List ZV) (h : PH), zev kX1_ride 40 (x0 :: x1 :: zvi a :: L) st h = zev kX1_ride 41 (x0 :: x1 :: zvi a :: L) (zvi a :: st) h) ∧
  (∀ (a b : Int) (L st : List ZV) (h : PH), zev kX1_ride 41 L (zvi b :: zvi a :: st) h = if a = b then zev kX1_ride 51 L st h else zev kX1_ride 44 L st h) ∧
  (∀ (a : Option Nat) (L st : List ZV) (h : PH), zev kX1_ride 44 (zvr a :: L) st h = zev kX1_ride 45 (zvr a :: L) (zvr a :: st) h) ∧
  (∀ (L st : List ZV) (h : PH), zev kX1_ride 45 L st h = zev kX1_ride 47 L (zvi (-2) :: st) h) ∧
  (∀ (v0 : ZV) (q : Nat) (L st : List ZV) (h : PH), zev kX1_ride 47 L (v0 :: zvr (some q) :: st) h = if (ph_K h q).1 % 1000 = 16 ∧ zcat st ≤ 8 then zk kX1_ride 47 50 L st (mX1_fine [zvr (some q), v0] h) else none) ∧
  (∀ (a : Int) (L : List ZV) (h : PH), zev kX1_ride 50 L [zvi a] h = zrv (zvi a) h) ∧
  (∀ (x0 x1 x2 x3 x4 x5 : ZV) (a : Int) (L st : List ZV) (h : PH), zev kX1_ride 51 (x0 :: x1 :: x2 :: x3 :: x4 :: x5 :: zvi a :: L) st h = zev kX1_ride 53 (x0 :: x1 :: x2 :: x3 :: x4 :: x5 :: zvi a :: L) (zvi a :: st) h) ∧
  (∀ (L st : List ZV) (h : PH), zev kX1_ride 53 L st h = zev kX1_ride 54 L (zvi (-1) :: st) h) ∧
  (∀ (a b : Int) (L st : List ZV) (h : PH), zev kX1_ride 54 L (zvi b :: zvi a :: st) h = if a = b then zev kX1_ride 78 L st h else zev kX1_ride 57 L st h) ∧
  (∀ (x0 x1 x2 x3 : ZV) (a : Int) (L st : List ZV) (h : PH), zev kX1_ride 57 (x0 :: x1 :: x2 :: x3 :: zvi a :: L) st h = zev kX1_ride 59 (x0 :: x1 :: x2 :: x3 :: zvi a :: L) (zvi a :: st) h) ∧
  (∀ (L st : List ZV) (h : PH), zev kX1_ride 59 L st h = zev kX1_ride 60 L (zvi 0 :: st) h) ∧
  (∀ (a : Option Nat) (L st : List ZV) (h : PH), zev kX1_ride 60 (zvr a :: L) st h = zev kX1_ride 61 (zvr a :: L) (zvr a :: st) h) ∧
  (∀ (q : Nat) (L st : List ZV) (h : PH), zev kX1_ride 61 L (zvr (some q) :: st) h = if (ph_K h q).1 % 1000 = 16 then zev kX1_ride 64 L (zvr (ph_R h q 8) :: st) h else none) ∧
  (∀ (q : Nat) (L st : List ZV) (h : PH), zev kX1_ride 64 L (zvr (some q) :: st) h = if (ph_K h q).1 % 1000 = 17 then zev kX1_ride 67 L (zvr (ph_R h q 4) :: st) h else none) ∧
  (∀ (x0 x1 x2 x3 x4 x5 : ZV) (a : Int) (L st : List ZV) (h : PH), zev kX1_ride 67 (x0 :: x1 :: x2 :: x3 :: x4 :: x5 :: zvi a :: L) st h = zev kX1_ride 69 (x0 :: x1 :: x2 :: x3 :: x4 :: x5 :: zvi a :: L) (zvi a :: st) h) ∧
  (∀ (j : Int) (q : Nat) (L st : List ZV) (h : PH), zev kX1_ride 69 L (zvi j :: zvr (some q) :: st) h = if (ph_K h q).1 % 1000 = 1 ∧ 0 ≤ j ∧ j < (ph_K h q).2 then zev kX1_ride 70 L (zvi (ph_I h q j) :: st) h else none) ∧
  (∀ (L st : List ZV) (h : PH), zev kX1_ride 70 L st h = zev kX1_ride 71 L (zvi 1 :: st) h) ∧
  (∀ (a b : Int) (L st : List ZV) (h : PH), zev kX1_ride 71 L (zvi b :: zvi a :: st) h = zev kX1_ride 72 L (zvi (w32 (a - b)) :: st) h) ∧
  (∀ (v0 v1 v2 : ZV) (L st : List ZV) (h : PH), zev kX1_ride 72 L (v2 :: v1 :: v0 :: st) h = if zcat st ≤ 8 then zk kX1_ride 72 75 L st (mX1_isIn [v0, v1, v2] h) else none) ∧
  (∀ (a : Int) (L st : List ZV) (h : PH), zev kX1_ride 75 L (zvi a :: st) h = if a ≠ 0 then zev kX1_ride 84 L st h else zev kX1_ride 78 L st h) ∧
  (∀ (a : Option Nat) (L st : List ZV) (h : PH), zev kX1_ride 78 (zvr a :: L) st h = zev kX1_ride 79 (zvr a :: L) (zvr a :: st) h) ∧
  (∀ (L st : List ZV) (h : PH), zev kX1_ride 79 L st h = zev kX1_ride 80 L (zvi 1 :: st) h) ∧
  (∀ (v0 : ZV) (q : Nat) (L st : List ZV) (h : PH), zev kX1_ride 80 L (v0 :: zvr (some q) :: st) h = if (ph_K h q).1 % 1000 = 16 ∧ zcat st ≤ 8 then zk kX1_ride 80 83 L st (mX1_refused [zvr (some q), v0] h) else none) ∧
  (∀ (a : Int) (L : List ZV) (h : PH), zev kX1_ride 83 L [zvi a] h = zrv (zvi a) h) ∧
  (∀ (L st : List ZV) (h : PH), zev kX1_ride 84 L st h = zev kX1_ride 85 L (zvi 0 :: st) h) ∧
  (∀ (x0 x1 x2 x3 x4 x5 x6 x7 : ZV) (a : Int) (L st : List ZV) (h : PH) (hx : zisL x6 = false) , zev kX1_ride 85 (x0 :: x1 :: x2 :: x3 :: x4 :: x5 :: x6 :: x7 :: L) (zvi a :: st) h = zev kX1_ride 87 (x0 :: x1 :: x2 :: x3 :: x4 :: x5 :: x6 :: zvi a :: L) st h) ∧
  (∀ (x0 x1 x2 x3 : ZV) (a : Int) (L st : List ZV) (h : PH), zev kX1_ride 89 (x0 :: x1 :: x2 :: x3 :: zvi a :: L) st h = zev kX1_ride 91 (x0 :: x1 :: x2 :: x3 :: zvi a :: L) (zvi a :: st) h) ∧
  (∀ (a b : Int) (L st : List ZV) (h : PH), zev kX1_ride 91 L (zvi b :: zvi a :: st) h = if a ≥ b then zev kX1_ride 112 L st h else zev kX1_ride 94 L st h) ∧
  (∀ (a : Option Nat) (L st : List ZV) (h : PH), zev kX1_ride 94 (zvr a :: L) st h = zev kX1_ride 95 (zvr a :: L) (zvr a :: st) h) ∧
  (∀ (q : Nat) (L st : List ZV) (h : PH), zev kX1_ride 95 L (zvr (some q) :: st) h = if (ph_K h q).1 % 1000 = 16 then zev kX1_ride 98 L (zvr (ph_R h q 8) :: st) h else none) ∧
  (∀ (q : Nat) (L st : List ZV) (h : PH), zev kX1_ride 98 L (zvr (some q) :: st) h = if (ph_K h q).1 % 1000 = 17 then zev kX1_ride 101 L (zvr (ph_R h q 5) :: st) h else none) ∧
  (∀ (x0 x1 x2 x3 x4 x5 : ZV) (a : Int) (L st : List ZV) (h : PH), zev kX1_ride 101 (x0 :: x1 :: x2 :: x3 :: x4 :: x5 :: zvi a :: L) st h = zev kX1_ride 103 (x0 :: x1 :: x2 :: x3 :: x4 :: x5 :: zvi a :: L) (zvi a :: st) h) ∧
  (∀ (j : Int) (q : Nat) (L st : List ZV) (h : PH), zev kX1_ride 103 L (zvi j :: zvr (some q) :: st) h = if (ph_K h q).1 % 1000 = 1 ∧ 0 ≤ j ∧ j < (ph_K h q).2 then zev kX1_ride 104 L (zvi (ph_I h q j) :: st) h else none) ∧
  (∀ (x0 x1 x2 x3 x4 x5 x6 : ZV) (a : Int) (L st : List ZV) (h : PH) (hx : zisL x5 = false) , zev kX1_ride 104 (x0 :: x1 :: x2 :: x3 :: x4 :: x5 :: x6 :: L) (zvi a :: st) h = zev kX1_ride 106 (x0 :: x1 :: x2 :: x3 :: x4 :: x5 :: zvi a :: L) st h) ∧
  (∀ (x0 x1 x2 x3 x4 x5 x6 : ZV) (a : Int) (L st : List ZV) (h : PH) (hx : zisL x6 = false) , zev kX1_ride 106 (x0 :: x1 :: x2 :: x3 :: x4 :: x5 :: x6 :: zvi a :: L) st h = zev kX1_ride 109 (x0 :: x1 :: x2 :: x3 :: x4 :: x5 :: x6 :: zvi (w32 (a + 1)) :: L) st h) ∧
  (∀ (L st : List ZV) (h : PH), zev kX1_ride 109 L st h = zev kX1_ride 87 L st h) ∧
  (∀ (a : Option Nat) (L st : List ZV) (h : PH), zev kX1_ride 112 (zvr a :: L) st h = zev kX1_ride 113 (zvr a :: L) (zvr a :: st) h) ∧
  (∀ (a : Option Nat) (L st : List ZV) (h : PH), zev kX1_ride 113 (zvr a :: L) st h = zev kX1_ride 114 (zvr a :: L) (zvr a :: st) h) ∧
  (∀ (q : Nat) (L st : List ZV) (h : PH), zev kX1_ride 114 L (zvr (some q) :: st) h = if (ph_K h q).1 % 1000 = 16 then zev kX1_ride 117 L (zvr (ph_R h q 8) :: st) h else none) ∧
  (∀ (q : Nat) (L st : List ZV) (h : PH), zev kX1_ride 117 L (zvr (some q) :: st) h = if (ph_K h q).1 % 1000 = 17 then zev kX1_ride 120 L (zvr (ph_R h q 0) :: st) h else none) ∧
  (∀ (x0 x1 x2 x3 x4 x5 : ZV) (a : Int) (L st : List ZV) (h : PH), zev kX1_ride 120 (x0 :: x1 :: x2 :: x3 :: x4 :: x5 :: zvi a :: L) st h = zev kX1_ride 122 (x0 :: x1 :: x2 :: x3 :: x4 :: x5 :: zvi a :: L) (zvi a :: st) h) ∧
  (∀ (j : Int) (q : Nat) (L st : List ZV) (h : PH), zev kX1_ride 122 L (zvi j :: zvr (some q) :: st) h = if 5 ≤ (ph_K h q).1 % 1000 ∧ (ph_K h q).1 % 1000 ≤ 7 ∧ 0 ≤ j ∧ j < (ph_K h q).2 then zev kX1_ride 123 L (zvr (ph_R h q j) :: st) h else none) ∧
  (∀ (q : Nat) (L st : List ZV) (h : PH), zev kX1_ride 123 L (zvr (some q) :: st) h = if (ph_K h q).1 % 1000 = 22 then zev kX1_ride 126 L (zvi (ph_I h q 0) :: st) h else none) ∧
  (∀ (v0 : ZV) (q : Nat) (L st : List ZV) (h : PH), zev kX1_ride 126 L (v0 :: zvr (some q) :: st) h = if (ph_K h q).1 % 1000 = 16 ∧ zcat st ≤ 8 then zk kX1_ride 126 129 L st (mX1_fine [zvr (some q), v0] h) else none) ∧
  (∀ (a : Int) (L : List ZV) (h : PH), zev kX1_ride 129 L [zvi a] h = zrv (zvi a) h) :=
  ⟨fun a L st h => e_ld0R (n := 1) rfl,
  fun x0 a L st h => e_ld1I (n := 2) rfl,
  fun x0 x1 a L st h => e_ld2I (n := 3) rfl,
  fun x0 x1 x2 a L st h => e_ld3I (n := 4) rfl,
  fun v0 v1 v2 q L st h => e_callV4 (F := mX1_refuses) (kd := 16) (n := 7) rfl,
  fun x0 x1 x2 x3 x4 x5 a L st h hx => e_st5I (n := 9) rfl hx,
  fun x0 x1 x2 x3 x4 a L st h => e_ld5I (n := 11) rfl,
  fun a L st h => e_ifle (t := 21) (n := 14) rfl,
  fun a L st h => e_ld0R (n := 15) rfl,
  fun x0 x1 x2 x3 x4 a L st h => e_ld5I (n := 17) rfl,
  fun v0 q L st h => e_callV2 (F := mX1_refused) (kd := 16) (n := 20) rfl,
  fun a L h => e_retI rfl,
  fun a L st h => e_ld0R (n := 22) rfl,
  fun q L st h => e_callV1 (F := mX1_asIs) (kd := 16) (n := 25) rfl,
  fun x0 a L st h => e_ld1I (n := 26) rfl,
  fun x0 x1 a L st h => e_ld2I (n := 27) rfl,
  fun x0 x1 x2 a L st h => e_ld3I (n := 28) rfl,
  fun v0 v1 v2 q L st h => e_callV4 (F := mX3_best) (kd := 17) (n := 31) rfl,
  fun x0 x1 x2 x3 x4 x5 x6 a L st h hx => e_st6I (n := 33) rfl hx,
  fun x0 x1 x2 x3 x4 x5 a L st h => e_ld6I (n := 35) rfl,
  fun L st h => e_push (v := zvi (-1)) (n := 36) rfl,
  fun a b L st h => e_cmpne (t := 51) (n := 39) rfl,
  fun x0 a L st h => e_ld1I (n := 40) rfl,
  fun x0 x1 a L st h => e_ld2I (n := 41) rfl,
  fun a b L st h => e_cmpeq (t := 51) (n := 44) rfl,
  fun a L st h => e_ld0R (n := 45) rfl,
  fun L st h => e_push (v := zvi (-2)) (n := 47) rfl,
  fun v0 q L st h => e_callV2 (F := mX1_fine) (kd := 16) (n := 50) rfl,
  fun a L h => e_retI rfl,
  fun x0 x1 x2 x3 x4 x5 a L st h => e_ld6I (n := 53) rfl,
  fun L st h => e_push (v := zvi (-1)) (n := 54) rfl,
  fun a b L st h => e_cmpeq (t := 78) (n := 57) rfl,
  fun x0 x1 x2 x3 a L st h => e_ld4I (n := 59) rfl,
  fun L st h => e_push (v := zvi 0) (n := 60) rfl,
  fun a L st h => e_ld0R (n := 61) rfl,
  fun q L st h => e_getR (kd := 16) (k := 8) (n := 64) rfl,
  fun q L st h => e_getR (kd := 17) (k := 4) (n := 67) rfl,
  fun x0 x1 x2 x3 x4 x5 a L st h => e_ld6I (n := 69) rfl,
  fun j q L st h => e_ald (kd := 1) (n := 70) rfl,
  fun L st h => e_push (v := zvi 1) (n := 71) rfl,
  fun a b L st h => e_bin (f := (fun a b => w32 (a - b))) (n := 72) rfl,
  fun v0 v1 v2 L st h => e_callS3 (F := mX1_isIn) (n := 75) rfl,
  fun a L st h => e_ifne (t := 84) (n := 78) rfl,
  fun a L st h => e_ld0R (n := 79) rfl,
  fun L st h => e_push (v := zvi 1) (n := 80) rfl,
  fun v0 q L st h => e_callV2 (F := mX1_refused) (kd := 16) (n := 83) rfl,
  fun a L h => e_retI rfl,
  fun L st h => e_push (v := zvi 0) (n := 85) rfl,
  fun x0 x1 x2 x3 x4 x5 x6 x7 a L st h hx => e_st7I (n := 87) rfl hx,
  fun x0 x1 x2 x3 a L st h => e_ld4I (n := 91) rfl,
  fun a b L st h => e_cmpge (t := 112) (n := 94) rfl,
  fun a L st h => e_ld0R (n := 95) rfl,
  fun q L st h => e_getR (kd := 16) (k := 8) (n := 98) rfl,
  fun q L st h => e_getR (kd := 17) (k := 5) (n := 101) rfl,
  fun x0 x1 x2 x3 x4 x5 a L st h => e_ld6I (n := 103) rfl,
  fun j q L st h => e_ald (kd := 1) (n := 104) rfl,
  fun x0 x1 x2 x3 x4 x5 x6 a L st h hx => e_st6I (n := 106) rfl hx,
  fun x0 x1 x2 x3 x4 x5 x6 a L st h hx => e_iinc7 (d := 1) (n := 109) rfl hx,
  fun L st h => e_goto (t := 87) rfl,
  fun a L st h => e_ld0R (n := 113) rfl,
  fun a L st h => e_ld0R (n := 114) rfl,
  fun q L st h => e_getR (kd := 16) (k := 8) (n := 117) rfl,
  fun q L st h => e_getR (kd := 17) (k := 0) (n := 120) rfl,
  fun x0 x1 x2 x3 x4 x5 a L st h => e_ld6I (n := 122) rfl,
  fun j q L st h => e_aldR (n := 123) rfl,
  fun q L st h => e_getI (kd := 22) (k := 0) (n := 126) rfl,
  fun v0 q L st h => e_callV2 (F := mX1_fine) (kd := 16) (n := 129) rfl,
  fun a L h => e_retI rfl⟩
theorem allX1_ride : zall yX1_ride cX1_ride 8 (some .int) 9 kX1_ride.1 :=
  ⟨k_aload_n dX1_ride_0,
  k_iload_n dX1_ride_1,
  k_iload_n dX1_ride_2,
  k_iload_n dX1_ride_3,
  k_callV (y2 := yX1_refuses) (C := RX1) (T0 := TX1) (ci := 0) dX1_ride_4 sndX1_refuses rfl q1334 q1336 qs36 q128 q1337 (by decide +kernel) ⟨by decide, by decide⟩ (by decide) (by decide),
  k_istore dX1_ride_7,
  k_iload dX1_ride_9,
  k_ifle (t := 21) dX1_ride_11 (by decide),
  k_aload_n dX1_ride_14,
  k_iload dX1_ride_15,
  k_callV (y2 := yX1_refused) (C := RX1) (T0 := TX1) (ci := 0) dX1_ride_17 sndX1_refused rfl q378 q380 qs1 q128 q381 (by decide +kernel) ⟨by decide, by decide⟩ (by decide) (by decide),
  k_iret dX1_ride_20,
  k_aload_n dX1_ride_21,
  k_callV (y2 := yX1_asIs) (C := RX1) (T0 := TX1) (ci := 0) dX1_ride_22 sndX1_asIs rfl q1338 q1340 qs37 q128 q1341 (by decide +kernel) ⟨by decide, by decide⟩ (by decide) (by decide),
  k_iload_n dX1_ride_25,
  k_iload_n dX1_ride_26,
  k_iload_n dX1_ride_27,
  k_callV (y2 := yX3_best) (C := RX3) (T0 := TX3) (ci := 1) dX1_ride_28 sndX3_best rfl q1380 q1381 q1382 q136 q1383 (by decide +kernel) ⟨by decide, by decide⟩ (by decide) (by decide),
  k_istore dX1_ride_31,
  k_iload dX1_ride_33,
  k_iconst dX1_ride_35,
  k_cmpne (t := 51) dX1_ride_36 (by decide),
  k_iload_n dX1_ride_39,
  k_iload_n dX1_ride_40,
  k_cmpeq (t := 51) dX1_ride_41 (by decide),
  k_aload_n dX1_ride_44,
  k_bipush dX1_ride_45,
  k_callV (y2 := yX1_fine) (C := RX1) (T0 := TX1) (ci := 0) dX1_ride_47 sndX1_fine rfl q1211 q1213 qs32 q128 q1214 (by decide +kernel) ⟨by decide, by decide⟩ (by decide) (by decide),
  k_iret dX1_ride_50,
  k_iload dX1_ride_51,
  k_iconst dX1_ride_53,
  k_cmpeq (t := 78) dX1_ride_54 (by decide),
  k_iload dX1_ride_57,
  k_iconst dX1_ride_59,
  k_aload_n dX1_ride_60,
  k_getR (C := RX1) (T := TX1) (N := 19) (ci := 0) (k := 8) (ref := "LinkTimes") dX1_ride_61 rfl in_X1 (by decide) q311 (Or.inl rfl) (fun _ _ _ => rfl),
  k_getRN (C := RX3) (T := TX3) (N := 9) (ci := 1) (k := 4) (ref := "LinkTimes$Search") dX1_ride_64 rfl in_X3 (by decide) q274 (Or.inl rfl) (fun _ _ _ => rfl),
  k_iload dX1_ride_67,
  k_iald dX1_ride_69,
  k_iconst dX1_ride_70,
  k_isub dX1_ride_71,
  k_callS (y2 := yX1_isIn) dX1_ride_72 sndX1_isIn q375 q376 q128 q377 (by decide +kernel) ⟨by decide, by decide⟩ (by decide) (by decide),
  k_ifne (t := 84) dX1_ride_75 (by decide),
  k_aload_n dX1_ride_78,
  k_iconst dX1_ride_79,
  k_callV (y2 := yX1_refused) (C := RX1) (T0 := TX1) (ci := 0) dX1_ride_80 sndX1_refused rfl q378 q380 qs1 q128 q381 (by decide +kernel) ⟨by decide, by decide⟩ (by decide) (by decide),
  k_iret dX1_ride_83,
  k_iconst dX1_ride_84,
  k_istore dX1_ride_85,
  k_iload dX1_ride_87,
  k_iload dX1_ride_89,
  k_cmpge (t := 112) dX1_ride_91 (by decide),
  k_aload_n dX1_ride_94,
  k_getR (C := RX1) (T := TX1) (N := 19) (ci := 0) (k := 8) (ref := "LinkTimes") dX1_ride_95 rfl in_X1 (by decide) q311 (Or.inl rfl) (fun _ _ _ => rfl),
  k_getRN (C := RX3) (T := TX3) (N := 9) (ci := 1) (k := 5) (ref := "LinkTimes$Search") dX1_ride_98 rfl in_X3 (by decide) q276 (Or.inl rfl) (fun _ _ _ => rfl),
  k_iload dX1_ride_101,
  k_iald dX1_ride_103,
  k_istore dX1_ride_104,
  k_iinc dX1_ride_106,
  k_goto (t := 87) dX1_ride_109 (by decide),
  k_aload_n dX1_ride_112,
  k_aload_n dX1_ride_113,
  k_getR (C := RX1) (T := TX1) (N := 19) (ci := 0) (k := 8) (ref := "LinkTimes") dX1_ride_114 rfl in_X1 (by decide) q311 (Or.inl rfl) (fun _ _ _ => rfl),
  k_getRN (C := RX3) (T := TX3) (N := 9) (ci := 1) (k := 0) (ref := "LinkTimes$Search") dX1_ride_117 rfl in_X3 (by decide) q266 (Or.inl rfl) (fun _ _ _ => rfl),
  k_iload dX1_ride_120,
  k_aald dX1_ride_122,
  k_getIN (C := RX11) (T := TX11) (N := 9) (ci := 6) (k := 0) (ref := "LinkTimes$Departure") dX1_ride_123 rfl in_X11 (by decide) q851 (Or.inl rfl) (fun _ _ _ => rfl),
  k_callV (y2 := yX1_fine) (C := RX1) (T0 := TX1) (ci := 0) dX1_ride_126 sndX1_fine rfl q1211 q1213 qs32 q128 q1214 (by decide +kernel) ⟨by decide, by decide⟩ (by decide) (by decide),
  k_iret dX1_ride_129, trivial⟩
theorem sndX1_ride : MSound 9 yX1_ride (ws_ yX1_ride cX1_ride 8 (some .int)) mX1_ride := msound_M (by decide) allX1_ride (fun _ _ => rfl)
/-! LinkTimes.stands(III)I -/
noncomputable def kX1_stands : ZM := ([(0, zi_ld 1 0 1), (1, zi_ld 0 1 2), (2, zi_ld 0 2 3), (3, zi_ld 0 3 4), (4, zi_callV mX1_refuses 16 4 7), (7, zi_st 0 4 9), (9, zi_ld 0 4 11), (11, zi_if (fun a => zc_le a 0) 21 14), (14, zi_ld 1 0 15), (15, zi_ld 0 4 17), (17, zi_callV mX1_refused 16 2 20), (20, zi_retv 0), (21, zi_ld 1 0 22), (22, zi_callV mX1_asIs 16 1 25), (25, zi_ld 0 1 26), (26, zi_ld 0 2 27), (27, zi_ld 0 3 28), (28, zi_callV mX3_best 17 4 31), (31, zi_st 0 5 33), (33, zi_ld 0 5 35), (35, zi_push (zvi (-1)) 36), (36, zi_cmp zc_ne 55 39), (39, zi_ld 1 0 40), (40, zi_ld 0 1 41), (41, zi_ld 0 2 42), (42, zi_cmp zc_ne 49 45), (45, zi_push (zvi 0) 46), (46, zi_goto 51), (49, zi_push (zvi (-2)) 51), (51, zi_callV mX1_fine 16 2 54), (54, zi_retv 0), (55, zi_push (zvi 0) 56), (56, zi_st 0 6 58), (58, zi_ld 1 0 59), (59, zi_getR 16 8 62), (62, zi_getR 17 5 65), (65, zi_ld 0 5 67), (67, zi_ald 1 68), (68, zi_st 0 7 70), (70, zi_ld 0 7 72), (72, zi_push (zvi (-1)) 73), (73, zi_cmp zc_eq 121 76), (76, zi_ld 0 6 78), (78, zi_ld 1 0 79), (79, zi_getR 16 8 82), (82, zi_getR 17 1 85), (85, zi_ld 0 7 87), (87, zi_ald 1 88), (88, zi_ld 1 0 89), (89, zi_getR 16 8 92), (92, zi_getR 17 2 95), (95, zi_ld 0 5 97), (97, zi_ald 1 98), (98, zi_bin (fun a b => w32 (a - b)) 99), (99, zi_bin (fun a b => w32 (a + b)) 100), (100, zi_st 0 6 102), (102, zi_ld 0 7 104), (104, zi_st 0 5 106), (106, zi_ld 1 0 107), (107, zi_getR 16 8 110), (110, zi_getR 17 5 113), (113, zi_ld 0 7 115), (115, zi_ald 1 116), (116, zi_st 0 7 118), (118, zi_goto 70), (121, zi_ld 1 0 122), (122, zi_ld 0 6 124), (124, zi_callV mX1_fine 16 2 127), (127, zi_retv 0)], fun _ _ => none)
noncomputable def mX1_stands : ZF := zrunM kX1_stands 8
theorem enX1_stands (x0 : Option Nat) (x1 : Int) (x2 : Int) (x3 : Int) (h : PH) : mX1_stands [zvr x0, zvi x1, zvi x2, zvi x3] h = zev kX1_stands 0 [zvr x0, zvi x1, zvi x2, zvi x3, zvu, zvu, zvu, zvu] [] h := zrunM_eq rfl rfl
theorem hdX1_stands_70 (x0 x1 x2 x3 x4 x5 x6 : ZV) (a : Int) (L st : List ZV) (h : PH) : zev kX1_stands 70 (x0 :: x1 :: x2 :: x3 :: x4 :: x5 :: x6 :: zvi a :: L) st h = zev kX1_stands 72 (x0 :: x1 :: x2 :: x3 :: x4 :: x5 :: x6 :: zvi a :: L) (zvi a :: st) h := e_ld7I (n := 72) rfl
theorem rX1_stands : (∀ (a : Option Nat) (L st : List ZV) (h : PH), zev kX1_stands 0 (zvr a :: L) st h = zev kX1_stands 1 (zvr a :: L) (zvr a :: st) h) ∧
  (∀ (x0 : ZV) (a : Int) (L st : List ZV) (h : PH), zev kX1_stands 1 (x0 :: zvi a :: L) st h = zev kX1_stands 2 (x0 :: zvi a :: L) (zvi a :: st) h) ∧
  (∀ (x0 x1 : ZV) (a : Int) (L st : List ZV) (h : PH), zev kX1_stands 2 (x0 :: x1 :: zvi a :: L) st h = zev kX1_stands 3 (x0 :: x1 :: zvi a :: L) (zvi a :: st) h) ∧
  (∀ (x0 x1 x2 : ZV) (a : Int) (L st : List ZV) (h : PH), zev kX1_stands 3 (x0 :: x1 :: x2 :: zvi a :: L) st h = zev kX1_stands 4 (x0 :: x1 :: x2 :: zvi a :: L) (zvi a :: st) h) ∧
  (∀ (v0 v1 v2 : ZV) (q : Nat) (L st : List ZV) (h : PH), zev kX1_stands 4 L (v2 :: v1 :: v0 :: zvr (some q) :: st) h = if (ph_K h q).1 % 1000 = 16 ∧ zcat st ≤ 8 then zk kX1_stands 4 7 L st (mX1_refuses [zvr (some q), v0, v1, v2] h) else none) ∧
  (∀ (x0 x1 x2 x3 x4 : ZV) (a : Int) (L st : List ZV) (h : PH) (hx : zisL x3 = false) , zev kX1_stands 7 (x0 :: x1 :: x2 :: x3 :: x4 :: L) (zvi a :: st) h = zev kX1_stands 9 (x0 :: x1 :: x2 :: x3 :: zvi a :: L) st h) ∧
  (∀ (x0 x1 x2 x3 : ZV) (a : Int) (L st : List ZV) (h : PH), zev kX1_stands 9 (x0 :: x1 :: x2 :: x3 :: zvi a :: L) st h = zev kX1_stands 11 (x0 :: x1 :: x2 :: x3 :: zvi a :: L) (zvi a :: st) h) ∧
  (∀ (a : Int) (L st : List ZV) (h : PH), zev kX1_stands 11 L (zvi a :: st) h = if a ≤ 0 then zev kX1_stands 21 L st h else zev kX1_stands 14 L st h) ∧
  (∀ (a : Option Nat) (L st : List ZV) (h : PH), zev kX1_stands 14 (zvr a :: L) st h = zev kX1_stands 15 (zvr a :: L) (zvr a :: st) h) ∧
  (∀ (x0 x1 x2 x3 : ZV) (a : Int) (L st : List ZV) (h : PH), zev kX1_stands 15 (x0 :: x1 :: x2 :: x3 :: zvi a :: L) st h = zev kX1_stands 17 (x0 :: x1 :: x2 :: x3 :: zvi a :: L) (zvi a :: st) h) ∧
  (∀ (v0 : ZV) (q : Nat) (L st : List ZV) (h : PH), zev kX1_stands 17 L (v0 :: zvr (some q) :: st) h = if (ph_K h q).1 % 1000 = 16 ∧ zcat st ≤ 8 then zk kX1_stands 17 20 L st (mX1_refused [zvr (some q), v0] h) else none) ∧
  (∀ (a : Int) (L : List ZV) (h : PH), zev kX1_stands 20 L [zvi a] h = zrv (zvi a) h) ∧
  (∀ (a : Option Nat) (L st : List ZV) (h : PH), zev kX1_stands 21 (zvr a :: L) st h = zev kX1_stands 22 (zvr a :: L) (zvr a :: st) h) ∧
  (∀ (q : Nat) (L st : List ZV) (h : PH), zev kX1_stands 22 L (zvr (some q) :: st) h = if (ph_K h q).1 % 1000 = 16 ∧ zcat st ≤ 8 then zk kX1_stands 22 25 L st (mX1_asIs [zvr (some q)] h) else none) ∧
  (∀ (x0 : ZV) (a : Int) (L st : List ZV) (h : PH), zev kX1_stands 25 (x0 :: zvi a :: L) st h = zev kX1_stands 26 (x0 :: zvi a :: L) (zvi a :: st) h) ∧
  (∀ (x0 x1 : ZV) (a : Int) (L st : List ZV) (h : PH), zev kX1_stands 26 (x0 :: x1 :: zvi a :: L) st h = zev kX1_stands 27 (x0 :: x1 :: zvi a :: L) (zvi a :: st) h) ∧
  (∀ (x0 x1 x2 : ZV) (a : Int) (L st : List ZV) (h : PH), zev kX1_stands 27 (x0 :: x1 :: x2 :: zvi a :: L) st h = zev kX1_stands 28 (x0 :: x1 :: x2 :: zvi a :: L) (zvi a :: st) h) ∧
  (∀ (v0 v1 v2 : ZV) (q : Nat) (L st : List ZV) (h : PH), zev kX1_stands 28 L (v2 :: v1 :: v0 :: zvr (some q) :: st) h = if (ph_K h q).1 % 1000 = 17 ∧ zcat st ≤ 8 then zk kX1_stands 28 31 L st (mX3_best [zvr (some q), v0, v1, v2] h) else none) ∧
  (∀ (x0 x1 x2 x3 x4 x5 : ZV) (a : Int) (L st : List ZV) (h : PH) (hx : zisL x4 = false) , zev kX1_stands 31 (x0 :: x1 :: x2 :: x3 :: x4 :: x5 :: L) (zvi a :: st) h = zev kX1_stands 33 (x0 :: x1 :: x2 :: x3 :: x4 :: zvi a :: L) st h) ∧
  (∀ (x0 x1 x2 x3 x4 : ZV) (a : Int) (L st : List ZV) (h : PH), zev kX1_stands 33 (x0 :: x1 :: x2 :: x3 :: x4 :: zvi a :: L) st h = zev kX1_stands 35 (x0 :: x1 :: x2 :: x3 :: x4 :: zvi a :: L) (zvi a :: st) h) ∧
  (∀ (L st : List ZV) (h : PH), zev kX1_stands 35 L st h = zev kX1_stands 36 L (zvi (-1) :: st) h) ∧
  (∀ (a b : Int) (L st : List ZV) (h : PH), zev kX1_stands 36 L (zvi b :: zvi a :: st) h = if a ≠ b then zev kX1_stands 55 L st h else zev kX1_stands 39 L st h) ∧
  (∀ (a : Option Nat) (L st : List ZV) (h : PH), zev kX1_stands 39 (zvr a :: L) st h = zev kX1_stands 40 (zvr a :: L) (zvr a :: st) h) ∧
  (∀ (x0 : ZV) (a : Int) (L st : List ZV) (h : PH), zev kX1_stands 40 (x0 :: zvi a :: L) st h = zev kX1_stands 41 (x0 :: zvi a :: L) (zvi a :: st) h) ∧
  (∀ (x0 x1 : ZV) (a : Int) (L st : List ZV) (h : PH), zev kX1_stands 41 (x0 :: x1 :: zvi a :: L) st h = zev kX1_stands 42 (x0 :: x1 :: zvi a :: L) (zvi a :: st) h) ∧
  (∀ (a b : Int) (L st : List ZV) (h : PH), zev kX1_stands 42 L (zvi b :: zvi a :: st) h = if a ≠ b then zev kX1_stands 49 L st h else zev kX1_stands 45 L st h) ∧
  (∀ (L st : List ZV) (h : PH), zev kX1_stands 45 L st h = zev kX1_stands 46 L (zvi 0 :: st) h) ∧
  (∀ (L st : List ZV) (h : PH), zev kX1_stands 46 L st h = zev kX1_stands 51 L st h) ∧
  (∀ (L st : List ZV) (h : PH), zev kX1_stands 49 L st h = zev kX1_stands 51 L (zvi (-2) :: st) h) ∧
  (∀ (v0 : ZV) (q : Nat) (L st : List ZV) (h : PH), zev kX1_stands 51 L (v0 :: zvr (some q) :: st) h = if (ph_K h q).1 % 1000 = 16 ∧ zcat st ≤ 8 then zk kX1_stands 51 54 L st (mX1_fine [zvr (some q), v0] h) else none) ∧
  (∀ (a : Int) (L : List ZV) (h : PH), zev kX1_stands 54 L [zvi a] h = zrv (zvi a) h) ∧
  (∀ (L st : List ZV) (h : PH), zev kX1_stands 55 L st h = zev kX1_stands 56 L (zvi 0 :: st) h) ∧
  (∀ (x0 x1 x2 x3 x4 x5 x6 : ZV) (a : Int) (L st : List ZV) (h : PH) (hx : zisL x5 = false) , zev kX1_stands 56 (x0 :: x1 :: x2 :: x3 :: x4 :: x5 :: x6 :: L) (zvi a :: st) h = zev kX1_stands 58 (x0 :: x1 :: x2 :: x3 :: x4 :: x5 :: zvi a :: L) st h) ∧
  (∀ (a : Option Nat) (L st : List ZV) (h : PH), zev kX1_stands 58 (zvr a :: L) st h = zev kX1_stands 59 (zvr a :: L) (zvr a :: st) h) ∧
  (∀ (q : Nat) (L st : List ZV) (h : PH), zev kX1_stands 59 L (zvr (some q) :: st) h = if (ph_K h q).1 % 1000 = 16 then zev kX1_stands 62 L (zvr (ph_R h q 8) :: st) h else none) ∧
  (∀ (q : Nat) (L st : List ZV) (h : PH), zev kX1_stands 62 L (zvr (some q) :: st) h = if (ph_K h q).1 % 1000 = 17 then zev kX1_stands 65 L (zvr (ph_R h q 5) :: st) h else none) ∧
  (∀ (x0 x1 x2 x3 x4 : ZV) (a : Int) (L st : List ZV) (h : PH), zev kX1_stands 65 (x0 :: x1 :: x2 :: x3 :: x4 :: zvi a :: L) st h = zev kX1_stands 67 (x0 :: x1 :: x2 :: x3 :: x4 :: zvi a :: L) (zvi a :: st) h) ∧
  (∀ (j : Int) (q : Nat) (L st : List ZV) (h : PH), zev kX1_stands 67 L (zvi j :: zvr (some q) :: st) h = if (ph_K h q).1 % 1000 = 1 ∧ 0 ≤ j ∧ j < (ph_K h q).2 then zev kX1_stands 68 L (zvi (ph_I h q j) :: st) h else none) ∧
  (∀ (x0 x1 x2 x3 x4 x5 x6 x7 : ZV) (a : Int) (L st : List ZV) (h : PH) (hx : zisL x6 = false) , zev kX1_stands 68 (x0 :: x1 :: x2 :: x3 :: x4 :: x5 :: x6 :: x7 :: L) (zvi a :: st) h = zev kX1_stands 70 (x0 :: x1 :: x2 :: x3 :: x4 :: x5 :: x6 :: zvi a :: L) st h) ∧
  (∀ (L st : List ZV) (h : PH), zev kX1_stands 72 L st h = zev kX1_stands 73 L (zvi (-1) :: st) h) ∧
  (∀ (a b : Int) (L st : List ZV) (h : PH), zev kX1_stands 73 L (zvi b :: zvi a :: st) h = if a = b then zev kX1_stands 121 L st h else zev kX1_stands 76 L st h) ∧
  (∀ (x0 x1 x2 x3 x4 x5 : ZV) (a : Int) (L st : List ZV) (h : PH), zev kX1_stands 76 (x0 :: x1 :: x2 :: x3 :: x4 :: x5 :: zvi a :: L) st h = zev kX1_stands 78 (x0 :: x1 :: x2 :: x3 :: x4 :: x5 :: zvi a :: L) (zvi a :: st) h) ∧
  (∀ (a : Option Nat) (L st : List ZV) (h : PH), zev kX1_stands 78 (zvr a :: L) st h = zev kX1_stands 79 (zvr a :: L) (zvr a :: st) h) ∧
  (∀ (q : Nat) (L st : List ZV) (h : PH), zev kX1_stands 79 L (zvr (some q) :: st) h = if (ph_K h q).1 % 1000 = 16 then zev kX1_stands 82 L (zvr (ph_R h q 8) :: st) h else none) ∧
  (∀ (q : Nat) (L st : List ZV) (h : PH), zev kX1_stands 82 L (zvr (some q) :: st) h = if (ph_K h q).1 % 1000 = 17 then zev kX1_stands 85 L (zvr (ph_R h q 1) :: st) h else none) ∧
  (∀ (x0 x1 x2 x3 x4 x5 x6 : ZV) (a : Int) (L st : List ZV) (h : PH), zev kX1_stands 85 (x0 :: x1 :: x2 :: x3 :: x4 :: x5 :: x6 :: zvi a :: L) st h = zev kX1_stands 87 (x0 :: x1 :: x2 :: x3 :: x4 :: x5 :: x6 :: zvi a :: L) (zvi a :: st) h) ∧
  (∀ (j : Int) (q : Nat) (L st : List ZV) (h : PH), zev kX1_stands 87 L (zvi j :: zvr (some q) :: st) h = if (ph_K h q).1 % 1000 = 1 ∧ 0 ≤ j ∧ j < (ph_K h q).2 then zev kX1_stands 88 L (zvi (ph_I h q j) :: st) h else none) ∧
  (∀ (a : Option Nat) (L st : List ZV) (h : PH), zev kX1_stands 88 (zvr a :: L) st h = zev kX1_stands 89 (zvr a :: L) (zvr a :: st) h) ∧
  (∀ (q : Nat) (L st : List ZV) (h : PH), zev kX1_stands 89 L (zvr (some q) :: st) h = if (ph_K h q).1 % 1000 = 16 then zev kX1_stands 92 L (zvr (ph_R h q 8) :: st) h else none) ∧
  (∀ (q : Nat) (L st : List ZV) (h : PH), zev kX1_stands 92 L (zvr (some q) :: st) h = if (ph_K h q).1 % 1000 = 17 then zev kX1_stands 95 L (zvr (ph_R h q 2) :: st) h else none) ∧
  (∀ (x0 x1 x2 x3 x4 : ZV) (a : Int) (L st : List ZV) (h : PH), zev kX1_stands 95 (x0 :: x1 :: x2 :: x3 :: x4 :: zvi a :: L) st h = zev kX1_stands 97 (x0 :: x1 :: x2 :: x3 :: x4 :: zvi a :: L) (zvi a :: st) h) ∧
  (∀ (j : Int) (q : Nat) (L st : List ZV) (h : PH), zev kX1_stands 97 L (zvi j :: zvr (some q) :: st) h = if (ph_K h q).1 % 1000 = 1 ∧ 0 ≤ j ∧ j < (ph_K h q).2 then zev kX1_stands 98 L (zvi (ph_I h q j) :: st) h else none) ∧
  (∀ (a b : Int) (L st : List ZV) (h : PH), zev kX1_stands 98 L (zvi b :: zvi a :: st) h = zev kX1_stands 99 L (zvi (w32 (a - b)) :: st) h) ∧
  (∀ (a b : Int) (L st : List ZV) (h : PH), zev kX1_stands 99 L (zvi b :: zvi a :: st) h = zev kX1_stands 100 L (zvi (w32 (a + b)) :: st) h) ∧
  (∀ (x0 x1 x2 x3 x4 x5 x6 : ZV) (a : Int) (L st : List ZV) (h : PH) (hx : zisL x5 = false) , zev kX1_stands 100 (x0 :: x1 :: x2 :: x3 :: x4 :: x5 :: x6 :: L) (zvi a :: st) h = zev kX1_stands 102 (x0 :: x1 :: x2 :: x3 :: x4 :: x5 :: zvi a :: L) st h) ∧
  (∀ (x0 x1 x2 x3 x4 x5 x6 : ZV) (a : Int) (L st : List ZV) (h : PH), zev kX1_stands 102 (x0 :: x1 :: x2 :: x3 :: x4 :: x5 :: x6 :: zvi a :: L) st h = zev kX1_stands 104 (x0 :: x1 :: x2 :: x3 :: x4 :: x5 :: x6 :: zvi a :: L) (zvi a :: st) h) ∧
  (∀ (x0 x1 x2 x3 x4 x5 : ZV) (a : Int) (L st : List ZV) (h : PH) (hx : zisL x4 = false) , zev kX1_stands 104 (x0 :: x1 :: x2 :: x3 :: x4 :: x5 :: L) (zvi a :: st) h = zev kX1_stands 106 (x0 :: x1 :: x2 :: x3 :: x4 :: zvi a :: L) st h) ∧
  (∀ (a : Option Nat) (L st : List ZV) (h : PH), zev kX1_stands 106 (zvr a :: L) st h = zev kX1_stands 107 (zvr a :: L) (zvr a :: st) h) ∧
  (∀ (q : Nat) (L st : List ZV) (h : PH), zev kX1_stands 107 L (zvr (some q) :: st) h = if (ph_K h q).1 % 1000 = 16 then zev kX1_stands 110 L (zvr (ph_R h q 8) :: st) h else none) ∧
  (∀ (q : Nat) (L st : List ZV) (h : PH), zev kX1_stands 110 L (zvr (some q) :: st) h = if (ph_K h q).1 % 1000 = 17 then zev kX1_stands 113 L (zvr (ph_R h q 5) :: st) h else none) ∧
  (∀ (x0 x1 x2 x3 x4 x5 x6 : ZV) (a : Int) (L st : List ZV) (h : PH), zev kX1_stands 113 (x0 :: x1 :: x2 :: x3 :: x4 :: x5 :: x6 :: zvi a :: L) st h = zev kX1_stands 115 (x0 :: x1 :: x2 :: x3 :: x4 :: x5 :: x6 :: zvi a :: L) (zvi a :: st) h) ∧
  (∀ (j : Int) (q : Nat) (L st : List ZV) (h : PH), zev kX1_stands 115 L (zvi j :: zvr (some q) :: st) h = if (ph_K h q).1 % 1000 = 1 ∧ 0 ≤ j ∧ j < (ph_K h q).2 then zev kX1_stands 116 L (zvi (ph_I h q j) :: st) h else none) ∧
  (∀ (x0 x1 x2 x3 x4 x5 x6 x7 : ZV) (a : Int) (L st : List ZV) (h : PH) (hx : zisL x6 = false) , zev kX1_stands 116 (x0 :: x1 :: x2 :: x3 :: x4 :: x5 :: x6 :: x7 :: L) (zvi a :: st) h = zev kX1_stands 118 (x0 :: x1 :: x2 :: x3 :: x4 :: x5 :: x6 :: zvi a :: L) st h) ∧
  (∀ (L st : List ZV) (h : PH), zev kX1_stands 118 L st h = zev kX1_stands 70 L st h) ∧
  (∀ (a : Option Nat) (L st : List ZV) (h : PH), zev kX1_stands 121 (zvr a :: L) st h = zev kX1_stands 122 (zvr a :: L) (zvr a :: st) h) ∧
  (∀ (x0 x1 x2 x3 x4 x5 : ZV) (a : Int) (L st : List ZV) (h : PH), zev kX1_stands 122 (x0 :: x1 :: x2 :: x3 :: x4 :: x5 :: zvi a :: L) st h = zev kX1_stands 124 (x0 :: x1 :: x2 :: x3 :: x4 :: x5 :: zvi a :: L) (zvi a :: st) h) ∧
  (∀ (v0 : ZV) (q : Nat) (L st : List ZV) (h : PH), zev kX1_stands 124 L (v0 :: zvr (some q) :: st) h = if (ph_K h q).1 % 1000 = 16 ∧ zcat st ≤ 8 then zk kX1_stands 124 127 L st (mX1_fine [zvr (some q), v0] h) else none) ∧
  (∀ (a : Int) (L : List ZV) (h : PH), zev kX1_stands 127 L [zvi a] h = zrv (zvi a) h) :=
  ⟨fun a L st h => e_ld0R (n := 1) rfl,
  fun x0 a L st h => e_ld1I (n := 2) rfl,
  fun x0 x1 a L st h => e_ld2I (n := 3) rfl,
  fun x0 x1 x2 a L st h => e_ld3I (n := 4) rfl,
  fun v0 v1 v2 q L st h => e_callV4 (F := mX1_refuses) (kd := 16) (n := 7) rfl,
  fun x0 x1 x2 x3 x4 a L st h hx => e_st4I (n := 9) rfl hx,
  fun x0 x1 x2 x3 a L st h => e_ld4I (n := 11) rfl,
  fun a L st h => e_ifle (t := 21) (n := 14) rfl,
  fun a L st h => e_ld0R (n := 15) rfl,
  fun x0 x1 x2 x3 a L st h => e_ld4I (n := 17) rfl,
  fun v0 q L st h => e_callV2 (F := mX1_refused) (kd := 16) (n := 20) rfl,
  fun a L h => e_retI rfl,
  fun a L st h => e_ld0R (n := 22) rfl,
  fun q L st h => e_callV1 (F := mX1_asIs) (kd := 16) (n := 25) rfl,
  fun x0 a L st h => e_ld1I (n := 26) rfl,
  fun x0 x1 a L st h => e_ld2I (n := 27) rfl,
  fun x0 x1 x2 a L st h => e_ld3I (n := 28) rfl,
  fun v0 v1 v2 q L st h => e_callV4 (F := mX3_best) (kd := 17) (n := 31) rfl,
  fun x0 x1 x2 x3 x4 x5 a L st h hx => e_st5I (n := 33) rfl hx,
  fun x0 x1 x2 x3 x4 a L st h => e_ld5I (n := 35) rfl,
  fun L st h => e_push (v := zvi (-1)) (n := 36) rfl,
  fun a b L st h => e_cmpne (t := 55) (n := 39) rfl,
  fun a L st h => e_ld0R (n := 40) rfl,
  fun x0 a L st h => e_ld1I (n := 41) rfl,
  fun x0 x1 a L st h => e_ld2I (n := 42) rfl,
  fun a b L st h => e_cmpne (t := 49) (n := 45) rfl,
  fun L st h => e_push (v := zvi 0) (n := 46) rfl,
  fun L st h => e_goto (t := 51) rfl,
  fun L st h => e_push (v := zvi (-2)) (n := 51) rfl,
  fun v0 q L st h => e_callV2 (F := mX1_fine) (kd := 16) (n := 54) rfl,
  fun a L h => e_retI rfl,
  fun L st h => e_push (v := zvi 0) (n := 56) rfl,
  fun x0 x1 x2 x3 x4 x5 x6 a L st h hx => e_st6I (n := 58) rfl hx,
  fun a L st h => e_ld0R (n := 59) rfl,
  fun q L st h => e_getR (kd := 16) (k := 8) (n := 62) rfl,
  fun q L st h => e_getR (kd := 17) (k := 5) (n := 65) rfl,
  fun x0 x1 x2 x3 x4 a L st h => e_ld5I (n := 67) rfl,
  fun j q L st h => e_ald (kd := 1) (n := 68) rfl,
  fun x0 x1 x2 x3 x4 x5 x6 x7 a L st h hx => e_st7I (n := 70) rfl hx,
  fun L st h => e_push (v := zvi (-1)) (n := 73) rfl,
  fun a b L st h => e_cmpeq (t := 121) (n := 76) rfl,
  fun x0 x1 x2 x3 x4 x5 a L st h => e_ld6I (n := 78) rfl,
  fun a L st h => e_ld0R (n := 79) rfl,
  fun q L st h => e_getR (kd := 16) (k := 8) (n := 82) rfl,
  fun q L st h => e_getR (kd := 17) (k := 1) (n := 85) rfl,
  fun x0 x1 x2 x3 x4 x5 x6 a L st h => e_ld7I (n := 87) rfl,
  fun j q L st h => e_ald (kd := 1) (n := 88) rfl,
  fun a L st h => e_ld0R (n := 89) rfl,
  fun q L st h => e_getR (kd := 16) (k := 8) (n := 92) rfl,
  fun q L st h => e_getR (kd := 17) (k := 2) (n := 95) rfl,
  fun x0 x1 x2 x3 x4 a L st h => e_ld5I (n := 97) rfl,
  fun j q L st h => e_ald (kd := 1) (n := 98) rfl,
  fun a b L st h => e_bin (f := (fun a b => w32 (a - b))) (n := 99) rfl,
  fun a b L st h => e_bin (f := (fun a b => w32 (a + b))) (n := 100) rfl,
  fun x0 x1 x2 x3 x4 x5 x6 a L st h hx => e_st6I (n := 102) rfl hx,
  fun x0 x1 x2 x3 x4 x5 x6 a L st h => e_ld7I (n := 104) rfl,
  fun x0 x1 x2 x3 x4 x5 a L st h hx => e_st5I (n := 106) rfl hx,
  fun a L st h => e_ld0R (n := 107) rfl,
  fun q L st h => e_getR (kd := 16) (k := 8) (n := 110) rfl,
  fun q L st h => e_getR (kd := 17) (k := 5) (n := 113) rfl,
  fun x0 x1 x2 x3 x4 x5 x6 a L st h => e_ld7I (n := 115) rfl,
  fun j q L st h => e_ald (kd := 1) (n := 116) rfl,
  fun x0 x1 x2 x3 x4 x5 x6 x7 a L st h hx => e_st7I (n := 118) rfl hx,
  fun L st h => e_goto (t := 70) rfl,
  fun a L st h => e_ld0R (n := 122) rfl,
  fun x0 x1 x2 x3 x4 x5 a L st h => e_ld6I (n := 124) rfl,
  fun v0 q L st h => e_callV2 (F := mX1_fine) (kd := 16) (n := 127) rfl,
  fun a L h => e_retI rfl⟩
theorem allX1_stands : zall yX1_stands cX1_stands 8 (some .int) 9 kX1_stands.1 :=
  ⟨k_aload_n dX1_stands_0,
  k_iload_n dX1_stands_1,
  k_iload_n dX1_stands_2,
  k_iload_n dX1_stands_3,
  k_callV (y2 := yX1_refuses) (C := RX1) (T0 := TX1) (ci := 0) dX1_stands_4 sndX1_refuses rfl q1334 q1336 qs36 q128 q1337 (by decide +kernel) ⟨by decide, by decide⟩ (by decide) (by decide),
  k_istore dX1_stands_7,
  k_iload dX1_stands_9,
  k_ifle (t := 21) dX1_stands_11 (by decide),
  k_aload_n dX1_stands_14,
  k_iload dX1_stands_15,
  k_callV (y2 := yX1_refused) (C := RX1) (T0 := TX1) (ci := 0) dX1_stands_17 sndX1_refused rfl q378 q380 qs1 q128 q381 (by decide +kernel) ⟨by decide, by decide⟩ (by decide) (by decide),
  k_iret dX1_stands_20,
  k_aload_n dX1_stands_21,
  k_callV (y2 := yX1_asIs) (C := RX1) (T0 := TX1) (ci := 0) dX1_stands_22 sndX1_asIs rfl q1338 q1340 qs37 q128 q1341 (by decide +kernel) ⟨by decide, by decide⟩ (by decide) (by decide),
  k_iload_n dX1_stands_25,
  k_iload_n dX1_stands_26,
  k_iload_n dX1_stands_27,
  k_callV (y2 := yX3_best) (C := RX3) (T0 := TX3) (ci := 1) dX1_stands_28 sndX3_best rfl q1380 q1381 q1382 q136 q1383 (by decide +kernel) ⟨by decide, by decide⟩ (by decide) (by decide),
  k_istore dX1_stands_31,
  k_iload dX1_stands_33,
  k_iconst dX1_stands_35,
  k_cmpne (t := 55) dX1_stands_36 (by decide),
  k_aload_n dX1_stands_39,
  k_iload_n dX1_stands_40,
  k_iload_n dX1_stands_41,
  k_cmpne (t := 49) dX1_stands_42 (by decide),
  k_iconst dX1_stands_45,
  k_goto (t := 51) dX1_stands_46 (by decide),
  k_bipush dX1_stands_49,
  k_callV (y2 := yX1_fine) (C := RX1) (T0 := TX1) (ci := 0) dX1_stands_51 sndX1_fine rfl q1211 q1213 qs32 q128 q1214 (by decide +kernel) ⟨by decide, by decide⟩ (by decide) (by decide),
  k_iret dX1_stands_54,
  k_iconst dX1_stands_55,
  k_istore dX1_stands_56,
  k_aload_n dX1_stands_58,
  k_getR (C := RX1) (T := TX1) (N := 19) (ci := 0) (k := 8) (ref := "LinkTimes") dX1_stands_59 rfl in_X1 (by decide) q311 (Or.inl rfl) (fun _ _ _ => rfl),
  k_getRN (C := RX3) (T := TX3) (N := 9) (ci := 1) (k := 5) (ref := "LinkTimes$Search") dX1_stands_62 rfl in_X3 (by decide) q276 (Or.inl rfl) (fun _ _ _ => rfl),
  k_iload dX1_stands_65,
  k_iald dX1_stands_67,
  k_istore dX1_stands_68,
  k_iload dX1_stands_70,
  k_iconst dX1_stands_72,
  k_cmpeq (t := 121) dX1_stands_73 (by decide),
  k_iload dX1_stands_76,
  k_aload_n dX1_stands_78,
  k_getR (C := RX1) (T := TX1) (N := 19) (ci := 0) (k := 8) (ref := "LinkTimes") dX1_stands_79 rfl in_X1 (by decide) q311 (Or.inl rfl) (fun _ _ _ => rfl),
  k_getRN (C := RX3) (T := TX3) (N := 9) (ci := 1) (k := 1) (ref := "LinkTimes$Search") dX1_stands_82 rfl in_X3 (by decide) q268 (Or.inl rfl) (fun _ _ _ => rfl),
  k_iload dX1_stands_85,
  k_iald dX1_stands_87,
  k_aload_n dX1_stands_88,
  k_getR (C := RX1) (T := TX1) (N := 19) (ci := 0) (k := 8) (ref := "LinkTimes") dX1_stands_89 rfl in_X1 (by decide) q311 (Or.inl rfl) (fun _ _ _ => rfl),
  k_getRN (C := RX3) (T := TX3) (N := 9) (ci := 1) (k := 2) (ref := "LinkTimes$Search") dX1_stands_92 rfl in_X3 (by decide) q270 (Or.inl rfl) (fun _ _ _ => rfl),
  k_iload dX1_stands_95,
  k_iald dX1_stands_97,
  k_isub dX1_stands_98,
  k_iadd dX1_stands_99,
  k_istore dX1_stands_100,
  k_iload dX1_stands_102,
  k_istore dX1_stands_104,
  k_aload_n dX1_stands_106,
  k_getR (C := RX1) (T := TX1) (N := 19) (ci := 0) (k := 8) (ref := "LinkTimes") dX1_stands_107 rfl in_X1 (by decide) q311 (Or.inl rfl) (fun _ _ _ => rfl),
  k_getRN (C := RX3) (T := TX3) (N := 9) (ci := 1) (k := 5) (ref := "LinkTimes$Search") dX1_stands_110 rfl in_X3 (by decide) q276 (Or.inl rfl) (fun _ _ _ => rfl),
  k_iload dX1_stands_113,
  k_iald dX1_stands_115,
  k_istore dX1_stands_116,
  k_goto (t := 70) dX1_stands_118 (by decide),
  k_aload_n dX1_stands_121,
  k_iload dX1_stands_122,
  k_callV (y2 := yX1_fine) (C := RX1) (T0 := TX1) (ci := 0) dX1_stands_124 sndX1_fine rfl q1211 q1213 qs32 q128 q1214 (by decide +kernel) ⟨by decide, by decide⟩ (by decide) (by decide),
  k_iret dX1_stands_127, trivial⟩
theorem sndX1_stands : MSound 9 yX1_stands (ws_ yX1_stands cX1_stands 8 (some .int)) mX1_stands := msound_M (by decide) allX1_stands (fun _ _ => rfl)
/-! LinkTimes.laysTrades(III)I -/
noncomputable def kX1_laysTrades : ZM := ([(0, zi_ld 1 0 1), (1, zi_callV mX1_asIs 16 1 4), (4, zi_ld 0 1 5), (5, zi_ld 0 2 6), (6, zi_ld 0 3 7), (7, zi_callV mX3_arrives 17 4 10), (10, zi_st 0 4 12), (12, zi_push (zvi 0) 13), (13, zi_st 0 5 15), (15, zi_push (zvi 99999) 17), (17, zi_st 0 6 19), (19, zi_push (zvi 0) 20), (20, zi_st 0 7 22), (22, zi_ld 0 4 24), (24, zi_push (zvi (-2)) 26), (26, zi_cmp zc_eq 95 29), (29, zi_ld 0 6 31), (31, zi_ld 0 4 33), (33, zi_cmp zc_eq 95 36), (36, zi_ld 1 0 37), (37, zi_getR 16 8 40), (40, zi_ld 0 1 41), (41, zi_ld 0 2 42), (42, zi_ld 0 3 43), (43, zi_ld 0 7 45), (45, zi_callV mX3_arrivesBy 17 5 48), (48, zi_st 0 8 50), (50, zi_ld 0 8 52), (52, zi_push (zvi (-2)) 54), (54, zi_cmp zc_eq 89 57), (57, zi_ld 0 8 59), (59, zi_ld 0 6 61), (61, zi_cmp zc_ge 89 64), (64, zi_ld 0 8 66), (66, zi_st 0 6 68), (68, zi_ld 1 0 69), (69, zi_getR 16 9 72), (72, zi_ld 0 5 74), (74, zi_ld 0 8 76), (76, zi_ast 77), (77, zi_ld 1 0 78), (78, zi_getR 16 10 81), (81, zi_ld 0 5 83), (83, zi_ld 0 7 85), (85, zi_ast 86), (86, zi_iinc 5 1 89), (89, zi_iinc 7 1 92), (92, zi_goto 22), (95, zi_ld 0 5 97), (97, zi_retv 0)], fun _ _ => none)
noncomputable def mX1_laysTrades : ZF := zrunM kX1_laysTrades 9
theorem enX1_laysTrades (x0 : Option Nat) (x1 : Int) (x2 : Int) (x3 : Int) (h : PH) : mX1_laysTrades [zvr x0, zvi x1, zvi x2, zvi x3] h = zev kX1_laysTrades 0 [zvr x0, zvi x1, zvi x2, zvi x3, zvu, zvu, zvu, zvu, zvu] [] h := zrunM_eq rfl rfl
theorem hdX1_laysTrades_22 (x0 x1 x2 x3 : ZV) (a : Int) (L st : List ZV) (h : PH) : zev kX1_laysTrades 22 (x0 :: x1 :: x2 :: x3 :: zvi a :: L) st h = zev kX1_laysTrades 24 (x0 :: x1 :: x2 :: x3 :: zvi a :: L) (zvi a :: st) h := e_ld4I (n := 24) rfl
theorem rX1_laysTrades : (∀ (a : Option Nat) (L st : List ZV) (h : PH), zev kX1_laysTrades 0 (zvr a :: L) st h = zev kX1_laysTrades 1 (zvr a :: L) (zvr a :: st) h) ∧
  (∀ (q : Nat) (L st : List ZV) (h : PH), zev kX1_laysTrades 1 L (zvr (some q) :: st) h = if (ph_K h q).1 % 1000 = 16 ∧ zcat st ≤ 8 then zk kX1_laysTrades 1 4 L st (mX1_asIs [zvr (some q)] h) else none) ∧
  (∀ (x0 : ZV) (a : Int) (L st : List ZV) (h : PH), zev kX1_laysTrades 4 (x0 :: zvi a :: L) st h = zev kX1_laysTrades 5 (x0 :: zvi a :: L) (zvi a :: st) h) ∧
  (∀ (x0 x1 : ZV) (a : Int) (L st : List ZV) (h : PH), zev kX1_laysTrades 5 (x0 :: x1 :: zvi a :: L) st h = zev kX1_laysTrades 6 (x0 :: x1 :: zvi a :: L) (zvi a :: st) h) ∧
  (∀ (x0 x1 x2 : ZV) (a : Int) (L st : List ZV) (h : PH), zev kX1_laysTrades 6 (x0 :: x1 :: x2 :: zvi a :: L) st h = zev kX1_laysTrades 7 (x0 :: x1 :: x2 :: zvi a :: L) (zvi a :: st) h) ∧
  (∀ (v0 v1 v2 : ZV) (q : Nat) (L st : List ZV) (h : PH), zev kX1_laysTrades 7 L (v2 :: v1 :: v0 :: zvr (some q) :: st) h = if (ph_K h q).1 % 1000 = 17 ∧ zcat st ≤ 8 then zk kX1_laysTrades 7 10 L st (mX3_arrives [zvr (some q), v0, v1, v2] h) else none) ∧
  (∀ (x0 x1 x2 x3 x4 : ZV) (a : Int) (L st : List ZV) (h : PH) (hx : zisL x3 = false) , zev kX1_laysTrades 10 (x0 :: x1 :: x2 :: x3 :: x4 :: L) (zvi a :: st) h = zev kX1_laysTrades 12 (x0 :: x1 :: x2 :: x3 :: zvi a :: L) st h) ∧
  (∀ (L st : List ZV) (h : PH), zev kX1_laysTrades 12 L st h = zev kX1_laysTrades 13 L (zvi 0 :: st) h) ∧
  (∀ (x0 x1 x2 x3 x4 x5 : ZV) (a : Int) (L st : List ZV) (h : PH) (hx : zisL x4 = false) , zev kX1_laysTrades 13 (x0 :: x1 :: x2 :: x3 :: x4 :: x5 :: L) (zvi a :: st) h = zev kX1_laysTrades 15 (x0 :: x1 :: x2 :: x3 :: x4 :: zvi a :: L) st h) ∧
  (∀ (L st : List ZV) (h : PH), zev kX1_laysTrades 15 L st h = zev kX1_laysTrades 17 L (zvi 99999 :: st) h) ∧
  (∀ (x0 x1 x2 x3 x4 x5 x6 : ZV) (a : Int) (L st : List ZV) (h : PH) (hx : zisL x5 = false) , zev kX1_laysTrades 17 (x0 :: x1 :: x2 :: x3 :: x4 :: x5 :: x6 :: L) (zvi a :: st) h = zev kX1_laysTrades 19 (x0 :: x1 :: x2 :: x3 :: x4 :: x5 :: zvi a :: L) st h) ∧
  (∀ (L st : List ZV) (h : PH), zev kX1_laysTrades 19 L st h = zev kX1_laysTrades 20 L (zvi 0 :: st) h) ∧
  (∀ (x0 x1 x2 x3 x4 x5 x6 x7 : ZV) (a : Int) (L st : List ZV) (h : PH) (hx : zisL x6 = false) , zev kX1_laysTrades 20 (x0 :: x1 :: x2 :: x3 :: x4 :: x5 :: x6 :: x7 :: L) (zvi a :: st) h = zev kX1_laysTrades 22 (x0 :: x1 :: x2 :: x3 :: x4 :: x5 :: x6 :: zvi a :: L) st h) ∧
  (∀ (L st : List ZV) (h : PH), zev kX1_laysTrades 24 L st h = zev kX1_laysTrades 26 L (zvi (-2) :: st) h) ∧
  (∀ (a b : Int) (L st : List ZV) (h : PH), zev kX1_laysTrades 26 L (zvi b :: zvi a :: st) h = if a = b then zev kX1_laysTrades 95 L st h else zev kX1_laysTrades 29 L st h) ∧
  (∀ (x0 x1 x2 x3 x4 x5 : ZV) (a : Int) (L st : List ZV) (h : PH), zev kX1_laysTrades 29 (x0 :: x1 :: x2 :: x3 :: x4 :: x5 :: zvi a :: L) st h = zev kX1_laysTrades 31 (x0 :: x1 :: x2 :: x3 :: x4 :: x5 :: zvi a :: L) (zvi a :: st) h) ∧
  (∀ (x0 x1 x2 x3 : ZV) (a : Int) (L st : List ZV) (h : PH), zev kX1_laysTrades 31 (x0 :: x1 :: x2 :: x3 :: zvi a :: L) st h = zev kX1_laysTrades 33 (x0 :: x1 :: x2 :: x3 :: zvi a :: L) (zvi a :: st) h) ∧
  (∀ (a b : Int) (L st : List ZV) (h : PH), zev kX1_laysTrades 33 L (zvi b :: zvi a :: st) h = if a = b then zev kX1_laysTrades 95 L st h else zev kX1_laysTrades 36 L st h) ∧
  (∀ (a : Option Nat) (L st : List ZV) (h : PH), zev kX1_laysTrades 36 (zvr a :: L) st h = zev kX1_laysTrades 37 (zvr a :: L) (zvr a :: st) h) ∧
  (∀ (q : Nat) (L st : List ZV) (h : PH), zev kX1_laysTrades 37 L (zvr (some q) :: st) h = if (ph_K h q).1 % 1000 = 16 then zev kX1_laysTrades 40 L (zvr (ph_R h q 8) :: st) h else none) ∧
  (∀ (x0 : ZV) (a : Int) (L st : List ZV) (h : PH), zev kX1_laysTrades 40 (x0 :: zvi a :: L) st h = zev kX1_laysTrades 41 (x0 :: zvi a :: L) (zvi a :: st) h) ∧
  (∀ (x0 x1 : ZV) (a : Int) (L st : List ZV) (h : PH), zev kX1_laysTrades 41 (x0 :: x1 :: zvi a :: L) st h = zev kX1_laysTrades 42 (x0 :: x1 :: zvi a :: L) (zvi a :: st) h) ∧
  (∀ (x0 x1 x2 : ZV) (a : Int) (L st : List ZV) (h : PH), zev kX1_laysTrades 42 (x0 :: x1 :: x2 :: zvi a :: L) st h = zev kX1_laysTrades 43 (x0 :: x1 :: x2 :: zvi a :: L) (zvi a :: st) h) ∧
  (∀ (x0 x1 x2 x3 x4 x5 x6 : ZV) (a : Int) (L st : List ZV) (h : PH), zev kX1_laysTrades 43 (x0 :: x1 :: x2 :: x3 :: x4 :: x5 :: x6 :: zvi a :: L) st h = zev kX1_laysTrades 45 (x0 :: x1 :: x2 :: x3 :: x4 :: x5 :: x6 :: zvi a :: L) (zvi a :: st) h) ∧
  (∀ (v0 v1 v2 v3 : ZV) (q : Nat) (L st : List ZV) (h : PH), zev kX1_laysTrades 45 L (v3 :: v2 :: v1 :: v0 :: zvr (some q) :: st) h = if (ph_K h q).1 % 1000 = 17 ∧ zcat st ≤ 8 then zk kX1_laysTrades 45 48 L st (mX3_arrivesBy [zvr (some q), v0, v1, v2, v3] h) else none) ∧
  (∀ (x0 x1 x2 x3 x4 x5 x6 x7 x8 : ZV) (a : Int) (L st : List ZV) (h : PH) (hx : zisL x7 = false) , zev kX1_laysTrades 48 (x0 :: x1 :: x2 :: x3 :: x4 :: x5 :: x6 :: x7 :: x8 :: L) (zvi a :: st) h = zev kX1_laysTrades 50 (x0 :: x1 :: x2 :: x3 :: x4 :: x5 :: x6 :: x7 :: zvi a :: L) st h) ∧
  (∀ (x0 x1 x2 x3 x4 x5 x6 x7 : ZV) (a : Int) (L st : List ZV) (h : PH), zev kX1_laysTrades 50 (x0 :: x1 :: x2 :: x3 :: x4 :: x5 :: x6 :: x7 :: zvi a :: L) st h = zev kX1_laysTrades 52 (x0 :: x1 :: x2 :: x3 :: x4 :: x5 :: x6 :: x7 :: zvi a :: L) (zvi a :: st) h) ∧
  (∀ (L st : List ZV) (h : PH), zev kX1_laysTrades 52 L st h = zev kX1_laysTrades 54 L (zvi (-2) :: st) h) ∧
  (∀ (a b : Int) (L st : List ZV) (h : PH), zev kX1_laysTrades 54 L (zvi b :: zvi a :: st) h = if a = b then zev kX1_laysTrades 89 L st h else zev kX1_laysTrades 57 L st h) ∧
  (∀ (x0 x1 x2 x3 x4 x5 x6 x7 : ZV) (a : Int) (L st : List ZV) (h : PH), zev kX1_laysTrades 57 (x0 :: x1 :: x2 :: x3 :: x4 :: x5 :: x6 :: x7 :: zvi a :: L) st h = zev kX1_laysTrades 59 (x0 :: x1 :: x2 :: x3 :: x4 :: x5 :: x6 :: x7 :: zvi a :: L) (zvi a :: st) h) ∧
  (∀ (x0 x1 x2 x3 x4 x5 : ZV) (a : Int) (L st : List ZV) (h : PH), zev kX1_laysTrades 59 (x0 :: x1 :: x2 :: x3 :: x4 :: x5 :: zvi a :: L) st h = zev kX1_laysTrades 61 (x0 :: x1 :: x2 :: x3 :: x4 :: x5 :: zvi a :: L) (zvi a :: st) h) ∧
  (∀ (a b : Int) (L st : List ZV) (h : PH), zev kX1_laysTrades 61 L (zvi b :: zvi a :: st) h = if a ≥ b then zev kX1_laysTrades 89 L st h else zev kX1_laysTrades 64 L st h) ∧
  (∀ (x0 x1 x2 x3 x4 x5 x6 x7 : ZV) (a : Int) (L st : List ZV) (h : PH), zev kX1_laysTrades 64 (x0 :: x1 :: x2 :: x3 :: x4 :: x5 :: x6 :: x7 :: zvi a :: L) st h = zev kX1_laysTrades 66 (x0 :: x1 :: x2 :: x3 :: x4 :: x5 :: x6 :: x7 :: zvi a :: L) (zvi a :: st) h) ∧
  (∀ (x0 x1 x2 x3 x4 x5 x6 : ZV) (a : Int) (L st : List ZV) (h : PH) (hx : zisL x5 = false) , zev kX1_laysTrades 66 (x0 :: x1 :: x2 :: x3 :: x4 :: x5 :: x6 :: L) (zvi a :: st) h = zev kX1_laysTrades 68 (x0 :: x1 :: x2 :: x3 :: x4 :: x5 :: zvi a :: L) st h) ∧
  (∀ (a : Option Nat) (L st : List ZV) (h : PH), zev kX1_laysTrades 68 (zvr a :: L) st h = zev kX1_laysTrades 69 (zvr a :: L) (zvr a :: st) h) ∧
  (∀ (q : Nat) (L st : List ZV) (h : PH), zev kX1_laysTrades 69 L (zvr (some q) :: st) h = if (ph_K h q).1 % 1000 = 16 then zev kX1_laysTrades 72 L (zvr (ph_R h q 9) :: st) h else none) ∧
  (∀ (x0 x1 x2 x3 x4 : ZV) (a : Int) (L st : List ZV) (h : PH), zev kX1_laysTrades 72 (x0 :: x1 :: x2 :: x3 :: x4 :: zvi a :: L) st h = zev kX1_laysTrades 74 (x0 :: x1 :: x2 :: x3 :: x4 :: zvi a :: L) (zvi a :: st) h) ∧
  (∀ (x0 x1 x2 x3 x4 x5 x6 x7 : ZV) (a : Int) (L st : List ZV) (h : PH), zev kX1_laysTrades 74 (x0 :: x1 :: x2 :: x3 :: x4 :: x5 :: x6 :: x7 :: zvi a :: L) st h = zev kX1_laysTrades 76 (x0 :: x1 :: x2 :: x3 :: x4 :: x5 :: x6 :: x7 :: zvi a :: L) (zvi a :: st) h) ∧
  (∀ (x j : Int) (q : Nat) (L st : List ZV) (h : PH), zev kX1_laysTrades 76 L (zvi x :: zvi j :: zvr (some q) :: st) h = if (ph_K h q).1 = 1 ∧ 0 ≤ j ∧ j < (ph_K h q).2 then zev kX1_laysTrades 77 L st (st_I h q j x) else none) ∧
  (∀ (a : Option Nat) (L st : List ZV) (h : PH), zev kX1_laysTrades 77 (zvr a :: L) st h = zev kX1_laysTrades 78 (zvr a :: L) (zvr a :: st) h) ∧
  (∀ (q : Nat) (L st : List ZV) (h : PH), zev kX1_laysTrades 78 L (zvr (some q) :: st) h = if (ph_K h q).1 % 1000 = 16 then zev kX1_laysTrades 81 L (zvr (ph_R h q 10) :: st) h else none) ∧
  (∀ (x0 x1 x2 x3 x4 : ZV) (a : Int) (L st : List ZV) (h : PH), zev kX1_laysTrades 81 (x0 :: x1 :: x2 :: x3 :: x4 :: zvi a :: L) st h = zev kX1_laysTrades 83 (x0 :: x1 :: x2 :: x3 :: x4 :: zvi a :: L) (zvi a :: st) h) ∧
  (∀ (x0 x1 x2 x3 x4 x5 x6 : ZV) (a : Int) (L st : List ZV) (h : PH), zev kX1_laysTrades 83 (x0 :: x1 :: x2 :: x3 :: x4 :: x5 :: x6 :: zvi a :: L) st h = zev kX1_laysTrades 85 (x0 :: x1 :: x2 :: x3 :: x4 :: x5 :: x6 :: zvi a :: L) (zvi a :: st) h) ∧
  (∀ (x j : Int) (q : Nat) (L st : List ZV) (h : PH), zev kX1_laysTrades 85 L (zvi x :: zvi j :: zvr (some q) :: st) h = if (ph_K h q).1 = 1 ∧ 0 ≤ j ∧ j < (ph_K h q).2 then zev kX1_laysTrades 86 L st (st_I h q j x) else none) ∧
  (∀ (x0 x1 x2 x3 x4 : ZV) (a : Int) (L st : List ZV) (h : PH) (hx : zisL x4 = false) , zev kX1_laysTrades 86 (x0 :: x1 :: x2 :: x3 :: x4 :: zvi a :: L) st h = zev kX1_laysTrades 89 (x0 :: x1 :: x2 :: x3 :: x4 :: zvi (w32 (a + 1)) :: L) st h) ∧
  (∀ (x0 x1 x2 x3 x4 x5 x6 : ZV) (a : Int) (L st : List ZV) (h : PH) (hx : zisL x6 = false) , zev kX1_laysTrades 89 (x0 :: x1 :: x2 :: x3 :: x4 :: x5 :: x6 :: zvi a :: L) st h = zev kX1_laysTrades 92 (x0 :: x1 :: x2 :: x3 :: x4 :: x5 :: x6 :: zvi (w32 (a + 1)) :: L) st h) ∧
  (∀ (L st : List ZV) (h : PH), zev kX1_laysTrades 92 L st h = zev kX1_laysTrades 22 L st h) ∧
  (∀ (x0 x1 x2 x3 x4 : ZV) (a : Int) (L st : List ZV) (h : PH), zev kX1_laysTrades 95 (x0 :: x1 :: x2 :: x3 :: x4 :: zvi a :: L) st h = zev kX1_laysTrades 97 (x0 :: x1 :: x2 :: x3 :: x4 :: zvi a :: L) (zvi a :: st) h) ∧
  (∀ (a : Int) (L : List ZV) (h : PH), zev kX1_laysTrades 97 L [zvi a] h = zrv (zvi a) h) :=
  ⟨fun a L st h => e_ld0R (n := 1) rfl,
  fun q L st h => e_callV1 (F := mX1_asIs) (kd := 16) (n := 4) rfl,
  fun x0 a L st h => e_ld1I (n := 5) rfl,
  fun x0 x1 a L st h => e_ld2I (n := 6) rfl,
  fun x0 x1 x2 a L st h => e_ld3I (n := 7) rfl,
  fun v0 v1 v2 q L st h => e_callV4 (F := mX3_arrives) (kd := 17) (n := 10) rfl,
  fun x0 x1 x2 x3 x4 a L st h hx => e_st4I (n := 12) rfl hx,
  fun L st h => e_push (v := zvi 0) (n := 13) rfl,
  fun x0 x1 x2 x3 x4 x5 a L st h hx => e_st5I (n := 15) rfl hx,
  fun L st h => e_push (v := zvi 99999) (n := 17) rfl,
  fun x0 x1 x2 x3 x4 x5 x6 a L st h hx => e_st6I (n := 19) rfl hx,
  fun L st h => e_push (v := zvi 0) (n := 20) rfl,
  fun x0 x1 x2 x3 x4 x5 x6 x7 a L st h hx => e_st7I (n := 22) rfl hx,
  fun L st h => e_push (v := zvi (-2)) (n := 26) rfl,
  fun a b L st h => e_cmpeq (t := 95) (n := 29) rfl,
  fun x0 x1 x2 x3 x4 x5 a L st h => e_ld6I (n := 31) rfl,
  fun x0 x1 x2 x3 a L st h => e_ld4I (n := 33) rfl,
  fun a b L st h => e_cmpeq (t := 95) (n := 36) rfl,
  fun a L st h => e_ld0R (n := 37) rfl,
  fun q L st h => e_getR (kd := 16) (k := 8) (n := 40) rfl,
  fun x0 a L st h => e_ld1I (n := 41) rfl,
  fun x0 x1 a L st h => e_ld2I (n := 42) rfl,
  fun x0 x1 x2 a L st h => e_ld3I (n := 43) rfl,
  fun x0 x1 x2 x3 x4 x5 x6 a L st h => e_ld7I (n := 45) rfl,
  fun v0 v1 v2 v3 q L st h => e_callV5 (F := mX3_arrivesBy) (kd := 17) (n := 48) rfl,
  fun x0 x1 x2 x3 x4 x5 x6 x7 x8 a L st h hx => e_st8I (n := 50) rfl hx,
  fun x0 x1 x2 x3 x4 x5 x6 x7 a L st h => e_ld8I (n := 52) rfl,
  fun L st h => e_push (v := zvi (-2)) (n := 54) rfl,
  fun a b L st h => e_cmpeq (t := 89) (n := 57) rfl,
  fun x0 x1 x2 x3 x4 x5 x6 x7 a L st h => e_ld8I (n := 59) rfl,
  fun x0 x1 x2 x3 x4 x5 a L st h => e_ld6I (n := 61) rfl,
  fun a b L st h => e_cmpge (t := 89) (n := 64) rfl,
  fun x0 x1 x2 x3 x4 x5 x6 x7 a L st h => e_ld8I (n := 66) rfl,
  fun x0 x1 x2 x3 x4 x5 x6 a L st h hx => e_st6I (n := 68) rfl hx,
  fun a L st h => e_ld0R (n := 69) rfl,
  fun q L st h => e_getR (kd := 16) (k := 9) (n := 72) rfl,
  fun x0 x1 x2 x3 x4 a L st h => e_ld5I (n := 74) rfl,
  fun x0 x1 x2 x3 x4 x5 x6 x7 a L st h => e_ld8I (n := 76) rfl,
  fun x j q L st h => e_ast (n := 77) rfl,
  fun a L st h => e_ld0R (n := 78) rfl,
  fun q L st h => e_getR (kd := 16) (k := 10) (n := 81) rfl,
  fun x0 x1 x2 x3 x4 a L st h => e_ld5I (n := 83) rfl,
  fun x0 x1 x2 x3 x4 x5 x6 a L st h => e_ld7I (n := 85) rfl,
  fun x j q L st h => e_ast (n := 86) rfl,
  fun x0 x1 x2 x3 x4 a L st h hx => e_iinc5 (d := 1) (n := 89) rfl hx,
  fun x0 x1 x2 x3 x4 x5 x6 a L st h hx => e_iinc7 (d := 1) (n := 92) rfl hx,
  fun L st h => e_goto (t := 22) rfl,
  fun x0 x1 x2 x3 x4 a L st h => e_ld5I (n := 97) rfl,
  fun a L h => e_retI rfl⟩
theorem allX1_laysTrades : zall yX1_laysTrades cX1_laysTrades 9 (some .int) 8 kX1_laysTrades.1 :=
  ⟨k_aload_n dX1_laysTrades_0,
  k_callV (y2 := yX1_asIs) (C := RX1) (T0 := TX1) (ci := 0) dX1_laysTrades_1 sndX1_asIs rfl q1338 q1340 qs37 q128 q1341 (by decide +kernel) ⟨by decide, by decide⟩ (by decide) (by decide),
  k_iload_n dX1_laysTrades_4,
  k_iload_n dX1_laysTrades_5,
  k_iload_n dX1_laysTrades_6,
  k_callV (y2 := yX3_arrives) (C := RX3) (T0 := TX3) (ci := 1) dX1_laysTrades_7 sndX3_arrives rfl q1353 q1354 q1355 q136 q1356 (by decide +kernel) ⟨by decide, by decide⟩ (by decide) (by decide),
  k_istore dX1_laysTrades_10,
  k_iconst dX1_laysTrades_12,
  k_istore dX1_laysTrades_13,
  k_ldc dX1_laysTrades_15 q1429,
  k_istore dX1_laysTrades_17,
  k_iconst dX1_laysTrades_19,
  k_istore dX1_laysTrades_20,
  k_iload dX1_laysTrades_22,
  k_bipush dX1_laysTrades_24,
  k_cmpeq (t := 95) dX1_laysTrades_26 (by decide),
  k_iload dX1_laysTrades_29,
  k_iload dX1_laysTrades_31,
  k_cmpeq (t := 95) dX1_laysTrades_33 (by decide),
  k_aload_n dX1_laysTrades_36,
  k_getR (C := RX1) (T := TX1) (N := 19) (ci := 0) (k := 8) (ref := "LinkTimes") dX1_laysTrades_37 rfl in_X1 (by decide) q311 (Or.inl rfl) (fun _ _ _ => rfl),
  k_iload_n dX1_laysTrades_40,
  k_iload_n dX1_laysTrades_41,
  k_iload_n dX1_laysTrades_42,
  k_iload dX1_laysTrades_43,
  k_callV (y2 := yX3_arrivesBy) (C := RX3) (T0 := TX3) (ci := 1) dX1_laysTrades_45 sndX3_arrivesBy rfl q1430 q1358 q1359 q136 q1360 (by decide +kernel) ⟨by decide, by decide⟩ (by decide) (by decide),
  k_istore dX1_laysTrades_48,
  k_iload dX1_laysTrades_50,
  k_bipush dX1_laysTrades_52,
  k_cmpeq (t := 89) dX1_laysTrades_54 (by decide),
  k_iload dX1_laysTrades_57,
  k_iload dX1_laysTrades_59,
  k_cmpge (t := 89) dX1_laysTrades_61 (by decide),
  k_iload dX1_laysTrades_64,
  k_istore dX1_laysTrades_66,
  k_aload_n dX1_laysTrades_68,
  k_getR (C := RX1) (T := TX1) (N := 19) (ci := 0) (k := 9) (ref := "LinkTimes") dX1_laysTrades_69 rfl in_X1 (by decide) q312 (Or.inl rfl) (fun _ _ _ => rfl),
  k_iload dX1_laysTrades_72,
  k_iload dX1_laysTrades_74,
  k_iast dX1_laysTrades_76,
  k_aload_n dX1_laysTrades_77,
  k_getR (C := RX1) (T := TX1) (N := 19) (ci := 0) (k := 10) (ref := "LinkTimes") dX1_laysTrades_78 rfl in_X1 (by decide) q313 (Or.inl rfl) (fun _ _ _ => rfl),
  k_iload dX1_laysTrades_81,
  k_iload dX1_laysTrades_83,
  k_iast dX1_laysTrades_85,
  k_iinc dX1_laysTrades_86,
  k_iinc dX1_laysTrades_89,
  k_goto (t := 22) dX1_laysTrades_92 (by decide),
  k_iload dX1_laysTrades_95,
  k_iret dX1_laysTrades_97, trivial⟩
theorem sndX1_laysTrades : MSound 8 yX1_laysTrades (ws_ yX1_laysTrades cX1_laysTrades 9 (some .int)) mX1_laysTrades := msound_M (by decide) allX1_laysTrades (fun _ _ => rfl)
