/-! Z program: LinkTimes (written by gen/gen_prog.py) -/
set_option maxRecDepth 100000
/-! LinkTimes.cancel(I)I -/
noncomputable def kX1_cancel : ZM := ([(0, zi_ld 1 0 1), (1, zi_ld 0 1 2), (2, zi_push (zvi 0) 3), (3, zi_callV mX1_turns 16 3 6), (6, zi_retv 0)], fun _ _ => none)
noncomputable def mX1_cancel : ZF := zrunM kX1_cancel 2
theorem enX1_cancel (x0 : Option Nat) (x1 : Int) (h : PH) : mX1_cancel [zvr x0, zvi x1] h = zev kX1_cancel 0 [zvr x0, zvi x1] [] h := zrunM_eq rfl rfl
theorem rX1_cancel : (∀ (a : Option Nat) (L st : List ZV) (h : PH), zev kX1_cancel 0 (zvr a :: L) st h = zev kX1_cancel 1 (zvr a :: L) (zvr a :: st) h) ∧
  (∀ (x0 : ZV) (a : Int) (L st : List ZV) (h : PH), zev kX1_cancel 1 (x0 :: zvi a :: L) st h = zev kX1_cancel 2 (x0 :: zvi a :: L) (zvi a :: st) h) ∧
  (∀ (L st : List ZV) (h : PH), zev kX1_cancel 2 L st h = zev kX1_cancel 3 L (zvi 0 :: st) h) ∧
  (∀ (v0 v1 : ZV) (q : Nat) (L st : List ZV) (h : PH), zev kX1_cancel 3 L (v1 :: v0 :: zvr (some q) :: st) h = if (ph_K h q).1 % 1000 = 16 ∧ zcat st ≤ 8 then zk kX1_cancel 3 6 L st (mX1_turns [zvr (some q), v0, v1] h) else none) ∧
  (∀ (a : Int) (L : List ZV) (h : PH), zev kX1_cancel 6 L [zvi a] h = zrv (zvi a) h) :=
  ⟨fun a L st h => e_ld0R (n := 1) rfl,
  fun x0 a L st h => e_ld1I (n := 2) rfl,
  fun L st h => e_push (v := zvi 0) (n := 3) rfl,
  fun v0 v1 q L st h => e_callV3 (F := mX1_turns) (kd := 16) (n := 6) rfl,
  fun a L h => e_retI rfl⟩
theorem allX1_cancel : zall yX1_cancel cX1_cancel 2 (some .int) 11 kX1_cancel.1 :=
  ⟨k_aload_n dX1_cancel_0,
  k_iload_n dX1_cancel_1,
  k_iconst dX1_cancel_2,
  k_callV (y2 := yX1_turns) (C := RX1) (T0 := TX1) (ci := 0) dX1_cancel_3 sndX1_turns rfl q1606 q1608 qs59 q128 q1609 (by decide +kernel) ⟨by decide, by decide⟩ (by decide) (by decide),
  k_iret dX1_cancel_6, trivial⟩
theorem sndX1_cancel : MSound 11 yX1_cancel (ws_ yX1_cancel cX1_cancel 2 (some .int)) mX1_cancel := msound_M (by decide) allX1_cancel (fun _ _ => rfl)
/-! LinkTimes.run(I)I -/
noncomputable def kX1_run : ZM := ([(0, zi_ld 1 0 1), (1, zi_ld 0 1 2), (2, zi_push (zvi 1) 3), (3, zi_callV mX1_turns 16 3 6), (6, zi_retv 0)], fun _ _ => none)
noncomputable def mX1_run : ZF := zrunM kX1_run 2
theorem enX1_run (x0 : Option Nat) (x1 : Int) (h : PH) : mX1_run [zvr x0, zvi x1] h = zev kX1_run 0 [zvr x0, zvi x1] [] h := zrunM_eq rfl rfl
theorem rX1_run : (∀ (a : Option Nat) (L st : List ZV) (h : PH), zev kX1_run 0 (zvr a :: L) st h = zev kX1_run 1 (zvr a :: L) (zvr a :: st) h) ∧
  (∀ (x0 : ZV) (a : Int) (L st : List ZV) (h : PH), zev kX1_run 1 (x0 :: zvi a :: L) st h = zev kX1_run 2 (x0 :: zvi a :: L) (zvi a :: st) h) ∧
  (∀ (L st : List ZV) (h : PH), zev kX1_run 2 L st h = zev kX1_run 3 L (zvi 1 :: st) h) ∧
  (∀ (v0 v1 : ZV) (q : Nat) (L st : List ZV) (h : PH), zev kX1_run 3 L (v1 :: v0 :: zvr (some q) :: st) h = if (ph_K h q).1 % 1000 = 16 ∧ zcat st ≤ 8 then zk kX1_run 3 6 L st (mX1_turns [zvr (some q), v0, v1] h) else none) ∧
  (∀ (a : Int) (L : List ZV) (h : PH), zev kX1_run 6 L [zvi a] h = zrv (zvi a) h) :=
  ⟨fun a L st h => e_ld0R (n := 1) rfl,
  fun x0 a L st h => e_ld1I (n := 2) rfl,
  fun L st h => e_push (v := zvi 1) (n := 3) rfl,
  fun v0 v1 q L st h => e_callV3 (F := mX1_turns) (kd := 16) (n := 6) rfl,
  fun a L h => e_retI rfl⟩
theorem allX1_run : zall yX1_run cX1_run 2 (some .int) 11 kX1_run.1 :=
  ⟨k_aload_n dX1_run_0,
  k_iload_n dX1_run_1,
  k_iconst dX1_run_2,
  k_callV (y2 := yX1_turns) (C := RX1) (T0 := TX1) (ci := 0) dX1_run_3 sndX1_turns rfl q1606 q1608 qs59 q128 q1609 (by decide +kernel) ⟨by decide, by decide⟩ (by decide) (by decide),
  k_iret dX1_run_6, trivial⟩
theorem sndX1_run : MSound 11 yX1_run (ws_ yX1_run cX1_run 2 (some .int)) mX1_run := msound_M (by decide) allX1_run (fun _ _ => rfl)
/-! LinkTimes.late(LLinkTimes$Departure;I)V -/
noncomputable def kX1_late : ZM := ([(0, zi_ld 1 1 1), (1, zi_getI 22 8 4), (4, zi_if (fun a => zc_eq a 0) 16 7), (7, zi_ld 1 0 8), (8, zi_getR 16 6 11), (11, zi_ld 1 1 12), (12, zi_callV mJ2_remove 31 2 15), (15, zi_pop 16), (16, zi_ld 1 1 17), (17, zi_ld 0 2 18), (18, zi_putI 22 7 21), (21, zi_ld 1 1 22), (22, zi_getI 22 8 25), (25, zi_if (fun a => zc_eq a 0) 37 28), (28, zi_ld 1 0 29), (29, zi_getR 16 6 32), (32, zi_ld 1 1 33), (33, zi_callV mJ2_add 31 2 36), (36, zi_pop 37), (37, zi_ret)], fun _ _ => none)
noncomputable def mX1_late : ZF := zrunM kX1_late 3
theorem enX1_late (x0 : Option Nat) (x1 : Option Nat) (x2 : Int) (h : PH) : mX1_late [zvr x0, zvr x1, zvi x2] h = zev kX1_late 0 [zvr x0, zvr x1, zvi x2] [] h := zrunM_eq rfl rfl
theorem rX1_late : (∀ (x0 : ZV) (a : Option Nat) (L st : List ZV) (h : PH), zev kX1_late 0 (x0 :: zvr a :: L) st h = zev kX1_late 1 (x0 :: zvr a :: L) (zvr a :: st) h) ∧
  (∀ (q : Nat) (L st : List ZV) (h : PH), zev kX1_late 1 L (zvr (some q) :: st) h = if (ph_K h q).1 % 1000 = 22 then zev kX1_late 4 L (zvi (ph_I h q 8) :: st) h else none) ∧
  (∀ (a : Int) (L st : List ZV) (h : PH), zev kX1_late 4 L (zvi a :: st) h = if a = 0 then zev kX1_late 16 L st h else zev kX1_late 7 L st h) ∧
  (∀ (a : Option Nat) (L st : List ZV) (h : PH), zev kX1_late 7 (zvr a :: L) st h = zev kX1_late 8 (zvr a :: L) (zvr a :: st) h) ∧
  (∀ (q : Nat) (L st : List ZV) (h : PH), zev kX1_late 8 L (zvr (some q) :: st) h = if (ph_K h q).1 % 1000 = 16 then zev kX1_late 11 L (zvr (ph_R h q 6) :: st) h else none) ∧
  (∀ (x0 : ZV) (a : Option Nat) (L st : List ZV) (h : PH), zev kX1_late 11 (x0 :: zvr a :: L) st h = zev kX1_late 12 (x0 :: zvr a :: L) (zvr a :: st) h) ∧
  (∀ (v0 : ZV) (q : Nat) (L st : List ZV) (h : PH), zev kX1_late 12 L (v0 :: zvr (some q) :: st) h = if (ph_K h q).1 % 1000 = 31 ∧ zcat st ≤ 8 then zk kX1_late 12 15 L st (mJ2_remove [zvr (some q), v0] h) else none) ∧
  (∀ (a : Int) (L st : List ZV) (h : PH), zev kX1_late 15 L (zvi a :: st) h = zev kX1_late 16 L st h) ∧
  (∀ (a : Option Nat) (L st : List ZV) (h : PH), zev kX1_late 15 L (zvr a :: st) h = zev kX1_late 16 L st h) ∧
  (∀ (x0 : ZV) (a : Option Nat) (L st : List ZV) (h : PH), zev kX1_late 16 (x0 :: zvr a :: L) st h = zev kX1_late 17 (x0 :: zvr a :: L) (zvr a :: st) h) ∧
  (∀ (x0 x1 : ZV) (a : Int) (L st : List ZV) (h : PH), zev kX1_late 17 (x0 :: x1 :: zvi a :: L) st h = zev kX1_late 18 (x0 :: x1 :: zvi a :: L) (zvi a :: st) h) ∧
  (∀ (a : Int) (q : Nat) (L st : List ZV) (h : PH), zev kX1_late 18 L (zvi a :: zvr (some q) :: st) h = if (ph_K h q).1 = 22 then zev kX1_late 21 L st (st_I h q 7 a) else none) ∧
  (∀ (x0 : ZV) (a : Option Nat) (L st : List ZV) (h : PH), zev kX1_late 21 (x0 :: zvr a :: L) st h = zev kX1_late 22 (x0 :: zvr a :: L) (zvr a :: st) h) ∧
  (∀ (q : Nat) (L st : List ZV) (h : PH), zev kX1_late 22 L (zvr (some q) :: st) h = if (ph_K h q).1 % 1000 = 22 then zev kX1_late 25 L (zvi (ph_I h q 8) :: st) h else none) ∧
  (∀ (a : Int) (L st : List ZV) (h : PH), zev kX1_late 25 L (zvi a :: st) h = if a = 0 then zev kX1_late 37 L st h else zev kX1_late 28 L st h) ∧
  (∀ (a : Option Nat) (L st : List ZV) (h : PH), zev kX1_late 28 (zvr a :: L) st h = zev kX1_late 29 (zvr a :: L) (zvr a :: st) h) ∧
  (∀ (q : Nat) (L st : List ZV) (h : PH), zev kX1_late 29 L (zvr (some q) :: st) h = if (ph_K h q).1 % 1000 = 16 then zev kX1_late 32 L (zvr (ph_R h q 6) :: st) h else none) ∧
  (∀ (x0 : ZV) (a : Option Nat) (L st : List ZV) (h : PH), zev kX1_late 32 (x0 :: zvr a :: L) st h = zev kX1_late 33 (x0 :: zvr a :: L) (zvr a :: st) h) ∧
  (∀ (v0 : ZV) (q : Nat) (L st : List ZV) (h : PH), zev kX1_late 33 L (v0 :: zvr (some q) :: st) h = if (ph_K h q).1 % 1000 = 31 ∧ zcat st ≤ 8 then zk kX1_late 33 36 L st (mJ2_add [zvr (some q), v0] h) else none) ∧
  (∀ (a : Int) (L st : List ZV) (h : PH), zev kX1_late 36 L (zvi a :: st) h = zev kX1_late 37 L st h) ∧
  (∀ (a : Option Nat) (L st : List ZV) (h : PH), zev kX1_late 36 L (zvr a :: st) h = zev kX1_late 37 L st h) ∧
  (∀ (L : List ZV) (h : PH), zev kX1_late 37 L [] h = zr0 h) :=
  ⟨fun x0 a L st h => e_ld1R (n := 1) rfl,
  fun q L st h => e_getI (kd := 22) (k := 8) (n := 4) rfl,
  fun a L st h => e_ifeq (t := 16) (n := 7) rfl,
  fun a L st h => e_ld0R (n := 8) rfl,
  fun q L st h => e_getR (kd := 16) (k := 6) (n := 11) rfl,
  fun x0 a L st h => e_ld1R (n := 12) rfl,
  fun v0 q L st h => e_callV2 (F := mJ2_remove) (kd := 31) (n := 15) rfl,
  fun a L st h => e_popI (n := 16) rfl,
  fun a L st h => e_popR (n := 16) rfl,
  fun x0 a L st h => e_ld1R (n := 17) rfl,
  fun x0 x1 a L st h => e_ld2I (n := 18) rfl,
  fun a q L st h => e_putI (kd := 22) (k := 7) (n := 21) rfl,
  fun x0 a L st h => e_ld1R (n := 22) rfl,
  fun q L st h => e_getI (kd := 22) (k := 8) (n := 25) rfl,
  fun a L st h => e_ifeq (t := 37) (n := 28) rfl,
  fun a L st h => e_ld0R (n := 29) rfl,
  fun q L st h => e_getR (kd := 16) (k := 6) (n := 32) rfl,
  fun x0 a L st h => e_ld1R (n := 33) rfl,
  fun v0 q L st h => e_callV2 (F := mJ2_add) (kd := 31) (n := 36) rfl,
  fun a L st h => e_popI (n := 37) rfl,
  fun a L st h => e_popR (n := 37) rfl,
  fun L h => e_ret rfl⟩
theorem allX1_late : zall yX1_late cX1_late 3 none 9 kX1_late.1 :=
  ⟨k_aload_n dX1_late_0,
  k_getIN (C := RX11) (T := TX11) (N := 9) (ci := 6) (k := 8) (ref := "LinkTimes$Departure") dX1_late_1 rfl in_X11 (by decide) q871 (Or.inl rfl) (fun _ _ _ => rfl),
  k_ifeq (t := 16) dX1_late_4 (by decide),
  k_aload_n dX1_late_7,
  k_getR (C := RX1) (T := TX1) (N := 19) (ci := 0) (k := 6) (ref := "LinkTimes") dX1_late_8 rfl in_X1 (by decide) q309 (Or.inl rfl) (fun _ _ _ => rfl),
  k_aload_n dX1_late_11,
  k_callV (y2 := yJ2_remove) (C := RJ2) (T0 := TJ2) (ci := 15) dX1_late_12 sndJ2_remove rfl q1675 q1676 q1677 q131 q1678 (by decide +kernel) ⟨by decide, by decide⟩ (by decide) (by decide),
  k_pop dX1_late_15,
  k_aload_n dX1_late_16,
  k_iload_n dX1_late_17,
  k_putI (C := RX11) (T := TX11) (N := 9) (ci := 6) (k := 7) (ref := "LinkTimes$Departure") dX1_late_18 rfl in_X11 tyX11 tyX11_ok nmX11 (by decide) (Or.inr ⟨"LinkTimes", q868⟩) (Or.inl rfl) (Or.inl rfl) (tyX11_ok 7 (by decide)) (fun _ _ _ => rfl),
  k_aload_n dX1_late_21,
  k_getIN (C := RX11) (T := TX11) (N := 9) (ci := 6) (k := 8) (ref := "LinkTimes$Departure") dX1_late_22 rfl in_X11 (by decide) q871 (Or.inl rfl) (fun _ _ _ => rfl),
  k_ifeq (t := 37) dX1_late_25 (by decide),
  k_aload_n dX1_late_28,
  k_getR (C := RX1) (T := TX1) (N := 19) (ci := 0) (k := 6) (ref := "LinkTimes") dX1_late_29 rfl in_X1 (by decide) q309 (Or.inl rfl) (fun _ _ _ => rfl),
  k_aload_n dX1_late_32,
  k_callV (y2 := yJ2_add) (C := RJ2) (T0 := TJ2) (ci := 15) dX1_late_33 sndJ2_add rfl q939 q940 q941 q131 q942 (by decide +kernel) ⟨by decide, by decide⟩ (by decide) (by decide),
  k_pop dX1_late_36,
  k_ret dX1_late_37, trivial⟩
theorem sndX1_late : MSound 9 yX1_late (ws_ yX1_late cX1_late 3 none) mX1_late := msound_M (by decide) allX1_late (fun _ _ => rfl)
/-! LinkTimes.delay(II)I -/
noncomputable def kX1_delay : ZM := ([(0, zi_ld 1 0 1), (1, zi_ld 0 1 2), (2, zi_callV mX1_isDeparture 16 2 5), (5, zi_if (fun a => zc_ne a 0) 14 8), (8, zi_ld 1 0 9), (9, zi_push (zvi 1) 10), (10, zi_callV mX1_refused 16 2 13), (13, zi_retv 0), (14, zi_ld 0 2 15), (15, zi_push (zvi 0) 16), (16, zi_push (zvi 99) 18), (18, zi_callS mX1_isIn 3 21), (21, zi_if (fun a => zc_ne a 0) 30 24), (24, zi_ld 1 0 25), (25, zi_push (zvi 2) 26), (26, zi_callV mX1_refused 16 2 29), (29, zi_retv 0), (30, zi_ld 1 0 31), (31, zi_getR 16 5 34), (34, zi_getR 20 4 37), (37, zi_ld 0 1 38), (38, zi_callV mJ7_get 29 2 41), (41, zi_cast zokDep 44), (44, zi_st 1 3 45), (45, zi_ld 1 3 46), (46, zi_getI 22 7 49), (49, zi_st 0 4 51), (51, zi_ld 1 0 52), (52, zi_push (zvi 1) 53), (53, zi_ld 0 1 54), (54, zi_ld 0 4 56), (56, zi_callV mX1_remembers 16 4 59), (59, zi_ld 1 0 60), (60, zi_ld 1 3 61), (61, zi_ld 0 2 62), (62, zi_callV mX1_late 16 3 65), (65, zi_ld 1 0 66), (66, zi_ld 0 4 68), (68, zi_callV mX1_fine 16 2 71), (71, zi_retv 0)], fun _ _ => none)
noncomputable def mX1_delay : ZF := zrunM kX1_delay 5
theorem enX1_delay (x0 : Option Nat) (x1 : Int) (x2 : Int) (h : PH) : mX1_delay [zvr x0, zvi x1, zvi x2] h = zev kX1_delay 0 [zvr x0, zvi x1, zvi x2, zvu, zvu] [] h := zrunM_eq rfl rfl
theorem rX1_delay : (∀ (a : Option Nat) (L st : List ZV) (h : PH), zev kX1_delay 0 (zvr a :: L) st h = zev kX1_delay 1 (zvr a :: L) (zvr a :: st) h) ∧
  (∀ (x0 : ZV) (a : Int) (L st : List ZV) (h : PH), zev kX1_delay 1 (x0 :: zvi a :: L) st h = zev kX1_delay 2 (x0 :: zvi a :: L) (zvi a :: st) h) ∧
  (∀ (v0 : ZV) (q : Nat) (L st : List ZV) (h : PH), zev kX1_delay 2 L (v0 :: zvr (some q) :: st) h = if (ph_K h q).1 % 1000 = 16 ∧ zcat st ≤ 8 then zk kX1_delay 2 5 L st (mX1_isDeparture [zvr (some q), v0] h) else none) ∧
  (∀ (a : Int) (L st : List ZV) (h : PH), zev kX1_delay 5 L (zvi a :: st) h = if a ≠ 0 then zev kX1_delay 14 L st h else zev kX1_delay 8 L st h) ∧
  (∀ (a : Option Nat) (L st : List ZV) (h : PH), zev kX1_delay 8 (zvr a :: L) st h = zev kX1_delay 9 (zvr a :: L) (zvr a :: st) h) ∧
  (∀ (L st : List ZV) (h : PH), zev kX1_delay 9 L st h = zev kX1_delay 10 L (zvi 1 :: st) h) ∧
  (∀ (v0 : ZV) (q : Nat) (L st : List ZV) (h : PH), zev kX1_delay 10 L (v0 :: zvr (some q) :: st) h = if (ph_K h q).1 % 1000 = 16 ∧ zcat st ≤ 8 then zk kX1_delay 10 13 L st (mX1_refused [zvr (some q), v0] h) else none) ∧
  (∀ (a : Int) (L : List ZV) (h : PH), zev kX1_delay 13 L [zvi a] h = zrv (zvi a) h) ∧
  (∀ (x0 x1 : ZV) (a : Int) (L st : List ZV) (h : PH), zev kX1_delay 14 (x0 :: x1 :: zvi a :: L) st h = zev kX1_delay 15 (x0 :: x1 :: zvi a :: L) (zvi a :: st) h) ∧
  (∀ (L st : List ZV) (h : PH), zev kX1_delay 15 L st h = zev kX1_delay 16 L (zvi 0 :: st) h) ∧
  (∀ (L st : List ZV) (h : PH), zev kX1_delay 16 L st h = zev kX1_delay 18 L (zvi 99 :: st) h) ∧
  (∀ (v0 v1 v2 : ZV) (L st : List ZV) (h : PH), zev kX1_delay 18 L (v2 :: v1 :: v0 :: st) h = if zcat st ≤ 8 then zk kX1_delay 18 21 L st (mX1_isIn [v0, v1, v2] h) else none) ∧
  (∀ (a : Int) (L st : List ZV) (h : PH), zev kX1_delay 21 L (zvi a :: st) h = if a ≠ 0 then zev kX1_delay 30 L st h else zev kX1_delay 24 L st h) ∧
  (∀ (a : Option Nat) (L st : List ZV) (h : PH), zev kX1_delay 24 (zvr a :: L) st h = zev kX1_delay 25 (zvr a :: L) (zvr a :: st) h) ∧
  (∀ (L st : List ZV) (h : PH), zev kX1_delay 25 L st h = zev kX1_delay 26 L (zvi 2 :: st) h) ∧
  (∀ (v0 : ZV) (q : Nat) (L st : List ZV) (h : PH), zev kX1_delay 26 L (v0 :: zvr (some q) :: st) h = if (ph_K h q).1 % 1000 = 16 ∧ zcat st ≤ 8 then zk kX1_delay 26 29 L st (mX1_refused [zvr (some q), v0] h) else none) ∧
  (∀ (a : Int) (L : List ZV) (h : PH), zev kX1_delay 29 L [zvi a] h = zrv (zvi a) h) ∧
  (∀ (a : Option Nat) (L st : List ZV) (h : PH), zev kX1_delay 30 (zvr a :: L) st h = zev kX1_delay 31 (zvr a :: L) (zvr a :: st) h) ∧
  (∀ (q : Nat) (L st : List ZV) (h : PH), zev kX1_delay 31 L (zvr (some q) :: st) h = if (ph_K h q).1 % 1000 = 16 then zev kX1_delay 34 L (zvr (ph_R h q 5) :: st) h else none) ∧
  (∀ (q : Nat) (L st : List ZV) (h : PH), zev kX1_delay 34 L (zvr (some q) :: st) h = if (ph_K h q).1 % 1000 = 20 then zev kX1_delay 37 L (zvr (ph_R h q 4) :: st) h else none) ∧
  (∀ (x0 : ZV) (a : Int) (L st : List ZV) (h : PH), zev kX1_delay 37 (x0 :: zvi a :: L) st h = zev kX1_delay 38 (x0 :: zvi a :: L) (zvi a :: st) h) ∧
  (∀ (v0 : ZV) (q : Nat) (L st : List ZV) (h : PH), zev kX1_delay 38 L (v0 :: zvr (some q) :: st) h = if (ph_K h q).1 % 1000 = 29 ∧ zcat st ≤ 8 then zk kX1_delay 38 41 L st (mJ7_get [zvr (some q), v0] h) else none) ∧
  (∀ (L st : List ZV) (h : PH), zev kX1_delay 41 L (zvr none :: st) h = zev kX1_delay 44 L (zvr none :: st) h) ∧
  (∀ (q : Nat) (L st : List ZV) (h : PH), zev kX1_delay 41 L (zvr (some q) :: st) h = if zokDep (ph_K h q).1 = true then zev kX1_delay 44 L (zvr (some q) :: st) h else none) ∧
  (∀ (x0 x1 x2 x3 : ZV) (a : Option Nat) (L st : List ZV) (h : PH) (hx : zisL x2 = false) , zev kX1_delay 44 (x0 :: x1 :: x2 :: x3 :: L) (zvr a :: st) h = zev kX1_delay 45 (x0 :: x1 :: x2 :: zvr a :: L) st h) ∧
  (∀ (x0 x1 x2 : ZV) (a : Option Nat) (L st : List ZV) (h : PH), zev kX1_delay 45 (x0 :: x1 :: x2 :: zvr a :: L) st h = zev kX1_delay 46 (x0 :: x1 :: x2 :: zvr a :: L) (zvr a :: st) h) ∧
  (∀ (q : Nat) (L st : List ZV) (h : PH), zev kX1_delay 46 L (zvr (some q) :: st) h = if (ph_K h q).1 % 1000 = 22 then zev kX1_delay 49 L (zvi (ph_I h q 7) :: st) h else none) ∧
  (∀ (x0 x1 x2 x3 x4 : ZV) (a : Int) (L st : List ZV) (h : PH) (hx : zisL x3 = false) , zev kX1_delay 49 (x0 :: x1 :: x2 :: x3 :: x4 :: L) (zvi a :: st) h = zev kX1_delay 51 (x0 :: x1 :: x2 :: x3 :: zvi a :: L) st h) ∧
  (∀ (a : Option Nat) (L st : List ZV) (h : PH), zev kX1_delay 51 (zvr a :: L) st h = zev kX1_delay 52 (zvr a :: L) (zvr a :: st) h) ∧
  (∀ (L st : List ZV) (h : PH), zev kX1_delay 52 L st h = zev kX1_delay 53 L (zvi 1 :: st) h) ∧
  (∀ (x0 : ZV) (a : Int) (L st : List ZV) (h : PH), zev kX1_delay 53 (x0 :: zvi a :: L) st h = zev kX1_delay 54 (x0 :: zvi a :: L) (zvi a :: st) h) ∧
  (∀ (x0 x1 x2 x3 : ZV) (a : Int) (L st : List ZV) (h : PH), zev kX1_delay 54 (x0 :: x1 :: x2 :: x3 :: zvi a :: L) st h = zev kX1_delay 56 (x0 :: x1 :: x2 :: x3 :: zvi a :: L) (zvi a :: st) h) ∧
  (∀ (v0 v1 v2 : ZV) (q : Nat) (L st : List ZV) (h : PH), zev kX1_delay 56 L (v2 :: v1 :: v0 :: zvr (some q) :: st) h = if (ph_K h q).1 % 1000 = 16 ∧ zcat st ≤ 8 then zk kX1_delay 56 59 L st (mX1_remembers [zvr (some q), v0, v1, v2] h) else none) ∧
  (∀ (a : Option Nat) (L st : List ZV) (h : PH), zev kX1_delay 59 (zvr a :: L) st h = zev kX1_delay 60 (zvr a :: L) (zvr a :: st) h) ∧
  (∀ (x0 x1 x2 : ZV) (a : Option Nat) (L st : List ZV) (h : PH), zev kX1_delay 60 (x0 :: x1 :: x2 :: zvr a :: L) st h = zev kX1_delay 61 (x0 :: x1 :: x2 :: zvr a :: L) (zvr a :: st) h) ∧
  (∀ (x0 x1 : ZV) (a : Int) (L st : List ZV) (h : PH), zev kX1_delay 61 (x0 :: x1 :: zvi a :: L) st h = zev kX1_delay 62 (x0 :: x1 :: zvi a :: L) (zvi a :: st) h) ∧
  (∀ (v0 v1 : ZV) (q : Nat) (L st : List ZV) (h : PH), zev kX1_delay 62 L (v1 :: v0 :: zvr (some q) :: st) h = if (ph_K h q).1 % 1000 = 16 ∧ zcat st ≤ 8 then zk kX1_delay 62 65 L st (mX1_late [zvr (some q), v0, v1] h) else none) ∧
  (∀ (a : Option Nat) (L st : List ZV) (h : PH), zev kX1_delay 65 (zvr a :: L) st h = zev kX1_delay 66 (zvr a :: L) (zvr a :: st) h) ∧
  (∀ (x0 x1 x2 x3 : ZV) (a : Int) (L st : List ZV) (h : PH), zev kX1_delay 66 (x0 :: x1 :: x2 :: x3 :: zvi a :: L) st h = zev kX1_delay 68 (x0 :: x1 :: x2 :: x3 :: zvi a :: L) (zvi a :: st) h) ∧
  (∀ (v0 : ZV) (q : Nat) (L st : List ZV) (h : PH), zev kX1_delay 68 L (v0 :: zvr (some q) :: st) h = if (ph_K h q).1 % 1000 = 16 ∧ zcat st ≤ 8 then zk kX1_delay 68 71 L st (mX1_fine [zvr (some q), v0] h) else none) ∧
  (∀ (a : Int) (L : List ZV) (h : PH), zev kX1_delay 71 L [zvi a] h = zrv (zvi a) h) :=
  ⟨fun a L st h => e_ld0R (n := 1) rfl,
  fun x0 a L st h => e_ld1I (n := 2) rfl,
  fun v0 q L st h => e_callV2 (F := mX1_isDeparture) (kd := 16) (n := 5) rfl,
  fun a L st h => e_ifne (t := 14) (n := 8) rfl,
  fun a L st h => e_ld0R (n := 9) rfl,
  fun L st h => e_push (v := zvi 1) (n := 10) rfl,
  fun v0 q L st h => e_callV2 (F := mX1_refused) (kd := 16) (n := 13) rfl,
  fun a L h => e_retI rfl,
  fun x0 x1 a L st h => e_ld2I (n := 15) rfl,
  fun L st h => e_push (v := zvi 0) (n := 16) rfl,
  fun L st h => e_push (v := zvi 99) (n := 18) rfl,
  fun v0 v1 v2 L st h => e_callS3 (F := mX1_isIn) (n := 21) rfl,
  fun a L st h => e_ifne (t := 30) (n := 24) rfl,
  fun a L st h => e_ld0R (n := 25) rfl,
  fun L st h => e_push (v := zvi 2) (n := 26) rfl,
  fun v0 q L st h => e_callV2 (F := mX1_refused) (kd := 16) (n := 29) rfl,
  fun a L h => e_retI rfl,
  fun a L st h => e_ld0R (n := 31) rfl,
  fun q L st h => e_getR (kd := 16) (k := 5) (n := 34) rfl,
  fun q L st h => e_getR (kd := 20) (k := 4) (n := 37) rfl,
  fun x0 a L st h => e_ld1I (n := 38) rfl,
  fun v0 q L st h => e_callV2 (F := mJ7_get) (kd := 29) (n := 41) rfl,
  fun L st h => e_cast0 (ok := zokDep) (n := 44) rfl,
  fun q L st h => e_cast1 (ok := zokDep) (n := 44) rfl,
  fun x0 x1 x2 x3 a L st h hx => e_st3R (n := 45) rfl hx,
  fun x0 x1 x2 a L st h => e_ld3R (n := 46) rfl,
  fun q L st h => e_getI (kd := 22) (k := 7) (n := 49) rfl,
  fun x0 x1 x2 x3 x4 a L st h hx => e_st4I (n := 51) rfl hx,
  fun a L st h => e_ld0R (n := 52) rfl,
  fun L st h => e_push (v := zvi 1) (n := 53) rfl,
  fun x0 a L st h => e_ld1I (n := 54) rfl,
  fun x0 x1 x2 x3 a L st h => e_ld4I (n := 56) rfl,
  fun v0 v1 v2 q L st h => e_callV4 (F := mX1_remembers) (kd := 16) (n := 59) rfl,
  fun a L st h => e_ld0R (n := 60) rfl,
  fun x0 x1 x2 a L st h => e_ld3R (n := 61) rfl,
  fun x0 x1 a L st h => e_ld2I (n := 62) rfl,
  fun v0 v1 q L st h => e_callV3 (F := mX1_late) (kd := 16) (n := 65) rfl,
  fun a L st h => e_ld0R (n := 66) rfl,
  fun x0 x1 x2 x3 a L st h => e_ld4I (n := 68) rfl,
  fun v0 q L st h => e_callV2 (F := mX1_fine) (kd := 16) (n := 71) rfl,
  fun a L h => e_retI rfl⟩
theorem allX1_delay : zall yX1_delay cX1_delay 5 (some .int) 10 kX1_delay.1 :=
  ⟨k_aload_n dX1_delay_0,
  k_iload_n dX1_delay_1,
  k_callV (y2 := yX1_isDeparture) (C := RX1) (T0 := TX1) (ci := 0) dX1_delay_2 sndX1_isDeparture rfl q1255 q1257 qs35 q128 q1258 (by decide +kernel) ⟨by decide, by decide⟩ (by decide) (by decide),
  k_ifne (t := 14) dX1_delay_5 (by decide),
  k_aload_n dX1_delay_8,
  k_iconst dX1_delay_9,
  k_callV (y2 := yX1_refused) (C := RX1) (T0 := TX1) (ci := 0) dX1_delay_10 sndX1_refused rfl q378 q380 qs1 q128 q381 (by decide +kernel) ⟨by decide, by decide⟩ (by decide) (by decide),
  k_iret dX1_delay_13,
  k_iload_n dX1_delay_14,
  k_iconst dX1_delay_15,
  k_bipush dX1_delay_16,
  k_callS (y2 := yX1_isIn) dX1_delay_18 sndX1_isIn q375 q376 q128 q377 (by decide +kernel) ⟨by decide, by decide⟩ (by decide) (by decide),
  k_ifne (t := 30) dX1_delay_21 (by decide),
  k_aload_n dX1_delay_24,
  k_iconst dX1_delay_25,
  k_callV (y2 := yX1_refused) (C := RX1) (T0 := TX1) (ci := 0) dX1_delay_26 sndX1_refused rfl q378 q380 qs1 q128 q381 (by decide +kernel) ⟨by decide, by decide⟩ (by decide) (by decide),
  k_iret dX1_delay_29,
  k_aload_n dX1_delay_30,
  k_getR (C := RX1) (T := TX1) (N := 19) (ci := 0) (k := 5) (ref := "LinkTimes") dX1_delay_31 rfl in_X1 (by decide) q308 (Or.inl rfl) (fun _ _ _ => rfl),
  k_getRN (C := RX6) (T := TX6) (N := 5) (ci := 4) (k := 4) (ref := "LinkTimes$Desk") dX1_delay_34 rfl in_X6 (by decide) q430 (Or.inl rfl) (fun _ _ _ => rfl),
  k_iload_n dX1_delay_37,
  k_callV (y2 := yJ7_get) (C := RJ7) (T0 := TJ7) (ci := 13) dX1_delay_38 sndJ7_get rfl q937 q695 q696 q141 q697 (by decide +kernel) ⟨by decide, by decide⟩ (by decide) (by decide),
  k_cast (nm := "LinkTimes$Departure") dX1_delay_41 q938 zokDep_can,
  k_astore_n dX1_delay_44,
  k_aload_n dX1_delay_45,
  k_getIN (C := RX11) (T := TX11) (N := 9) (ci := 6) (k := 7) (ref := "LinkTimes$Departure") dX1_delay_46 rfl in_X11 (by decide) q868 (Or.inl rfl) (fun _ _ _ => rfl),
  k_istore dX1_delay_49,
  k_aload_n dX1_delay_51,
  k_iconst dX1_delay_52,
  k_iload_n dX1_delay_53,
  k_iload dX1_delay_54,
  k_callV (y2 := yX1_remembers) (C := RX1) (T0 := TX1) (ci := 0) dX1_delay_56 sndX1_remembers rfl q1610 q1612 qs60 q128 q1613 (by decide +kernel) ⟨by decide, by decide⟩ (by decide) (by decide),
  k_aload_n dX1_delay_59,
  k_aload_n dX1_delay_60,
  k_iload_n dX1_delay_61,
  k_callV (y2 := yX1_late) (C := RX1) (T0 := TX1) (ci := 0) dX1_delay_62 sndX1_late rfl q1713 q1715 qs66 q128 q1716 (by decide +kernel) ⟨by decide, by decide⟩ (by decide) (by decide),
  k_aload_n dX1_delay_65,
  k_iload dX1_delay_66,
  k_callV (y2 := yX1_fine) (C := RX1) (T0 := TX1) (ci := 0) dX1_delay_68 sndX1_fine rfl q1211 q1213 qs32 q128 q1214 (by decide +kernel) ⟨by decide, by decide⟩ (by decide) (by decide),
  k_iret dX1_delay_71, trivial⟩
theorem sndX1_delay : MSound 10 yX1_delay (ws_ yX1_delay cX1_delay 5 (some .int)) mX1_delay := msound_M (by decide) allX1_delay (fun _ _ => rfl)
/-! LinkTimes.change(II)I -/
noncomputable def kX1_change : ZM := ([(0, zi_ld 1 0 1), (1, zi_ld 0 1 2), (2, zi_callV mX1_isSpot 16 2 5), (5, zi_if (fun a => zc_ne a 0) 14 8), (8, zi_ld 1 0 9), (9, zi_push (zvi 1) 10), (10, zi_callV mX1_refused 16 2 13), (13, zi_retv 0), (14, zi_ld 0 2 15), (15, zi_push (zvi 0) 16), (16, zi_push (zvi 99) 18), (18, zi_callS mX1_isIn 3 21), (21, zi_if (fun a => zc_ne a 0) 30 24), (24, zi_ld 1 0 25), (25, zi_push (zvi 2) 26), (26, zi_callV mX1_refused 16 2 29), (29, zi_retv 0), (30, zi_ld 1 0 31), (31, zi_getR 16 5 34), (34, zi_getR 20 2 37), (37, zi_ld 0 1 38), (38, zi_callV mJ7_get 29 2 41), (41, zi_cast zokSpot 44), (44, zi_getI 21 1 47), (47, zi_st 0 3 48), (48, zi_ld 1 0 49), (49, zi_push (zvi 2) 50), (50, zi_ld 0 1 51), (51, zi_ld 0 3 52), (52, zi_callV mX1_remembers 16 4 55), (55, zi_ld 1 0 56), (56, zi_getR 16 5 59), (59, zi_getR 20 2 62), (62, zi_ld 0 1 63), (63, zi_callV mJ7_get 29 2 66), (66, zi_cast zokSpot 69), (69, zi_ld 0 2 70), (70, zi_putI 21 1 73), (73, zi_ld 1 0 74), (74, zi_ld 0 3 75), (75, zi_callV mX1_fine 16 2 78), (78, zi_retv 0)], fun _ _ => none)
noncomputable def mX1_change : ZF := zrunM kX1_change 4
theorem enX1_change (x0 : Option Nat) (x1 : Int) (x2 : Int) (h : PH) : mX1_change [zvr x0, zvi x1, zvi x2] h = zev kX1_change 0 [zvr x0, zvi x1, zvi x2, zvu] [] h := zrunM_eq rfl rfl
theorem rX1_change : (∀ (a : Option Nat) (L st : List ZV) (h : PH), zev kX1_change 0 (zvr a :: L) st h = zev kX1_change 1 (zvr a :: L) (zvr a :: st) h) ∧
  (∀ (x0 : ZV) (a : Int) (L st : List ZV) (h : PH), zev kX1_change 1 (x0 :: zvi a :: L) st h = zev kX1_change 2 (x0 :: zvi a :: L) (zvi a :: st) h) ∧
  (∀ (v0 : ZV) (q : Nat) (L st : List ZV) (h : PH), zev kX1_change 2 L (v0 :: zvr (some q) :: st) h = if (ph_K h q).1 % 1000 = 16 ∧ zcat st ≤ 8 then zk kX1_change 2 5 L st (mX1_isSpot [zvr (some q), v0] h) else none) ∧
  (∀ (a : Int) (L st : List ZV) (h : PH), zev kX1_change 5 L (zvi a :: st) h = if a ≠ 0 then zev kX1_change 14 L st h else zev kX1_change 8 L st h) ∧
  (∀ (a : Option Nat) (L st : List ZV) (h : PH), zev kX1_change 8 (zvr a :: L) st h = zev kX1_change 9 (zvr a :: L) (zvr a :: st) h) ∧
  (∀ (L st : List ZV) (h : PH), zev kX1_change 9 L st h = zev kX1_change 10 L (zvi 1 :: st) h) ∧
  (∀ (v0 : ZV) (q : Nat) (L st : List ZV) (h : PH), zev kX1_change 10 L (v0 :: zvr (some q) :: st) h = if (ph_K h q).1 % 1000 = 16 ∧ zcat st ≤ 8 then zk kX1_change 10 13 L st (mX1_refused [zvr (some q), v0] h) else none) ∧
  (∀ (a : Int) (L : List ZV) (h : PH), zev kX1_change 13 L [zvi a] h = zrv (zvi a) h) ∧
  (∀ (x0 x1 : ZV) (a : Int) (L st : List ZV) (h : PH), zev kX1_change 14 (x0 :: x1 :: zvi a :: L) st h = zev kX1_change 15 (x0 :: x1 :: zvi a :: L) (zvi a :: st) h) ∧
  (∀ (L st : List ZV) (h : PH), zev kX1_change 15 L st h = zev kX1_change 16 L (zvi 0 :: st) h) ∧
  (∀ (L st : List ZV) (h : PH), zev kX1_change 16 L st h = zev kX1_change 18 L (zvi 99 :: st) h) ∧
  (∀ (v0 v1 v2 : ZV) (L st : List ZV) (h : PH), zev kX1_change 18 L (v2 :: v1 :: v0 :: st) h = if zcat st ≤ 8 then zk kX1_change 18 21 L st (mX1_isIn [v0, v1, v2] h) else none) ∧
  (∀ (a : Int) (L st : List ZV) (h : PH), zev kX1_change 21 L (zvi a :: st) h = if a ≠ 0 then zev kX1_change 30 L st h else zev kX1_change 24 L st h) ∧
  (∀ (a : Option Nat) (L st : List ZV) (h : PH), zev kX1_change 24 (zvr a :: L) st h = zev kX1_change 25 (zvr a :: L) (zvr a :: st) h) ∧
  (∀ (L st : List ZV) (h : PH), zev kX1_change 25 L st h = zev kX1_change 26 L (zvi 2 :: st) h) ∧
  (∀ (v0 : ZV) (q : Nat) (L st : List ZV) (h : PH), zev kX1_change 26 L (v0 :: zvr (some q) :: st) h = if (ph_K h q).1 % 1000 = 16 ∧ zcat st ≤ 8 then zk kX1_change 26 29 L st (mX1_refused [zvr (some q), v0] h) else none) ∧
  (∀ (a : Int) (L : List ZV) (h : PH), zev kX1_change 29 L [zvi a] h = zrv (zvi a) h) ∧
  (∀ (a : Option Nat) (L st : List ZV) (h : PH), zev kX1_change 30 (zvr a :: L) st h = zev kX1_change 31 (zvr a :: L) (zvr a :: st) h) ∧
  (∀ (q : Nat) (L st : List ZV) (h : PH), zev kX1_change 31 L (zvr (some q) :: st) h = if (ph_K h q).1 % 1000 = 16 then zev kX1_change 34 L (zvr (ph_R h q 5) :: st) h else none) ∧
  (∀ (q : Nat) (L st : List ZV) (h : PH), zev kX1_change 34 L (zvr (some q) :: st) h = if (ph_K h q).1 % 1000 = 20 then zev kX1_change 37 L (zvr (ph_R h q 2) :: st) h else none) ∧
  (∀ (x0 : ZV) (a : Int) (L st : List ZV) (h : PH), zev kX1_change 37 (x0 :: zvi a :: L) st h = zev kX1_change 38 (x0 :: zvi a :: L) (zvi a :: st) h) ∧
  (∀ (v0 : ZV) (q : Nat) (L st : List ZV) (h : PH), zev kX1_change 38 L (v0 :: zvr (some q) :: st) h = if (ph_K h q).1 % 1000 = 29 ∧ zcat st ≤ 8 then zk kX1_change 38 41 L st (mJ7_get [zvr (some q), v0] h) else none) ∧
  (∀ (L st : List ZV) (h : PH), zev kX1_change 41 L (zvr none :: st) h = zev kX1_change 44 L (zvr none :: st) h) ∧
  (∀ (q : Nat) (L st : List ZV) (h : PH), zev kX1_change 41 L (zvr (some q) :: st) h = if zokSpot (ph_K h q).1 = true then zev kX1_change 44 L (zvr (some q) :: st) h else none) ∧
  (∀ (q : Nat) (L st : List ZV) (h : PH), zev kX1_change 44 L (zvr (some q) :: st) h = if (ph_K h q).1 % 1000 = 21 then zev kX1_change 47 L (zvi (ph_I h q 1) :: st) h else none) ∧
  (∀ (x0 x1 x2 x3 : ZV) (a : Int) (L st : List ZV) (h : PH) (hx : zisL x2 = false) , zev kX1_change 47 (x0 :: x1 :: x2 :: x3 :: L) (zvi a :: st) h = zev kX1_change 48 (x0 :: x1 :: x2 :: zvi a :: L) st h) ∧
  (∀ (a : Option Nat) (L st : List ZV) (h : PH), zev kX1_change 48 (zvr a :: L) st h = zev kX1_change 49 (zvr a :: L) (zvr a :: st) h) ∧
  (∀ (L st : List ZV) (h : PH), zev kX1_change 49 L st h = zev kX1_change 50 L (zvi 2 :: st) h) ∧
  (∀ (x0 : ZV) (a : Int) (L st : List ZV) (h : PH), zev kX1_change 50 (x0 :: zvi a :: L) st h = zev kX1_change 51 (x0 :: zvi a :: L) (zvi a :: st) h) ∧
  (∀ (x0 x1 x2 : ZV) (a : Int) (L st : List ZV) (h : PH), zev kX1_change 51 (x0 :: x1 :: x2 :: zvi a :: L) st h = zev kX1_change 52 (x0 :: x1 :: x2 :: zvi a :: L) (zvi a :: st) h) ∧
  (∀ (v0 v1 v2 : ZV) (q : Nat) (L st : List ZV) (h : PH), zev kX1_change 52 L (v2 :: v1 :: v0 :: zvr (some q) :: st) h = if (ph_K h q).1 % 1000 = 16 ∧ zcat st ≤ 8 then zk kX1_change 52 55 L st (mX1_remembers [zvr (some q), v0, v1, v2] h) else none) ∧
  (∀ (a : Option Nat) (L st : List ZV) (h : PH), zev kX1_change 55 (zvr a :: L) st h = zev kX1_change 56 (zvr a :: L) (zvr a :: st) h) ∧
  (∀ (q : Nat) (L st : List ZV) (h : PH), zev kX1_change 56 L (zvr (some q) :: st) h = if (ph_K h q).1 % 1000 = 16 then zev kX1_change 59 L (zvr (ph_R h q 5) :: st) h else none) ∧
  (∀ (q : Nat) (L st : List ZV) (h : PH), zev kX1_change 59 L (zvr (some q) :: st) h = if (ph_K h q).1 % 1000 = 20 then zev kX1_change 62 L (zvr (ph_R h q 2) :: st) h else none) ∧
  (∀ (x0 : ZV) (a : Int) (L st : List ZV) (h : PH), zev kX1_change 62 (x0 :: zvi a :: L) st h = zev kX1_change 63 (x0 :: zvi a :: L) (zvi a :: st) h) ∧
  (∀ (v0 : ZV) (q : Nat) (L st : List ZV) (h : PH), zev kX1_change 63 L (v0 :: zvr (some q) :: st) h = if (ph_K h q).1 % 1000 = 29 ∧ zcat st ≤ 8 then zk kX1_change 63 66 L st (mJ7_get [zvr (some q), v0] h) else none) ∧
  (∀ (L st : List ZV) (h : PH), zev kX1_change 66 L (zvr none :: st) h = zev kX1_change 69 L (zvr none :: st) h) ∧
  (∀ (q : Nat) (L st : List ZV) (h : PH), zev kX1_change 66 L (zvr (some q) :: st) h = if zokSpot (ph_K h q).1 = true then zev kX1_change 69 L (zvr (some q) :: st) h else none) ∧
  (∀ (x0 x1 : ZV) (a : Int) (L st : List ZV) (h : PH), zev kX1_change 69 (x0 :: x1 :: zvi a :: L) st h = zev kX1_change 70 (x0 :: x1 :: zvi a :: L) (zvi a :: st) h) ∧
  (∀ (a : Int) (q : Nat) (L st : List ZV) (h : PH), zev kX1_change 70 L (zvi a :: zvr (some q) :: st) h = if (ph_K h q).1 = 21 then zev kX1_change 73 L st (st_I h q 1 a) else none) ∧
  (∀ (a : Option Nat) (L st : List ZV) (h : PH), zev kX1_change 73 (zvr a :: L) st h = zev kX1_change 74 (zvr a :: L) (zvr a :: st) h) ∧
  (∀ (x0 x1 x2 : ZV) (a : Int) (L st : List ZV) (h : PH), zev kX1_change 74 (x0 :: x1 :: x2 :: zvi a :: L) st h = zev kX1_change 75 (x0 :: x1 :: x2 :: zvi a :: L) (zvi a :: st) h) ∧
  (∀ (v0 : ZV) (q : Nat) (L st : List ZV) (h : PH), zev kX1_change 75 L (v0 :: zvr (some q) :: st) h = if (ph_K h q).1 % 1000 = 16 ∧ zcat st ≤ 8 then zk kX1_change 75 78 L st (mX1_fine [zvr (some q), v0] h) else none) ∧
  (∀ (a : Int) (L : List ZV) (h : PH), zev kX1_change 78 L [zvi a] h = zrv (zvi a) h) :=
  ⟨fun a L st h => e_ld0R (n := 1) rfl,
  fun x0 a L st h => e_ld1I (n := 2) rfl,
  fun v0 q L st h => e_callV2 (F := mX1_isSpot) (kd := 16) (n := 5) rfl,
  fun a L st h => e_ifne (t := 14) (n := 8) rfl,
  fun a L st h => e_ld0R (n := 9) rfl,
  fun L st h => e_push (v := zvi 1) (n := 10) rfl,
  fun v0 q L st h => e_callV2 (F := mX1_refused) (kd := 16) (n := 13) rfl,
  fun a L h => e_retI rfl,
  fun x0 x1 a L st h => e_ld2I (n := 15) rfl,
  fun L st h => e_push (v := zvi 0) (n := 16) rfl,
  fun L st h => e_push (v := zvi 99) (n := 18) rfl,
  fun v0 v1 v2 L st h => e_callS3 (F := mX1_isIn) (n := 21) rfl,
  fun a L st h => e_ifne (t := 30) (n := 24) rfl,
  fun a L st h => e_ld0R (n := 25) rfl,
  fun L st h => e_push (v := zvi 2) (n := 26) rfl,
  fun v0 q L st h => e_callV2 (F := mX1_refused) (kd := 16) (n := 29) rfl,
  fun a L h => e_retI rfl,
  fun a L st h => e_ld0R (n := 31) rfl,
  fun q L st h => e_getR (kd := 16) (k := 5) (n := 34) rfl,
  fun q L st h => e_getR (kd := 20) (k := 2) (n := 37) rfl,
  fun x0 a L st h => e_ld1I (n := 38) rfl,
  fun v0 q L st h => e_callV2 (F := mJ7_get) (kd := 29) (n := 41) rfl,
  fun L st h => e_cast0 (ok := zokSpot) (n := 44) rfl,
  fun q L st h => e_cast1 (ok := zokSpot) (n := 44) rfl,
  fun q L st h => e_getI (kd := 21) (k := 1) (n := 47) rfl,
  fun x0 x1 x2 x3 a L st h hx => e_st3I (n := 48) rfl hx,
  fun a L st h => e_ld0R (n := 49) rfl,
  fun L st h => e_push (v := zvi 2) (n := 50) rfl,
  fun x0 a L st h => e_ld1I (n := 51) rfl,
  fun x0 x1 x2 a L st h => e_ld3I (n := 52) rfl,
  fun v0 v1 v2 q L st h => e_callV4 (F := mX1_remembers) (kd := 16) (n := 55) rfl,
  fun a L st h => e_ld0R (n := 56) rfl,
  fun q L st h => e_getR (kd := 16) (k := 5) (n := 59) rfl,
  fun q L st h => e_getR (kd := 20) (k := 2) (n := 62) rfl,
  fun x0 a L st h => e_ld1I (n := 63) rfl,
  fun v0 q L st h => e_callV2 (F := mJ7_get) (kd := 29) (n := 66) rfl,
  fun L st h => e_cast0 (ok := zokSpot) (n := 69) rfl,
  fun q L st h => e_cast1 (ok := zokSpot) (n := 69) rfl,
  fun x0 x1 a L st h => e_ld2I (n := 70) rfl,
  fun a q L st h => e_putI (kd := 21) (k := 1) (n := 73) rfl,
  fun a L st h => e_ld0R (n := 74) rfl,
  fun x0 x1 x2 a L st h => e_ld3I (n := 75) rfl,
  fun v0 q L st h => e_callV2 (F := mX1_fine) (kd := 16) (n := 78) rfl,
  fun a L h => e_retI rfl⟩
theorem allX1_change : zall yX1_change cX1_change 4 (some .int) 8 kX1_change.1 :=
  ⟨k_aload_n dX1_change_0,
  k_iload_n dX1_change_1,
  k_callV (y2 := yX1_isSpot) (C := RX1) (T0 := TX1) (ci := 0) dX1_change_2 sndX1_isSpot rfl q1242 q1244 qs33 q128 q1245 (by decide +kernel) ⟨by decide, by decide⟩ (by decide) (by decide),
  k_ifne (t := 14) dX1_change_5 (by decide),
  k_aload_n dX1_change_8,
  k_iconst dX1_change_9,
  k_callV (y2 := yX1_refused) (C := RX1) (T0 := TX1) (ci := 0) dX1_change_10 sndX1_refused rfl q378 q380 qs1 q128 q381 (by decide +kernel) ⟨by decide, by decide⟩ (by decide) (by decide),
  k_iret dX1_change_13,
  k_iload_n dX1_change_14,
  k_iconst dX1_change_15,
  k_bipush dX1_change_16,
  k_callS (y2 := yX1_isIn) dX1_change_18 sndX1_isIn q375 q376 q128 q377 (by decide +kernel) ⟨by decide, by decide⟩ (by decide) (by decide),
  k_ifne (t := 30) dX1_change_21 (by decide),
  k_aload_n dX1_change_24,
  k_iconst dX1_change_25,
  k_callV (y2 := yX1_refused) (C := RX1) (T0 := TX1) (ci := 0) dX1_change_26 sndX1_refused rfl q378 q380 qs1 q128 q381 (by decide +kernel) ⟨by decide, by decide⟩ (by decide) (by decide),
  k_iret dX1_change_29,
  k_aload_n dX1_change_30,
  k_getR (C := RX1) (T := TX1) (N := 19) (ci := 0) (k := 5) (ref := "LinkTimes") dX1_change_31 rfl in_X1 (by decide) q308 (Or.inl rfl) (fun _ _ _ => rfl),
  k_getRN (C := RX6) (T := TX6) (N := 5) (ci := 4) (k := 2) (ref := "LinkTimes$Desk") dX1_change_34 rfl in_X6 (by decide) q423 (Or.inl rfl) (fun _ _ _ => rfl),
  k_iload_n dX1_change_37,
  k_callV (y2 := yJ7_get) (C := RJ7) (T0 := TJ7) (ci := 13) dX1_change_38 sndJ7_get rfl q937 q695 q696 q141 q697 (by decide +kernel) ⟨by decide, by decide⟩ (by decide) (by decide),
  k_cast (nm := "LinkTimes$Spot") dX1_change_41 q1246 zokSpot_can,
  k_getIN (C := RX10) (T := TX10) (N := 3) (ci := 5) (k := 1) (ref := "LinkTimes$Spot") dX1_change_44 rfl in_X10 (by decide) q728 (Or.inl rfl) (fun _ _ _ => rfl),
  k_istore_n dX1_change_47,
  k_aload_n dX1_change_48,
  k_iconst dX1_change_49,
  k_iload_n dX1_change_50,
  k_iload_n dX1_change_51,
  k_callV (y2 := yX1_remembers) (C := RX1) (T0 := TX1) (ci := 0) dX1_change_52 sndX1_remembers rfl q1610 q1612 qs60 q128 q1613 (by decide +kernel) ⟨by decide, by decide⟩ (by decide) (by decide),
  k_aload_n dX1_change_55,
  k_getR (C := RX1) (T := TX1) (N := 19) (ci := 0) (k := 5) (ref := "LinkTimes") dX1_change_56 rfl in_X1 (by decide) q308 (Or.inl rfl) (fun _ _ _ => rfl),
  k_getRN (C := RX6) (T := TX6) (N := 5) (ci := 4) (k := 2) (ref := "LinkTimes$Desk") dX1_change_59 rfl in_X6 (by decide) q423 (Or.inl rfl) (fun _ _ _ => rfl),
  k_iload_n dX1_change_62,
  k_callV (y2 := yJ7_get) (C := RJ7) (T0 := TJ7) (ci := 13) dX1_change_63 sndJ7_get rfl q937 q695 q696 q141 q697 (by decide +kernel) ⟨by decide, by decide⟩ (by decide) (by decide),
  k_cast (nm := "LinkTimes$Spot") dX1_change_66 q1246 zokSpot_can,
  k_iload_n dX1_change_69,
  k_putI (C := RX10) (T := TX10) (N := 3) (ci := 5) (k := 1) (ref := "LinkTimes$Spot") dX1_change_70 rfl in_X10 tyX10 tyX10_ok nmX10 (by decide) (Or.inr ⟨"LinkTimes", q728⟩) (Or.inl rfl) (Or.inl rfl) (tyX10_ok 1 (by decide)) (fun _ _ _ => rfl),
  k_aload_n dX1_change_73,
  k_iload_n dX1_change_74,
  k_callV (y2 := yX1_fine) (C := RX1) (T0 := TX1) (ci := 0) dX1_change_75 sndX1_fine rfl q1211 q1213 qs32 q128 q1214 (by decide +kernel) ⟨by decide, by decide⟩ (by decide) (by decide),
  k_iret dX1_change_78, trivial⟩
theorem sndX1_change : MSound 8 yX1_change (ws_ yX1_change cX1_change 4 (some .int)) mX1_change := msound_M (by decide) allX1_change (fun _ _ => rfl)
/-! LinkTimes.hold(II)I -/
noncomputable def kX1_hold : ZM := ([(0, zi_ld 1 0 1), (1, zi_ld 0 1 2), (2, zi_callV mX1_isSpot 16 2 5), (5, zi_if (fun a => zc_ne a 0) 14 8), (8, zi_ld 1 0 9), (9, zi_push (zvi 1) 10), (10, zi_callV mX1_refused 16 2 13), (13, zi_retv 0), (14, zi_ld 0 2 15), (15, zi_push (zvi (-1)) 16), (16, zi_push (zvi 999) 19), (19, zi_callS mX1_isIn 3 22), (22, zi_if (fun a => zc_ne a 0) 31 25), (25, zi_ld 1 0 26), (26, zi_push (zvi 2) 27), (27, zi_callV mX1_refused 16 2 30), (30, zi_retv 0), (31, zi_ld 1 0 32), (32, zi_getR 16 5 35), (35, zi_getR 20 2 38), (38, zi_ld 0 1 39), (39, zi_callV mJ7_get 29 2 42), (42, zi_cast zokSpot 45), (45, zi_getI 21 2 48), (48, zi_st 0 3 49), (49, zi_ld 1 0 50), (50, zi_push (zvi 3) 51), (51, zi_ld 0 1 52), (52, zi_ld 0 3 53), (53, zi_callV mX1_remembers 16 4 56), (56, zi_ld 1 0 57), (57, zi_getR 16 5 60), (60, zi_getR 20 2 63), (63, zi_ld 0 1 64), (64, zi_callV mJ7_get 29 2 67), (67, zi_cast zokSpot 70), (70, zi_ld 0 2 71), (71, zi_if (fun a => zc_ge a 0) 79 74), (74, zi_push (zvi (-2)) 76), (76, zi_goto 80), (79, zi_ld 0 2 80), (80, zi_putI 21 2 83), (83, zi_ld 1 0 84), (84, zi_ld 0 3 85), (85, zi_callV mX1_fine 16 2 88), (88, zi_retv 0)], fun _ _ => none)
noncomputable def mX1_hold : ZF := zrunM kX1_hold 4
theorem enX1_hold (x0 : Option Nat) (x1 : Int) (x2 : Int) (h : PH) : mX1_hold [zvr x0, zvi x1, zvi x2] h = zev kX1_hold 0 [zvr x0, zvi x1, zvi x2, zvu] [] h := zrunM_eq rfl rfl
theorem rX1_hold : (∀ (a : Option Nat) (L st : List ZV) (h : PH), zev kX1_hold 0 (zvr a :: L) st h = zev kX1_hold 1 (zvr a :: L) (zvr a :: st) h) ∧
  (∀ (x0 : ZV) (a : Int) (L st : List ZV) (h : PH), zev kX1_hold 1 (x0 :: zvi a :: L) st h = zev kX1_hold 2 (x0 :: zvi a :: L) (zvi a :: st) h) ∧
  (∀ (v0 : ZV) (q : Nat) (L st : List ZV) (h : PH), zev kX1_hold 2 L (v0 :: zvr (some q) :: st) h = if (ph_K h q).1 % 1000 = 16 ∧ zcat st ≤ 8 then zk kX1_hold 2 5 L st (mX1_isSpot [zvr (some q), v0] h) else none) ∧
  (∀ (a : Int) (L st : List ZV) (h : PH), zev kX1_hold 5 L (zvi a :: st) h = if a ≠ 0 then zev kX1_hold 14 L st h else zev kX1_hold 8 L st h) ∧
  (∀ (a : Option Nat) (L st : List ZV) (h : PH), zev kX1_hold 8 (zvr a :: L) st h = zev kX1_hold 9 (zvr a :: L) (zvr a :: st) h) ∧
  (∀ (L st : List ZV) (h : PH), zev kX1_hold 9 L st h = zev kX1_hold 10 L (zvi 1 :: st) h) ∧
  (∀ (v0 : ZV) (q : Nat) (L st : List ZV) (h : PH), zev kX1_hold 10 L (v0 :: zvr (some q) :: st) h = if (ph_K h q).1 % 1000 = 16 ∧ zcat st ≤ 8 then zk kX1_hold 10 13 L st (mX1_refused [zvr (some q), v0] h) else none) ∧
  (∀ (a : Int) (L : List ZV) (h : PH), zev kX1_hold 13 L [zvi a] h = zrv (zvi a) h) ∧
  (∀ (x0 x1 : ZV) (a : Int) (L st : List ZV) (h : PH), zev kX1_hold 14 (x0 :: x1 :: zvi a :: L) st h = zev kX1_hold 15 (x0 :: x1 :: zvi a :: L) (zvi a :: st) h) ∧
  (∀ (L st : List ZV) (h : PH), zev kX1_hold 15 L st h = zev kX1_hold 16 L (zvi (-1) :: st) h) ∧
  (∀ (L st : List ZV) (h : PH), zev kX1_hold 16 L st h = zev kX1_hold 19 L (zvi 999 :: st) h) ∧
  (∀ (v0 v1 v2 : ZV) (L st : List ZV) (h : PH), zev kX1_hold 19 L (v2 :: v1 :: v0 :: st) h = if zcat st ≤ 8 then zk kX1_hold 19 22 L st (mX1_isIn [v0, v1, v2] h) else none) ∧
  (∀ (a : Int) (L st : List ZV) (h : PH), zev kX1_hold 22 L (zvi a :: st) h = if a ≠ 0 then zev kX1_hold 31 L st h else zev kX1_hold 25 L st h) ∧
  (∀ (a : Option Nat) (L st : List ZV) (h : PH), zev kX1_hold 25 (zvr a :: L) st h = zev kX1_hold 26 (zvr a :: L) (zvr a :: st) h) ∧
  (∀ (L st : List ZV) (h : PH), zev kX1_hold 26 L st h = zev kX1_hold 27 L (zvi 2 :: st) h) ∧
  (∀ (v0 : ZV) (q : Nat) (L st : List ZV) (h : PH), zev kX1_hold 27 L (v0 :: zvr (some q) :: st) h = if (ph_K h q).1 % 1000 = 16 ∧ zcat st ≤ 8 then zk kX1_hold 27 30 L st (mX1_refused [zvr (some q), v0] h) else none) ∧
  (∀ (a : Int) (L : List ZV) (h : PH), zev kX1_hold 30 L [zvi a] h = zrv (zvi a) h) ∧
  (∀ (a : Option Nat) (L st : List ZV) (h : PH), zev kX1_hold 31 (zvr a :: L) st h = zev kX1_hold 32 (zvr a :: L) (zvr a :: st) h) ∧
  (∀ (q : Nat) (L st : List ZV) (h : PH), zev kX1_hold 32 L (zvr (some q) :: st) h = if (ph_K h q).1 % 1000 = 16 then zev kX1_hold 35 L (zvr (ph_R h q 5) :: st) h else none) ∧
  (∀ (q : Nat) (L st : List ZV) (h : PH), zev kX1_hold 35 L (zvr (some q) :: st) h = if (ph_K h q).1 % 1000 = 20 then zev kX1_hold 38 L (zvr (ph_R h q 2) :: st) h else none) ∧
  (∀ (x0 : ZV) (a : Int) (L st : List ZV) (h : PH), zev kX1_hold 38 (x0 :: zvi a :: L) st h = zev kX1_hold 39 (x0 :: zvi a :: L) (zvi a :: st) h) ∧
  (∀ (v0 : ZV) (q : Nat) (L st : List ZV) (h : PH), zev kX1_hold 39 L (v0 :: zvr (some q) :: st) h = if (ph_K h q).1 % 1000 = 29 ∧ zcat st ≤ 8 then zk kX1_hold 39 42 L st (mJ7_get [zvr (some q), v0] h) else none) ∧
  (∀ (L st : List ZV) (h : PH), zev kX1_hold 42 L (zvr none :: st) h = zev kX1_hold 45 L (zvr none :: st) h) ∧
  (∀ (q : Nat) (L st : List ZV) (h : PH), zev kX1_hold 42 L (zvr (some q) :: st) h = if zokSpot (ph_K h q).1 = true then zev kX1_hold 45 L (zvr (some q) :: st) h else none) ∧
  (∀ (q : Nat) (L st : List ZV) (h : PH), zev kX1_hold 45 L (zvr (some q) :: st) h = if (ph_K h q).1 % 1000 = 21 then zev kX1_hold 48 L (zvi (ph_I h q 2) :: st) h else none) ∧
  (∀ (x0 x1 x2 x3 : ZV) (a : Int) (L st : List ZV) (h : PH) (hx : zisL x2 = false) , zev kX1_hold 48 (x0 :: x1 :: x2 :: x3 :: L) (zvi a :: st) h = zev kX1_hold 49 (x0 :: x1 :: x2 :: zvi a :: L) st h) ∧
  (∀ (a : Option Nat) (L st : List ZV) (h : PH), zev kX1_hold 49 (zvr a :: L) st h = zev kX1_hold 50 (zvr a :: L) (zvr a :: st) h) ∧
  (∀ (L st : List ZV) (h : PH), zev kX1_hold 50 L st h = zev kX1_hold 51 L (zvi 3 :: st) h) ∧
  (∀ (x0 : ZV) (a : Int) (L st : List ZV) (h : PH), zev kX1_hold 51 (x0 :: zvi a :: L) st h = zev kX1_hold 52 (x0 :: zvi a :: L) (zvi a :: st) h) ∧
  (∀ (x0 x1 x2 : ZV) (a : Int) (L st : List ZV) (h : PH), zev kX1_hold 52 (x0 :: x1 :: x2 :: zvi a :: L) st h = zev kX1_hold 53 (x0 :: x1 :: x2 :: zvi a :: L) (zvi a :: st) h) ∧
  (∀ (v0 v1 v2 : ZV) (q : Nat) (L st : List ZV) (h : PH), zev kX1_hold 53 L (v2 :: v1 :: v0 :: zvr (some q) :: st) h = if (ph_K h q).1 % 1000 = 16 ∧ zcat st ≤ 8 then zk kX1_hold 53 56 L st (mX1_remembers [zvr (some q), v0, v1, v2] h) else none) ∧
  (∀ (a : Option Nat) (L st : List ZV) (h : PH), zev kX1_hold 56 (zvr a :: L) st h = zev kX1_hold 57 (zvr a :: L) (zvr a :: st) h) ∧
  (∀ (q : Nat) (L st : List ZV) (h : PH), zev kX1_hold 57 L (zvr (some q) :: st) h = if (ph_K h q).1 % 1000 = 16 then zev kX1_hold 60 L (zvr (ph_R h q 5) :: st) h else none) ∧
  (∀ (q : Nat) (L st : List ZV) (h : PH), zev kX1_hold 60 L (zvr (some q) :: st) h = if (ph_K h q).1 % 1000 = 20 then zev kX1_hold 63 L (zvr (ph_R h q 2) :: st) h else none) ∧
  (∀ (x0 : ZV) (a : Int) (L st : List ZV) (h : PH), zev kX1_hold 63 (x0 :: zvi a :: L) st h = zev kX1_hold 64 (x0 :: zvi a :: L) (zvi a :: st) h) ∧
  (∀ (v0 : ZV) (q : Nat) (L st : List ZV) (h : PH), zev kX1_hold 64 L (v0 :: zvr (some q) :: st) h = if (ph_K h q).1 % 1000 = 29 ∧ zcat st ≤ 8 then zk kX1_hold 64 67 L st (mJ7_get [zvr (some q), v0] h) else none) ∧
  (∀ (L st : List ZV) (h : PH), zev kX1_hold 67 L (zvr none :: st) h = zev kX1_hold 70 L (zvr none :: st) h) ∧
  (∀ (q : Nat) (L st : List ZV) (h : PH), zev kX1_hold 67 L (zvr (some q) :: st) h = if zokSpot (ph_K h q).1 = true then zev kX1_hold 70 L (zvr (some q) :: st) h else none) ∧
  (∀ (x0 x1 : ZV) (a : Int) (L st : List ZV) (h : PH), zev kX1_hold 70 (x0 :: x1 :: zvi a :: L) st h = zev kX1_hold 71 (x0 :: x1 :: zvi a :: L) (zvi a :: st) h) ∧
  (∀ (a : Int) (L st : List ZV) (h : PH), zev kX1_hold 71 L (zvi a :: st) h = if a ≥ 0 then zev kX1_hold 79 L st h else zev kX1_hold 74 L st h) ∧
  (∀ (L st : List ZV) (h : PH), zev kX1_hold 74 L st h = zev kX1_hold 76 L (zvi (-2) :: st) h) ∧
  (∀ (L st : List ZV) (h : PH), zev kX1_hold 76 L st h = zev kX1_hold 80 L st h) ∧
  (∀ (x0 x1 : ZV) (a : Int) (L st : List ZV) (h : PH), zev kX1_hold 79 (x0 :: x1 :: zvi a :: L) st h = zev kX1_hold 80 (x0 :: x1 :: zvi a :: L) (zvi a :: st) h) ∧
  (∀ (a : Int) (q : Nat) (L st : List ZV) (h : PH), zev kX1_hold 80 L (zvi a :: zvr (some q) :: st) h = if (ph_K h q).1 = 21 then zev kX1_hold 83 L st (st_I h q 2 a) else none) ∧
  (∀ (a : Option Nat) (L st : List ZV) (h : PH), zev kX1_hold 83 (zvr a :: L) st h = zev kX1_hold 84 (zvr a :: L) (zvr a :: st) h) ∧
  (∀ (x0 x1 x2 : ZV) (a : Int) (L st : List ZV) (h : PH), zev kX1_hold 84 (x0 :: x1 :: x2 :: zvi a :: L) st h = zev kX1_hold 85 (x0 :: x1 :: x2 :: zvi a :: L) (zvi a :: st) h) ∧
  (∀ (v0 : ZV) (q : Nat) (L st : List ZV) (h : PH), zev kX1_hold 85 L (v0 :: zvr (some q) :: st) h = if (ph_K h q).1 % 1000 = 16 ∧ zcat st ≤ 8 then zk kX1_hold 85 88 L st (mX1_fine [zvr (some q), v0] h) else none) ∧
  (∀ (a : Int) (L : List ZV) (h : PH), zev kX1_hold 88 L [zvi a] h = zrv (zvi a) h) :=
  ⟨fun a L st h => e_ld0R (n := 1) rfl,
  fun x0 a L st h => e_ld1I (n := 2) rfl,
  fun v0 q L st h => e_callV2 (F := mX1_isSpot) (kd := 16) (n := 5) rfl,
  fun a L st h => e_ifne (t := 14) (n := 8) rfl,
  fun a L st h => e_ld0R (n := 9) rfl,
  fun L st h => e_push (v := zvi 1) (n := 10) rfl,
  fun v0 q L st h => e_callV2 (F := mX1_refused) (kd := 16) (n := 13) rfl,
  fun a L h => e_retI rfl,
  fun x0 x1 a L st h => e_ld2I (n := 15) rfl,
  fun L st h => e_push (v := zvi (-1)) (n := 16) rfl,
  fun L st h => e_push (v := zvi 999) (n := 19) rfl,
  fun v0 v1 v2 L st h => e_callS3 (F := mX1_isIn) (n := 22) rfl,
  fun a L st h => e_ifne (t := 31) (n := 25) rfl,
  fun a L st h => e_ld0R (n := 26) rfl,
  fun L st h => e_push (v := zvi 2) (n := 27) rfl,
  fun v0 q L st h => e_callV2 (F := mX1_refused) (kd := 16) (n := 30) rfl,
  fun a L h => e_retI rfl,
  fun a L st h => e_ld0R (n := 32) rfl,
  fun q L st h => e_getR (kd := 16) (k := 5) (n := 35) rfl,
  fun q L st h => e_getR (kd := 20) (k := 2) (n := 38) rfl,
  fun x0 a L st h => e_ld1I (n := 39) rfl,
  fun v0 q L st h => e_callV2 (F := mJ7_get) (kd := 29) (n := 42) rfl,
  fun L st h => e_cast0 (ok := zokSpot) (n := 45) rfl,
  fun q L st h => e_cast1 (ok := zokSpot) (n := 45) rfl,
  fun q L st h => e_getI (kd := 21) (k := 2) (n := 48) rfl,
  fun x0 x1 x2 x3 a L st h hx => e_st3I (n := 49) rfl hx,
  fun a L st h => e_ld0R (n := 50) rfl,
  fun L st h => e_push (v := zvi 3) (n := 51) rfl,
  fun x0 a L st h => e_ld1I (n := 52) rfl,
  fun x0 x1 x2 a L st h => e_ld3I (n := 53) rfl,
  fun v0 v1 v2 q L st h => e_callV4 (F := mX1_remembers) (kd := 16) (n := 56) rfl,
  fun a L st h => e_ld0R (n := 57) rfl,
  fun q L st h => e_getR (kd := 16) (k := 5) (n := 60) rfl,
  fun q L st h => e_getR (kd := 20) (k := 2) (n := 63) rfl,
  fun x0 a L st h => e_ld1I (n := 64) rfl,
  fun v0 q L st h => e_callV2 (F := mJ7_get) (kd := 29) (n := 67) rfl,
  fun L st h => e_cast0 (ok := zokSpot) (n := 70) rfl,
  fun q L st h => e_cast1 (ok := zokSpot) (n := 70) rfl,
  fun x0 x1 a L st h => e_ld2I (n := 71) rfl,
  fun a L st h => e_ifge (t := 79) (n := 74) rfl,
  fun L st h => e_push (v := zvi (-2)) (n := 76) rfl,
  fun L st h => e_goto (t := 80) rfl,
  fun x0 x1 a L st h => e_ld2I (n := 80) rfl,
  fun a q L st h => e_putI (kd := 21) (k := 2) (n := 83) rfl,
  fun a L st h => e_ld0R (n := 84) rfl,
  fun x0 x1 x2 a L st h => e_ld3I (n := 85) rfl,
  fun v0 q L st h => e_callV2 (F := mX1_fine) (kd := 16) (n := 88) rfl,
  fun a L h => e_retI rfl⟩
theorem allX1_hold : zall yX1_hold cX1_hold 4 (some .int) 8 kX1_hold.1 :=
  ⟨k_aload_n dX1_hold_0,
  k_iload_n dX1_hold_1,
  k_callV (y2 := yX1_isSpot) (C := RX1) (T0 := TX1) (ci := 0) dX1_hold_2 sndX1_isSpot rfl q1242 q1244 qs33 q128 q1245 (by decide +kernel) ⟨by decide, by decide⟩ (by decide) (by decide),
  k_ifne (t := 14) dX1_hold_5 (by decide),
  k_aload_n dX1_hold_8,
  k_iconst dX1_hold_9,
  k_callV (y2 := yX1_refused) (C := RX1) (T0 := TX1) (ci := 0) dX1_hold_10 sndX1_refused rfl q378 q380 qs1 q128 q381 (by decide +kernel) ⟨by decide, by decide⟩ (by decide) (by decide),
  k_iret dX1_hold_13,
  k_iload_n dX1_hold_14,
  k_iconst dX1_hold_15,
  k_sipush dX1_hold_16,
  k_callS (y2 := yX1_isIn) dX1_hold_19 sndX1_isIn q375 q376 q128 q377 (by decide +kernel) ⟨by decide, by decide⟩ (by decide) (by decide),
  k_ifne (t := 31) dX1_hold_22 (by decide),
  k_aload_n dX1_hold_25,
  k_iconst dX1_hold_26,
  k_callV (y2 := yX1_refused) (C := RX1) (T0 := TX1) (ci := 0) dX1_hold_27 sndX1_refused rfl q378 q380 qs1 q128 q381 (by decide +kernel) ⟨by decide, by decide⟩ (by decide) (by decide),
  k_iret dX1_hold_30,
  k_aload_n dX1_hold_31,
  k_getR (C := RX1) (T := TX1) (N := 19) (ci := 0) (k := 5) (ref := "LinkTimes") dX1_hold_32 rfl in_X1 (by decide) q308 (Or.inl rfl) (fun _ _ _ => rfl),
  k_getRN (C := RX6) (T := TX6) (N := 5) (ci := 4) (k := 2) (ref := "LinkTimes$Desk") dX1_hold_35 rfl in_X6 (by decide) q423 (Or.inl rfl) (fun _ _ _ => rfl),
  k_iload_n dX1_hold_38,
  k_callV (y2 := yJ7_get) (C := RJ7) (T0 := TJ7) (ci := 13) dX1_hold_39 sndJ7_get rfl q937 q695 q696 q141 q697 (by decide +kernel) ⟨by decide, by decide⟩ (by decide) (by decide),
  k_cast (nm := "LinkTimes$Spot") dX1_hold_42 q1246 zokSpot_can,
  k_getIN (C := RX10) (T := TX10) (N := 3) (ci := 5) (k := 2) (ref := "LinkTimes$Spot") dX1_hold_45 rfl in_X10 (by decide) q731 (Or.inl rfl) (fun _ _ _ => rfl),
  k_istore_n dX1_hold_48,
  k_aload_n dX1_hold_49,
  k_iconst dX1_hold_50,
  k_iload_n dX1_hold_51,
  k_iload_n dX1_hold_52,
  k_callV (y2 := yX1_remembers) (C := RX1) (T0 := TX1) (ci := 0) dX1_hold_53 sndX1_remembers rfl q1610 q1612 qs60 q128 q1613 (by decide +kernel) ⟨by decide, by decide⟩ (by decide) (by decide),
  k_aload_n dX1_hold_56,
  k_getR (C := RX1) (T := TX1) (N := 19) (ci := 0) (k := 5) (ref := "LinkTimes") dX1_hold_57 rfl in_X1 (by decide) q308 (Or.inl rfl) (fun _ _ _ => rfl),
  k_getRN (C := RX6) (T := TX6) (N := 5) (ci := 4) (k := 2) (ref := "LinkTimes$Desk") dX1_hold_60 rfl in_X6 (by decide) q423 (Or.inl rfl) (fun _ _ _ => rfl),
  k_iload_n dX1_hold_63,
  k_callV (y2 := yJ7_get) (C := RJ7) (T0 := TJ7) (ci := 13) dX1_hold_64 sndJ7_get rfl q937 q695 q696 q141 q697 (by decide +kernel) ⟨by decide, by decide⟩ (by decide) (by decide),
  k_cast (nm := "LinkTimes$Spot") dX1_hold_67 q1246 zokSpot_can,
  k_iload_n dX1_hold_70,
  k_ifge (t := 79) dX1_hold_71 (by decide),
  k_bipush dX1_hold_74,
  k_goto (t := 80) dX1_hold_76 (by decide),
  k_iload_n dX1_hold_79,
  k_putI (C := RX10) (T := TX10) (N := 3) (ci := 5) (k := 2) (ref := "LinkTimes$Spot") dX1_hold_80 rfl in_X10 tyX10 tyX10_ok nmX10 (by decide) (Or.inr ⟨"LinkTimes", q731⟩) (Or.inl rfl) (Or.inl rfl) (tyX10_ok 2 (by decide)) (fun _ _ _ => rfl),
  k_aload_n dX1_hold_83,
  k_iload_n dX1_hold_84,
  k_callV (y2 := yX1_fine) (C := RX1) (T0 := TX1) (ci := 0) dX1_hold_85 sndX1_fine rfl q1211 q1213 qs32 q128 q1214 (by decide +kernel) ⟨by decide, by decide⟩ (by decide) (by decide),
  k_iret dX1_hold_88, trivial⟩
theorem sndX1_hold : MSound 8 yX1_hold (ws_ yX1_hold cX1_hold 4 (some .int)) mX1_hold := msound_M (by decide) allX1_hold (fun _ _ => rfl)
/-! LinkTimes.extra(IIIII)I -/
noncomputable def kX1_extra : ZM := ([(0, zi_ld 1 0 1), (1, zi_getR 16 5 4), (4, zi_null 36 7), (7, zi_ld 0 1 8), (8, zi_push (zvi 0) 9), (9, zi_ld 1 0 10), (10, zi_getR 16 5 13), (13, zi_getR 20 3 16), (16, zi_callV mJ7_size 29 1 19), (19, zi_push (zvi 1) 20), (20, zi_bin (fun a b => w32 (a - b)) 21), (21, zi_callS mX1_isIn 3 24), (24, zi_if (fun a => zc_eq a 0) 36 27), (27, zi_ld 1 0 28), (28, zi_ld 0 2 29), (29, zi_ld 0 3 30), (30, zi_callV mX1_areTwo 16 3 33), (33, zi_if (fun a => zc_ne a 0) 42 36), (36, zi_ld 1 0 37), (37, zi_push (zvi 1) 38), (38, zi_callV mX1_refused 16 2 41), (41, zi_retv 0), (42, zi_ld 0 4 44), (44, zi_push (zvi 0) 45), (45, zi_ld 1 0 46), (46, zi_getR 16 5 49), (49, zi_getI 20 0 52), (52, zi_callS mX1_isIn 3 55), (55, zi_if (fun a => zc_eq a 0) 69 58), (58, zi_ld 0 5 60), (60, zi_push (zvi 1) 61), (61, zi_push (zvi 99) 63), (63, zi_callS mX1_isIn 3 66), (66, zi_if (fun a => zc_ne a 0) 75 69), (69, zi_ld 1 0 70), (70, zi_push (zvi 2) 71), (71, zi_callV mX1_refused 16 2 74), (74, zi_retv 0), (75, zi_ld 1 0 76), (76, zi_getR 16 5 79), (79, zi_getR 20 4 82), (82, zi_callV mJ7_size 29 1 85), (85, zi_st 0 6 87), (87, zi_ld 0 6 89), (89, zi_push (zvi 120) 91), (91, zi_cmp zc_ne 100 94), (94, zi_ld 1 0 95), (95, zi_push (zvi 3) 96), (96, zi_callV mX1_refused 16 2 99), (99, zi_retv 0), (100, zi_ld 1 0 101), (101, zi_push (zvi 4) 102), (102, zi_ld 0 6 104), (104, zi_push (zvi 0) 105), (105, zi_callV mX1_remembers 16 4 108), (108, zi_new 22 9 111), (111, zi_dup 112), (112, zi_ld 0 6 114), (114, zi_push (zvi (-2)) 116), (116, zi_ld 0 1 117), (117, zi_ld 0 2 118), (118, zi_ld 0 3 119), (119, zi_ld 0 4 121), (121, zi_ld 0 5 123), (123, zi_callV mX11_init 22 8 126), (126, zi_st 1 7 128), (128, zi_ld 1 0 129), (129, zi_getR 16 5 132), (132, zi_getR 20 4 135), (135, zi_ld 1 7 137), (137, zi_callV mJ7_add 29 2 140), (140, zi_pop 141), (141, zi_ld 1 0 142), (142, zi_getR 16 6 145), (145, zi_ld 1 7 147), (147, zi_callV mJ2_add 31 2 150), (150, zi_pop 151), (151, zi_ld 1 0 152), (152, zi_ld 0 6 154), (154, zi_callV mX1_fine 16 2 157), (157, zi_retv 0)], fun _ _ => none)
noncomputable def mX1_extra : ZF := zrunM kX1_extra 8
theorem enX1_extra (x0 : Option Nat) (x1 : Int) (x2 : Int) (x3 : Int) (x4 : Int) (x5 : Int) (h : PH) : mX1_extra [zvr x0, zvi x1, zvi x2, zvi x3, zvi x4, zvi x5] h = zev kX1_extra 0 [zvr x0, zvi x1, zvi x2, zvi x3, zvi x4, zvi x5, zvu, zvu] [] h := zrunM_eq rfl rfl
theorem rX1_extra : (∀ (a : Option Nat) (L st : List ZV) (h : PH), zev kX1_extra 0 (zvr a :: L) st h = zev kX1_extra 1 (zvr a :: L) (zvr a :: st) h) ∧
  (∀ (q : Nat) (L st : List ZV) (h : PH), zev kX1_extra 1 L (zvr (some q) :: st) h = if (ph_K h q).1 % 1000 = 16 then zev kX1_extra 4 L (zvr (ph_R h q 5) :: st) h else none) ∧
  (∀ (L st : List ZV) (h : PH), zev kX1_extra 4 L (zvr none :: st) h = zev kX1_extra 36 L st h) ∧
  (∀ (q : Nat) (L st : List ZV) (h : PH), zev kX1_extra 4 L (zvr (some q) :: st) h = if (ph_K h q).1 ≠ 0 then zev kX1_extra 7 L st h else none) ∧
  (∀ (x0 : ZV) (a : Int) (L st : List ZV) (h : PH), zev kX1_extra 7 (x0 :: zvi a :: L) st h = zev kX1_extra 8 (x0 :: zvi a :: L) (zvi a :: st) h) ∧
  (∀ (L st : List ZV) (h : PH), zev kX1_extra 8 L st h = zev kX1_extra 9 L (zvi 0 :: st) h) ∧
  (∀ (a : Option Nat) (L st : List ZV) (h : PH), zev kX1_extra 9 (zvr a :: L) st h = zev kX1_extra 10 (zvr a :: L) (zvr a :: st) h) ∧
  (∀ (q : Nat) (L st : List ZV) (h : PH), zev kX1_extra 10 L (zvr (some q) :: st) h = if (ph_K h q).1 % 1000 = 16 then zev kX1_extra 13 L (zvr (ph_R h q 5) :: st) h else none) ∧
  (∀ (q : Nat) (L st : List ZV) (h : PH), zev kX1_extra 13 L (zvr (some q) :: st) h = if (ph_K h q).1 % 1000 = 20 then zev kX1_extra 16 L (zvr (ph_R h q 3) :: st) h else none) ∧
  (∀ (q : Nat) (L st : List ZV) (h : PH), zev kX1_extra 16 L (zvr (some q) :: st) h = if (ph_K h q).1 % 1000 = 29 ∧ zcat st ≤ 8 then zk kX1_extra 16 19 L st (mJ7_size [zvr (some q)] h) else none) ∧
  (∀ (L st : List ZV) (h : PH), zev kX1_extra 19 L st h = zev kX1_extra 20 L (zvi 1 :: st) h) ∧
  (∀ (a b : Int) (L st : List ZV) (h : PH), zev kX1_extra 20 L (zvi b :: zvi a :: st) h = zev kX1_extra 21 L (zvi (w32 (a - b)) :: st) h) ∧
  (∀ (v0 v1 v2 : ZV) (L st : List ZV) (h : PH), zev kX1_extra 21 L (v2 :: v1 :: v0 :: st) h = if zcat st ≤ 8 then zk kX1_extra 21 24 L st (mX1_isIn [v0, v1, v2] h) else none) ∧
  (∀ (a : Int) (L st : List ZV) (h : PH), zev kX1_extra 24 L (zvi a :: st) h = if a = 0 then zev kX1_extra 36 L st h else zev kX1_extra 27 L st h) ∧
  (∀ (a : Option Nat) (L st : List ZV) (h : PH), zev kX1_extra 27 (zvr a :: L) st h = zev kX1_extra 28 (zvr a :: L) (zvr a :: st) h) ∧
  (∀ (x0 x1 : ZV) (a : Int) (L st : List ZV) (h : PH), zev kX1_extra 28 (x0 :: x1 :: zvi a :: L) st h = zev kX1_extra 29 (x0 :: x1 :: zvi a :: L) (zvi a :: st) h) ∧
  (∀ (x0 x1 x2 : ZV) (a : Int) (L st : List ZV) (h : PH), zev kX1_extra 29 (x0 :: x1 :: x2 :: zvi a :: L) st h = zev kX1_extra 30 (x0 :: x1 :: x2 :: zvi a :: L) (zvi a :: st) h) ∧
  (∀ (v0 v1 : ZV) (q : Nat) (L st : List ZV) (h : PH), zev kX1_extra 30 L (v1 :: v0 :: zvr (some q) :: st) h = if (ph_K h q).1 % 1000 = 16 ∧ zcat st ≤ 8 then zk kX1_extra 30 33 L st (mX1_areTwo [zvr (some q), v0, v1] h) else none) ∧
  (∀ (a : Int) (L st : List ZV) (h : PH), zev kX1_extra 33 L (zvi a :: st) h = if a ≠ 0 then zev kX1_extra 42 L st h else zev kX1_extra 36 L st h) ∧
  (∀ (a : Option Nat) (L st : List ZV) (h : PH), zev kX1_extra 36 (zvr a :: L) st h = zev kX1_extra 37 (zvr a :: L) (zvr a :: st) h) ∧
  (∀ (L st : List ZV) (h : PH), zev kX1_extra 37 L st h = zev kX1_extra 38 L (zvi 1 :: st) h) ∧
  (∀ (v0 : ZV) (q : Nat) (L st : List ZV) (h : PH), zev kX1_extra 38 L (v0 :: zvr (some q) :: st) h = if (ph_K h q).1 % 1000 = 16 ∧ zcat st ≤ 8 then zk kX1_extra 38 41 L st (mX1_refused [zvr (some q), v0] h) else none) ∧
  (∀ (a : Int) (L : List ZV) (h : PH), zev kX1_extra 41 L [zvi a] h = zrv (zvi a) h) ∧
  (∀ (x0 x1 x2 x3 : ZV) (a : Int) (L st : List ZV) (h : PH), zev kX1_extra 42 (x0 :: x1 :: x2 :: x3 :: zvi a :: L) st h = zev kX1_extra 44 (x0 :: x1 :: x2 :: x3 :: zvi a :: L) (zvi a :: st) h) ∧
  (∀ (L st : List ZV) (h : PH), zev kX1_extra 44 L st h = zev kX1_extra 45 L (zvi 0 :: st) h) ∧
  (∀ (a : Option Nat) (L st : List ZV) (h : PH), zev kX1_extra 45 (zvr a :: L) st h = zev kX1_extra 46 (zvr a :: L) (zvr a :: st) h) ∧
  (∀ (q : Nat) (L st : List ZV) (h : PH), zev kX1_extra 46 L (zvr (some q) :: st) h = if (ph_K h q).1 % 1000 = 16 then zev kX1_extra 49 L (zvr (ph_R h q 5) :: st) h else none) ∧
  (∀ (q : Nat) (L st : List ZV) (h : PH), zev kX1_extra 49 L (zvr (some q) :: st) h = if (ph_K h q).1 % 1000 = 20 then zev kX1_extra 52 L (zvi (ph_I h q 0) :: st) h else none) ∧
  (∀ (v0 v1 v2 : ZV) (L st : List ZV) (h : PH), zev kX1_extra 52 L (v2 :: v1 :: v0 :: st) h = if zcat st ≤ 8 then zk kX1_extra 52 55 L st (mX1_isIn [v0, v1, v2] h) else none) ∧
  (∀ (a : Int) (L st : List ZV) (h : PH), zev kX1_extra 55 L (zvi a :: st) h = if a = 0 then zev kX1_extra 69 L st h else zev kX1_extra 58 L st h) ∧
  (∀ (x0 x1 x2 x3 x4 : ZV) (a : Int) (L st : List ZV) (h : PH), zev kX1_extra 58 (x0 :: x1 :: x2 :: x3 :: x4 :: zvi a :: L) st h = zev kX1_extra 60 (x0 :: x1 :: x2 :: x3 :: x4 :: zvi a :: L) (zvi a :: st) h) ∧
  (∀ (L st : List ZV) (h : PH), zev kX1_extra 60 L st h = zev kX1_extra 61 L (zvi 1 :: st) h) ∧
  (∀ (L st : List ZV) (h : PH), zev kX1_extra 61 L st h = zev kX1_extra 63 L (zvi 99 :: st) h) ∧
  (∀ (v0 v1 v2 : ZV) (L st : List ZV) (h : PH), zev kX1_extra 63 L (v2 :: v1 :: v0 :: st) h = if zcat st ≤ 8 then zk kX1_extra 63 66 L st (mX1_isIn [v0, v1, v2] h) else none) ∧
  (∀ (a : Int) (L st : List ZV) (h : PH), zev kX1_extra 66 L (zvi a :: st) h = if a ≠ 0 then zev kX1_extra 75 L st h else zev kX1_extra 69 L st h) ∧
  (∀ (a : Option Nat) (L st : List ZV) (h : PH), zev kX1_extra 69 (zvr a :: L) st h = zev kX1_extra 70 (zvr a :: L) (zvr a :: st) h) ∧
  (∀ (L st : List ZV) (h : PH), zev kX1_extra 70 L st h = zev kX1_extra 71 L (zvi 2 :: st) h) ∧
  (∀ (v0 : ZV) (q : Nat) (L st : List ZV) (h : PH), zev kX1_extra 71 L (v0 :: zvr (some q) :: st) h = if (ph_K h q).1 % 1000 = 16 ∧ zcat st ≤ 8 then zk kX1_extra 71 74 L st (mX1_refused [zvr (some q), v0] h) else none) ∧
  (∀ (a : Int) (L : List ZV) (h : PH), zev kX1_extra 74 L [zvi a] h = zrv (zvi a) h) ∧
  (∀ (a : Option Nat) (L st : List ZV) (h : PH), zev kX1_extra 75 (zvr a :: L) st h = zev kX1_extra 76 (zvr a :: L) (zvr a :: st) h) ∧
  (∀ (q : Nat) (L st : List ZV) (h : PH), zev kX1_extra 76 L (zvr (some q) :: st) h = if (ph_K h q).1 % 1000 = 16 then zev kX1_extra 79 L (zvr (ph_R h q 5) :: st) h else none) ∧
  (∀ (q : Nat) (L st : List ZV) (h : PH), zev kX1_extra 79 L (zvr (some q) :: st) h = if (ph_K h q).1 % 1000 = 20 then zev kX1_extra 82 L (zvr (ph_R h q 4) :: st) h else none) ∧
  (∀ (q : Nat) (L st : List ZV) (h : PH), zev kX1_extra 82 L (zvr (some q) :: st) h = if (ph_K h q).1 % 1000 = 29 ∧ zcat st ≤ 8 then zk kX1_extra 82 85 L st (mJ7_size [zvr (some q)] h) else none) ∧
  (∀ (x0 x1 x2 x3 x4 x5 x6 : ZV) (a : Int) (L st : List ZV) (h : PH) (hx : zisL x5 = false) , zev kX1_extra 85 (x0 :: x1 :: x2 :: x3 :: x4 :: x5 :: x6 :: L) (zvi a :: st) h = zev kX1_extra 87 (x0 :: x1 :: x2 :: x3 :: x4 :: x5 :: zvi a :: L) st h) ∧
  (∀ (x0 x1 x2 x3 x4 x5 : ZV) (a : Int) (L st : List ZV) (h : PH), zev kX1_extra 87 (x0 :: x1 :: x2 :: x3 :: x4 :: x5 :: zvi a :: L) st h = zev kX1_extra 89 (x0 :: x1 :: x2 :: x3 :: x4 :: x5 :: zvi a :: L) (zvi a :: st) h) ∧
  (∀ (L st : List ZV) (h : PH), zev kX1_extra 89 L st h = zev kX1_extra 91 L (zvi 120 :: st) h) ∧
  (∀ (a b : Int) (L st : List ZV) (h : PH), zev kX1_extra 91 L (zvi b :: zvi a :: st) h = if a ≠ b then zev kX1_extra 100 L st h else zev kX1_extra 94 L st h) ∧
  (∀ (a : Option Nat) (L st : List ZV) (h : PH), zev kX1_extra 94 (zvr a :: L) st h = zev kX1_extra 95 (zvr a :: L) (zvr a :: st) h) ∧
  (∀ (L st : List ZV) (h : PH), zev kX1_extra 95 L st h = zev kX1_extra 96 L (zvi 3 :: st) h) ∧
  (∀ (v0 : ZV) (q : Nat) (L st : List ZV) (h : PH), zev kX1_extra 96 L (v0 :: zvr (some q) :: st) h = if (ph_K h q).1 % 1000 = 16 ∧ zcat st ≤ 8 then zk kX1_extra 96 99 L st (mX1_refused [zvr (some q), v0] h) else none) ∧
  (∀ (a : Int) (L : List ZV) (h : PH), zev kX1_extra 99 L [zvi a] h = zrv (zvi a) h) ∧
  (∀ (a : Option Nat) (L st : List ZV) (h : PH), zev kX1_extra 100 (zvr a :: L) st h = zev kX1_extra 101 (zvr a :: L) (zvr a :: st) h) ∧
  (∀ (L st : List ZV) (h : PH), zev kX1_extra 101 L st h = zev kX1_extra 102 L (zvi 4 :: st) h) ∧
  (∀ (x0 x1 x2 x3 x4 x5 : ZV) (a : Int) (L st : List ZV) (h : PH), zev kX1_extra 102 (x0 :: x1 :: x2 :: x3 :: x4 :: x5 :: zvi a :: L) st h = zev kX1_extra 104 (x0 :: x1 :: x2 :: x3 :: x4 :: x5 :: zvi a :: L) (zvi a :: st) h) ∧
  (∀ (L st : List ZV) (h : PH), zev kX1_extra 104 L st h = zev kX1_extra 105 L (zvi 0 :: st) h) ∧
  (∀ (v0 v1 v2 : ZV) (q : Nat) (L st : List ZV) (h : PH), zev kX1_extra 105 L (v2 :: v1 :: v0 :: zvr (some q) :: st) h = if (ph_K h q).1 % 1000 = 16 ∧ zcat st ≤ 8 then zk kX1_extra 105 108 L st (mX1_remembers [zvr (some q), v0, v1, v2] h) else none) ∧
  (∀ (L st : List ZV) (h : PH), zev kX1_extra 108 L st h = zev kX1_extra 111 L (zvr (some (ph_N h)) :: st) (al_ h 22 0 9)) ∧
  (∀ (a : Int) (L st : List ZV) (h : PH), zev kX1_extra 111 L (zvi a :: st) h = zev kX1_extra 112 L (zvi a :: zvi a :: st) h) ∧
  (∀ (a : Option Nat) (L st : List ZV) (h : PH), zev kX1_extra 111 L (zvr a :: st) h = zev kX1_extra 112 L (zvr a :: zvr a :: st) h) ∧
  (∀ (x0 x1 x2 x3 x4 x5 : ZV) (a : Int) (L st : List ZV) (h : PH), zev kX1_extra 112 (x0 :: x1 :: x2 :: x3 :: x4 :: x5 :: zvi a :: L) st h = zev kX1_extra 114 (x0 :: x1 :: x2 :: x3 :: x4 :: x5 :: zvi a :: L) (zvi a :: st) h) ∧
  (∀ (L st : List ZV) (h : PH), zev kX1_extra 114 L st h = zev kX1_extra 116 L (zvi (-2) :: st) h) ∧
  (∀ (x0 : ZV) (a : Int) (L st : List ZV) (h : PH), zev kX1_extra 116 (x0 :: zvi a :: L) st h = zev kX1_extra 117 (x0 :: zvi a :: L) (zvi a :: st) h) ∧
  (∀ (x0 x1 : ZV) (a : Int) (L st : List ZV) (h : PH), zev kX1_extra 117 (x0 :: x1 :: zvi a :: L) st h = zev kX1_extra 118 (x0 :: x1 :: zvi a :: L) (zvi a :: st) h) ∧
  (∀ (x0 x1 x2 : ZV) (a : Int) (L st : List ZV) (h : PH), zev kX1_extra 118 (x0 :: x1 :: x2 :: zvi a :: L) st h = zev kX1_extra 119 (x0 :: x1 :: x2 :: zvi a :: L) (zvi a :: st) h) ∧
  (∀ (x0 x1 x2 x3 : ZV) (a : Int) (L st : List ZV) (h : PH), zev kX1_extra 119 (x0 :: x1 :: x2 :: x3 :: zvi a :: L) st h = zev kX1_extra 121 (x0 :: x1 :: x2 :: x3 :: zvi a :: L) (zvi a :: st) h) ∧
  (∀ (x0 x1 x2 x3 x4 : ZV) (a : Int) (L st : List ZV) (h : PH), zev kX1_extra 121 (x0 :: x1 :: x2 :: x3 :: x4 :: zvi a :: L) st h = zev kX1_extra 123 (x0 :: x1 :: x2 :: x3 :: x4 :: zvi a :: L) (zvi a :: st) h) ∧
  (∀ (v0 v1 v2 v3 v4 v5 v6 : ZV) (q : Nat) (L st : List ZV) (h : PH), zev kX1_extra 123 L (v6 :: v5 :: v4 :: v3 :: v2 :: v1 :: v0 :: zvr (some q) :: st) h = if (ph_K h q).1 % 1000 = 22 ∧ zcat st ≤ 8 then zk kX1_extra 123 126 L st (mX11_init [zvr (some q), v0, v1, v2, v3, v4, v5, v6] h) else none) ∧
  (∀ (x0 x1 x2 x3 x4 x5 x6 x7 : ZV) (a : Option Nat) (L st : List ZV) (h : PH) (hx : zisL x6 = false) , zev kX1_extra 126 (x0 :: x1 :: x2 :: x3 :: x4 :: x5 :: x6 :: x7 :: L) (zvr a :: st) h = zev kX1_extra 128 (x0 :: x1 :: x2 :: x3 :: x4 :: x5 :: x6 :: zvr a :: L) st h) ∧
  (∀ (a : Option Nat) (L st : List ZV) (h : PH), zev kX1_extra 128 (zvr a :: L) st h = zev kX1_extra 129 (zvr a :: L) (zvr a :: st) h) ∧
  (∀ (q : Nat) (L st : List ZV) (h : PH), zev kX1_extra 129 L (zvr (some q) :: st) h = if (ph_K h q).1 % 1000 = 16 then zev kX1_extra 132 L (zvr (ph_R h q 5) :: st) h else none) ∧
  (∀ (q : Nat) (L st : List ZV) (h : PH), zev kX1_extra 132 L (zvr (some q) :: st) h = if (ph_K h q).1 % 1000 = 20 then zev kX1_extra 135 L (zvr (ph_R h q 4) :: st) h else none) ∧
  (∀ (x0 x1 x2 x3 x4 x5 x6 : ZV) (a : Option Nat) (L st : List ZV) (h : PH), zev kX1_extra 135 (x0 :: x1 :: x2 :: x3 :: x4 :: x5 :: x6 :: zvr a :: L) st h = zev kX1_extra 137 (x0 :: x1 :: x2 :: x3 :: x4 :: x5 :: x6 :: zvr a :: L) (zvr a :: st) h) ∧
  (∀ (v0 : ZV) (q : Nat) (L st : List ZV) (h : PH), zev kX1_extra 137 L (v0 :: zvr (some q) :: st) h = if (ph_K h q).1 % 1000 = 29 ∧ zcat st ≤ 8 then zk kX1_extra 137 140 L st (mJ7_add [zvr (some q), v0] h) else none) ∧
  (∀ (a : Int) (L st : List ZV) (h : PH), zev kX1_extra 140 L (zvi a :: st) h = zev kX1_extra 141 L st h) ∧
  (∀ (a : Option Nat) (L st : List ZV) (h : PH), zev kX1_extra 140 L (zvr a :: st) h = zev kX1_extra 141 L st h) ∧
  (∀ (a : Option Nat) (L st : List ZV) (h : PH), zev kX1_extra 141 (zvr a :: L) st h = zev kX1_extra 142 (zvr a :: L) (zvr a :: st) h) ∧
  (∀ (q : Nat) (L st : List ZV) (h : PH), zev kX1_extra 142 L (zvr (some q) :: st) h = if (ph_K h q).1 % 1000 = 16 then zev kX1_extra 145 L (zvr (ph_R h q 6) :: st) h else none) ∧
  (∀ (x0 x1 x2 x3 x4 x5 x6 : ZV) (a : Option Nat) (L st : List ZV) (h : PH), zev kX1_extra 145 (x0 :: x1 :: x2 :: x3 :: x4 :: x5 :: x6 :: zvr a :: L) st h = zev kX1_extra 147 (x0 :: x1 :: x2 :: x3 :: x4 :: x5 :: x6 :: zvr a :: L) (zvr a :: st) h) ∧
  (∀ (v0 : ZV) (q : Nat) (L st : List ZV) (h : PH), zev kX1_extra 147 L (v0 :: zvr (some q) :: st) h = if (ph_K h q).1 % 1000 = 31 ∧ zcat st ≤ 8 then zk kX1_extra 147 150 L st (mJ2_add [zvr (some q), v0] h) else none) ∧
  (∀ (a : Int) (L st : List ZV) (h : PH), zev kX1_extra 150 L (zvi a :: st) h = zev kX1_extra 151 L st h) ∧
  (∀ (a : Option Nat) (L st : List ZV) (h : PH), zev kX1_extra 150 L (zvr a :: st) h = zev kX1_extra 151 L st h) ∧
  (∀ (a : Option Nat) (L st : List ZV) (h : PH), zev kX1_extra 151 (zvr a :: L) st h = zev kX1_extra 152 (zvr a :: L) (zvr a :: st) h) ∧
  (∀ (x0 x1 x2 x3 x4 x5 : ZV) (a : Int) (L st : List ZV) (h : PH), zev kX1_extra 152 (x0 :: x1 :: x2 :: x3 :: x4 :: x5 :: zvi a :: L) st h = zev kX1_extra 154 (x0 :: x1 :: x2 :: x3 :: x4 :: x5 :: zvi a :: L) (zvi a :: st) h) ∧
  (∀ (v0 : ZV) (q : Nat) (L st : List ZV) (h : PH), zev kX1_extra 154 L (v0 :: zvr (some q) :: st) h = if (ph_K h q).1 % 1000 = 16 ∧ zcat st ≤ 8 then zk kX1_extra 154 157 L st (mX1_fine [zvr (some q), v0] h) else none) ∧
  (∀ (a : Int) (L : List ZV) (h : PH), zev kX1_extra 157 L [zvi a] h = zrv (zvi a) h) :=
  ⟨fun a L st h => e_ld0R (n := 1) rfl,
  fun q L st h => e_getR (kd := 16) (k := 5) (n := 4) rfl,
  fun L st h => e_null0 (t := 36) (n := 7) rfl,
  fun q L st h => e_null1 (t := 36) (n := 7) rfl,
  fun x0 a L st h => e_ld1I (n := 8) rfl,
  fun L st h => e_push (v := zvi 0) (n := 9) rfl,
  fun a L st h => e_ld0R (n := 10) rfl,
  fun q L st h => e_getR (kd := 16) (k := 5) (n := 13) rfl,
  fun q L st h => e_getR (kd := 20) (k := 3) (n := 16) rfl,
  fun q L st h => e_callV1 (F := mJ7_size) (kd := 29) (n := 19) rfl,
  fun L st h => e_push (v := zvi 1) (n := 20) rfl,
  fun a b L st h => e_bin (f := (fun a b => w32 (a - b))) (n := 21) rfl,
  fun v0 v1 v2 L st h => e_callS3 (F := mX1_isIn) (n := 24) rfl,
  fun a L st h => e_ifeq (t := 36) (n := 27) rfl,
  fun a L st h => e_ld0R (n := 28) rfl,
  fun x0 x1 a L st h => e_ld2I (n := 29) rfl,
  fun x0 x1 x2 a L st h => e_ld3I (n := 30) rfl,
  fun v0 v1 q L st h => e_callV3 (F := mX1_areTwo) (kd := 16) (n := 33) rfl,
  fun a L st h => e_ifne (t := 42) (n := 36) rfl,
  fun a L st h => e_ld0R (n := 37) rfl,
  fun L st h => e_push (v := zvi 1) (n := 38) rfl,
  fun v0 q L st h => e_callV2 (F := mX1_refused) (kd := 16) (n := 41) rfl,
  fun a L h => e_retI rfl,
  fun x0 x1 x2 x3 a L st h => e_ld4I (n := 44) rfl,
  fun L st h => e_push (v := zvi 0) (n := 45) rfl,
  fun a L st h => e_ld0R (n := 46) rfl,
  fun q L st h => e_getR (kd := 16) (k := 5) (n := 49) rfl,
  fun q L st h => e_getI (kd := 20) (k := 0) (n := 52) rfl,
  fun v0 v1 v2 L st h => e_callS3 (F := mX1_isIn) (n := 55) rfl,
  fun a L st h => e_ifeq (t := 69) (n := 58) rfl,
  fun x0 x1 x2 x3 x4 a L st h => e_ld5I (n := 60) rfl,
  fun L st h => e_push (v := zvi 1) (n := 61) rfl,
  fun L st h => e_push (v := zvi 99) (n := 63) rfl,
  fun v0 v1 v2 L st h => e_callS3 (F := mX1_isIn) (n := 66) rfl,
  fun a L st h => e_ifne (t := 75) (n := 69) rfl,
  fun a L st h => e_ld0R (n := 70) rfl,
  fun L st h => e_push (v := zvi 2) (n := 71) rfl,
  fun v0 q L st h => e_callV2 (F := mX1_refused) (kd := 16) (n := 74) rfl,
  fun a L h => e_retI rfl,
  fun a L st h => e_ld0R (n := 76) rfl,
  fun q L st h => e_getR (kd := 16) (k := 5) (n := 79) rfl,
  fun q L st h => e_getR (kd := 20) (k := 4) (n := 82) rfl,
  fun q L st h => e_callV1 (F := mJ7_size) (kd := 29) (n := 85) rfl,
  fun x0 x1 x2 x3 x4 x5 x6 a L st h hx => e_st6I (n := 87) rfl hx,
  fun x0 x1 x2 x3 x4 x5 a L st h => e_ld6I (n := 89) rfl,
  fun L st h => e_push (v := zvi 120) (n := 91) rfl,
  fun a b L st h => e_cmpne (t := 100) (n := 94) rfl,
  fun a L st h => e_ld0R (n := 95) rfl,
  fun L st h => e_push (v := zvi 3) (n := 96) rfl,
  fun v0 q L st h => e_callV2 (F := mX1_refused) (kd := 16) (n := 99) rfl,
  fun a L h => e_retI rfl,
  fun a L st h => e_ld0R (n := 101) rfl,
  fun L st h => e_push (v := zvi 4) (n := 102) rfl,
  fun x0 x1 x2 x3 x4 x5 a L st h => e_ld6I (n := 104) rfl,
  fun L st h => e_push (v := zvi 0) (n := 105) rfl,
  fun v0 v1 v2 q L st h => e_callV4 (F := mX1_remembers) (kd := 16) (n := 108) rfl,
  fun L st h => e_new (kd := 22) (sl := 9) (n := 111) rfl,
  fun a L st h => e_dupI (n := 112) rfl,
  fun a L st h => e_dupR (n := 112) rfl,
  fun x0 x1 x2 x3 x4 x5 a L st h => e_ld6I (n := 114) rfl,
  fun L st h => e_push (v := zvi (-2)) (n := 116) rfl,
  fun x0 a L st h => e_ld1I (n := 117) rfl,
  fun x0 x1 a L st h => e_ld2I (n := 118) rfl,
  fun x0 x1 x2 a L st h => e_ld3I (n := 119) rfl,
  fun x0 x1 x2 x3 a L st h => e_ld4I (n := 121) rfl,
  fun x0 x1 x2 x3 x4 a L st h => e_ld5I (n := 123) rfl,
  fun v0 v1 v2 v3 v4 v5 v6 q L st h => e_callV8 (F := mX11_init) (kd := 22) (n := 126) rfl,
  fun x0 x1 x2 x3 x4 x5 x6 x7 a L st h hx => e_st7R (n := 128) rfl hx,
  fun a L st h => e_ld0R (n := 129) rfl,
  fun q L st h => e_getR (kd := 16) (k := 5) (n := 132) rfl,
  fun q L st h => e_getR (kd := 20) (k := 4) (n := 135) rfl,
  fun x0 x1 x2 x3 x4 x5 x6 a L st h => e_ld7R (n := 137) rfl,
  fun v0 q L st h => e_callV2 (F := mJ7_add) (kd := 29) (n := 140) rfl,
  fun a L st h => e_popI (n := 141) rfl,
  fun a L st h => e_popR (n := 141) rfl,
  fun a L st h => e_ld0R (n := 142) rfl,
  fun q L st h => e_getR (kd := 16) (k := 6) (n := 145) rfl,
  fun x0 x1 x2 x3 x4 x5 x6 a L st h => e_ld7R (n := 147) rfl,
  fun v0 q L st h => e_callV2 (F := mJ2_add) (kd := 31) (n := 150) rfl,
  fun a L st h => e_popI (n := 151) rfl,
  fun a L st h => e_popR (n := 151) rfl,
  fun a L st h => e_ld0R (n := 152) rfl,
  fun x0 x1 x2 x3 x4 x5 a L st h => e_ld6I (n := 154) rfl,
  fun v0 q L st h => e_callV2 (F := mX1_fine) (kd := 16) (n := 157) rfl,
  fun a L h => e_retI rfl⟩
theorem allX1_extra : zall yX1_extra cX1_extra 8 (some .int) 9 kX1_extra.1 :=
  ⟨k_aload_n dX1_extra_0,
  k_getR (C := RX1) (T := TX1) (N := 19) (ci := 0) (k := 5) (ref := "LinkTimes") dX1_extra_1 rfl in_X1 (by decide) q308 (Or.inl rfl) (fun _ _ _ => rfl),
  k_null (t := 36) dX1_extra_4 (by decide),
  k_iload_n dX1_extra_7,
  k_iconst dX1_extra_8,
  k_aload_n dX1_extra_9,
  k_getR (C := RX1) (T := TX1) (N := 19) (ci := 0) (k := 5) (ref := "LinkTimes") dX1_extra_10 rfl in_X1 (by decide) q308 (Or.inl rfl) (fun _ _ _ => rfl),
  k_getRN (C := RX6) (T := TX6) (N := 5) (ci := 4) (k := 3) (ref := "LinkTimes$Desk") dX1_extra_13 rfl in_X6 (by decide) q426 (Or.inl rfl) (fun _ _ _ => rfl),
  k_callV (y2 := yJ7_size) (C := RJ7) (T0 := TJ7) (ci := 13) dX1_extra_16 sndJ7_size rfl q936 q652 q653 q141 q654 (by decide +kernel) ⟨by decide, by decide⟩ (by decide) (by decide),
  k_iconst dX1_extra_19,
  k_isub dX1_extra_20,
  k_callS (y2 := yX1_isIn) dX1_extra_21 sndX1_isIn q375 q376 q128 q377 (by decide +kernel) ⟨by decide, by decide⟩ (by decide) (by decide),
  k_ifeq (t := 36) dX1_extra_24 (by decide),
  k_aload_n dX1_extra_27,
  k_iload_n dX1_extra_28,
  k_iload_n dX1_extra_29,
  k_callV (y2 := yX1_areTwo) (C := RX1) (T0 := TX1) (ci := 0) dX1_extra_30 sndX1_areTwo rfl q1474 q1476 qs47 q128 q1477 (by decide +kernel) ⟨by decide, by decide⟩ (by decide) (by decide),
  k_ifne (t := 42) dX1_extra_33 (by decide),
  k_aload_n dX1_extra_36,
  k_iconst dX1_extra_37,
  k_callV (y2 := yX1_refused) (C := RX1) (T0 := TX1) (ci := 0) dX1_extra_38 sndX1_refused rfl q378 q380 qs1 q128 q381 (by decide +kernel) ⟨by decide, by decide⟩ (by decide) (by decide),
  k_iret dX1_extra_41,
  k_iload dX1_extra_42,
  k_iconst dX1_extra_44,
  k_aload_n dX1_extra_45,
  k_getR (C := RX1) (T := TX1) (N := 19) (ci := 0) (k := 5) (ref := "LinkTimes") dX1_extra_46 rfl in_X1 (by decide) q308 (Or.inl rfl) (fun _ _ _ => rfl),
  k_getIN (C := RX6) (T := TX6) (N := 5) (ci := 4) (k := 0) (ref := "LinkTimes$Desk") dX1_extra_49 rfl in_X6 (by decide) q417 (Or.inl rfl) (fun _ _ _ => rfl),
  k_callS (y2 := yX1_isIn) dX1_extra_52 sndX1_isIn q375 q376 q128 q377 (by decide +kernel) ⟨by decide, by decide⟩ (by decide) (by decide),
  k_ifeq (t := 69) dX1_extra_55 (by decide),
  k_iload dX1_extra_58,
  k_iconst dX1_extra_60,
  k_bipush dX1_extra_61,
  k_callS (y2 := yX1_isIn) dX1_extra_63 sndX1_isIn q375 q376 q128 q377 (by decide +kernel) ⟨by decide, by decide⟩ (by decide) (by decide),
  k_ifne (t := 75) dX1_extra_66 (by decide),
  k_aload_n dX1_extra_69,
  k_iconst dX1_extra_70,
  k_callV (y2 := yX1_refused) (C := RX1) (T0 := TX1) (ci := 0) dX1_extra_71 sndX1_refused rfl q378 q380 qs1 q128 q381 (by decide +kernel) ⟨by decide, by decide⟩ (by decide) (by decide),
  k_iret dX1_extra_74,
  k_aload_n dX1_extra_75,
  k_getR (C := RX1) (T := TX1) (N := 19) (ci := 0) (k := 5) (ref := "LinkTimes") dX1_extra_76 rfl in_X1 (by decide) q308 (Or.inl rfl) (fun _ _ _ => rfl),
  k_getRN (C := RX6) (T := TX6) (N := 5) (ci := 4) (k := 4) (ref := "LinkTimes$Desk") dX1_extra_79 rfl in_X6 (by decide) q430 (Or.inl rfl) (fun _ _ _ => rfl),
  k_callV (y2 := yJ7_size) (C := RJ7) (T0 := TJ7) (ci := 13) dX1_extra_82 sndJ7_size rfl q936 q652 q653 q141 q654 (by decide +kernel) ⟨by decide, by decide⟩ (by decide) (by decide),
  k_istore dX1_extra_85,
  k_iload dX1_extra_87,
  k_bipush dX1_extra_89,
  k_cmpne (t := 100) dX1_extra_91 (by decide),
  k_aload_n dX1_extra_94,
  k_iconst dX1_extra_95,
  k_callV (y2 := yX1_refused) (C := RX1) (T0 := TX1) (ci := 0) dX1_extra_96 sndX1_refused rfl q378 q380 qs1 q128 q381 (by decide +kernel) ⟨by decide, by decide⟩ (by decide) (by decide),
  k_iret dX1_extra_99,
  k_aload_n dX1_extra_100,
  k_iconst dX1_extra_101,
  k_iload dX1_extra_102,
  k_iconst dX1_extra_104,
  k_callV (y2 := yX1_remembers) (C := RX1) (T0 := TX1) (ci := 0) dX1_extra_105 sndX1_remembers rfl q1610 q1612 qs60 q128 q1613 (by decide +kernel) ⟨by decide, by decide⟩ (by decide) (by decide),
  k_new (C := RX11) (T := TX11) (N := 9) (ci := 6) dX1_extra_108 rfl in_X11 tyX11 tyX11_ok rfl (by decide) q938 q843 q160,
  k_dup dX1_extra_111,
  k_iload dX1_extra_112,
  k_bipush dX1_extra_114,
  k_iload_n dX1_extra_116,
  k_iload_n dX1_extra_117,
  k_iload_n dX1_extra_118,
  k_iload dX1_extra_119,
  k_iload dX1_extra_121,
  k_callI (y2 := yX11_init) (C := RX11) (T0 := TX11) (ci := 6) dX1_extra_123 sndX11_init rfl q1729 q845 q160 q846 rfl (by decide +kernel) ⟨by decide, by decide⟩ (by decide) (by decide),
  k_astore dX1_extra_126,
  k_aload_n dX1_extra_128,
  k_getR (C := RX1) (T := TX1) (N := 19) (ci := 0) (k := 5) (ref := "LinkTimes") dX1_extra_129 rfl in_X1 (by decide) q308 (Or.inl rfl) (fun _ _ _ => rfl),
  k_getRN (C := RX6) (T := TX6) (N := 5) (ci := 4) (k := 4) (ref := "LinkTimes$Desk") dX1_extra_132 rfl in_X6 (by decide) q430 (Or.inl rfl) (fun _ _ _ => rfl),
  k_aload dX1_extra_135,
  k_callV (y2 := yJ7_add) (C := RJ7) (T0 := TJ7) (ci := 13) dX1_extra_137 sndJ7_add rfl q1730 q740 q741 q141 q742 (by decide +kernel) ⟨by decide, by decide⟩ (by decide) (by decide),
  k_pop dX1_extra_140,
  k_aload_n dX1_extra_141,
  k_getR (C := RX1) (T := TX1) (N := 19) (ci := 0) (k := 6) (ref := "LinkTimes") dX1_extra_142 rfl in_X1 (by decide) q309 (Or.inl rfl) (fun _ _ _ => rfl),
  k_aload dX1_extra_145,
  k_callV (y2 := yJ2_add) (C := RJ2) (T0 := TJ2) (ci := 15) dX1_extra_147 sndJ2_add rfl q939 q940 q941 q131 q942 (by decide +kernel) ⟨by decide, by decide⟩ (by decide) (by decide),
  k_pop dX1_extra_150,
  k_aload_n dX1_extra_151,
  k_iload dX1_extra_152,
  k_callV (y2 := yX1_fine) (C := RX1) (T0 := TX1) (ci := 0) dX1_extra_154 sndX1_fine rfl q1211 q1213 qs32 q128 q1214 (by decide +kernel) ⟨by decide, by decide⟩ (by decide) (by decide),
  k_iret dX1_extra_157, trivial⟩
theorem sndX1_extra : MSound 9 yX1_extra (ws_ yX1_extra cX1_extra 8 (some .int)) mX1_extra := msound_M (by decide) allX1_extra (fun _ _ => rfl)
/-! LinkTimes.undo()Z -/
noncomputable def kX1_undo : ZM := ([(0, zi_ld 1 0 1), (1, zi_getR 16 5 4), (4, zi_null 17 7), (7, zi_ld 1 0 8), (8, zi_getR 16 7 11), (11, zi_callV mJ5_isEmpty 30 1 14), (14, zi_if (fun a => zc_eq a 0) 25 17), (17, zi_ld 1 0 18), (18, zi_push (zvi 1) 19), (19, zi_callV mX1_refused 16 2 22), (22, zi_pop 23), (23, zi_push (zvi 0) 24), (24, zi_retz), (25, zi_ld 1 0 26), (26, zi_getR 16 7 29), (29, zi_callV mJ5_removeLast 30 1 32), (32, zi_cast zokAct 35), (35, zi_st 1 1 36), (36, zi_ld 1 1 37), (37, zi_callV mX14_what 23 1 40), (40, zi_sw 0 3 [72, 109, 137, 164] 191), (72, zi_ld 1 0 73), (73, zi_ld 1 0 74), (74, zi_getR 16 5 77), (77, zi_getR 20 4 80), (80, zi_ld 1 1 81), (81, zi_callV mX14_which 23 1 84), (84, zi_callV mJ7_get 29 2 87), (87, zi_cast zokDep 90), (90, zi_ld 1 1 91), (91, zi_callV mX14_had 23 1 94), (94, zi_push (zvi 1) 95), (95, zi_cmp zc_ne 102 98), (98, zi_push (zvi 1) 99), (99, zi_goto 103), (102, zi_push (zvi 0) 103), (103, zi_callV mX1_sets 16 3 106), (106, zi_goto 228), (109, zi_ld 1 0 110), (110, zi_ld 1 0 111), (111, zi_getR 16 5 114), (114, zi_getR 20 4 117), (117, zi_ld 1 1 118), (118, zi_callV mX14_which 23 1 121), (121, zi_callV mJ7_get 29 2 124), (124, zi_cast zokDep 127), (127, zi_ld 1 1 128), (128, zi_callV mX14_had 23 1 131), (131, zi_callV mX1_late 16 3 134), (134, zi_goto 228), (137, zi_ld 1 0 138), (138, zi_getR 16 5 141), (141, zi_getR 20 2 144), (144, zi_ld 1 1 145), (145, zi_callV mX14_which 23 1 148), (148, zi_callV mJ7_get 29 2 151), (151, zi_cast zokSpot 154), (154, zi_ld 1 1 155), (155, zi_callV mX14_had 23 1 158), (158, zi_putI 21 1 161), (161, zi_goto 228), (164, zi_ld 1 0 165), (165, zi_getR 16 5 168), (168, zi_getR 20 2 171), (171, zi_ld 1 1 172), (172, zi_callV mX14_which 23 1 175), (175, zi_callV mJ7_get 29 2 178), (178, zi_cast zokSpot 181), (181, zi_ld 1 1 182), (182, zi_callV mX14_had 23 1 185), (185, zi_putI 21 2 188), (188, zi_goto 228), (191, zi_ld 1 0 192), (192, zi_ld 1 0 193), (193, zi_getR 16 5 196), (196, zi_getR 20 4 199), (199, zi_ld 1 1 200), (200, zi_callV mX14_which 23 1 203), (203, zi_callV mJ7_get 29 2 206), (206, zi_cast zokDep 209), (209, zi_push (zvi 0) 210), (210, zi_callV mX1_sets 16 3 213), (213, zi_ld 1 0 214), (214, zi_getR 16 5 217), (217, zi_getR 20 4 220), (220, zi_ld 1 1 221), (221, zi_callV mX14_which 23 1 224), (224, zi_callV mJ7_remove 29 2 227), (227, zi_pop 228), (228, zi_ld 1 0 229), (229, zi_push (zvi 0) 230), (230, zi_callV mX1_fine 16 2 233), (233, zi_pop 234), (234, zi_push (zvi 1) 235), (235, zi_retz)], fun _ _ => none)
noncomputable def mX1_undo : ZF := zrunM kX1_undo 2
theorem enX1_undo (x0 : Option Nat) (h : PH) : mX1_undo [zvr x0] h = zev kX1_undo 0 [zvr x0, zvu] [] h := zrunM_eq rfl rfl
theorem rX1_undo : (∀ (a : Option Nat) (L st : List ZV) (h : PH), zev kX1_undo 0 (zvr a :: L) st h = zev kX1_undo 1 (zvr a :: L) (zvr a :: st) h) ∧
  (∀ (q : Nat) (L st : List ZV) (h : PH), zev kX1_undo 1 L (zvr (some q) :: st) h = if (ph_K h q).1 % 1000 = 16 then zev kX1_undo 4 L (zvr (ph_R h q 5) :: st) h else none) ∧
  (∀ (L st : List ZV) (h : PH), zev kX1_undo 4 L (zvr none :: st) h = zev kX1_undo 17 L st h) ∧
  (∀ (q : Nat) (L st : List ZV) (h : PH), zev kX1_undo 4 L (zvr (some q) :: st) h = if (ph_K h q).1 ≠ 0 then zev kX1_undo 7 L st h else none) ∧
  (∀ (a : Option Nat) (L st : List ZV) (h : PH), zev kX1_undo 7 (zvr a :: L) st h = zev kX1_undo 8 (zvr a :: L) (zvr a :: st) h) ∧
  (∀ (q : Nat) (L st : List ZV) (h : PH), zev kX1_undo 8 L (zvr (some q) :: st) h = if (ph_K h q).1 % 1000 = 16 then zev kX1_undo 11 L (zvr (ph_R h q 7) :: st) h else none) ∧
  (∀ (q : Nat) (L st : List ZV) (h : PH), zev kX1_undo 11 L (zvr (some q) :: st) h = if (ph_K h q).1 % 1000 = 30 ∧ zcat st ≤ 8 then zk kX1_undo 11 14 L st (mJ5_isEmpty [zvr (some q)] h) else none) ∧
  (∀ (a : Int) (L st : List ZV) (h : PH), zev kX1_undo 14 L (zvi a :: st) h = if a = 0 then zev kX1_undo 25 L st h else zev kX1_undo 17 L st h) ∧
  (∀ (a : Option Nat) (L st : List ZV) (h : PH), zev kX1_undo 17 (zvr a :: L) st h = zev kX1_undo 18 (zvr a :: L) (zvr a :: st) h) ∧
  (∀ (L st : List ZV) (h : PH), zev kX1_undo 18 L st h = zev kX1_undo 19 L (zvi 1 :: st) h) ∧
  (∀ (v0 : ZV) (q : Nat) (L st : List ZV) (h : PH), zev kX1_undo 19 L (v0 :: zvr (some q) :: st) h = if (ph_K h q).1 % 1000 = 16 ∧ zcat st ≤ 8 then zk kX1_undo 19 22 L st (mX1_refused [zvr (some q), v0] h) else none) ∧
  (∀ (a : Int) (L st : List ZV) (h : PH), zev kX1_undo 22 L (zvi a :: st) h = zev kX1_undo 23 L st h) ∧
  (∀ (a : Option Nat) (L st : List ZV) (h : PH), zev kX1_undo 22 L (zvr a :: st) h = zev kX1_undo 23 L st h) ∧
  (∀ (L st : List ZV) (h : PH), zev kX1_undo 23 L st h = zev kX1_undo 24 L (zvi 0 :: st) h) ∧
  (∀ (a : Int) (L : List ZV) (h : PH), zev kX1_undo 24 L [zvi a] h = if a = 0 ∨ a = 1 then zrv (zvi a) h else none) ∧
  (∀ (a : Option Nat) (L st : List ZV) (h : PH), zev kX1_undo 25 (zvr a :: L) st h = zev kX1_undo 26 (zvr a :: L) (zvr a :: st) h) ∧
  (∀ (q : Nat) (L st : List ZV) (h : PH), zev kX1_undo 26 L (zvr (some q) :: st) h = if (ph_K h q).1 % 1000 = 16 then zev kX1_undo 29 L (zvr (ph_R h q 7) :: st) h else none) ∧
  (∀ (q : Nat) (L st : List ZV) (h : PH), zev kX1_undo 29 L (zvr (some q) :: st) h = if (ph_K h q).1 % 1000 = 30 ∧ zcat st ≤ 8 then zk kX1_undo 29 32 L st (mJ5_removeLast [zvr (some q)] h) else none) ∧
  (∀ (L st : List ZV) (h : PH), zev kX1_undo 32 L (zvr none :: st) h = zev kX1_undo 35 L (zvr none :: st) h) ∧
  (∀ (q : Nat) (L st : List ZV) (h : PH), zev kX1_undo 32 L (zvr (some q) :: st) h = if zokAct (ph_K h q).1 = true then zev kX1_undo 35 L (zvr (some q) :: st) h else none) ∧
  (∀ (x0 x1 : ZV) (a : Option Nat) (L st : List ZV) (h : PH) (hx : zisL x0 = false) , zev kX1_undo 35 (x0 :: x1 :: L) (zvr a :: st) h = zev kX1_undo 36 (x0 :: zvr a :: L) st h) ∧
  (∀ (x0 : ZV) (a : Option Nat) (L st : List ZV) (h : PH), zev kX1_undo 36 (x0 :: zvr a :: L) st h = zev kX1_undo 37 (x0 :: zvr a :: L) (zvr a :: st) h) ∧
  (∀ (q : Nat) (L st : List ZV) (h : PH), zev kX1_undo 37 L (zvr (some q) :: st) h = if (ph_K h q).1 % 1000 = 23 ∧ zcat st ≤ 8 then zk kX1_undo 37 40 L st (mX14_what [zvr (some q)] h) else none) ∧
  (∀ (a : Int) (L st : List ZV) (h : PH), zev kX1_undo 40 L (zvi a :: st) h = zev kX1_undo (zswt 0 3 [72, 109, 137, 164] 191 a) L st h) ∧
  (∀ (a : Option Nat) (L st : List ZV) (h : PH), zev kX1_undo 72 (zvr a :: L) st h = zev kX1_undo 73 (zvr a :: L) (zvr a :: st) h) ∧
  (∀ (a : Option Nat) (L st : List ZV) (h : PH), zev kX1_undo 73 (zvr a :: L) st h = zev kX1_undo 74 (zvr a :: L) (zvr a :: st) h) ∧
  (∀ (q : Nat) (L st : List ZV) (h : PH), zev kX1_undo 74 L (zvr (some q) :: st) h = if (ph_K h q).1 % 1000 = 16 then zev kX1_undo 77 L (zvr (ph_R h q 5) :: st) h else none) ∧
  (∀ (q : Nat) (L st : List ZV) (h : PH), zev kX1_undo 77 L (zvr (some q) :: st) h = if (ph_K h q).1 % 1000 = 20 then zev kX1_undo 80 L (zvr (ph_R h q 4) :: st) h else none) ∧
  (∀ (x0 : ZV) (a : Option Nat) (L st : List ZV) (h : PH), zev kX1_undo 80 (x0 :: zvr a :: L) st h = zev kX1_undo 81 (x0 :: zvr a :: L) (zvr a :: st) h) ∧
  (∀ (q : Nat) (L st : List ZV) (h : PH), zev kX1_undo 81 L (zvr (some q) :: st) h = if (ph_K h q).1 % 1000 = 23 ∧ zcat st ≤ 8 then zk kX1_undo 81 84 L st (mX14_which [zvr (some q)] h) else none) ∧
  (∀ (v0 : ZV) (q : Nat) (L st : List ZV) (h : PH), zev kX1_undo 84 L (v0 :: zvr (some q) :: st) h = if (ph_K h q).1 % 1000 = 29 ∧ zcat st ≤ 8 then zk kX1_undo 84 87 L st (mJ7_get [zvr (some q), v0] h) else none) ∧
  (∀ (L st : List ZV) (h : PH), zev kX1_undo 87 L (zvr none :: st) h = zev kX1_undo 90 L (zvr none :: st) h) ∧
  (∀ (q : Nat) (L st : List ZV) (h : PH), zev kX1_undo 87 L (zvr (some q) :: st) h = if zokDep (ph_K h q).1 = true then zev kX1_undo 90 L (zvr (some q) :: st) h else none) ∧
  (∀ (x0 : ZV) (a : Option Nat) (L st : List ZV) (h : PH), zev kX1_undo 90 (x0 :: zvr a :: L) st h = zev kX1_undo 91 (x0 :: zvr a :: L) (zvr a :: st) h) ∧
  (∀ (q : Nat) (L st : List ZV) (h : PH), zev kX1_undo 91 L (zvr (some q) :: st) h = if (ph_K h q).1 % 1000 = 23 ∧ zcat st ≤ 8 then zk kX1_undo 91 94 L st (mX14_had [zvr (some q)] h) else none) ∧
  (∀ (L st : List ZV) (h : PH), zev kX1_undo 94 L st h = zev kX1_undo 95 L (zvi 1 :: st) h) ∧
  (∀ (a b : Int) (L st : List ZV) (h : PH), zev kX1_undo 95 L (zvi b :: zvi a :: st) h = if a ≠ b then zev kX1_undo 102 L st h else zev kX1_undo 98 L st h) ∧
  (∀ (L st : List ZV) (h : PH), zev kX1_undo 98 L st h = zev kX1_undo 99 L (zvi 1 :: st) h) ∧
  (∀ (L st : List ZV) (h : PH), zev kX1_undo 99 L st h = zev kX1_undo 103 L st h) ∧
  (∀ (L st : List ZV) (h : PH), zev kX1_undo 102 L st h = zev kX1_undo 103 L (zvi 0 :: st) h) ∧
  (∀ (v0 v1 : ZV) (q : Nat) (L st : List ZV) (h : PH), zev kX1_undo 103 L (v1 :: v0 :: zvr (some q) :: st) h = if (ph_K h q).1 % 1000 = 16 ∧ zcat st ≤ 8 then zk kX1_undo 103 106 L st (mX1_sets [zvr (some q), v0, v1] h) else none) ∧
  (∀ (L st : List ZV) (h : PH), zev kX1_undo 106 L st h = zev kX1_undo 228 L st h) ∧
  (∀ (a : Option Nat) (L st : List ZV) (h : PH), zev kX1_undo 109 (zvr a :: L) st h = zev kX1_undo 110 (zvr a :: L) (zvr a :: st) h) ∧
  (∀ (a : Option Nat) (L st : List ZV) (h : PH), zev kX1_undo 110 (zvr a :: L) st h = zev kX1_undo 111 (zvr a :: L) (zvr a :: st) h) ∧
  (∀ (q : Nat) (L st : List ZV) (h : PH), zev kX1_undo 111 L (zvr (some q) :: st) h = if (ph_K h q).1 % 1000 = 16 then zev kX1_undo 114 L (zvr (ph_R h q 5) :: st) h else none) ∧
  (∀ (q : Nat) (L st : List ZV) (h : PH), zev kX1_undo 114 L (zvr (some q) :: st) h = if (ph_K h q).1 % 1000 = 20 then zev kX1_undo 117 L (zvr (ph_R h q 4) :: st) h else none) ∧
  (∀ (x0 : ZV) (a : Option Nat) (L st : List ZV) (h : PH), zev kX1_undo 117 (x0 :: zvr a :: L) st h = zev kX1_undo 118 (x0 :: zvr a :: L) (zvr a :: st) h) ∧
  (∀ (q : Nat) (L st : List ZV) (h : PH), zev kX1_undo 118 L (zvr (some q) :: st) h = if (ph_K h q).1 % 1000 = 23 ∧ zcat st ≤ 8 then zk kX1_undo 118 121 L st (mX14_which [zvr (some q)] h) else none) ∧
  (∀ (v0 : ZV) (q : Nat) (L st : List ZV) (h : PH), zev kX1_undo 121 L (v0 :: zvr (some q) :: st) h = if (ph_K h q).1 % 1000 = 29 ∧ zcat st ≤ 8 then zk kX1_undo 121 124 L st (mJ7_get [zvr (some q), v0] h) else none) ∧
  (∀ (L st : List ZV) (h : PH), zev kX1_undo 124 L (zvr none :: st) h = zev kX1_undo 127 L (zvr none :: st) h) ∧
  (∀ (q : Nat) (L st : List ZV) (h : PH), zev kX1_undo 124 L (zvr (some q) :: st) h = if zokDep (ph_K h q).1 = true then zev kX1_undo 127 L (zvr (some q) :: st) h else none) ∧
  (∀ (x0 : ZV) (a : Option Nat) (L st : List ZV) (h : PH), zev kX1_undo 127 (x0 :: zvr a :: L) st h = zev kX1_undo 128 (x0 :: zvr a :: L) (zvr a :: st) h) ∧
  (∀ (q : Nat) (L st : List ZV) (h : PH), zev kX1_undo 128 L (zvr (some q) :: st) h = if (ph_K h q).1 % 1000 = 23 ∧ zcat st ≤ 8 then zk kX1_undo 128 131 L st (mX14_had [zvr (some q)] h) else none) ∧
  (∀ (v0 v1 : ZV) (q : Nat) (L st : List ZV) (h : PH), zev kX1_undo 131 L (v1 :: v0 :: zvr (some q) :: st) h = if (ph_K h q).1 % 1000 = 16 ∧ zcat st ≤ 8 then zk kX1_undo 131 134 L st (mX1_late [zvr (some q), v0, v1] h) else none) ∧
  (∀ (L st : List ZV) (h : PH), zev kX1_undo 134 L st h = zev kX1_undo 228 L st h) ∧
  (∀ (a : Option Nat) (L st : List ZV) (h : PH), zev kX1_undo 137 (zvr a :: L) st h = zev kX1_undo 138 (zvr a :: L) (zvr a :: st) h) ∧
  (∀ (q : Nat) (L st : List ZV) (h : PH), zev kX1_undo 138 L (zvr (some q) :: st) h = if (ph_K h q).1 % 1000 = 16 then zev kX1_undo 141 L (zvr (ph_R h q 5) :: st) h else none) ∧
  (∀ (q : Nat) (L st : List ZV) (h : PH), zev kX1_undo 141 L (zvr (some q) :: st) h = if (ph_K h q).1 % 1000 = 20 then zev kX1_undo 144 L (zvr (ph_R h q 2) :: st) h else none) ∧
  (∀ (x0 : ZV) (a : Option Nat) (L st : List ZV) (h : PH), zev kX1_undo 144 (x0 :: zvr a :: L) st h = zev kX1_undo 145 (x0 :: zvr a :: L) (zvr a :: st) h) ∧
  (∀ (q : Nat) (L st : List ZV) (h : PH), zev kX1_undo 145 L (zvr (some q) :: st) h = if (ph_K h q).1 % 1000 = 23 ∧ zcat st ≤ 8 then zk kX1_undo 145 148 L st (mX14_which [zvr (some q)] h) else none) ∧
  (∀ (v0 : ZV) (q : Nat) (L st : List ZV) (h : PH), zev kX1_undo 148 L (v0 :: zvr (some q) :: st) h = if (ph_K h q).1 % 1000 = 29 ∧ zcat st ≤ 8 then zk kX1_undo 148 151 L st (mJ7_get [zvr (some q), v0] h) else none) ∧
  (∀ (L st : List ZV) (h : PH), zev kX1_undo 151 L (zvr none :: st) h = zev kX1_undo 154 L (zvr none :: st) h) ∧
  (∀ (q : Nat) (L st : List ZV) (h : PH), zev kX1_undo 151 L (zvr (some q) :: st) h = if zokSpot (ph_K h q).1 = true then zev kX1_undo 154 L (zvr (some q) :: st) h else none) ∧
  (∀ (x0 : ZV) (a : Option Nat) (L st : List ZV) (h : PH), zev kX1_undo 154 (x0 :: zvr a :: L) st h = zev kX1_undo 155 (x0 :: zvr a :: L) (zvr a :: st) h) ∧
  (∀ (q : Nat) (L st : List ZV) (h : PH), zev kX1_undo 155 L (zvr (some q) :: st) h = if (ph_K h q).1 % 1000 = 23 ∧ zcat st ≤ 8 then zk kX1_undo 155 158 L st (mX14_had [zvr (some q)] h) else none) ∧
  (∀ (a : Int) (q : Nat) (L st : List ZV) (h : PH), zev kX1_undo 158 L (zvi a :: zvr (some q) :: st) h = if (ph_K h q).1 = 21 then zev kX1_undo 161 L st (st_I h q 1 a) else none) ∧
  (∀ (L st : List ZV) (h : PH), zev kX1_undo 161 L st h = zev kX1_undo 228 L st h) ∧
  (∀ (a : Option Nat) (L st : List ZV) (h : PH), zev kX1_undo 164 (zvr a :: L) st h = zev kX1_undo 165 (zvr a :: L) (zvr a :: st) h) ∧
  (∀ (q : Nat) (L st : List ZV) (h : PH), zev kX1_undo 165 L (zvr (some q) :: st) h = if (ph_K h q).1 % 1000 = 16 then zev kX1_undo 168 L (zvr (ph_R h q 5) :: st) h else none) ∧
  (∀ (q : Nat) (L st : List ZV) (h : PH), zev kX1_undo 168 L (zvr (some q) :: st) h = if (ph_K h q).1 % 1000 = 20 then zev kX1_undo 171 L (zvr (ph_R h q 2) :: st) h else none) ∧
  (∀ (x0 : ZV) (a : Option Nat) (L st : List ZV) (h : PH), zev kX1_undo 171 (x0 :: zvr a :: L) st h = zev kX1_undo 172 (x0 :: zvr a :: L) (zvr a :: st) h) ∧
  (∀ (q : Nat) (L st : List ZV) (h : PH), zev kX1_undo 172 L (zvr (some q) :: st) h = if (ph_K h q).1 % 1000 = 23 ∧ zcat st ≤ 8 then zk kX1_undo 172 175 L st (mX14_which [zvr (some q)] h) else none) ∧
  (∀ (v0 : ZV) (q : Nat) (L st : List ZV) (h : PH), zev kX1_undo 175 L (v0 :: zvr (some q) :: st) h = if (ph_K h q).1 % 1000 = 29 ∧ zcat st ≤ 8 then zk kX1_undo 175 178 L st (mJ7_get [zvr (some q), v0] h) else none) ∧
  (∀ (L st : List ZV) (h : PH), zev kX1_undo 178 L (zvr none :: st) h = zev kX1_undo 181 L (zvr none :: st) h) ∧
  (∀ (q : Nat) (L st : List ZV) (h : PH), zev kX1_undo 178 L (zvr (some q) :: st) h = if zokSpot (ph_K h q).1 = true then zev kX1_undo 181 L (zvr (some q) :: st) h else none) ∧
  (∀ (x0 : ZV) (a : Option Nat) (L st : List ZV) (h : PH), zev kX1_undo 181 (x0 :: zvr a :: L) st h = zev kX1_undo 182 (x0 :: zvr a :: L) (zvr a :: st) h) ∧
  (∀ (q : Nat) (L st : List ZV) (h : PH), zev kX1_undo 182 L (zvr (some q) :: st) h = if (ph_K h q).1 % 1000 = 23 ∧ zcat st ≤ 8 then zk kX1_undo 182 185 L st (mX14_had [zvr (some q)] h) else none) ∧
  (∀ (a : Int) (q : Nat) (L st : List ZV) (h : PH), zev kX1_undo 185 L (zvi a :: zvr (some q) :: st) h = if (ph_K h q).1 = 21 then zev kX1_undo 188 L st (st_I h q 2 a) else none) ∧
  (∀ (L st : List ZV) (h : PH), zev kX1_undo 188 L st h = zev kX1_undo 228 L st h) ∧
  (∀ (a : Option Nat) (L st : List ZV) (h : PH), zev kX1_undo 191 (zvr a :: L) st h = zev kX1_undo 192 (zvr a :: L) (zvr a :: st) h) ∧
  (∀ (a : Option Nat) (L st : List ZV) (h : PH), zev kX1_undo 192 (zvr a :: L) st h = zev kX1_undo 193 (zvr a :: L) (zvr a :: st) h) ∧
  (∀ (q : Nat) (L st : List ZV) (h : PH), zev kX1_undo 193 L (zvr (some q) :: st) h = if (ph_K h q).1 % 1000 = 16 then zev kX1_undo 196 L (zvr (ph_R h q 5) :: st) h else none) ∧
  (∀ (q : Nat) (L st : List ZV) (h : PH), zev kX1_undo 196 L (zvr (some q) :: st) h = if (ph_K h q).1 % 1000 = 20 then zev kX1_undo 199 L (zvr (ph_R h q 4) :: st) h else none) ∧
  (∀ (x0 : ZV) (a : Option Nat) (L st : List ZV) (h : PH), zev kX1_undo 199 (x0 :: zvr a :: L) st h = zev kX1_undo 200 (x0 :: zvr a :: L) (zvr a :: st) h) ∧
  (∀ (q : Nat) (L st : List ZV) (h : PH), zev kX1_undo 200 L (zvr (some q) :: st) h = if (ph_K h q).1 % 1000 = 23 ∧ zcat st ≤ 8 then zk kX1_undo 200 203 L st (mX14_which [zvr (some q)] h) else none) ∧
  (∀ (v0 : ZV) (q : Nat) (L st : List ZV) (h : PH), zev kX1_undo 203 L (v0 :: zvr (some q) :: st) h = if (ph_K h q).1 % 1000 = 29 ∧ zcat st ≤ 8 then zk kX1_undo 203 206 L st (mJ7_get [zvr (some q), v0] h) else none) ∧
  (∀ (L st : List ZV) (h : PH), zev kX1_undo 206 L (zvr none :: st) h = zev kX1_undo 209 L (zvr none :: st) h) ∧
  (∀ (q : Nat) (L st : List ZV) (h : PH), zev kX1_undo 206 L (zvr (some q) :: st) h = if zokDep (ph_K h q).1 = true then zev kX1_undo 209 L (zvr (some q) :: st) h else none) ∧
  (∀ (L st : List ZV) (h : PH), zev kX1_undo 209 L st h = zev kX1_undo 210 L (zvi 0 :: st) h) ∧
  (∀ (v0 v1 : ZV) (q : Nat) (L st : List ZV) (h : PH), zev kX1_undo 210 L (v1 :: v0 :: zvr (some q) :: st) h = if (ph_K h q).1 % 1000 = 16 ∧ zcat st ≤ 8 then zk kX1_undo 210 213 L st (mX1_sets [zvr (some q), v0, v1] h) else none) ∧
  (∀ (a : Option Nat) (L st : List ZV) (h : PH), zev kX1_undo 213 (zvr a :: L) st h = zev kX1_undo 214 (zvr a :: L) (zvr a :: st) h) ∧
  (∀ (q : Nat) (L st : List ZV) (h : PH), zev kX1_undo 214 L (zvr (some q) :: st) h = if (ph_K h q).1 % 1000 = 16 then zev kX1_undo 217 L (zvr (ph_R h q 5) :: st) h else none) ∧
  (∀ (q : Nat) (L st : List ZV) (h : PH), zev kX1_undo 217 L (zvr (some q) :: st) h = if (ph_K h q).1 % 1000 = 20 then zev kX1_undo 220 L (zvr (ph_R h q 4) :: st) h else none) ∧
  (∀ (x0 : ZV) (a : Option Nat) (L st : List ZV) (h : PH), zev kX1_undo 220 (x0 :: zvr a :: L) st h = zev kX1_undo 221 (x0 :: zvr a :: L) (zvr a :: st) h) ∧
  (∀ (q : Nat) (L st : List ZV) (h : PH), zev kX1_undo 221 L (zvr (some q) :: st) h = if (ph_K h q).1 % 1000 = 23 ∧ zcat st ≤ 8 then zk kX1_undo 221 224 L st (mX14_which [zvr (some q)] h) else none) ∧
  (∀ (v0 : ZV) (q : Nat) (L st : List ZV) (h : PH), zev kX1_undo 224 L (v0 :: zvr (some q) :: st) h = if (ph_K h q).1 % 1000 = 29 ∧ zcat st ≤ 8 then zk kX1_undo 224 227 L st (mJ7_remove [zvr (some q), v0] h) else none) ∧
  (∀ (a : Int) (L st : List ZV) (h : PH), zev kX1_undo 227 L (zvi a :: st) h = zev kX1_undo 228 L st h) ∧
  (∀ (a : Option Nat) (L st : List ZV) (h : PH), zev kX1_undo 227 L (zvr a :: st) h = zev kX1_undo 228 L st h) ∧
  (∀ (a : Option Nat) (L st : List ZV) (h : PH), zev kX1_undo 228 (zvr a :: L) st h = zev kX1_undo 229 (zvr a :: L) (zvr a :: st) h) ∧
  (∀ (L st : List ZV) (h : PH), zev kX1_undo 229 L st h = zev kX1_undo 230 L (zvi 0 :: st) h) ∧
  (∀ (v0 : ZV) (q : Nat) (L st : List ZV) (h : PH), zev kX1_undo 230 L (v0 :: zvr (some q) :: st) h = if (ph_K h q).1 % 1000 = 16 ∧ zcat st ≤ 8 then zk kX1_undo 230 233 L st (mX1_fine [zvr (some q), v0] h) else none) ∧
  (∀ (a : Int) (L st : List ZV) (h : PH), zev kX1_undo 233 L (zvi a :: st) h = zev kX1_undo 234 L st h) ∧
  (∀ (a : Option Nat) (L st : List ZV) (h : PH), zev kX1_undo 233 L (zvr a :: st) h = zev kX1_undo 234 L st h) ∧
  (∀ (L st : List ZV) (h : PH), zev kX1_undo 234 L st h = zev kX1_undo 235 L (zvi 1 :: st) h) ∧
  (∀ (a : Int) (L : List ZV) (h : PH), zev kX1_undo 235 L [zvi a] h = if a = 0 ∨ a = 1 then zrv (zvi a) h else none) :=
  ⟨fun a L st h => e_ld0R (n := 1) rfl,
  fun q L st h => e_getR (kd := 16) (k := 5) (n := 4) rfl,
  fun L st h => e_null0 (t := 17) (n := 7) rfl,
  fun q L st h => e_null1 (t := 17) (n := 7) rfl,
  fun a L st h => e_ld0R (n := 8) rfl,
  fun q L st h => e_getR (kd := 16) (k := 7) (n := 11) rfl,
  fun q L st h => e_callV1 (F := mJ5_isEmpty) (kd := 30) (n := 14) rfl,
  fun a L st h => e_ifeq (t := 25) (n := 17) rfl,
  fun a L st h => e_ld0R (n := 18) rfl,
  fun L st h => e_push (v := zvi 1) (n := 19) rfl,
  fun v0 q L st h => e_callV2 (F := mX1_refused) (kd := 16) (n := 22) rfl,
  fun a L st h => e_popI (n := 23) rfl,
  fun a L st h => e_popR (n := 23) rfl,
  fun L st h => e_push (v := zvi 0) (n := 24) rfl,
  fun a L h => e_retz rfl,
  fun a L st h => e_ld0R (n := 26) rfl,
  fun q L st h => e_getR (kd := 16) (k := 7) (n := 29) rfl,
  fun q L st h => e_callV1 (F := mJ5_removeLast) (kd := 30) (n := 32) rfl,
  fun L st h => e_cast0 (ok := zokAct) (n := 35) rfl,
  fun q L st h => e_cast1 (ok := zokAct) (n := 35) rfl,
  fun x0 x1 a L st h hx => e_st1R (n := 36) rfl hx,
  fun x0 a L st h => e_ld1R (n := 37) rfl,
  fun q L st h => e_callV1 (F := mX14_what) (kd := 23) (n := 40) rfl,
  fun a L st h => e_sw (lo := 0) (hi := 3) (ts := [72, 109, 137, 164]) (d := 191) rfl,
  fun a L st h => e_ld0R (n := 73) rfl,
  fun a L st h => e_ld0R (n := 74) rfl,
  fun q L st h => e_getR (kd := 16) (k := 5) (n := 77) rfl,
  fun q L st h => e_getR (kd := 20) (k := 4) (n := 80) rfl,
  fun x0 a L st h => e_ld1R (n := 81) rfl,
  fun q L st h => e_callV1 (F := mX14_which) (kd := 23) (n := 84) rfl,
  fun v0 q L st h => e_callV2 (F := mJ7_get) (kd := 29) (n := 87) rfl,
  fun L st h => e_cast0 (ok := zokDep) (n := 90) rfl,
  fun q L st h => e_cast1 (ok := zokDep) (n := 90) rfl,
  fun x0 a L st h => e_ld1R (n := 91) rfl,
  fun q L st h => e_callV1 (F := mX14_had) (kd := 23) (n := 94) rfl,
  fun L st h => e_push (v := zvi 1) (n := 95) rfl,
  fun a b L st h => e_cmpne (t := 102) (n := 98) rfl,
  fun L st h => e_push (v := zvi 1) (n := 99) rfl,
  fun L st h => e_goto (t := 103) rfl,
  fun L st h => e_push (v := zvi 0) (n := 103) rfl,
  fun v0 v1 q L st h => e_callV3 (F := mX1_sets) (kd := 16) (n := 106) rfl,
  fun L st h => e_goto (t := 228) rfl,
  fun a L st h => e_ld0R (n := 110) rfl,
  fun a L st h => e_ld0R (n := 111) rfl,
  fun q L st h => e_getR (kd := 16) (k := 5) (n := 114) rfl,
  fun q L st h => e_getR (kd := 20) (k := 4) (n := 117) rfl,
  fun x0 a L st h => e_ld1R (n := 118) rfl,
  fun q L st h => e_callV1 (F := mX14_which) (kd := 23) (n := 121) rfl,
  fun v0 q L st h => e_callV2 (F := mJ7_get) (kd := 29) (n := 124) rfl,
  fun L st h => e_cast0 (ok := zokDep) (n := 127) rfl,
  fun q L st h => e_cast1 (ok := zokDep) (n := 127) rfl,
  fun x0 a L st h => e_ld1R (n := 128) rfl,
  fun q L st h => e_callV1 (F := mX14_had) (kd := 23) (n := 131) rfl,
  fun v0 v1 q L st h => e_callV3 (F := mX1_late) (kd := 16) (n := 134) rfl,
  fun L st h => e_goto (t := 228) rfl,
  fun a L st h => e_ld0R (n := 138) rfl,
  fun q L st h => e_getR (kd := 16) (k := 5) (n := 141) rfl,
  fun q L st h => e_getR (kd := 20) (k := 2) (n := 144) rfl,
  fun x0 a L st h => e_ld1R (n := 145) rfl,
  fun q L st h => e_callV1 (F := mX14_which) (kd := 23) (n := 148) rfl,
  fun v0 q L st h => e_callV2 (F := mJ7_get) (kd := 29) (n := 151) rfl,
  fun L st h => e_cast0 (ok := zokSpot) (n := 154) rfl,
  fun q L st h => e_cast1 (ok := zokSpot) (n := 154) rfl,
  fun x0 a L st h => e_ld1R (n := 155) rfl,
  fun q L st h => e_callV1 (F := mX14_had) (kd := 23) (n := 158) rfl,
  fun a q L st h => e_putI (kd := 21) (k := 1) (n := 161) rfl,
  fun L st h => e_goto (t := 228) rfl,
  fun a L st h => e_ld0R (n := 165) rfl,
  fun q L st h => e_getR (kd := 16) (k := 5) (n := 168) rfl,
  fun q L st h => e_getR (kd := 20) (k := 2) (n := 171) rfl,
  fun x0 a L st h => e_ld1R (n := 172) rfl,
  fun q L st h => e_callV1 (F := mX14_which) (kd := 23) (n := 175) rfl,
  fun v0 q L st h => e_callV2 (F := mJ7_get) (kd := 29) (n := 178) rfl,
  fun L st h => e_cast0 (ok := zokSpot) (n := 181) rfl,
  fun q L st h => e_cast1 (ok := zokSpot) (n := 181) rfl,
  fun x0 a L st h => e_ld1R (n := 182) rfl,
  fun q L st h => e_callV1 (F := mX14_had) (kd := 23) (n := 185) rfl,
  fun a q L st h => e_putI (kd := 21) (k := 2) (n := 188) rfl,
  fun L st h => e_goto (t := 228) rfl,
  fun a L st h => e_ld0R (n := 192) rfl,
  fun a L st h => e_ld0R (n := 193) rfl,
  fun q L st h => e_getR (kd := 16) (k := 5) (n := 196) rfl,
  fun q L st h => e_getR (kd := 20) (k := 4) (n := 199) rfl,
  fun x0 a L st h => e_ld1R (n := 200) rfl,
  fun q L st h => e_callV1 (F := mX14_which) (kd := 23) (n := 203) rfl,
  fun v0 q L st h => e_callV2 (F := mJ7_get) (kd := 29) (n := 206) rfl,
  fun L st h => e_cast0 (ok := zokDep) (n := 209) rfl,
  fun q L st h => e_cast1 (ok := zokDep) (n := 209) rfl,
  fun L st h => e_push (v := zvi 0) (n := 210) rfl,
  fun v0 v1 q L st h => e_callV3 (F := mX1_sets) (kd := 16) (n := 213) rfl,
  fun a L st h => e_ld0R (n := 214) rfl,
  fun q L st h => e_getR (kd := 16) (k := 5) (n := 217) rfl,
  fun q L st h => e_getR (kd := 20) (k := 4) (n := 220) rfl,
  fun x0 a L st h => e_ld1R (n := 221) rfl,
  fun q L st h => e_callV1 (F := mX14_which) (kd := 23) (n := 224) rfl,
  fun v0 q L st h => e_callV2 (F := mJ7_remove) (kd := 29) (n := 227) rfl,
  fun a L st h => e_popI (n := 228) rfl,
  fun a L st h => e_popR (n := 228) rfl,
  fun a L st h => e_ld0R (n := 229) rfl,
  fun L st h => e_push (v := zvi 0) (n := 230) rfl,
  fun v0 q L st h => e_callV2 (F := mX1_fine) (kd := 16) (n := 233) rfl,
  fun a L st h => e_popI (n := 234) rfl,
  fun a L st h => e_popR (n := 234) rfl,
  fun L st h => e_push (v := zvi 1) (n := 235) rfl,
  fun a L h => e_retz rfl⟩
theorem allX1_undo : zall yX1_undo cX1_undo 2 (some .boolean) 10 kX1_undo.1 :=
  ⟨k_aload_n dX1_undo_0,
  k_getR (C := RX1) (T := TX1) (N := 19) (ci := 0) (k := 5) (ref := "LinkTimes") dX1_undo_1 rfl in_X1 (by decide) q308 (Or.inl rfl) (fun _ _ _ => rfl),
  k_null (t := 17) dX1_undo_4 (by decide),
  k_aload_n dX1_undo_7,
  k_getR (C := RX1) (T := TX1) (N := 19) (ci := 0) (k := 7) (ref := "LinkTimes") dX1_undo_8 rfl in_X1 (by decide) q310 (Or.inl rfl) (fun _ _ _ => rfl),
  k_callV (y2 := yJ5_isEmpty) (C := RJ5) (T0 := TJ5) (ci := 14) dX1_undo_11 sndJ5_isEmpty rfl q1735 q1736 q1737 q135 q1738 (by decide +kernel) ⟨by decide, by decide⟩ (by decide) (by decide),
  k_ifeq (t := 25) dX1_undo_14 (by decide),
  k_aload_n dX1_undo_17,
  k_iconst dX1_undo_18,
  k_callV (y2 := yX1_refused) (C := RX1) (T0 := TX1) (ci := 0) dX1_undo_19 sndX1_refused rfl q378 q380 qs1 q128 q381 (by decide +kernel) ⟨by decide, by decide⟩ (by decide) (by decide),
  k_pop dX1_undo_22,
  k_iconst dX1_undo_23,
  k_zret dX1_undo_24,
  k_aload_n dX1_undo_25,
  k_getR (C := RX1) (T := TX1) (N := 19) (ci := 0) (k := 7) (ref := "LinkTimes") dX1_undo_26 rfl in_X1 (by decide) q310 (Or.inl rfl) (fun _ _ _ => rfl),
  k_callV (y2 := yJ5_removeLast) (C := RJ5) (T0 := TJ5) (ci := 14) dX1_undo_29 sndJ5_removeLast rfl q1739 q1740 q1741 q135 q1742 (by decide +kernel) ⟨by decide, by decide⟩ (by decide) (by decide),
  k_cast (nm := "LinkTimes$Act") dX1_undo_32 q1637 zokAct_can,
  k_astore_n dX1_undo_35,
  k_aload_n dX1_undo_36,
  k_callV (y2 := yX14_what) (C := RX14) (T0 := TX14) (ci := 7) dX1_undo_37 sndX14_what rfl q1750 q1751 q1752 q170 q1753 (by decide +kernel) ⟨by decide, by decide⟩ (by decide) (by decide),
  k_sw (ts := [72, 109, 137, 164]) (dt := 191) dX1_undo_40 (by decide) (by decide) (by decide),
  k_aload_n dX1_undo_72,
  k_aload_n dX1_undo_73,
  k_getR (C := RX1) (T := TX1) (N := 19) (ci := 0) (k := 5) (ref := "LinkTimes") dX1_undo_74 rfl in_X1 (by decide) q308 (Or.inl rfl) (fun _ _ _ => rfl),
  k_getRN (C := RX6) (T := TX6) (N := 5) (ci := 4) (k := 4) (ref := "LinkTimes$Desk") dX1_undo_77 rfl in_X6 (by decide) q430 (Or.inl rfl) (fun _ _ _ => rfl),
  k_aload_n dX1_undo_80,
  k_callV (y2 := yX14_which) (C := RX14) (T0 := TX14) (ci := 7) dX1_undo_81 sndX14_which rfl q1754 q1755 q1756 q170 q1757 (by decide +kernel) ⟨by decide, by decide⟩ (by decide) (by decide),
  k_callV (y2 := yJ7_get) (C := RJ7) (T0 := TJ7) (ci := 13) dX1_undo_84 sndJ7_get rfl q937 q695 q696 q141 q697 (by decide +kernel) ⟨by decide, by decide⟩ (by decide) (by decide),
  k_cast (nm := "LinkTimes$Departure") dX1_undo_87 q938 zokDep_can,
  k_aload_n dX1_undo_90,
  k_callV (y2 := yX14_had) (C := RX14) (T0 := TX14) (ci := 7) dX1_undo_91 sndX14_had rfl q1758 q1759 q1760 q170 q1761 (by decide +kernel) ⟨by decide, by decide⟩ (by decide) (by decide),
  k_iconst dX1_undo_94,
  k_cmpne (t := 102) dX1_undo_95 (by decide),
  k_iconst dX1_undo_98,
  k_goto (t := 103) dX1_undo_99 (by decide),
  k_iconst dX1_undo_102,
  k_callV (y2 := yX1_sets) (C := RX1) (T0 := TX1) (ci := 0) dX1_undo_103 sndX1_sets rfl q1671 q1673 qs63 q128 q1674 (by decide +kernel) ⟨by decide, by decide⟩ (by decide) (by decide),
  k_goto (t := 228) dX1_undo_106 (by decide),
  k_aload_n dX1_undo_109,
  k_aload_n dX1_undo_110,
  k_getR (C := RX1) (T := TX1) (N := 19) (ci := 0) (k := 5) (ref := "LinkTimes") dX1_undo_111 rfl in_X1 (by decide) q308 (Or.inl rfl) (fun _ _ _ => rfl),
  k_getRN (C := RX6) (T := TX6) (N := 5) (ci := 4) (k := 4) (ref := "LinkTimes$Desk") dX1_undo_114 rfl in_X6 (by decide) q430 (Or.inl rfl) (fun _ _ _ => rfl),
  k_aload_n dX1_undo_117,
  k_callV (y2 := yX14_which) (C := RX14) (T0 := TX14) (ci := 7) dX1_undo_118 sndX14_which rfl q1754 q1755 q1756 q170 q1757 (by decide +kernel) ⟨by decide, by decide⟩ (by decide) (by decide),
  k_callV (y2 := yJ7_get) (C := RJ7) (T0 := TJ7) (ci := 13) dX1_undo_121 sndJ7_get rfl q937 q695 q696 q141 q697 (by decide +kernel) ⟨by decide, by decide⟩ (by decide) (by decide),
  k_cast (nm := "LinkTimes$Departure") dX1_undo_124 q938 zokDep_can,
  k_aload_n dX1_undo_127,
  k_callV (y2 := yX14_had) (C := RX14) (T0 := TX14) (ci := 7) dX1_undo_128 sndX14_had rfl q1758 q1759 q1760 q170 q1761 (by decide +kernel) ⟨by decide, by decide⟩ (by decide) (by decide),
  k_callV (y2 := yX1_late) (C := RX1) (T0 := TX1) (ci := 0) dX1_undo_131 sndX1_late rfl q1713 q1715 qs66 q128 q1716 (by decide +kernel) ⟨by decide, by decide⟩ (by decide) (by decide),
  k_goto (t := 228) dX1_undo_134 (by decide),
  k_aload_n dX1_undo_137,
  k_getR (C := RX1) (T := TX1) (N := 19) (ci := 0) (k := 5) (ref := "LinkTimes") dX1_undo_138 rfl in_X1 (by decide) q308 (Or.inl rfl) (fun _ _ _ => rfl),
  k_getRN (C := RX6) (T := TX6) (N := 5) (ci := 4) (k := 2) (ref := "LinkTimes$Desk") dX1_undo_141 rfl in_X6 (by decide) q423 (Or.inl rfl) (fun _ _ _ => rfl),
  k_aload_n dX1_undo_144,
  k_callV (y2 := yX14_which) (C := RX14) (T0 := TX14) (ci := 7) dX1_undo_145 sndX14_which rfl q1754 q1755 q1756 q170 q1757 (by decide +kernel) ⟨by decide, by decide⟩ (by decide) (by decide),
  k_callV (y2 := yJ7_get) (C := RJ7) (T0 := TJ7) (ci := 13) dX1_undo_148 sndJ7_get rfl q937 q695 q696 q141 q697 (by decide +kernel) ⟨by decide, by decide⟩ (by decide) (by decide),
  k_cast (nm := "LinkTimes$Spot") dX1_undo_151 q1246 zokSpot_can,
  k_aload_n dX1_undo_154,
  k_callV (y2 := yX14_had) (C := RX14) (T0 := TX14) (ci := 7) dX1_undo_155 sndX14_had rfl q1758 q1759 q1760 q170 q1761 (by decide +kernel) ⟨by decide, by decide⟩ (by decide) (by decide),
  k_putI (C := RX10) (T := TX10) (N := 3) (ci := 5) (k := 1) (ref := "LinkTimes$Spot") dX1_undo_158 rfl in_X10 tyX10 tyX10_ok nmX10 (by decide) (Or.inr ⟨"LinkTimes", q728⟩) (Or.inl rfl) (Or.inl rfl) (tyX10_ok 1 (by decide)) (fun _ _ _ => rfl),
  k_goto (t := 228) dX1_undo_161 (by decide),
  k_aload_n dX1_undo_164,
  k_getR (C := RX1) (T := TX1) (N := 19) (ci := 0) (k := 5) (ref := "LinkTimes") dX1_undo_165 rfl in_X1 (by decide) q308 (Or.inl rfl) (fun _ _ _ => rfl),
  k_getRN (C := RX6) (T := TX6) (N := 5) (ci := 4) (k := 2) (ref := "LinkTimes$Desk") dX1_undo_168 rfl in_X6 (by decide) q423 (Or.inl rfl) (fun _ _ _ => rfl),
  k_aload_n dX1_undo_171,
  k_callV (y2 := yX14_which) (C := RX14) (T0 := TX14) (ci := 7) dX1_undo_172 sndX14_which rfl q1754 q1755 q1756 q170 q1757 (by decide +kernel) ⟨by decide, by decide⟩ (by decide) (by decide),
  k_callV (y2 := yJ7_get) (C := RJ7) (T0 := TJ7) (ci := 13) dX1_undo_175 sndJ7_get rfl q937 q695 q696 q141 q697 (by decide +kernel) ⟨by decide, by decide⟩ (by decide) (by decide),
  k_cast (nm := "LinkTimes$Spot") dX1_undo_178 q1246 zokSpot_can,
  k_aload_n dX1_undo_181,
  k_callV (y2 := yX14_had) (C := RX14) (T0 := TX14) (ci := 7) dX1_undo_182 sndX14_had rfl q1758 q1759 q1760 q170 q1761 (by decide +kernel) ⟨by decide, by decide⟩ (by decide) (by decide),
  k_putI (C := RX10) (T := TX10) (N := 3) (ci := 5) (k := 2) (ref := "LinkTimes$Spot") dX1_undo_185 rfl in_X10 tyX10 tyX10_ok nmX10 (by decide) (Or.inr ⟨"LinkTimes", q731⟩) (Or.inl rfl) (Or.inl rfl) (tyX10_ok 2 (by decide)) (fun _ _ _ => rfl),
  k_goto (t := 228) dX1_undo_188 (by decide),
  k_aload_n dX1_undo_191,
  k_aload_n dX1_undo_192,
  k_getR (C := RX1) (T := TX1) (N := 19) (ci := 0) (k := 5) (ref := "LinkTimes") dX1_undo_193 rfl in_X1 (by decide) q308 (Or.inl rfl) (fun _ _ _ => rfl),
  k_getRN (C := RX6) (T := TX6) (N := 5) (ci := 4) (k := 4) (ref := "LinkTimes$Desk") dX1_undo_196 rfl in_X6 (by decide) q430 (Or.inl rfl) (fun _ _ _ => rfl),
  k_aload_n dX1_undo_199,
  k_callV (y2 := yX14_which) (C := RX14) (T0 := TX14) (ci := 7) dX1_undo_200 sndX14_which rfl q1754 q1755 q1756 q170 q1757 (by decide +kernel) ⟨by decide, by decide⟩ (by decide) (by decide),
  k_callV (y2 := yJ7_get) (C := RJ7) (T0 := TJ7) (ci := 13) dX1_undo_203 sndJ7_get rfl q937 q695 q696 q141 q697 (by decide +kernel) ⟨by decide, by decide⟩ (by decide) (by decide),
  k_cast (nm := "LinkTimes$Departure") dX1_undo_206 q938 zokDep_can,
  k_iconst dX1_undo_209,
  k_callV (y2 := yX1_sets) (C := RX1) (T0 := TX1) (ci := 0) dX1_undo_210 sndX1_sets rfl q1671 q1673 qs63 q128 q1674 (by decide +kernel) ⟨by decide, by decide⟩ (by decide) (by decide),
  k_aload_n dX1_undo_213,
  k_getR (C := RX1) (T := TX1) (N := 19) (ci := 0) (k := 5) (ref := "LinkTimes") dX1_undo_214 rfl in_X1 (by decide) q308 (Or.inl rfl) (fun _ _ _ => rfl),
  k_getRN (C := RX6) (T := TX6) (N := 5) (ci := 4) (k := 4) (ref := "LinkTimes$Desk") dX1_undo_217 rfl in_X6 (by decide) q430 (Or.inl rfl) (fun _ _ _ => rfl),
  k_aload_n dX1_undo_220,
  k_callV (y2 := yX14_which) (C := RX14) (T0 := TX14) (ci := 7) dX1_undo_221 sndX14_which rfl q1754 q1755 q1756 q170 q1757 (by decide +kernel) ⟨by decide, by decide⟩ (by decide) (by decide),
  k_callV (y2 := yJ7_remove) (C := RJ7) (T0 := TJ7) (ci := 13) dX1_undo_224 sndJ7_remove rfl q1762 q1763 q1764 q141 q1765 (by decide +kernel) ⟨by decide, by decide⟩ (by decide) (by decide),
  k_pop dX1_undo_227,
  k_aload_n dX1_undo_228,
  k_iconst dX1_undo_229,
  k_callV (y2 := yX1_fine) (C := RX1) (T0 := TX1) (ci := 0) dX1_undo_230 sndX1_fine rfl q1211 q1213 qs32 q128 q1214 (by decide +kernel) ⟨by decide, by decide⟩ (by decide) (by decide),
  k_pop dX1_undo_233,
  k_iconst dX1_undo_234,
  k_zret dX1_undo_235, trivial⟩
theorem sndX1_undo : MSound 10 yX1_undo (ws_ yX1_undo cX1_undo 2 (some .boolean)) mX1_undo := msound_M (by decide) allX1_undo (fun _ _ => rfl)
/-! LinkTimes.lateOnes()I -/
noncomputable def kX1_lateOnes : ZM := ([(0, zi_push (zvi 0) 1), (1, zi_st 0 1 2), (2, zi_push (zvi 0) 3), (3, zi_st 0 2 4), (4, zi_ld 0 2 5), (5, zi_ld 1 0 6), (6, zi_getR 16 5 9), (9, zi_getR 20 4 12), (12, zi_callV mJ7_size 29 1 15), (15, zi_cmp zc_ge 47 18), (18, zi_ld 1 0 19), (19, zi_getR 16 5 22), (22, zi_getR 20 4 25), (25, zi_ld 0 2 26), (26, zi_callV mJ7_get 29 2 29), (29, zi_cast zokDep 32), (32, zi_getI 22 7 35), (35, zi_if (fun a => zc_le a 0) 41 38), (38, zi_iinc 1 1 41), (41, zi_iinc 2 1 44), (44, zi_goto 4), (47, zi_ld 0 1 48), (48, zi_retv 0)], fun _ _ => none)
noncomputable def mX1_lateOnes : ZF := zrunM kX1_lateOnes 3
theorem enX1_lateOnes (x0 : Option Nat) (h : PH) : mX1_lateOnes [zvr x0] h = zev kX1_lateOnes 0 [zvr x0, zvu, zvu] [] h := zrunM_eq rfl rfl
theorem hdX1_lateOnes_4 (x0 x1 : ZV) (a : Int) (L st : List ZV) (h : PH) : zev kX1_lateOnes 4 (x0 :: x1 :: zvi a :: L) st h = zev kX1_lateOnes 5 (x0 :: x1 :: zvi a :: L) (zvi a :: st) h := e_ld2I (n := 5) rfl
theorem rX1_lateOnes : (∀ (L st : List ZV) (h : PH), zev kX1_lateOnes 0 L st h = zev kX1_lateOnes 1 L (zvi 0 :: st) h) ∧
  (∀ (x0 x1 : ZV) (a : Int) (L st : List ZV) (h : PH) (hx : zisL x0 = false) , zev kX1_lateOnes 1 (x0 :: x1 :: L) (zvi a :: st) h = zev kX1_lateOnes 2 (x0 :: zvi a :: L) st h) ∧
  (∀ (L st : List ZV) (h : PH), zev kX1_lateOnes 2 L st h = zev kX1_lateOnes 3 L (zvi 0 :: st) h) ∧
  (∀ (x0 x1 x2 : ZV) (a : Int) (L st : List ZV) (h : PH) (hx : zisL x1 = false) , zev kX1_lateOnes 3 (x0 :: x1 :: x2 :: L) (zvi a :: st) h = zev kX1_lateOnes 4 (x0 :: x1 :: zvi a :: L) st h) ∧
  (∀ (a : Option Nat) (L st : List ZV) (h : PH), zev kX1_lateOnes 5 (zvr a :: L) st h = zev kX1_lateOnes 6 (zvr a :: L) (zvr a :: st) h) ∧
  (∀ (q : Nat) (L st : List ZV) (h : PH), zev kX1_lateOnes 6 L (zvr (some q) :: st) h = if (ph_K h q).1 % 1000 = 16 then zev kX1_lateOnes 9 L (zvr (ph_R h q 5) :: st) h else none) ∧
  (∀ (q : Nat) (L st : List ZV) (h : PH), zev kX1_lateOnes 9 L (zvr (some q) :: st) h = if (ph_K h q).1 % 1000 = 20 then zev kX1_lateOnes 12 L (zvr (ph_R h q 4) :: st) h else none) ∧
  (∀ (q : Nat) (L st : List ZV) (h : PH), zev kX1_lateOnes 12 L (zvr (some q) :: st) h = if (ph_K h q).1 % 1000 = 29 ∧ zcat st ≤ 8 then zk kX1_lateOnes 12 15 L st (mJ7_size [zvr (some q)] h) else none) ∧
  (∀ (a b : Int) (L st : List ZV) (h : PH), zev kX1_lateOnes 15 L (zvi b :: zvi a :: st) h = if a ≥ b then zev kX1_lateOnes 47 L st h else zev kX1_lateOnes 18 L st h) ∧
  (∀ (a : Option Nat) (L st : List ZV) (h : PH), zev kX1_lateOnes 18 (zvr a :: L) st h = zev kX1_lateOnes 19 (zvr a :: L) (zvr a :: st) h) ∧
  (∀ (q : Nat) (L st : List ZV) (h : PH), zev kX1_lateOnes 19 L (zvr (some q) :: st) h = if (ph_K h q).1 % 1000 = 16 then zev kX1_lateOnes 22 L (zvr (ph_R h q 5) :: st) h else none) ∧
  (∀ (q : Nat) (L st : List ZV) (h : PH), zev kX1_lateOnes 22 L (zvr (some q) :: st) h = if (ph_K h q).1 % 1000 = 20 then zev kX1_lateOnes 25 L (zvr (ph_R h q 4) :: st) h else none) ∧
  (∀ (x0 x1 : ZV) (a : Int) (L st : List ZV) (h : PH), zev kX1_lateOnes 25 (x0 :: x1 :: zvi a :: L) st h = zev kX1_lateOnes 26 (x0 :: x1 :: zvi a :: L) (zvi a :: st) h) ∧
  (∀ (v0 : ZV) (q : Nat) (L st : List ZV) (h : PH), zev kX1_lateOnes 26 L (v0 :: zvr (some q) :: st) h = if (ph_K h q).1 % 1000 = 29 ∧ zcat st ≤ 8 then zk kX1_lateOnes 26 29 L st (mJ7_get [zvr (some q), v0] h) else none) ∧
  (∀ (L st : List ZV) (h : PH), zev kX1_lateOnes 29 L (zvr none :: st) h = zev kX1_lateOnes 32 L (zvr none :: st) h) ∧
  (∀ (q : Nat) (L st : List ZV) (h : PH), zev kX1_lateOnes 29 L (zvr (some q) :: st) h = if zokDep (ph_K h q).1 = true then zev kX1_lateOnes 32 L (zvr (some q) :: st) h else none) ∧
  (∀ (q : Nat) (L st : List ZV) (h : PH), zev kX1_lateOnes 32 L (zvr (some q) :: st) h = if (ph_K h q).1 % 1000 = 22 then zev kX1_lateOnes 35 L (zvi (ph_I h q 7) :: st) h else none) ∧
  (∀ (a : Int) (L st : List ZV) (h : PH), zev kX1_lateOnes 35 L (zvi a :: st) h = if a ≤ 0 then zev kX1_lateOnes 41 L st h else zev kX1_lateOnes 38 L st h) ∧
  (∀ (x0 : ZV) (a : Int) (L st : List ZV) (h : PH) (hx : zisL x0 = false) , zev kX1_lateOnes 38 (x0 :: zvi a :: L) st h = zev kX1_lateOnes 41 (x0 :: zvi (w32 (a + 1)) :: L) st h) ∧
  (∀ (x0 x1 : ZV) (a : Int) (L st : List ZV) (h : PH) (hx : zisL x1 = false) , zev kX1_lateOnes 41 (x0 :: x1 :: zvi a :: L) st h = zev kX1_lateOnes 44 (x0 :: x1 :: zvi (w32 (a + 1)) :: L) st h) ∧
  (∀ (L st : List ZV) (h : PH), zev kX1_lateOnes 44 L st h = zev kX1_lateOnes 4 L st h) ∧
  (∀ (x0 : ZV) (a : Int) (L st : List ZV) (h : PH), zev kX1_lateOnes 47 (x0 :: zvi a :: L) st h = zev kX1_lateOnes 48 (x0 :: zvi a :: L) (zvi a :: st) h) ∧
  (∀ (a : Int) (L : List ZV) (h : PH), zev kX1_lateOnes 48 L [zvi a] h = zrv (zvi a) h) :=
  ⟨fun L st h => e_push (v := zvi 0) (n := 1) rfl,
  fun x0 x1 a L st h hx => e_st1I (n := 2) rfl hx,
  fun L st h => e_push (v := zvi 0) (n := 3) rfl,
  fun x0 x1 x2 a L st h hx => e_st2I (n := 4) rfl hx,
  fun a L st h => e_ld0R (n := 6) rfl,
  fun q L st h => e_getR (kd := 16) (k := 5) (n := 9) rfl,
  fun q L st h => e_getR (kd := 20) (k := 4) (n := 12) rfl,
  fun q L st h => e_callV1 (F := mJ7_size) (kd := 29) (n := 15) rfl,
  fun a b L st h => e_cmpge (t := 47) (n := 18) rfl,
  fun a L st h => e_ld0R (n := 19) rfl,
  fun q L st h => e_getR (kd := 16) (k := 5) (n := 22) rfl,
  fun q L st h => e_getR (kd := 20) (k := 4) (n := 25) rfl,
  fun x0 x1 a L st h => e_ld2I (n := 26) rfl,
  fun v0 q L st h => e_callV2 (F := mJ7_get) (kd := 29) (n := 29) rfl,
  fun L st h => e_cast0 (ok := zokDep) (n := 32) rfl,
  fun q L st h => e_cast1 (ok := zokDep) (n := 32) rfl,
  fun q L st h => e_getI (kd := 22) (k := 7) (n := 35) rfl,
  fun a L st h => e_ifle (t := 41) (n := 38) rfl,
  fun x0 a L st h hx => e_iinc1 (d := 1) (n := 41) rfl hx,
  fun x0 x1 a L st h hx => e_iinc2 (d := 1) (n := 44) rfl hx,
  fun L st h => e_goto (t := 4) rfl,
  fun x0 a L st h => e_ld1I (n := 48) rfl,
  fun a L h => e_retI rfl⟩
theorem allX1_lateOnes : zall yX1_lateOnes cX1_lateOnes 3 (some .int) 4 kX1_lateOnes.1 :=
  ⟨k_iconst dX1_lateOnes_0,
  k_istore_n dX1_lateOnes_1,
  k_iconst dX1_lateOnes_2,
  k_istore_n dX1_lateOnes_3,
  k_iload_n dX1_lateOnes_4,
  k_aload_n dX1_lateOnes_5,
  k_getR (C := RX1) (T := TX1) (N := 19) (ci := 0) (k := 5) (ref := "LinkTimes") dX1_lateOnes_6 rfl in_X1 (by decide) q308 (Or.inl rfl) (fun _ _ _ => rfl),
  k_getRN (C := RX6) (T := TX6) (N := 5) (ci := 4) (k := 4) (ref := "LinkTimes$Desk") dX1_lateOnes_9 rfl in_X6 (by decide) q430 (Or.inl rfl) (fun _ _ _ => rfl),
  k_callV (y2 := yJ7_size) (C := RJ7) (T0 := TJ7) (ci := 13) dX1_lateOnes_12 sndJ7_size rfl q936 q652 q653 q141 q654 (by decide +kernel) ⟨by decide, by decide⟩ (by decide) (by decide),
  k_cmpge (t := 47) dX1_lateOnes_15 (by decide),
  k_aload_n dX1_lateOnes_18,
  k_getR (C := RX1) (T := TX1) (N := 19) (ci := 0) (k := 5) (ref := "LinkTimes") dX1_lateOnes_19 rfl in_X1 (by decide) q308 (Or.inl rfl) (fun _ _ _ => rfl),
  k_getRN (C := RX6) (T := TX6) (N := 5) (ci := 4) (k := 4) (ref := "LinkTimes$Desk") dX1_lateOnes_22 rfl in_X6 (by decide) q430 (Or.inl rfl) (fun _ _ _ => rfl),
  k_iload_n dX1_lateOnes_25,
  k_callV (y2 := yJ7_get) (C := RJ7) (T0 := TJ7) (ci := 13) dX1_lateOnes_26 sndJ7_get rfl q937 q695 q696 q141 q697 (by decide +kernel) ⟨by decide, by decide⟩ (by decide) (by decide),
  k_cast (nm := "LinkTimes$Departure") dX1_lateOnes_29 q938 zokDep_can,
  k_getIN (C := RX11) (T := TX11) (N := 9) (ci := 6) (k := 7) (ref := "LinkTimes$Departure") dX1_lateOnes_32 rfl in_X11 (by decide) q868 (Or.inl rfl) (fun _ _ _ => rfl),
  k_ifle (t := 41) dX1_lateOnes_35 (by decide),
  k_iinc dX1_lateOnes_38,
  k_iinc dX1_lateOnes_41,
  k_goto (t := 4) dX1_lateOnes_44 (by decide),
  k_iload_n dX1_lateOnes_47,
  k_iret dX1_lateOnes_48, trivial⟩
theorem sndX1_lateOnes : MSound 4 yX1_lateOnes (ws_ yX1_lateOnes cX1_lateOnes 3 (some .int)) mX1_lateOnes := msound_M (by decide) allX1_lateOnes (fun _ _ => rfl)
/-! LinkTimes.size(I)I -/
noncomputable def kX1_size : ZM := ([(0, zi_ld 0 1 1), (1, zi_sw 0 2 [28, 33, 41] 57), (28, zi_ld 1 0 29), (29, zi_getI 16 3 32), (32, zi_retv 0), (33, zi_ld 1 0 34), (34, zi_getR 16 7 37), (37, zi_callV mJ5_size 30 1 40), (40, zi_retv 0), (41, zi_ld 1 0 42), (42, zi_getR 16 5 45), (45, zi_nonnull 52 48), (48, zi_push (zvi 0) 49), (49, zi_goto 56), (52, zi_ld 1 0 53), (53, zi_callV mX1_lateOnes 16 1 56), (56, zi_retv 0), (57, zi_push (zvi (-1)) 58), (58, zi_retv 0)], fun _ _ => none)
noncomputable def mX1_size : ZF := zrunM kX1_size 2
theorem enX1_size (x0 : Option Nat) (x1 : Int) (h : PH) : mX1_size [zvr x0, zvi x1] h = zev kX1_size 0 [zvr x0, zvi x1] [] h := zrunM_eq rfl rfl
theorem rX1_size : (∀ (x0 : ZV) (a : Int) (L st : List ZV) (h : PH), zev kX1_size 0 (x0 :: zvi a :: L) st h = zev kX1_size 1 (x0 :: zvi a :: L) (zvi a :: st) h) ∧
  (∀ (a : Int) (L st : List ZV) (h : PH), zev kX1_size 1 L (zvi a :: st) h = zev kX1_size (zswt 0 2 [28, 33, 41] 57 a) L st h) ∧
  (∀ (a : Option Nat) (L st : List ZV) (h : PH), zev kX1_size 28 (zvr a :: L) st h = zev kX1_size 29 (zvr a :: L) (zvr a :: st) h) ∧
  (∀ (q : Nat) (L st : List ZV) (h : PH), zev kX1_size 29 L (zvr (some q) :: st) h = if (ph_K h q).1 % 1000 = 16 then zev kX1_size 32 L (zvi (ph_I h q 3) :: st) h else none) ∧
  (∀ (a : Int) (L : List ZV) (h : PH), zev kX1_size 32 L [zvi a] h = zrv (zvi a) h) ∧
  (∀ (a : Option Nat) (L st : List ZV) (h : PH), zev kX1_size 33 (zvr a :: L) st h = zev kX1_size 34 (zvr a :: L) (zvr a :: st) h) ∧
  (∀ (q : Nat) (L st : List ZV) (h : PH), zev kX1_size 34 L (zvr (some q) :: st) h = if (ph_K h q).1 % 1000 = 16 then zev kX1_size 37 L (zvr (ph_R h q 7) :: st) h else none) ∧
  (∀ (q : Nat) (L st : List ZV) (h : PH), zev kX1_size 37 L (zvr (some q) :: st) h = if (ph_K h q).1 % 1000 = 30 ∧ zcat st ≤ 8 then zk kX1_size 37 40 L st (mJ5_size [zvr (some q)] h) else none) ∧
  (∀ (a : Int) (L : List ZV) (h : PH), zev kX1_size 40 L [zvi a] h = zrv (zvi a) h) ∧
  (∀ (a : Option Nat) (L st : List ZV) (h : PH), zev kX1_size 41 (zvr a :: L) st h = zev kX1_size 42 (zvr a :: L) (zvr a :: st) h) ∧
  (∀ (q : Nat) (L st : List ZV) (h : PH), zev kX1_size 42 L (zvr (some q) :: st) h = if (ph_K h q).1 % 1000 = 16 then zev kX1_size 45 L (zvr (ph_R h q 5) :: st) h else none) ∧
  (∀ (L st : List ZV) (h : PH), zev kX1_size 45 L (zvr none :: st) h = zev kX1_size 48 L st h) ∧
  (∀ (q : Nat) (L st : List ZV) (h : PH), zev kX1_size 45 L (zvr (some q) :: st) h = if (ph_K h q).1 ≠ 0 then zev kX1_size 52 L st h else none) ∧
  (∀ (L st : List ZV) (h : PH), zev kX1_size 48 L st h = zev kX1_size 49 L (zvi 0 :: st) h) ∧
  (∀ (L st : List ZV) (h : PH), zev kX1_size 49 L st h = zev kX1_size 56 L st h) ∧
  (∀ (a : Option Nat) (L st : List ZV) (h : PH), zev kX1_size 52 (zvr a :: L) st h = zev kX1_size 53 (zvr a :: L) (zvr a :: st) h) ∧
  (∀ (q : Nat) (L st : List ZV) (h : PH), zev kX1_size 53 L (zvr (some q) :: st) h = if (ph_K h q).1 % 1000 = 16 ∧ zcat st ≤ 8 then zk kX1_size 53 56 L st (mX1_lateOnes [zvr (some q)] h) else none) ∧
  (∀ (a : Int) (L : List ZV) (h : PH), zev kX1_size 56 L [zvi a] h = zrv (zvi a) h) ∧
  (∀ (L st : List ZV) (h : PH), zev kX1_size 57 L st h = zev kX1_size 58 L (zvi (-1) :: st) h) ∧
  (∀ (a : Int) (L : List ZV) (h : PH), zev kX1_size 58 L [zvi a] h = zrv (zvi a) h) :=
  ⟨fun x0 a L st h => e_ld1I (n := 1) rfl,
  fun a L st h => e_sw (lo := 0) (hi := 2) (ts := [28, 33, 41]) (d := 57) rfl,
  fun a L st h => e_ld0R (n := 29) rfl,
  fun q L st h => e_getI (kd := 16) (k := 3) (n := 32) rfl,
  fun a L h => e_retI rfl,
  fun a L st h => e_ld0R (n := 34) rfl,
  fun q L st h => e_getR (kd := 16) (k := 7) (n := 37) rfl,
  fun q L st h => e_callV1 (F := mJ5_size) (kd := 30) (n := 40) rfl,
  fun a L h => e_retI rfl,
  fun a L st h => e_ld0R (n := 42) rfl,
  fun q L st h => e_getR (kd := 16) (k := 5) (n := 45) rfl,
  fun L st h => e_nonnull0 (t := 52) (n := 48) rfl,
  fun q L st h => e_nonnull1 (t := 52) (n := 48) rfl,
  fun L st h => e_push (v := zvi 0) (n := 49) rfl,
  fun L st h => e_goto (t := 56) rfl,
  fun a L st h => e_ld0R (n := 53) rfl,
  fun q L st h => e_callV1 (F := mX1_lateOnes) (kd := 16) (n := 56) rfl,
  fun a L h => e_retI rfl,
  fun L st h => e_push (v := zvi (-1)) (n := 58) rfl,
  fun a L h => e_retI rfl⟩
theorem allX1_size : zall yX1_size cX1_size 2 (some .int) 5 kX1_size.1 :=
  ⟨k_iload_n dX1_size_0,
  k_sw (ts := [28, 33, 41]) (dt := 57) dX1_size_1 (by decide) (by decide) (by decide),
  k_aload_n dX1_size_28,
  k_getI (C := RX1) (T := TX1) (N := 19) (ci := 0) (k := 3) (ref := "LinkTimes") dX1_size_29 rfl in_X1 (by decide) q305 (Or.inl rfl) (fun _ _ _ => rfl),
  k_iret dX1_size_32,
  k_aload_n dX1_size_33,
  k_getR (C := RX1) (T := TX1) (N := 19) (ci := 0) (k := 7) (ref := "LinkTimes") dX1_size_34 rfl in_X1 (by decide) q310 (Or.inl rfl) (fun _ _ _ => rfl),
  k_callV (y2 := yJ5_size) (C := RJ5) (T0 := TJ5) (ci := 14) dX1_size_37 sndJ5_size rfl q1614 q1615 q1616 q135 q1617 (by decide +kernel) ⟨by decide, by decide⟩ (by decide) (by decide),
  k_iret dX1_size_40,
  k_aload_n dX1_size_41,
  k_getR (C := RX1) (T := TX1) (N := 19) (ci := 0) (k := 5) (ref := "LinkTimes") dX1_size_42 rfl in_X1 (by decide) q308 (Or.inl rfl) (fun _ _ _ => rfl),
  k_nonnull (t := 52) dX1_size_45 (by decide),
  k_iconst dX1_size_48,
  k_goto (t := 56) dX1_size_49 (by decide),
  k_aload_n dX1_size_52,
  k_callV (y2 := yX1_lateOnes) (C := RX1) (T0 := TX1) (ci := 0) dX1_size_53 sndX1_lateOnes rfl q1775 q1777 qs68 q128 q1778 (by decide +kernel) ⟨by decide, by decide⟩ (by decide) (by decide),
  k_iret dX1_size_56,
  k_iconst dX1_size_57,
  k_iret dX1_size_58, trivial⟩
theorem sndX1_size : MSound 5 yX1_size (ws_ yX1_size cX1_size 2 (some .int)) mX1_size := msound_M (by decide) allX1_size (fun _ _ => rfl)
/-! LinkTimes.trouble()I -/
noncomputable def kX1_trouble : ZM := ([(0, zi_ld 1 0 1), (1, zi_getI 16 0 4), (4, zi_retv 0)], fun _ _ => none)
noncomputable def mX1_trouble : ZF := zrunM kX1_trouble 1
theorem enX1_trouble (x0 : Option Nat) (h : PH) : mX1_trouble [zvr x0] h = zev kX1_trouble 0 [zvr x0] [] h := zrunM_eq rfl rfl
theorem rX1_trouble : (∀ (a : Option Nat) (L st : List ZV) (h : PH), zev kX1_trouble 0 (zvr a :: L) st h = zev kX1_trouble 1 (zvr a :: L) (zvr a :: st) h) ∧
  (∀ (q : Nat) (L st : List ZV) (h : PH), zev kX1_trouble 1 L (zvr (some q) :: st) h = if (ph_K h q).1 % 1000 = 16 then zev kX1_trouble 4 L (zvi (ph_I h q 0) :: st) h else none) ∧
  (∀ (a : Int) (L : List ZV) (h : PH), zev kX1_trouble 4 L [zvi a] h = zrv (zvi a) h) :=
  ⟨fun a L st h => e_ld0R (n := 1) rfl,
  fun q L st h => e_getI (kd := 16) (k := 0) (n := 4) rfl,
  fun a L h => e_retI rfl⟩
theorem allX1_trouble : zall yX1_trouble cX1_trouble 1 (some .int) 1 kX1_trouble.1 :=
  ⟨k_aload_n dX1_trouble_0,
  k_getI (C := RX1) (T := TX1) (N := 19) (ci := 0) (k := 0) (ref := "LinkTimes") dX1_trouble_1 rfl in_X1 (by decide) q301 (Or.inl rfl) (fun _ _ _ => rfl),
  k_iret dX1_trouble_4, trivial⟩
theorem sndX1_trouble : MSound 1 yX1_trouble (ws_ yX1_trouble cX1_trouble 1 (some .int)) mX1_trouble := msound_M (by decide) allX1_trouble (fun _ _ => rfl)
/-! LinkTimes.still(I)I -/
noncomputable def kX1_still : ZM := ([(0, zi_push (zvi 0) 1), (1, zi_st 0 2 2), (2, zi_push (zvi 0) 3), (3, zi_st 0 3 4), (4, zi_ld 1 0 5), (5, zi_getR 16 5 8), (8, zi_null 62 11), (11, zi_ld 0 3 12), (12, zi_ld 1 0 13), (13, zi_getR 16 5 16), (16, zi_getR 20 2 19), (19, zi_callV mJ7_size 29 1 22), (22, zi_cmp zc_ge 62 25), (25, zi_ld 1 0 26), (26, zi_ld 0 3 27), (27, zi_push (zvi 1) 28), (28, zi_callV mX1_at 16 3 31), (31, zi_if (fun a => zc_gt a 0) 56 34), (34, zi_ld 1 0 35), (35, zi_ld 0 3 36), (36, zi_push (zvi 0) 37), (37, zi_callV mX1_at 16 3 40), (40, zi_if (fun a => zc_le a 0) 46 43), (43, zi_goto 56), (46, zi_ld 0 2 47), (47, zi_ld 0 1 48), (48, zi_cmp zc_ne 53 51), (51, zi_ld 0 3 52), (52, zi_retv 0), (53, zi_iinc 2 1 56), (56, zi_iinc 3 1 59), (59, zi_goto 4), (62, zi_make0 69), (65, zi_stuck), (66, zi_stuck), (69, zi_throw)], fun _ _ => none)
noncomputable def mX1_still : ZF := zrunM kX1_still 4
theorem enX1_still (x0 : Option Nat) (x1 : Int) (h : PH) : mX1_still [zvr x0, zvi x1] h = zev kX1_still 0 [zvr x0, zvi x1, zvu, zvu] [] h := zrunM_eq rfl rfl
theorem hdX1_still_4 (a : Option Nat) (L st : List ZV) (h : PH) : zev kX1_still 4 (zvr a :: L) st h = zev kX1_still 5 (zvr a :: L) (zvr a :: st) h := e_ld0R (n := 5) rfl
theorem rX1_still : (∀ (L st : List ZV) (h : PH), zev kX1_still 0 L st h = zev kX1_still 1 L (zvi 0 :: st) h) ∧
  (∀ (x0 x1 x2 : ZV) (a : Int) (L st : List ZV) (h : PH) (hx : zisL x1 = false) , zev kX1_still 1 (x0 :: x1 :: x2 :: L) (zvi a :: st) h = zev kX1_still 2 (x0 :: x1 :: zvi a :: L) st h) ∧
  (∀ (L st : List ZV) (h : PH), zev kX1_still 2 L st h = zev kX1_still 3 L (zvi 0 :: st) h) ∧
  (∀ (x0 x1 x2 x3 : ZV) (a : Int) (L st : List ZV) (h : PH) (hx : zisL x2 = false) , zev kX1_still 3 (x0 :: x1 :: x2 :: x3 :: L) (zvi a :: st) h = zev kX1_still 4 (x0 :: x1 :: x2 :: zvi a :: L) st h) ∧
  (∀ (q : Nat) (L st : List ZV) (h : PH), zev kX1_still 5 L (zvr (some q) :: st) h = if (ph_K h q).1 % 1000 = 16 then zev kX1_still 8 L (zvr (ph_R h q 5) :: st) h else none) ∧
  (∀ (L st : List ZV) (h : PH), zev kX1_still 8 L (zvr none :: st) h = zev kX1_still 62 L st h) ∧
  (∀ (q : Nat) (L st : List ZV) (h : PH), zev kX1_still 8 L (zvr (some q) :: st) h = if (ph_K h q).1 ≠ 0 then zev kX1_still 11 L st h else none) ∧
  (∀ (x0 x1 x2 : ZV) (a : Int) (L st : List ZV) (h : PH), zev kX1_still 11 (x0 :: x1 :: x2 :: zvi a :: L) st h = zev kX1_still 12 (x0 :: x1 :: x2 :: zvi a :: L) (zvi a :: st) h) ∧
  (∀ (a : Option Nat) (L st : List ZV) (h : PH), zev kX1_still 12 (zvr a :: L) st h = zev kX1_still 13 (zvr a :: L) (zvr a :: st) h) ∧
  (∀ (q : Nat) (L st : List ZV) (h : PH), zev kX1_still 13 L (zvr (some q) :: st) h = if (ph_K h q).1 % 1000 = 16 then zev kX1_still 16 L (zvr (ph_R h q 5) :: st) h else none) ∧
  (∀ (q : Nat) (L st : List ZV) (h : PH), zev kX1_still 16 L (zvr (some q) :: st) h = if (ph_K h q).1 % 1000 = 20 then zev kX1_still 19 L (zvr (ph_R h q 2) :: st) h else none) ∧
  (∀ (q : Nat) (L st : List ZV) (h : PH), zev kX1_still 19 L (zvr (some q) :: st) h = if (ph_K h q).1 % 1000 = 29 ∧ zcat st ≤ 8 then zk kX1_still 19 22 L st (mJ7_size [zvr (some q)] h) else none) ∧
  (∀ (a b : Int) (L st : List ZV) (h : PH), zev kX1_still 22 L (zvi b :: zvi a :: st) h = if a ≥ b then zev kX1_still 62 L st h else zev kX1_still 25 L st h) ∧
  (∀ (a : Option Nat) (L st : List ZV) (h : PH), zev kX1_still 25 (zvr a :: L) st h = zev kX1_still 26 (zvr a :: L) (zvr a :: st) h) ∧
  (∀ (x0 x1 x2 : ZV) (a : Int) (L st : List ZV) (h : PH), zev kX1_still 26 (x0 :: x1 :: x2 :: zvi a :: L) st h = zev kX1_still 27 (x0 :: x1 :: x2 :: zvi a :: L) (zvi a :: st) h) ∧
  (∀ (L st : List ZV) (h : PH), zev kX1_still 27 L st h = zev kX1_still 28 L (zvi 1 :: st) h) ∧
  (∀ (v0 v1 : ZV) (q : Nat) (L st : List ZV) (h : PH), zev kX1_still 28 L (v1 :: v0 :: zvr (some q) :: st) h = if (ph_K h q).1 % 1000 = 16 ∧ zcat st ≤ 8 then zk kX1_still 28 31 L st (mX1_at [zvr (some q), v0, v1] h) else none) ∧
  (∀ (a : Int) (L st : List ZV) (h : PH), zev kX1_still 31 L (zvi a :: st) h = if a > 0 then zev kX1_still 56 L st h else zev kX1_still 34 L st h) ∧
  (∀ (a : Option Nat) (L st : List ZV) (h : PH), zev kX1_still 34 (zvr a :: L) st h = zev kX1_still 35 (zvr a :: L) (zvr a :: st) h) ∧
  (∀ (x0 x1 x2 : ZV) (a : Int) (L st : List ZV) (h : PH), zev kX1_still 35 (x0 :: x1 :: x2 :: zvi a :: L) st h = zev kX1_still 36 (x0 :: x1 :: x2 :: zvi a :: L) (zvi a :: st) h) ∧
  (∀ (L st : List ZV) (h : PH), zev kX1_still 36 L st h = zev kX1_still 37 L (zvi 0 :: st) h) ∧
  (∀ (v0 v1 : ZV) (q : Nat) (L st : List ZV) (h : PH), zev kX1_still 37 L (v1 :: v0 :: zvr (some q) :: st) h = if (ph_K h q).1 % 1000 = 16 ∧ zcat st ≤ 8 then zk kX1_still 37 40 L st (mX1_at [zvr (some q), v0, v1] h) else none) ∧
  (∀ (a : Int) (L st : List ZV) (h : PH), zev kX1_still 40 L (zvi a :: st) h = if a ≤ 0 then zev kX1_still 46 L st h else zev kX1_still 43 L st h) ∧
  (∀ (L st : List ZV) (h : PH), zev kX1_still 43 L st h = zev kX1_still 56 L st h) ∧
  (∀ (x0 x1 : ZV) (a : Int) (L st : List ZV) (h : PH), zev kX1_still 46 (x0 :: x1 :: zvi a :: L) st h = zev kX1_still 47 (x0 :: x1 :: zvi a :: L) (zvi a :: st) h) ∧
  (∀ (x0 : ZV) (a : Int) (L st : List ZV) (h : PH), zev kX1_still 47 (x0 :: zvi a :: L) st h = zev kX1_still 48 (x0 :: zvi a :: L) (zvi a :: st) h) ∧
  (∀ (a b : Int) (L st : List ZV) (h : PH), zev kX1_still 48 L (zvi b :: zvi a :: st) h = if a ≠ b then zev kX1_still 53 L st h else zev kX1_still 51 L st h) ∧
  (∀ (x0 x1 x2 : ZV) (a : Int) (L st : List ZV) (h : PH), zev kX1_still 51 (x0 :: x1 :: x2 :: zvi a :: L) st h = zev kX1_still 52 (x0 :: x1 :: x2 :: zvi a :: L) (zvi a :: st) h) ∧
  (∀ (a : Int) (L : List ZV) (h : PH), zev kX1_still 52 L [zvi a] h = zrv (zvi a) h) ∧
  (∀ (x0 x1 : ZV) (a : Int) (L st : List ZV) (h : PH) (hx : zisL x1 = false) , zev kX1_still 53 (x0 :: x1 :: zvi a :: L) st h = zev kX1_still 56 (x0 :: x1 :: zvi (w32 (a + 1)) :: L) st h) ∧
  (∀ (x0 x1 x2 : ZV) (a : Int) (L st : List ZV) (h : PH) (hx : zisL x2 = false) , zev kX1_still 56 (x0 :: x1 :: x2 :: zvi a :: L) st h = zev kX1_still 59 (x0 :: x1 :: x2 :: zvi (w32 (a + 1)) :: L) st h) ∧
  (∀ (L st : List ZV) (h : PH), zev kX1_still 59 L st h = zev kX1_still 4 L st h) ∧
  (∀ (L st : List ZV) (h : PH), zev kX1_still 62 L st h = if zcat st ≤ 8 then zev kX1_still 69 L (zvr (some (ph_N h)) :: st) (al_ h 35 0 6) else none) ∧
  (∀ (q : Nat) (L st : List ZV) (h : PH), zev kX1_still 69 L (zvr (some q) :: st) h = if (ph_K h q).1 ≠ 0 then zk kX1_still 69 0 L [] (zrx q h) else none) :=
  ⟨fun L st h => e_push (v := zvi 0) (n := 1) rfl,
  fun x0 x1 x2 a L st h hx => e_st2I (n := 2) rfl hx,
  fun L st h => e_push (v := zvi 0) (n := 3) rfl,
  fun x0 x1 x2 x3 a L st h hx => e_st3I (n := 4) rfl hx,
  fun q L st h => e_getR (kd := 16) (k := 5) (n := 8) rfl,
  fun L st h => e_null0 (t := 62) (n := 11) rfl,
  fun q L st h => e_null1 (t := 62) (n := 11) rfl,
  fun x0 x1 x2 a L st h => e_ld3I (n := 12) rfl,
  fun a L st h => e_ld0R (n := 13) rfl,
  fun q L st h => e_getR (kd := 16) (k := 5) (n := 16) rfl,
  fun q L st h => e_getR (kd := 20) (k := 2) (n := 19) rfl,
  fun q L st h => e_callV1 (F := mJ7_size) (kd := 29) (n := 22) rfl,
  fun a b L st h => e_cmpge (t := 62) (n := 25) rfl,
  fun a L st h => e_ld0R (n := 26) rfl,
  fun x0 x1 x2 a L st h => e_ld3I (n := 27) rfl,
  fun L st h => e_push (v := zvi 1) (n := 28) rfl,
  fun v0 v1 q L st h => e_callV3 (F := mX1_at) (kd := 16) (n := 31) rfl,
  fun a L st h => e_ifgt (t := 56) (n := 34) rfl,
  fun a L st h => e_ld0R (n := 35) rfl,
  fun x0 x1 x2 a L st h => e_ld3I (n := 36) rfl,
  fun L st h => e_push (v := zvi 0) (n := 37) rfl,
  fun v0 v1 q L st h => e_callV3 (F := mX1_at) (kd := 16) (n := 40) rfl,
  fun a L st h => e_ifle (t := 46) (n := 43) rfl,
  fun L st h => e_goto (t := 56) rfl,
  fun x0 x1 a L st h => e_ld2I (n := 47) rfl,
  fun x0 a L st h => e_ld1I (n := 48) rfl,
  fun a b L st h => e_cmpne (t := 53) (n := 51) rfl,
  fun x0 x1 x2 a L st h => e_ld3I (n := 52) rfl,
  fun a L h => e_retI rfl,
  fun x0 x1 a L st h hx => e_iinc2 (d := 1) (n := 56) rfl hx,
  fun x0 x1 x2 a L st h hx => e_iinc3 (d := 1) (n := 59) rfl hx,
  fun L st h => e_goto (t := 4) rfl,
  fun L st h => e_make0 (n := 69) rfl,
  fun q L st h => e_throw (n := 0) rfl⟩
theorem allX1_still : zall yX1_still cX1_still 4 (some .int) 6 kX1_still.1 :=
  ⟨k_iconst dX1_still_0,
  k_istore_n dX1_still_1,
  k_iconst dX1_still_2,
  k_istore_n dX1_still_3,
  k_aload_n dX1_still_4,
  k_getR (C := RX1) (T := TX1) (N := 19) (ci := 0) (k := 5) (ref := "LinkTimes") dX1_still_5 rfl in_X1 (by decide) q308 (Or.inl rfl) (fun _ _ _ => rfl),
  k_null (t := 62) dX1_still_8 (by decide),
  k_iload_n dX1_still_11,
  k_aload_n dX1_still_12,
  k_getR (C := RX1) (T := TX1) (N := 19) (ci := 0) (k := 5) (ref := "LinkTimes") dX1_still_13 rfl in_X1 (by decide) q308 (Or.inl rfl) (fun _ _ _ => rfl),
  k_getRN (C := RX6) (T := TX6) (N := 5) (ci := 4) (k := 2) (ref := "LinkTimes$Desk") dX1_still_16 rfl in_X6 (by decide) q423 (Or.inl rfl) (fun _ _ _ => rfl),
  k_callV (y2 := yJ7_size) (C := RJ7) (T0 := TJ7) (ci := 13) dX1_still_19 sndJ7_size rfl q936 q652 q653 q141 q654 (by decide +kernel) ⟨by decide, by decide⟩ (by decide) (by decide),
  k_cmpge (t := 62) dX1_still_22 (by decide),
  k_aload_n dX1_still_25,
  k_iload_n dX1_still_26,
  k_iconst dX1_still_27,
  k_callV (y2 := yX1_at) (C := RX1) (T0 := TX1) (ci := 0) dX1_still_28 sndX1_at rfl q1247 q1249 qs34 q128 q1250 (by decide +kernel) ⟨by decide, by decide⟩ (by decide) (by decide),
  k_ifgt (t := 56) dX1_still_31 (by decide),
  k_aload_n dX1_still_34,
  k_iload_n dX1_still_35,
  k_iconst dX1_still_36,
  k_callV (y2 := yX1_at) (C := RX1) (T0 := TX1) (ci := 0) dX1_still_37 sndX1_at rfl q1247 q1249 qs34 q128 q1250 (by decide +kernel) ⟨by decide, by decide⟩ (by decide) (by decide),
  k_ifle (t := 46) dX1_still_40 (by decide),
  k_goto (t := 56) dX1_still_43 (by decide),
  k_iload_n dX1_still_46,
  k_iload_n dX1_still_47,
  k_cmpne (t := 53) dX1_still_48 (by decide),
  k_iload_n dX1_still_51,
  k_iret dX1_still_52,
  k_iinc dX1_still_53,
  k_iinc dX1_still_56,
  k_goto (t := 4) dX1_still_59 (by decide),
  k_make0 dX1_still_62 dX1_still_65 dX1_still_66 rfl (by decide),
  k_stuck,
  k_stuck,
  k_throw dX1_still_69, trivial⟩
theorem sndX1_still : MSound 6 yX1_still (ws_ yX1_still cX1_still 4 (some .int)) mX1_still := msound_M (by decide) allX1_still (fun _ _ => rfl)
