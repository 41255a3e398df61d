/-! Z program: LinkTimesModel (written by gen/gen_prog.py) -/
set_option maxRecDepth 100000
/-! LinkTimesModel.arrivesAt(I)I -/
noncomputable def kX4_arrivesAt : ZM := ([(0, zi_ld 1 0 1), (1, zi_ld 0 1 2), (2, zi_callV mX4_leavesAt 18 2 5), (5, zi_ld 1 0 6), (6, zi_getR 18 6 9), (9, zi_ld 0 1 10), (10, zi_push (zvi 4) 11), (11, zi_callS mX4_at 2 14), (14, zi_ald 1 15), (15, zi_bin (fun a b => w32 (a + b)) 16), (16, zi_retv 0)], fun _ _ => none)
noncomputable def mX4_arrivesAt : ZF := zrunM kX4_arrivesAt 2
theorem enX4_arrivesAt (x0 : Option Nat) (x1 : Int) (h : PH) : mX4_arrivesAt [zvr x0, zvi x1] h = zev kX4_arrivesAt 0 [zvr x0, zvi x1] [] h := zrunM_eq rfl rfl
theorem rX4_arrivesAt : (∀ (a : Option Nat) (L st : List ZV) (h : PH), zev kX4_arrivesAt 0 (zvr a :: L) st h = zev kX4_arrivesAt 1 (zvr a :: L) (zvr a :: st) h) ∧
  (∀ (x0 : ZV) (a : Int) (L st : List ZV) (h : PH), zev kX4_arrivesAt 1 (x0 :: zvi a :: L) st h = zev kX4_arrivesAt 2 (x0 :: zvi a :: L) (zvi a :: st) h) ∧
  (∀ (v0 : ZV) (q : Nat) (L st : List ZV) (h : PH), zev kX4_arrivesAt 2 L (v0 :: zvr (some q) :: st) h = if (ph_K h q).1 % 1000 = 18 ∧ zcat st ≤ 8 then zk kX4_arrivesAt 2 5 L st (mX4_leavesAt [zvr (some q), v0] h) else none) ∧
  (∀ (a : Option Nat) (L st : List ZV) (h : PH), zev kX4_arrivesAt 5 (zvr a :: L) st h = zev kX4_arrivesAt 6 (zvr a :: L) (zvr a :: st) h) ∧
  (∀ (q : Nat) (L st : List ZV) (h : PH), zev kX4_arrivesAt 6 L (zvr (some q) :: st) h = if (ph_K h q).1 % 1000 = 18 then zev kX4_arrivesAt 9 L (zvr (ph_R h q 6) :: st) h else none) ∧
  (∀ (x0 : ZV) (a : Int) (L st : List ZV) (h : PH), zev kX4_arrivesAt 9 (x0 :: zvi a :: L) st h = zev kX4_arrivesAt 10 (x0 :: zvi a :: L) (zvi a :: st) h) ∧
  (∀ (L st : List ZV) (h : PH), zev kX4_arrivesAt 10 L st h = zev kX4_arrivesAt 11 L (zvi 4 :: st) h) ∧
  (∀ (v0 v1 : ZV) (L st : List ZV) (h : PH), zev kX4_arrivesAt 11 L (v1 :: v0 :: st) h = if zcat st ≤ 8 then zk kX4_arrivesAt 11 14 L st (mX4_at [v0, v1] h) else none) ∧
  (∀ (j : Int) (q : Nat) (L st : List ZV) (h : PH), zev kX4_arrivesAt 14 L (zvi j :: zvr (some q) :: st) h = if (ph_K h q).1 % 1000 = 1 ∧ 0 ≤ j ∧ j < (ph_K h q).2 then zev kX4_arrivesAt 15 L (zvi (ph_I h q j) :: st) h else none) ∧
  (∀ (a b : Int) (L st : List ZV) (h : PH), zev kX4_arrivesAt 15 L (zvi b :: zvi a :: st) h = zev kX4_arrivesAt 16 L (zvi (w32 (a + b)) :: st) h) ∧
  (∀ (a : Int) (L : List ZV) (h : PH), zev kX4_arrivesAt 16 L [zvi a] h = zrv (zvi a) h) :=
  ⟨fun a L st h => e_ld0R (n := 1) rfl,
  fun x0 a L st h => e_ld1I (n := 2) rfl,
  fun v0 q L st h => e_callV2 (F := mX4_leavesAt) (kd := 18) (n := 5) rfl,
  fun a L st h => e_ld0R (n := 6) rfl,
  fun q L st h => e_getR (kd := 18) (k := 6) (n := 9) rfl,
  fun x0 a L st h => e_ld1I (n := 10) rfl,
  fun L st h => e_push (v := zvi 4) (n := 11) rfl,
  fun v0 v1 L st h => e_callS2 (F := mX4_at) (n := 14) rfl,
  fun j q L st h => e_ald (kd := 1) (n := 15) rfl,
  fun a b L st h => e_bin (f := (fun a b => w32 (a + b))) (n := 16) rfl,
  fun a L h => e_retI rfl⟩
theorem allX4_arrivesAt : zall yX4_arrivesAt cX4_arrivesAt 2 (some .int) 3 kX4_arrivesAt.1 :=
  ⟨k_aload_n dX4_arrivesAt_0,
  k_iload_n dX4_arrivesAt_1,
  k_callV (y2 := yX4_leavesAt) (C := RX4) (T0 := TX4) (ci := 2) dX4_arrivesAt_2 sndX4_leavesAt rfl q2100 q2102 qs96 q137 q2103 (by decide +kernel) ⟨by decide, by decide⟩ (by decide) (by decide),
  k_aload_n dX4_arrivesAt_5,
  k_getR (C := RX4) (T := TX4) (N := 42) (ci := 2) (k := 6) (ref := "LinkTimesModel") dX4_arrivesAt_6 rfl in_X4 (by decide) q1805 (Or.inl rfl) (fun _ _ _ => rfl),
  k_iload_n dX4_arrivesAt_9,
  k_iconst dX4_arrivesAt_10,
  k_callS (y2 := yX4_at) dX4_arrivesAt_11 sndX4_at q2047 q2048 q137 q2049 (by decide +kernel) ⟨by decide, by decide⟩ (by decide) (by decide),
  k_iald dX4_arrivesAt_14,
  k_iadd dX4_arrivesAt_15,
  k_iret dX4_arrivesAt_16, trivial⟩
theorem sndX4_arrivesAt : MSound 3 yX4_arrivesAt (ws_ yX4_arrivesAt cX4_arrivesAt 2 (some .int)) mX4_arrivesAt := msound_M (by decide) allX4_arrivesAt (fun _ _ => rfl)
/-! LinkTimesModel.departure(II)I -/
noncomputable def kX4_departure : ZM := ([(0, zi_ld 1 0 1), (1, zi_ld 1 0 2), (2, zi_ld 0 1 3), (3, zi_callV mX4_isOne 18 2 6), (6, zi_if (fun a => zc_eq a 0) 23 9), (9, zi_ld 0 2 10), (10, zi_push (zvi 0) 11), (11, zi_push (zvi 7) 13), (13, zi_callS mX4_in 3 16), (16, zi_if (fun a => zc_eq a 0) 23 19), (19, zi_push (zvi 1) 20), (20, zi_goto 24), (23, zi_push (zvi 0) 24), (24, zi_callS mX4_unless 1 27), (27, zi_callV mX4_isRefused 18 2 30), (30, zi_if (fun a => zc_eq a 0) 35 33), (33, zi_push (zvi (-1)) 34), (34, zi_retv 0), (35, zi_ld 0 2 36), (36, zi_push (zvi 3) 37), (37, zi_cmp zc_ne 48 40), (40, zi_ld 1 0 41), (41, zi_ld 0 1 42), (42, zi_callV mX4_leavesAt 18 2 45), (45, zi_goto 71), (48, zi_ld 0 2 49), (49, zi_push (zvi 4) 50), (50, zi_cmp zc_ne 61 53), (53, zi_ld 1 0 54), (54, zi_ld 0 1 55), (55, zi_callV mX4_arrivesAt 18 2 58), (58, zi_goto 71), (61, zi_ld 1 0 62), (62, zi_getR 18 6 65), (65, zi_ld 0 1 66), (66, zi_ld 0 2 67), (67, zi_callS mX4_at 2 70), (70, zi_ald 1 71), (71, zi_retv 0)], fun _ _ => none)
noncomputable def mX4_departure : ZF := zrunM kX4_departure 3
theorem enX4_departure (x0 : Option Nat) (x1 : Int) (x2 : Int) (h : PH) : mX4_departure [zvr x0, zvi x1, zvi x2] h = zev kX4_departure 0 [zvr x0, zvi x1, zvi x2] [] h := zrunM_eq rfl rfl
theorem rX4_departure : (∀ (a : Option Nat) (L st : List ZV) (h : PH), zev kX4_departure 0 (zvr a :: L) st h = zev kX4_departure 1 (zvr a :: L) (zvr a :: st) h) ∧
  (∀ (a : Option Nat) (L st : List ZV) (h : PH), zev kX4_departure 1 (zvr a :: L) st h = zev kX4_departure 2 (zvr a :: L) (zvr a :: st) h) ∧
  (∀ (x0 : ZV) (a : Int) (L st : List ZV) (h : PH), zev kX4_departure 2 (x0 :: zvi a :: L) st h = zev kX4_departure 3 (x0 :: zvi a :: L) (zvi a :: st) h) ∧
  (∀ (v0 : ZV) (q : Nat) (L st : List ZV) (h : PH), zev kX4_departure 3 L (v0 :: zvr (some q) :: st) h = if (ph_K h q).1 % 1000 = 18 ∧ zcat st ≤ 8 then zk kX4_departure 3 6 L st (mX4_isOne [zvr (some q), v0] h) else none) ∧
  (∀ (a : Int) (L st : List ZV) (h : PH), zev kX4_departure 6 L (zvi a :: st) h = if a = 0 then zev kX4_departure 23 L st h else zev kX4_departure 9 L st h) ∧
  (∀ (x0 x1 : ZV) (a : Int) (L st : List ZV) (h : PH), zev kX4_departure 9 (x0 :: x1 :: zvi a :: L) st h = zev kX4_departure 10 (x0 :: x1 :: zvi a :: L) (zvi a :: st) h) ∧
  (∀ (L st : List ZV) (h : PH), zev kX4_departure 10 L st h = zev kX4_departure 11 L (zvi 0 :: st) h) ∧
  (∀ (L st : List ZV) (h : PH), zev kX4_departure 11 L st h = zev kX4_departure 13 L (zvi 7 :: st) h) ∧
  (∀ (v0 v1 v2 : ZV) (L st : List ZV) (h : PH), zev kX4_departure 13 L (v2 :: v1 :: v0 :: st) h = if zcat st ≤ 8 then zk kX4_departure 13 16 L st (mX4_in [v0, v1, v2] h) else none) ∧
  (∀ (a : Int) (L st : List ZV) (h : PH), zev kX4_departure 16 L (zvi a :: st) h = if a = 0 then zev kX4_departure 23 L st h else zev kX4_departure 19 L st h) ∧
  (∀ (L st : List ZV) (h : PH), zev kX4_departure 19 L st h = zev kX4_departure 20 L (zvi 1 :: st) h) ∧
  (∀ (L st : List ZV) (h : PH), zev kX4_departure 20 L st h = zev kX4_departure 24 L st h) ∧
  (∀ (L st : List ZV) (h : PH), zev kX4_departure 23 L st h = zev kX4_departure 24 L (zvi 0 :: st) h) ∧
  (∀ (v0 : ZV) (L st : List ZV) (h : PH), zev kX4_departure 24 L (v0 :: st) h = if zcat st ≤ 8 then zk kX4_departure 24 27 L st (mX4_unless [v0] h) else none) ∧
  (∀ (v0 : ZV) (q : Nat) (L st : List ZV) (h : PH), zev kX4_departure 27 L (v0 :: zvr (some q) :: st) h = if (ph_K h q).1 % 1000 = 18 ∧ zcat st ≤ 8 then zk kX4_departure 27 30 L st (mX4_isRefused [zvr (some q), v0] h) else none) ∧
  (∀ (a : Int) (L st : List ZV) (h : PH), zev kX4_departure 30 L (zvi a :: st) h = if a = 0 then zev kX4_departure 35 L st h else zev kX4_departure 33 L st h) ∧
  (∀ (L st : List ZV) (h : PH), zev kX4_departure 33 L st h = zev kX4_departure 34 L (zvi (-1) :: st) h) ∧
  (∀ (a : Int) (L : List ZV) (h : PH), zev kX4_departure 34 L [zvi a] h = zrv (zvi a) h) ∧
  (∀ (x0 x1 : ZV) (a : Int) (L st : List ZV) (h : PH), zev kX4_departure 35 (x0 :: x1 :: zvi a :: L) st h = zev kX4_departure 36 (x0 :: x1 :: zvi a :: L) (zvi a :: st) h) ∧
  (∀ (L st : List ZV) (h : PH), zev kX4_departure 36 L st h = zev kX4_departure 37 L (zvi 3 :: st) h) ∧
  (∀ (a b : Int) (L st : List ZV) (h : PH), zev kX4_departure 37 L (zvi b :: zvi a :: st) h = if a ≠ b then zev kX4_departure 48 L st h else zev kX4_departure 40 L st h) ∧
  (∀ (a : Option Nat) (L st : List ZV) (h : PH), zev kX4_departure 40 (zvr a :: L) st h = zev kX4_departure 41 (zvr a :: L) (zvr a :: st) h) ∧
  (∀ (x0 : ZV) (a : Int) (L st : List ZV) (h : PH), zev kX4_departure 41 (x0 :: zvi a :: L) st h = zev kX4_departure 42 (x0 :: zvi a :: L) (zvi a :: st) h) ∧
  (∀ (v0 : ZV) (q : Nat) (L st : List ZV) (h : PH), zev kX4_departure 42 L (v0 :: zvr (some q) :: st) h = if (ph_K h q).1 % 1000 = 18 ∧ zcat st ≤ 8 then zk kX4_departure 42 45 L st (mX4_leavesAt [zvr (some q), v0] h) else none) ∧
  (∀ (L st : List ZV) (h : PH), zev kX4_departure 45 L st h = zev kX4_departure 71 L st h) ∧
  (∀ (x0 x1 : ZV) (a : Int) (L st : List ZV) (h : PH), zev kX4_departure 48 (x0 :: x1 :: zvi a :: L) st h = zev kX4_departure 49 (x0 :: x1 :: zvi a :: L) (zvi a :: st) h) ∧
  (∀ (L st : List ZV) (h : PH), zev kX4_departure 49 L st h = zev kX4_departure 50 L (zvi 4 :: st) h) ∧
  (∀ (a b : Int) (L st : List ZV) (h : PH), zev kX4_departure 50 L (zvi b :: zvi a :: st) h = if a ≠ b then zev kX4_departure 61 L st h else zev kX4_departure 53 L st h) ∧
  (∀ (a : Option Nat) (L st : List ZV) (h : PH), zev kX4_departure 53 (zvr a :: L) st h = zev kX4_departure 54 (zvr a :: L) (zvr a :: st) h) ∧
  (∀ (x0 : ZV) (a : Int) (L st : List ZV) (h : PH), zev kX4_departure 54 (x0 :: zvi a :: L) st h = zev kX4_departure 55 (x0 :: zvi a :: L) (zvi a :: st) h) ∧
  (∀ (v0 : ZV) (q : Nat) (L st : List ZV) (h : PH), zev kX4_departure 55 L (v0 :: zvr (some q) :: st) h = if (ph_K h q).1 % 1000 = 18 ∧ zcat st ≤ 8 then zk kX4_departure 55 58 L st (mX4_arrivesAt [zvr (some q), v0] h) else none) ∧
  (∀ (L st : List ZV) (h : PH), zev kX4_departure 58 L st h = zev kX4_departure 71 L st h) ∧
  (∀ (a : Option Nat) (L st : List ZV) (h : PH), zev kX4_departure 61 (zvr a :: L) st h = zev kX4_departure 62 (zvr a :: L) (zvr a :: st) h) ∧
  (∀ (q : Nat) (L st : List ZV) (h : PH), zev kX4_departure 62 L (zvr (some q) :: st) h = if (ph_K h q).1 % 1000 = 18 then zev kX4_departure 65 L (zvr (ph_R h q 6) :: st) h else none) ∧
  (∀ (x0 : ZV) (a : Int) (L st : List ZV) (h : PH), zev kX4_departure 65 (x0 :: zvi a :: L) st h = zev kX4_departure 66 (x0 :: zvi a :: L) (zvi a :: st) h) ∧
  (∀ (x0 x1 : ZV) (a : Int) (L st : List ZV) (h : PH), zev kX4_departure 66 (x0 :: x1 :: zvi a :: L) st h = zev kX4_departure 67 (x0 :: x1 :: zvi a :: L) (zvi a :: st) h) ∧
  (∀ (v0 v1 : ZV) (L st : List ZV) (h : PH), zev kX4_departure 67 L (v1 :: v0 :: st) h = if zcat st ≤ 8 then zk kX4_departure 67 70 L st (mX4_at [v0, v1] h) else none) ∧
  (∀ (j : Int) (q : Nat) (L st : List ZV) (h : PH), zev kX4_departure 70 L (zvi j :: zvr (some q) :: st) h = if (ph_K h q).1 % 1000 = 1 ∧ 0 ≤ j ∧ j < (ph_K h q).2 then zev kX4_departure 71 L (zvi (ph_I h q j) :: st) h else none) ∧
  (∀ (a : Int) (L : List ZV) (h : PH), zev kX4_departure 71 L [zvi a] h = zrv (zvi a) h) :=
  ⟨fun a L st h => e_ld0R (n := 1) rfl,
  fun a L st h => e_ld0R (n := 2) rfl,
  fun x0 a L st h => e_ld1I (n := 3) rfl,
  fun v0 q L st h => e_callV2 (F := mX4_isOne) (kd := 18) (n := 6) rfl,
  fun a L st h => e_ifeq (t := 23) (n := 9) rfl,
  fun x0 x1 a L st h => e_ld2I (n := 10) rfl,
  fun L st h => e_push (v := zvi 0) (n := 11) rfl,
  fun L st h => e_push (v := zvi 7) (n := 13) rfl,
  fun v0 v1 v2 L st h => e_callS3 (F := mX4_in) (n := 16) rfl,
  fun a L st h => e_ifeq (t := 23) (n := 19) rfl,
  fun L st h => e_push (v := zvi 1) (n := 20) rfl,
  fun L st h => e_goto (t := 24) rfl,
  fun L st h => e_push (v := zvi 0) (n := 24) rfl,
  fun v0 L st h => e_callS1 (F := mX4_unless) (n := 27) rfl,
  fun v0 q L st h => e_callV2 (F := mX4_isRefused) (kd := 18) (n := 30) rfl,
  fun a L st h => e_ifeq (t := 35) (n := 33) rfl,
  fun L st h => e_push (v := zvi (-1)) (n := 34) rfl,
  fun a L h => e_retI rfl,
  fun x0 x1 a L st h => e_ld2I (n := 36) rfl,
  fun L st h => e_push (v := zvi 3) (n := 37) rfl,
  fun a b L st h => e_cmpne (t := 48) (n := 40) rfl,
  fun a L st h => e_ld0R (n := 41) rfl,
  fun x0 a L st h => e_ld1I (n := 42) rfl,
  fun v0 q L st h => e_callV2 (F := mX4_leavesAt) (kd := 18) (n := 45) rfl,
  fun L st h => e_goto (t := 71) rfl,
  fun x0 x1 a L st h => e_ld2I (n := 49) rfl,
  fun L st h => e_push (v := zvi 4) (n := 50) rfl,
  fun a b L st h => e_cmpne (t := 61) (n := 53) rfl,
  fun a L st h => e_ld0R (n := 54) rfl,
  fun x0 a L st h => e_ld1I (n := 55) rfl,
  fun v0 q L st h => e_callV2 (F := mX4_arrivesAt) (kd := 18) (n := 58) rfl,
  fun L st h => e_goto (t := 71) rfl,
  fun a L st h => e_ld0R (n := 62) rfl,
  fun q L st h => e_getR (kd := 18) (k := 6) (n := 65) rfl,
  fun x0 a L st h => e_ld1I (n := 66) rfl,
  fun x0 x1 a L st h => e_ld2I (n := 67) rfl,
  fun v0 v1 L st h => e_callS2 (F := mX4_at) (n := 70) rfl,
  fun j q L st h => e_ald (kd := 1) (n := 71) rfl,
  fun a L h => e_retI rfl⟩
theorem allX4_departure : zall yX4_departure cX4_departure 3 (some .int) 4 kX4_departure.1 :=
  ⟨k_aload_n dX4_departure_0,
  k_aload_n dX4_departure_1,
  k_iload_n dX4_departure_2,
  k_callV (y2 := yX4_isOne) (C := RX4) (T0 := TX4) (ci := 2) dX4_departure_3 sndX4_isOne rfl q2096 q2098 qs95 q137 q2099 (by decide +kernel) ⟨by decide, by decide⟩ (by decide) (by decide),
  k_ifeq (t := 23) dX4_departure_6 (by decide),
  k_iload_n dX4_departure_9,
  k_iconst dX4_departure_10,
  k_bipush dX4_departure_11,
  k_callS (y2 := yX4_in) dX4_departure_13 sndX4_in q1943 q1944 q137 q1945 (by decide +kernel) ⟨by decide, by decide⟩ (by decide) (by decide),
  k_ifeq (t := 23) dX4_departure_16 (by decide),
  k_iconst dX4_departure_19,
  k_goto (t := 24) dX4_departure_20 (by decide),
  k_iconst dX4_departure_23,
  k_callS (y2 := yX4_unless) dX4_departure_24 sndX4_unless q2069 q2070 q137 q2071 (by decide +kernel) ⟨by decide, by decide⟩ (by decide) (by decide),
  k_callV (y2 := yX4_isRefused) (C := RX4) (T0 := TX4) (ci := 2) dX4_departure_27 sndX4_isRefused rfl q1946 q1948 qs70 q137 q1949 (by decide +kernel) ⟨by decide, by decide⟩ (by decide) (by decide),
  k_ifeq (t := 35) dX4_departure_30 (by decide),
  k_iconst dX4_departure_33,
  k_iret dX4_departure_34,
  k_iload_n dX4_departure_35,
  k_iconst dX4_departure_36,
  k_cmpne (t := 48) dX4_departure_37 (by decide),
  k_aload_n dX4_departure_40,
  k_iload_n dX4_departure_41,
  k_callV (y2 := yX4_leavesAt) (C := RX4) (T0 := TX4) (ci := 2) dX4_departure_42 sndX4_leavesAt rfl q2100 q2102 qs96 q137 q2103 (by decide +kernel) ⟨by decide, by decide⟩ (by decide) (by decide),
  k_goto (t := 71) dX4_departure_45 (by decide),
  k_iload_n dX4_departure_48,
  k_iconst dX4_departure_49,
  k_cmpne (t := 61) dX4_departure_50 (by decide),
  k_aload_n dX4_departure_53,
  k_iload_n dX4_departure_54,
  k_callV (y2 := yX4_arrivesAt) (C := RX4) (T0 := TX4) (ci := 2) dX4_departure_55 sndX4_arrivesAt rfl q2104 q2106 qs97 q137 q2107 (by decide +kernel) ⟨by decide, by decide⟩ (by decide) (by decide),
  k_goto (t := 71) dX4_departure_58 (by decide),
  k_aload_n dX4_departure_61,
  k_getR (C := RX4) (T := TX4) (N := 42) (ci := 2) (k := 6) (ref := "LinkTimesModel") dX4_departure_62 rfl in_X4 (by decide) q1805 (Or.inl rfl) (fun _ _ _ => rfl),
  k_iload_n dX4_departure_65,
  k_iload_n dX4_departure_66,
  k_callS (y2 := yX4_at) dX4_departure_67 sndX4_at q2047 q2048 q137 q2049 (by decide +kernel) ⟨by decide, by decide⟩ (by decide) (by decide),
  k_iald dX4_departure_70,
  k_iret dX4_departure_71, trivial⟩
theorem sndX4_departure : MSound 4 yX4_departure (ws_ yX4_departure cX4_departure 3 (some .int)) mX4_departure := msound_M (by decide) allX4_departure (fun _ _ => rfl)
/-! LinkTimesModel.ordered(I)I -/
noncomputable def kX4_ordered : ZM := ([(0, zi_ld 1 0 1), (1, zi_ld 1 0 2), (2, zi_getI 18 11 5), (5, zi_callS mX4_unless 1 8), (8, zi_callV mX4_isRefused 18 2 11), (11, zi_if (fun a => zc_eq a 0) 16 14), (14, zi_push (zvi (-1)) 15), (15, zi_retv 0), (16, zi_push (zvi 0) 17), (17, zi_st 0 2 18), (18, zi_ld 0 2 19), (19, zi_ld 1 0 20), (20, zi_getR 18 6 23), (23, zi_push (zvi 4) 24), (24, zi_ald 1 25), (25, zi_cmp zc_ge 125 28), (28, zi_ld 1 0 29), (29, zi_ld 0 2 30), (30, zi_callV mX4_runs 18 2 33), (33, zi_if (fun a => zc_ne a 0) 39 36), (36, zi_goto 119), (39, zi_push (zvi 0) 40), (40, zi_st 0 3 41), (41, zi_push (zvi 0) 42), (42, zi_st 0 4 44), (44, zi_ld 0 4 46), (46, zi_ld 1 0 47), (47, zi_getR 18 6 50), (50, zi_push (zvi 4) 51), (51, zi_ald 1 52), (52, zi_cmp zc_ge 112 55), (55, zi_ld 0 3 56), (56, zi_ld 1 0 57), (57, zi_ld 0 4 59), (59, zi_callV mX4_runs 18 2 62), (62, zi_if (fun a => zc_eq a 0) 103 65), (65, zi_ld 1 0 66), (66, zi_ld 0 4 68), (68, zi_callV mX4_leavesAt 18 2 71), (71, zi_ld 1 0 72), (72, zi_ld 0 2 73), (73, zi_callV mX4_leavesAt 18 2 76), (76, zi_cmp zc_lt 99 79), (79, zi_ld 1 0 80), (80, zi_ld 0 4 82), (82, zi_callV mX4_leavesAt 18 2 85), (85, zi_ld 1 0 86), (86, zi_ld 0 2 87), (87, zi_callV mX4_leavesAt 18 2 90), (90, zi_cmp zc_ne 103 93), (93, zi_ld 0 4 95), (95, zi_ld 0 2 96), (96, zi_cmp zc_ge 103 99), (99, zi_push (zvi 1) 100), (100, zi_goto 104), (103, zi_push (zvi 0) 104), (104, zi_bin (fun a b => w32 (a + b)) 105), (105, zi_st 0 3 106), (106, zi_iinc 4 1 109), (109, zi_goto 44), (112, zi_ld 0 3 113), (113, zi_ld 0 1 114), (114, zi_cmp zc_ne 119 117), (117, zi_ld 0 2 118), (118, zi_retv 0), (119, zi_iinc 2 1 122), (122, zi_goto 18), (125, zi_ld 1 0 126), (126, zi_push (zvi 1) 127), (127, zi_callV mX4_no 18 2 130), (130, zi_retv 0)], fun _ _ => none)
noncomputable def mX4_ordered : ZF := zrunM kX4_ordered 5
theorem enX4_ordered (x0 : Option Nat) (x1 : Int) (h : PH) : mX4_ordered [zvr x0, zvi x1] h = zev kX4_ordered 0 [zvr x0, zvi x1, zvu, zvu, zvu] [] h := zrunM_eq rfl rfl
theorem hdX4_ordered_18 (x0 x1 : ZV) (a : Int) (L st : List ZV) (h : PH) : zev kX4_ordered 18 (x0 :: x1 :: zvi a :: L) st h = zev kX4_ordered 19 (x0 :: x1 :: zvi a :: L) (zvi a :: st) h := e_ld2I (n := 19) rfl
theorem hdX4_ordered_44 (x0 x1 x2 x3 : ZV) (a : Int) (L st : List ZV) (h : PH) : zev kX4_ordered 44 (x0 :: x1 :: x2 :: x3 :: zvi a :: L) st h = zev kX4_ordered 46 (x0 :: x1 :: x2 :: x3 :: zvi a :: L) (zvi a :: st) h := e_ld4I (n := 46) rfl
theorem rX4_ordered : (∀ (a : Option Nat) (L st : List ZV) (h : PH), zev kX4_ordered 0 (zvr a :: L) st h = zev kX4_ordered 1 (zvr a :: L) (zvr a :: st) h) ∧
  (∀ (a : Option Nat) (L st : List ZV) (h : PH), zev kX4_ordered 1 (zvr a :: L) st h = zev kX4_ordered 2 (zvr a :: L) (zvr a :: st) h) ∧
  (∀ (q : Nat) (L st : List ZV) (h : PH), zev kX4_ordered 2 L (zvr (some q) :: st) h = if (ph_K h q).1 % 1000 = 18 then zev kX4_ordered 5 L (zvi (ph_I h q 11) :: st) h else none) ∧
  (∀ (v0 : ZV) (L st : List ZV) (h : PH), zev kX4_ordered 5 L (v0 :: st) h = if zcat st ≤ 8 then zk kX4_ordered 5 8 L st (mX4_unless [v0] h) else none) ∧
  (∀ (v0 : ZV) (q : Nat) (L st : List ZV) (h : PH), zev kX4_ordered 8 L (v0 :: zvr (some q) :: st) h = if (ph_K h q).1 % 1000 = 18 ∧ zcat st ≤ 8 then zk kX4_ordered 8 11 L st (mX4_isRefused [zvr (some q), v0] h) else none) ∧
  (∀ (a : Int) (L st : List ZV) (h : PH), zev kX4_ordered 11 L (zvi a :: st) h = if a = 0 then zev kX4_ordered 16 L st h else zev kX4_ordered 14 L st h) ∧
  (∀ (L st : List ZV) (h : PH), zev kX4_ordered 14 L st h = zev kX4_ordered 15 L (zvi (-1) :: st) h) ∧
  (∀ (a : Int) (L : List ZV) (h : PH), zev kX4_ordered 15 L [zvi a] h = zrv (zvi a) h) ∧
  (∀ (L st : List ZV) (h : PH), zev kX4_ordered 16 L st h = zev kX4_ordered 17 L (zvi 0 :: st) h) ∧
  (∀ (x0 x1 x2 : ZV) (a : Int) (L st : List ZV) (h : PH) (hx : zisL x1 = false) , zev kX4_ordered 17 (x0 :: x1 :: x2 :: L) (zvi a :: st) h = zev kX4_ordered 18 (x0 :: x1 :: zvi a :: L) st h) ∧
  (∀ (a : Option Nat) (L st : List ZV) (h : PH), zev kX4_ordered 19 (zvr a :: L) st h = zev kX4_ordered 20 (zvr a :: L) (zvr a :: st) h) ∧
  (∀ (q : Nat) (L st : List ZV) (h : PH), zev kX4_ordered 20 L (zvr (some q) :: st) h = if (ph_K h q).1 % 1000 = 18 then zev kX4_ordered 23 L (zvr (ph_R h q 6) :: st) h else none) ∧
  (∀ (L st : List ZV) (h : PH), zev kX4_ordered 23 L st h = zev kX4_ordered 24 L (zvi 4 :: st) h) ∧
  (∀ (j : Int) (q : Nat) (L st : List ZV) (h : PH), zev kX4_ordered 24 L (zvi j :: zvr (some q) :: st) h = if (ph_K h q).1 % 1000 = 1 ∧ 0 ≤ j ∧ j < (ph_K h q).2 then zev kX4_ordered 25 L (zvi (ph_I h q j) :: st) h else none) ∧
  (∀ (a b : Int) (L st : List ZV) (h : PH), zev kX4_ordered 25 L (zvi b :: zvi a :: st) h = if a ≥ b then zev kX4_ordered 125 L st h else zev kX4_ordered 28 L st h) ∧
  (∀ (a : Option Nat) (L st : List ZV) (h : PH), zev kX4_ordered 28 (zvr a :: L) st h = zev kX4_ordered 29 (zvr a :: L) (zvr a :: st) h) ∧
  (∀ (x0 x1 : ZV) (a : Int) (L st : List ZV) (h : PH), zev kX4_ordered 29 (x0 :: x1 :: zvi a :: L) st h = zev kX4_ordered 30 (x0 :: x1 :: zvi a :: L) (zvi a :: st) h) ∧
  (∀ (v0 : ZV) (q : Nat) (L st : List ZV) (h : PH), zev kX4_ordered 30 L (v0 :: zvr (some q) :: st) h = if (ph_K h q).1 % 1000 = 18 ∧ zcat st ≤ 8 then zk kX4_ordered 30 33 L st (mX4_runs [zvr (some q), v0] h) else none) ∧
  (∀ (a : Int) (L st : List ZV) (h : PH), zev kX4_ordered 33 L (zvi a :: st) h = if a ≠ 0 then zev kX4_ordered 39 L st h else zev kX4_ordered 36 L st h) ∧
  (∀ (L st : List ZV) (h : PH), zev kX4_ordered 36 L st h = zev kX4_ordered 119 L st h) ∧
  (∀ (L st : List ZV) (h : PH), zev kX4_ordered 39 L st h = zev kX4_ordered 40 L (zvi 0 :: st) h) ∧
  (∀ (x0 x1 x2 x3 : ZV) (a : Int) (L st : List ZV) (h : PH) (hx : zisL x2 = false) , zev kX4_ordered 40 (x0 :: x1 :: x2 :: x3 :: L) (zvi a :: st) h = zev kX4_ordered 41 (x0 :: x1 :: x2 :: zvi a :: L) st h) ∧
  (∀ (L st : List ZV) (h : PH), zev kX4_ordered 41 L st h = zev kX4_ordered 42 L (zvi 0 :: st) h) ∧
  (∀ (x0 x1 x2 x3 x4 : ZV) (a : Int) (L st : List ZV) (h : PH) (hx : zisL x3 = false) , zev kX4_ordered 42 (x0 :: x1 :: x2 :: x3 :: x4 :: L) (zvi a :: st) h = zev kX4_ordered 44 (x0 :: x1 :: x2 :: x3 :: zvi a :: L) st h) ∧
  (∀ (a : Option Nat) (L st : List ZV) (h : PH), zev kX4_ordered 46 (zvr a :: L) st h = zev kX4_ordered 47 (zvr a :: L) (zvr a :: st) h) ∧
  (∀ (q : Nat) (L st : List ZV) (h : PH), zev kX4_ordered 47 L (zvr (some q) :: st) h = if (ph_K h q).1 % 1000 = 18 then zev kX4_ordered 50 L (zvr (ph_R h q 6) :: st) h else none) ∧
  (∀ (L st : List ZV) (h : PH), zev kX4_ordered 50 L st h = zev kX4_ordered 51 L (zvi 4 :: st) h) ∧
  (∀ (j : Int) (q : Nat) (L st : List ZV) (h : PH), zev kX4_ordered 51 L (zvi j :: zvr (some q) :: st) h = if (ph_K h q).1 % 1000 = 1 ∧ 0 ≤ j ∧ j < (ph_K h q).2 then zev kX4_ordered 52 L (zvi (ph_I h q j) :: st) h else none) ∧
  (∀ (a b : Int) (L st : List ZV) (h : PH), zev kX4_ordered 52 L (zvi b :: zvi a :: st) h = if a ≥ b then zev kX4_ordered 112 L st h else zev kX4_ordered 55 L st h) ∧
  (∀ (x0 x1 x2 : ZV) (a : Int) (L st : List ZV) (h : PH), zev kX4_ordered 55 (x0 :: x1 :: x2 :: zvi a :: L) st h = zev kX4_ordered 56 (x0 :: x1 :: x2 :: zvi a :: L) (zvi a :: st) h) ∧
  (∀ (a : Option Nat) (L st : List ZV) (h : PH), zev kX4_ordered 56 (zvr a :: L) st h = zev kX4_ordered 57 (zvr a :: L) (zvr a :: st) h) ∧
  (∀ (x0 x1 x2 x3 : ZV) (a : Int) (L st : List ZV) (h : PH), zev kX4_ordered 57 (x0 :: x1 :: x2 :: x3 :: zvi a :: L) st h = zev kX4_ordered 59 (x0 :: x1 :: x2 :: x3 :: zvi a :: L) (zvi a :: st) h) ∧
  (∀ (v0 : ZV) (q : Nat) (L st : List ZV) (h : PH), zev kX4_ordered 59 L (v0 :: zvr (some q) :: st) h = if (ph_K h q).1 % 1000 = 18 ∧ zcat st ≤ 8 then zk kX4_ordered 59 62 L st (mX4_runs [zvr (some q), v0] h) else none) ∧
  (∀ (a : Int) (L st : List ZV) (h : PH), zev kX4_ordered 62 L (zvi a :: st) h = if a = 0 then zev kX4_ordered 103 L st h else zev kX4_ordered 65 L st h) ∧
  (∀ (a : Option Nat) (L st : List ZV) (h : PH), zev kX4_ordered 65 (zvr a :: L) st h = zev kX4_ordered 66 (zvr a :: L) (zvr a :: st) h) ∧
  (∀ (x0 x1 x2 x3 : ZV) (a : Int) (L st : List ZV) (h : PH), zev kX4_ordered 66 (x0 :: x1 :: x2 :: x3 :: zvi a :: L) st h = zev kX4_ordered 68 (x0 :: x1 :: x2 :: x3 :: zvi a :: L) (zvi a :: st) h) ∧
  (∀ (v0 : ZV) (q : Nat) (L st : List ZV) (h : PH), zev kX4_ordered 68 L (v0 :: zvr (some q) :: st) h = if (ph_K h q).1 % 1000 = 18 ∧ zcat st ≤ 8 then zk kX4_ordered 68 71 L st (mX4_leavesAt [zvr (some q), v0] h) else none) ∧
  (∀ (a : Option Nat) (L st : List ZV) (h : PH), zev kX4_ordered 71 (zvr a :: L) st h = zev kX4_ordered 72 (zvr a :: L) (zvr a :: st) h) ∧
  (∀ (x0 x1 : ZV) (a : Int) (L st : List ZV) (h : PH), zev kX4_ordered 72 (x0 :: x1 :: zvi a :: L) st h = zev kX4_ordered 73 (x0 :: x1 :: zvi a :: L) (zvi a :: st) h) ∧
  (∀ (v0 : ZV) (q : Nat) (L st : List ZV) (h : PH), zev kX4_ordered 73 L (v0 :: zvr (some q) :: st) h = if (ph_K h q).1 % 1000 = 18 ∧ zcat st ≤ 8 then zk kX4_ordered 73 76 L st (mX4_leavesAt [zvr (some q), v0] h) else none) ∧
  (∀ (a b : Int) (L st : List ZV) (h : PH), zev kX4_ordered 76 L (zvi b :: zvi a :: st) h = if a < b then zev kX4_ordered 99 L st h else zev kX4_ordered 79 L st h) ∧
  (∀ (a : Option Nat) (L st : List ZV) (h : PH), zev kX4_ordered 79 (zvr a :: L) st h = zev kX4_ordered 80 (zvr a :: L) (zvr a :: st) h) ∧
  (∀ (x0 x1 x2 x3 : ZV) (a : Int) (L st : List ZV) (h : PH), zev kX4_ordered 80 (x0 :: x1 :: x2 :: x3 :: zvi a :: L) st h = zev kX4_ordered 82 (x0 :: x1 :: x2 :: x3 :: zvi a :: L) (zvi a :: st) h) ∧
  (∀ (v0 : ZV) (q : Nat) (L st : List ZV) (h : PH), zev kX4_ordered 82 L (v0 :: zvr (some q) :: st) h = if (ph_K h q).1 % 1000 = 18 ∧ zcat st ≤ 8 then zk kX4_ordered 82 85 L st (mX4_leavesAt [zvr (some q), v0] h) else none) ∧
  (∀ (a : Option Nat) (L st : List ZV) (h : PH), zev kX4_ordered 85 (zvr a :: L) st h = zev kX4_ordered 86 (zvr a :: L) (zvr a :: st) h) ∧
  (∀ (x0 x1 : ZV) (a : Int) (L st : List ZV) (h : PH), zev kX4_ordered 86 (x0 :: x1 :: zvi a :: L) st h = zev kX4_ordered 87 (x0 :: x1 :: zvi a :: L) (zvi a :: st) h) ∧
  (∀ (v0 : ZV) (q : Nat) (L st : List ZV) (h : PH), zev kX4_ordered 87 L (v0 :: zvr (some q) :: st) h = if (ph_K h q).1 % 1000 = 18 ∧ zcat st ≤ 8 then zk kX4_ordered 87 90 L st (mX4_leavesAt [zvr (some q), v0] h) else none) ∧
  (∀ (a b : Int) (L st : List ZV) (h : PH), zev kX4_ordered 90 L (zvi b :: zvi a :: st) h = if a ≠ b then zev kX4_ordered 103 L st h else zev kX4_ordered 93 L st h) ∧
  (∀ (x0 x1 x2 x3 : ZV) (a : Int) (L st : List ZV) (h : PH), zev kX4_ordered 93 (x0 :: x1 :: x2 :: x3 :: zvi a :: L) st h = zev kX4_ordered 95 (x0 :: x1 :: x2 :: x3 :: zvi a :: L) (zvi a :: st) h) ∧
  (∀ (x0 x1 : ZV) (a : Int) (L st : List ZV) (h : PH), zev kX4_ordered 95 (x0 :: x1 :: zvi a :: L) st h = zev kX4_ordered 96 (x0 :: x1 :: zvi a :: L) (zvi a :: st) h) ∧
  (∀ (a b : Int) (L st : List ZV) (h : PH), zev kX4_ordered 96 L (zvi b :: zvi a :: st) h = if a ≥ b then zev kX4_ordered 103 L st h else zev kX4_ordered 99 L st h) ∧
  (∀ (L st : List ZV) (h : PH), zev kX4_ordered 99 L st h = zev kX4_ordered 100 L (zvi 1 :: st) h) ∧
  (∀ (L st : List ZV) (h : PH), zev kX4_ordered 100 L st h = zev kX4_ordered 104 L st h) ∧
  (∀ (L st : List ZV) (h : PH), zev kX4_ordered 103 L st h = zev kX4_ordered 104 L (zvi 0 :: st) h) ∧
  (∀ (a b : Int) (L st : List ZV) (h : PH), zev kX4_ordered 104 L (zvi b :: zvi a :: st) h = zev kX4_ordered 105 L (zvi (w32 (a + b)) :: st) h) ∧
  (∀ (x0 x1 x2 x3 : ZV) (a : Int) (L st : List ZV) (h : PH) (hx : zisL x2 = false) , zev kX4_ordered 105 (x0 :: x1 :: x2 :: x3 :: L) (zvi a :: st) h = zev kX4_ordered 106 (x0 :: x1 :: x2 :: zvi a :: L) st h) ∧
  (∀ (x0 x1 x2 x3 : ZV) (a : Int) (L st : List ZV) (h : PH) (hx : zisL x3 = false) , zev kX4_ordered 106 (x0 :: x1 :: x2 :: x3 :: zvi a :: L) st h = zev kX4_ordered 109 (x0 :: x1 :: x2 :: x3 :: zvi (w32 (a + 1)) :: L) st h) ∧
  (∀ (L st : List ZV) (h : PH), zev kX4_ordered 109 L st h = zev kX4_ordered 44 L st h) ∧
  (∀ (x0 x1 x2 : ZV) (a : Int) (L st : List ZV) (h : PH), zev kX4_ordered 112 (x0 :: x1 :: x2 :: zvi a :: L) st h = zev kX4_ordered 113 (x0 :: x1 :: x2 :: zvi a :: L) (zvi a :: st) h) ∧
  (∀ (x0 : ZV) (a : Int) (L st : List ZV) (h : PH), zev kX4_ordered 113 (x0 :: zvi a :: L) st h = zev kX4_ordered 114 (x0 :: zvi a :: L) (zvi a :: st) h) ∧
  (∀ (a b : Int) (L st : List ZV) (h : PH), zev kX4_ordered 114 L (zvi b :: zvi a :: st) h = if a ≠ b then zev kX4_ordered 119 L st h else zev kX4_ordered 117 L st h) ∧
  (∀ (x0 x1 : ZV) (a : Int) (L st : List ZV) (h : PH), zev kX4_ordered 117 (x0 :: x1 :: zvi a :: L) st h = zev kX4_ordered 118 (x0 :: x1 :: zvi a :: L) (zvi a :: st) h) ∧
  (∀ (a : Int) (L : List ZV) (h : PH), zev kX4_ordered 118 L [zvi a] h = zrv (zvi a) h) ∧
  (∀ (x0 x1 : ZV) (a : Int) (L st : List ZV) (h : PH) (hx : zisL x1 = false) , zev kX4_ordered 119 (x0 :: x1 :: zvi a :: L) st h = zev kX4_ordered 122 (x0 :: x1 :: zvi (w32 (a + 1)) :: L) st h) ∧
  (∀ (L st : List ZV) (h : PH), zev kX4_ordered 122 L st h = zev kX4_ordered 18 L st h) ∧
  (∀ (a : Option Nat) (L st : List ZV) (h : PH), zev kX4_ordered 125 (zvr a :: L) st h = zev kX4_ordered 126 (zvr a :: L) (zvr a :: st) h) ∧
  (∀ (L st : List ZV) (h : PH), zev kX4_ordered 126 L st h = zev kX4_ordered 127 L (zvi 1 :: st) h) ∧
  (∀ (v0 : ZV) (q : Nat) (L st : List ZV) (h : PH), zev kX4_ordered 127 L (v0 :: zvr (some q) :: st) h = if (ph_K h q).1 % 1000 = 18 ∧ zcat st ≤ 8 then zk kX4_ordered 127 130 L st (mX4_no [zvr (some q), v0] h) else none) ∧
  (∀ (a : Int) (L : List ZV) (h : PH), zev kX4_ordered 130 L [zvi a] h = zrv (zvi a) h) :=
  ⟨fun a L st h => e_ld0R (n := 1) rfl,
  fun a L st h => e_ld0R (n := 2) rfl,
  fun q L st h => e_getI (kd := 18) (k := 11) (n := 5) rfl,
  fun v0 L st h => e_callS1 (F := mX4_unless) (n := 8) rfl,
  fun v0 q L st h => e_callV2 (F := mX4_isRefused) (kd := 18) (n := 11) rfl,
  fun a L st h => e_ifeq (t := 16) (n := 14) rfl,
  fun L st h => e_push (v := zvi (-1)) (n := 15) rfl,
  fun a L h => e_retI rfl,
  fun L st h => e_push (v := zvi 0) (n := 17) rfl,
  fun x0 x1 x2 a L st h hx => e_st2I (n := 18) rfl hx,
  fun a L st h => e_ld0R (n := 20) rfl,
  fun q L st h => e_getR (kd := 18) (k := 6) (n := 23) rfl,
  fun L st h => e_push (v := zvi 4) (n := 24) rfl,
  fun j q L st h => e_ald (kd := 1) (n := 25) rfl,
  fun a b L st h => e_cmpge (t := 125) (n := 28) rfl,
  fun a L st h => e_ld0R (n := 29) rfl,
  fun x0 x1 a L st h => e_ld2I (n := 30) rfl,
  fun v0 q L st h => e_callV2 (F := mX4_runs) (kd := 18) (n := 33) rfl,
  fun a L st h => e_ifne (t := 39) (n := 36) rfl,
  fun L st h => e_goto (t := 119) rfl,
  fun L st h => e_push (v := zvi 0) (n := 40) rfl,
  fun x0 x1 x2 x3 a L st h hx => e_st3I (n := 41) rfl hx,
  fun L st h => e_push (v := zvi 0) (n := 42) rfl,
  fun x0 x1 x2 x3 x4 a L st h hx => e_st4I (n := 44) rfl hx,
  fun a L st h => e_ld0R (n := 47) rfl,
  fun q L st h => e_getR (kd := 18) (k := 6) (n := 50) rfl,
  fun L st h => e_push (v := zvi 4) (n := 51) rfl,
  fun j q L st h => e_ald (kd := 1) (n := 52) rfl,
  fun a b L st h => e_cmpge (t := 112) (n := 55) rfl,
  fun x0 x1 x2 a L st h => e_ld3I (n := 56) rfl,
  fun a L st h => e_ld0R (n := 57) rfl,
  fun x0 x1 x2 x3 a L st h => e_ld4I (n := 59) rfl,
  fun v0 q L st h => e_callV2 (F := mX4_runs) (kd := 18) (n := 62) rfl,
  fun a L st h => e_ifeq (t := 103) (n := 65) rfl,
  fun a L st h => e_ld0R (n := 66) rfl,
  fun x0 x1 x2 x3 a L st h => e_ld4I (n := 68) rfl,
  fun v0 q L st h => e_callV2 (F := mX4_leavesAt) (kd := 18) (n := 71) rfl,
  fun a L st h => e_ld0R (n := 72) rfl,
  fun x0 x1 a L st h => e_ld2I (n := 73) rfl,
  fun v0 q L st h => e_callV2 (F := mX4_leavesAt) (kd := 18) (n := 76) rfl,
  fun a b L st h => e_cmplt (t := 99) (n := 79) rfl,
  fun a L st h => e_ld0R (n := 80) rfl,
  fun x0 x1 x2 x3 a L st h => e_ld4I (n := 82) rfl,
  fun v0 q L st h => e_callV2 (F := mX4_leavesAt) (kd := 18) (n := 85) rfl,
  fun a L st h => e_ld0R (n := 86) rfl,
  fun x0 x1 a L st h => e_ld2I (n := 87) rfl,
  fun v0 q L st h => e_callV2 (F := mX4_leavesAt) (kd := 18) (n := 90) rfl,
  fun a b L st h => e_cmpne (t := 103) (n := 93) rfl,
  fun x0 x1 x2 x3 a L st h => e_ld4I (n := 95) rfl,
  fun x0 x1 a L st h => e_ld2I (n := 96) rfl,
  fun a b L st h => e_cmpge (t := 103) (n := 99) rfl,
  fun L st h => e_push (v := zvi 1) (n := 100) rfl,
  fun L st h => e_goto (t := 104) rfl,
  fun L st h => e_push (v := zvi 0) (n := 104) rfl,
  fun a b L st h => e_bin (f := (fun a b => w32 (a + b))) (n := 105) rfl,
  fun x0 x1 x2 x3 a L st h hx => e_st3I (n := 106) rfl hx,
  fun x0 x1 x2 x3 a L st h hx => e_iinc4 (d := 1) (n := 109) rfl hx,
  fun L st h => e_goto (t := 44) rfl,
  fun x0 x1 x2 a L st h => e_ld3I (n := 113) rfl,
  fun x0 a L st h => e_ld1I (n := 114) rfl,
  fun a b L st h => e_cmpne (t := 119) (n := 117) rfl,
  fun x0 x1 a L st h => e_ld2I (n := 118) rfl,
  fun a L h => e_retI rfl,
  fun x0 x1 a L st h hx => e_iinc2 (d := 1) (n := 122) rfl hx,
  fun L st h => e_goto (t := 18) rfl,
  fun a L st h => e_ld0R (n := 126) rfl,
  fun L st h => e_push (v := zvi 1) (n := 127) rfl,
  fun v0 q L st h => e_callV2 (F := mX4_no) (kd := 18) (n := 130) rfl,
  fun a L h => e_retI rfl⟩
theorem allX4_ordered : zall yX4_ordered cX4_ordered 5 (some .int) 3 kX4_ordered.1 :=
  ⟨k_aload_n dX4_ordered_0,
  k_aload_n dX4_ordered_1,
  k_getI (C := RX4) (T := TX4) (N := 42) (ci := 2) (k := 11) (ref := "LinkTimesModel") dX4_ordered_2 rfl in_X4 (by decide) q1810 (Or.inl rfl) (fun _ _ _ => rfl),
  k_callS (y2 := yX4_unless) dX4_ordered_5 sndX4_unless q2069 q2070 q137 q2071 (by decide +kernel) ⟨by decide, by decide⟩ (by decide) (by decide),
  k_callV (y2 := yX4_isRefused) (C := RX4) (T0 := TX4) (ci := 2) dX4_ordered_8 sndX4_isRefused rfl q1946 q1948 qs70 q137 q1949 (by decide +kernel) ⟨by decide, by decide⟩ (by decide) (by decide),
  k_ifeq (t := 16) dX4_ordered_11 (by decide),
  k_iconst dX4_ordered_14,
  k_iret dX4_ordered_15,
  k_iconst dX4_ordered_16,
  k_istore_n dX4_ordered_17,
  k_iload_n dX4_ordered_18,
  k_aload_n dX4_ordered_19,
  k_getR (C := RX4) (T := TX4) (N := 42) (ci := 2) (k := 6) (ref := "LinkTimesModel") dX4_ordered_20 rfl in_X4 (by decide) q1805 (Or.inl rfl) (fun _ _ _ => rfl),
  k_iconst dX4_ordered_23,
  k_iald dX4_ordered_24,
  k_cmpge (t := 125) dX4_ordered_25 (by decide),
  k_aload_n dX4_ordered_28,
  k_iload_n dX4_ordered_29,
  k_callV (y2 := yX4_runs) (C := RX4) (T0 := TX4) (ci := 2) dX4_ordered_30 sndX4_runs rfl q2076 q2078 qs92 q137 q2079 (by decide +kernel) ⟨by decide, by decide⟩ (by decide) (by decide),
  k_ifne (t := 39) dX4_ordered_33 (by decide),
  k_goto (t := 119) dX4_ordered_36 (by decide),
  k_iconst dX4_ordered_39,
  k_istore_n dX4_ordered_40,
  k_iconst dX4_ordered_41,
  k_istore dX4_ordered_42,
  k_iload dX4_ordered_44,
  k_aload_n dX4_ordered_46,
  k_getR (C := RX4) (T := TX4) (N := 42) (ci := 2) (k := 6) (ref := "LinkTimesModel") dX4_ordered_47 rfl in_X4 (by decide) q1805 (Or.inl rfl) (fun _ _ _ => rfl),
  k_iconst dX4_ordered_50,
  k_iald dX4_ordered_51,
  k_cmpge (t := 112) dX4_ordered_52 (by decide),
  k_iload_n dX4_ordered_55,
  k_aload_n dX4_ordered_56,
  k_iload dX4_ordered_57,
  k_callV (y2 := yX4_runs) (C := RX4) (T0 := TX4) (ci := 2) dX4_ordered_59 sndX4_runs rfl q2076 q2078 qs92 q137 q2079 (by decide +kernel) ⟨by decide, by decide⟩ (by decide) (by decide),
  k_ifeq (t := 103) dX4_ordered_62 (by decide),
  k_aload_n dX4_ordered_65,
  k_iload dX4_ordered_66,
  k_callV (y2 := yX4_leavesAt) (C := RX4) (T0 := TX4) (ci := 2) dX4_ordered_68 sndX4_leavesAt rfl q2100 q2102 qs96 q137 q2103 (by decide +kernel) ⟨by decide, by decide⟩ (by decide) (by decide),
  k_aload_n dX4_ordered_71,
  k_iload_n dX4_ordered_72,
  k_callV (y2 := yX4_leavesAt) (C := RX4) (T0 := TX4) (ci := 2) dX4_ordered_73 sndX4_leavesAt rfl q2100 q2102 qs96 q137 q2103 (by decide +kernel) ⟨by decide, by decide⟩ (by decide) (by decide),
  k_cmplt (t := 99) dX4_ordered_76 (by decide),
  k_aload_n dX4_ordered_79,
  k_iload dX4_ordered_80,
  k_callV (y2 := yX4_leavesAt) (C := RX4) (T0 := TX4) (ci := 2) dX4_ordered_82 sndX4_leavesAt rfl q2100 q2102 qs96 q137 q2103 (by decide +kernel) ⟨by decide, by decide⟩ (by decide) (by decide),
  k_aload_n dX4_ordered_85,
  k_iload_n dX4_ordered_86,
  k_callV (y2 := yX4_leavesAt) (C := RX4) (T0 := TX4) (ci := 2) dX4_ordered_87 sndX4_leavesAt rfl q2100 q2102 qs96 q137 q2103 (by decide +kernel) ⟨by decide, by decide⟩ (by decide) (by decide),
  k_cmpne (t := 103) dX4_ordered_90 (by decide),
  k_iload dX4_ordered_93,
  k_iload_n dX4_ordered_95,
  k_cmpge (t := 103) dX4_ordered_96 (by decide),
  k_iconst dX4_ordered_99,
  k_goto (t := 104) dX4_ordered_100 (by decide),
  k_iconst dX4_ordered_103,
  k_iadd dX4_ordered_104,
  k_istore_n dX4_ordered_105,
  k_iinc dX4_ordered_106,
  k_goto (t := 44) dX4_ordered_109 (by decide),
  k_iload_n dX4_ordered_112,
  k_iload_n dX4_ordered_113,
  k_cmpne (t := 119) dX4_ordered_114 (by decide),
  k_iload_n dX4_ordered_117,
  k_iret dX4_ordered_118,
  k_iinc dX4_ordered_119,
  k_goto (t := 18) dX4_ordered_122 (by decide),
  k_aload_n dX4_ordered_125,
  k_iconst dX4_ordered_126,
  k_callV (y2 := yX4_no) (C := RX4) (T0 := TX4) (ci := 2) dX4_ordered_127 sndX4_no rfl q2050 q2052 qs90 q137 q2053 (by decide +kernel) ⟨by decide, by decide⟩ (by decide) (by decide),
  k_iret dX4_ordered_130, trivial⟩
theorem sndX4_ordered : MSound 3 yX4_ordered (ws_ yX4_ordered cX4_ordered 5 (some .int)) mX4_ordered := msound_M (by decide) allX4_ordered (fun _ _ => rfl)
/-! LinkTimesModel.unless(ZZ)I -/
noncomputable def kX4_unless_2 : ZM := ([(0, zi_ld 0 0 1), (1, zi_if (fun a => zc_ne a 0) 8 4), (4, zi_push (zvi 1) 5), (5, zi_goto 17), (8, zi_ld 0 1 9), (9, zi_if (fun a => zc_eq a 0) 16 12), (12, zi_push (zvi 0) 13), (13, zi_goto 17), (16, zi_push (zvi 2) 17), (17, zi_retv 0)], fun _ _ => none)
noncomputable def mX4_unless_2 : ZF := zrunM kX4_unless_2 2
theorem enX4_unless_2 (x0 : Int) (x1 : Int) (h : PH) : mX4_unless_2 [zvi x0, zvi x1] h = zev kX4_unless_2 0 [zvi x0, zvi x1] [] h := zrunM_eq rfl rfl
theorem rX4_unless_2 : (∀ (a : Int) (L st : List ZV) (h : PH), zev kX4_unless_2 0 (zvi a :: L) st h = zev kX4_unless_2 1 (zvi a :: L) (zvi a :: st) h) ∧
  (∀ (a : Int) (L st : List ZV) (h : PH), zev kX4_unless_2 1 L (zvi a :: st) h = if a ≠ 0 then zev kX4_unless_2 8 L st h else zev kX4_unless_2 4 L st h) ∧
  (∀ (L st : List ZV) (h : PH), zev kX4_unless_2 4 L st h = zev kX4_unless_2 5 L (zvi 1 :: st) h) ∧
  (∀ (L st : List ZV) (h : PH), zev kX4_unless_2 5 L st h = zev kX4_unless_2 17 L st h) ∧
  (∀ (x0 : ZV) (a : Int) (L st : List ZV) (h : PH), zev kX4_unless_2 8 (x0 :: zvi a :: L) st h = zev kX4_unless_2 9 (x0 :: zvi a :: L) (zvi a :: st) h) ∧
  (∀ (a : Int) (L st : List ZV) (h : PH), zev kX4_unless_2 9 L (zvi a :: st) h = if a = 0 then zev kX4_unless_2 16 L st h else zev kX4_unless_2 12 L st h) ∧
  (∀ (L st : List ZV) (h : PH), zev kX4_unless_2 12 L st h = zev kX4_unless_2 13 L (zvi 0 :: st) h) ∧
  (∀ (L st : List ZV) (h : PH), zev kX4_unless_2 13 L st h = zev kX4_unless_2 17 L st h) ∧
  (∀ (L st : List ZV) (h : PH), zev kX4_unless_2 16 L st h = zev kX4_unless_2 17 L (zvi 2 :: st) h) ∧
  (∀ (a : Int) (L : List ZV) (h : PH), zev kX4_unless_2 17 L [zvi a] h = zrv (zvi a) h) :=
  ⟨fun a L st h => e_ld0I (n := 1) rfl,
  fun a L st h => e_ifne (t := 8) (n := 4) rfl,
  fun L st h => e_push (v := zvi 1) (n := 5) rfl,
  fun L st h => e_goto (t := 17) rfl,
  fun x0 a L st h => e_ld1I (n := 9) rfl,
  fun a L st h => e_ifeq (t := 16) (n := 12) rfl,
  fun L st h => e_push (v := zvi 0) (n := 13) rfl,
  fun L st h => e_goto (t := 17) rfl,
  fun L st h => e_push (v := zvi 2) (n := 17) rfl,
  fun a L h => e_retI rfl⟩
theorem allX4_unless_2 : zall yX4_unless_2 cX4_unless_2 2 (some .int) 1 kX4_unless_2.1 :=
  ⟨k_iload_n dX4_unless_2_0,
  k_ifne (t := 8) dX4_unless_2_1 (by decide),
  k_iconst dX4_unless_2_4,
  k_goto (t := 17) dX4_unless_2_5 (by decide),
  k_iload_n dX4_unless_2_8,
  k_ifeq (t := 16) dX4_unless_2_9 (by decide),
  k_iconst dX4_unless_2_12,
  k_goto (t := 17) dX4_unless_2_13 (by decide),
  k_iconst dX4_unless_2_16,
  k_iret dX4_unless_2_17, trivial⟩
theorem sndX4_unless_2 : MSound 1 yX4_unless_2 (ws_ yX4_unless_2 cX4_unless_2 2 (some .int)) mX4_unless_2 := msound_M (by decide) allX4_unless_2 (fun _ _ => rfl)
/-! LinkTimesModel.wayWhy(III)I -/
noncomputable def kX4_wayWhy : ZM := ([(0, zi_ld 1 0 1), (1, zi_ld 0 1 2), (2, zi_callV mX4_isSpot 18 2 5), (5, zi_if (fun a => zc_eq a 0) 20 8), (8, zi_ld 1 0 9), (9, zi_ld 0 2 10), (10, zi_callV mX4_isSpot 18 2 13), (13, zi_if (fun a => zc_eq a 0) 20 16), (16, zi_push (zvi 1) 17), (17, zi_goto 21), (20, zi_push (zvi 0) 21), (21, zi_ld 0 3 22), (22, zi_push (zvi 0) 23), (23, zi_push (zvi 1999) 26), (26, zi_callS mX4_in 3 29), (29, zi_callS mX4_unless_2 2 32), (32, zi_retv 0)], fun _ _ => none)
noncomputable def mX4_wayWhy : ZF := zrunM kX4_wayWhy 4
theorem enX4_wayWhy (x0 : Option Nat) (x1 : Int) (x2 : Int) (x3 : Int) (h : PH) : mX4_wayWhy [zvr x0, zvi x1, zvi x2, zvi x3] h = zev kX4_wayWhy 0 [zvr x0, zvi x1, zvi x2, zvi x3] [] h := zrunM_eq rfl rfl
theorem rX4_wayWhy : (∀ (a : Option Nat) (L st : List ZV) (h : PH), zev kX4_wayWhy 0 (zvr a :: L) st h = zev kX4_wayWhy 1 (zvr a :: L) (zvr a :: st) h) ∧
  (∀ (x0 : ZV) (a : Int) (L st : List ZV) (h : PH), zev kX4_wayWhy 1 (x0 :: zvi a :: L) st h = zev kX4_wayWhy 2 (x0 :: zvi a :: L) (zvi a :: st) h) ∧
  (∀ (v0 : ZV) (q : Nat) (L st : List ZV) (h : PH), zev kX4_wayWhy 2 L (v0 :: zvr (some q) :: st) h = if (ph_K h q).1 % 1000 = 18 ∧ zcat st ≤ 8 then zk kX4_wayWhy 2 5 L st (mX4_isSpot [zvr (some q), v0] h) else none) ∧
  (∀ (a : Int) (L st : List ZV) (h : PH), zev kX4_wayWhy 5 L (zvi a :: st) h = if a = 0 then zev kX4_wayWhy 20 L st h else zev kX4_wayWhy 8 L st h) ∧
  (∀ (a : Option Nat) (L st : List ZV) (h : PH), zev kX4_wayWhy 8 (zvr a :: L) st h = zev kX4_wayWhy 9 (zvr a :: L) (zvr a :: st) h) ∧
  (∀ (x0 x1 : ZV) (a : Int) (L st : List ZV) (h : PH), zev kX4_wayWhy 9 (x0 :: x1 :: zvi a :: L) st h = zev kX4_wayWhy 10 (x0 :: x1 :: zvi a :: L) (zvi a :: st) h) ∧
  (∀ (v0 : ZV) (q : Nat) (L st : List ZV) (h : PH), zev kX4_wayWhy 10 L (v0 :: zvr (some q) :: st) h = if (ph_K h q).1 % 1000 = 18 ∧ zcat st ≤ 8 then zk kX4_wayWhy 10 13 L st (mX4_isSpot [zvr (some q), v0] h) else none) ∧
  (∀ (a : Int) (L st : List ZV) (h : PH), zev kX4_wayWhy 13 L (zvi a :: st) h = if a = 0 then zev kX4_wayWhy 20 L st h else zev kX4_wayWhy 16 L st h) ∧
  (∀ (L st : List ZV) (h : PH), zev kX4_wayWhy 16 L st h = zev kX4_wayWhy 17 L (zvi 1 :: st) h) ∧
  (∀ (L st : List ZV) (h : PH), zev kX4_wayWhy 17 L st h = zev kX4_wayWhy 21 L st h) ∧
  (∀ (L st : List ZV) (h : PH), zev kX4_wayWhy 20 L st h = zev kX4_wayWhy 21 L (zvi 0 :: st) h) ∧
  (∀ (x0 x1 x2 : ZV) (a : Int) (L st : List ZV) (h : PH), zev kX4_wayWhy 21 (x0 :: x1 :: x2 :: zvi a :: L) st h = zev kX4_wayWhy 22 (x0 :: x1 :: x2 :: zvi a :: L) (zvi a :: st) h) ∧
  (∀ (L st : List ZV) (h : PH), zev kX4_wayWhy 22 L st h = zev kX4_wayWhy 23 L (zvi 0 :: st) h) ∧
  (∀ (L st : List ZV) (h : PH), zev kX4_wayWhy 23 L st h = zev kX4_wayWhy 26 L (zvi 1999 :: st) h) ∧
  (∀ (v0 v1 v2 : ZV) (L st : List ZV) (h : PH), zev kX4_wayWhy 26 L (v2 :: v1 :: v0 :: st) h = if zcat st ≤ 8 then zk kX4_wayWhy 26 29 L st (mX4_in [v0, v1, v2] h) else none) ∧
  (∀ (v0 v1 : ZV) (L st : List ZV) (h : PH), zev kX4_wayWhy 29 L (v1 :: v0 :: st) h = if zcat st ≤ 8 then zk kX4_wayWhy 29 32 L st (mX4_unless_2 [v0, v1] h) else none) ∧
  (∀ (a : Int) (L : List ZV) (h : PH), zev kX4_wayWhy 32 L [zvi a] h = zrv (zvi a) h) :=
  ⟨fun a L st h => e_ld0R (n := 1) rfl,
  fun x0 a L st h => e_ld1I (n := 2) rfl,
  fun v0 q L st h => e_callV2 (F := mX4_isSpot) (kd := 18) (n := 5) rfl,
  fun a L st h => e_ifeq (t := 20) (n := 8) rfl,
  fun a L st h => e_ld0R (n := 9) rfl,
  fun x0 x1 a L st h => e_ld2I (n := 10) rfl,
  fun v0 q L st h => e_callV2 (F := mX4_isSpot) (kd := 18) (n := 13) rfl,
  fun a L st h => e_ifeq (t := 20) (n := 16) rfl,
  fun L st h => e_push (v := zvi 1) (n := 17) rfl,
  fun L st h => e_goto (t := 21) rfl,
  fun L st h => e_push (v := zvi 0) (n := 21) rfl,
  fun x0 x1 x2 a L st h => e_ld3I (n := 22) rfl,
  fun L st h => e_push (v := zvi 0) (n := 23) rfl,
  fun L st h => e_push (v := zvi 1999) (n := 26) rfl,
  fun v0 v1 v2 L st h => e_callS3 (F := mX4_in) (n := 29) rfl,
  fun v0 v1 L st h => e_callS2 (F := mX4_unless_2) (n := 32) rfl,
  fun a L h => e_retI rfl⟩
theorem allX4_wayWhy : zall yX4_wayWhy cX4_wayWhy 4 (some .int) 3 kX4_wayWhy.1 :=
  ⟨k_aload_n dX4_wayWhy_0,
  k_iload_n dX4_wayWhy_1,
  k_callV (y2 := yX4_isSpot) (C := RX4) (T0 := TX4) (ci := 2) dX4_wayWhy_2 sndX4_isSpot rfl q2084 q2086 qs93 q137 q2087 (by decide +kernel) ⟨by decide, by decide⟩ (by decide) (by decide),
  k_ifeq (t := 20) dX4_wayWhy_5 (by decide),
  k_aload_n dX4_wayWhy_8,
  k_iload_n dX4_wayWhy_9,
  k_callV (y2 := yX4_isSpot) (C := RX4) (T0 := TX4) (ci := 2) dX4_wayWhy_10 sndX4_isSpot rfl q2084 q2086 qs93 q137 q2087 (by decide +kernel) ⟨by decide, by decide⟩ (by decide) (by decide),
  k_ifeq (t := 20) dX4_wayWhy_13 (by decide),
  k_iconst dX4_wayWhy_16,
  k_goto (t := 21) dX4_wayWhy_17 (by decide),
  k_iconst dX4_wayWhy_20,
  k_iload_n dX4_wayWhy_21,
  k_iconst dX4_wayWhy_22,
  k_sipush dX4_wayWhy_23,
  k_callS (y2 := yX4_in) dX4_wayWhy_26 sndX4_in q1943 q1944 q137 q1945 (by decide +kernel) ⟨by decide, by decide⟩ (by decide) (by decide),
  k_callS (y2 := yX4_unless_2) dX4_wayWhy_29 sndX4_unless_2 q2120 q2121 q137 q2122 (by decide +kernel) ⟨by decide, by decide⟩ (by decide) (by decide),
  k_iret dX4_wayWhy_32, trivial⟩
theorem sndX4_wayWhy : MSound 3 yX4_wayWhy (ws_ yX4_wayWhy cX4_wayWhy 4 (some .int)) mX4_wayWhy := msound_M (by decide) allX4_wayWhy (fun _ _ => rfl)
/-! LinkTimesModel.sorts()V -/
noncomputable def kX4_sorts : ZM := ([(0, zi_ld 1 0 1), (1, zi_push (zvi 0) 2), (2, zi_putI 18 28 5), (5, zi_push (zvi 0) 6), (6, zi_st 0 1 7), (7, zi_ld 0 1 8), (8, zi_ld 1 0 9), (9, zi_getR 18 6 12), (12, zi_push (zvi 4) 13), (13, zi_ald 1 14), (14, zi_cmp zc_ge 100 17), (17, zi_ld 1 0 18), (18, zi_ld 0 1 19), (19, zi_callV mX4_runs 18 2 22), (22, zi_if (fun a => zc_ne a 0) 28 25), (25, zi_goto 94), (28, zi_ld 1 0 29), (29, zi_getI 18 28 32), (32, zi_st 0 2 33), (33, zi_ld 0 2 34), (34, zi_if (fun a => zc_le a 0) 77 37), (37, zi_ld 1 0 38), (38, zi_ld 1 0 39), (39, zi_getR 18 27 42), (42, zi_ld 0 2 43), (43, zi_push (zvi 1) 44), (44, zi_bin (fun a b => w32 (a - b)) 45), (45, zi_ald 1 46), (46, zi_callV mX4_leavesAt 18 2 49), (49, zi_ld 1 0 50), (50, zi_ld 0 1 51), (51, zi_callV mX4_leavesAt 18 2 54), (54, zi_cmp zc_ge 77 57), (57, zi_ld 1 0 58), (58, zi_getR 18 27 61), (61, zi_ld 0 2 62), (62, zi_ld 1 0 63), (63, zi_getR 18 27 66), (66, zi_ld 0 2 67), (67, zi_push (zvi 1) 68), (68, zi_bin (fun a b => w32 (a - b)) 69), (69, zi_ald 1 70), (70, zi_ast 71), (71, zi_iinc 2 (-1) 74), (74, zi_goto 33), (77, zi_ld 1 0 78), (78, zi_getR 18 27 81), (81, zi_ld 0 2 82), (82, zi_ld 0 1 83), (83, zi_ast 84), (84, zi_ld 1 0 85), (85, zi_dup 86), (86, zi_getI 18 28 89), (89, zi_push (zvi 1) 90), (90, zi_bin (fun a b => w32 (a + b)) 91), (91, zi_putI 18 28 94), (94, zi_iinc 1 1 97), (97, zi_goto 7), (100, zi_ret)], fun _ _ => none)
noncomputable def mX4_sorts : ZF := zrunM kX4_sorts 3
theorem enX4_sorts (x0 : Option Nat) (h : PH) : mX4_sorts [zvr x0] h = zev kX4_sorts 0 [zvr x0, zvu, zvu] [] h := zrunM_eq rfl rfl
theorem hdX4_sorts_7 (x0 : ZV) (a : Int) (L st : List ZV) (h : PH) : zev kX4_sorts 7 (x0 :: zvi a :: L) st h = zev kX4_sorts 8 (x0 :: zvi a :: L) (zvi a :: st) h := e_ld1I (n := 8) rfl
theorem hdX4_sorts_33 (x0 x1 : ZV) (a : Int) (L st : List ZV) (h : PH) : zev kX4_sorts 33 (x0 :: x1 :: zvi a :: L) st h = zev kX4_sorts 34 (x0 :: x1 :: zvi a :: L) (zvi a :: st) h := e_ld2I (n := 34) rfl
theorem rX4_sorts : (∀ (a : Option Nat) (L st : List ZV) (h : PH), zev kX4_sorts 0 (zvr a :: L) st h = zev kX4_sorts 1 (zvr a :: L) (zvr a :: st) h) ∧
  (∀ (L st : List ZV) (h : PH), zev kX4_sorts 1 L st h = zev kX4_sorts 2 L (zvi 0 :: st) h) ∧
  (∀ (a : Int) (q : Nat) (L st : List ZV) (h : PH), zev kX4_sorts 2 L (zvi a :: zvr (some q) :: st) h = if (ph_K h q).1 = 18 then zev kX4_sorts 5 L st (st_I h q 28 a) else none) ∧
  (∀ (L st : List ZV) (h : PH), zev kX4_sorts 5 L st h = zev kX4_sorts 6 L (zvi 0 :: st) h) ∧
  (∀ (x0 x1 : ZV) (a : Int) (L st : List ZV) (h : PH) (hx : zisL x0 = false) , zev kX4_sorts 6 (x0 :: x1 :: L) (zvi a :: st) h = zev kX4_sorts 7 (x0 :: zvi a :: L) st h) ∧
  (∀ (a : Option Nat) (L st : List ZV) (h : PH), zev kX4_sorts 8 (zvr a :: L) st h = zev kX4_sorts 9 (zvr a :: L) (zvr a :: st) h) ∧
  (∀ (q : Nat) (L st : List ZV) (h : PH), zev kX4_sorts 9 L (zvr (some q) :: st) h = if (ph_K h q).1 % 1000 = 18 then zev kX4_sorts 12 L (zvr (ph_R h q 6) :: st) h else none) ∧
  (∀ (L st : List ZV) (h : PH), zev kX4_sorts 12 L st h = zev kX4_sorts 13 L (zvi 4 :: st) h) ∧
  (∀ (j : Int) (q : Nat) (L st : List ZV) (h : PH), zev kX4_sorts 13 L (zvi j :: zvr (some q) :: st) h = if (ph_K h q).1 % 1000 = 1 ∧ 0 ≤ j ∧ j < (ph_K h q).2 then zev kX4_sorts 14 L (zvi (ph_I h q j) :: st) h else none) ∧
  (∀ (a b : Int) (L st : List ZV) (h : PH), zev kX4_sorts 14 L (zvi b :: zvi a :: st) h = if a ≥ b then zev kX4_sorts 100 L st h else zev kX4_sorts 17 L st h) ∧
  (∀ (a : Option Nat) (L st : List ZV) (h : PH), zev kX4_sorts 17 (zvr a :: L) st h = zev kX4_sorts 18 (zvr a :: L) (zvr a :: st) h) ∧
  (∀ (x0 : ZV) (a : Int) (L st : List ZV) (h : PH), zev kX4_sorts 18 (x0 :: zvi a :: L) st h = zev kX4_sorts 19 (x0 :: zvi a :: L) (zvi a :: st) h) ∧
  (∀ (v0 : ZV) (q : Nat) (L st : List ZV) (h : PH), zev kX4_sorts 19 L (v0 :: zvr (some q) :: st) h = if (ph_K h q).1 % 1000 = 18 ∧ zcat st ≤ 8 then zk kX4_sorts 19 22 L st (mX4_runs [zvr (some q), v0] h) else none) ∧
  (∀ (a : Int) (L st : List ZV) (h : PH), zev kX4_sorts 22 L (zvi a :: st) h = if a ≠ 0 then zev kX4_sorts 28 L st h else zev kX4_sorts 25 L st h) ∧
  (∀ (L st : List ZV) (h : PH), zev kX4_sorts 25 L st h = zev kX4_sorts 94 L st h) ∧
  (∀ (a : Option Nat) (L st : List ZV) (h : PH), zev kX4_sorts 28 (zvr a :: L) st h = zev kX4_sorts 29 (zvr a :: L) (zvr a :: st) h) ∧
  (∀ (q : Nat) (L st : List ZV) (h : PH), zev kX4_sorts 29 L (zvr (some q) :: st) h = if (ph_K h q).1 % 1000 = 18 then zev kX4_sorts 32 L (zvi (ph_I h q 28) :: st) h else none) ∧
  (∀ (x0 x1 x2 : ZV) (a : Int) (L st : List ZV) (h : PH) (hx : zisL x1 = false) , zev kX4_sorts 32 (x0 :: x1 :: x2 :: L) (zvi a :: st) h = zev kX4_sorts 33 (x0 :: x1 :: zvi a :: L) st h) ∧
  (∀ (a : Int) (L st : List ZV) (h : PH), zev kX4_sorts 34 L (zvi a :: st) h = if a ≤ 0 then zev kX4_sorts 77 L st h else zev kX4_sorts 37 L st h) ∧
  (∀ (a : Option Nat) (L st : List ZV) (h : PH), zev kX4_sorts 37 (zvr a :: L) st h = zev kX4_sorts 38 (zvr a :: L) (zvr a :: st) h) ∧
  (∀ (a : Option Nat) (L st : List ZV) (h : PH), zev kX4_sorts 38 (zvr a :: L) st h = zev kX4_sorts 39 (zvr a :: L) (zvr a :: st) h) ∧
  (∀ (q : Nat) (L st : List ZV) (h : PH), zev kX4_sorts 39 L (zvr (some q) :: st) h = if (ph_K h q).1 % 1000 = 18 then zev kX4_sorts 42 L (zvr (ph_R h q 27) :: st) h else none) ∧
  (∀ (x0 x1 : ZV) (a : Int) (L st : List ZV) (h : PH), zev kX4_sorts 42 (x0 :: x1 :: zvi a :: L) st h = zev kX4_sorts 43 (x0 :: x1 :: zvi a :: L) (zvi a :: st) h) ∧
  (∀ (L st : List ZV) (h : PH), zev kX4_sorts 43 L st h = zev kX4_sorts 44 L (zvi 1 :: st) h) ∧
  (∀ (a b : Int) (L st : List ZV) (h : PH), zev kX4_sorts 44 L (zvi b :: zvi a :: st) h = zev kX4_sorts 45 L (zvi (w32 (a - b)) :: st) h) ∧
  (∀ (j : Int) (q : Nat) (L st : List ZV) (h : PH), zev kX4_sorts 45 L (zvi j :: zvr (some q) :: st) h = if (ph_K h q).1 % 1000 = 1 ∧ 0 ≤ j ∧ j < (ph_K h q).2 then zev kX4_sorts 46 L (zvi (ph_I h q j) :: st) h else none) ∧
  (∀ (v0 : ZV) (q : Nat) (L st : List ZV) (h : PH), zev kX4_sorts 46 L (v0 :: zvr (some q) :: st) h = if (ph_K h q).1 % 1000 = 18 ∧ zcat st ≤ 8 then zk kX4_sorts 46 49 L st (mX4_leavesAt [zvr (some q), v0] h) else none) ∧
  (∀ (a : Option Nat) (L st : List ZV) (h : PH), zev kX4_sorts 49 (zvr a :: L) st h = zev kX4_sorts 50 (zvr a :: L) (zvr a :: st) h) ∧
  (∀ (x0 : ZV) (a : Int) (L st : List ZV) (h : PH), zev kX4_sorts 50 (x0 :: zvi a :: L) st h = zev kX4_sorts 51 (x0 :: zvi a :: L) (zvi a :: st) h) ∧
  (∀ (v0 : ZV) (q : Nat) (L st : List ZV) (h : PH), zev kX4_sorts 51 L (v0 :: zvr (some q) :: st) h = if (ph_K h q).1 % 1000 = 18 ∧ zcat st ≤ 8 then zk kX4_sorts 51 54 L st (mX4_leavesAt [zvr (some q), v0] h) else none) ∧
  (∀ (a b : Int) (L st : List ZV) (h : PH), zev kX4_sorts 54 L (zvi b :: zvi a :: st) h = if a ≥ b then zev kX4_sorts 77 L st h else zev kX4_sorts 57 L st h) ∧
  (∀ (a : Option Nat) (L st : List ZV) (h : PH), zev kX4_sorts 57 (zvr a :: L) st h = zev kX4_sorts 58 (zvr a :: L) (zvr a :: st) h) ∧
  (∀ (q : Nat) (L st : List ZV) (h : PH), zev kX4_sorts 58 L (zvr (some q) :: st) h = if (ph_K h q).1 % 1000 = 18 then zev kX4_sorts 61 L (zvr (ph_R h q 27) :: st) h else none) ∧
  (∀ (x0 x1 : ZV) (a : Int) (L st : List ZV) (h : PH), zev kX4_sorts 61 (x0 :: x1 :: zvi a :: L) st h = zev kX4_sorts 62 (x0 :: x1 :: zvi a :: L) (zvi a :: st) h) ∧
  (∀ (a : Option Nat) (L st : List ZV) (h : PH), zev kX4_sorts 62 (zvr a :: L) st h = zev kX4_sorts 63 (zvr a :: L) (zvr a :: st) h) ∧
  (∀ (q : Nat) (L st : List ZV) (h : PH), zev kX4_sorts 63 L (zvr (some q) :: st) h = if (ph_K h q).1 % 1000 = 18 then zev kX4_sorts 66 L (zvr (ph_R h q 27) :: st) h else none) ∧
  (∀ (x0 x1 : ZV) (a : Int) (L st : List ZV) (h : PH), zev kX4_sorts 66 (x0 :: x1 :: zvi a :: L) st h = zev kX4_sorts 67 (x0 :: x1 :: zvi a :: L) (zvi a :: st) h) ∧
  (∀ (L st : List ZV) (h : PH), zev kX4_sorts 67 L st h = zev kX4_sorts 68 L (zvi 1 :: st) h) ∧
  (∀ (a b : Int) (L st : List ZV) (h : PH), zev kX4_sorts 68 L (zvi b :: zvi a :: st) h = zev kX4_sorts 69 L (zvi (w32 (a - b)) :: st) h) ∧
  (∀ (j : Int) (q : Nat) (L st : List ZV) (h : PH), zev kX4_sorts 69 L (zvi j :: zvr (some q) :: st) h = if (ph_K h q).1 % 1000 = 1 ∧ 0 ≤ j ∧ j < (ph_K h q).2 then zev kX4_sorts 70 L (zvi (ph_I h q j) :: st) h else none) ∧
  (∀ (x j : Int) (q : Nat) (L st : List ZV) (h : PH), zev kX4_sorts 70 L (zvi x :: zvi j :: zvr (some q) :: st) h = if (ph_K h q).1 = 1 ∧ 0 ≤ j ∧ j < (ph_K h q).2 then zev kX4_sorts 71 L st (st_I h q j x) else none) ∧
  (∀ (x0 x1 : ZV) (a : Int) (L st : List ZV) (h : PH) (hx : zisL x1 = false) , zev kX4_sorts 71 (x0 :: x1 :: zvi a :: L) st h = zev kX4_sorts 74 (x0 :: x1 :: zvi (w32 (a + (-1))) :: L) st h) ∧
  (∀ (L st : List ZV) (h : PH), zev kX4_sorts 74 L st h = zev kX4_sorts 33 L st h) ∧
  (∀ (a : Option Nat) (L st : List ZV) (h : PH), zev kX4_sorts 77 (zvr a :: L) st h = zev kX4_sorts 78 (zvr a :: L) (zvr a :: st) h) ∧
  (∀ (q : Nat) (L st : List ZV) (h : PH), zev kX4_sorts 78 L (zvr (some q) :: st) h = if (ph_K h q).1 % 1000 = 18 then zev kX4_sorts 81 L (zvr (ph_R h q 27) :: st) h else none) ∧
  (∀ (x0 x1 : ZV) (a : Int) (L st : List ZV) (h : PH), zev kX4_sorts 81 (x0 :: x1 :: zvi a :: L) st h = zev kX4_sorts 82 (x0 :: x1 :: zvi a :: L) (zvi a :: st) h) ∧
  (∀ (x0 : ZV) (a : Int) (L st : List ZV) (h : PH), zev kX4_sorts 82 (x0 :: zvi a :: L) st h = zev kX4_sorts 83 (x0 :: zvi a :: L) (zvi a :: st) h) ∧
  (∀ (x j : Int) (q : Nat) (L st : List ZV) (h : PH), zev kX4_sorts 83 L (zvi x :: zvi j :: zvr (some q) :: st) h = if (ph_K h q).1 = 1 ∧ 0 ≤ j ∧ j < (ph_K h q).2 then zev kX4_sorts 84 L st (st_I h q j x) else none) ∧
  (∀ (a : Option Nat) (L st : List ZV) (h : PH), zev kX4_sorts 84 (zvr a :: L) st h = zev kX4_sorts 85 (zvr a :: L) (zvr a :: st) h) ∧
  (∀ (a : Int) (L st : List ZV) (h : PH), zev kX4_sorts 85 L (zvi a :: st) h = zev kX4_sorts 86 L (zvi a :: zvi a :: st) h) ∧
  (∀ (a : Option Nat) (L st : List ZV) (h : PH), zev kX4_sorts 85 L (zvr a :: st) h = zev kX4_sorts 86 L (zvr a :: zvr a :: st) h) ∧
  (∀ (q : Nat) (L st : List ZV) (h : PH), zev kX4_sorts 86 L (zvr (some q) :: st) h = if (ph_K h q).1 % 1000 = 18 then zev kX4_sorts 89 L (zvi (ph_I h q 28) :: st) h else none) ∧
  (∀ (L st : List ZV) (h : PH), zev kX4_sorts 89 L st h = zev kX4_sorts 90 L (zvi 1 :: st) h) ∧
  (∀ (a b : Int) (L st : List ZV) (h : PH), zev kX4_sorts 90 L (zvi b :: zvi a :: st) h = zev kX4_sorts 91 L (zvi (w32 (a + b)) :: st) h) ∧
  (∀ (a : Int) (q : Nat) (L st : List ZV) (h : PH), zev kX4_sorts 91 L (zvi a :: zvr (some q) :: st) h = if (ph_K h q).1 = 18 then zev kX4_sorts 94 L st (st_I h q 28 a) else none) ∧
  (∀ (x0 : ZV) (a : Int) (L st : List ZV) (h : PH) (hx : zisL x0 = false) , zev kX4_sorts 94 (x0 :: zvi a :: L) st h = zev kX4_sorts 97 (x0 :: zvi (w32 (a + 1)) :: L) st h) ∧
  (∀ (L st : List ZV) (h : PH), zev kX4_sorts 97 L st h = zev kX4_sorts 7 L st h) ∧
  (∀ (L : List ZV) (h : PH), zev kX4_sorts 100 L [] h = zr0 h) :=
  ⟨fun a L st h => e_ld0R (n := 1) rfl,
  fun L st h => e_push (v := zvi 0) (n := 2) rfl,
  fun a q L st h => e_putI (kd := 18) (k := 28) (n := 5) rfl,
  fun L st h => e_push (v := zvi 0) (n := 6) rfl,
  fun x0 x1 a L st h hx => e_st1I (n := 7) rfl hx,
  fun a L st h => e_ld0R (n := 9) rfl,
  fun q L st h => e_getR (kd := 18) (k := 6) (n := 12) rfl,
  fun L st h => e_push (v := zvi 4) (n := 13) rfl,
  fun j q L st h => e_ald (kd := 1) (n := 14) rfl,
  fun a b L st h => e_cmpge (t := 100) (n := 17) rfl,
  fun a L st h => e_ld0R (n := 18) rfl,
  fun x0 a L st h => e_ld1I (n := 19) rfl,
  fun v0 q L st h => e_callV2 (F := mX4_runs) (kd := 18) (n := 22) rfl,
  fun a L st h => e_ifne (t := 28) (n := 25) rfl,
  fun L st h => e_goto (t := 94) rfl,
  fun a L st h => e_ld0R (n := 29) rfl,
  fun q L st h => e_getI (kd := 18) (k := 28) (n := 32) rfl,
  fun x0 x1 x2 a L st h hx => e_st2I (n := 33) rfl hx,
  fun a L st h => e_ifle (t := 77) (n := 37) rfl,
  fun a L st h => e_ld0R (n := 38) rfl,
  fun a L st h => e_ld0R (n := 39) rfl,
  fun q L st h => e_getR (kd := 18) (k := 27) (n := 42) rfl,
  fun x0 x1 a L st h => e_ld2I (n := 43) rfl,
  fun L st h => e_push (v := zvi 1) (n := 44) rfl,
  fun a b L st h => e_bin (f := (fun a b => w32 (a - b))) (n := 45) rfl,
  fun j q L st h => e_ald (kd := 1) (n := 46) rfl,
  fun v0 q L st h => e_callV2 (F := mX4_leavesAt) (kd := 18) (n := 49) rfl,
  fun a L st h => e_ld0R (n := 50) rfl,
  fun x0 a L st h => e_ld1I (n := 51) rfl,
  fun v0 q L st h => e_callV2 (F := mX4_leavesAt) (kd := 18) (n := 54) rfl,
  fun a b L st h => e_cmpge (t := 77) (n := 57) rfl,
  fun a L st h => e_ld0R (n := 58) rfl,
  fun q L st h => e_getR (kd := 18) (k := 27) (n := 61) rfl,
  fun x0 x1 a L st h => e_ld2I (n := 62) rfl,
  fun a L st h => e_ld0R (n := 63) rfl,
  fun q L st h => e_getR (kd := 18) (k := 27) (n := 66) rfl,
  fun x0 x1 a L st h => e_ld2I (n := 67) rfl,
  fun L st h => e_push (v := zvi 1) (n := 68) rfl,
  fun a b L st h => e_bin (f := (fun a b => w32 (a - b))) (n := 69) rfl,
  fun j q L st h => e_ald (kd := 1) (n := 70) rfl,
  fun x j q L st h => e_ast (n := 71) rfl,
  fun x0 x1 a L st h hx => e_iinc2 (d := (-1)) (n := 74) rfl hx,
  fun L st h => e_goto (t := 33) rfl,
  fun a L st h => e_ld0R (n := 78) rfl,
  fun q L st h => e_getR (kd := 18) (k := 27) (n := 81) rfl,
  fun x0 x1 a L st h => e_ld2I (n := 82) rfl,
  fun x0 a L st h => e_ld1I (n := 83) rfl,
  fun x j q L st h => e_ast (n := 84) rfl,
  fun a L st h => e_ld0R (n := 85) rfl,
  fun a L st h => e_dupI (n := 86) rfl,
  fun a L st h => e_dupR (n := 86) rfl,
  fun q L st h => e_getI (kd := 18) (k := 28) (n := 89) rfl,
  fun L st h => e_push (v := zvi 1) (n := 90) rfl,
  fun a b L st h => e_bin (f := (fun a b => w32 (a + b))) (n := 91) rfl,
  fun a q L st h => e_putI (kd := 18) (k := 28) (n := 94) rfl,
  fun x0 a L st h hx => e_iinc1 (d := 1) (n := 97) rfl hx,
  fun L st h => e_goto (t := 7) rfl,
  fun L h => e_ret rfl⟩
theorem allX4_sorts : zall yX4_sorts cX4_sorts 3 none 3 kX4_sorts.1 :=
  ⟨k_aload_n dX4_sorts_0,
  k_iconst dX4_sorts_1,
  k_putI (C := RX4) (T := TX4) (N := 42) (ci := 2) (k := 28) (ref := "LinkTimesModel") dX4_sorts_2 rfl in_X4 tyX4 tyX4_ok nmX4 (by decide) (Or.inl q1827) (Or.inl rfl) (Or.inl rfl) (tyX4_ok 28 (by decide)) (fun _ _ _ => rfl),
  k_iconst dX4_sorts_5,
  k_istore_n dX4_sorts_6,
  k_iload_n dX4_sorts_7,
  k_aload_n dX4_sorts_8,
  k_getR (C := RX4) (T := TX4) (N := 42) (ci := 2) (k := 6) (ref := "LinkTimesModel") dX4_sorts_9 rfl in_X4 (by decide) q1805 (Or.inl rfl) (fun _ _ _ => rfl),
  k_iconst dX4_sorts_12,
  k_iald dX4_sorts_13,
  k_cmpge (t := 100) dX4_sorts_14 (by decide),
  k_aload_n dX4_sorts_17,
  k_iload_n dX4_sorts_18,
  k_callV (y2 := yX4_runs) (C := RX4) (T0 := TX4) (ci := 2) dX4_sorts_19 sndX4_runs rfl q2076 q2078 qs92 q137 q2079 (by decide +kernel) ⟨by decide, by decide⟩ (by decide) (by decide),
  k_ifne (t := 28) dX4_sorts_22 (by decide),
  k_goto (t := 94) dX4_sorts_25 (by decide),
  k_aload_n dX4_sorts_28,
  k_getI (C := RX4) (T := TX4) (N := 42) (ci := 2) (k := 28) (ref := "LinkTimesModel") dX4_sorts_29 rfl in_X4 (by decide) q1827 (Or.inl rfl) (fun _ _ _ => rfl),
  k_istore_n dX4_sorts_32,
  k_iload_n dX4_sorts_33,
  k_ifle (t := 77) dX4_sorts_34 (by decide),
  k_aload_n dX4_sorts_37,
  k_aload_n dX4_sorts_38,
  k_getR (C := RX4) (T := TX4) (N := 42) (ci := 2) (k := 27) (ref := "LinkTimesModel") dX4_sorts_39 rfl in_X4 (by decide) q1826 (Or.inl rfl) (fun _ _ _ => rfl),
  k_iload_n dX4_sorts_42,
  k_iconst dX4_sorts_43,
  k_isub dX4_sorts_44,
  k_iald dX4_sorts_45,
  k_callV (y2 := yX4_leavesAt) (C := RX4) (T0 := TX4) (ci := 2) dX4_sorts_46 sndX4_leavesAt rfl q2100 q2102 qs96 q137 q2103 (by decide +kernel) ⟨by decide, by decide⟩ (by decide) (by decide),
  k_aload_n dX4_sorts_49,
  k_iload_n dX4_sorts_50,
  k_callV (y2 := yX4_leavesAt) (C := RX4) (T0 := TX4) (ci := 2) dX4_sorts_51 sndX4_leavesAt rfl q2100 q2102 qs96 q137 q2103 (by decide +kernel) ⟨by decide, by decide⟩ (by decide) (by decide),
  k_cmpge (t := 77) dX4_sorts_54 (by decide),
  k_aload_n dX4_sorts_57,
  k_getR (C := RX4) (T := TX4) (N := 42) (ci := 2) (k := 27) (ref := "LinkTimesModel") dX4_sorts_58 rfl in_X4 (by decide) q1826 (Or.inl rfl) (fun _ _ _ => rfl),
  k_iload_n dX4_sorts_61,
  k_aload_n dX4_sorts_62,
  k_getR (C := RX4) (T := TX4) (N := 42) (ci := 2) (k := 27) (ref := "LinkTimesModel") dX4_sorts_63 rfl in_X4 (by decide) q1826 (Or.inl rfl) (fun _ _ _ => rfl),
  k_iload_n dX4_sorts_66,
  k_iconst dX4_sorts_67,
  k_isub dX4_sorts_68,
  k_iald dX4_sorts_69,
  k_iast dX4_sorts_70,
  k_iinc dX4_sorts_71,
  k_goto (t := 33) dX4_sorts_74 (by decide),
  k_aload_n dX4_sorts_77,
  k_getR (C := RX4) (T := TX4) (N := 42) (ci := 2) (k := 27) (ref := "LinkTimesModel") dX4_sorts_78 rfl in_X4 (by decide) q1826 (Or.inl rfl) (fun _ _ _ => rfl),
  k_iload_n dX4_sorts_81,
  k_iload_n dX4_sorts_82,
  k_iast dX4_sorts_83,
  k_aload_n dX4_sorts_84,
  k_dup dX4_sorts_85,
  k_getI (C := RX4) (T := TX4) (N := 42) (ci := 2) (k := 28) (ref := "LinkTimesModel") dX4_sorts_86 rfl in_X4 (by decide) q1827 (Or.inl rfl) (fun _ _ _ => rfl),
  k_iconst dX4_sorts_89,
  k_iadd dX4_sorts_90,
  k_putI (C := RX4) (T := TX4) (N := 42) (ci := 2) (k := 28) (ref := "LinkTimesModel") dX4_sorts_91 rfl in_X4 tyX4 tyX4_ok nmX4 (by decide) (Or.inl q1827) (Or.inl rfl) (Or.inl rfl) (tyX4_ok 28 (by decide)) (fun _ _ _ => rfl),
  k_iinc dX4_sorts_94,
  k_goto (t := 7) dX4_sorts_97 (by decide),
  k_ret dX4_sorts_100, trivial⟩
theorem sndX4_sorts : MSound 3 yX4_sorts (ws_ yX4_sorts cX4_sorts 3 none) mX4_sorts := msound_M (by decide) allX4_sorts (fun _ _ => rfl)
/-! LinkTimesModel.canFollow(II)Z -/
noncomputable def kX4_canFollow : ZM := ([(0, zi_ld 1 0 1), (1, zi_getR 18 6 4), (4, zi_ld 0 1 5), (5, zi_push (zvi 2) 6), (6, zi_callS mX4_at 2 9), (9, zi_ald 1 10), (10, zi_st 0 3 11), (11, zi_ld 1 0 12), (12, zi_ld 0 2 13), (13, zi_callV mX4_leavesAt 18 2 16), (16, zi_ld 1 0 17), (17, zi_ld 0 1 18), (18, zi_callV mX4_arrivesAt 18 2 21), (21, zi_bin (fun a b => w32 (a - b)) 22), (22, zi_st 0 4 24), (24, zi_ld 1 0 25), (25, zi_getR 18 6 28), (28, zi_ld 0 2 29), (29, zi_push (zvi 1) 30), (30, zi_callS mX4_at 2 33), (33, zi_ald 1 34), (34, zi_ld 0 3 35), (35, zi_cmp zc_ne 71 38), (38, zi_ld 0 4 40), (40, zi_if (fun a => zc_lt a 0) 71 43), (43, zi_ld 1 0 44), (44, zi_getR 18 6 47), (47, zi_push (zvi 15) 49), (49, zi_ld 0 3 50), (50, zi_bin (fun a b => w32 (a + b)) 51), (51, zi_ald 1 52), (52, zi_push (zvi (-2)) 54), (54, zi_cmp zc_eq 73 57), (57, zi_ld 0 4 59), (59, zi_ld 1 0 60), (60, zi_getR 18 6 63), (63, zi_push (zvi 15) 65), (65, zi_ld 0 3 66), (66, zi_bin (fun a b => w32 (a + b)) 67), (67, zi_ald 1 68), (68, zi_cmp zc_le 73 71), (71, zi_push (zvi 0) 72), (72, zi_retz), (73, zi_ld 1 0 74), (74, zi_getR 18 6 77), (77, zi_ld 0 1 78), (78, zi_push (zvi 0) 79), (79, zi_callS mX4_at 2 82), (82, zi_ald 1 83), (83, zi_ld 1 0 84), (84, zi_getR 18 6 87), (87, zi_ld 0 2 88), (88, zi_push (zvi 0) 89), (89, zi_callS mX4_at 2 92), (92, zi_ald 1 93), (93, zi_cmp zc_eq 109 96), (96, zi_ld 0 4 98), (98, zi_ld 1 0 99), (99, zi_getR 18 6 102), (102, zi_push (zvi 5) 103), (103, zi_ld 0 3 104), (104, zi_bin (fun a b => w32 (a + b)) 105), (105, zi_ald 1 106), (106, zi_cmp zc_lt 113 109), (109, zi_push (zvi 1) 110), (110, zi_goto 114), (113, zi_push (zvi 0) 114), (114, zi_retz)], fun _ _ => none)
noncomputable def mX4_canFollow : ZF := zrunM kX4_canFollow 5
theorem enX4_canFollow (x0 : Option Nat) (x1 : Int) (x2 : Int) (h : PH) : mX4_canFollow [zvr x0, zvi x1, zvi x2] h = zev kX4_canFollow 0 [zvr x0, zvi x1, zvi x2, zvu, zvu] [] h := zrunM_eq rfl rfl
theorem rX4_canFollow : (∀ (a : Option Nat) (L st : List ZV) (h : PH), zev kX4_canFollow 0 (zvr a :: L) st h = zev kX4_canFollow 1 (zvr a :: L) (zvr a :: st) h) ∧
  (∀ (q : Nat) (L st : List ZV) (h : PH), zev kX4_canFollow 1 L (zvr (some q) :: st) h = if (ph_K h q).1 % 1000 = 18 then zev kX4_canFollow 4 L (zvr (ph_R h q 6) :: st) h else none) ∧
  (∀ (x0 : ZV) (a : Int) (L st : List ZV) (h : PH), zev kX4_canFollow 4 (x0 :: zvi a :: L) st h = zev kX4_canFollow 5 (x0 :: zvi a :: L) (zvi a :: st) h) ∧
  (∀ (L st : List ZV) (h : PH), zev kX4_canFollow 5 L st h = zev kX4_canFollow 6 L (zvi 2 :: st) h) ∧
  (∀ (v0 v1 : ZV) (L st : List ZV) (h : PH), zev kX4_canFollow 6 L (v1 :: v0 :: st) h = if zcat st ≤ 8 then zk kX4_canFollow 6 9 L st (mX4_at [v0, v1] h) else none) ∧
  (∀ (j : Int) (q : Nat) (L st : List ZV) (h : PH), zev kX4_canFollow 9 L (zvi j :: zvr (some q) :: st) h = if (ph_K h q).1 % 1000 = 1 ∧ 0 ≤ j ∧ j < (ph_K h q).2 then zev kX4_canFollow 10 L (zvi (ph_I h q j) :: st) h else none) ∧
  (∀ (x0 x1 x2 x3 : ZV) (a : Int) (L st : List ZV) (h : PH) (hx : zisL x2 = false) , zev kX4_canFollow 10 (x0 :: x1 :: x2 :: x3 :: L) (zvi a :: st) h = zev kX4_canFollow 11 (x0 :: x1 :: x2 :: zvi a :: L) st h) ∧
  (∀ (a : Option Nat) (L st : List ZV) (h : PH), zev kX4_canFollow 11 (zvr a :: L) st h = zev kX4_canFollow 12 (zvr a :: L) (zvr a :: st) h) ∧
  (∀ (x0 x1 : ZV) (a : Int) (L st : List ZV) (h : PH), zev kX4_canFollow 12 (x0 :: x1 :: zvi a :: L) st h = zev kX4_canFollow 13 (x0 :: x1 :: zvi a :: L) (zvi a :: st) h) ∧
  (∀ (v0 : ZV) (q : Nat) (L st : List ZV) (h : PH), zev kX4_canFollow 13 L (v0 :: zvr (some q) :: st) h = if (ph_K h q).1 % 1000 = 18 ∧ zcat st ≤ 8 then zk kX4_canFollow 13 16 L st (mX4_leavesAt [zvr (some q), v0] h) else none) ∧
  (∀ (a : Option Nat) (L st : List ZV) (h : PH), zev kX4_canFollow 16 (zvr a :: L) st h = zev kX4_canFollow 17 (zvr a :: L) (zvr a :: st) h) ∧
  (∀ (x0 : ZV) (a : Int) (L st : List ZV) (h : PH), zev kX4_canFollow 17 (x0 :: zvi a :: L) st h = zev kX4_canFollow 18 (x0 :: zvi a :: L) (zvi a :: st) h) ∧
  (∀ (v0 : ZV) (q : Nat) (L st : List ZV) (h : PH), zev kX4_canFollow 18 L (v0 :: zvr (some q) :: st) h = if (ph_K h q).1 % 1000 = 18 ∧ zcat st ≤ 8 then zk kX4_canFollow 18 21 L st (mX4_arrivesAt [zvr (some q), v0] h) else none) ∧
  (∀ (a b : Int) (L st : List ZV) (h : PH), zev kX4_canFollow 21 L (zvi b :: zvi a :: st) h = zev kX4_canFollow 22 L (zvi (w32 (a - b)) :: st) h) ∧
  (∀ (x0 x1 x2 x3 x4 : ZV) (a : Int) (L st : List ZV) (h : PH) (hx : zisL x3 = false) , zev kX4_canFollow 22 (x0 :: x1 :: x2 :: x3 :: x4 :: L) (zvi a :: st) h = zev kX4_canFollow 24 (x0 :: x1 :: x2 :: x3 :: zvi a :: L) st h) ∧
  (∀ (a : Option Nat) (L st : List ZV) (h : PH), zev kX4_canFollow 24 (zvr a :: L) st h = zev kX4_canFollow 25 (zvr a :: L) (zvr a :: st) h) ∧
  (∀ (q : Nat) (L st : List ZV) (h : PH), zev kX4_canFollow 25 L (zvr (some q) :: st) h = if (ph_K h q).1 % 1000 = 18 then zev kX4_canFollow 28 L (zvr (ph_R h q 6) :: st) h else none) ∧
  (∀ (x0 x1 : ZV) (a : Int) (L st : List ZV) (h : PH), zev kX4_canFollow 28 (x0 :: x1 :: zvi a :: L) st h = zev kX4_canFollow 29 (x0 :: x1 :: zvi a :: L) (zvi a :: st) h) ∧
  (∀ (L st : List ZV) (h : PH), zev kX4_canFollow 29 L st h = zev kX4_canFollow 30 L (zvi 1 :: st) h) ∧
  (∀ (v0 v1 : ZV) (L st : List ZV) (h : PH), zev kX4_canFollow 30 L (v1 :: v0 :: st) h = if zcat st ≤ 8 then zk kX4_canFollow 30 33 L st (mX4_at [v0, v1] h) else none) ∧
  (∀ (j : Int) (q : Nat) (L st : List ZV) (h : PH), zev kX4_canFollow 33 L (zvi j :: zvr (some q) :: st) h = if (ph_K h q).1 % 1000 = 1 ∧ 0 ≤ j ∧ j < (ph_K h q).2 then zev kX4_canFollow 34 L (zvi (ph_I h q j) :: st) h else none) ∧
  (∀ (x0 x1 x2 : ZV) (a : Int) (L st : List ZV) (h : PH), zev kX4_canFollow 34 (x0 :: x1 :: x2 :: zvi a :: L) st h = zev kX4_canFollow 35 (x0 :: x1 :: x2 :: zvi a :: L) (zvi a :: st) h) ∧
  (∀ (a b : Int) (L st : List ZV) (h : PH), zev kX4_canFollow 35 L (zvi b :: zvi a :: st) h = if a ≠ b then zev kX4_canFollow 71 L st h else zev kX4_canFollow 38 L st h) ∧
  (∀ (x0 x1 x2 x3 : ZV) (a : Int) (L st : List ZV) (h : PH), zev kX4_canFollow 38 (x0 :: x1 :: x2 :: x3 :: zvi a :: L) st h = zev kX4_canFollow 40 (x0 :: x1 :: x2 :: x3 :: zvi a :: L) (zvi a :: st) h) ∧
  (∀ (a : Int) (L st : List ZV) (h : PH), zev kX4_canFollow 40 L (zvi a :: st) h = if a < 0 then zev kX4_canFollow 71 L st h else zev kX4_canFollow 43 L st h) ∧
  (∀ (a : Option Nat) (L st : List ZV) (h : PH), zev kX4_canFollow 43 (zvr a :: L) st h = zev kX4_canFollow 44 (zvr a :: L) (zvr a :: st) h) ∧
  (∀ (q : Nat) (L st : List ZV) (h : PH), zev kX4_canFollow 44 L (zvr (some q) :: st) h = if (ph_K h q).1 % 1000 = 18 then zev kX4_canFollow 47 L (zvr (ph_R h q 6) :: st) h else none) ∧
  (∀ (L st : List ZV) (h : PH), zev kX4_canFollow 47 L st h = zev kX4_canFollow 49 L (zvi 15 :: st) h) ∧
  (∀ (x0 x1 x2 : ZV) (a : Int) (L st : List ZV) (h : PH), zev kX4_canFollow 49 (x0 :: x1 :: x2 :: zvi a :: L) st h = zev kX4_canFollow 50 (x0 :: x1 :: x2 :: zvi a :: L) (zvi a :: st) h) ∧
  (∀ (a b : Int) (L st : List ZV) (h : PH), zev kX4_canFollow 50 L (zvi b :: zvi a :: st) h = zev kX4_canFollow 51 L (zvi (w32 (a + b)) :: st) h) ∧
  (∀ (j : Int) (q : Nat) (L st : List ZV) (h : PH), zev kX4_canFollow 51 L (zvi j :: zvr (some q) :: st) h = if (ph_K h q).1 % 1000 = 1 ∧ 0 ≤ j ∧ j < (ph_K h q).2 then zev kX4_canFollow 52 L (zvi (ph_I h q j) :: st) h else none) ∧
  (∀ (L st : List ZV) (h : PH), zev kX4_canFollow 52 L st h = zev kX4_canFollow 54 L (zvi (-2) :: st) h) ∧
  (∀ (a b : Int) (L st : List ZV) (h : PH), zev kX4_canFollow 54 L (zvi b :: zvi a :: st) h = if a = b then zev kX4_canFollow 73 L st h else zev kX4_canFollow 57 L st h) ∧
  (∀ (x0 x1 x2 x3 : ZV) (a : Int) (L st : List ZV) (h : PH), zev kX4_canFollow 57 (x0 :: x1 :: x2 :: x3 :: zvi a :: L) st h = zev kX4_canFollow 59 (x0 :: x1 :: x2 :: x3 :: zvi a :: L) (zvi a :: st) h) ∧
  (∀ (a : Option Nat) (L st : List ZV) (h : PH), zev kX4_canFollow 59 (zvr a :: L) st h = zev kX4_canFollow 60 (zvr a :: L) (zvr a :: st) h) ∧
  (∀ (q : Nat) (L st : List ZV) (h : PH), zev kX4_canFollow 60 L (zvr (some q) :: st) h = if (ph_K h q).1 % 1000 = 18 then zev kX4_canFollow 63 L (zvr (ph_R h q 6) :: st) h else none) ∧
  (∀ (L st : List ZV) (h : PH), zev kX4_canFollow 63 L st h = zev kX4_canFollow 65 L (zvi 15 :: st) h) ∧
  (∀ (x0 x1 x2 : ZV) (a : Int) (L st : List ZV) (h : PH), zev kX4_canFollow 65 (x0 :: x1 :: x2 :: zvi a :: L) st h = zev kX4_canFollow 66 (x0 :: x1 :: x2 :: zvi a :: L) (zvi a :: st) h) ∧
  (∀ (a b : Int) (L st : List ZV) (h : PH), zev kX4_canFollow 66 L (zvi b :: zvi a :: st) h = zev kX4_canFollow 67 L (zvi (w32 (a + b)) :: st) h) ∧
  (∀ (j : Int) (q : Nat) (L st : List ZV) (h : PH), zev kX4_canFollow 67 L (zvi j :: zvr (some q) :: st) h = if (ph_K h q).1 % 1000 = 1 ∧ 0 ≤ j ∧ j < (ph_K h q).2 then zev kX4_canFollow 68 L (zvi (ph_I h q j) :: st) h else none) ∧
  (∀ (a b : Int) (L st : List ZV) (h : PH), zev kX4_canFollow 68 L (zvi b :: zvi a :: st) h = if a ≤ b then zev kX4_canFollow 73 L st h else zev kX4_canFollow 71 L st h) ∧
  (∀ (L st : List ZV) (h : PH), zev kX4_canFollow 71 L st h = zev kX4_canFollow 72 L (zvi 0 :: st) h) ∧
  (∀ (a : Int) (L : List ZV) (h : PH), zev kX4_canFollow 72 L [zvi a] h = if a = 0 ∨ a = 1 then zrv (zvi a) h else none) ∧
  (∀ (a : Option Nat) (L st : List ZV) (h : PH), zev kX4_canFollow 73 (zvr a :: L) st h = zev kX4_canFollow 74 (zvr a :: L) (zvr a :: st) h) ∧
  (∀ (q : Nat) (L st : List ZV) (h : PH), zev kX4_canFollow 74 L (zvr (some q) :: st) h = if (ph_K h q).1 % 1000 = 18 then zev kX4_canFollow 77 L (zvr (ph_R h q 6) :: st) h else none) ∧
  (∀ (x0 : ZV) (a : Int) (L st : List ZV) (h : PH), zev kX4_canFollow 77 (x0 :: zvi a :: L) st h = zev kX4_canFollow 78 (x0 :: zvi a :: L) (zvi a :: st) h) ∧
  (∀ (L st : List ZV) (h : PH), zev kX4_canFollow 78 L st h = zev kX4_canFollow 79 L (zvi 0 :: st) h) ∧
  (∀ (v0 v1 : ZV) (L st : List ZV) (h : PH), zev kX4_canFollow 79 L (v1 :: v0 :: st) h = if zcat st ≤ 8 then zk kX4_canFollow 79 82 L st (mX4_at [v0, v1] h) else none) ∧
  (∀ (j : Int) (q : Nat) (L st : List ZV) (h : PH), zev kX4_canFollow 82 L (zvi j :: zvr (some q) :: st) h = if (ph_K h q).1 % 1000 = 1 ∧ 0 ≤ j ∧ j < (ph_K h q).2 then zev kX4_canFollow 83 L (zvi (ph_I h q j) :: st) h else none) ∧
  (∀ (a : Option Nat) (L st : List ZV) (h : PH), zev kX4_canFollow 83 (zvr a :: L) st h = zev kX4_canFollow 84 (zvr a :: L) (zvr a :: st) h) ∧
  (∀ (q : Nat) (L st : List ZV) (h : PH), zev kX4_canFollow 84 L (zvr (some q) :: st) h = if (ph_K h q).1 % 1000 = 18 then zev kX4_canFollow 87 L (zvr (ph_R h q 6) :: st) h else none) ∧
  (∀ (x0 x1 : ZV) (a : Int) (L st : List ZV) (h : PH), zev kX4_canFollow 87 (x0 :: x1 :: zvi a :: L) st h = zev kX4_canFollow 88 (x0 :: x1 :: zvi a :: L) (zvi a :: st) h) ∧
  (∀ (L st : List ZV) (h : PH), zev kX4_canFollow 88 L st h = zev kX4_canFollow 89 L (zvi 0 :: st) h) ∧
  (∀ (v0 v1 : ZV) (L st : List ZV) (h : PH), zev kX4_canFollow 89 L (v1 :: v0 :: st) h = if zcat st ≤ 8 then zk kX4_canFollow 89 92 L st (mX4_at [v0, v1] h) else none) ∧
  (∀ (j : Int) (q : Nat) (L st : List ZV) (h : PH), zev kX4_canFollow 92 L (zvi j :: zvr (some q) :: st) h = if (ph_K h q).1 % 1000 = 1 ∧ 0 ≤ j ∧ j < (ph_K h q).2 then zev kX4_canFollow 93 L (zvi (ph_I h q j) :: st) h else none) ∧
  (∀ (a b : Int) (L st : List ZV) (h : PH), zev kX4_canFollow 93 L (zvi b :: zvi a :: st) h = if a = b then zev kX4_canFollow 109 L st h else zev kX4_canFollow 96 L st h) ∧
  (∀ (x0 x1 x2 x3 : ZV) (a : Int) (L st : List ZV) (h : PH), zev kX4_canFollow 96 (x0 :: x1 :: x2 :: x3 :: zvi a :: L) st h = zev kX4_canFollow 98 (x0 :: x1 :: x2 :: x3 :: zvi a :: L) (zvi a :: st) h) ∧
  (∀ (a : Option Nat) (L st : List ZV) (h : PH), zev kX4_canFollow 98 (zvr a :: L) st h = zev kX4_canFollow 99 (zvr a :: L) (zvr a :: st) h) ∧
  (∀ (q : Nat) (L st : List ZV) (h : PH), zev kX4_canFollow 99 L (zvr (some q) :: st) h = if (ph_K h q).1 % 1000 = 18 then zev kX4_canFollow 102 L (zvr (ph_R h q 6) :: st) h else none) ∧
  (∀ (L st : List ZV) (h : PH), zev kX4_canFollow 102 L st h = zev kX4_canFollow 103 L (zvi 5 :: st) h) ∧
  (∀ (x0 x1 x2 : ZV) (a : Int) (L st : List ZV) (h : PH), zev kX4_canFollow 103 (x0 :: x1 :: x2 :: zvi a :: L) st h = zev kX4_canFollow 104 (x0 :: x1 :: x2 :: zvi a :: L) (zvi a :: st) h) ∧
  (∀ (a b : Int) (L st : List ZV) (h : PH), zev kX4_canFollow 104 L (zvi b :: zvi a :: st) h = zev kX4_canFollow 105 L (zvi (w32 (a + b)) :: st) h) ∧
  (∀ (j : Int) (q : Nat) (L st : List ZV) (h : PH), zev kX4_canFollow 105 L (zvi j :: zvr (some q) :: st) h = if (ph_K h q).1 % 1000 = 1 ∧ 0 ≤ j ∧ j < (ph_K h q).2 then zev kX4_canFollow 106 L (zvi (ph_I h q j) :: st) h else none) ∧
  (∀ (a b : Int) (L st : List ZV) (h : PH), zev kX4_canFollow 106 L (zvi b :: zvi a :: st) h = if a < b then zev kX4_canFollow 113 L st h else zev kX4_canFollow 109 L st h) ∧
  (∀ (L st : List ZV) (h : PH), zev kX4_canFollow 109 L st h = zev kX4_canFollow 110 L (zvi 1 :: st) h) ∧
  (∀ (L st : List ZV) (h : PH), zev kX4_canFollow 110 L st h = zev kX4_canFollow 114 L st h) ∧
  (∀ (L st : List ZV) (h : PH), zev kX4_canFollow 113 L st h = zev kX4_canFollow 114 L (zvi 0 :: st) h) ∧
  (∀ (a : Int) (L : List ZV) (h : PH), zev kX4_canFollow 114 L [zvi a] h = if a = 0 ∨ a = 1 then zrv (zvi a) h else none) :=
  ⟨fun a L st h => e_ld0R (n := 1) rfl,
  fun q L st h => e_getR (kd := 18) (k := 6) (n := 4) rfl,
  fun x0 a L st h => e_ld1I (n := 5) rfl,
  fun L st h => e_push (v := zvi 2) (n := 6) rfl,
  fun v0 v1 L st h => e_callS2 (F := mX4_at) (n := 9) rfl,
  fun j q L st h => e_ald (kd := 1) (n := 10) rfl,
  fun x0 x1 x2 x3 a L st h hx => e_st3I (n := 11) rfl hx,
  fun a L st h => e_ld0R (n := 12) rfl,
  fun x0 x1 a L st h => e_ld2I (n := 13) rfl,
  fun v0 q L st h => e_callV2 (F := mX4_leavesAt) (kd := 18) (n := 16) rfl,
  fun a L st h => e_ld0R (n := 17) rfl,
  fun x0 a L st h => e_ld1I (n := 18) rfl,
  fun v0 q L st h => e_callV2 (F := mX4_arrivesAt) (kd := 18) (n := 21) rfl,
  fun a b L st h => e_bin (f := (fun a b => w32 (a - b))) (n := 22) rfl,
  fun x0 x1 x2 x3 x4 a L st h hx => e_st4I (n := 24) rfl hx,
  fun a L st h => e_ld0R (n := 25) rfl,
  fun q L st h => e_getR (kd := 18) (k := 6) (n := 28) rfl,
  fun x0 x1 a L st h => e_ld2I (n := 29) rfl,
  fun L st h => e_push (v := zvi 1) (n := 30) rfl,
  fun v0 v1 L st h => e_callS2 (F := mX4_at) (n := 33) rfl,
  fun j q L st h => e_ald (kd := 1) (n := 34) rfl,
  fun x0 x1 x2 a L st h => e_ld3I (n := 35) rfl,
  fun a b L st h => e_cmpne (t := 71) (n := 38) rfl,
  fun x0 x1 x2 x3 a L st h => e_ld4I (n := 40) rfl,
  fun a L st h => e_iflt (t := 71) (n := 43) rfl,
  fun a L st h => e_ld0R (n := 44) rfl,
  fun q L st h => e_getR (kd := 18) (k := 6) (n := 47) rfl,
  fun L st h => e_push (v := zvi 15) (n := 49) rfl,
  fun x0 x1 x2 a L st h => e_ld3I (n := 50) rfl,
  fun a b L st h => e_bin (f := (fun a b => w32 (a + b))) (n := 51) rfl,
  fun j q L st h => e_ald (kd := 1) (n := 52) rfl,
  fun L st h => e_push (v := zvi (-2)) (n := 54) rfl,
  fun a b L st h => e_cmpeq (t := 73) (n := 57) rfl,
  fun x0 x1 x2 x3 a L st h => e_ld4I (n := 59) rfl,
  fun a L st h => e_ld0R (n := 60) rfl,
  fun q L st h => e_getR (kd := 18) (k := 6) (n := 63) rfl,
  fun L st h => e_push (v := zvi 15) (n := 65) rfl,
  fun x0 x1 x2 a L st h => e_ld3I (n := 66) rfl,
  fun a b L st h => e_bin (f := (fun a b => w32 (a + b))) (n := 67) rfl,
  fun j q L st h => e_ald (kd := 1) (n := 68) rfl,
  fun a b L st h => e_cmple (t := 73) (n := 71) rfl,
  fun L st h => e_push (v := zvi 0) (n := 72) rfl,
  fun a L h => e_retz rfl,
  fun a L st h => e_ld0R (n := 74) rfl,
  fun q L st h => e_getR (kd := 18) (k := 6) (n := 77) rfl,
  fun x0 a L st h => e_ld1I (n := 78) rfl,
  fun L st h => e_push (v := zvi 0) (n := 79) rfl,
  fun v0 v1 L st h => e_callS2 (F := mX4_at) (n := 82) rfl,
  fun j q L st h => e_ald (kd := 1) (n := 83) rfl,
  fun a L st h => e_ld0R (n := 84) rfl,
  fun q L st h => e_getR (kd := 18) (k := 6) (n := 87) rfl,
  fun x0 x1 a L st h => e_ld2I (n := 88) rfl,
  fun L st h => e_push (v := zvi 0) (n := 89) rfl,
  fun v0 v1 L st h => e_callS2 (F := mX4_at) (n := 92) rfl,
  fun j q L st h => e_ald (kd := 1) (n := 93) rfl,
  fun a b L st h => e_cmpeq (t := 109) (n := 96) rfl,
  fun x0 x1 x2 x3 a L st h => e_ld4I (n := 98) rfl,
  fun a L st h => e_ld0R (n := 99) rfl,
  fun q L st h => e_getR (kd := 18) (k := 6) (n := 102) rfl,
  fun L st h => e_push (v := zvi 5) (n := 103) rfl,
  fun x0 x1 x2 a L st h => e_ld3I (n := 104) rfl,
  fun a b L st h => e_bin (f := (fun a b => w32 (a + b))) (n := 105) rfl,
  fun j q L st h => e_ald (kd := 1) (n := 106) rfl,
  fun a b L st h => e_cmplt (t := 113) (n := 109) rfl,
  fun L st h => e_push (v := zvi 1) (n := 110) rfl,
  fun L st h => e_goto (t := 114) rfl,
  fun L st h => e_push (v := zvi 0) (n := 114) rfl,
  fun a L h => e_retz rfl⟩
theorem allX4_canFollow : zall yX4_canFollow cX4_canFollow 5 (some .boolean) 4 kX4_canFollow.1 :=
  ⟨k_aload_n dX4_canFollow_0,
  k_getR (C := RX4) (T := TX4) (N := 42) (ci := 2) (k := 6) (ref := "LinkTimesModel") dX4_canFollow_1 rfl in_X4 (by decide) q1805 (Or.inl rfl) (fun _ _ _ => rfl),
  k_iload_n dX4_canFollow_4,
  k_iconst dX4_canFollow_5,
  k_callS (y2 := yX4_at) dX4_canFollow_6 sndX4_at q2047 q2048 q137 q2049 (by decide +kernel) ⟨by decide, by decide⟩ (by decide) (by decide),
  k_iald dX4_canFollow_9,
  k_istore_n dX4_canFollow_10,
  k_aload_n dX4_canFollow_11,
  k_iload_n dX4_canFollow_12,
  k_callV (y2 := yX4_leavesAt) (C := RX4) (T0 := TX4) (ci := 2) dX4_canFollow_13 sndX4_leavesAt rfl q2100 q2102 qs96 q137 q2103 (by decide +kernel) ⟨by decide, by decide⟩ (by decide) (by decide),
  k_aload_n dX4_canFollow_16,
  k_iload_n dX4_canFollow_17,
  k_callV (y2 := yX4_arrivesAt) (C := RX4) (T0 := TX4) (ci := 2) dX4_canFollow_18 sndX4_arrivesAt rfl q2104 q2106 qs97 q137 q2107 (by decide +kernel) ⟨by decide, by decide⟩ (by decide) (by decide),
  k_isub dX4_canFollow_21,
  k_istore dX4_canFollow_22,
  k_aload_n dX4_canFollow_24,
  k_getR (C := RX4) (T := TX4) (N := 42) (ci := 2) (k := 6) (ref := "LinkTimesModel") dX4_canFollow_25 rfl in_X4 (by decide) q1805 (Or.inl rfl) (fun _ _ _ => rfl),
  k_iload_n dX4_canFollow_28,
  k_iconst dX4_canFollow_29,
  k_callS (y2 := yX4_at) dX4_canFollow_30 sndX4_at q2047 q2048 q137 q2049 (by decide +kernel) ⟨by decide, by decide⟩ (by decide) (by decide),
  k_iald dX4_canFollow_33,
  k_iload_n dX4_canFollow_34,
  k_cmpne (t := 71) dX4_canFollow_35 (by decide),
  k_iload dX4_canFollow_38,
  k_iflt (t := 71) dX4_canFollow_40 (by decide),
  k_aload_n dX4_canFollow_43,
  k_getR (C := RX4) (T := TX4) (N := 42) (ci := 2) (k := 6) (ref := "LinkTimesModel") dX4_canFollow_44 rfl in_X4 (by decide) q1805 (Or.inl rfl) (fun _ _ _ => rfl),
  k_bipush dX4_canFollow_47,
  k_iload_n dX4_canFollow_49,
  k_iadd dX4_canFollow_50,
  k_iald dX4_canFollow_51,
  k_bipush dX4_canFollow_52,
  k_cmpeq (t := 73) dX4_canFollow_54 (by decide),
  k_iload dX4_canFollow_57,
  k_aload_n dX4_canFollow_59,
  k_getR (C := RX4) (T := TX4) (N := 42) (ci := 2) (k := 6) (ref := "LinkTimesModel") dX4_canFollow_60 rfl in_X4 (by decide) q1805 (Or.inl rfl) (fun _ _ _ => rfl),
  k_bipush dX4_canFollow_63,
  k_iload_n dX4_canFollow_65,
  k_iadd dX4_canFollow_66,
  k_iald dX4_canFollow_67,
  k_cmple (t := 73) dX4_canFollow_68 (by decide),
  k_iconst dX4_canFollow_71,
  k_zret dX4_canFollow_72,
  k_aload_n dX4_canFollow_73,
  k_getR (C := RX4) (T := TX4) (N := 42) (ci := 2) (k := 6) (ref := "LinkTimesModel") dX4_canFollow_74 rfl in_X4 (by decide) q1805 (Or.inl rfl) (fun _ _ _ => rfl),
  k_iload_n dX4_canFollow_77,
  k_iconst dX4_canFollow_78,
  k_callS (y2 := yX4_at) dX4_canFollow_79 sndX4_at q2047 q2048 q137 q2049 (by decide +kernel) ⟨by decide, by decide⟩ (by decide) (by decide),
  k_iald dX4_canFollow_82,
  k_aload_n dX4_canFollow_83,
  k_getR (C := RX4) (T := TX4) (N := 42) (ci := 2) (k := 6) (ref := "LinkTimesModel") dX4_canFollow_84 rfl in_X4 (by decide) q1805 (Or.inl rfl) (fun _ _ _ => rfl),
  k_iload_n dX4_canFollow_87,
  k_iconst dX4_canFollow_88,
  k_callS (y2 := yX4_at) dX4_canFollow_89 sndX4_at q2047 q2048 q137 q2049 (by decide +kernel) ⟨by decide, by decide⟩ (by decide) (by decide),
  k_iald dX4_canFollow_92,
  k_cmpeq (t := 109) dX4_canFollow_93 (by decide),
  k_iload dX4_canFollow_96,
  k_aload_n dX4_canFollow_98,
  k_getR (C := RX4) (T := TX4) (N := 42) (ci := 2) (k := 6) (ref := "LinkTimesModel") dX4_canFollow_99 rfl in_X4 (by decide) q1805 (Or.inl rfl) (fun _ _ _ => rfl),
  k_iconst dX4_canFollow_102,
  k_iload_n dX4_canFollow_103,
  k_iadd dX4_canFollow_104,
  k_iald dX4_canFollow_105,
  k_cmplt (t := 113) dX4_canFollow_106 (by decide),
  k_iconst dX4_canFollow_109,
  k_goto (t := 114) dX4_canFollow_110 (by decide),
  k_iconst dX4_canFollow_113,
  k_zret dX4_canFollow_114, trivial⟩
theorem sndX4_canFollow : MSound 4 yX4_canFollow (ws_ yX4_canFollow cX4_canFollow 5 (some .boolean)) mX4_canFollow := msound_M (by decide) allX4_canFollow (fun _ _ => rfl)
/-! LinkTimesModel.turns(II)I -/
noncomputable def kX4_turns : ZM := ([(0, zi_ld 1 0 1), (1, zi_getR 18 6 4), (4, zi_ld 0 1 5), (5, zi_push (zvi 0) 6), (6, zi_callS mX4_at 2 9), (9, zi_ald 1 10), (10, zi_ld 1 0 11), (11, zi_getR 18 6 14), (14, zi_ld 0 2 15), (15, zi_push (zvi 0) 16), (16, zi_callS mX4_at 2 19), (19, zi_ald 1 20), (20, zi_cmp zc_ne 27 23), (23, zi_push (zvi 0) 24), (24, zi_goto 28), (27, zi_push (zvi 1) 28), (28, zi_retv 0)], fun _ _ => none)
noncomputable def mX4_turns : ZF := zrunM kX4_turns 3
theorem enX4_turns (x0 : Option Nat) (x1 : Int) (x2 : Int) (h : PH) : mX4_turns [zvr x0, zvi x1, zvi x2] h = zev kX4_turns 0 [zvr x0, zvi x1, zvi x2] [] h := zrunM_eq rfl rfl
theorem rX4_turns : (∀ (a : Option Nat) (L st : List ZV) (h : PH), zev kX4_turns 0 (zvr a :: L) st h = zev kX4_turns 1 (zvr a :: L) (zvr a :: st) h) ∧
  (∀ (q : Nat) (L st : List ZV) (h : PH), zev kX4_turns 1 L (zvr (some q) :: st) h = if (ph_K h q).1 % 1000 = 18 then zev kX4_turns 4 L (zvr (ph_R h q 6) :: st) h else none) ∧
  (∀ (x0 : ZV) (a : Int) (L st : List ZV) (h : PH), zev kX4_turns 4 (x0 :: zvi a :: L) st h = zev kX4_turns 5 (x0 :: zvi a :: L) (zvi a :: st) h) ∧
  (∀ (L st : List ZV) (h : PH), zev kX4_turns 5 L st h = zev kX4_turns 6 L (zvi 0 :: st) h) ∧
  (∀ (v0 v1 : ZV) (L st : List ZV) (h : PH), zev kX4_turns 6 L (v1 :: v0 :: st) h = if zcat st ≤ 8 then zk kX4_turns 6 9 L st (mX4_at [v0, v1] h) else none) ∧
  (∀ (j : Int) (q : Nat) (L st : List ZV) (h : PH), zev kX4_turns 9 L (zvi j :: zvr (some q) :: st) h = if (ph_K h q).1 % 1000 = 1 ∧ 0 ≤ j ∧ j < (ph_K h q).2 then zev kX4_turns 10 L (zvi (ph_I h q j) :: st) h else none) ∧
  (∀ (a : Option Nat) (L st : List ZV) (h : PH), zev kX4_turns 10 (zvr a :: L) st h = zev kX4_turns 11 (zvr a :: L) (zvr a :: st) h) ∧
  (∀ (q : Nat) (L st : List ZV) (h : PH), zev kX4_turns 11 L (zvr (some q) :: st) h = if (ph_K h q).1 % 1000 = 18 then zev kX4_turns 14 L (zvr (ph_R h q 6) :: st) h else none) ∧
  (∀ (x0 x1 : ZV) (a : Int) (L st : List ZV) (h : PH), zev kX4_turns 14 (x0 :: x1 :: zvi a :: L) st h = zev kX4_turns 15 (x0 :: x1 :: zvi a :: L) (zvi a :: st) h) ∧
  (∀ (L st : List ZV) (h : PH), zev kX4_turns 15 L st h = zev kX4_turns 16 L (zvi 0 :: st) h) ∧
  (∀ (v0 v1 : ZV) (L st : List ZV) (h : PH), zev kX4_turns 16 L (v1 :: v0 :: st) h = if zcat st ≤ 8 then zk kX4_turns 16 19 L st (mX4_at [v0, v1] h) else none) ∧
  (∀ (j : Int) (q : Nat) (L st : List ZV) (h : PH), zev kX4_turns 19 L (zvi j :: zvr (some q) :: st) h = if (ph_K h q).1 % 1000 = 1 ∧ 0 ≤ j ∧ j < (ph_K h q).2 then zev kX4_turns 20 L (zvi (ph_I h q j) :: st) h else none) ∧
  (∀ (a b : Int) (L st : List ZV) (h : PH), zev kX4_turns 20 L (zvi b :: zvi a :: st) h = if a ≠ b then zev kX4_turns 27 L st h else zev kX4_turns 23 L st h) ∧
  (∀ (L st : List ZV) (h : PH), zev kX4_turns 23 L st h = zev kX4_turns 24 L (zvi 0 :: st) h) ∧
  (∀ (L st : List ZV) (h : PH), zev kX4_turns 24 L st h = zev kX4_turns 28 L st h) ∧
  (∀ (L st : List ZV) (h : PH), zev kX4_turns 27 L st h = zev kX4_turns 28 L (zvi 1 :: st) h) ∧
  (∀ (a : Int) (L : List ZV) (h : PH), zev kX4_turns 28 L [zvi a] h = zrv (zvi a) h) :=
  ⟨fun a L st h => e_ld0R (n := 1) rfl,
  fun q L st h => e_getR (kd := 18) (k := 6) (n := 4) rfl,
  fun x0 a L st h => e_ld1I (n := 5) rfl,
  fun L st h => e_push (v := zvi 0) (n := 6) rfl,
  fun v0 v1 L st h => e_callS2 (F := mX4_at) (n := 9) rfl,
  fun j q L st h => e_ald (kd := 1) (n := 10) rfl,
  fun a L st h => e_ld0R (n := 11) rfl,
  fun q L st h => e_getR (kd := 18) (k := 6) (n := 14) rfl,
  fun x0 x1 a L st h => e_ld2I (n := 15) rfl,
  fun L st h => e_push (v := zvi 0) (n := 16) rfl,
  fun v0 v1 L st h => e_callS2 (F := mX4_at) (n := 19) rfl,
  fun j q L st h => e_ald (kd := 1) (n := 20) rfl,
  fun a b L st h => e_cmpne (t := 27) (n := 23) rfl,
  fun L st h => e_push (v := zvi 0) (n := 24) rfl,
  fun L st h => e_goto (t := 28) rfl,
  fun L st h => e_push (v := zvi 1) (n := 28) rfl,
  fun a L h => e_retI rfl⟩
theorem allX4_turns : zall yX4_turns cX4_turns 3 (some .int) 2 kX4_turns.1 :=
  ⟨k_aload_n dX4_turns_0,
  k_getR (C := RX4) (T := TX4) (N := 42) (ci := 2) (k := 6) (ref := "LinkTimesModel") dX4_turns_1 rfl in_X4 (by decide) q1805 (Or.inl rfl) (fun _ _ _ => rfl),
  k_iload_n dX4_turns_4,
  k_iconst dX4_turns_5,
  k_callS (y2 := yX4_at) dX4_turns_6 sndX4_at q2047 q2048 q137 q2049 (by decide +kernel) ⟨by decide, by decide⟩ (by decide) (by decide),
  k_iald dX4_turns_9,
  k_aload_n dX4_turns_10,
  k_getR (C := RX4) (T := TX4) (N := 42) (ci := 2) (k := 6) (ref := "LinkTimesModel") dX4_turns_11 rfl in_X4 (by decide) q1805 (Or.inl rfl) (fun _ _ _ => rfl),
  k_iload_n dX4_turns_14,
  k_iconst dX4_turns_15,
  k_callS (y2 := yX4_at) dX4_turns_16 sndX4_at q2047 q2048 q137 q2049 (by decide +kernel) ⟨by decide, by decide⟩ (by decide) (by decide),
  k_iald dX4_turns_19,
  k_cmpne (t := 27) dX4_turns_20 (by decide),
  k_iconst dX4_turns_23,
  k_goto (t := 28) dX4_turns_24 (by decide),
  k_iconst dX4_turns_27,
  k_iret dX4_turns_28, trivial⟩
theorem sndX4_turns : MSound 2 yX4_turns (ws_ yX4_turns cX4_turns 3 (some .int)) mX4_turns := msound_M (by decide) allX4_turns (fun _ _ => rfl)
/-! LinkTimesModel.isLessRow(II)Z -/
noncomputable def kX4_isLessRow : ZM := ([(0, zi_ld 0 1 1), (1, zi_st 0 3 2), (2, zi_ld 0 2 3), (3, zi_st 0 4 5), (5, zi_ld 0 3 6), (6, zi_ld 0 4 8), (8, zi_cmp zc_ne 35 11), (11, zi_ld 0 3 12), (12, zi_push (zvi (-1)) 13), (13, zi_cmp zc_eq 35 16), (16, zi_ld 1 0 17), (17, zi_getR 18 26 20), (20, zi_ld 0 3 21), (21, zi_ald 1 22), (22, zi_st 0 3 23), (23, zi_ld 1 0 24), (24, zi_getR 18 26 27), (27, zi_ld 0 4 29), (29, zi_ald 1 30), (30, zi_st 0 4 32), (32, zi_goto 5), (35, zi_ld 0 3 36), (36, zi_ld 0 4 38), (38, zi_cmp zc_ge 45 41), (41, zi_push (zvi 1) 42), (42, zi_goto 46), (45, zi_push (zvi 0) 46), (46, zi_retz)], fun _ _ => none)
noncomputable def mX4_isLessRow : ZF := zrunM kX4_isLessRow 5
theorem enX4_isLessRow (x0 : Option Nat) (x1 : Int) (x2 : Int) (h : PH) : mX4_isLessRow [zvr x0, zvi x1, zvi x2] h = zev kX4_isLessRow 0 [zvr x0, zvi x1, zvi x2, zvu, zvu] [] h := zrunM_eq rfl rfl
theorem hdX4_isLessRow_5 (x0 x1 x2 : ZV) (a : Int) (L st : List ZV) (h : PH) : zev kX4_isLessRow 5 (x0 :: x1 :: x2 :: zvi a :: L) st h = zev kX4_isLessRow 6 (x0 :: x1 :: x2 :: zvi a :: L) (zvi a :: st) h := e_ld3I (n := 6) rfl
theorem rX4_isLessRow : (∀ (x0 : ZV) (a : Int) (L st : List ZV) (h : PH), zev kX4_isLessRow 0 (x0 :: zvi a :: L) st h = zev kX4_isLessRow 1 (x0 :: zvi a :: L) (zvi a :: st) h) ∧
  (∀ (x0 x1 x2 x3 : ZV) (a : Int) (L st : List ZV) (h : PH) (hx : zisL x2 = false) , zev kX4_isLessRow 1 (x0 :: x1 :: x2 :: x3 :: L) (zvi a :: st) h = zev kX4_isLessRow 2 (x0 :: x1 :: x2 :: zvi a :: L) st h) ∧
  (∀ (x0 x1 : ZV) (a : Int) (L st : List ZV) (h : PH), zev kX4_isLessRow 2 (x0 :: x1 :: zvi a :: L) st h = zev kX4_isLessRow 3 (x0 :: x1 :: zvi a :: L) (zvi a :: st) h) ∧
  (∀ (x0 x1 x2 x3 x4 : ZV) (a : Int) (L st : List ZV) (h : PH) (hx : zisL x3 = false) , zev kX4_isLessRow 3 (x0 :: x1 :: x2 :: x3 :: x4 :: L) (zvi a :: st) h = zev kX4_isLessRow 5 (x0 :: x1 :: x2 :: x3 :: zvi a :: L) st h) ∧
  (∀ (x0 x1 x2 x3 : ZV) (a : Int) (L st : List ZV) (h : PH), zev kX4_isLessRow 6 (x0 :: x1 :: x2 :: x3 :: zvi a :: L) st h = zev kX4_isLessRow 8 (x0 :: x1 :: x2 :: x3 :: zvi a :: L) (zvi a :: st) h) ∧
  (∀ (a b : Int) (L st : List ZV) (h : PH), zev kX4_isLessRow 8 L (zvi b :: zvi a :: st) h = if a ≠ b then zev kX4_isLessRow 35 L st h else zev kX4_isLessRow 11 L st h) ∧
  (∀ (x0 x1 x2 : ZV) (a : Int) (L st : List ZV) (h : PH), zev kX4_isLessRow 11 (x0 :: x1 :: x2 :: zvi a :: L) st h = zev kX4_isLessRow 12 (x0 :: x1 :: x2 :: zvi a :: L) (zvi a :: st) h) ∧
  (∀ (L st : List ZV) (h : PH), zev kX4_isLessRow 12 L st h = zev kX4_isLessRow 13 L (zvi (-1) :: st) h) ∧
  (∀ (a b : Int) (L st : List ZV) (h : PH), zev kX4_isLessRow 13 L (zvi b :: zvi a :: st) h = if a = b then zev kX4_isLessRow 35 L st h else zev kX4_isLessRow 16 L st h) ∧
  (∀ (a : Option Nat) (L st : List ZV) (h : PH), zev kX4_isLessRow 16 (zvr a :: L) st h = zev kX4_isLessRow 17 (zvr a :: L) (zvr a :: st) h) ∧
  (∀ (q : Nat) (L st : List ZV) (h : PH), zev kX4_isLessRow 17 L (zvr (some q) :: st) h = if (ph_K h q).1 % 1000 = 18 then zev kX4_isLessRow 20 L (zvr (ph_R h q 26) :: st) h else none) ∧
  (∀ (x0 x1 x2 : ZV) (a : Int) (L st : List ZV) (h : PH), zev kX4_isLessRow 20 (x0 :: x1 :: x2 :: zvi a :: L) st h = zev kX4_isLessRow 21 (x0 :: x1 :: x2 :: zvi a :: L) (zvi a :: st) h) ∧
  (∀ (j : Int) (q : Nat) (L st : List ZV) (h : PH), zev kX4_isLessRow 21 L (zvi j :: zvr (some q) :: st) h = if (ph_K h q).1 % 1000 = 1 ∧ 0 ≤ j ∧ j < (ph_K h q).2 then zev kX4_isLessRow 22 L (zvi (ph_I h q j) :: st) h else none) ∧
  (∀ (x0 x1 x2 x3 : ZV) (a : Int) (L st : List ZV) (h : PH) (hx : zisL x2 = false) , zev kX4_isLessRow 22 (x0 :: x1 :: x2 :: x3 :: L) (zvi a :: st) h = zev kX4_isLessRow 23 (x0 :: x1 :: x2 :: zvi a :: L) st h) ∧
  (∀ (a : Option Nat) (L st : List ZV) (h : PH), zev kX4_isLessRow 23 (zvr a :: L) st h = zev kX4_isLessRow 24 (zvr a :: L) (zvr a :: st) h) ∧
  (∀ (q : Nat) (L st : List ZV) (h : PH), zev kX4_isLessRow 24 L (zvr (some q) :: st) h = if (ph_K h q).1 % 1000 = 18 then zev kX4_isLessRow 27 L (zvr (ph_R h q 26) :: st) h else none) ∧
  (∀ (x0 x1 x2 x3 : ZV) (a : Int) (L st : List ZV) (h : PH), zev kX4_isLessRow 27 (x0 :: x1 :: x2 :: x3 :: zvi a :: L) st h = zev kX4_isLessRow 29 (x0 :: x1 :: x2 :: x3 :: zvi a :: L) (zvi a :: st) h) ∧
  (∀ (j : Int) (q : Nat) (L st : List ZV) (h : PH), zev kX4_isLessRow 29 L (zvi j :: zvr (some q) :: st) h = if (ph_K h q).1 % 1000 = 1 ∧ 0 ≤ j ∧ j < (ph_K h q).2 then zev kX4_isLessRow 30 L (zvi (ph_I h q j) :: st) h else none) ∧
  (∀ (x0 x1 x2 x3 x4 : ZV) (a : Int) (L st : List ZV) (h : PH) (hx : zisL x3 = false) , zev kX4_isLessRow 30 (x0 :: x1 :: x2 :: x3 :: x4 :: L) (zvi a :: st) h = zev kX4_isLessRow 32 (x0 :: x1 :: x2 :: x3 :: zvi a :: L) st h) ∧
  (∀ (L st : List ZV) (h : PH), zev kX4_isLessRow 32 L st h = zev kX4_isLessRow 5 L st h) ∧
  (∀ (x0 x1 x2 : ZV) (a : Int) (L st : List ZV) (h : PH), zev kX4_isLessRow 35 (x0 :: x1 :: x2 :: zvi a :: L) st h = zev kX4_isLessRow 36 (x0 :: x1 :: x2 :: zvi a :: L) (zvi a :: st) h) ∧
  (∀ (x0 x1 x2 x3 : ZV) (a : Int) (L st : List ZV) (h : PH), zev kX4_isLessRow 36 (x0 :: x1 :: x2 :: x3 :: zvi a :: L) st h = zev kX4_isLessRow 38 (x0 :: x1 :: x2 :: x3 :: zvi a :: L) (zvi a :: st) h) ∧
  (∀ (a b : Int) (L st : List ZV) (h : PH), zev kX4_isLessRow 38 L (zvi b :: zvi a :: st) h = if a ≥ b then zev kX4_isLessRow 45 L st h else zev kX4_isLessRow 41 L st h) ∧
  (∀ (L st : List ZV) (h : PH), zev kX4_isLessRow 41 L st h = zev kX4_isLessRow 42 L (zvi 1 :: st) h) ∧
  (∀ (L st : List ZV) (h : PH), zev kX4_isLessRow 42 L st h = zev kX4_isLessRow 46 L st h) ∧
  (∀ (L st : List ZV) (h : PH), zev kX4_isLessRow 45 L st h = zev kX4_isLessRow 46 L (zvi 0 :: st) h) ∧
  (∀ (a : Int) (L : List ZV) (h : PH), zev kX4_isLessRow 46 L [zvi a] h = if a = 0 ∨ a = 1 then zrv (zvi a) h else none) :=
  ⟨fun x0 a L st h => e_ld1I (n := 1) rfl,
  fun x0 x1 x2 x3 a L st h hx => e_st3I (n := 2) rfl hx,
  fun x0 x1 a L st h => e_ld2I (n := 3) rfl,
  fun x0 x1 x2 x3 x4 a L st h hx => e_st4I (n := 5) rfl hx,
  fun x0 x1 x2 x3 a L st h => e_ld4I (n := 8) rfl,
  fun a b L st h => e_cmpne (t := 35) (n := 11) rfl,
  fun x0 x1 x2 a L st h => e_ld3I (n := 12) rfl,
  fun L st h => e_push (v := zvi (-1)) (n := 13) rfl,
  fun a b L st h => e_cmpeq (t := 35) (n := 16) rfl,
  fun a L st h => e_ld0R (n := 17) rfl,
  fun q L st h => e_getR (kd := 18) (k := 26) (n := 20) rfl,
  fun x0 x1 x2 a L st h => e_ld3I (n := 21) rfl,
  fun j q L st h => e_ald (kd := 1) (n := 22) rfl,
  fun x0 x1 x2 x3 a L st h hx => e_st3I (n := 23) rfl hx,
  fun a L st h => e_ld0R (n := 24) rfl,
  fun q L st h => e_getR (kd := 18) (k := 26) (n := 27) rfl,
  fun x0 x1 x2 x3 a L st h => e_ld4I (n := 29) rfl,
  fun j q L st h => e_ald (kd := 1) (n := 30) rfl,
  fun x0 x1 x2 x3 x4 a L st h hx => e_st4I (n := 32) rfl hx,
  fun L st h => e_goto (t := 5) rfl,
  fun x0 x1 x2 a L st h => e_ld3I (n := 36) rfl,
  fun x0 x1 x2 x3 a L st h => e_ld4I (n := 38) rfl,
  fun a b L st h => e_cmpge (t := 45) (n := 41) rfl,
  fun L st h => e_push (v := zvi 1) (n := 42) rfl,
  fun L st h => e_goto (t := 46) rfl,
  fun L st h => e_push (v := zvi 0) (n := 46) rfl,
  fun a L h => e_retz rfl⟩
theorem allX4_isLessRow : zall yX4_isLessRow cX4_isLessRow 5 (some .boolean) 1 kX4_isLessRow.1 :=
  ⟨k_iload_n dX4_isLessRow_0,
  k_istore_n dX4_isLessRow_1,
  k_iload_n dX4_isLessRow_2,
  k_istore dX4_isLessRow_3,
  k_iload_n dX4_isLessRow_5,
  k_iload dX4_isLessRow_6,
  k_cmpne (t := 35) dX4_isLessRow_8 (by decide),
  k_iload_n dX4_isLessRow_11,
  k_iconst dX4_isLessRow_12,
  k_cmpeq (t := 35) dX4_isLessRow_13 (by decide),
  k_aload_n dX4_isLessRow_16,
  k_getR (C := RX4) (T := TX4) (N := 42) (ci := 2) (k := 26) (ref := "LinkTimesModel") dX4_isLessRow_17 rfl in_X4 (by decide) q1825 (Or.inl rfl) (fun _ _ _ => rfl),
  k_iload_n dX4_isLessRow_20,
  k_iald dX4_isLessRow_21,
  k_istore_n dX4_isLessRow_22,
  k_aload_n dX4_isLessRow_23,
  k_getR (C := RX4) (T := TX4) (N := 42) (ci := 2) (k := 26) (ref := "LinkTimesModel") dX4_isLessRow_24 rfl in_X4 (by decide) q1825 (Or.inl rfl) (fun _ _ _ => rfl),
  k_iload dX4_isLessRow_27,
  k_iald dX4_isLessRow_29,
  k_istore dX4_isLessRow_30,
  k_goto (t := 5) dX4_isLessRow_32 (by decide),
  k_iload_n dX4_isLessRow_35,
  k_iload dX4_isLessRow_36,
  k_cmpge (t := 45) dX4_isLessRow_38 (by decide),
  k_iconst dX4_isLessRow_41,
  k_goto (t := 46) dX4_isLessRow_42 (by decide),
  k_iconst dX4_isLessRow_45,
  k_zret dX4_isLessRow_46, trivial⟩
theorem sndX4_isLessRow : MSound 1 yX4_isLessRow (ws_ yX4_isLessRow cX4_isLessRow 5 (some .boolean)) mX4_isLessRow := msound_M (by decide) allX4_isLessRow (fun _ _ => rfl)
/-! LinkTimesModel.comesNext(II)V -/
noncomputable def kX4_comesNext : ZM := ([(0, zi_ld 1 0 1), (1, zi_getR 18 23 4), (4, zi_ld 0 2 5), (5, zi_ald 1 6), (6, zi_push (zvi 9999) 9), (9, zi_cmp zc_eq 21 12), (12, zi_ld 1 0 13), (13, zi_ld 0 1 14), (14, zi_ld 0 2 15), (15, zi_callV mX4_canFollow 18 3 18), (18, zi_if (fun a => zc_ne a 0) 22 21), (21, zi_ret), (22, zi_ld 1 0 23), (23, zi_getR 18 24 26), (26, zi_ld 0 2 27), (27, zi_ald 1 28), (28, zi_ld 1 0 29), (29, zi_ld 0 1 30), (30, zi_ld 0 2 31), (31, zi_callV mX4_turns 18 3 34), (34, zi_bin (fun a b => w32 (a + b)) 35), (35, zi_st 0 3 36), (36, zi_ld 1 0 37), (37, zi_getR 18 23 40), (40, zi_ld 0 1 41), (41, zi_ald 1 42), (42, zi_ld 1 0 43), (43, zi_getR 18 23 46), (46, zi_ld 0 2 47), (47, zi_ald 1 48), (48, zi_bin (fun a b => w32 (a - b)) 49), (49, zi_st 0 4 51), (51, zi_ld 0 4 53), (53, zi_if (fun a => zc_eq a 0) 61 56), (56, zi_ld 0 4 58), (58, zi_goto 69), (61, zi_ld 1 0 62), (62, zi_getR 18 24 65), (65, zi_ld 0 1 66), (66, zi_ald 1 67), (67, zi_ld 0 3 68), (68, zi_bin (fun a b => w32 (a - b)) 69), (69, zi_st 0 4 71), (71, zi_ld 0 4 73), (73, zi_if (fun a => zc_eq a 0) 81 76), (76, zi_ld 0 4 78), (78, zi_goto 96), (81, zi_ld 1 0 82), (82, zi_getR 18 25 85), (85, zi_ld 0 1 86), (86, zi_ald 1 87), (87, zi_ld 1 0 88), (88, zi_getR 18 25 91), (91, zi_ld 0 2 92), (92, zi_ald 1 93), (93, zi_bin (fun a b => w32 (a - b)) 94), (94, zi_push (zvi 1) 95), (95, zi_bin (fun a b => w32 (a - b)) 96), (96, zi_st 0 4 98), (98, zi_ld 0 4 100), (100, zi_if (fun a => zc_gt a 0) 122 103), (103, zi_ld 0 4 105), (105, zi_if (fun a => zc_ne a 0) 162 108), (108, zi_ld 1 0 109), (109, zi_ld 0 2 110), (110, zi_ld 1 0 111), (111, zi_getR 18 26 114), (114, zi_ld 0 1 115), (115, zi_ald 1 116), (116, zi_callV mX4_isLessRow 18 3 119), (119, zi_if (fun a => zc_eq a 0) 162 122), (122, zi_ld 1 0 123), (123, zi_getR 18 23 126), (126, zi_ld 0 1 127), (127, zi_ld 1 0 128), (128, zi_getR 18 23 131), (131, zi_ld 0 2 132), (132, zi_ald 1 133), (133, zi_ast 134), (134, zi_ld 1 0 135), (135, zi_getR 18 24 138), (138, zi_ld 0 1 139), (139, zi_ld 0 3 140), (140, zi_ast 141), (141, zi_ld 1 0 142), (142, zi_getR 18 25 145), (145, zi_ld 0 1 146), (146, zi_ld 1 0 147), (147, zi_getR 18 25 150), (150, zi_ld 0 2 151), (151, zi_ald 1 152), (152, zi_push (zvi 1) 153), (153, zi_bin (fun a b => w32 (a + b)) 154), (154, zi_ast 155), (155, zi_ld 1 0 156), (156, zi_getR 18 26 159), (159, zi_ld 0 1 160), (160, zi_ld 0 2 161), (161, zi_ast 162), (162, zi_ret)], fun _ _ => none)
noncomputable def mX4_comesNext : ZF := zrunM kX4_comesNext 5
theorem enX4_comesNext (x0 : Option Nat) (x1 : Int) (x2 : Int) (h : PH) : mX4_comesNext [zvr x0, zvi x1, zvi x2] h = zev kX4_comesNext 0 [zvr x0, zvi x1, zvi x2, zvu, zvu] [] h := zrunM_eq rfl rfl
theorem rX4_comesNext : (∀ (a : Option Nat) (L st : List ZV) (h : PH), zev kX4_comesNext 0 (zvr a :: L) st h = zev kX4_comesNext 1 (zvr a :: L) (zvr a :: st) h) ∧
  (∀ (q : Nat) (L st : List ZV) (h : PH), zev kX4_comesNext 1 L (zvr (some q) :: st) h = if (ph_K h q).1 % 1000 = 18 then zev kX4_comesNext 4 L (zvr (ph_R h q 23) :: st) h else none) ∧
  (∀ (x0 x1 : ZV) (a : Int) (L st : List ZV) (h : PH), zev kX4_comesNext 4 (x0 :: x1 :: zvi a :: L) st h = zev kX4_comesNext 5 (x0 :: x1 :: zvi a :: L) (zvi a :: st) h) ∧
  (∀ (j : Int) (q : Nat) (L st : List ZV) (h : PH), zev kX4_comesNext 5 L (zvi j :: zvr (some q) :: st) h = if (ph_K h q).1 % 1000 = 1 ∧ 0 ≤ j ∧ j < (ph_K h q).2 then zev kX4_comesNext 6 L (zvi (ph_I h q j) :: st) h else none) ∧
  (∀ (L st : List ZV) (h : PH), zev kX4_comesNext 6 L st h = zev kX4_comesNext 9 L (zvi 9999 :: st) h) ∧
  (∀ (a b : Int) (L st : List ZV) (h : PH), zev kX4_comesNext 9 L (zvi b :: zvi a :: st) h = if a = b then zev kX4_comesNext 21 L st h else zev kX4_comesNext 12 L st h) ∧
  (∀ (a : Option Nat) (L st : List ZV) (h : PH), zev kX4_comesNext 12 (zvr a :: L) st h = zev kX4_comesNext 13 (zvr a :: L) (zvr a :: st) h) ∧
  (∀ (x0 : ZV) (a : Int) (L st : List ZV) (h : PH), zev kX4_comesNext 13 (x0 :: zvi a :: L) st h = zev kX4_comesNext 14 (x0 :: zvi a :: L) (zvi a :: st) h) ∧
  (∀ (x0 x1 : ZV) (a : Int) (L st : List ZV) (h : PH), zev kX4_comesNext 14 (x0 :: x1 :: zvi a :: L) st h = zev kX4_comesNext 15 (x0 :: x1 :: zvi a :: L) (zvi a :: st) h) ∧
  (∀ (v0 v1 : ZV) (q : Nat) (L st : List ZV) (h : PH), zev kX4_comesNext 15 L (v1 :: v0 :: zvr (some q) :: st) h = if (ph_K h q).1 % 1000 = 18 ∧ zcat st ≤ 8 then zk kX4_comesNext 15 18 L st (mX4_canFollow [zvr (some q), v0, v1] h) else none) ∧
  (∀ (a : Int) (L st : List ZV) (h : PH), zev kX4_comesNext 18 L (zvi a :: st) h = if a ≠ 0 then zev kX4_comesNext 22 L st h else zev kX4_comesNext 21 L st h) ∧
  (∀ (L : List ZV) (h : PH), zev kX4_comesNext 21 L [] h = zr0 h) ∧
  (∀ (a : Option Nat) (L st : List ZV) (h : PH), zev kX4_comesNext 22 (zvr a :: L) st h = zev kX4_comesNext 23 (zvr a :: L) (zvr a :: st) h) ∧
  (∀ (q : Nat) (L st : List ZV) (h : PH), zev kX4_comesNext 23 L (zvr (some q) :: st) h = if (ph_K h q).1 % 1000 = 18 then zev kX4_comesNext 26 L (zvr (ph_R h q 24) :: st) h else none) ∧
  (∀ (x0 x1 : ZV) (a : Int) (L st : List ZV) (h : PH), zev kX4_comesNext 26 (x0 :: x1 :: zvi a :: L) st h = zev kX4_comesNext 27 (x0 :: x1 :: zvi a :: L) (zvi a :: st) h) ∧
  (∀ (j : Int) (q : Nat) (L st : List ZV) (h : PH), zev kX4_comesNext 27 L (zvi j :: zvr (some q) :: st) h = if (ph_K h q).1 % 1000 = 1 ∧ 0 ≤ j ∧ j < (ph_K h q).2 then zev kX4_comesNext 28 L (zvi (ph_I h q j) :: st) h else none) ∧
  (∀ (a : Option Nat) (L st : List ZV) (h : PH), zev kX4_comesNext 28 (zvr a :: L) st h = zev kX4_comesNext 29 (zvr a :: L) (zvr a :: st) h) ∧
  (∀ (x0 : ZV) (a : Int) (L st : List ZV) (h : PH), zev kX4_comesNext 29 (x0 :: zvi a :: L) st h = zev kX4_comesNext 30 (x0 :: zvi a :: L) (zvi a :: st) h) ∧
  (∀ (x0 x1 : ZV) (a : Int) (L st : List ZV) (h : PH), zev kX4_comesNext 30 (x0 :: x1 :: zvi a :: L) st h = zev kX4_comesNext 31 (x0 :: x1 :: zvi a :: L) (zvi a :: st) h) ∧
  (∀ (v0 v1 : ZV) (q : Nat) (L st : List ZV) (h : PH), zev kX4_comesNext 31 L (v1 :: v0 :: zvr (some q) :: st) h = if (ph_K h q).1 % 1000 = 18 ∧ zcat st ≤ 8 then zk kX4_comesNext 31 34 L st (mX4_turns [zvr (some q), v0, v1] h) else none) ∧
  (∀ (a b : Int) (L st : List ZV) (h : PH), zev kX4_comesNext 34 L (zvi b :: zvi a :: st) h = zev kX4_comesNext 35 L (zvi (w32 (a + b)) :: st) h) ∧
  (∀ (x0 x1 x2 x3 : ZV) (a : Int) (L st : List ZV) (h : PH) (hx : zisL x2 = false) , zev kX4_comesNext 35 (x0 :: x1 :: x2 :: x3 :: L) (zvi a :: st) h = zev kX4_comesNext 36 (x0 :: x1 :: x2 :: zvi a :: L) st h) ∧
  (∀ (a : Option Nat) (L st : List ZV) (h : PH), zev kX4_comesNext 36 (zvr a :: L) st h = zev kX4_comesNext 37 (zvr a :: L) (zvr a :: st) h) ∧
  (∀ (q : Nat) (L st : List ZV) (h : PH), zev kX4_comesNext 37 L (zvr (some q) :: st) h = if (ph_K h q).1 % 1000 = 18 then zev kX4_comesNext 40 L (zvr (ph_R h q 23) :: st) h else none) ∧
  (∀ (x0 : ZV) (a : Int) (L st : List ZV) (h : PH), zev kX4_comesNext 40 (x0 :: zvi a :: L) st h = zev kX4_comesNext 41 (x0 :: zvi a :: L) (zvi a :: st) h) ∧
  (∀ (j : Int) (q : Nat) (L st : List ZV) (h : PH), zev kX4_comesNext 41 L (zvi j :: zvr (some q) :: st) h = if (ph_K h q).1 % 1000 = 1 ∧ 0 ≤ j ∧ j < (ph_K h q).2 then zev kX4_comesNext 42 L (zvi (ph_I h q j) :: st) h else none) ∧
  (∀ (a : Option Nat) (L st : List ZV) (h : PH), zev kX4_comesNext 42 (zvr a :: L) st h = zev kX4_comesNext 43 (zvr a :: L) (zvr a :: st) h) ∧
  (∀ (q : Nat) (L st : List ZV) (h : PH), zev kX4_comesNext 43 L (zvr (some q) :: st) h = if (ph_K h q).1 % 1000 = 18 then zev kX4_comesNext 46 L (zvr (ph_R h q 23) :: st) h else none) ∧
  (∀ (x0 x1 : ZV) (a : Int) (L st : List ZV) (h : PH), zev kX4_comesNext 46 (x0 :: x1 :: zvi a :: L) st h = zev kX4_comesNext 47 (x0 :: x1 :: zvi a :: L) (zvi a :: st) h) ∧
  (∀ (j : Int) (q : Nat) (L st : List ZV) (h : PH), zev kX4_comesNext 47 L (zvi j :: zvr (some q) :: st) h = if (ph_K h q).1 % 1000 = 1 ∧ 0 ≤ j ∧ j < (ph_K h q).2 then zev kX4_comesNext 48 L (zvi (ph_I h q j) :: st) h else none) ∧
  (∀ (a b : Int) (L st : List ZV) (h : PH), zev kX4_comesNext 48 L (zvi b :: zvi a :: st) h = zev kX4_comesNext 49 L (zvi (w32 (a - b)) :: st) h) ∧
  (∀ (x0 x1 x2 x3 x4 : ZV) (a : Int) (L st : List ZV) (h : PH) (hx : zisL x3 = false) , zev kX4_comesNext 49 (x0 :: x1 :: x2 :: x3 :: x4 :: L) (zvi a :: st) h = zev kX4_comesNext 51 (x0 :: x1 :: x2 :: x3 :: zvi a :: L) st h) ∧
  (∀ (x0 x1 x2 x3 : ZV) (a : Int) (L st : List ZV) (h : PH), zev kX4_comesNext 51 (x0 :: x1 :: x2 :: x3 :: zvi a :: L) st h = zev kX4_comesNext 53 (x0 :: x1 :: x2 :: x3 :: zvi a :: L) (zvi a :: st) h) ∧
  (∀ (a : Int) (L st : List ZV) (h : PH), zev kX4_comesNext 53 L (zvi a :: st) h = if a = 0 then zev kX4_comesNext 61 L st h else zev kX4_comesNext 56 L st h) ∧
  (∀ (x0 x1 x2 x3 : ZV) (a : Int) (L st : List ZV) (h : PH), zev kX4_comesNext 56 (x0 :: x1 :: x2 :: x3 :: zvi a :: L) st h = zev kX4_comesNext 58 (x0 :: x1 :: x2 :: x3 :: zvi a :: L) (zvi a :: st) h) ∧
  (∀ (L st : List ZV) (h : PH), zev kX4_comesNext 58 L st h = zev kX4_comesNext 69 L st h) ∧
  (∀ (a : Option Nat) (L st : List ZV) (h : PH), zev kX4_comesNext 61 (zvr a :: L) st h = zev kX4_comesNext 62 (zvr a :: L) (zvr a :: st) h) ∧
  (∀ (q : Nat) (L st : List ZV) (h : PH), zev kX4_comesNext 62 L (zvr (some q) :: st) h = if (ph_K h q).1 % 1000 = 18 then zev kX4_comesNext 65 L (zvr (ph_R h q 24) :: st) h else none) ∧
  (∀ (x0 : ZV) (a : Int) (L st : List ZV) (h : PH), zev kX4_comesNext 65 (x0 :: zvi a :: L) st h = zev kX4_comesNext 66 (x0 :: zvi a :: L) (zvi a :: st) h) ∧
  (∀ (j : Int) (q : Nat) (L st : List ZV) (h : PH), zev kX4_comesNext 66 L (zvi j :: zvr (some q) :: st) h = if (ph_K h q).1 % 1000 = 1 ∧ 0 ≤ j ∧ j < (ph_K h q).2 then zev kX4_comesNext 67 L (zvi (ph_I h q j) :: st) h else none) ∧
  (∀ (x0 x1 x2 : ZV) (a : Int) (L st : List ZV) (h : PH), zev kX4_comesNext 67 (x0 :: x1 :: x2 :: zvi a :: L) st h = zev kX4_comesNext 68 (x0 :: x1 :: x2 :: zvi a :: L) (zvi a :: st) h) ∧
  (∀ (a b : Int) (L st : List ZV) (h : PH), zev kX4_comesNext 68 L (zvi b :: zvi a :: st) h = zev kX4_comesNext 69 L (zvi (w32 (a - b)) :: st) h) ∧
  (∀ (x0 x1 x2 x3 x4 : ZV) (a : Int) (L st : List ZV) (h : PH) (hx : zisL x3 = false) , zev kX4_comesNext 69 (x0 :: x1 :: x2 :: x3 :: x4 :: L) (zvi a :: st) h = zev kX4_comesNext 71 (x0 :: x1 :: x2 :: x3 :: zvi a :: L) st h) ∧
  (∀ (x0 x1 x2 x3 : ZV) (a : Int) (L st : List ZV) (h : PH), zev kX4_comesNext 71 (x0 :: x1 :: x2 :: x3 :: zvi a :: L) st h = zev kX4_comesNext 73 (x0 :: x1 :: x2 :: x3 :: zvi a :: L) (zvi a :: st) h) ∧
  (∀ (a : Int) (L st : List ZV) (h : PH), zev kX4_comesNext 73 L (zvi a :: st) h = if a = 0 then zev kX4_comesNext 81 L st h else zev kX4_comesNext 76 L st h) ∧
  (∀ (x0 x1 x2 x3 : ZV) (a : Int) (L st : List ZV) (h : PH), zev kX4_comesNext 76 (x0 :: x1 :: x2 :: x3 :: zvi a :: L) st h = zev kX4_comesNext 78 (x0 :: x1 :: x2 :: x3 :: zvi a :: L) (zvi a :: st) h) ∧
  (∀ (L st : List ZV) (h : PH), zev kX4_comesNext 78 L st h = zev kX4_comesNext 96 L st h) ∧
  (∀ (a : Option Nat) (L st : List ZV) (h : PH), zev kX4_comesNext 81 (zvr a :: L) st h = zev kX4_comesNext 82 (zvr a :: L) (zvr a :: st) h) ∧
  (∀ (q : Nat) (L st : List ZV) (h : PH), zev kX4_comesNext 82 L (zvr (some q) :: st) h = if (ph_K h q).1 % 1000 = 18 then zev kX4_comesNext 85 L (zvr (ph_R h q 25) :: st) h else none) ∧
  (∀ (x0 : ZV) (a : Int) (L st : List ZV) (h : PH), zev kX4_comesNext 85 (x0 :: zvi a :: L) st h = zev kX4_comesNext 86 (x0 :: zvi a :: L) (zvi a :: st) h) ∧
  (∀ (j : Int) (q : Nat) (L st : List ZV) (h : PH), zev kX4_comesNext 86 L (zvi j :: zvr (some q) :: st) h = if (ph_K h q).1 % 1000 = 1 ∧ 0 ≤ j ∧ j < (ph_K h q).2 then zev kX4_comesNext 87 L (zvi (ph_I h q j) :: st) h else none) ∧
  (∀ (a : Option Nat) (L st : List ZV) (h : PH), zev kX4_comesNext 87 (zvr a :: L) st h = zev kX4_comesNext 88 (zvr a :: L) (zvr a :: st) h) ∧
  (∀ (q : Nat) (L st : List ZV) (h : PH), zev kX4_comesNext 88 L (zvr (some q) :: st) h = if (ph_K h q).1 % 1000 = 18 then zev kX4_comesNext 91 L (zvr (ph_R h q 25) :: st) h else none) ∧
  (∀ (x0 x1 : ZV) (a : Int) (L st : List ZV) (h : PH), zev kX4_comesNext 91 (x0 :: x1 :: zvi a :: L) st h = zev kX4_comesNext 92 (x0 :: x1 :: zvi a :: L) (zvi a :: st) h) ∧
  (∀ (j : Int) (q : Nat) (L st : List ZV) (h : PH), zev kX4_comesNext 92 L (zvi j :: zvr (some q) :: st) h = if (ph_K h q).1 % 1000 = 1 ∧ 0 ≤ j ∧ j < (ph_K h q).2 then zev kX4_comesNext 93 L (zvi (ph_I h q j) :: st) h else none) ∧
  (∀ (a b : Int) (L st : List ZV) (h : PH), zev kX4_comesNext 93 L (zvi b :: zvi a :: st) h = zev kX4_comesNext 94 L (zvi (w32 (a - b)) :: st) h) ∧
  (∀ (L st : List ZV) (h : PH), zev kX4_comesNext 94 L st h = zev kX4_comesNext 95 L (zvi 1 :: st) h) ∧
  (∀ (a b : Int) (L st : List ZV) (h : PH), zev kX4_comesNext 95 L (zvi b :: zvi a :: st) h = zev kX4_comesNext 96 L (zvi (w32 (a - b)) :: st) h) ∧
  (∀ (x0 x1 x2 x3 x4 : ZV) (a : Int) (L st : List ZV) (h : PH) (hx : zisL x3 = false) , zev kX4_comesNext 96 (x0 :: x1 :: x2 :: x3 :: x4 :: L) (zvi a :: st) h = zev kX4_comesNext 98 (x0 :: x1 :: x2 :: x3 :: zvi a :: L) st h) ∧
  (∀ (x0 x1 x2 x3 : ZV) (a : Int) (L st : List ZV) (h : PH), zev kX4_comesNext 98 (x0 :: x1 :: x2 :: x3 :: zvi a :: L) st h = zev kX4_comesNext 100 (x0 :: x1 :: x2 :: x3 :: zvi a :: L) (zvi a :: st) h) ∧
  (∀ (a : Int) (L st : List ZV) (h : PH), zev kX4_comesNext 100 L (zvi a :: st) h = if a > 0 then zev kX4_comesNext 122 L st h else zev kX4_comesNext 103 L st h) ∧
  (∀ (x0 x1 x2 x3 : ZV) (a : Int) (L st : List ZV) (h : PH), zev kX4_comesNext 103 (x0 :: x1 :: x2 :: x3 :: zvi a :: L) st h = zev kX4_comesNext 105 (x0 :: x1 :: x2 :: x3 :: zvi a :: L) (zvi a :: st) h) ∧
  (∀ (a : Int) (L st : List ZV) (h : PH), zev kX4_comesNext 105 L (zvi a :: st) h = if a ≠ 0 then zev kX4_comesNext 162 L st h else zev kX4_comesNext 108 L st h) ∧
  (∀ (a : Option Nat) (L st : List ZV) (h : PH), zev kX4_comesNext 108 (zvr a :: L) st h = zev kX4_comesNext 109 (zvr a :: L) (zvr a :: st) h) ∧
  (∀ (x0 x1 : ZV) (a : Int) (L st : List ZV) (h : PH), zev kX4_comesNext 109 (x0 :: x1 :: zvi a :: L) st h = zev kX4_comesNext 110 (x0 :: x1 :: zvi a :: L) (zvi a :: st) h) ∧
  (∀ (a : Option Nat) (L st : List ZV) (h : PH), zev kX4_comesNext 110 (zvr a :: L) st h = zev kX4_comesNext 111 (zvr a :: L) (zvr a :: st) h) ∧
  (∀ (q : Nat) (L st : List ZV) (h : PH), zev kX4_comesNext 111 L (zvr (some q) :: st) h = if (ph_K h q).1 % 1000 = 18 then zev kX4_comesNext 114 L (zvr (ph_R h q 26) :: st) h else none) ∧
  (∀ (x0 : ZV) (a : Int) (L st : List ZV) (h : PH), zev kX4_comesNext 114 (x0 :: zvi a :: L) st h = zev kX4_comesNext 115 (x0 :: zvi a :: L) (zvi a :: st) h) ∧
  (∀ (j : Int) (q : Nat) (L st : List ZV) (h : PH), zev kX4_comesNext 115 L (zvi j :: zvr (some q) :: st) h = if (ph_K h q).1 % 1000 = 1 ∧ 0 ≤ j ∧ j < (ph_K h q).2 then zev kX4_comesNext 116 L (zvi (ph_I h q j) :: st) h else none) ∧
  (∀ (v0 v1 : ZV) (q : Nat) (L st : List ZV) (h : PH), zev kX4_comesNext 116 L (v1 :: v0 :: zvr (some q) :: st) h = if (ph_K h q).1 % 1000 = 18 ∧ zcat st ≤ 8 then zk kX4_comesNext 116 119 L st (mX4_isLessRow [zvr (some q), v0, v1] h) else none) ∧
  (∀ (a : Int) (L st : List ZV) (h : PH), zev kX4_comesNext 119 L (zvi a :: st) h = if a = 0 then zev kX4_comesNext 162 L st h else zev kX4_comesNext 122 L st h) ∧
  (∀ (a : Option Nat) (L st : List ZV) (h : PH), zev kX4_comesNext 122 (zvr a :: L) st h = zev kX4_comesNext 123 (zvr a :: L) (zvr a :: st) h) ∧
  (∀ (q : Nat) (L st : List ZV) (h : PH), zev kX4_comesNext 123 L (zvr (some q) :: st) h = if (ph_K h q).1 % 1000 = 18 then zev kX4_comesNext 126 L (zvr (ph_R h q 23) :: st) h else none) ∧
  (∀ (x0 : ZV) (a : Int) (L st : List ZV) (h : PH), zev kX4_comesNext 126 (x0 :: zvi a :: L) st h = zev kX4_comesNext 127 (x0 :: zvi a :: L) (zvi a :: st) h) ∧
  (∀ (a : Option Nat) (L st : List ZV) (h : PH), zev kX4_comesNext 127 (zvr a :: L) st h = zev kX4_comesNext 128 (zvr a :: L) (zvr a :: st) h) ∧
  (∀ (q : Nat) (L st : List ZV) (h : PH), zev kX4_comesNext 128 L (zvr (some q) :: st) h = if (ph_K h q).1 % 1000 = 18 then zev kX4_comesNext 131 L (zvr (ph_R h q 23) :: st) h else none) ∧
  (∀ (x0 x1 : ZV) (a : Int) (L st : List ZV) (h : PH), zev kX4_comesNext 131 (x0 :: x1 :: zvi a :: L) st h = zev kX4_comesNext 132 (x0 :: x1 :: zvi a :: L) (zvi a :: st) h) ∧
  (∀ (j : Int) (q : Nat) (L st : List ZV) (h : PH), zev kX4_comesNext 132 L (zvi j :: zvr (some q) :: st) h = if (ph_K h q).1 % 1000 = 1 ∧ 0 ≤ j ∧ j < (ph_K h q).2 then zev kX4_comesNext 133 L (zvi (ph_I h q j) :: st) h else none) ∧
  (∀ (x j : Int) (q : Nat) (L st : List ZV) (h : PH), zev kX4_comesNext 133 L (zvi x :: zvi j :: zvr (some q) :: st) h = if (ph_K h q).1 = 1 ∧ 0 ≤ j ∧ j < (ph_K h q).2 then zev kX4_comesNext 134 L st (st_I h q j x) else none) ∧
  (∀ (a : Option Nat) (L st : List ZV) (h : PH), zev kX4_comesNext 134 (zvr a :: L) st h = zev kX4_comesNext 135 (zvr a :: L) (zvr a :: st) h) ∧
  (∀ (q : Nat) (L st : List ZV) (h : PH), zev kX4_comesNext 135 L (zvr (some q) :: st) h = if (ph_K h q).1 % 1000 = 18 then zev kX4_comesNext 138 L (zvr (ph_R h q 24) :: st) h else none) ∧
  (∀ (x0 : ZV) (a : Int) (L st : List ZV) (h : PH), zev kX4_comesNext 138 (x0 :: zvi a :: L) st h = zev kX4_comesNext 139 (x0 :: zvi a :: L) (zvi a :: st) h) ∧
  (∀ (x0 x1 x2 : ZV) (a : Int) (L st : List ZV) (h : PH), zev kX4_comesNext 139 (x0 :: x1 :: x2 :: zvi a :: L) st h = zev kX4_comesNext 140 (x0 :: x1 :: x2 :: zvi a :: L) (zvi a :: st) h) ∧
  (∀ (x j : Int) (q : Nat) (L st : List ZV) (h : PH), zev kX4_comesNext 140 L (zvi x :: zvi j :: zvr (some q) :: st) h = if (ph_K h q).1 = 1 ∧ 0 ≤ j ∧ j < (ph_K h q).2 then zev kX4_comesNext 141 L st (st_I h q j x) else none) ∧
  (∀ (a : Option Nat) (L st : List ZV) (h : PH), zev kX4_comesNext 141 (zvr a :: L) st h = zev kX4_comesNext 142 (zvr a :: L) (zvr a :: st) h) ∧
  (∀ (q : Nat) (L st : List ZV) (h : PH), zev kX4_comesNext 142 L (zvr (some q) :: st) h = if (ph_K h q).1 % 1000 = 18 then zev kX4_comesNext 145 L (zvr (ph_R h q 25) :: st) h else none) ∧
  (∀ (x0 : ZV) (a : Int) (L st : List ZV) (h : PH), zev kX4_comesNext 145 (x0 :: zvi a :: L) st h = zev kX4_comesNext 146 (x0 :: zvi a :: L) (zvi a :: st) h) ∧
  (∀ (a : Option Nat) (L st : List ZV) (h : PH), zev kX4_comesNext 146 (zvr a :: L) st h = zev kX4_comesNext 147 (zvr a :: L) (zvr a :: st) h) ∧
  (∀ (q : Nat) (L st : List ZV) (h : PH), zev kX4_comesNext 147 L (zvr (some q) :: st) h = if (ph_K h q).1 % 1000 = 18 then zev kX4_comesNext 150 L (zvr (ph_R h q 25) :: st) h else none) ∧
  (∀ (x0 x1 : ZV) (a : Int) (L st : List ZV) (h : PH), zev kX4_comesNext 150 (x0 :: x1 :: zvi a :: L) st h = zev kX4_comesNext 151 (x0 :: x1 :: zvi a :: L) (zvi a :: st) h) ∧
  (∀ (j : Int) (q : Nat) (L st : List ZV) (h : PH), zev kX4_comesNext 151 L (zvi j :: zvr (some q) :: st) h = if (ph_K h q).1 % 1000 = 1 ∧ 0 ≤ j ∧ j < (ph_K h q).2 then zev kX4_comesNext 152 L (zvi (ph_I h q j) :: st) h else none) ∧
  (∀ (L st : List ZV) (h : PH), zev kX4_comesNext 152 L st h = zev kX4_comesNext 153 L (zvi 1 :: st) h) ∧
  (∀ (a b : Int) (L st : List ZV) (h : PH), zev kX4_comesNext 153 L (zvi b :: zvi a :: st) h = zev kX4_comesNext 154 L (zvi (w32 (a + b)) :: st) h) ∧
  (∀ (x j : Int) (q : Nat) (L st : List ZV) (h : PH), zev kX4_comesNext 154 L (zvi x :: zvi j :: zvr (some q) :: st) h = if (ph_K h q).1 = 1 ∧ 0 ≤ j ∧ j < (ph_K h q).2 then zev kX4_comesNext 155 L st (st_I h q j x) else none) ∧
  (∀ (a : Option Nat) (L st : List ZV) (h : PH), zev kX4_comesNext 155 (zvr a :: L) st h = zev kX4_comesNext 156 (zvr a :: L) (zvr a :: st) h) ∧
  (∀ (q : Nat) (L st : List ZV) (h : PH), zev kX4_comesNext 156 L (zvr (some q) :: st) h = if (ph_K h q).1 % 1000 = 18 then zev kX4_comesNext 159 L (zvr (ph_R h q 26) :: st) h else none) ∧
  (∀ (x0 : ZV) (a : Int) (L st : List ZV) (h : PH), zev kX4_comesNext 159 (x0 :: zvi a :: L) st h = zev kX4_comesNext 160 (x0 :: zvi a :: L) (zvi a :: st) h) ∧
  (∀ (x0 x1 : ZV) (a : Int) (L st : List ZV) (h : PH), zev kX4_comesNext 160 (x0 :: x1 :: zvi a :: L) st h = zev kX4_comesNext 161 (x0 :: x1 :: zvi a :: L) (zvi a :: st) h) ∧
  (∀ (x j : Int) (q : Nat) (L st : List ZV) (h : PH), zev kX4_comesNext 161 L (zvi x :: zvi j :: zvr (some q) :: st) h = if (ph_K h q).1 = 1 ∧ 0 ≤ j ∧ j < (ph_K h q).2 then zev kX4_comesNext 162 L st (st_I h q j x) else none) ∧
  (∀ (L : List ZV) (h : PH), zev kX4_comesNext 162 L [] h = zr0 h) :=
  ⟨fun a L st h => e_ld0R (n := 1) rfl,
  fun q L st h => e_getR (kd := 18) (k := 23) (n := 4) rfl,
  fun x0 x1 a L st h => e_ld2I (n := 5) rfl,
  fun j q L st h => e_ald (kd := 1) (n := 6) rfl,
  fun L st h => e_push (v := zvi 9999) (n := 9) rfl,
  fun a b L st h => e_cmpeq (t := 21) (n := 12) rfl,
  fun a L st h => e_ld0R (n := 13) rfl,
  fun x0 a L st h => e_ld1I (n := 14) rfl,
  fun x0 x1 a L st h => e_ld2I (n := 15) rfl,
  fun v0 v1 q L st h => e_callV3 (F := mX4_canFollow) (kd := 18) (n := 18) rfl,
  fun a L st h => e_ifne (t := 22) (n := 21) rfl,
  fun L h => e_ret rfl,
  fun a L st h => e_ld0R (n := 23) rfl,
  fun q L st h => e_getR (kd := 18) (k := 24) (n := 26) rfl,
  fun x0 x1 a L st h => e_ld2I (n := 27) rfl,
  fun j q L st h => e_ald (kd := 1) (n := 28) rfl,
  fun a L st h => e_ld0R (n := 29) rfl,
  fun x0 a L st h => e_ld1I (n := 30) rfl,
  fun x0 x1 a L st h => e_ld2I (n := 31) rfl,
  fun v0 v1 q L st h => e_callV3 (F := mX4_turns) (kd := 18) (n := 34) rfl,
  fun a b L st h => e_bin (f := (fun a b => w32 (a + b))) (n := 35) rfl,
  fun x0 x1 x2 x3 a L st h hx => e_st3I (n := 36) rfl hx,
  fun a L st h => e_ld0R (n := 37) rfl,
  fun q L st h => e_getR (kd := 18) (k := 23) (n := 40) rfl,
  fun x0 a L st h => e_ld1I (n := 41) rfl,
  fun j q L st h => e_ald (kd := 1) (n := 42) rfl,
  fun a L st h => e_ld0R (n := 43) rfl,
  fun q L st h => e_getR (kd := 18) (k := 23) (n := 46) rfl,
  fun x0 x1 a L st h => e_ld2I (n := 47) rfl,
  fun j q L st h => e_ald (kd := 1) (n := 48) rfl,
  fun a b L st h => e_bin (f := (fun a b => w32 (a - b))) (n := 49) rfl,
  fun x0 x1 x2 x3 x4 a L st h hx => e_st4I (n := 51) rfl hx,
  fun x0 x1 x2 x3 a L st h => e_ld4I (n := 53) rfl,
  fun a L st h => e_ifeq (t := 61) (n := 56) rfl,
  fun x0 x1 x2 x3 a L st h => e_ld4I (n := 58) rfl,
  fun L st h => e_goto (t := 69) rfl,
  fun a L st h => e_ld0R (n := 62) rfl,
  fun q L st h => e_getR (kd := 18) (k := 24) (n := 65) rfl,
  fun x0 a L st h => e_ld1I (n := 66) rfl,
  fun j q L st h => e_ald (kd := 1) (n := 67) rfl,
  fun x0 x1 x2 a L st h => e_ld3I (n := 68) rfl,
  fun a b L st h => e_bin (f := (fun a b => w32 (a - b))) (n := 69) rfl,
  fun x0 x1 x2 x3 x4 a L st h hx => e_st4I (n := 71) rfl hx,
  fun x0 x1 x2 x3 a L st h => e_ld4I (n := 73) rfl,
  fun a L st h => e_ifeq (t := 81) (n := 76) rfl,
  fun x0 x1 x2 x3 a L st h => e_ld4I (n := 78) rfl,
  fun L st h => e_goto (t := 96) rfl,
  fun a L st h => e_ld0R (n := 82) rfl,
  fun q L st h => e_getR (kd := 18) (k := 25) (n := 85) rfl,
  fun x0 a L st h => e_ld1I (n := 86) rfl,
  fun j q L st h => e_ald (kd := 1) (n := 87) rfl,
  fun a L st h => e_ld0R (n := 88) rfl,
  fun q L st h => e_getR (kd := 18) (k := 25) (n := 91) rfl,
  fun x0 x1 a L st h => e_ld2I (n := 92) rfl,
  fun j q L st h => e_ald (kd := 1) (n := 93) rfl,
  fun a b L st h => e_bin (f := (fun a b => w32 (a - b))) (n := 94) rfl,
  fun L st h => e_push (v := zvi 1) (n := 95) rfl,
  fun a b L st h => e_bin (f := (fun a b => w32 (a - b))) (n := 96) rfl,
  fun x0 x1 x2 x3 x4 a L st h hx => e_st4I (n := 98) rfl hx,
  fun x0 x1 x2 x3 a L st h => e_ld4I (n := 100) rfl,
  fun a L st h => e_ifgt (t := 122) (n := 103) rfl,
  fun x0 x1 x2 x3 a L st h => e_ld4I (n := 105) rfl,
  fun a L st h => e_ifne (t := 162) (n := 108) rfl,
  fun a L st h => e_ld0R (n := 109) rfl,
  fun x0 x1 a L st h => e_ld2I (n := 110) rfl,
  fun a L st h => e_ld0R (n := 111) rfl,
  fun q L st h => e_getR (kd := 18) (k := 26) (n := 114) rfl,
  fun x0 a L st h => e_ld1I (n := 115) rfl,
  fun j q L st h => e_ald (kd := 1) (n := 116) rfl,
  fun v0 v1 q L st h => e_callV3 (F := mX4_isLessRow) (kd := 18) (n := 119) rfl,
  fun a L st h => e_ifeq (t := 162) (n := 122) rfl,
  fun a L st h => e_ld0R (n := 123) rfl,
  fun q L st h => e_getR (kd := 18) (k := 23) (n := 126) rfl,
  fun x0 a L st h => e_ld1I (n := 127) rfl,
  fun a L st h => e_ld0R (n := 128) rfl,
  fun q L st h => e_getR (kd := 18) (k := 23) (n := 131) rfl,
  fun x0 x1 a L st h => e_ld2I (n := 132) rfl,
  fun j q L st h => e_ald (kd := 1) (n := 133) rfl,
  fun x j q L st h => e_ast (n := 134) rfl,
  fun a L st h => e_ld0R (n := 135) rfl,
  fun q L st h => e_getR (kd := 18) (k := 24) (n := 138) rfl,
  fun x0 a L st h => e_ld1I (n := 139) rfl,
  fun x0 x1 x2 a L st h => e_ld3I (n := 140) rfl,
  fun x j q L st h => e_ast (n := 141) rfl,
  fun a L st h => e_ld0R (n := 142) rfl,
  fun q L st h => e_getR (kd := 18) (k := 25) (n := 145) rfl,
  fun x0 a L st h => e_ld1I (n := 146) rfl,
  fun a L st h => e_ld0R (n := 147) rfl,
  fun q L st h => e_getR (kd := 18) (k := 25) (n := 150) rfl,
  fun x0 x1 a L st h => e_ld2I (n := 151) rfl,
  fun j q L st h => e_ald (kd := 1) (n := 152) rfl,
  fun L st h => e_push (v := zvi 1) (n := 153) rfl,
  fun a b L st h => e_bin (f := (fun a b => w32 (a + b))) (n := 154) rfl,
  fun x j q L st h => e_ast (n := 155) rfl,
  fun a L st h => e_ld0R (n := 156) rfl,
  fun q L st h => e_getR (kd := 18) (k := 26) (n := 159) rfl,
  fun x0 a L st h => e_ld1I (n := 160) rfl,
  fun x0 x1 a L st h => e_ld2I (n := 161) rfl,
  fun x j q L st h => e_ast (n := 162) rfl,
  fun L h => e_ret rfl⟩
theorem allX4_comesNext : zall yX4_comesNext cX4_comesNext 5 none 5 kX4_comesNext.1 :=
  ⟨k_aload_n dX4_comesNext_0,
  k_getR (C := RX4) (T := TX4) (N := 42) (ci := 2) (k := 23) (ref := "LinkTimesModel") dX4_comesNext_1 rfl in_X4 (by decide) q1822 (Or.inl rfl) (fun _ _ _ => rfl),
  k_iload_n dX4_comesNext_4,
  k_iald dX4_comesNext_5,
  k_sipush dX4_comesNext_6,
  k_cmpeq (t := 21) dX4_comesNext_9 (by decide),
  k_aload_n dX4_comesNext_12,
  k_iload_n dX4_comesNext_13,
  k_iload_n dX4_comesNext_14,
  k_callV (y2 := yX4_canFollow) (C := RX4) (T0 := TX4) (ci := 2) dX4_comesNext_15 sndX4_canFollow rfl q2139 q2141 qs103 q137 q2142 (by decide +kernel) ⟨by decide, by decide⟩ (by decide) (by decide),
  k_ifne (t := 22) dX4_comesNext_18 (by decide),
  k_ret dX4_comesNext_21,
  k_aload_n dX4_comesNext_22,
  k_getR (C := RX4) (T := TX4) (N := 42) (ci := 2) (k := 24) (ref := "LinkTimesModel") dX4_comesNext_23 rfl in_X4 (by decide) q1823 (Or.inl rfl) (fun _ _ _ => rfl),
  k_iload_n dX4_comesNext_26,
  k_iald dX4_comesNext_27,
  k_aload_n dX4_comesNext_28,
  k_iload_n dX4_comesNext_29,
  k_iload_n dX4_comesNext_30,
  k_callV (y2 := yX4_turns) (C := RX4) (T0 := TX4) (ci := 2) dX4_comesNext_31 sndX4_turns rfl q2143 q2145 qs104 q137 q2146 (by decide +kernel) ⟨by decide, by decide⟩ (by decide) (by decide),
  k_iadd dX4_comesNext_34,
  k_istore_n dX4_comesNext_35,
  k_aload_n dX4_comesNext_36,
  k_getR (C := RX4) (T := TX4) (N := 42) (ci := 2) (k := 23) (ref := "LinkTimesModel") dX4_comesNext_37 rfl in_X4 (by decide) q1822 (Or.inl rfl) (fun _ _ _ => rfl),
  k_iload_n dX4_comesNext_40,
  k_iald dX4_comesNext_41,
  k_aload_n dX4_comesNext_42,
  k_getR (C := RX4) (T := TX4) (N := 42) (ci := 2) (k := 23) (ref := "LinkTimesModel") dX4_comesNext_43 rfl in_X4 (by decide) q1822 (Or.inl rfl) (fun _ _ _ => rfl),
  k_iload_n dX4_comesNext_46,
  k_iald dX4_comesNext_47,
  k_isub dX4_comesNext_48,
  k_istore dX4_comesNext_49,
  k_iload dX4_comesNext_51,
  k_ifeq (t := 61) dX4_comesNext_53 (by decide),
  k_iload dX4_comesNext_56,
  k_goto (t := 69) dX4_comesNext_58 (by decide),
  k_aload_n dX4_comesNext_61,
  k_getR (C := RX4) (T := TX4) (N := 42) (ci := 2) (k := 24) (ref := "LinkTimesModel") dX4_comesNext_62 rfl in_X4 (by decide) q1823 (Or.inl rfl) (fun _ _ _ => rfl),
  k_iload_n dX4_comesNext_65,
  k_iald dX4_comesNext_66,
  k_iload_n dX4_comesNext_67,
  k_isub dX4_comesNext_68,
  k_istore dX4_comesNext_69,
  k_iload dX4_comesNext_71,
  k_ifeq (t := 81) dX4_comesNext_73 (by decide),
  k_iload dX4_comesNext_76,
  k_goto (t := 96) dX4_comesNext_78 (by decide),
  k_aload_n dX4_comesNext_81,
  k_getR (C := RX4) (T := TX4) (N := 42) (ci := 2) (k := 25) (ref := "LinkTimesModel") dX4_comesNext_82 rfl in_X4 (by decide) q1824 (Or.inl rfl) (fun _ _ _ => rfl),
  k_iload_n dX4_comesNext_85,
  k_iald dX4_comesNext_86,
  k_aload_n dX4_comesNext_87,
  k_getR (C := RX4) (T := TX4) (N := 42) (ci := 2) (k := 25) (ref := "LinkTimesModel") dX4_comesNext_88 rfl in_X4 (by decide) q1824 (Or.inl rfl) (fun _ _ _ => rfl),
  k_iload_n dX4_comesNext_91,
  k_iald dX4_comesNext_92,
  k_isub dX4_comesNext_93,
  k_iconst dX4_comesNext_94,
  k_isub dX4_comesNext_95,
  k_istore dX4_comesNext_96,
  k_iload dX4_comesNext_98,
  k_ifgt (t := 122) dX4_comesNext_100 (by decide),
  k_iload dX4_comesNext_103,
  k_ifne (t := 162) dX4_comesNext_105 (by decide),
  k_aload_n dX4_comesNext_108,
  k_iload_n dX4_comesNext_109,
  k_aload_n dX4_comesNext_110,
  k_getR (C := RX4) (T := TX4) (N := 42) (ci := 2) (k := 26) (ref := "LinkTimesModel") dX4_comesNext_111 rfl in_X4 (by decide) q1825 (Or.inl rfl) (fun _ _ _ => rfl),
  k_iload_n dX4_comesNext_114,
  k_iald dX4_comesNext_115,
  k_callV (y2 := yX4_isLessRow) (C := RX4) (T0 := TX4) (ci := 2) dX4_comesNext_116 sndX4_isLessRow rfl q2147 q2149 qs105 q137 q2150 (by decide +kernel) ⟨by decide, by decide⟩ (by decide) (by decide),
  k_ifeq (t := 162) dX4_comesNext_119 (by decide),
  k_aload_n dX4_comesNext_122,
  k_getR (C := RX4) (T := TX4) (N := 42) (ci := 2) (k := 23) (ref := "LinkTimesModel") dX4_comesNext_123 rfl in_X4 (by decide) q1822 (Or.inl rfl) (fun _ _ _ => rfl),
  k_iload_n dX4_comesNext_126,
  k_aload_n dX4_comesNext_127,
  k_getR (C := RX4) (T := TX4) (N := 42) (ci := 2) (k := 23) (ref := "LinkTimesModel") dX4_comesNext_128 rfl in_X4 (by decide) q1822 (Or.inl rfl) (fun _ _ _ => rfl),
  k_iload_n dX4_comesNext_131,
  k_iald dX4_comesNext_132,
  k_iast dX4_comesNext_133,
  k_aload_n dX4_comesNext_134,
  k_getR (C := RX4) (T := TX4) (N := 42) (ci := 2) (k := 24) (ref := "LinkTimesModel") dX4_comesNext_135 rfl in_X4 (by decide) q1823 (Or.inl rfl) (fun _ _ _ => rfl),
  k_iload_n dX4_comesNext_138,
  k_iload_n dX4_comesNext_139,
  k_iast dX4_comesNext_140,
  k_aload_n dX4_comesNext_141,
  k_getR (C := RX4) (T := TX4) (N := 42) (ci := 2) (k := 25) (ref := "LinkTimesModel") dX4_comesNext_142 rfl in_X4 (by decide) q1824 (Or.inl rfl) (fun _ _ _ => rfl),
  k_iload_n dX4_comesNext_145,
  k_aload_n dX4_comesNext_146,
  k_getR (C := RX4) (T := TX4) (N := 42) (ci := 2) (k := 25) (ref := "LinkTimesModel") dX4_comesNext_147 rfl in_X4 (by decide) q1824 (Or.inl rfl) (fun _ _ _ => rfl),
  k_iload_n dX4_comesNext_150,
  k_iald dX4_comesNext_151,
  k_iconst dX4_comesNext_152,
  k_iadd dX4_comesNext_153,
  k_iast dX4_comesNext_154,
  k_aload_n dX4_comesNext_155,
  k_getR (C := RX4) (T := TX4) (N := 42) (ci := 2) (k := 26) (ref := "LinkTimesModel") dX4_comesNext_156 rfl in_X4 (by decide) q1825 (Or.inl rfl) (fun _ _ _ => rfl),
  k_iload_n dX4_comesNext_159,
  k_iload_n dX4_comesNext_160,
  k_iast dX4_comesNext_161,
  k_ret dX4_comesNext_162, trivial⟩
theorem sndX4_comesNext : MSound 5 yX4_comesNext (ws_ yX4_comesNext cX4_comesNext 5 none) mX4_comesNext := msound_M (by decide) allX4_comesNext (fun _ _ => rfl)
/-! LinkTimesModel.laysGoal(I)V -/
noncomputable def kX4_laysGoal : ZM := ([(0, zi_ld 1 0 1), (1, zi_callV mX4_sorts 18 1 4), (4, zi_push (zvi 0) 5), (5, zi_st 0 2 6), (6, zi_ld 0 2 7), (7, zi_ld 1 0 8), (8, zi_getI 18 28 11), (11, zi_cmp zc_ge 123 14), (14, zi_ld 1 0 15), (15, zi_getR 18 27 18), (18, zi_ld 0 2 19), (19, zi_ald 1 20), (20, zi_st 0 3 21), (21, zi_ld 1 0 22), (22, zi_getR 18 6 25), (25, zi_ld 0 3 26), (26, zi_push (zvi 2) 27), (27, zi_callS mX4_at 2 30), (30, zi_ald 1 31), (31, zi_ld 0 1 32), (32, zi_cmp zc_ne 39 35), (35, zi_push (zvi 1) 36), (36, zi_goto 40), (39, zi_push (zvi 0) 40), (40, zi_st 0 4 42), (42, zi_ld 1 0 43), (43, zi_getR 18 23 46), (46, zi_ld 0 3 47), (47, zi_ld 0 4 49), (49, zi_if (fun a => zc_eq a 0) 60 52), (52, zi_ld 1 0 53), (53, zi_ld 0 3 54), (54, zi_callV mX4_arrivesAt 18 2 57), (57, zi_goto 63), (60, zi_push (zvi 9999) 63), (63, zi_ast 64), (64, zi_ld 1 0 65), (65, zi_getR 18 24 68), (68, zi_ld 0 3 69), (69, zi_push (zvi 0) 70), (70, zi_ast 71), (71, zi_ld 1 0 72), (72, zi_getR 18 25 75), (75, zi_ld 0 3 76), (76, zi_push (zvi 1) 77), (77, zi_ast 78), (78, zi_ld 1 0 79), (79, zi_getR 18 26 82), (82, zi_ld 0 3 83), (83, zi_push (zvi (-1)) 84), (84, zi_ast 85), (85, zi_push (zvi 0) 86), (86, zi_st 0 5 88), (88, zi_ld 0 5 90), (90, zi_ld 0 2 91), (91, zi_cmp zc_ge 117 94), (94, zi_ld 0 4 96), (96, zi_if (fun a => zc_ne a 0) 117 99), (99, zi_ld 1 0 100), (100, zi_ld 0 3 101), (101, zi_ld 1 0 102), (102, zi_getR 18 27 105), (105, zi_ld 0 5 107), (107, zi_ald 1 108), (108, zi_callV mX4_comesNext 18 3 111), (111, zi_iinc 5 1 114), (114, zi_goto 88), (117, zi_iinc 2 1 120), (120, zi_goto 6), (123, zi_ret)], fun _ _ => none)
noncomputable def mX4_laysGoal : ZF := zrunM kX4_laysGoal 6
theorem enX4_laysGoal (x0 : Option Nat) (x1 : Int) (h : PH) : mX4_laysGoal [zvr x0, zvi x1] h = zev kX4_laysGoal 0 [zvr x0, zvi x1, zvu, zvu, zvu, zvu] [] h := zrunM_eq rfl rfl
theorem hdX4_laysGoal_6 (x0 x1 : ZV) (a : Int) (L st : List ZV) (h : PH) : zev kX4_laysGoal 6 (x0 :: x1 :: zvi a :: L) st h = zev kX4_laysGoal 7 (x0 :: x1 :: zvi a :: L) (zvi a :: st) h := e_ld2I (n := 7) rfl
theorem hdX4_laysGoal_88 (x0 x1 x2 x3 x4 : ZV) (a : Int) (L st : List ZV) (h : PH) : zev kX4_laysGoal 88 (x0 :: x1 :: x2 :: x3 :: x4 :: zvi a :: L) st h = zev kX4_laysGoal 90 (x0 :: x1 :: x2 :: x3 :: x4 :: zvi a :: L) (zvi a :: st) h := e_ld5I (n := 90) rfl
theorem rX4_laysGoal : (∀ (a : Option Nat) (L st : List ZV) (h : PH), zev kX4_laysGoal 0 (zvr a :: L) st h = zev kX4_laysGoal 1 (zvr a :: L) (zvr a :: st) h) ∧
  (∀ (q : Nat) (L st : List ZV) (h : PH), zev kX4_laysGoal 1 L (zvr (some q) :: st) h = if (ph_K h q).1 % 1000 = 18 ∧ zcat st ≤ 8 then zk kX4_laysGoal 1 4 L st (mX4_sorts [zvr (some q)] h) else none) ∧
  (∀ (L st : List ZV) (h : PH), zev kX4_laysGoal 4 L st h = zev kX4_laysGoal 5 L (zvi 0 :: st) h) ∧
  (∀ (x0 x1 x2 : ZV) (a : Int) (L st : List ZV) (h : PH) (hx : zisL x1 = false) , zev kX4_laysGoal 5 (x0 :: x1 :: x2 :: L) (zvi a :: st) h = zev kX4_laysGoal 6 (x0 :: x1 :: zvi a :: L) st h) ∧
  (∀ (a : Option Nat) (L st : List ZV) (h : PH), zev kX4_laysGoal 7 (zvr a :: L) st h = zev kX4_laysGoal 8 (zvr a :: L) (zvr a :: st) h) ∧
  (∀ (q : Nat) (L st : List ZV) (h : PH), zev kX4_laysGoal 8 L (zvr (some q) :: st) h = if (ph_K h q).1 % 1000 = 18 then zev kX4_laysGoal 11 L (zvi (ph_I h q 28) :: st) h else none) ∧
  (∀ (a b : Int) (L st : List ZV) (h : PH), zev kX4_laysGoal 11 L (zvi b :: zvi a :: st) h = if a ≥ b then zev kX4_laysGoal 123 L st h else zev kX4_laysGoal 14 L st h) ∧
  (∀ (a : Option Nat) (L st : List ZV) (h : PH), zev kX4_laysGoal 14 (zvr a :: L) st h = zev kX4_laysGoal 15 (zvr a :: L) (zvr a :: st) h) ∧
  (∀ (q : Nat) (L st : List ZV) (h : PH), zev kX4_laysGoal 15 L (zvr (some q) :: st) h = if (ph_K h q).1 % 1000 = 18 then zev kX4_laysGoal 18 L (zvr (ph_R h q 27) :: st) h else none) ∧
  (∀ (x0 x1 : ZV) (a : Int) (L st : List ZV) (h : PH), zev kX4_laysGoal 18 (x0 :: x1 :: zvi a :: L) st h = zev kX4_laysGoal 19 (x0 :: x1 :: zvi a :: L) (zvi a :: st) h) ∧
  (∀ (j : Int) (q : Nat) (L st : List ZV) (h : PH), zev kX4_laysGoal 19 L (zvi j :: zvr (some q) :: st) h = if (ph_K h q).1 % 1000 = 1 ∧ 0 ≤ j ∧ j < (ph_K h q).2 then zev kX4_laysGoal 20 L (zvi (ph_I h q j) :: st) h else none) ∧
  (∀ (x0 x1 x2 x3 : ZV) (a : Int) (L st : List ZV) (h : PH) (hx : zisL x2 = false) , zev kX4_laysGoal 20 (x0 :: x1 :: x2 :: x3 :: L) (zvi a :: st) h = zev kX4_laysGoal 21 (x0 :: x1 :: x2 :: zvi a :: L) st h) ∧
  (∀ (a : Option Nat) (L st : List ZV) (h : PH), zev kX4_laysGoal 21 (zvr a :: L) st h = zev kX4_laysGoal 22 (zvr a :: L) (zvr a :: st) h) ∧
  (∀ (q : Nat) (L st : List ZV) (h : PH), zev kX4_laysGoal 22 L (zvr (some q) :: st) h = if (ph_K h q).1 % 1000 = 18 then zev kX4_laysGoal 25 L (zvr (ph_R h q 6) :: st) h else none) ∧
  (∀ (x0 x1 x2 : ZV) (a : Int) (L st : List ZV) (h : PH), zev kX4_laysGoal 25 (x0 :: x1 :: x2 :: zvi a :: L) st h = zev kX4_laysGoal 26 (x0 :: x1 :: x2 :: zvi a :: L) (zvi a :: st) h) ∧
  (∀ (L st : List ZV) (h : PH), zev kX4_laysGoal 26 L st h = zev kX4_laysGoal 27 L (zvi 2 :: st) h) ∧
  (∀ (v0 v1 : ZV) (L st : List ZV) (h : PH), zev kX4_laysGoal 27 L (v1 :: v0 :: st) h = if zcat st ≤ 8 then zk kX4_laysGoal 27 30 L st (mX4_at [v0, v1] h) else none) ∧
  (∀ (j : Int) (q : Nat) (L st : List ZV) (h : PH), zev kX4_laysGoal 30 L (zvi j :: zvr (some q) :: st) h = if (ph_K h q).1 % 1000 = 1 ∧ 0 ≤ j ∧ j < (ph_K h q).2 then zev kX4_laysGoal 31 L (zvi (ph_I h q j) :: st) h else none) ∧
  (∀ (x0 : ZV) (a : Int) (L st : List ZV) (h : PH), zev kX4_laysGoal 31 (x0 :: zvi a :: L) st h = zev kX4_laysGoal 32 (x0 :: zvi a :: L) (zvi a :: st) h) ∧
  (∀ (a b : Int) (L st : List ZV) (h : PH), zev kX4_laysGoal 32 L (zvi b :: zvi a :: st) h = if a ≠ b then zev kX4_laysGoal 39 L st h else zev kX4_laysGoal 35 L st h) ∧
  (∀ (L st : List ZV) (h : PH), zev kX4_laysGoal 35 L st h = zev kX4_laysGoal 36 L (zvi 1 :: st) h) ∧
  (∀ (L st : List ZV) (h : PH), zev kX4_laysGoal 36 L st h = zev kX4_laysGoal 40 L st h) ∧
  (∀ (L st : List ZV) (h : PH), zev kX4_laysGoal 39 L st h = zev kX4_laysGoal 40 L (zvi 0 :: st) h) ∧
  (∀ (x0 x1 x2 x3 x4 : ZV) (a : Int) (L st : List ZV) (h : PH) (hx : zisL x3 = false) , zev kX4_laysGoal 40 (x0 :: x1 :: x2 :: x3 :: x4 :: L) (zvi a :: st) h = zev kX4_laysGoal 42 (x0 :: x1 :: x2 :: x3 :: zvi a :: L) st h) ∧
  (∀ (a : Option Nat) (L st : List ZV) (h : PH), zev kX4_laysGoal 42 (zvr a :: L) st h = zev kX4_laysGoal 43 (zvr a :: L) (zvr a :: st) h) ∧
  (∀ (q : Nat) (L st : List ZV) (h : PH), zev kX4_laysGoal 43 L (zvr (some q) :: st) h = if (ph_K h q).1 % 1000 = 18 then zev kX4_laysGoal 46 L (zvr (ph_R h q 23) :: st) h else none) ∧
  (∀ (x0 x1 x2 : ZV) (a : Int) (L st : List ZV) (h : PH), zev kX4_laysGoal 46 (x0 :: x1 :: x2 :: zvi a :: L) st h = zev kX4_laysGoal 47 (x0 :: x1 :: x2 :: zvi a :: L) (zvi a :: st) h) ∧
  (∀ (x0 x1 x2 x3 : ZV) (a : Int) (L st : List ZV) (h : PH), zev kX4_laysGoal 47 (x0 :: x1 :: x2 :: x3 :: zvi a :: L) st h = zev kX4_laysGoal 49 (x0 :: x1 :: x2 :: x3 :: zvi a :: L) (zvi a :: st) h) ∧
  (∀ (a : Int) (L st : List ZV) (h : PH), zev kX4_laysGoal 49 L (zvi a :: st) h = if a = 0 then zev kX4_laysGoal 60 L st h else zev kX4_laysGoal 52 L st h) ∧
  (∀ (a : Option Nat) (L st : List ZV) (h : PH), zev kX4_laysGoal 52 (zvr a :: L) st h = zev kX4_laysGoal 53 (zvr a :: L) (zvr a :: st) h) ∧
  (∀ (x0 x1 x2 : ZV) (a : Int) (L st : List ZV) (h : PH), zev kX4_laysGoal 53 (x0 :: x1 :: x2 :: zvi a :: L) st h = zev kX4_laysGoal 54 (x0 :: x1 :: x2 :: zvi a :: L) (zvi a :: st) h) ∧
  (∀ (v0 : ZV) (q : Nat) (L st : List ZV) (h : PH), zev kX4_laysGoal 54 L (v0 :: zvr (some q) :: st) h = if (ph_K h q).1 % 1000 = 18 ∧ zcat st ≤ 8 then zk kX4_laysGoal 54 57 L st (mX4_arrivesAt [zvr (some q), v0] h) else none) ∧
  (∀ (L st : List ZV) (h : PH), zev kX4_laysGoal 57 L st h = zev kX4_laysGoal 63 L st h) ∧
  (∀ (L st : List ZV) (h : PH), zev kX4_laysGoal 60 L st h = zev kX4_laysGoal 63 L (zvi 9999 :: st) h) ∧
  (∀ (x j : Int) (q : Nat) (L st : List ZV) (h : PH), zev kX4_laysGoal 63 L (zvi x :: zvi j :: zvr (some q) :: st) h = if (ph_K h q).1 = 1 ∧ 0 ≤ j ∧ j < (ph_K h q).2 then zev kX4_laysGoal 64 L st (st_I h q j x) else none) ∧
  (∀ (a : Option Nat) (L st : List ZV) (h : PH), zev kX4_laysGoal 64 (zvr a :: L) st h = zev kX4_laysGoal 65 (zvr a :: L) (zvr a :: st) h) ∧
  (∀ (q : Nat) (L st : List ZV) (h : PH), zev kX4_laysGoal 65 L (zvr (some q) :: st) h = if (ph_K h q).1 % 1000 = 18 then zev kX4_laysGoal 68 L (zvr (ph_R h q 24) :: st) h else none) ∧
  (∀ (x0 x1 x2 : ZV) (a : Int) (L st : List ZV) (h : PH), zev kX4_laysGoal 68 (x0 :: x1 :: x2 :: zvi a :: L) st h = zev kX4_laysGoal 69 (x0 :: x1 :: x2 :: zvi a :: L) (zvi a :: st) h) ∧
  (∀ (L st : List ZV) (h : PH), zev kX4_laysGoal 69 L st h = zev kX4_laysGoal 70 L (zvi 0 :: st) h) ∧
  (∀ (x j : Int) (q : Nat) (L st : List ZV) (h : PH), zev kX4_laysGoal 70 L (zvi x :: zvi j :: zvr (some q) :: st) h = if (ph_K h q).1 = 1 ∧ 0 ≤ j ∧ j < (ph_K h q).2 then zev kX4_laysGoal 71 L st (st_I h q j x) else none) ∧
  (∀ (a : Option Nat) (L st : List ZV) (h : PH), zev kX4_laysGoal 71 (zvr a :: L) st h = zev kX4_laysGoal 72 (zvr a :: L) (zvr a :: st) h) ∧
  (∀ (q : Nat) (L st : List ZV) (h : PH), zev kX4_laysGoal 72 L (zvr (some q) :: st) h = if (ph_K h q).1 % 1000 = 18 then zev kX4_laysGoal 75 L (zvr (ph_R h q 25) :: st) h else none) ∧
  (∀ (x0 x1 x2 : ZV) (a : Int) (L st : List ZV) (h : PH), zev kX4_laysGoal 75 (x0 :: x1 :: x2 :: zvi a :: L) st h = zev kX4_laysGoal 76 (x0 :: x1 :: x2 :: zvi a :: L) (zvi a :: st) h) ∧
  (∀ (L st : List ZV) (h : PH), zev kX4_laysGoal 76 L st h = zev kX4_laysGoal 77 L (zvi 1 :: st) h) ∧
  (∀ (x j : Int) (q : Nat) (L st : List ZV) (h : PH), zev kX4_laysGoal 77 L (zvi x :: zvi j :: zvr (some q) :: st) h = if (ph_K h q).1 = 1 ∧ 0 ≤ j ∧ j < (ph_K h q).2 then zev kX4_laysGoal 78 L st (st_I h q j x) else none) ∧
  (∀ (a : Option Nat) (L st : List ZV) (h : PH), zev kX4_laysGoal 78 (zvr a :: L) st h = zev kX4_laysGoal 79 (zvr a :: L) (zvr a :: st) h) ∧
  (∀ (q : Nat) (L st : List ZV) (h : PH), zev kX4_laysGoal 79 L (zvr (some q) :: st) h = if (ph_K h q).1 % 1000 = 18 then zev kX4_laysGoal 82 L (zvr (ph_R h q 26) :: st) h else none) ∧
  (∀ (x0 x1 x2 : ZV) (a : Int) (L st : List ZV) (h : PH), zev kX4_laysGoal 82 (x0 :: x1 :: x2 :: zvi a :: L) st h = zev kX4_laysGoal 83 (x0 :: x1 :: x2 :: zvi a :: L) (zvi a :: st) h) ∧
  (∀ (L st : List ZV) (h : PH), zev kX4_laysGoal 83 L st h = zev kX4_laysGoal 84 L (zvi (-1) :: st) h) ∧
  (∀ (x j : Int) (q : Nat) (L st : List ZV) (h : PH), zev kX4_laysGoal 84 L (zvi x :: zvi j :: zvr (some q) :: st) h = if (ph_K h q).1 = 1 ∧ 0 ≤ j ∧ j < (ph_K h q).2 then zev kX4_laysGoal 85 L st (st_I h q j x) else none) ∧
  (∀ (L st : List ZV) (h : PH), zev kX4_laysGoal 85 L st h = zev kX4_laysGoal 86 L (zvi 0 :: st) h) ∧
  (∀ (x0 x1 x2 x3 x4 x5 : ZV) (a : Int) (L st : List ZV) (h : PH) (hx : zisL x4 = false) , zev kX4_laysGoal 86 (x0 :: x1 :: x2 :: x3 :: x4 :: x5 :: L) (zvi a :: st) h = zev kX4_laysGoal 88 (x0 :: x1 :: x2 :: x3 :: x4 :: zvi a :: L) st h) ∧
  (∀ (x0 x1 : ZV) (a : Int) (L st : List ZV) (h : PH), zev kX4_laysGoal 90 (x0 :: x1 :: zvi a :: L) st h = zev kX4_laysGoal 91 (x0 :: x1 :: zvi a :: L) (zvi a :: st) h) ∧
  (∀ (a b : Int) (L st : List ZV) (h : PH), zev kX4_laysGoal 91 L (zvi b :: zvi a :: st) h = if a ≥ b then zev kX4_laysGoal 117 L st h else zev kX4_laysGoal 94 L st h) ∧
  (∀ (x0 x1 x2 x3 : ZV) (a : Int) (L st : List ZV) (h : PH), zev kX4_laysGoal 94 (x0 :: x1 :: x2 :: x3 :: zvi a :: L) st h = zev kX4_laysGoal 96 (x0 :: x1 :: x2 :: x3 :: zvi a :: L) (zvi a :: st) h) ∧
  (∀ (a : Int) (L st : List ZV) (h : PH), zev kX4_laysGoal 96 L (zvi a :: st) h = if a ≠ 0 then zev kX4_laysGoal 117 L st h else zev kX4_laysGoal 99 L st h) ∧
  (∀ (a : Option Nat) (L st : List ZV) (h : PH), zev kX4_laysGoal 99 (zvr a :: L) st h = zev kX4_laysGoal 100 (zvr a :: L) (zvr a :: st) h) ∧
  (∀ (x0 x1 x2 : ZV) (a : Int) (L st : List ZV) (h : PH), zev kX4_laysGoal 100 (x0 :: x1 :: x2 :: zvi a :: L) st h = zev kX4_laysGoal 101 (x0 :: x1 :: x2 :: zvi a :: L) (zvi a :: st) h) ∧
  (∀ (a : Option Nat) (L st : List ZV) (h : PH), zev kX4_laysGoal 101 (zvr a :: L) st h = zev kX4_laysGoal 102 (zvr a :: L) (zvr a :: st) h) ∧
  (∀ (q : Nat) (L st : List ZV) (h : PH), zev kX4_laysGoal 102 L (zvr (some q) :: st) h = if (ph_K h q).1 % 1000 = 18 then zev kX4_laysGoal 105 L (zvr (ph_R h q 27) :: st) h else none) ∧
  (∀ (x0 x1 x2 x3 x4 : ZV) (a : Int) (L st : List ZV) (h : PH), zev kX4_laysGoal 105 (x0 :: x1 :: x2 :: x3 :: x4 :: zvi a :: L) st h = zev kX4_laysGoal 107 (x0 :: x1 :: x2 :: x3 :: x4 :: zvi a :: L) (zvi a :: st) h) ∧
  (∀ (j : Int) (q : Nat) (L st : List ZV) (h : PH), zev kX4_laysGoal 107 L (zvi j :: zvr (some q) :: st) h = if (ph_K h q).1 % 1000 = 1 ∧ 0 ≤ j ∧ j < (ph_K h q).2 then zev kX4_laysGoal 108 L (zvi (ph_I h q j) :: st) h else none) ∧
  (∀ (v0 v1 : ZV) (q : Nat) (L st : List ZV) (h : PH), zev kX4_laysGoal 108 L (v1 :: v0 :: zvr (some q) :: st) h = if (ph_K h q).1 % 1000 = 18 ∧ zcat st ≤ 8 then zk kX4_laysGoal 108 111 L st (mX4_comesNext [zvr (some q), v0, v1] h) else none) ∧
  (∀ (x0 x1 x2 x3 x4 : ZV) (a : Int) (L st : List ZV) (h : PH) (hx : zisL x4 = false) , zev kX4_laysGoal 111 (x0 :: x1 :: x2 :: x3 :: x4 :: zvi a :: L) st h = zev kX4_laysGoal 114 (x0 :: x1 :: x2 :: x3 :: x4 :: zvi (w32 (a + 1)) :: L) st h) ∧
  (∀ (L st : List ZV) (h : PH), zev kX4_laysGoal 114 L st h = zev kX4_laysGoal 88 L st h) ∧
  (∀ (x0 x1 : ZV) (a : Int) (L st : List ZV) (h : PH) (hx : zisL x1 = false) , zev kX4_laysGoal 117 (x0 :: x1 :: zvi a :: L) st h = zev kX4_laysGoal 120 (x0 :: x1 :: zvi (w32 (a + 1)) :: L) st h) ∧
  (∀ (L st : List ZV) (h : PH), zev kX4_laysGoal 120 L st h = zev kX4_laysGoal 6 L st h) ∧
  (∀ (L : List ZV) (h : PH), zev kX4_laysGoal 123 L [] h = zr0 h) :=
  ⟨fun a L st h => e_ld0R (n := 1) rfl,
  fun q L st h => e_callV1 (F := mX4_sorts) (kd := 18) (n := 4) rfl,
  fun L st h => e_push (v := zvi 0) (n := 5) rfl,
  fun x0 x1 x2 a L st h hx => e_st2I (n := 6) rfl hx,
  fun a L st h => e_ld0R (n := 8) rfl,
  fun q L st h => e_getI (kd := 18) (k := 28) (n := 11) rfl,
  fun a b L st h => e_cmpge (t := 123) (n := 14) rfl,
  fun a L st h => e_ld0R (n := 15) rfl,
  fun q L st h => e_getR (kd := 18) (k := 27) (n := 18) rfl,
  fun x0 x1 a L st h => e_ld2I (n := 19) rfl,
  fun j q L st h => e_ald (kd := 1) (n := 20) rfl,
  fun x0 x1 x2 x3 a L st h hx => e_st3I (n := 21) rfl hx,
  fun a L st h => e_ld0R (n := 22) rfl,
  fun q L st h => e_getR (kd := 18) (k := 6) (n := 25) rfl,
  fun x0 x1 x2 a L st h => e_ld3I (n := 26) rfl,
  fun L st h => e_push (v := zvi 2) (n := 27) rfl,
  fun v0 v1 L st h => e_callS2 (F := mX4_at) (n := 30) rfl,
  fun j q L st h => e_ald (kd := 1) (n := 31) rfl,
  fun x0 a L st h => e_ld1I (n := 32) rfl,
  fun a b L st h => e_cmpne (t := 39) (n := 35) rfl,
  fun L st h => e_push (v := zvi 1) (n := 36) rfl,
  fun L st h => e_goto (t := 40) rfl,
  fun L st h => e_push (v := zvi 0) (n := 40) rfl,
  fun x0 x1 x2 x3 x4 a L st h hx => e_st4I (n := 42) rfl hx,
  fun a L st h => e_ld0R (n := 43) rfl,
  fun q L st h => e_getR (kd := 18) (k := 23) (n := 46) rfl,
  fun x0 x1 x2 a L st h => e_ld3I (n := 47) rfl,
  fun x0 x1 x2 x3 a L st h => e_ld4I (n := 49) rfl,
  fun a L st h => e_ifeq (t := 60) (n := 52) rfl,
  fun a L st h => e_ld0R (n := 53) rfl,
  fun x0 x1 x2 a L st h => e_ld3I (n := 54) rfl,
  fun v0 q L st h => e_callV2 (F := mX4_arrivesAt) (kd := 18) (n := 57) rfl,
  fun L st h => e_goto (t := 63) rfl,
  fun L st h => e_push (v := zvi 9999) (n := 63) rfl,
  fun x j q L st h => e_ast (n := 64) rfl,
  fun a L st h => e_ld0R (n := 65) rfl,
  fun q L st h => e_getR (kd := 18) (k := 24) (n := 68) rfl,
  fun x0 x1 x2 a L st h => e_ld3I (n := 69) rfl,
  fun L st h => e_push (v := zvi 0) (n := 70) rfl,
  fun x j q L st h => e_ast (n := 71) rfl,
  fun a L st h => e_ld0R (n := 72) rfl,
  fun q L st h => e_getR (kd := 18) (k := 25) (n := 75) rfl,
  fun x0 x1 x2 a L st h => e_ld3I (n := 76) rfl,
  fun L st h => e_push (v := zvi 1) (n := 77) rfl,
  fun x j q L st h => e_ast (n := 78) rfl,
  fun a L st h => e_ld0R (n := 79) rfl,
  fun q L st h => e_getR (kd := 18) (k := 26) (n := 82) rfl,
  fun x0 x1 x2 a L st h => e_ld3I (n := 83) rfl,
  fun L st h => e_push (v := zvi (-1)) (n := 84) rfl,
  fun x j q L st h => e_ast (n := 85) rfl,
  fun L st h => e_push (v := zvi 0) (n := 86) rfl,
  fun x0 x1 x2 x3 x4 x5 a L st h hx => e_st5I (n := 88) rfl hx,
  fun x0 x1 a L st h => e_ld2I (n := 91) rfl,
  fun a b L st h => e_cmpge (t := 117) (n := 94) rfl,
  fun x0 x1 x2 x3 a L st h => e_ld4I (n := 96) rfl,
  fun a L st h => e_ifne (t := 117) (n := 99) rfl,
  fun a L st h => e_ld0R (n := 100) rfl,
  fun x0 x1 x2 a L st h => e_ld3I (n := 101) rfl,
  fun a L st h => e_ld0R (n := 102) rfl,
  fun q L st h => e_getR (kd := 18) (k := 27) (n := 105) rfl,
  fun x0 x1 x2 x3 x4 a L st h => e_ld5I (n := 107) rfl,
  fun j q L st h => e_ald (kd := 1) (n := 108) rfl,
  fun v0 v1 q L st h => e_callV3 (F := mX4_comesNext) (kd := 18) (n := 111) rfl,
  fun x0 x1 x2 x3 x4 a L st h hx => e_iinc5 (d := 1) (n := 114) rfl hx,
  fun L st h => e_goto (t := 88) rfl,
  fun x0 x1 a L st h hx => e_iinc2 (d := 1) (n := 120) rfl hx,
  fun L st h => e_goto (t := 6) rfl,
  fun L h => e_ret rfl⟩
theorem allX4_laysGoal : zall yX4_laysGoal cX4_laysGoal 6 none 6 kX4_laysGoal.1 :=
  ⟨k_aload_n dX4_laysGoal_0,
  k_callV (y2 := yX4_sorts) (C := RX4) (T0 := TX4) (ci := 2) dX4_laysGoal_1 sndX4_sorts rfl q2131 q2133 qs101 q137 q2134 (by decide +kernel) ⟨by decide, by decide⟩ (by decide) (by decide),
  k_iconst dX4_laysGoal_4,
  k_istore_n dX4_laysGoal_5,
  k_iload_n dX4_laysGoal_6,
  k_aload_n dX4_laysGoal_7,
  k_getI (C := RX4) (T := TX4) (N := 42) (ci := 2) (k := 28) (ref := "LinkTimesModel") dX4_laysGoal_8 rfl in_X4 (by decide) q1827 (Or.inl rfl) (fun _ _ _ => rfl),
  k_cmpge (t := 123) dX4_laysGoal_11 (by decide),
  k_aload_n dX4_laysGoal_14,
  k_getR (C := RX4) (T := TX4) (N := 42) (ci := 2) (k := 27) (ref := "LinkTimesModel") dX4_laysGoal_15 rfl in_X4 (by decide) q1826 (Or.inl rfl) (fun _ _ _ => rfl),
  k_iload_n dX4_laysGoal_18,
  k_iald dX4_laysGoal_19,
  k_istore_n dX4_laysGoal_20,
  k_aload_n dX4_laysGoal_21,
  k_getR (C := RX4) (T := TX4) (N := 42) (ci := 2) (k := 6) (ref := "LinkTimesModel") dX4_laysGoal_22 rfl in_X4 (by decide) q1805 (Or.inl rfl) (fun _ _ _ => rfl),
  k_iload_n dX4_laysGoal_25,
  k_iconst dX4_laysGoal_26,
  k_callS (y2 := yX4_at) dX4_laysGoal_27 sndX4_at q2047 q2048 q137 q2049 (by decide +kernel) ⟨by decide, by decide⟩ (by decide) (by decide),
  k_iald dX4_laysGoal_30,
  k_iload_n dX4_laysGoal_31,
  k_cmpne (t := 39) dX4_laysGoal_32 (by decide),
  k_iconst dX4_laysGoal_35,
  k_goto (t := 40) dX4_laysGoal_36 (by decide),
  k_iconst dX4_laysGoal_39,
  k_istore dX4_laysGoal_40,
  k_aload_n dX4_laysGoal_42,
  k_getR (C := RX4) (T := TX4) (N := 42) (ci := 2) (k := 23) (ref := "LinkTimesModel") dX4_laysGoal_43 rfl in_X4 (by decide) q1822 (Or.inl rfl) (fun _ _ _ => rfl),
  k_iload_n dX4_laysGoal_46,
  k_iload dX4_laysGoal_47,
  k_ifeq (t := 60) dX4_laysGoal_49 (by decide),
  k_aload_n dX4_laysGoal_52,
  k_iload_n dX4_laysGoal_53,
  k_callV (y2 := yX4_arrivesAt) (C := RX4) (T0 := TX4) (ci := 2) dX4_laysGoal_54 sndX4_arrivesAt rfl q2104 q2106 qs97 q137 q2107 (by decide +kernel) ⟨by decide, by decide⟩ (by decide) (by decide),
  k_goto (t := 63) dX4_laysGoal_57 (by decide),
  k_sipush dX4_laysGoal_60,
  k_iast dX4_laysGoal_63,
  k_aload_n dX4_laysGoal_64,
  k_getR (C := RX4) (T := TX4) (N := 42) (ci := 2) (k := 24) (ref := "LinkTimesModel") dX4_laysGoal_65 rfl in_X4 (by decide) q1823 (Or.inl rfl) (fun _ _ _ => rfl),
  k_iload_n dX4_laysGoal_68,
  k_iconst dX4_laysGoal_69,
  k_iast dX4_laysGoal_70,
  k_aload_n dX4_laysGoal_71,
  k_getR (C := RX4) (T := TX4) (N := 42) (ci := 2) (k := 25) (ref := "LinkTimesModel") dX4_laysGoal_72 rfl in_X4 (by decide) q1824 (Or.inl rfl) (fun _ _ _ => rfl),
  k_iload_n dX4_laysGoal_75,
  k_iconst dX4_laysGoal_76,
  k_iast dX4_laysGoal_77,
  k_aload_n dX4_laysGoal_78,
  k_getR (C := RX4) (T := TX4) (N := 42) (ci := 2) (k := 26) (ref := "LinkTimesModel") dX4_laysGoal_79 rfl in_X4 (by decide) q1825 (Or.inl rfl) (fun _ _ _ => rfl),
  k_iload_n dX4_laysGoal_82,
  k_iconst dX4_laysGoal_83,
  k_iast dX4_laysGoal_84,
  k_iconst dX4_laysGoal_85,
  k_istore dX4_laysGoal_86,
  k_iload dX4_laysGoal_88,
  k_iload_n dX4_laysGoal_90,
  k_cmpge (t := 117) dX4_laysGoal_91 (by decide),
  k_iload dX4_laysGoal_94,
  k_ifne (t := 117) dX4_laysGoal_96 (by decide),
  k_aload_n dX4_laysGoal_99,
  k_iload_n dX4_laysGoal_100,
  k_aload_n dX4_laysGoal_101,
  k_getR (C := RX4) (T := TX4) (N := 42) (ci := 2) (k := 27) (ref := "LinkTimesModel") dX4_laysGoal_102 rfl in_X4 (by decide) q1826 (Or.inl rfl) (fun _ _ _ => rfl),
  k_iload dX4_laysGoal_105,
  k_iald dX4_laysGoal_107,
  k_callV (y2 := yX4_comesNext) (C := RX4) (T0 := TX4) (ci := 2) dX4_laysGoal_108 sndX4_comesNext rfl q2135 q2137 qs102 q137 q2138 (by decide +kernel) ⟨by decide, by decide⟩ (by decide) (by decide),
  k_iinc dX4_laysGoal_111,
  k_goto (t := 88) dX4_laysGoal_114 (by decide),
  k_iinc dX4_laysGoal_117,
  k_goto (t := 6) dX4_laysGoal_120 (by decide),
  k_ret dX4_laysGoal_123, trivial⟩
theorem sndX4_laysGoal : MSound 6 yX4_laysGoal (ws_ yX4_laysGoal cX4_laysGoal 6 none) mX4_laysGoal := msound_M (by decide) allX4_laysGoal (fun _ _ => rfl)
/-! LinkTimesModel.isBetter(II)Z -/
noncomputable def kX4_isBetter : ZM := ([(0, zi_ld 1 0 1), (1, zi_getR 18 23 4), (4, zi_ld 0 2 5), (5, zi_ald 1 6), (6, zi_ld 1 0 7), (7, zi_getR 18 23 10), (10, zi_ld 0 1 11), (11, zi_ald 1 12), (12, zi_bin (fun a b => w32 (a - b)) 13), (13, zi_st 0 3 14), (14, zi_ld 0 3 15), (15, zi_if (fun a => zc_eq a 0) 22 18), (18, zi_ld 0 3 19), (19, zi_goto 35), (22, zi_ld 1 0 23), (23, zi_getR 18 24 26), (26, zi_ld 0 2 27), (27, zi_ald 1 28), (28, zi_ld 1 0 29), (29, zi_getR 18 24 32), (32, zi_ld 0 1 33), (33, zi_ald 1 34), (34, zi_bin (fun a b => w32 (a - b)) 35), (35, zi_st 0 3 36), (36, zi_ld 0 3 37), (37, zi_if (fun a => zc_eq a 0) 44 40), (40, zi_ld 0 3 41), (41, zi_goto 55), (44, zi_ld 1 0 45), (45, zi_ld 0 1 46), (46, zi_callV mX4_leavesAt 18 2 49), (49, zi_ld 1 0 50), (50, zi_ld 0 2 51), (51, zi_callV mX4_leavesAt 18 2 54), (54, zi_bin (fun a b => w32 (a - b)) 55), (55, zi_st 0 3 56), (56, zi_ld 0 3 57), (57, zi_if (fun a => zc_eq a 0) 64 60), (60, zi_ld 0 3 61), (61, zi_goto 77), (64, zi_ld 1 0 65), (65, zi_getR 18 25 68), (68, zi_ld 0 2 69), (69, zi_ald 1 70), (70, zi_ld 1 0 71), (71, zi_getR 18 25 74), (74, zi_ld 0 1 75), (75, zi_ald 1 76), (76, zi_bin (fun a b => w32 (a - b)) 77), (77, zi_st 0 3 78), (78, zi_ld 0 3 79), (79, zi_if (fun a => zc_eq a 0) 94 82), (82, zi_ld 0 3 83), (83, zi_if (fun a => zc_le a 0) 90 86), (86, zi_push (zvi 1) 87), (87, zi_goto 100), (90, zi_push (zvi 0) 91), (91, zi_goto 100), (94, zi_ld 1 0 95), (95, zi_ld 0 1 96), (96, zi_ld 0 2 97), (97, zi_callV mX4_isLessRow 18 3 100), (100, zi_retz)], fun _ _ => none)
noncomputable def mX4_isBetter : ZF := zrunM kX4_isBetter 4
theorem enX4_isBetter (x0 : Option Nat) (x1 : Int) (x2 : Int) (h : PH) : mX4_isBetter [zvr x0, zvi x1, zvi x2] h = zev kX4_isBetter 0 [zvr x0, zvi x1, zvi x2, zvu] [] h := zrunM_eq rfl rfl
theorem rX4_isBetter : (∀ (a : Option Nat) (L st : List ZV) (h : PH), zev kX4_isBetter 0 (zvr a :: L) st h = zev kX4_isBetter 1 (zvr a :: L) (zvr a :: st) h) ∧
  (∀ (q : Nat) (L st : List ZV) (h : PH), zev kX4_isBetter 1 L (zvr (some q) :: st) h = if (ph_K h q).1 % 1000 = 18 then zev kX4_isBetter 4 L (zvr (ph_R h q 23) :: st) h else none) ∧
  (∀ (x0 x1 : ZV) (a : Int) (L st : List ZV) (h : PH), zev kX4_isBetter 4 (x0 :: x1 :: zvi a :: L) st h = zev kX4_isBetter 5 (x0 :: x1 :: zvi a :: L) (zvi a :: st) h) ∧
  (∀ (j : Int) (q : Nat) (L st : List ZV) (h : PH), zev kX4_isBetter 5 L (zvi j :: zvr (some q) :: st) h = if (ph_K h q).1 % 1000 = 1 ∧ 0 ≤ j ∧ j < (ph_K h q).2 then zev kX4_isBetter 6 L (zvi (ph_I h q j) :: st) h else none) ∧
  (∀ (a : Option Nat) (L st : List ZV) (h : PH), zev kX4_isBetter 6 (zvr a :: L) st h = zev kX4_isBetter 7 (zvr a :: L) (zvr a :: st) h) ∧
  (∀ (q : Nat) (L st : List ZV) (h : PH), zev kX4_isBetter 7 L (zvr (some q) :: st) h = if (ph_K h q).1 % 1000 = 18 then zev kX4_isBetter 10 L (zvr (ph_R h q 23) :: st) h else none) ∧
  (∀ (x0 : ZV) (a : Int) (L st : List ZV) (h : PH), zev kX4_isBetter 10 (x0 :: zvi a :: L) st h = zev kX4_isBetter 11 (x0 :: zvi a :: L) (zvi a :: st) h) ∧
  (∀ (j : Int) (q : Nat) (L st : List ZV) (h : PH), zev kX4_isBetter 11 L (zvi j :: zvr (some q) :: st) h = if (ph_K h q).1 % 1000 = 1 ∧ 0 ≤ j ∧ j < (ph_K h q).2 then zev kX4_isBetter 12 L (zvi (ph_I h q j) :: st) h else none) ∧
  (∀ (a b : Int) (L st : List ZV) (h : PH), zev kX4_isBetter 12 L (zvi b :: zvi a :: st) h = zev kX4_isBetter 13 L (zvi (w32 (a - b)) :: st) h) ∧
  (∀ (x0 x1 x2 x3 : ZV) (a : Int) (L st : List ZV) (h : PH) (hx : zisL x2 = false) , zev kX4_isBetter 13 (x0 :: x1 :: x2 :: x3 :: L) (zvi a :: st) h = zev kX4_isBetter 14 (x0 :: x1 :: x2 :: zvi a :: L) st h) ∧
  (∀ (x0 x1 x2 : ZV) (a : Int) (L st : List ZV) (h : PH), zev kX4_isBetter 14 (x0 :: x1 :: x2 :: zvi a :: L) st h = zev kX4_isBetter 15 (x0 :: x1 :: x2 :: zvi a :: L) (zvi a :: st) h) ∧
  (∀ (a : Int) (L st : List ZV) (h : PH), zev kX4_isBetter 15 L (zvi a :: st) h = if a = 0 then zev kX4_isBetter 22 L st h else zev kX4_isBetter 18 L st h) ∧
  (∀ (x0 x1 x2 : ZV) (a : Int) (L st : List ZV) (h : PH), zev kX4_isBetter 18 (x0 :: x1 :: x2 :: zvi a :: L) st h = zev kX4_isBetter 19 (x0 :: x1 :: x2 :: zvi a :: L) (zvi a :: st) h) ∧
  (∀ (L st : List ZV) (h : PH), zev kX4_isBetter 19 L st h = zev kX4_isBetter 35 L st h) ∧
  (∀ (a : Option Nat) (L st : List ZV) (h : PH), zev kX4_isBetter 22 (zvr a :: L) st h = zev kX4_isBetter 23 (zvr a :: L) (zvr a :: st) h) ∧
  (∀ (q : Nat) (L st : List ZV) (h : PH), zev kX4_isBetter 23 L (zvr (some q) :: st) h = if (ph_K h q).1 % 1000 = 18 then zev kX4_isBetter 26 L (zvr (ph_R h q 24) :: st) h else none) ∧
  (∀ (x0 x1 : ZV) (a : Int) (L st : List ZV) (h : PH), zev kX4_isBetter 26 (x0 :: x1 :: zvi a :: L) st h = zev kX4_isBetter 27 (x0 :: x1 :: zvi a :: L) (zvi a :: st) h) ∧
  (∀ (j : Int) (q : Nat) (L st : List ZV) (h : PH), zev kX4_isBetter 27 L (zvi j :: zvr (some q) :: st) h = if (ph_K h q).1 % 1000 = 1 ∧ 0 ≤ j ∧ j < (ph_K h q).2 then zev kX4_isBetter 28 L (zvi (ph_I h q j) :: st) h else none) ∧
  (∀ (a : Option Nat) (L st : List ZV) (h : PH), zev kX4_isBetter 28 (zvr a :: L) st h = zev kX4_isBetter 29 (zvr a :: L) (zvr a :: st) h) ∧
  (∀ (q : Nat) (L st : List ZV) (h : PH), zev kX4_isBetter 29 L (zvr (some q) :: st) h = if (ph_K h q).1 % 1000 = 18 then zev kX4_isBetter 32 L (zvr (ph_R h q 24) :: st) h else none) ∧
  (∀ (x0 : ZV) (a : Int) (L st : List ZV) (h : PH), zev kX4_isBetter 32 (x0 :: zvi a :: L) st h = zev kX4_isBetter 33 (x0 :: zvi a :: L) (zvi a :: st) h) ∧
  (∀ (j : Int) (q : Nat) (L st : List ZV) (h : PH), zev kX4_isBetter 33 L (zvi j :: zvr (some q) :: st) h = if (ph_K h q).1 % 1000 = 1 ∧ 0 ≤ j ∧ j < (ph_K h q).2 then zev kX4_isBetter 34 L (zvi (ph_I h q j) :: st) h else none) ∧
  (∀ (a b : Int) (L st : List ZV) (h : PH), zev kX4_isBetter 34 L (zvi b :: zvi a :: st) h = zev kX4_isBetter 35 L (zvi (w32 (a - b)) :: st) h) ∧
  (∀ (x0 x1 x2 x3 : ZV) (a : Int) (L st : List ZV) (h : PH) (hx : zisL x2 = false) , zev kX4_isBetter 35 (x0 :: x1 :: x2 :: x3 :: L) (zvi a :: st) h = zev kX4_isBetter 36 (x0 :: x1 :: x2 :: zvi a :: L) st h) ∧
  (∀ (x0 x1 x2 : ZV) (a : Int) (L st : List ZV) (h : PH), zev kX4_isBetter 36 (x0 :: x1 :: x2 :: zvi a :: L) st h = zev kX4_isBetter 37 (x0 :: x1 :: x2 :: zvi a :: L) (zvi a :: st) h) ∧
  (∀ (a : Int) (L st : List ZV) (h : PH), zev kX4_isBetter 37 L (zvi a :: st) h = if a = 0 then zev kX4_isBetter 44 L st h else zev kX4_isBetter 40 L st h) ∧
  (∀ (x0 x1 x2 : ZV) (a : Int) (L st : List ZV) (h : PH), zev kX4_isBetter 40 (x0 :: x1 :: x2 :: zvi a :: L) st h = zev kX4_isBetter 41 (x0 :: x1 :: x2 :: zvi a :: L) (zvi a :: st) h) ∧
  (∀ (L st : List ZV) (h : PH), zev kX4_isBetter 41 L st h = zev kX4_isBetter 55 L st h) ∧
  (∀ (a : Option Nat) (L st : List ZV) (h : PH), zev kX4_isBetter 44 (zvr a :: L) st h = zev kX4_isBetter 45 (zvr a :: L) (zvr a :: st) h) ∧
  (∀ (x0 : ZV) (a : Int) (L st : List ZV) (h : PH), zev kX4_isBetter 45 (x0 :: zvi a :: L) st h = zev kX4_isBetter 46 (x0 :: zvi a :: L) (zvi a :: st) h) ∧
  (∀ (v0 : ZV) (q : Nat) (L st : List ZV) (h : PH), zev kX4_isBetter 46 L (v0 :: zvr (some q) :: st) h = if (ph_K h q).1 % 1000 = 18 ∧ zcat st ≤ 8 then zk kX4_isBetter 46 49 L st (mX4_leavesAt [zvr (some q), v0] h) else none) ∧
  (∀ (a : Option Nat) (L st : List ZV) (h : PH), zev kX4_isBetter 49 (zvr a :: L) st h = zev kX4_isBetter 50 (zvr a :: L) (zvr a :: st) h) ∧
  (∀ (x0 x1 : ZV) (a : Int) (L st : List ZV) (h : PH), zev kX4_isBetter 50 (x0 :: x1 :: zvi a :: L) st h = zev kX4_isBetter 51 (x0 :: x1 :: zvi a :: L) (zvi a :: st) h) ∧
  (∀ (v0 : ZV) (q : Nat) (L st : List ZV) (h : PH), zev kX4_isBetter 51 L (v0 :: zvr (some q) :: st) h = if (ph_K h q).1 % 1000 = 18 ∧ zcat st ≤ 8 then zk kX4_isBetter 51 54 L st (mX4_leavesAt [zvr (some q), v0] h) else none) ∧
  (∀ (a b : Int) (L st : List ZV) (h : PH), zev kX4_isBetter 54 L (zvi b :: zvi a :: st) h = zev kX4_isBetter 55 L (zvi (w32 (a - b)) :: st) h) ∧
  (∀ (x0 x1 x2 x3 : ZV) (a : Int) (L st : List ZV) (h : PH) (hx : zisL x2 = false) , zev kX4_isBetter 55 (x0 :: x1 :: x2 :: x3 :: L) (zvi a :: st) h = zev kX4_isBetter 56 (x0 :: x1 :: x2 :: zvi a :: L) st h) ∧
  (∀ (x0 x1 x2 : ZV) (a : Int) (L st : List ZV) (h : PH), zev kX4_isBetter 56 (x0 :: x1 :: x2 :: zvi a :: L) st h = zev kX4_isBetter 57 (x0 :: x1 :: x2 :: zvi a :: L) (zvi a :: st) h) ∧
  (∀ (a : Int) (L st : List ZV) (h : PH), zev kX4_isBetter 57 L (zvi a :: st) h = if a = 0 then zev kX4_isBetter 64 L st h else zev kX4_isBetter 60 L st h) ∧
  (∀ (x0 x1 x2 : ZV) (a : Int) (L st : List ZV) (h : PH), zev kX4_isBetter 60 (x0 :: x1 :: x2 :: zvi a :: L) st h = zev kX4_isBetter 61 (x0 :: x1 :: x2 :: zvi a :: L) (zvi a :: st) h) ∧
  (∀ (L st : List ZV) (h : PH), zev kX4_isBetter 61 L st h = zev kX4_isBetter 77 L st h) ∧
  (∀ (a : Option Nat) (L st : List ZV) (h : PH), zev kX4_isBetter 64 (zvr a :: L) st h = zev kX4_isBetter 65 (zvr a :: L) (zvr a :: st) h) ∧
  (∀ (q : Nat) (L st : List ZV) (h : PH), zev kX4_isBetter 65 L (zvr (some q) :: st) h = if (ph_K h q).1 % 1000 = 18 then zev kX4_isBetter 68 L (zvr (ph_R h q 25) :: st) h else none) ∧
  (∀ (x0 x1 : ZV) (a : Int) (L st : List ZV) (h : PH), zev kX4_isBetter 68 (x0 :: x1 :: zvi a :: L) st h = zev kX4_isBetter 69 (x0 :: x1 :: zvi a :: L) (zvi a :: st) h) ∧
  (∀ (j : Int) (q : Nat) (L st : List ZV) (h : PH), zev kX4_isBetter 69 L (zvi j :: zvr (some q) :: st) h = if (ph_K h q).1 % 1000 = 1 ∧ 0 ≤ j ∧ j < (ph_K h q).2 then zev kX4_isBetter 70 L (zvi (ph_I h q j) :: st) h else none) ∧
  (∀ (a : Option Nat) (L st : List ZV) (h : PH), zev kX4_isBetter 70 (zvr a :: L) st h = zev kX4_isBetter 71 (zvr a :: L) (zvr a :: st) h) ∧
  (∀ (q : Nat) (L st : List ZV) (h : PH), zev kX4_isBetter 71 L (zvr (some q) :: st) h = if (ph_K h q).1 % 1000 = 18 then zev kX4_isBetter 74 L (zvr (ph_R h q 25) :: st) h else none) ∧
  (∀ (x0 : ZV) (a : Int) (L st : List ZV) (h : PH), zev kX4_isBetter 74 (x0 :: zvi a :: L) st h = zev kX4_isBetter 75 (x0 :: zvi a :: L) (zvi a :: st) h) ∧
  (∀ (j : Int) (q : Nat) (L st : List ZV) (h : PH), zev kX4_isBetter 75 L (zvi j :: zvr (some q) :: st) h = if (ph_K h q).1 % 1000 = 1 ∧ 0 ≤ j ∧ j < (ph_K h q).2 then zev kX4_isBetter 76 L (zvi (ph_I h q j) :: st) h else none) ∧
  (∀ (a b : Int) (L st : List ZV) (h : PH), zev kX4_isBetter 76 L (zvi b :: zvi a :: st) h = zev kX4_isBetter 77 L (zvi (w32 (a - b)) :: st) h) ∧
  (∀ (x0 x1 x2 x3 : ZV) (a : Int) (L st : List ZV) (h : PH) (hx : zisL x2 = false) , zev kX4_isBetter 77 (x0 :: x1 :: x2 :: x3 :: L) (zvi a :: st) h = zev kX4_isBetter 78 (x0 :: x1 :: x2 :: zvi a :: L) st h) ∧
  (∀ (x0 x1 x2 : ZV) (a : Int) (L st : List ZV) (h : PH), zev kX4_isBetter 78 (x0 :: x1 :: x2 :: zvi a :: L) st h = zev kX4_isBetter 79 (x0 :: x1 :: x2 :: zvi a :: L) (zvi a :: st) h) ∧
  (∀ (a : Int) (L st : List ZV) (h : PH), zev kX4_isBetter 79 L (zvi a :: st) h = if a = 0 then zev kX4_isBetter 94 L st h else zev kX4_isBetter 82 L st h) ∧
  (∀ (x0 x1 x2 : ZV) (a : Int) (L st : List ZV) (h : PH), zev kX4_isBetter 82 (x0 :: x1 :: x2 :: zvi a :: L) st h = zev kX4_isBetter 83 (x0 :: x1 :: x2 :: zvi a :: L) (zvi a :: st) h) ∧
  (∀ (a : Int) (L st : List ZV) (h : PH), zev kX4_isBetter 83 L (zvi a :: st) h = if a ≤ 0 then zev kX4_isBetter 90 L st h else zev kX4_isBetter 86 L st h) ∧
  (∀ (L st : List ZV) (h : PH), zev kX4_isBetter 86 L st h = zev kX4_isBetter 87 L (zvi 1 :: st) h) ∧
  (∀ (L st : List ZV) (h : PH), zev kX4_isBetter 87 L st h = zev kX4_isBetter 100 L st h) ∧
  (∀ (L st : List ZV) (h : PH), zev kX4_isBetter 90 L st h = zev kX4_isBetter 91 L (zvi 0 :: st) h) ∧
  (∀ (L st : List ZV) (h : PH), zev kX4_isBetter 91 L st h = zev kX4_isBetter 100 L st h) ∧
  (∀ (a : Option Nat) (L st : List ZV) (h : PH), zev kX4_isBetter 94 (zvr a :: L) st h = zev kX4_isBetter 95 (zvr a :: L) (zvr a :: st) h) ∧
  (∀ (x0 : ZV) (a : Int) (L st : List ZV) (h : PH), zev kX4_isBetter 95 (x0 :: zvi a :: L) st h = zev kX4_isBetter 96 (x0 :: zvi a :: L) (zvi a :: st) h) ∧
  (∀ (x0 x1 : ZV) (a : Int) (L st : List ZV) (h : PH), zev kX4_isBetter 96 (x0 :: x1 :: zvi a :: L) st h = zev kX4_isBetter 97 (x0 :: x1 :: zvi a :: L) (zvi a :: st) h) ∧
  (∀ (v0 v1 : ZV) (q : Nat) (L st : List ZV) (h : PH), zev kX4_isBetter 97 L (v1 :: v0 :: zvr (some q) :: st) h = if (ph_K h q).1 % 1000 = 18 ∧ zcat st ≤ 8 then zk kX4_isBetter 97 100 L st (mX4_isLessRow [zvr (some q), v0, v1] h) else none) ∧
  (∀ (a : Int) (L : List ZV) (h : PH), zev kX4_isBetter 100 L [zvi a] h = if a = 0 ∨ a = 1 then zrv (zvi a) h else none) :=
  ⟨fun a L st h => e_ld0R (n := 1) rfl,
  fun q L st h => e_getR (kd := 18) (k := 23) (n := 4) rfl,
  fun x0 x1 a L st h => e_ld2I (n := 5) rfl,
  fun j q L st h => e_ald (kd := 1) (n := 6) rfl,
  fun a L st h => e_ld0R (n := 7) rfl,
  fun q L st h => e_getR (kd := 18) (k := 23) (n := 10) rfl,
  fun x0 a L st h => e_ld1I (n := 11) rfl,
  fun j q L st h => e_ald (kd := 1) (n := 12) rfl,
  fun a b L st h => e_bin (f := (fun a b => w32 (a - b))) (n := 13) rfl,
  fun x0 x1 x2 x3 a L st h hx => e_st3I (n := 14) rfl hx,
  fun x0 x1 x2 a L st h => e_ld3I (n := 15) rfl,
  fun a L st h => e_ifeq (t := 22) (n := 18) rfl,
  fun x0 x1 x2 a L st h => e_ld3I (n := 19) rfl,
  fun L st h => e_goto (t := 35) rfl,
  fun a L st h => e_ld0R (n := 23) rfl,
  fun q L st h => e_getR (kd := 18) (k := 24) (n := 26) rfl,
  fun x0 x1 a L st h => e_ld2I (n := 27) rfl,
  fun j q L st h => e_ald (kd := 1) (n := 28) rfl,
  fun a L st h => e_ld0R (n := 29) rfl,
  fun q L st h => e_getR (kd := 18) (k := 24) (n := 32) rfl,
  fun x0 a L st h => e_ld1I (n := 33) rfl,
  fun j q L st h => e_ald (kd := 1) (n := 34) rfl,
  fun a b L st h => e_bin (f := (fun a b => w32 (a - b))) (n := 35) rfl,
  fun x0 x1 x2 x3 a L st h hx => e_st3I (n := 36) rfl hx,
  fun x0 x1 x2 a L st h => e_ld3I (n := 37) rfl,
  fun a L st h => e_ifeq (t := 44) (n := 40) rfl,
  fun x0 x1 x2 a L st h => e_ld3I (n := 41) rfl,
  fun L st h => e_goto (t := 55) rfl,
  fun a L st h => e_ld0R (n := 45) rfl,
  fun x0 a L st h => e_ld1I (n := 46) rfl,
  fun v0 q L st h => e_callV2 (F := mX4_leavesAt) (kd := 18) (n := 49) rfl,
  fun a L st h => e_ld0R (n := 50) rfl,
  fun x0 x1 a L st h => e_ld2I (n := 51) rfl,
  fun v0 q L st h => e_callV2 (F := mX4_leavesAt) (kd := 18) (n := 54) rfl,
  fun a b L st h => e_bin (f := (fun a b => w32 (a - b))) (n := 55) rfl,
  fun x0 x1 x2 x3 a L st h hx => e_st3I (n := 56) rfl hx,
  fun x0 x1 x2 a L st h => e_ld3I (n := 57) rfl,
  fun a L st h => e_ifeq (t := 64) (n := 60) rfl,
  fun x0 x1 x2 a L st h => e_ld3I (n := 61) rfl,
  fun L st h => e_goto (t := 77) rfl,
  fun a L st h => e_ld0R (n := 65) rfl,
  fun q L st h => e_getR (kd := 18) (k := 25) (n := 68) rfl,
  fun x0 x1 a L st h => e_ld2I (n := 69) rfl,
  fun j q L st h => e_ald (kd := 1) (n := 70) rfl,
  fun a L st h => e_ld0R (n := 71) rfl,
  fun q L st h => e_getR (kd := 18) (k := 25) (n := 74) rfl,
  fun x0 a L st h => e_ld1I (n := 75) rfl,
  fun j q L st h => e_ald (kd := 1) (n := 76) rfl,
  fun a b L st h => e_bin (f := (fun a b => w32 (a - b))) (n := 77) rfl,
  fun x0 x1 x2 x3 a L st h hx => e_st3I (n := 78) rfl hx,
  fun x0 x1 x2 a L st h => e_ld3I (n := 79) rfl,
  fun a L st h => e_ifeq (t := 94) (n := 82) rfl,
  fun x0 x1 x2 a L st h => e_ld3I (n := 83) rfl,
  fun a L st h => e_ifle (t := 90) (n := 86) rfl,
  fun L st h => e_push (v := zvi 1) (n := 87) rfl,
  fun L st h => e_goto (t := 100) rfl,
  fun L st h => e_push (v := zvi 0) (n := 91) rfl,
  fun L st h => e_goto (t := 100) rfl,
  fun a L st h => e_ld0R (n := 95) rfl,
  fun x0 a L st h => e_ld1I (n := 96) rfl,
  fun x0 x1 a L st h => e_ld2I (n := 97) rfl,
  fun v0 v1 q L st h => e_callV3 (F := mX4_isLessRow) (kd := 18) (n := 100) rfl,
  fun a L h => e_retz rfl⟩
theorem allX4_isBetter : zall yX4_isBetter cX4_isBetter 4 (some .boolean) 3 kX4_isBetter.1 :=
  ⟨k_aload_n dX4_isBetter_0,
  k_getR (C := RX4) (T := TX4) (N := 42) (ci := 2) (k := 23) (ref := "LinkTimesModel") dX4_isBetter_1 rfl in_X4 (by decide) q1822 (Or.inl rfl) (fun _ _ _ => rfl),
  k_iload_n dX4_isBetter_4,
  k_iald dX4_isBetter_5,
  k_aload_n dX4_isBetter_6,
  k_getR (C := RX4) (T := TX4) (N := 42) (ci := 2) (k := 23) (ref := "LinkTimesModel") dX4_isBetter_7 rfl in_X4 (by decide) q1822 (Or.inl rfl) (fun _ _ _ => rfl),
  k_iload_n dX4_isBetter_10,
  k_iald dX4_isBetter_11,
  k_isub dX4_isBetter_12,
  k_istore_n dX4_isBetter_13,
  k_iload_n dX4_isBetter_14,
  k_ifeq (t := 22) dX4_isBetter_15 (by decide),
  k_iload_n dX4_isBetter_18,
  k_goto (t := 35) dX4_isBetter_19 (by decide),
  k_aload_n dX4_isBetter_22,
  k_getR (C := RX4) (T := TX4) (N := 42) (ci := 2) (k := 24) (ref := "LinkTimesModel") dX4_isBetter_23 rfl in_X4 (by decide) q1823 (Or.inl rfl) (fun _ _ _ => rfl),
  k_iload_n dX4_isBetter_26,
  k_iald dX4_isBetter_27,
  k_aload_n dX4_isBetter_28,
  k_getR (C := RX4) (T := TX4) (N := 42) (ci := 2) (k := 24) (ref := "LinkTimesModel") dX4_isBetter_29 rfl in_X4 (by decide) q1823 (Or.inl rfl) (fun _ _ _ => rfl),
  k_iload_n dX4_isBetter_32,
  k_iald dX4_isBetter_33,
  k_isub dX4_isBetter_34,
  k_istore_n dX4_isBetter_35,
  k_iload_n dX4_isBetter_36,
  k_ifeq (t := 44) dX4_isBetter_37 (by decide),
  k_iload_n dX4_isBetter_40,
  k_goto (t := 55) dX4_isBetter_41 (by decide),
  k_aload_n dX4_isBetter_44,
  k_iload_n dX4_isBetter_45,
  k_callV (y2 := yX4_leavesAt) (C := RX4) (T0 := TX4) (ci := 2) dX4_isBetter_46 sndX4_leavesAt rfl q2100 q2102 qs96 q137 q2103 (by decide +kernel) ⟨by decide, by decide⟩ (by decide) (by decide),
  k_aload_n dX4_isBetter_49,
  k_iload_n dX4_isBetter_50,
  k_callV (y2 := yX4_leavesAt) (C := RX4) (T0 := TX4) (ci := 2) dX4_isBetter_51 sndX4_leavesAt rfl q2100 q2102 qs96 q137 q2103 (by decide +kernel) ⟨by decide, by decide⟩ (by decide) (by decide),
  k_isub dX4_isBetter_54,
  k_istore_n dX4_isBetter_55,
  k_iload_n dX4_isBetter_56,
  k_ifeq (t := 64) dX4_isBetter_57 (by decide),
  k_iload_n dX4_isBetter_60,
  k_goto (t := 77) dX4_isBetter_61 (by decide),
  k_aload_n dX4_isBetter_64,
  k_getR (C := RX4) (T := TX4) (N := 42) (ci := 2) (k := 25) (ref := "LinkTimesModel") dX4_isBetter_65 rfl in_X4 (by decide) q1824 (Or.inl rfl) (fun _ _ _ => rfl),
  k_iload_n dX4_isBetter_68,
  k_iald dX4_isBetter_69,
  k_aload_n dX4_isBetter_70,
  k_getR (C := RX4) (T := TX4) (N := 42) (ci := 2) (k := 25) (ref := "LinkTimesModel") dX4_isBetter_71 rfl in_X4 (by decide) q1824 (Or.inl rfl) (fun _ _ _ => rfl),
  k_iload_n dX4_isBetter_74,
  k_iald dX4_isBetter_75,
  k_isub dX4_isBetter_76,
  k_istore_n dX4_isBetter_77,
  k_iload_n dX4_isBetter_78,
  k_ifeq (t := 94) dX4_isBetter_79 (by decide),
  k_iload_n dX4_isBetter_82,
  k_ifle (t := 90) dX4_isBetter_83 (by decide),
  k_iconst dX4_isBetter_86,
  k_goto (t := 100) dX4_isBetter_87 (by decide),
  k_iconst dX4_isBetter_90,
  k_goto (t := 100) dX4_isBetter_91 (by decide),
  k_aload_n dX4_isBetter_94,
  k_iload_n dX4_isBetter_95,
  k_iload_n dX4_isBetter_96,
  k_callV (y2 := yX4_isLessRow) (C := RX4) (T0 := TX4) (ci := 2) dX4_isBetter_97 sndX4_isLessRow rfl q2147 q2149 qs105 q137 q2150 (by decide +kernel) ⟨by decide, by decide⟩ (by decide) (by decide),
  k_zret dX4_isBetter_100, trivial⟩
theorem sndX4_isBetter : MSound 3 yX4_isBetter (ws_ yX4_isBetter cX4_isBetter 4 (some .boolean)) mX4_isBetter := msound_M (by decide) allX4_isBetter (fun _ _ => rfl)
/-! LinkTimesModel.firstOf(II)I -/
noncomputable def kX4_firstOf : ZM := ([(0, zi_push (zvi (-1)) 1), (1, zi_st 0 3 2), (2, zi_push (zvi 0) 3), (3, zi_st 0 4 5), (5, zi_ld 0 4 7), (7, zi_ld 1 0 8), (8, zi_getR 18 6 11), (11, zi_push (zvi 4) 12), (12, zi_ald 1 13), (13, zi_cmp zc_ge 94 16), (16, zi_ld 1 0 17), (17, zi_ld 0 4 19), (19, zi_callV mX4_runs 18 2 22), (22, zi_if (fun a => zc_eq a 0) 88 25), (25, zi_ld 1 0 26), (26, zi_getR 18 6 29), (29, zi_ld 0 4 31), (31, zi_push (zvi 1) 32), (32, zi_callS mX4_at 2 35), (35, zi_ald 1 36), (36, zi_ld 0 1 37), (37, zi_cmp zc_ne 88 40), (40, zi_ld 1 0 41), (41, zi_ld 0 4 43), (43, zi_callV mX4_leavesAt 18 2 46), (46, zi_ld 0 2 47), (47, zi_cmp zc_lt 88 50), (50, zi_ld 1 0 51), (51, zi_getR 18 23 54), (54, zi_ld 0 4 56), (56, zi_ald 1 57), (57, zi_push (zvi 9999) 60), (60, zi_cmp zc_ne 66 63), (63, zi_goto 88), (66, zi_ld 0 3 67), (67, zi_push (zvi (-1)) 68), (68, zi_cmp zc_eq 81 71), (71, zi_ld 1 0 72), (72, zi_ld 0 4 74), (74, zi_ld 0 3 75), (75, zi_callV mX4_isBetter 18 3 78), (78, zi_if (fun a => zc_eq a 0) 86 81), (81, zi_ld 0 4 83), (83, zi_goto 87), (86, zi_ld 0 3 87), (87, zi_st 0 3 88), (88, zi_iinc 4 1 91), (91, zi_goto 5), (94, zi_ld 0 3 95), (95, zi_retv 0)], fun _ _ => none)
noncomputable def mX4_firstOf : ZF := zrunM kX4_firstOf 5
theorem enX4_firstOf (x0 : Option Nat) (x1 : Int) (x2 : Int) (h : PH) : mX4_firstOf [zvr x0, zvi x1, zvi x2] h = zev kX4_firstOf 0 [zvr x0, zvi x1, zvi x2, zvu, zvu] [] h := zrunM_eq rfl rfl
theorem hdX4_firstOf_5 (x0 x1 x2 x3 : ZV) (a : Int) (L st : List ZV) (h : PH) : zev kX4_firstOf 5 (x0 :: x1 :: x2 :: x3 :: zvi a :: L) st h = zev kX4_firstOf 7 (x0 :: x1 :: x2 :: x3 :: zvi a :: L) (zvi a :: st) h := e_ld4I (n := 7) rfl
theorem rX4_firstOf : (∀ (L st : List ZV) (h : PH), zev kX4_firstOf 0 L st h = zev kX4_firstOf 1 L (zvi (-1) :: st) h) ∧
  (∀ (x0 x1 x2 x3 : ZV) (a : Int) (L st : List ZV) (h : PH) (hx : zisL x2 = false) , zev kX4_firstOf 1 (x0 :: x1 :: x2 :: x3 :: L) (zvi a :: st) h = zev kX4_firstOf 2 (x0 :: x1 :: x2 :: zvi a :: L) st h) ∧
  (∀ (L st : List ZV) (h : PH), zev kX4_firstOf 2 L st h = zev kX4_firstOf 3 L (zvi 0 :: st) h) ∧
  (∀ (x0 x1 x2 x3 x4 : ZV) (a : Int) (L st : List ZV) (h : PH) (hx : zisL x3 = false) , zev kX4_firstOf 3 (x0 :: x1 :: x2 :: x3 :: x4 :: L) (zvi a :: st) h = zev kX4_firstOf 5 (x0 :: x1 :: x2 :: x3 :: zvi a :: L) st h) ∧
  (∀ (a : Option Nat) (L st : List ZV) (h : PH), zev kX4_firstOf 7 (zvr a :: L) st h = zev kX4_firstOf 8 (zvr a :: L) (zvr a :: st) h) ∧
  (∀ (q : Nat) (L st : List ZV) (h : PH), zev kX4_firstOf 8 L (zvr (some q) :: st) h = if (ph_K h q).1 % 1000 = 18 then zev kX4_firstOf 11 L (zvr (ph_R h q 6) :: st) h else none) ∧
  (∀ (L st : List ZV) (h : PH), zev kX4_firstOf 11 L st h = zev kX4_firstOf 12 L (zvi 4 :: st) h) ∧
  (∀ (j : Int) (q : Nat) (L st : List ZV) (h : PH), zev kX4_firstOf 12 L (zvi j :: zvr (some q) :: st) h = if (ph_K h q).1 % 1000 = 1 ∧ 0 ≤ j ∧ j < (ph_K h q).2 then zev kX4_firstOf 13 L (zvi (ph_I h q j) :: st) h else none) ∧
  (∀ (a b : Int) (L st : List ZV) (h : PH), zev kX4_firstOf 13 L (zvi b :: zvi a :: st) h = if a ≥ b then zev kX4_firstOf 94 L st h else zev kX4_firstOf 16 L st h) ∧
  (∀ (a : Option Nat) (L st : List ZV) (h : PH), zev kX4_firstOf 16 (zvr a :: L) st h = zev kX4_firstOf 17 (zvr a :: L) (zvr a :: st) h) ∧
  (∀ (x0 x1 x2 x3 : ZV) (a : Int) (L st : List ZV) (h : PH), zev kX4_firstOf 17 (x0 :: x1 :: x2 :: x3 :: zvi a :: L) st h = zev kX4_firstOf 19 (x0 :: x1 :: x2 :: x3 :: zvi a :: L) (zvi a :: st) h) ∧
  (∀ (v0 : ZV) (q : Nat) (L st : List ZV) (h : PH), zev kX4_firstOf 19 L (v0 :: zvr (some q) :: st) h = if (ph_K h q).1 % 1000 = 18 ∧ zcat st ≤ 8 then zk kX4_firstOf 19 22 L st (mX4_runs [zvr (some q), v0] h) else none) ∧
  (∀ (a : Int) (L st : List ZV) (h : PH), zev kX4_firstOf 22 L (zvi a :: st) h = if a = 0 then zev kX4_firstOf 88 L st h else zev kX4_firstOf 25 L st h) ∧
  (∀ (a : Option Nat) (L st : List ZV) (h : PH), zev kX4_firstOf 25 (zvr a :: L) st h = zev kX4_firstOf 26 (zvr a :: L) (zvr a :: st) h) ∧
  (∀ (q : Nat) (L st : List ZV) (h : PH), zev kX4_firstOf 26 L (zvr (some q) :: st) h = if (ph_K h q).1 % 1000 = 18 then zev kX4_firstOf 29 L (zvr (ph_R h q 6) :: st) h else none) ∧
  (∀ (x0 x1 x2 x3 : ZV) (a : Int) (L st : List ZV) (h : PH), zev kX4_firstOf 29 (x0 :: x1 :: x2 :: x3 :: zvi a :: L) st h = zev kX4_firstOf 31 (x0 :: x1 :: x2 :: x3 :: zvi a :: L) (zvi a :: st) h) ∧
  (∀ (L st : List ZV) (h : PH), zev kX4_firstOf 31 L st h = zev kX4_firstOf 32 L (zvi 1 :: st) h) ∧
  (∀ (v0 v1 : ZV) (L st : List ZV) (h : PH), zev kX4_firstOf 32 L (v1 :: v0 :: st) h = if zcat st ≤ 8 then zk kX4_firstOf 32 35 L st (mX4_at [v0, v1] h) else none) ∧
  (∀ (j : Int) (q : Nat) (L st : List ZV) (h : PH), zev kX4_firstOf 35 L (zvi j :: zvr (some q) :: st) h = if (ph_K h q).1 % 1000 = 1 ∧ 0 ≤ j ∧ j < (ph_K h q).2 then zev kX4_firstOf 36 L (zvi (ph_I h q j) :: st) h else none) ∧
  (∀ (x0 : ZV) (a : Int) (L st : List ZV) (h : PH), zev kX4_firstOf 36 (x0 :: zvi a :: L) st h = zev kX4_firstOf 37 (x0 :: zvi a :: L) (zvi a :: st) h) ∧
  (∀ (a b : Int) (L st : List ZV) (h : PH), zev kX4_firstOf 37 L (zvi b :: zvi a :: st) h = if a ≠ b then zev kX4_firstOf 88 L st h else zev kX4_firstOf 40 L st h) ∧
  (∀ (a : Option Nat) (L st : List ZV) (h : PH), zev kX4_firstOf 40 (zvr a :: L) st h = zev kX4_firstOf 41 (zvr a :: L) (zvr a :: st) h) ∧
  (∀ (x0 x1 x2 x3 : ZV) (a : Int) (L st : List ZV) (h : PH), zev kX4_firstOf 41 (x0 :: x1 :: x2 :: x3 :: zvi a :: L) st h = zev kX4_firstOf 43 (x0 :: x1 :: x2 :: x3 :: zvi a :: L) (zvi a :: st) h) ∧
  (∀ (v0 : ZV) (q : Nat) (L st : List ZV) (h : PH), zev kX4_firstOf 43 L (v0 :: zvr (some q) :: st) h = if (ph_K h q).1 % 1000 = 18 ∧ zcat st ≤ 8 then zk kX4_firstOf 43 46 L st (mX4_leavesAt [zvr (some q), v0] h) else none) ∧
  (∀ (x0 x1 : ZV) (a : Int) (L st : List ZV) (h : PH), zev kX4_firstOf 46 (x0 :: x1 :: zvi a :: L) st h = zev kX4_firstOf 47 (x0 :: x1 :: zvi a :: L) (zvi a :: st) h) ∧
  (∀ (a b : Int) (L st : List ZV) (h : PH), zev kX4_firstOf 47 L (zvi b :: zvi a :: st) h = if a < b then zev kX4_firstOf 88 L st h else zev kX4_firstOf 50 L st h) ∧
  (∀ (a : Option Nat) (L st : List ZV) (h : PH), zev kX4_firstOf 50 (zvr a :: L) st h = zev kX4_firstOf 51 (zvr a :: L) (zvr a :: st) h) ∧
  (∀ (q : Nat) (L st : List ZV) (h : PH), zev kX4_firstOf 51 L (zvr (some q) :: st) h = if (ph_K h q).1 % 1000 = 18 then zev kX4_firstOf 54 L (zvr (ph_R h q 23) :: st) h else none) ∧
  (∀ (x0 x1 x2 x3 : ZV) (a : Int) (L st : List ZV) (h : PH), zev kX4_firstOf 54 (x0 :: x1 :: x2 :: x3 :: zvi a :: L) st h = zev kX4_firstOf 56 (x0 :: x1 :: x2 :: x3 :: zvi a :: L) (zvi a :: st) h) ∧
  (∀ (j : Int) (q : Nat) (L st : List ZV) (h : PH), zev kX4_firstOf 56 L (zvi j :: zvr (some q) :: st) h = if (ph_K h q).1 % 1000 = 1 ∧ 0 ≤ j ∧ j < (ph_K h q).2 then zev kX4_firstOf 57 L (zvi (ph_I h q j) :: st) h else none) ∧
  (∀ (L st : List ZV) (h : PH), zev kX4_firstOf 57 L st h = zev kX4_firstOf 60 L (zvi 9999 :: st) h) ∧
  (∀ (a b : Int) (L st : List ZV) (h : PH), zev kX4_firstOf 60 L (zvi b :: zvi a :: st) h = if a ≠ b then zev kX4_firstOf 66 L st h else zev kX4_firstOf 63 L st h) ∧
  (∀ (L st : List ZV) (h : PH), zev kX4_firstOf 63 L st h = zev kX4_firstOf 88 L st h) ∧
  (∀ (x0 x1 x2 : ZV) (a : Int) (L st : List ZV) (h : PH), zev kX4_firstOf 66 (x0 :: x1 :: x2 :: zvi a :: L) st h = zev kX4_firstOf 67 (x0 :: x1 :: x2 :: zvi a :: L) (zvi a :: st) h) ∧
  (∀ (L st : List ZV) (h : PH), zev kX4_firstOf 67 L st h = zev kX4_firstOf 68 L (zvi (-1) :: st) h) ∧
  (∀ (a b : Int) (L st : List ZV) (h : PH), zev kX4_firstOf 68 L (zvi b :: zvi a :: st) h = if a = b then zev kX4_firstOf 81 L st h else zev kX4_firstOf 71 L st h) ∧
  (∀ (a : Option Nat) (L st : List ZV) (h : PH), zev kX4_firstOf 71 (zvr a :: L) st h = zev kX4_firstOf 72 (zvr a :: L) (zvr a :: st) h) ∧
  (∀ (x0 x1 x2 x3 : ZV) (a : Int) (L st : List ZV) (h : PH), zev kX4_firstOf 72 (x0 :: x1 :: x2 :: x3 :: zvi a :: L) st h = zev kX4_firstOf 74 (x0 :: x1 :: x2 :: x3 :: zvi a :: L) (zvi a :: st) h) ∧
  (∀ (x0 x1 x2 : ZV) (a : Int) (L st : List ZV) (h : PH), zev kX4_firstOf 74 (x0 :: x1 :: x2 :: zvi a :: L) st h = zev kX4_firstOf 75 (x0 :: x1 :: x2 :: zvi a :: L) (zvi a :: st) h) ∧
  (∀ (v0 v1 : ZV) (q : Nat) (L st : List ZV) (h : PH), zev kX4_firstOf 75 L (v1 :: v0 :: zvr (some q) :: st) h = if (ph_K h q).1 % 1000 = 18 ∧ zcat st ≤ 8 then zk kX4_firstOf 75 78 L st (mX4_isBetter [zvr (some q), v0, v1] h) else none) ∧
  (∀ (a : Int) (L st : List ZV) (h : PH), zev kX4_firstOf 78 L (zvi a :: st) h = if a = 0 then zev kX4_firstOf 86 L st h else zev kX4_firstOf 81 L st h) ∧
  (∀ (x0 x1 x2 x3 : ZV) (a : Int) (L st : List ZV) (h : PH), zev kX4_firstOf 81 (x0 :: x1 :: x2 :: x3 :: zvi a :: L) st h = zev kX4_firstOf 83 (x0 :: x1 :: x2 :: x3 :: zvi a :: L) (zvi a :: st) h) ∧
  (∀ (L st : List ZV) (h : PH), zev kX4_firstOf 83 L st h = zev kX4_firstOf 87 L st h) ∧
  (∀ (x0 x1 x2 : ZV) (a : Int) (L st : List ZV) (h : PH), zev kX4_firstOf 86 (x0 :: x1 :: x2 :: zvi a :: L) st h = zev kX4_firstOf 87 (x0 :: x1 :: x2 :: zvi a :: L) (zvi a :: st) h) ∧
  (∀ (x0 x1 x2 x3 : ZV) (a : Int) (L st : List ZV) (h : PH) (hx : zisL x2 = false) , zev kX4_firstOf 87 (x0 :: x1 :: x2 :: x3 :: L) (zvi a :: st) h = zev kX4_firstOf 88 (x0 :: x1 :: x2 :: zvi a :: L) st h) ∧
  (∀ (x0 x1 x2 x3 : ZV) (a : Int) (L st : List ZV) (h : PH) (hx : zisL x3 = false) , zev kX4_firstOf 88 (x0 :: x1 :: x2 :: x3 :: zvi a :: L) st h = zev kX4_firstOf 91 (x0 :: x1 :: x2 :: x3 :: zvi (w32 (a + 1)) :: L) st h) ∧
  (∀ (L st : List ZV) (h : PH), zev kX4_firstOf 91 L st h = zev kX4_firstOf 5 L st h) ∧
  (∀ (x0 x1 x2 : ZV) (a : Int) (L st : List ZV) (h : PH), zev kX4_firstOf 94 (x0 :: x1 :: x2 :: zvi a :: L) st h = zev kX4_firstOf 95 (x0 :: x1 :: x2 :: zvi a :: L) (zvi a :: st) h) ∧
  (∀ (a : Int) (L : List ZV) (h : PH), zev kX4_firstOf 95 L [zvi a] h = zrv (zvi a) h) :=
  ⟨fun L st h => e_push (v := zvi (-1)) (n := 1) rfl,
  fun x0 x1 x2 x3 a L st h hx => e_st3I (n := 2) rfl hx,
  fun L st h => e_push (v := zvi 0) (n := 3) rfl,
  fun x0 x1 x2 x3 x4 a L st h hx => e_st4I (n := 5) rfl hx,
  fun a L st h => e_ld0R (n := 8) rfl,
  fun q L st h => e_getR (kd := 18) (k := 6) (n := 11) rfl,
  fun L st h => e_push (v := zvi 4) (n := 12) rfl,
  fun j q L st h => e_ald (kd := 1) (n := 13) rfl,
  fun a b L st h => e_cmpge (t := 94) (n := 16) rfl,
  fun a L st h => e_ld0R (n := 17) rfl,
  fun x0 x1 x2 x3 a L st h => e_ld4I (n := 19) rfl,
  fun v0 q L st h => e_callV2 (F := mX4_runs) (kd := 18) (n := 22) rfl,
  fun a L st h => e_ifeq (t := 88) (n := 25) rfl,
  fun a L st h => e_ld0R (n := 26) rfl,
  fun q L st h => e_getR (kd := 18) (k := 6) (n := 29) rfl,
  fun x0 x1 x2 x3 a L st h => e_ld4I (n := 31) rfl,
  fun L st h => e_push (v := zvi 1) (n := 32) rfl,
  fun v0 v1 L st h => e_callS2 (F := mX4_at) (n := 35) rfl,
  fun j q L st h => e_ald (kd := 1) (n := 36) rfl,
  fun x0 a L st h => e_ld1I (n := 37) rfl,
  fun a b L st h => e_cmpne (t := 88) (n := 40) rfl,
  fun a L st h => e_ld0R (n := 41) rfl,
  fun x0 x1 x2 x3 a L st h => e_ld4I (n := 43) rfl,
  fun v0 q L st h => e_callV2 (F := mX4_leavesAt) (kd := 18) (n := 46) rfl,
  fun x0 x1 a L st h => e_ld2I (n := 47) rfl,
  fun a b L st h => e_cmplt (t := 88) (n := 50) rfl,
  fun a L st h => e_ld0R (n := 51) rfl,
  fun q L st h => e_getR (kd := 18) (k := 23) (n := 54) rfl,
  fun x0 x1 x2 x3 a L st h => e_ld4I (n := 56) rfl,
  fun j q L st h => e_ald (kd := 1) (n := 57) rfl,
  fun L st h => e_push (v := zvi 9999) (n := 60) rfl,
  fun a b L st h => e_cmpne (t := 66) (n := 63) rfl,
  fun L st h => e_goto (t := 88) rfl,
  fun x0 x1 x2 a L st h => e_ld3I (n := 67) rfl,
  fun L st h => e_push (v := zvi (-1)) (n := 68) rfl,
  fun a b L st h => e_cmpeq (t := 81) (n := 71) rfl,
  fun a L st h => e_ld0R (n := 72) rfl,
  fun x0 x1 x2 x3 a L st h => e_ld4I (n := 74) rfl,
  fun x0 x1 x2 a L st h => e_ld3I (n := 75) rfl,
  fun v0 v1 q L st h => e_callV3 (F := mX4_isBetter) (kd := 18) (n := 78) rfl,
  fun a L st h => e_ifeq (t := 86) (n := 81) rfl,
  fun x0 x1 x2 x3 a L st h => e_ld4I (n := 83) rfl,
  fun L st h => e_goto (t := 87) rfl,
  fun x0 x1 x2 a L st h => e_ld3I (n := 87) rfl,
  fun x0 x1 x2 x3 a L st h hx => e_st3I (n := 88) rfl hx,
  fun x0 x1 x2 x3 a L st h hx => e_iinc4 (d := 1) (n := 91) rfl hx,
  fun L st h => e_goto (t := 5) rfl,
  fun x0 x1 x2 a L st h => e_ld3I (n := 95) rfl,
  fun a L h => e_retI rfl⟩
theorem allX4_firstOf : zall yX4_firstOf cX4_firstOf 5 (some .int) 4 kX4_firstOf.1 :=
  ⟨k_iconst dX4_firstOf_0,
  k_istore_n dX4_firstOf_1,
  k_iconst dX4_firstOf_2,
  k_istore dX4_firstOf_3,
  k_iload dX4_firstOf_5,
  k_aload_n dX4_firstOf_7,
  k_getR (C := RX4) (T := TX4) (N := 42) (ci := 2) (k := 6) (ref := "LinkTimesModel") dX4_firstOf_8 rfl in_X4 (by decide) q1805 (Or.inl rfl) (fun _ _ _ => rfl),
  k_iconst dX4_firstOf_11,
  k_iald dX4_firstOf_12,
  k_cmpge (t := 94) dX4_firstOf_13 (by decide),
  k_aload_n dX4_firstOf_16,
  k_iload dX4_firstOf_17,
  k_callV (y2 := yX4_runs) (C := RX4) (T0 := TX4) (ci := 2) dX4_firstOf_19 sndX4_runs rfl q2076 q2078 qs92 q137 q2079 (by decide +kernel) ⟨by decide, by decide⟩ (by decide) (by decide),
  k_ifeq (t := 88) dX4_firstOf_22 (by decide),
  k_aload_n dX4_firstOf_25,
  k_getR (C := RX4) (T := TX4) (N := 42) (ci := 2) (k := 6) (ref := "LinkTimesModel") dX4_firstOf_26 rfl in_X4 (by decide) q1805 (Or.inl rfl) (fun _ _ _ => rfl),
  k_iload dX4_firstOf_29,
  k_iconst dX4_firstOf_31,
  k_callS (y2 := yX4_at) dX4_firstOf_32 sndX4_at q2047 q2048 q137 q2049 (by decide +kernel) ⟨by decide, by decide⟩ (by decide) (by decide),
  k_iald dX4_firstOf_35,
  k_iload_n dX4_firstOf_36,
  k_cmpne (t := 88) dX4_firstOf_37 (by decide),
  k_aload_n dX4_firstOf_40,
  k_iload dX4_firstOf_41,
  k_callV (y2 := yX4_leavesAt) (C := RX4) (T0 := TX4) (ci := 2) dX4_firstOf_43 sndX4_leavesAt rfl q2100 q2102 qs96 q137 q2103 (by decide +kernel) ⟨by decide, by decide⟩ (by decide) (by decide),
  k_iload_n dX4_firstOf_46,
  k_cmplt (t := 88) dX4_firstOf_47 (by decide),
  k_aload_n dX4_firstOf_50,
  k_getR (C := RX4) (T := TX4) (N := 42) (ci := 2) (k := 23) (ref := "LinkTimesModel") dX4_firstOf_51 rfl in_X4 (by decide) q1822 (Or.inl rfl) (fun _ _ _ => rfl),
  k_iload dX4_firstOf_54,
  k_iald dX4_firstOf_56,
  k_sipush dX4_firstOf_57,
  k_cmpne (t := 66) dX4_firstOf_60 (by decide),
  k_goto (t := 88) dX4_firstOf_63 (by decide),
  k_iload_n dX4_firstOf_66,
  k_iconst dX4_firstOf_67,
  k_cmpeq (t := 81) dX4_firstOf_68 (by decide),
  k_aload_n dX4_firstOf_71,
  k_iload dX4_firstOf_72,
  k_iload_n dX4_firstOf_74,
  k_callV (y2 := yX4_isBetter) (C := RX4) (T0 := TX4) (ci := 2) dX4_firstOf_75 sndX4_isBetter rfl q2155 q2157 qs107 q137 q2158 (by decide +kernel) ⟨by decide, by decide⟩ (by decide) (by decide),
  k_ifeq (t := 86) dX4_firstOf_78 (by decide),
  k_iload dX4_firstOf_81,
  k_goto (t := 87) dX4_firstOf_83 (by decide),
  k_iload_n dX4_firstOf_86,
  k_istore_n dX4_firstOf_87,
  k_iinc dX4_firstOf_88,
  k_goto (t := 5) dX4_firstOf_91 (by decide),
  k_iload_n dX4_firstOf_94,
  k_iret dX4_firstOf_95, trivial⟩
theorem sndX4_firstOf : MSound 4 yX4_firstOf (ws_ yX4_firstOf cX4_firstOf 5 (some .int)) mX4_firstOf := msound_M (by decide) allX4_firstOf (fun _ _ => rfl)
/-! LinkTimesModel.best(III)I -/
noncomputable def kX4_best : ZM := ([(0, zi_ld 0 1 1), (1, zi_ld 0 2 2), (2, zi_cmp zc_ne 7 5), (5, zi_ld 0 3 6), (6, zi_retv 0), (7, zi_ld 1 0 8), (8, zi_ld 0 2 9), (9, zi_callV mX4_laysGoal 18 2 12), (12, zi_ld 1 0 13), (13, zi_ld 0 1 14), (14, zi_ld 0 3 15), (15, zi_callV mX4_firstOf 18 3 18), (18, zi_st 0 4 20), (20, zi_ld 0 4 22), (22, zi_push (zvi (-1)) 23), (23, zi_cmp zc_ne 31 26), (26, zi_push (zvi (-2)) 28), (28, zi_goto 38), (31, zi_ld 1 0 32), (32, zi_getR 18 23 35), (35, zi_ld 0 4 37), (37, zi_ald 1 38), (38, zi_retv 0)], fun _ _ => none)
noncomputable def mX4_best : ZF := zrunM kX4_best 5
theorem enX4_best (x0 : Option Nat) (x1 : Int) (x2 : Int) (x3 : Int) (h : PH) : mX4_best [zvr x0, zvi x1, zvi x2, zvi x3] h = zev kX4_best 0 [zvr x0, zvi x1, zvi x2, zvi x3, zvu] [] h := zrunM_eq rfl rfl
theorem rX4_best : (∀ (x0 : ZV) (a : Int) (L st : List ZV) (h : PH), zev kX4_best 0 (x0 :: zvi a :: L) st h = zev kX4_best 1 (x0 :: zvi a :: L) (zvi a :: st) h) ∧
  (∀ (x0 x1 : ZV) (a : Int) (L st : List ZV) (h : PH), zev kX4_best 1 (x0 :: x1 :: zvi a :: L) st h = zev kX4_best 2 (x0 :: x1 :: zvi a :: L) (zvi a :: st) h) ∧
  (∀ (a b : Int) (L st : List ZV) (h : PH), zev kX4_best 2 L (zvi b :: zvi a :: st) h = if a ≠ b then zev kX4_best 7 L st h else zev kX4_best 5 L st h) ∧
  (∀ (x0 x1 x2 : ZV) (a : Int) (L st : List ZV) (h : PH), zev kX4_best 5 (x0 :: x1 :: x2 :: zvi a :: L) st h = zev kX4_best 6 (x0 :: x1 :: x2 :: zvi a :: L) (zvi a :: st) h) ∧
  (∀ (a : Int) (L : List ZV) (h : PH), zev kX4_best 6 L [zvi a] h = zrv (zvi a) h) ∧
  (∀ (a : Option Nat) (L st : List ZV) (h : PH), zev kX4_best 7 (zvr a :: L) st h = zev kX4_best 8 (zvr a :: L) (zvr a :: st) h) ∧
  (∀ (x0 x1 : ZV) (a : Int) (L st : List ZV) (h : PH), zev kX4_best 8 (x0 :: x1 :: zvi a :: L) st h = zev kX4_best 9 (x0 :: x1 :: zvi a :: L) (zvi a :: st) h) ∧
  (∀ (v0 : ZV) (q : Nat) (L st : List ZV) (h : PH), zev kX4_best 9 L (v0 :: zvr (some q) :: st) h = if (ph_K h q).1 % 1000 = 18 ∧ zcat st ≤ 8 then zk kX4_best 9 12 L st (mX4_laysGoal [zvr (some q), v0] h) else none) ∧
  (∀ (a : Option Nat) (L st : List ZV) (h : PH), zev kX4_best 12 (zvr a :: L) st h = zev kX4_best 13 (zvr a :: L) (zvr a :: st) h) ∧
  (∀ (x0 : ZV) (a : Int) (L st : List ZV) (h : PH), zev kX4_best 13 (x0 :: zvi a :: L) st h = zev kX4_best 14 (x0 :: zvi a :: L) (zvi a :: st) h) ∧
  (∀ (x0 x1 x2 : ZV) (a : Int) (L st : List ZV) (h : PH), zev kX4_best 14 (x0 :: x1 :: x2 :: zvi a :: L) st h = zev kX4_best 15 (x0 :: x1 :: x2 :: zvi a :: L) (zvi a :: st) h) ∧
  (∀ (v0 v1 : ZV) (q : Nat) (L st : List ZV) (h : PH), zev kX4_best 15 L (v1 :: v0 :: zvr (some q) :: st) h = if (ph_K h q).1 % 1000 = 18 ∧ zcat st ≤ 8 then zk kX4_best 15 18 L st (mX4_firstOf [zvr (some q), v0, v1] h) else none) ∧
  (∀ (x0 x1 x2 x3 x4 : ZV) (a : Int) (L st : List ZV) (h : PH) (hx : zisL x3 = false) , zev kX4_best 18 (x0 :: x1 :: x2 :: x3 :: x4 :: L) (zvi a :: st) h = zev kX4_best 20 (x0 :: x1 :: x2 :: x3 :: zvi a :: L) st h) ∧
  (∀ (x0 x1 x2 x3 : ZV) (a : Int) (L st : List ZV) (h : PH), zev kX4_best 20 (x0 :: x1 :: x2 :: x3 :: zvi a :: L) st h = zev kX4_best 22 (x0 :: x1 :: x2 :: x3 :: zvi a :: L) (zvi a :: st) h) ∧
  (∀ (L st : List ZV) (h : PH), zev kX4_best 22 L st h = zev kX4_best 23 L (zvi (-1) :: st) h) ∧
  (∀ (a b : Int) (L st : List ZV) (h : PH), zev kX4_best 23 L (zvi b :: zvi a :: st) h = if a ≠ b then zev kX4_best 31 L st h else zev kX4_best 26 L st h) ∧
  (∀ (L st : List ZV) (h : PH), zev kX4_best 26 L st h = zev kX4_best 28 L (zvi (-2) :: st) h) ∧
  (∀ (L st : List ZV) (h : PH), zev kX4_best 28 L st h = zev kX4_best 38 L st h) ∧
  (∀ (a : Option Nat) (L st : List ZV) (h : PH), zev kX4_best 31 (zvr a :: L) st h = zev kX4_best 32 (zvr a :: L) (zvr a :: st) h) ∧
  (∀ (q : Nat) (L st : List ZV) (h : PH), zev kX4_best 32 L (zvr (some q) :: st) h = if (ph_K h q).1 % 1000 = 18 then zev kX4_best 35 L (zvr (ph_R h q 23) :: st) h else none) ∧
  (∀ (x0 x1 x2 x3 : ZV) (a : Int) (L st : List ZV) (h : PH), zev kX4_best 35 (x0 :: x1 :: x2 :: x3 :: zvi a :: L) st h = zev kX4_best 37 (x0 :: x1 :: x2 :: x3 :: zvi a :: L) (zvi a :: st) h) ∧
  (∀ (j : Int) (q : Nat) (L st : List ZV) (h : PH), zev kX4_best 37 L (zvi j :: zvr (some q) :: st) h = if (ph_K h q).1 % 1000 = 1 ∧ 0 ≤ j ∧ j < (ph_K h q).2 then zev kX4_best 38 L (zvi (ph_I h q j) :: st) h else none) ∧
  (∀ (a : Int) (L : List ZV) (h : PH), zev kX4_best 38 L [zvi a] h = zrv (zvi a) h) :=
  ⟨fun x0 a L st h => e_ld1I (n := 1) rfl,
  fun x0 x1 a L st h => e_ld2I (n := 2) rfl,
  fun a b L st h => e_cmpne (t := 7) (n := 5) rfl,
  fun x0 x1 x2 a L st h => e_ld3I (n := 6) rfl,
  fun a L h => e_retI rfl,
  fun a L st h => e_ld0R (n := 8) rfl,
  fun x0 x1 a L st h => e_ld2I (n := 9) rfl,
  fun v0 q L st h => e_callV2 (F := mX4_laysGoal) (kd := 18) (n := 12) rfl,
  fun a L st h => e_ld0R (n := 13) rfl,
  fun x0 a L st h => e_ld1I (n := 14) rfl,
  fun x0 x1 x2 a L st h => e_ld3I (n := 15) rfl,
  fun v0 v1 q L st h => e_callV3 (F := mX4_firstOf) (kd := 18) (n := 18) rfl,
  fun x0 x1 x2 x3 x4 a L st h hx => e_st4I (n := 20) rfl hx,
  fun x0 x1 x2 x3 a L st h => e_ld4I (n := 22) rfl,
  fun L st h => e_push (v := zvi (-1)) (n := 23) rfl,
  fun a b L st h => e_cmpne (t := 31) (n := 26) rfl,
  fun L st h => e_push (v := zvi (-2)) (n := 28) rfl,
  fun L st h => e_goto (t := 38) rfl,
  fun a L st h => e_ld0R (n := 32) rfl,
  fun q L st h => e_getR (kd := 18) (k := 23) (n := 35) rfl,
  fun x0 x1 x2 x3 a L st h => e_ld4I (n := 37) rfl,
  fun j q L st h => e_ald (kd := 1) (n := 38) rfl,
  fun a L h => e_retI rfl⟩
theorem allX4_best : zall yX4_best cX4_best 5 (some .int) 7 kX4_best.1 :=
  ⟨k_iload_n dX4_best_0,
  k_iload_n dX4_best_1,
  k_cmpne (t := 7) dX4_best_2 (by decide),
  k_iload_n dX4_best_5,
  k_iret dX4_best_6,
  k_aload_n dX4_best_7,
  k_iload_n dX4_best_8,
  k_callV (y2 := yX4_laysGoal) (C := RX4) (T0 := TX4) (ci := 2) dX4_best_9 sndX4_laysGoal rfl q2127 q2129 qs100 q137 q2130 (by decide +kernel) ⟨by decide, by decide⟩ (by decide) (by decide),
  k_aload_n dX4_best_12,
  k_iload_n dX4_best_13,
  k_iload_n dX4_best_14,
  k_callV (y2 := yX4_firstOf) (C := RX4) (T0 := TX4) (ci := 2) dX4_best_15 sndX4_firstOf rfl q2151 q2153 qs106 q137 q2154 (by decide +kernel) ⟨by decide, by decide⟩ (by decide) (by decide),
  k_istore dX4_best_18,
  k_iload dX4_best_20,
  k_iconst dX4_best_22,
  k_cmpne (t := 31) dX4_best_23 (by decide),
  k_bipush dX4_best_26,
  k_goto (t := 38) dX4_best_28 (by decide),
  k_aload_n dX4_best_31,
  k_getR (C := RX4) (T := TX4) (N := 42) (ci := 2) (k := 23) (ref := "LinkTimesModel") dX4_best_32 rfl in_X4 (by decide) q1822 (Or.inl rfl) (fun _ _ _ => rfl),
  k_iload dX4_best_35,
  k_iald dX4_best_37,
  k_iret dX4_best_38, trivial⟩
theorem sndX4_best : MSound 7 yX4_best (ws_ yX4_best cX4_best 5 (some .int)) mX4_best := msound_M (by decide) allX4_best (fun _ _ => rfl)
