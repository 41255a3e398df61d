/-! Z program: LinkTimes (written by gen/gen_prog.py) -/
set_option maxRecDepth 100000
/-! LinkTimes.slowest(I)I -/
noncomputable def kX1_slowest : ZM := ([(0, zi_ld 1 0 1), (1, zi_ld 0 1 2), (2, zi_callV mX1_refusesTime 16 2 5), (5, zi_st 0 2 6), (6, zi_ld 0 2 7), (7, zi_if (fun a => zc_le a 0) 16 10), (10, zi_ld 1 0 11), (11, zi_ld 0 2 12), (12, zi_callV mX1_refused 16 2 15), (15, zi_retv 0), (16, zi_ld 1 0 17), (17, zi_ld 0 1 18), (18, zi_callV mX1_laysAll 16 2 21), (21, zi_ld 1 0 22), (22, zi_ld 1 0 23), (23, zi_getI 16 18 26), (26, zi_callV mX1_fine 16 2 29), (29, zi_retv 0)], fun _ _ => none)
noncomputable def mX1_slowest : ZF := zrunM kX1_slowest 3
theorem enX1_slowest (x0 : Option Nat) (x1 : Int) (h : PH) : mX1_slowest [zvr x0, zvi x1] h = zev kX1_slowest 0 [zvr x0, zvi x1, zvu] [] h := zrunM_eq rfl rfl
theorem rX1_slowest : (∀ (a : Option Nat) (L st : List ZV) (h : PH), zev kX1_slowest 0 (zvr a :: L) st h = zev kX1_slowest 1 (zvr a :: L) (zvr a :: st) h) ∧
  (∀ (x0 : ZV) (a : Int) (L st : List ZV) (h : PH), zev kX1_slowest 1 (x0 :: zvi a :: L) st h = zev kX1_slowest 2 (x0 :: zvi a :: L) (zvi a :: st) h) ∧
  (∀ (v0 : ZV) (q : Nat) (L st : List ZV) (h : PH), zev kX1_slowest 2 L (v0 :: zvr (some q) :: st) h = if (ph_K h q).1 % 1000 = 16 ∧ zcat st ≤ 8 then zk kX1_slowest 2 5 L st (mX1_refusesTime [zvr (some q), v0] h) else none) ∧
  (∀ (x0 x1 x2 : ZV) (a : Int) (L st : List ZV) (h : PH) (hx : zisL x1 = false) , zev kX1_slowest 5 (x0 :: x1 :: x2 :: L) (zvi a :: st) h = zev kX1_slowest 6 (x0 :: x1 :: zvi a :: L) st h) ∧
  (∀ (x0 x1 : ZV) (a : Int) (L st : List ZV) (h : PH), zev kX1_slowest 6 (x0 :: x1 :: zvi a :: L) st h = zev kX1_slowest 7 (x0 :: x1 :: zvi a :: L) (zvi a :: st) h) ∧
  (∀ (a : Int) (L st : List ZV) (h : PH), zev kX1_slowest 7 L (zvi a :: st) h = if a ≤ 0 then zev kX1_slowest 16 L st h else zev kX1_slowest 10 L st h) ∧
  (∀ (a : Option Nat) (L st : List ZV) (h : PH), zev kX1_slowest 10 (zvr a :: L) st h = zev kX1_slowest 11 (zvr a :: L) (zvr a :: st) h) ∧
  (∀ (x0 x1 : ZV) (a : Int) (L st : List ZV) (h : PH), zev kX1_slowest 11 (x0 :: x1 :: zvi a :: L) st h = zev kX1_slowest 12 (x0 :: x1 :: zvi a :: L) (zvi a :: st) h) ∧
  (∀ (v0 : ZV) (q : Nat) (L st : List ZV) (h : PH), zev kX1_slowest 12 L (v0 :: zvr (some q) :: st) h = if (ph_K h q).1 % 1000 = 16 ∧ zcat st ≤ 8 then zk kX1_slowest 12 15 L st (mX1_refused [zvr (some q), v0] h) else none) ∧
  (∀ (a : Int) (L : List ZV) (h : PH), zev kX1_slowest 15 L [zvi a] h = zrv (zvi a) h) ∧
  (∀ (a : Option Nat) (L st : List ZV) (h : PH), zev kX1_slowest 16 (zvr a :: L) st h = zev kX1_slowest 17 (zvr a :: L) (zvr a :: st) h) ∧
  (∀ (x0 : ZV) (a : Int) (L st : List ZV) (h : PH), zev kX1_slowest 17 (x0 :: zvi a :: L) st h = zev kX1_slowest 18 (x0 :: zvi a :: L) (zvi a :: st) h) ∧
  (∀ (v0 : ZV) (q : Nat) (L st : List ZV) (h : PH), zev kX1_slowest 18 L (v0 :: zvr (some q) :: st) h = if (ph_K h q).1 % 1000 = 16 ∧ zcat st ≤ 8 then zk kX1_slowest 18 21 L st (mX1_laysAll [zvr (some q), v0] h) else none) ∧
  (∀ (a : Option Nat) (L st : List ZV) (h : PH), zev kX1_slowest 21 (zvr a :: L) st h = zev kX1_slowest 22 (zvr a :: L) (zvr a :: st) h) ∧
  (∀ (a : Option Nat) (L st : List ZV) (h : PH), zev kX1_slowest 22 (zvr a :: L) st h = zev kX1_slowest 23 (zvr a :: L) (zvr a :: st) h) ∧
  (∀ (q : Nat) (L st : List ZV) (h : PH), zev kX1_slowest 23 L (zvr (some q) :: st) h = if (ph_K h q).1 % 1000 = 16 then zev kX1_slowest 26 L (zvi (ph_I h q 18) :: st) h else none) ∧
  (∀ (v0 : ZV) (q : Nat) (L st : List ZV) (h : PH), zev kX1_slowest 26 L (v0 :: zvr (some q) :: st) h = if (ph_K h q).1 % 1000 = 16 ∧ zcat st ≤ 8 then zk kX1_slowest 26 29 L st (mX1_fine [zvr (some q), v0] h) else none) ∧
  (∀ (a : Int) (L : List ZV) (h : PH), zev kX1_slowest 29 L [zvi a] h = zrv (zvi a) h) :=
  ⟨fun a L st h => e_ld0R (n := 1) rfl,
  fun x0 a L st h => e_ld1I (n := 2) rfl,
  fun v0 q L st h => e_callV2 (F := mX1_refusesTime) (kd := 16) (n := 5) rfl,
  fun x0 x1 x2 a L st h hx => e_st2I (n := 6) rfl hx,
  fun x0 x1 a L st h => e_ld2I (n := 7) rfl,
  fun a L st h => e_ifle (t := 16) (n := 10) rfl,
  fun a L st h => e_ld0R (n := 11) rfl,
  fun x0 x1 a L st h => e_ld2I (n := 12) rfl,
  fun v0 q L st h => e_callV2 (F := mX1_refused) (kd := 16) (n := 15) rfl,
  fun a L h => e_retI rfl,
  fun a L st h => e_ld0R (n := 17) rfl,
  fun x0 a L st h => e_ld1I (n := 18) rfl,
  fun v0 q L st h => e_callV2 (F := mX1_laysAll) (kd := 16) (n := 21) rfl,
  fun a L st h => e_ld0R (n := 22) rfl,
  fun a L st h => e_ld0R (n := 23) rfl,
  fun q L st h => e_getI (kd := 16) (k := 18) (n := 26) rfl,
  fun v0 q L st h => e_callV2 (F := mX1_fine) (kd := 16) (n := 29) rfl,
  fun a L h => e_retI rfl⟩
theorem allX1_slowest : zall yX1_slowest cX1_slowest 3 (some .int) 11 kX1_slowest.1 :=
  ⟨k_aload_n dX1_slowest_0,
  k_iload_n dX1_slowest_1,
  k_callV (y2 := yX1_refusesTime) (C := RX1) (T0 := TX1) (ci := 0) dX1_slowest_2 sndX1_refusesTime rfl q1525 q1527 qs52 q128 q1528 (by decide +kernel) ⟨by decide, by decide⟩ (by decide) (by decide),
  k_istore_n dX1_slowest_5,
  k_iload_n dX1_slowest_6,
  k_ifle (t := 16) dX1_slowest_7 (by decide),
  k_aload_n dX1_slowest_10,
  k_iload_n dX1_slowest_11,
  k_callV (y2 := yX1_refused) (C := RX1) (T0 := TX1) (ci := 0) dX1_slowest_12 sndX1_refused rfl q378 q380 qs1 q128 q381 (by decide +kernel) ⟨by decide, by decide⟩ (by decide) (by decide),
  k_iret dX1_slowest_15,
  k_aload_n dX1_slowest_16,
  k_iload_n dX1_slowest_17,
  k_callV (y2 := yX1_laysAll) (C := RX1) (T0 := TX1) (ci := 0) dX1_slowest_18 sndX1_laysAll rfl q1529 q1531 qs53 q128 q1532 (by decide +kernel) ⟨by decide, by decide⟩ (by decide) (by decide),
  k_aload_n dX1_slowest_21,
  k_aload_n dX1_slowest_22,
  k_getI (C := RX1) (T := TX1) (N := 19) (ci := 0) (k := 18) (ref := "LinkTimes") dX1_slowest_23 rfl in_X1 (by decide) q321 (Or.inl rfl) (fun _ _ _ => rfl),
  k_callV (y2 := yX1_fine) (C := RX1) (T0 := TX1) (ci := 0) dX1_slowest_26 sndX1_fine rfl q1211 q1213 qs32 q128 q1214 (by decide +kernel) ⟨by decide, by decide⟩ (by decide) (by decide),
  k_iret dX1_slowest_29, trivial⟩
theorem sndX1_slowest : MSound 11 yX1_slowest (ws_ yX1_slowest cX1_slowest 3 (some .int)) mX1_slowest := msound_M (by decide) allX1_slowest (fun _ _ => rfl)
/-! LinkTimes.refusesOne(IIII)I -/
noncomputable def kX1_refusesOne : ZM := ([(0, zi_ld 1 0 1), (1, zi_ld 0 1 2), (2, zi_ld 0 2 3), (3, zi_ld 0 3 4), (4, zi_callV mX1_refuses 16 4 7), (7, zi_st 0 5 9), (9, zi_ld 0 5 11), (11, zi_push (zvi 1) 12), (12, zi_cmp zc_eq 24 15), (15, zi_ld 1 0 16), (16, zi_ld 0 4 18), (18, zi_callV mX1_isDeparture 16 2 21), (21, zi_if (fun a => zc_ne a 0) 28 24), (24, zi_push (zvi 1) 25), (25, zi_goto 30), (28, zi_ld 0 5 30), (30, zi_retv 0)], fun _ _ => none)
noncomputable def mX1_refusesOne : ZF := zrunM kX1_refusesOne 6
theorem enX1_refusesOne (x0 : Option Nat) (x1 : Int) (x2 : Int) (x3 : Int) (x4 : Int) (h : PH) : mX1_refusesOne [zvr x0, zvi x1, zvi x2, zvi x3, zvi x4] h = zev kX1_refusesOne 0 [zvr x0, zvi x1, zvi x2, zvi x3, zvi x4, zvu] [] h := zrunM_eq rfl rfl
theorem rX1_refusesOne : (∀ (a : Option Nat) (L st : List ZV) (h : PH), zev kX1_refusesOne 0 (zvr a :: L) st h = zev kX1_refusesOne 1 (zvr a :: L) (zvr a :: st) h) ∧
  (∀ (x0 : ZV) (a : Int) (L st : List ZV) (h : PH), zev kX1_refusesOne 1 (x0 :: zvi a :: L) st h = zev kX1_refusesOne 2 (x0 :: zvi a :: L) (zvi a :: st) h) ∧
  (∀ (x0 x1 : ZV) (a : Int) (L st : List ZV) (h : PH), zev kX1_refusesOne 2 (x0 :: x1 :: zvi a :: L) st h = zev kX1_refusesOne 3 (x0 :: x1 :: zvi a :: L) (zvi a :: st) h) ∧
  (∀ (x0 x1 x2 : ZV) (a : Int) (L st : List ZV) (h : PH), zev kX1_refusesOne 3 (x0 :: x1 :: x2 :: zvi a :: L) st h = zev kX1_refusesOne 4 (x0 :: x1 :: x2 :: zvi a :: L) (zvi a :: st) h) ∧
  (∀ (v0 v1 v2 : ZV) (q : Nat) (L st : List ZV) (h : PH), zev kX1_refusesOne 4 L (v2 :: v1 :: v0 :: zvr (some q) :: st) h = if (ph_K h q).1 % 1000 = 16 ∧ zcat st ≤ 8 then zk kX1_refusesOne 4 7 L st (mX1_refuses [zvr (some q), v0, v1, v2] h) else none) ∧
  (∀ (x0 x1 x2 x3 x4 x5 : ZV) (a : Int) (L st : List ZV) (h : PH) (hx : zisL x4 = false) , zev kX1_refusesOne 7 (x0 :: x1 :: x2 :: x3 :: x4 :: x5 :: L) (zvi a :: st) h = zev kX1_refusesOne 9 (x0 :: x1 :: x2 :: x3 :: x4 :: zvi a :: L) st h) ∧
  (∀ (x0 x1 x2 x3 x4 : ZV) (a : Int) (L st : List ZV) (h : PH), zev kX1_refusesOne 9 (x0 :: x1 :: x2 :: x3 :: x4 :: zvi a :: L) st h = zev kX1_refusesOne 11 (x0 :: x1 :: x2 :: x3 :: x4 :: zvi a :: L) (zvi a :: st) h) ∧
  (∀ (L st : List ZV) (h : PH), zev kX1_refusesOne 11 L st h = zev kX1_refusesOne 12 L (zvi 1 :: st) h) ∧
  (∀ (a b : Int) (L st : List ZV) (h : PH), zev kX1_refusesOne 12 L (zvi b :: zvi a :: st) h = if a = b then zev kX1_refusesOne 24 L st h else zev kX1_refusesOne 15 L st h) ∧
  (∀ (a : Option Nat) (L st : List ZV) (h : PH), zev kX1_refusesOne 15 (zvr a :: L) st h = zev kX1_refusesOne 16 (zvr a :: L) (zvr a :: st) h) ∧
  (∀ (x0 x1 x2 x3 : ZV) (a : Int) (L st : List ZV) (h : PH), zev kX1_refusesOne 16 (x0 :: x1 :: x2 :: x3 :: zvi a :: L) st h = zev kX1_refusesOne 18 (x0 :: x1 :: x2 :: x3 :: zvi a :: L) (zvi a :: st) h) ∧
  (∀ (v0 : ZV) (q : Nat) (L st : List ZV) (h : PH), zev kX1_refusesOne 18 L (v0 :: zvr (some q) :: st) h = if (ph_K h q).1 % 1000 = 16 ∧ zcat st ≤ 8 then zk kX1_refusesOne 18 21 L st (mX1_isDeparture [zvr (some q), v0] h) else none) ∧
  (∀ (a : Int) (L st : List ZV) (h : PH), zev kX1_refusesOne 21 L (zvi a :: st) h = if a ≠ 0 then zev kX1_refusesOne 28 L st h else zev kX1_refusesOne 24 L st h) ∧
  (∀ (L st : List ZV) (h : PH), zev kX1_refusesOne 24 L st h = zev kX1_refusesOne 25 L (zvi 1 :: st) h) ∧
  (∀ (L st : List ZV) (h : PH), zev kX1_refusesOne 25 L st h = zev kX1_refusesOne 30 L st h) ∧
  (∀ (x0 x1 x2 x3 x4 : ZV) (a : Int) (L st : List ZV) (h : PH), zev kX1_refusesOne 28 (x0 :: x1 :: x2 :: x3 :: x4 :: zvi a :: L) st h = zev kX1_refusesOne 30 (x0 :: x1 :: x2 :: x3 :: x4 :: zvi a :: L) (zvi a :: st) h) ∧
  (∀ (a : Int) (L : List ZV) (h : PH), zev kX1_refusesOne 30 L [zvi a] h = zrv (zvi a) h) :=
  ⟨fun a L st h => e_ld0R (n := 1) rfl,
  fun x0 a L st h => e_ld1I (n := 2) rfl,
  fun x0 x1 a L st h => e_ld2I (n := 3) rfl,
  fun x0 x1 x2 a L st h => e_ld3I (n := 4) rfl,
  fun v0 v1 v2 q L st h => e_callV4 (F := mX1_refuses) (kd := 16) (n := 7) rfl,
  fun x0 x1 x2 x3 x4 x5 a L st h hx => e_st5I (n := 9) rfl hx,
  fun x0 x1 x2 x3 x4 a L st h => e_ld5I (n := 11) rfl,
  fun L st h => e_push (v := zvi 1) (n := 12) rfl,
  fun a b L st h => e_cmpeq (t := 24) (n := 15) rfl,
  fun a L st h => e_ld0R (n := 16) rfl,
  fun x0 x1 x2 x3 a L st h => e_ld4I (n := 18) rfl,
  fun v0 q L st h => e_callV2 (F := mX1_isDeparture) (kd := 16) (n := 21) rfl,
  fun a L st h => e_ifne (t := 28) (n := 24) rfl,
  fun L st h => e_push (v := zvi 1) (n := 25) rfl,
  fun L st h => e_goto (t := 30) rfl,
  fun x0 x1 x2 x3 x4 a L st h => e_ld5I (n := 30) rfl,
  fun a L h => e_retI rfl⟩
theorem allX1_refusesOne : zall yX1_refusesOne cX1_refusesOne 6 (some .int) 4 kX1_refusesOne.1 :=
  ⟨k_aload_n dX1_refusesOne_0,
  k_iload_n dX1_refusesOne_1,
  k_iload_n dX1_refusesOne_2,
  k_iload_n dX1_refusesOne_3,
  k_callV (y2 := yX1_refuses) (C := RX1) (T0 := TX1) (ci := 0) dX1_refusesOne_4 sndX1_refuses rfl q1334 q1336 qs36 q128 q1337 (by decide +kernel) ⟨by decide, by decide⟩ (by decide) (by decide),
  k_istore dX1_refusesOne_7,
  k_iload dX1_refusesOne_9,
  k_iconst dX1_refusesOne_11,
  k_cmpeq (t := 24) dX1_refusesOne_12 (by decide),
  k_aload_n dX1_refusesOne_15,
  k_iload dX1_refusesOne_16,
  k_callV (y2 := yX1_isDeparture) (C := RX1) (T0 := TX1) (ci := 0) dX1_refusesOne_18 sndX1_isDeparture rfl q1255 q1257 qs35 q128 q1258 (by decide +kernel) ⟨by decide, by decide⟩ (by decide) (by decide),
  k_ifne (t := 28) dX1_refusesOne_21 (by decide),
  k_iconst dX1_refusesOne_24,
  k_goto (t := 30) dX1_refusesOne_25 (by decide),
  k_iload dX1_refusesOne_28,
  k_iret dX1_refusesOne_30, trivial⟩
theorem sndX1_refusesOne : MSound 4 yX1_refusesOne (ws_ yX1_refusesOne cX1_refusesOne 6 (some .int)) mX1_refusesOne := msound_M (by decide) allX1_refusesOne (fun _ _ => rfl)
/-! LinkTimes.missed(IIIII)I -/
noncomputable def kX1_missed : ZM := ([(0, zi_ld 1 0 1), (1, zi_getR 16 8 4), (4, zi_ld 0 4 6), (6, zi_push (zvi (-1)) 7), (7, zi_push (zvi 0) 8), (8, zi_callV mX3_lays 17 4 11), (11, zi_ld 0 1 12), (12, zi_ld 0 2 13), (13, zi_ld 0 3 14), (14, zi_callV mX3_arrives 17 4 17), (17, zi_st 0 6 19), (19, zi_ld 0 6 21), (21, zi_push (zvi (-2)) 23), (23, zi_cmp zc_ne 31 26), (26, zi_push (zvi (-2)) 28), (28, zi_goto 36), (31, zi_ld 0 6 33), (33, zi_ld 0 5 35), (35, zi_bin (fun a b => w32 (a - b)) 36), (36, zi_retv 0)], fun _ _ => none)
noncomputable def mX1_missed : ZF := zrunM kX1_missed 7
theorem enX1_missed (x0 : Option Nat) (x1 : Int) (x2 : Int) (x3 : Int) (x4 : Int) (x5 : Int) (h : PH) : mX1_missed [zvr x0, zvi x1, zvi x2, zvi x3, zvi x4, zvi x5] h = zev kX1_missed 0 [zvr x0, zvi x1, zvi x2, zvi x3, zvi x4, zvi x5, zvu] [] h := zrunM_eq rfl rfl
theorem rX1_missed : (∀ (a : Option Nat) (L st : List ZV) (h : PH), zev kX1_missed 0 (zvr a :: L) st h = zev kX1_missed 1 (zvr a :: L) (zvr a :: st) h) ∧
  (∀ (q : Nat) (L st : List ZV) (h : PH), zev kX1_missed 1 L (zvr (some q) :: st) h = if (ph_K h q).1 % 1000 = 16 then zev kX1_missed 4 L (zvr (ph_R h q 8) :: st) h else none) ∧
  (∀ (x0 x1 x2 x3 : ZV) (a : Int) (L st : List ZV) (h : PH), zev kX1_missed 4 (x0 :: x1 :: x2 :: x3 :: zvi a :: L) st h = zev kX1_missed 6 (x0 :: x1 :: x2 :: x3 :: zvi a :: L) (zvi a :: st) h) ∧
  (∀ (L st : List ZV) (h : PH), zev kX1_missed 6 L st h = zev kX1_missed 7 L (zvi (-1) :: st) h) ∧
  (∀ (L st : List ZV) (h : PH), zev kX1_missed 7 L st h = zev kX1_missed 8 L (zvi 0 :: st) h) ∧
  (∀ (v0 v1 v2 : ZV) (q : Nat) (L st : List ZV) (h : PH), zev kX1_missed 8 L (v2 :: v1 :: v0 :: zvr (some q) :: st) h = if (ph_K h q).1 % 1000 = 17 ∧ zcat st ≤ 8 then zk kX1_missed 8 11 L st (mX3_lays [zvr (some q), v0, v1, v2] h) else none) ∧
  (∀ (x0 : ZV) (a : Int) (L st : List ZV) (h : PH), zev kX1_missed 11 (x0 :: zvi a :: L) st h = zev kX1_missed 12 (x0 :: zvi a :: L) (zvi a :: st) h) ∧
  (∀ (x0 x1 : ZV) (a : Int) (L st : List ZV) (h : PH), zev kX1_missed 12 (x0 :: x1 :: zvi a :: L) st h = zev kX1_missed 13 (x0 :: x1 :: zvi a :: L) (zvi a :: st) h) ∧
  (∀ (x0 x1 x2 : ZV) (a : Int) (L st : List ZV) (h : PH), zev kX1_missed 13 (x0 :: x1 :: x2 :: zvi a :: L) st h = zev kX1_missed 14 (x0 :: x1 :: x2 :: zvi a :: L) (zvi a :: st) h) ∧
  (∀ (v0 v1 v2 : ZV) (q : Nat) (L st : List ZV) (h : PH), zev kX1_missed 14 L (v2 :: v1 :: v0 :: zvr (some q) :: st) h = if (ph_K h q).1 % 1000 = 17 ∧ zcat st ≤ 8 then zk kX1_missed 14 17 L st (mX3_arrives [zvr (some q), v0, v1, v2] h) else none) ∧
  (∀ (x0 x1 x2 x3 x4 x5 x6 : ZV) (a : Int) (L st : List ZV) (h : PH) (hx : zisL x5 = false) , zev kX1_missed 17 (x0 :: x1 :: x2 :: x3 :: x4 :: x5 :: x6 :: L) (zvi a :: st) h = zev kX1_missed 19 (x0 :: x1 :: x2 :: x3 :: x4 :: x5 :: zvi a :: L) st h) ∧
  (∀ (x0 x1 x2 x3 x4 x5 : ZV) (a : Int) (L st : List ZV) (h : PH), zev kX1_missed 19 (x0 :: x1 :: x2 :: x3 :: x4 :: x5 :: zvi a :: L) st h = zev kX1_missed 21 (x0 :: x1 :: x2 :: x3 :: x4 :: x5 :: zvi a :: L) (zvi a :: st) h) ∧
  (∀ (L st : List ZV) (h : PH), zev kX1_missed 21 L st h = zev kX1_missed 23 L (zvi (-2) :: st) h) ∧
  (∀ (a b : Int) (L st : List ZV) (h : PH), zev kX1_missed 23 L (zvi b :: zvi a :: st) h = if a ≠ b then zev kX1_missed 31 L st h else zev kX1_missed 26 L st h) ∧
  (∀ (L st : List ZV) (h : PH), zev kX1_missed 26 L st h = zev kX1_missed 28 L (zvi (-2) :: st) h) ∧
  (∀ (L st : List ZV) (h : PH), zev kX1_missed 28 L st h = zev kX1_missed 36 L st h) ∧
  (∀ (x0 x1 x2 x3 x4 x5 : ZV) (a : Int) (L st : List ZV) (h : PH), zev kX1_missed 31 (x0 :: x1 :: x2 :: x3 :: x4 :: x5 :: zvi a :: L) st h = zev kX1_missed 33 (x0 :: x1 :: x2 :: x3 :: x4 :: x5 :: zvi a :: L) (zvi a :: st) h) ∧
  (∀ (x0 x1 x2 x3 x4 : ZV) (a : Int) (L st : List ZV) (h : PH), zev kX1_missed 33 (x0 :: x1 :: x2 :: x3 :: x4 :: zvi a :: L) st h = zev kX1_missed 35 (x0 :: x1 :: x2 :: x3 :: x4 :: zvi a :: L) (zvi a :: st) h) ∧
  (∀ (a b : Int) (L st : List ZV) (h : PH), zev kX1_missed 35 L (zvi b :: zvi a :: st) h = zev kX1_missed 36 L (zvi (w32 (a - b)) :: st) h) ∧
  (∀ (a : Int) (L : List ZV) (h : PH), zev kX1_missed 36 L [zvi a] h = zrv (zvi a) h) :=
  ⟨fun a L st h => e_ld0R (n := 1) rfl,
  fun q L st h => e_getR (kd := 16) (k := 8) (n := 4) rfl,
  fun x0 x1 x2 x3 a L st h => e_ld4I (n := 6) rfl,
  fun L st h => e_push (v := zvi (-1)) (n := 7) rfl,
  fun L st h => e_push (v := zvi 0) (n := 8) rfl,
  fun v0 v1 v2 q L st h => e_callV4 (F := mX3_lays) (kd := 17) (n := 11) rfl,
  fun x0 a L st h => e_ld1I (n := 12) rfl,
  fun x0 x1 a L st h => e_ld2I (n := 13) rfl,
  fun x0 x1 x2 a L st h => e_ld3I (n := 14) rfl,
  fun v0 v1 v2 q L st h => e_callV4 (F := mX3_arrives) (kd := 17) (n := 17) rfl,
  fun x0 x1 x2 x3 x4 x5 x6 a L st h hx => e_st6I (n := 19) rfl hx,
  fun x0 x1 x2 x3 x4 x5 a L st h => e_ld6I (n := 21) rfl,
  fun L st h => e_push (v := zvi (-2)) (n := 23) rfl,
  fun a b L st h => e_cmpne (t := 31) (n := 26) rfl,
  fun L st h => e_push (v := zvi (-2)) (n := 28) rfl,
  fun L st h => e_goto (t := 36) rfl,
  fun x0 x1 x2 x3 x4 x5 a L st h => e_ld6I (n := 33) rfl,
  fun x0 x1 x2 x3 x4 a L st h => e_ld5I (n := 35) rfl,
  fun a b L st h => e_bin (f := (fun a b => w32 (a - b))) (n := 36) rfl,
  fun a L h => e_retI rfl⟩
theorem allX1_missed : zall yX1_missed cX1_missed 7 (some .int) 8 kX1_missed.1 :=
  ⟨k_aload_n dX1_missed_0,
  k_getR (C := RX1) (T := TX1) (N := 19) (ci := 0) (k := 8) (ref := "LinkTimes") dX1_missed_1 rfl in_X1 (by decide) q311 (Or.inl rfl) (fun _ _ _ => rfl),
  k_iload dX1_missed_4,
  k_iconst dX1_missed_6,
  k_iconst dX1_missed_7,
  k_callV (y2 := yX3_lays) (C := RX3) (T0 := TX3) (ci := 1) dX1_missed_8 sndX3_lays rfl q1342 q1343 q1344 q136 q1345 (by decide +kernel) ⟨by decide, by decide⟩ (by decide) (by decide),
  k_iload_n dX1_missed_11,
  k_iload_n dX1_missed_12,
  k_iload_n dX1_missed_13,
  k_callV (y2 := yX3_arrives) (C := RX3) (T0 := TX3) (ci := 1) dX1_missed_14 sndX3_arrives rfl q1353 q1354 q1355 q136 q1356 (by decide +kernel) ⟨by decide, by decide⟩ (by decide) (by decide),
  k_istore dX1_missed_17,
  k_iload dX1_missed_19,
  k_bipush dX1_missed_21,
  k_cmpne (t := 31) dX1_missed_23 (by decide),
  k_bipush dX1_missed_26,
  k_goto (t := 36) dX1_missed_28 (by decide),
  k_iload dX1_missed_31,
  k_iload dX1_missed_33,
  k_isub dX1_missed_35,
  k_iret dX1_missed_36, trivial⟩
theorem sndX1_missed : MSound 8 yX1_missed (ws_ yX1_missed cX1_missed 7 (some .int)) mX1_missed := msound_M (by decide) allX1_missed (fun _ _ => rfl)
/-! LinkTimes.needs(IIII)I -/
noncomputable def kX1_needs : ZM := ([(0, zi_ld 1 0 1), (1, zi_ld 0 1 2), (2, zi_ld 0 2 3), (3, zi_ld 0 3 4), (4, zi_ld 0 4 6), (6, zi_callV mX1_refusesOne 16 5 9), (9, zi_st 0 5 11), (11, zi_ld 0 5 13), (13, zi_if (fun a => zc_le a 0) 23 16), (16, zi_ld 1 0 17), (17, zi_ld 0 5 19), (19, zi_callV mX1_refused 16 2 22), (22, zi_retv 0), (23, zi_ld 1 0 24), (24, zi_callV mX1_asIs 16 1 27), (27, zi_ld 0 1 28), (28, zi_ld 0 2 29), (29, zi_ld 0 3 30), (30, zi_callV mX3_arrives 17 4 33), (33, zi_st 0 6 35), (35, zi_ld 1 0 36), (36, zi_ld 0 6 38), (38, zi_push (zvi (-2)) 40), (40, zi_cmp zc_ne 48 43), (43, zi_push (zvi (-3)) 45), (45, zi_goto 59), (48, zi_ld 1 0 49), (49, zi_ld 0 1 50), (50, zi_ld 0 2 51), (51, zi_ld 0 3 52), (52, zi_ld 0 4 54), (54, zi_ld 0 6 56), (56, zi_callV mX1_missed 16 6 59), (59, zi_callV mX1_fine 16 2 62), (62, zi_retv 0)], fun _ _ => none)
noncomputable def mX1_needs : ZF := zrunM kX1_needs 7
theorem enX1_needs (x0 : Option Nat) (x1 : Int) (x2 : Int) (x3 : Int) (x4 : Int) (h : PH) : mX1_needs [zvr x0, zvi x1, zvi x2, zvi x3, zvi x4] h = zev kX1_needs 0 [zvr x0, zvi x1, zvi x2, zvi x3, zvi x4, zvu, zvu] [] h := zrunM_eq rfl rfl
theorem rX1_needs : (∀ (a : Option Nat) (L st : List ZV) (h : PH), zev kX1_needs 0 (zvr a :: L) st h = zev kX1_needs 1 (zvr a :: L) (zvr a :: st) h) ∧
  (∀ (x0 : ZV) (a : Int) (L st : List ZV) (h : PH), zev kX1_needs 1 (x0 :: zvi a :: L) st h = zev kX1_needs 2 (x0 :: zvi a :: L) (zvi a :: st) h) ∧
  (∀ (x0 x1 : ZV) (a : Int) (L st : List ZV) (h : PH), zev kX1_needs 2 (x0 :: x1 :: zvi a :: L) st h = zev kX1_needs 3 (x0 :: x1 :: zvi a :: L) (zvi a :: st) h) ∧
  (∀ (x0 x1 x2 : ZV) (a : Int) (L st : List ZV) (h : PH), zev kX1_needs 3 (x0 :: x1 :: x2 :: zvi a :: L) st h = zev kX1_needs 4 (x0 :: x1 :: x2 :: zvi a :: L) (zvi a :: st) h) ∧
  (∀ (x0 x1 x2 x3 : ZV) (a : Int) (L st : List ZV) (h : PH), zev kX1_needs 4 (x0 :: x1 :: x2 :: x3 :: zvi a :: L) st h = zev kX1_needs 6 (x0 :: x1 :: x2 :: x3 :: zvi a :: L) (zvi a :: st) h) ∧
  (∀ (v0 v1 v2 v3 : ZV) (q : Nat) (L st : List ZV) (h : PH), zev kX1_needs 6 L (v3 :: v2 :: v1 :: v0 :: zvr (some q) :: st) h = if (ph_K h q).1 % 1000 = 16 ∧ zcat st ≤ 8 then zk kX1_needs 6 9 L st (mX1_refusesOne [zvr (some q), v0, v1, v2, v3] h) else none) ∧
  (∀ (x0 x1 x2 x3 x4 x5 : ZV) (a : Int) (L st : List ZV) (h : PH) (hx : zisL x4 = false) , zev kX1_needs 9 (x0 :: x1 :: x2 :: x3 :: x4 :: x5 :: L) (zvi a :: st) h = zev kX1_needs 11 (x0 :: x1 :: x2 :: x3 :: x4 :: zvi a :: L) st h) ∧
  (∀ (x0 x1 x2 x3 x4 : ZV) (a : Int) (L st : List ZV) (h : PH), zev kX1_needs 11 (x0 :: x1 :: x2 :: x3 :: x4 :: zvi a :: L) st h = zev kX1_needs 13 (x0 :: x1 :: x2 :: x3 :: x4 :: zvi a :: L) (zvi a :: st) h) ∧
  (∀ (a : Int) (L st : List ZV) (h : PH), zev kX1_needs 13 L (zvi a :: st) h = if a ≤ 0 then zev kX1_needs 23 L st h else zev kX1_needs 16 L st h) ∧
  (∀ (a : Option Nat) (L st : List ZV) (h : PH), zev kX1_needs 16 (zvr a :: L) st h = zev kX1_needs 17 (zvr a :: L) (zvr a :: st) h) ∧
  (∀ (x0 x1 x2 x3 x4 : ZV) (a : Int) (L st : List ZV) (h : PH), zev kX1_needs 17 (x0 :: x1 :: x2 :: x3 :: x4 :: zvi a :: L) st h = zev kX1_needs 19 (x0 :: x1 :: x2 :: x3 :: x4 :: zvi a :: L) (zvi a :: st) h) ∧
  (∀ (v0 : ZV) (q : Nat) (L st : List ZV) (h : PH), zev kX1_needs 19 L (v0 :: zvr (some q) :: st) h = if (ph_K h q).1 % 1000 = 16 ∧ zcat st ≤ 8 then zk kX1_needs 19 22 L st (mX1_refused [zvr (some q), v0] h) else none) ∧
  (∀ (a : Int) (L : List ZV) (h : PH), zev kX1_needs 22 L [zvi a] h = zrv (zvi a) h) ∧
  (∀ (a : Option Nat) (L st : List ZV) (h : PH), zev kX1_needs 23 (zvr a :: L) st h = zev kX1_needs 24 (zvr a :: L) (zvr a :: st) h) ∧
  (∀ (q : Nat) (L st : List ZV) (h : PH), zev kX1_needs 24 L (zvr (some q) :: st) h = if (ph_K h q).1 % 1000 = 16 ∧ zcat st ≤ 8 then zk kX1_needs 24 27 L st (mX1_asIs [zvr (some q)] h) else none) ∧
  (∀ (x0 : ZV) (a : Int) (L st : List ZV) (h : PH), zev kX1_needs 27 (x0 :: zvi a :: L) st h = zev kX1_needs 28 (x0 :: zvi a :: L) (zvi a :: st) h) ∧
  (∀ (x0 x1 : ZV) (a : Int) (L st : List ZV) (h : PH), zev kX1_needs 28 (x0 :: x1 :: zvi a :: L) st h = zev kX1_needs 29 (x0 :: x1 :: zvi a :: L) (zvi a :: st) h) ∧
  (∀ (x0 x1 x2 : ZV) (a : Int) (L st : List ZV) (h : PH), zev kX1_needs 29 (x0 :: x1 :: x2 :: zvi a :: L) st h = zev kX1_needs 30 (x0 :: x1 :: x2 :: zvi a :: L) (zvi a :: st) h) ∧
  (∀ (v0 v1 v2 : ZV) (q : Nat) (L st : List ZV) (h : PH), zev kX1_needs 30 L (v2 :: v1 :: v0 :: zvr (some q) :: st) h = if (ph_K h q).1 % 1000 = 17 ∧ zcat st ≤ 8 then zk kX1_needs 30 33 L st (mX3_arrives [zvr (some q), v0, v1, v2] h) else none) ∧
  (∀ (x0 x1 x2 x3 x4 x5 x6 : ZV) (a : Int) (L st : List ZV) (h : PH) (hx : zisL x5 = false) , zev kX1_needs 33 (x0 :: x1 :: x2 :: x3 :: x4 :: x5 :: x6 :: L) (zvi a :: st) h = zev kX1_needs 35 (x0 :: x1 :: x2 :: x3 :: x4 :: x5 :: zvi a :: L) st h) ∧
  (∀ (a : Option Nat) (L st : List ZV) (h : PH), zev kX1_needs 35 (zvr a :: L) st h = zev kX1_needs 36 (zvr a :: L) (zvr a :: st) h) ∧
  (∀ (x0 x1 x2 x3 x4 x5 : ZV) (a : Int) (L st : List ZV) (h : PH), zev kX1_needs 36 (x0 :: x1 :: x2 :: x3 :: x4 :: x5 :: zvi a :: L) st h = zev kX1_needs 38 (x0 :: x1 :: x2 :: x3 :: x4 :: x5 :: zvi a :: L) (zvi a :: st) h) ∧
  (∀ (L st : List ZV) (h : PH), zev kX1_needs 38 L st h = zev kX1_needs 40 L (zvi (-2) :: st) h) ∧
  (∀ (a b : Int) (L st : List ZV) (h : PH), zev kX1_needs 40 L (zvi b :: zvi a :: st) h = if a ≠ b then zev kX1_needs 48 L st h else zev kX1_needs 43 L st h) ∧
  (∀ (L st : List ZV) (h : PH), zev kX1_needs 43 L st h = zev kX1_needs 45 L (zvi (-3) :: st) h) ∧
  (∀ (L st : List ZV) (h : PH), zev kX1_needs 45 L st h = zev kX1_needs 59 L st h) ∧
  (∀ (a : Option Nat) (L st : List ZV) (h : PH), zev kX1_needs 48 (zvr a :: L) st h = zev kX1_needs 49 (zvr a :: L) (zvr a :: st) h) ∧
  (∀ (x0 : ZV) (a : Int) (L st : List ZV) (h : PH), zev kX1_needs 49 (x0 :: zvi a :: L) st h = zev kX1_needs 50 (x0 :: zvi a :: L) (zvi a :: st) h) ∧
  (∀ (x0 x1 : ZV) (a : Int) (L st : List ZV) (h : PH), zev kX1_needs 50 (x0 :: x1 :: zvi a :: L) st h = zev kX1_needs 51 (x0 :: x1 :: zvi a :: L) (zvi a :: st) h) ∧
  (∀ (x0 x1 x2 : ZV) (a : Int) (L st : List ZV) (h : PH), zev kX1_needs 51 (x0 :: x1 :: x2 :: zvi a :: L) st h = zev kX1_needs 52 (x0 :: x1 :: x2 :: zvi a :: L) (zvi a :: st) h) ∧
  (∀ (x0 x1 x2 x3 : ZV) (a : Int) (L st : List ZV) (h : PH), zev kX1_needs 52 (x0 :: x1 :: x2 :: x3 :: zvi a :: L) st h = zev kX1_needs 54 (x0 :: x1 :: x2 :: x3 :: zvi a :: L) (zvi a :: st) h) ∧
  (∀ (x0 x1 x2 x3 x4 x5 : ZV) (a : Int) (L st : List ZV) (h : PH), zev kX1_needs 54 (x0 :: x1 :: x2 :: x3 :: x4 :: x5 :: zvi a :: L) st h = zev kX1_needs 56 (x0 :: x1 :: x2 :: x3 :: x4 :: x5 :: zvi a :: L) (zvi a :: st) h) ∧
  (∀ (v0 v1 v2 v3 v4 : ZV) (q : Nat) (L st : List ZV) (h : PH), zev kX1_needs 56 L (v4 :: v3 :: v2 :: v1 :: v0 :: zvr (some q) :: st) h = if (ph_K h q).1 % 1000 = 16 ∧ zcat st ≤ 8 then zk kX1_needs 56 59 L st (mX1_missed [zvr (some q), v0, v1, v2, v3, v4] h) else none) ∧
  (∀ (v0 : ZV) (q : Nat) (L st : List ZV) (h : PH), zev kX1_needs 59 L (v0 :: zvr (some q) :: st) h = if (ph_K h q).1 % 1000 = 16 ∧ zcat st ≤ 8 then zk kX1_needs 59 62 L st (mX1_fine [zvr (some q), v0] h) else none) ∧
  (∀ (a : Int) (L : List ZV) (h : PH), zev kX1_needs 62 L [zvi a] h = zrv (zvi a) h) :=
  ⟨fun a L st h => e_ld0R (n := 1) rfl,
  fun x0 a L st h => e_ld1I (n := 2) rfl,
  fun x0 x1 a L st h => e_ld2I (n := 3) rfl,
  fun x0 x1 x2 a L st h => e_ld3I (n := 4) rfl,
  fun x0 x1 x2 x3 a L st h => e_ld4I (n := 6) rfl,
  fun v0 v1 v2 v3 q L st h => e_callV5 (F := mX1_refusesOne) (kd := 16) (n := 9) rfl,
  fun x0 x1 x2 x3 x4 x5 a L st h hx => e_st5I (n := 11) rfl hx,
  fun x0 x1 x2 x3 x4 a L st h => e_ld5I (n := 13) rfl,
  fun a L st h => e_ifle (t := 23) (n := 16) rfl,
  fun a L st h => e_ld0R (n := 17) rfl,
  fun x0 x1 x2 x3 x4 a L st h => e_ld5I (n := 19) rfl,
  fun v0 q L st h => e_callV2 (F := mX1_refused) (kd := 16) (n := 22) rfl,
  fun a L h => e_retI rfl,
  fun a L st h => e_ld0R (n := 24) rfl,
  fun q L st h => e_callV1 (F := mX1_asIs) (kd := 16) (n := 27) rfl,
  fun x0 a L st h => e_ld1I (n := 28) rfl,
  fun x0 x1 a L st h => e_ld2I (n := 29) rfl,
  fun x0 x1 x2 a L st h => e_ld3I (n := 30) rfl,
  fun v0 v1 v2 q L st h => e_callV4 (F := mX3_arrives) (kd := 17) (n := 33) rfl,
  fun x0 x1 x2 x3 x4 x5 x6 a L st h hx => e_st6I (n := 35) rfl hx,
  fun a L st h => e_ld0R (n := 36) rfl,
  fun x0 x1 x2 x3 x4 x5 a L st h => e_ld6I (n := 38) rfl,
  fun L st h => e_push (v := zvi (-2)) (n := 40) rfl,
  fun a b L st h => e_cmpne (t := 48) (n := 43) rfl,
  fun L st h => e_push (v := zvi (-3)) (n := 45) rfl,
  fun L st h => e_goto (t := 59) rfl,
  fun a L st h => e_ld0R (n := 49) rfl,
  fun x0 a L st h => e_ld1I (n := 50) rfl,
  fun x0 x1 a L st h => e_ld2I (n := 51) rfl,
  fun x0 x1 x2 a L st h => e_ld3I (n := 52) rfl,
  fun x0 x1 x2 x3 a L st h => e_ld4I (n := 54) rfl,
  fun x0 x1 x2 x3 x4 x5 a L st h => e_ld6I (n := 56) rfl,
  fun v0 v1 v2 v3 v4 q L st h => e_callV6 (F := mX1_missed) (kd := 16) (n := 59) rfl,
  fun v0 q L st h => e_callV2 (F := mX1_fine) (kd := 16) (n := 62) rfl,
  fun a L h => e_retI rfl⟩
theorem allX1_needs : zall yX1_needs cX1_needs 7 (some .int) 9 kX1_needs.1 :=
  ⟨k_aload_n dX1_needs_0,
  k_iload_n dX1_needs_1,
  k_iload_n dX1_needs_2,
  k_iload_n dX1_needs_3,
  k_iload dX1_needs_4,
  k_callV (y2 := yX1_refusesOne) (C := RX1) (T0 := TX1) (ci := 0) dX1_needs_6 sndX1_refusesOne rfl q1550 q1552 qs55 q128 q1553 (by decide +kernel) ⟨by decide, by decide⟩ (by decide) (by decide),
  k_istore dX1_needs_9,
  k_iload dX1_needs_11,
  k_ifle (t := 23) dX1_needs_13 (by decide),
  k_aload_n dX1_needs_16,
  k_iload dX1_needs_17,
  k_callV (y2 := yX1_refused) (C := RX1) (T0 := TX1) (ci := 0) dX1_needs_19 sndX1_refused rfl q378 q380 qs1 q128 q381 (by decide +kernel) ⟨by decide, by decide⟩ (by decide) (by decide),
  k_iret dX1_needs_22,
  k_aload_n dX1_needs_23,
  k_callV (y2 := yX1_asIs) (C := RX1) (T0 := TX1) (ci := 0) dX1_needs_24 sndX1_asIs rfl q1338 q1340 qs37 q128 q1341 (by decide +kernel) ⟨by decide, by decide⟩ (by decide) (by decide),
  k_iload_n dX1_needs_27,
  k_iload_n dX1_needs_28,
  k_iload_n dX1_needs_29,
  k_callV (y2 := yX3_arrives) (C := RX3) (T0 := TX3) (ci := 1) dX1_needs_30 sndX3_arrives rfl q1353 q1354 q1355 q136 q1356 (by decide +kernel) ⟨by decide, by decide⟩ (by decide) (by decide),
  k_istore dX1_needs_33,
  k_aload_n dX1_needs_35,
  k_iload dX1_needs_36,
  k_bipush dX1_needs_38,
  k_cmpne (t := 48) dX1_needs_40 (by decide),
  k_bipush dX1_needs_43,
  k_goto (t := 59) dX1_needs_45 (by decide),
  k_aload_n dX1_needs_48,
  k_iload_n dX1_needs_49,
  k_iload_n dX1_needs_50,
  k_iload_n dX1_needs_51,
  k_iload dX1_needs_52,
  k_iload dX1_needs_54,
  k_callV (y2 := yX1_missed) (C := RX1) (T0 := TX1) (ci := 0) dX1_needs_56 sndX1_missed rfl q1554 q1556 qs56 q128 q1557 (by decide +kernel) ⟨by decide, by decide⟩ (by decide) (by decide),
  k_callV (y2 := yX1_fine) (C := RX1) (T0 := TX1) (ci := 0) dX1_needs_59 sndX1_fine rfl q1211 q1213 qs32 q128 q1214 (by decide +kernel) ⟨by decide, by decide⟩ (by decide) (by decide),
  k_iret dX1_needs_62, trivial⟩
theorem sndX1_needs : MSound 9 yX1_needs (ws_ yX1_needs cX1_needs 7 (some .int)) mX1_needs := msound_M (by decide) allX1_needs (fun _ _ => rfl)
/-! LinkTimes.vital(III)I -/
noncomputable def kX1_vital : ZM := ([(0, zi_ld 1 0 1), (1, zi_ld 0 1 2), (2, zi_ld 0 2 3), (3, zi_ld 0 3 4), (4, zi_callV mX1_refuses 16 4 7), (7, zi_st 0 4 9), (9, zi_ld 0 4 11), (11, zi_if (fun a => zc_le a 0) 21 14), (14, zi_ld 1 0 15), (15, zi_ld 0 4 17), (17, zi_callV mX1_refused 16 2 20), (20, zi_retv 0), (21, zi_ld 1 0 22), (22, zi_callV mX1_asIs 16 1 25), (25, zi_ld 0 1 26), (26, zi_ld 0 2 27), (27, zi_ld 0 3 28), (28, zi_callV mX3_arrives 17 4 31), (31, zi_st 0 5 33), (33, zi_ld 0 5 35), (35, zi_push (zvi (-2)) 37), (37, zi_cmp zc_ne 47 40), (40, zi_ld 1 0 41), (41, zi_push (zvi (-2)) 43), (43, zi_callV mX1_fine 16 2 46), (46, zi_retv 0), (47, zi_push (zvi 0) 48), (48, zi_st 0 6 50), (50, zi_push (zvi 0) 51), (51, zi_st 0 7 53), (53, zi_ld 0 7 55), (55, zi_ld 1 0 56), (56, zi_getR 16 5 59), (59, zi_getR 20 4 62), (62, zi_callV mJ7_size 29 1 65), (65, zi_cmp zc_ge 112 68), (68, zi_ld 1 0 69), (69, zi_getR 16 5 72), (72, zi_getR 20 4 75), (75, zi_ld 0 7 77), (77, zi_callV mJ7_get 29 2 80), (80, zi_cast zokDep 83), (83, zi_getI 22 8 86), (86, zi_if (fun a => zc_eq a 0) 106 89), (89, zi_ld 1 0 90), (90, zi_ld 0 1 91), (91, zi_ld 0 2 92), (92, zi_ld 0 3 93), (93, zi_ld 0 7 95), (95, zi_ld 0 5 97), (97, zi_callV mX1_missed 16 6 100), (100, zi_if (fun a => zc_eq a 0) 106 103), (103, zi_iinc 6 1 106), (106, zi_iinc 7 1 109), (109, zi_goto 53), (112, zi_ld 1 0 113), (113, zi_ld 0 6 115), (115, zi_callV mX1_fine 16 2 118), (118, zi_retv 0)], fun _ _ => none)
noncomputable def mX1_vital : ZF := zrunM kX1_vital 8
theorem enX1_vital (x0 : Option Nat) (x1 : Int) (x2 : Int) (x3 : Int) (h : PH) : mX1_vital [zvr x0, zvi x1, zvi x2, zvi x3] h = zev kX1_vital 0 [zvr x0, zvi x1, zvi x2, zvi x3, zvu, zvu, zvu, zvu] [] h := zrunM_eq rfl rfl
theorem hdX1_vital_53 (x0 x1 x2 x3 x4 x5 x6 : ZV) (a : Int) (L st : List ZV) (h : PH) : zev kX1_vital 53 (x0 :: x1 :: x2 :: x3 :: x4 :: x5 :: x6 :: zvi a :: L) st h = zev kX1_vital 55 (x0 :: x1 :: x2 :: x3 :: x4 :: x5 :: x6 :: zvi a :: L) (zvi a :: st) h := e_ld7I (n := 55) rfl
theorem rX1_vital : (∀ (a : Option Nat) (L st : List ZV) (h : PH), zev kX1_vital 0 (zvr a :: L) st h = zev kX1_vital 1 (zvr a :: L) (zvr a :: st) h) ∧
  (∀ (x0 : ZV) (a : Int) (L st : List ZV) (h : PH), zev kX1_vital 1 (x0 :: zvi a :: L) st h = zev kX1_vital 2 (x0 :: zvi a :: L) (zvi a :: st) h) ∧
  (∀ (x0 x1 : ZV) (a : Int) (L st : List ZV) (h : PH), zev kX1_vital 2 (x0 :: x1 :: zvi a :: L) st h = zev kX1_vital 3 (x0 :: x1 :: zvi a :: L) (zvi a :: st) h) ∧
  (∀ (x0 x1 x2 : ZV) (a : Int) (L st : List ZV) (h : PH), zev kX1_vital 3 (x0 :: x1 :: x2 :: zvi a :: L) st h = zev kX1_vital 4 (x0 :: x1 :: x2 :: zvi a :: L) (zvi a :: st) h) ∧
  (∀ (v0 v1 v2 : ZV) (q : Nat) (L st : List ZV) (h : PH), zev kX1_vital 4 L (v2 :: v1 :: v0 :: zvr (some q) :: st) h = if (ph_K h q).1 % 1000 = 16 ∧ zcat st ≤ 8 then zk kX1_vital 4 7 L st (mX1_refuses [zvr (some q), v0, v1, v2] h) else none) ∧
  (∀ (x0 x1 x2 x3 x4 : ZV) (a : Int) (L st : List ZV) (h : PH) (hx : zisL x3 = false) , zev kX1_vital 7 (x0 :: x1 :: x2 :: x3 :: x4 :: L) (zvi a :: st) h = zev kX1_vital 9 (x0 :: x1 :: x2 :: x3 :: zvi a :: L) st h) ∧
  (∀ (x0 x1 x2 x3 : ZV) (a : Int) (L st : List ZV) (h : PH), zev kX1_vital 9 (x0 :: x1 :: x2 :: x3 :: zvi a :: L) st h = zev kX1_vital 11 (x0 :: x1 :: x2 :: x3 :: zvi a :: L) (zvi a :: st) h) ∧
  (∀ (a : Int) (L st : List ZV) (h : PH), zev kX1_vital 11 L (zvi a :: st) h = if a ≤ 0 then zev kX1_vital 21 L st h else zev kX1_vital 14 L st h) ∧
  (∀ (a : Option Nat) (L st : List ZV) (h : PH), zev kX1_vital 14 (zvr a :: L) st h = zev kX1_vital 15 (zvr a :: L) (zvr a :: st) h) ∧
  (∀ (x0 x1 x2 x3 : ZV) (a : Int) (L st : List ZV) (h : PH), zev kX1_vital 15 (x0 :: x1 :: x2 :: x3 :: zvi a :: L) st h = zev kX1_vital 17 (x0 :: x1 :: x2 :: x3 :: zvi a :: L) (zvi a :: st) h) ∧
  (∀ (v0 : ZV) (q : Nat) (L st : List ZV) (h : PH), zev kX1_vital 17 L (v0 :: zvr (some q) :: st) h = if (ph_K h q).1 % 1000 = 16 ∧ zcat st ≤ 8 then zk kX1_vital 17 20 L st (mX1_refused [zvr (some q), v0] h) else none) ∧
  (∀ (a : Int) (L : List ZV) (h : PH), zev kX1_vital 20 L [zvi a] h = zrv (zvi a) h) ∧
  (∀ (a : Option Nat) (L st : List ZV) (h : PH), zev kX1_vital 21 (zvr a :: L) st h = zev kX1_vital 22 (zvr a :: L) (zvr a :: st) h) ∧
  (∀ (q : Nat) (L st : List ZV) (h : PH), zev kX1_vital 22 L (zvr (some q) :: st) h = if (ph_K h q).1 % 1000 = 16 ∧ zcat st ≤ 8 then zk kX1_vital 22 25 L st (mX1_asIs [zvr (some q)] h) else none) ∧
  (∀ (x0 : ZV) (a : Int) (L st : List ZV) (h : PH), zev kX1_vital 25 (x0 :: zvi a :: L) st h = zev kX1_vital 26 (x0 :: zvi a :: L) (zvi a :: st) h) ∧
  (∀ (x0 x1 : ZV) (a : Int) (L st : List ZV) (h : PH), zev kX1_vital 26 (x0 :: x1 :: zvi a :: L) st h = zev kX1_vital 27 (x0 :: x1 :: zvi a :: L) (zvi a :: st) h) ∧
  (∀ (x0 x1 x2 : ZV) (a : Int) (L st : List ZV) (h : PH), zev kX1_vital 27 (x0 :: x1 :: x2 :: zvi a :: L) st h = zev kX1_vital 28 (x0 :: x1 :: x2 :: zvi a :: L) (zvi a :: st) h) ∧
  (∀ (v0 v1 v2 : ZV) (q : Nat) (L st : List ZV) (h : PH), zev kX1_vital 28 L (v2 :: v1 :: v0 :: zvr (some q) :: st) h = if (ph_K h q).1 % 1000 = 17 ∧ zcat st ≤ 8 then zk kX1_vital 28 31 L st (mX3_arrives [zvr (some q), v0, v1, v2] h) else none) ∧
  (∀ (x0 x1 x2 x3 x4 x5 : ZV) (a : Int) (L st : List ZV) (h : PH) (hx : zisL x4 = false) , zev kX1_vital 31 (x0 :: x1 :: x2 :: x3 :: x4 :: x5 :: L) (zvi a :: st) h = zev kX1_vital 33 (x0 :: x1 :: x2 :: x3 :: x4 :: zvi a :: L) st h) ∧
  (∀ (x0 x1 x2 x3 x4 : ZV) (a : Int) (L st : List ZV) (h : PH), zev kX1_vital 33 (x0 :: x1 :: x2 :: x3 :: x4 :: zvi a :: L) st h = zev kX1_vital 35 (x0 :: x1 :: x2 :: x3 :: x4 :: zvi a :: L) (zvi a :: st) h) ∧
  (∀ (L st : List ZV) (h : PH), zev kX1_vital 35 L st h = zev kX1_vital 37 L (zvi (-2) :: st) h) ∧
  (∀ (a b : Int) (L st : List ZV) (h : PH), zev kX1_vital 37 L (zvi b :: zvi a :: st) h = if a ≠ b then zev kX1_vital 47 L st h else zev kX1_vital 40 L st h) ∧
  (∀ (a : Option Nat) (L st : List ZV) (h : PH), zev kX1_vital 40 (zvr a :: L) st h = zev kX1_vital 41 (zvr a :: L) (zvr a :: st) h) ∧
  (∀ (L st : List ZV) (h : PH), zev kX1_vital 41 L st h = zev kX1_vital 43 L (zvi (-2) :: st) h) ∧
  (∀ (v0 : ZV) (q : Nat) (L st : List ZV) (h : PH), zev kX1_vital 43 L (v0 :: zvr (some q) :: st) h = if (ph_K h q).1 % 1000 = 16 ∧ zcat st ≤ 8 then zk kX1_vital 43 46 L st (mX1_fine [zvr (some q), v0] h) else none) ∧
  (∀ (a : Int) (L : List ZV) (h : PH), zev kX1_vital 46 L [zvi a] h = zrv (zvi a) h) ∧
  (∀ (L st : List ZV) (h : PH), zev kX1_vital 47 L st h = zev kX1_vital 48 L (zvi 0 :: st) h) ∧
  (∀ (x0 x1 x2 x3 x4 x5 x6 : ZV) (a : Int) (L st : List ZV) (h : PH) (hx : zisL x5 = false) , zev kX1_vital 48 (x0 :: x1 :: x2 :: x3 :: x4 :: x5 :: x6 :: L) (zvi a :: st) h = zev kX1_vital 50 (x0 :: x1 :: x2 :: x3 :: x4 :: x5 :: zvi a :: L) st h) ∧
  (∀ (L st : List ZV) (h : PH), zev kX1_vital 50 L st h = zev kX1_vital 51 L (zvi 0 :: st) h) ∧
  (∀ (x0 x1 x2 x3 x4 x5 x6 x7 : ZV) (a : Int) (L st : List ZV) (h : PH) (hx : zisL x6 = false) , zev kX1_vital 51 (x0 :: x1 :: x2 :: x3 :: x4 :: x5 :: x6 :: x7 :: L) (zvi a :: st) h = zev kX1_vital 53 (x0 :: x1 :: x2 :: x3 :: x4 :: x5 :: x6 :: zvi a :: L) st h) ∧
  (∀ (a : Option Nat) (L st : List ZV) (h : PH), zev kX1_vital 55 (zvr a :: L) st h = zev kX1_vital 56 (zvr a :: L) (zvr a :: st) h) ∧
  (∀ (q : Nat) (L st : List ZV) (h : PH), zev kX1_vital 56 L (zvr (some q) :: st) h = if (ph_K h q).1 % 1000 = 16 then zev kX1_vital 59 L (zvr (ph_R h q 5) :: st) h else none) ∧
  (∀ (q : Nat) (L st : List ZV) (h : PH), zev kX1_vital 59 L (zvr (some q) :: st) h = if (ph_K h q).1 % 1000 = 20 then zev kX1_vital 62 L (zvr (ph_R h q 4) :: st) h else none) ∧
  (∀ (q : Nat) (L st : List ZV) (h : PH), zev kX1_vital 62 L (zvr (some q) :: st) h = if (ph_K h q).1 % 1000 = 29 ∧ zcat st ≤ 8 then zk kX1_vital 62 65 L st (mJ7_size [zvr (some q)] h) else none) ∧
  (∀ (a b : Int) (L st : List ZV) (h : PH), zev kX1_vital 65 L (zvi b :: zvi a :: st) h = if a ≥ b then zev kX1_vital 112 L st h else zev kX1_vital 68 L st h) ∧
  (∀ (a : Option Nat) (L st : List ZV) (h : PH), zev kX1_vital 68 (zvr a :: L) st h = zev kX1_vital 69 (zvr a :: L) (zvr a :: st) h) ∧
  (∀ (q : Nat) (L st : List ZV) (h : PH), zev kX1_vital 69 L (zvr (some q) :: st) h = if (ph_K h q).1 % 1000 = 16 then zev kX1_vital 72 L (zvr (ph_R h q 5) :: st) h else none) ∧
  (∀ (q : Nat) (L st : List ZV) (h : PH), zev kX1_vital 72 L (zvr (some q) :: st) h = if (ph_K h q).1 % 1000 = 20 then zev kX1_vital 75 L (zvr (ph_R h q 4) :: st) h else none) ∧
  (∀ (x0 x1 x2 x3 x4 x5 x6 : ZV) (a : Int) (L st : List ZV) (h : PH), zev kX1_vital 75 (x0 :: x1 :: x2 :: x3 :: x4 :: x5 :: x6 :: zvi a :: L) st h = zev kX1_vital 77 (x0 :: x1 :: x2 :: x3 :: x4 :: x5 :: x6 :: zvi a :: L) (zvi a :: st) h) ∧
  (∀ (v0 : ZV) (q : Nat) (L st : List ZV) (h : PH), zev kX1_vital 77 L (v0 :: zvr (some q) :: st) h = if (ph_K h q).1 % 1000 = 29 ∧ zcat st ≤ 8 then zk kX1_vital 77 80 L st (mJ7_get [zvr (some q), v0] h) else none) ∧
  (∀ (L st : List ZV) (h : PH), zev kX1_vital 80 L (zvr none :: st) h = zev kX1_vital 83 L (zvr none :: st) h) ∧
  (∀ (q : Nat) (L st : List ZV) (h : PH), zev kX1_vital 80 L (zvr (some q) :: st) h = if zokDep (ph_K h q).1 = true then zev kX1_vital 83 L (zvr (some q) :: st) h else none) ∧
  (∀ (q : Nat) (L st : List ZV) (h : PH), zev kX1_vital 83 L (zvr (some q) :: st) h = if (ph_K h q).1 % 1000 = 22 then zev kX1_vital 86 L (zvi (ph_I h q 8) :: st) h else none) ∧
  (∀ (a : Int) (L st : List ZV) (h : PH), zev kX1_vital 86 L (zvi a :: st) h = if a = 0 then zev kX1_vital 106 L st h else zev kX1_vital 89 L st h) ∧
  (∀ (a : Option Nat) (L st : List ZV) (h : PH), zev kX1_vital 89 (zvr a :: L) st h = zev kX1_vital 90 (zvr a :: L) (zvr a :: st) h) ∧
  (∀ (x0 : ZV) (a : Int) (L st : List ZV) (h : PH), zev kX1_vital 90 (x0 :: zvi a :: L) st h = zev kX1_vital 91 (x0 :: zvi a :: L) (zvi a :: st) h) ∧
  (∀ (x0 x1 : ZV) (a : Int) (L st : List ZV) (h : PH), zev kX1_vital 91 (x0 :: x1 :: zvi a :: L) st h = zev kX1_vital 92 (x0 :: x1 :: zvi a :: L) (zvi a :: st) h) ∧
  (∀ (x0 x1 x2 : ZV) (a : Int) (L st : List ZV) (h : PH), zev kX1_vital 92 (x0 :: x1 :: x2 :: zvi a :: L) st h = zev kX1_vital 93 (x0 :: x1 :: x2 :: zvi a :: L) (zvi a :: st) h) ∧
  (∀ (x0 x1 x2 x3 x4 x5 x6 : ZV) (a : Int) (L st : List ZV) (h : PH), zev kX1_vital 93 (x0 :: x1 :: x2 :: x3 :: x4 :: x5 :: x6 :: zvi a :: L) st h = zev kX1_vital 95 (x0 :: x1 :: x2 :: x3 :: x4 :: x5 :: x6 :: zvi a :: L) (zvi a :: st) h) ∧
  (∀ (x0 x1 x2 x3 x4 : ZV) (a : Int) (L st : List ZV) (h : PH), zev kX1_vital 95 (x0 :: x1 :: x2 :: x3 :: x4 :: zvi a :: L) st h = zev kX1_vital 97 (x0 :: x1 :: x2 :: x3 :: x4 :: zvi a :: L) (zvi a :: st) h) ∧
  (∀ (v0 v1 v2 v3 v4 : ZV) (q : Nat) (L st : List ZV) (h : PH), zev kX1_vital 97 L (v4 :: v3 :: v2 :: v1 :: v0 :: zvr (some q) :: st) h = if (ph_K h q).1 % 1000 = 16 ∧ zcat st ≤ 8 then zk kX1_vital 97 100 L st (mX1_missed [zvr (some q), v0, v1, v2, v3, v4] h) else none) ∧
  (∀ (a : Int) (L st : List ZV) (h : PH), zev kX1_vital 100 L (zvi a :: st) h = if a = 0 then zev kX1_vital 106 L st h else zev kX1_vital 103 L st h) ∧
  (∀ (x0 x1 x2 x3 x4 x5 : ZV) (a : Int) (L st : List ZV) (h : PH) (hx : zisL x5 = false) , zev kX1_vital 103 (x0 :: x1 :: x2 :: x3 :: x4 :: x5 :: zvi a :: L) st h = zev kX1_vital 106 (x0 :: x1 :: x2 :: x3 :: x4 :: x5 :: zvi (w32 (a + 1)) :: L) st h) ∧
  (∀ (x0 x1 x2 x3 x4 x5 x6 : ZV) (a : Int) (L st : List ZV) (h : PH) (hx : zisL x6 = false) , zev kX1_vital 106 (x0 :: x1 :: x2 :: x3 :: x4 :: x5 :: x6 :: zvi a :: L) st h = zev kX1_vital 109 (x0 :: x1 :: x2 :: x3 :: x4 :: x5 :: x6 :: zvi (w32 (a + 1)) :: L) st h) ∧
  (∀ (L st : List ZV) (h : PH), zev kX1_vital 109 L st h = zev kX1_vital 53 L st h) ∧
  (∀ (a : Option Nat) (L st : List ZV) (h : PH), zev kX1_vital 112 (zvr a :: L) st h = zev kX1_vital 113 (zvr a :: L) (zvr a :: st) h) ∧
  (∀ (x0 x1 x2 x3 x4 x5 : ZV) (a : Int) (L st : List ZV) (h : PH), zev kX1_vital 113 (x0 :: x1 :: x2 :: x3 :: x4 :: x5 :: zvi a :: L) st h = zev kX1_vital 115 (x0 :: x1 :: x2 :: x3 :: x4 :: x5 :: zvi a :: L) (zvi a :: st) h) ∧
  (∀ (v0 : ZV) (q : Nat) (L st : List ZV) (h : PH), zev kX1_vital 115 L (v0 :: zvr (some q) :: st) h = if (ph_K h q).1 % 1000 = 16 ∧ zcat st ≤ 8 then zk kX1_vital 115 118 L st (mX1_fine [zvr (some q), v0] h) else none) ∧
  (∀ (a : Int) (L : List ZV) (h : PH), zev kX1_vital 118 L [zvi a] h = zrv (zvi a) h) :=
  ⟨fun a L st h => e_ld0R (n := 1) rfl,
  fun x0 a L st h => e_ld1I (n := 2) rfl,
  fun x0 x1 a L st h => e_ld2I (n := 3) rfl,
  fun x0 x1 x2 a L st h => e_ld3I (n := 4) rfl,
  fun v0 v1 v2 q L st h => e_callV4 (F := mX1_refuses) (kd := 16) (n := 7) rfl,
  fun x0 x1 x2 x3 x4 a L st h hx => e_st4I (n := 9) rfl hx,
  fun x0 x1 x2 x3 a L st h => e_ld4I (n := 11) rfl,
  fun a L st h => e_ifle (t := 21) (n := 14) rfl,
  fun a L st h => e_ld0R (n := 15) rfl,
  fun x0 x1 x2 x3 a L st h => e_ld4I (n := 17) rfl,
  fun v0 q L st h => e_callV2 (F := mX1_refused) (kd := 16) (n := 20) rfl,
  fun a L h => e_retI rfl,
  fun a L st h => e_ld0R (n := 22) rfl,
  fun q L st h => e_callV1 (F := mX1_asIs) (kd := 16) (n := 25) rfl,
  fun x0 a L st h => e_ld1I (n := 26) rfl,
  fun x0 x1 a L st h => e_ld2I (n := 27) rfl,
  fun x0 x1 x2 a L st h => e_ld3I (n := 28) rfl,
  fun v0 v1 v2 q L st h => e_callV4 (F := mX3_arrives) (kd := 17) (n := 31) rfl,
  fun x0 x1 x2 x3 x4 x5 a L st h hx => e_st5I (n := 33) rfl hx,
  fun x0 x1 x2 x3 x4 a L st h => e_ld5I (n := 35) rfl,
  fun L st h => e_push (v := zvi (-2)) (n := 37) rfl,
  fun a b L st h => e_cmpne (t := 47) (n := 40) rfl,
  fun a L st h => e_ld0R (n := 41) rfl,
  fun L st h => e_push (v := zvi (-2)) (n := 43) rfl,
  fun v0 q L st h => e_callV2 (F := mX1_fine) (kd := 16) (n := 46) rfl,
  fun a L h => e_retI rfl,
  fun L st h => e_push (v := zvi 0) (n := 48) rfl,
  fun x0 x1 x2 x3 x4 x5 x6 a L st h hx => e_st6I (n := 50) rfl hx,
  fun L st h => e_push (v := zvi 0) (n := 51) rfl,
  fun x0 x1 x2 x3 x4 x5 x6 x7 a L st h hx => e_st7I (n := 53) rfl hx,
  fun a L st h => e_ld0R (n := 56) rfl,
  fun q L st h => e_getR (kd := 16) (k := 5) (n := 59) rfl,
  fun q L st h => e_getR (kd := 20) (k := 4) (n := 62) rfl,
  fun q L st h => e_callV1 (F := mJ7_size) (kd := 29) (n := 65) rfl,
  fun a b L st h => e_cmpge (t := 112) (n := 68) rfl,
  fun a L st h => e_ld0R (n := 69) rfl,
  fun q L st h => e_getR (kd := 16) (k := 5) (n := 72) rfl,
  fun q L st h => e_getR (kd := 20) (k := 4) (n := 75) rfl,
  fun x0 x1 x2 x3 x4 x5 x6 a L st h => e_ld7I (n := 77) rfl,
  fun v0 q L st h => e_callV2 (F := mJ7_get) (kd := 29) (n := 80) rfl,
  fun L st h => e_cast0 (ok := zokDep) (n := 83) rfl,
  fun q L st h => e_cast1 (ok := zokDep) (n := 83) rfl,
  fun q L st h => e_getI (kd := 22) (k := 8) (n := 86) rfl,
  fun a L st h => e_ifeq (t := 106) (n := 89) rfl,
  fun a L st h => e_ld0R (n := 90) rfl,
  fun x0 a L st h => e_ld1I (n := 91) rfl,
  fun x0 x1 a L st h => e_ld2I (n := 92) rfl,
  fun x0 x1 x2 a L st h => e_ld3I (n := 93) rfl,
  fun x0 x1 x2 x3 x4 x5 x6 a L st h => e_ld7I (n := 95) rfl,
  fun x0 x1 x2 x3 x4 a L st h => e_ld5I (n := 97) rfl,
  fun v0 v1 v2 v3 v4 q L st h => e_callV6 (F := mX1_missed) (kd := 16) (n := 100) rfl,
  fun a L st h => e_ifeq (t := 106) (n := 103) rfl,
  fun x0 x1 x2 x3 x4 x5 a L st h hx => e_iinc6 (d := 1) (n := 106) rfl hx,
  fun x0 x1 x2 x3 x4 x5 x6 a L st h hx => e_iinc7 (d := 1) (n := 109) rfl hx,
  fun L st h => e_goto (t := 53) rfl,
  fun a L st h => e_ld0R (n := 113) rfl,
  fun x0 x1 x2 x3 x4 x5 a L st h => e_ld6I (n := 115) rfl,
  fun v0 q L st h => e_callV2 (F := mX1_fine) (kd := 16) (n := 118) rfl,
  fun a L h => e_retI rfl⟩
theorem allX1_vital : zall yX1_vital cX1_vital 8 (some .int) 9 kX1_vital.1 :=
  ⟨k_aload_n dX1_vital_0,
  k_iload_n dX1_vital_1,
  k_iload_n dX1_vital_2,
  k_iload_n dX1_vital_3,
  k_callV (y2 := yX1_refuses) (C := RX1) (T0 := TX1) (ci := 0) dX1_vital_4 sndX1_refuses rfl q1334 q1336 qs36 q128 q1337 (by decide +kernel) ⟨by decide, by decide⟩ (by decide) (by decide),
  k_istore dX1_vital_7,
  k_iload dX1_vital_9,
  k_ifle (t := 21) dX1_vital_11 (by decide),
  k_aload_n dX1_vital_14,
  k_iload dX1_vital_15,
  k_callV (y2 := yX1_refused) (C := RX1) (T0 := TX1) (ci := 0) dX1_vital_17 sndX1_refused rfl q378 q380 qs1 q128 q381 (by decide +kernel) ⟨by decide, by decide⟩ (by decide) (by decide),
  k_iret dX1_vital_20,
  k_aload_n dX1_vital_21,
  k_callV (y2 := yX1_asIs) (C := RX1) (T0 := TX1) (ci := 0) dX1_vital_22 sndX1_asIs rfl q1338 q1340 qs37 q128 q1341 (by decide +kernel) ⟨by decide, by decide⟩ (by decide) (by decide),
  k_iload_n dX1_vital_25,
  k_iload_n dX1_vital_26,
  k_iload_n dX1_vital_27,
  k_callV (y2 := yX3_arrives) (C := RX3) (T0 := TX3) (ci := 1) dX1_vital_28 sndX3_arrives rfl q1353 q1354 q1355 q136 q1356 (by decide +kernel) ⟨by decide, by decide⟩ (by decide) (by decide),
  k_istore dX1_vital_31,
  k_iload dX1_vital_33,
  k_bipush dX1_vital_35,
  k_cmpne (t := 47) dX1_vital_37 (by decide),
  k_aload_n dX1_vital_40,
  k_bipush dX1_vital_41,
  k_callV (y2 := yX1_fine) (C := RX1) (T0 := TX1) (ci := 0) dX1_vital_43 sndX1_fine rfl q1211 q1213 qs32 q128 q1214 (by decide +kernel) ⟨by decide, by decide⟩ (by decide) (by decide),
  k_iret dX1_vital_46,
  k_iconst dX1_vital_47,
  k_istore dX1_vital_48,
  k_iconst dX1_vital_50,
  k_istore dX1_vital_51,
  k_iload dX1_vital_53,
  k_aload_n dX1_vital_55,
  k_getR (C := RX1) (T := TX1) (N := 19) (ci := 0) (k := 5) (ref := "LinkTimes") dX1_vital_56 rfl in_X1 (by decide) q308 (Or.inl rfl) (fun _ _ _ => rfl),
  k_getRN (C := RX6) (T := TX6) (N := 5) (ci := 4) (k := 4) (ref := "LinkTimes$Desk") dX1_vital_59 rfl in_X6 (by decide) q430 (Or.inl rfl) (fun _ _ _ => rfl),
  k_callV (y2 := yJ7_size) (C := RJ7) (T0 := TJ7) (ci := 13) dX1_vital_62 sndJ7_size rfl q936 q652 q653 q141 q654 (by decide +kernel) ⟨by decide, by decide⟩ (by decide) (by decide),
  k_cmpge (t := 112) dX1_vital_65 (by decide),
  k_aload_n dX1_vital_68,
  k_getR (C := RX1) (T := TX1) (N := 19) (ci := 0) (k := 5) (ref := "LinkTimes") dX1_vital_69 rfl in_X1 (by decide) q308 (Or.inl rfl) (fun _ _ _ => rfl),
  k_getRN (C := RX6) (T := TX6) (N := 5) (ci := 4) (k := 4) (ref := "LinkTimes$Desk") dX1_vital_72 rfl in_X6 (by decide) q430 (Or.inl rfl) (fun _ _ _ => rfl),
  k_iload dX1_vital_75,
  k_callV (y2 := yJ7_get) (C := RJ7) (T0 := TJ7) (ci := 13) dX1_vital_77 sndJ7_get rfl q937 q695 q696 q141 q697 (by decide +kernel) ⟨by decide, by decide⟩ (by decide) (by decide),
  k_cast (nm := "LinkTimes$Departure") dX1_vital_80 q938 zokDep_can,
  k_getIN (C := RX11) (T := TX11) (N := 9) (ci := 6) (k := 8) (ref := "LinkTimes$Departure") dX1_vital_83 rfl in_X11 (by decide) q871 (Or.inl rfl) (fun _ _ _ => rfl),
  k_ifeq (t := 106) dX1_vital_86 (by decide),
  k_aload_n dX1_vital_89,
  k_iload_n dX1_vital_90,
  k_iload_n dX1_vital_91,
  k_iload_n dX1_vital_92,
  k_iload dX1_vital_93,
  k_iload dX1_vital_95,
  k_callV (y2 := yX1_missed) (C := RX1) (T0 := TX1) (ci := 0) dX1_vital_97 sndX1_missed rfl q1554 q1556 qs56 q128 q1557 (by decide +kernel) ⟨by decide, by decide⟩ (by decide) (by decide),
  k_ifeq (t := 106) dX1_vital_100 (by decide),
  k_iinc dX1_vital_103,
  k_iinc dX1_vital_106,
  k_goto (t := 53) dX1_vital_109 (by decide),
  k_aload_n dX1_vital_112,
  k_iload dX1_vital_113,
  k_callV (y2 := yX1_fine) (C := RX1) (T0 := TX1) (ci := 0) dX1_vital_115 sndX1_fine rfl q1211 q1213 qs32 q128 q1214 (by decide +kernel) ⟨by decide, by decide⟩ (by decide) (by decide),
  k_iret dX1_vital_118, trivial⟩
theorem sndX1_vital : MSound 9 yX1_vital (ws_ yX1_vital cX1_vital 8 (some .int)) mX1_vital := msound_M (by decide) allX1_vital (fun _ _ => rfl)
/-! LinkTimes.slack(IIII)I -/
noncomputable def kX1_slack : ZM := ([(0, zi_ld 1 0 1), (1, zi_ld 0 1 2), (2, zi_ld 0 2 3), (3, zi_ld 0 3 4), (4, zi_ld 0 4 6), (6, zi_callV mX1_refusesOne 16 5 9), (9, zi_st 0 5 11), (11, zi_ld 0 5 13), (13, zi_if (fun a => zc_le a 0) 23 16), (16, zi_ld 1 0 17), (17, zi_ld 0 5 19), (19, zi_callV mX1_refused 16 2 22), (22, zi_retv 0), (23, zi_ld 1 0 24), (24, zi_callV mX1_asIs 16 1 27), (27, zi_ld 0 1 28), (28, zi_ld 0 2 29), (29, zi_ld 0 3 30), (30, zi_callV mX3_arrives 17 4 33), (33, zi_st 0 6 35), (35, zi_ld 0 6 37), (37, zi_push (zvi (-2)) 39), (39, zi_cmp zc_ne 49 42), (42, zi_ld 1 0 43), (43, zi_push (zvi (-2)) 45), (45, zi_callV mX1_fine 16 2 48), (48, zi_retv 0), (49, zi_push (zvi 0) 50), (50, zi_st 0 7 52), (52, zi_push (zvi 1) 53), (53, zi_st 0 8 55), (55, zi_ld 0 8 57), (57, zi_if (fun a => zc_eq a 0) 121 60), (60, zi_ld 0 7 62), (62, zi_push (zvi 99) 64), (64, zi_cmp zc_ge 121 67), (67, zi_ld 1 0 68), (68, zi_getR 16 8 71), (71, zi_push (zvi (-1)) 72), (72, zi_ld 0 4 74), (74, zi_ld 0 7 76), (76, zi_push (zvi 1) 77), (77, zi_bin (fun a b => w32 (a + b)) 78), (78, zi_callV mX3_lays 17 4 81), (81, zi_ld 0 1 82), (82, zi_ld 0 2 83), (83, zi_ld 0 3 84), (84, zi_callV mX3_arrives 17 4 87), (87, zi_st 0 9 89), (89, zi_ld 0 9 91), (91, zi_push (zvi (-2)) 93), (93, zi_cmp zc_eq 107 96), (96, zi_ld 0 9 98), (98, zi_ld 0 6 100), (100, zi_cmp zc_gt 107 103), (103, zi_push (zvi 1) 104), (104, zi_goto 108), (107, zi_push (zvi 0) 108), (108, zi_st 0 8 110), (110, zi_ld 0 8 112), (112, zi_if (fun a => zc_eq a 0) 118 115), (115, zi_iinc 7 1 118), (118, zi_goto 55), (121, zi_ld 1 0 122), (122, zi_ld 0 7 124), (124, zi_callV mX1_fine 16 2 127), (127, zi_retv 0)], fun _ _ => none)
noncomputable def mX1_slack : ZF := zrunM kX1_slack 10
theorem enX1_slack (x0 : Option Nat) (x1 : Int) (x2 : Int) (x3 : Int) (x4 : Int) (h : PH) : mX1_slack [zvr x0, zvi x1, zvi x2, zvi x3, zvi x4] h = zev kX1_slack 0 [zvr x0, zvi x1, zvi x2, zvi x3, zvi x4, zvu, zvu, zvu, zvu, zvu] [] h := zrunM_eq rfl rfl
theorem hdX1_slack_55 (x0 x1 x2 x3 x4 x5 x6 x7 : ZV) (a : Int) (L st : List ZV) (h : PH) : zev kX1_slack 55 (x0 :: x1 :: x2 :: x3 :: x4 :: x5 :: x6 :: x7 :: zvi a :: L) st h = zev kX1_slack 57 (x0 :: x1 :: x2 :: x3 :: x4 :: x5 :: x6 :: x7 :: zvi a :: L) (zvi a :: st) h := e_ld8I (n := 57) rfl
theorem rX1_slack : (∀ (a : Option Nat) (L st : List ZV) (h : PH), zev kX1_slack 0 (zvr a :: L) st h = zev kX1_slack 1 (zvr a :: L) (zvr a :: st) h) ∧
  (∀ (x0 : ZV) (a : Int) (L st : List ZV) (h : PH), zev kX1_slack 1 (x0 :: zvi a :: L) st h = zev kX1_slack 2 (x0 :: zvi a :: L) (zvi a :: st) h) ∧
  (∀ (x0 x1 : ZV) (a : Int) (L st : List ZV) (h : PH), zev kX1_slack 2 (x0 :: x1 :: zvi a :: L) st h = zev kX1_slack 3 (x0 :: x1 :: zvi a :: L) (zvi a :: st) h) ∧
  (∀ (x0 x1 x2 : ZV) (a : Int) (L st : List ZV) (h : PH), zev kX1_slack 3 (x0 :: x1 :: x2 :: zvi a :: L) st h = zev kX1_slack 4 (x0 :: x1 :: x2 :: zvi a :: L) (zvi a :: st) h) ∧
  (∀ (x0 x1 x2 x3 : ZV) (a : Int) (L st : List ZV) (h : PH), zev kX1_slack 4 (x0 :: x1 :: x2 :: x3 :: zvi a :: L) st h = zev kX1_slack 6 (x0 :: x1 :: x2 :: x3 :: zvi a :: L) (zvi a :: st) h) ∧
  (∀ (v0 v1 v2 v3 : ZV) (q : Nat) (L st : List ZV) (h : PH), zev kX1_slack 6 L (v3 :: v2 :: v1 :: v0 :: zvr (some q) :: st) h = if (ph_K h q).1 % 1000 = 16 ∧ zcat st ≤ 8 then zk kX1_slack 6 9 L st (mX1_refusesOne [zvr (some q), v0, v1, v2, v3] h) else none) ∧
  (∀ (x0 x1 x2 x3 x4 x5 : ZV) (a : Int) (L st : List ZV) (h : PH) (hx : zisL x4 = false) , zev kX1_slack 9 (x0 :: x1 :: x2 :: x3 :: x4 :: x5 :: L) (zvi a :: st) h = zev kX1_slack 11 (x0 :: x1 :: x2 :: x3 :: x4 :: zvi a :: L) st h) ∧
  (∀ (x0 x1 x2 x3 x4 : ZV) (a : Int) (L st : List ZV) (h : PH), zev kX1_slack 11 (x0 :: x1 :: x2 :: x3 :: x4 :: zvi a :: L) st h = zev kX1_slack 13 (x0 :: x1 :: x2 :: x3 :: x4 :: zvi a :: L) (zvi a :: st) h) ∧
  (∀ (a : Int) (L st : List ZV) (h : PH), zev kX1_slack 13 L (zvi a :: st) h = if a ≤ 0 then zev kX1_slack 23 L st h else zev kX1_slack 16 L st h) ∧
  (∀ (a : Option Nat) (L st : List ZV) (h : PH), zev kX1_slack 16 (zvr a :: L) st h = zev kX1_slack 17 (zvr a :: L) (zvr a :: st) h) ∧
  (∀ (x0 x1 x2 x3 x4 : ZV) (a : Int) (L st : List ZV) (h : PH), zev kX1_slack 17 (x0 :: x1 :: x2 :: x3 :: x4 :: zvi a :: L) st h = zev kX1_slack 19 (x0 :: x1 :: x2 :: x3 :: x4 :: zvi a :: L) (zvi a :: st) h) ∧
  (∀ (v0 : ZV) (q : Nat) (L st : List ZV) (h : PH), zev kX1_slack 19 L (v0 :: zvr (some q) :: st) h = if (ph_K h q).1 % 1000 = 16 ∧ zcat st ≤ 8 then zk kX1_slack 19 22 L st (mX1_refused [zvr (some q), v0] h) else none) ∧
  (∀ (a : Int) (L : List ZV) (h : PH), zev kX1_slack 22 L [zvi a] h = zrv (zvi a) h) ∧
  (∀ (a : Option Nat) (L st : List ZV) (h : PH), zev kX1_slack 23 (zvr a :: L) st h = zev kX1_slack 24 (zvr a :: L) (zvr a :: st) h) ∧
  (∀ (q : Nat) (L st : List ZV) (h : PH), zev kX1_slack 24 L (zvr (some q) :: st) h = if (ph_K h q).1 % 1000 = 16 ∧ zcat st ≤ 8 then zk kX1_slack 24 27 L st (mX1_asIs [zvr (some q)] h) else none) ∧
  (∀ (x0 : ZV) (a : Int) (L st : List ZV) (h : PH), zev kX1_slack 27 (x0 :: zvi a :: L) st h = zev kX1_slack 28 (x0 :: zvi a :: L) (zvi a :: st) h) ∧
  (∀ (x0 x1 : ZV) (a : Int) (L st : List ZV) (h : PH), zev kX1_slack 28 (x0 :: x1 :: zvi a :: L) st h = zev kX1_slack 29 (x0 :: x1 :: zvi a :: L) (zvi a :: st) h) ∧
  (∀ (x0 x1 x2 : ZV) (a : Int) (L st : List ZV) (h : PH), zev kX1_slack 29 (x0 :: x1 :: x2 :: zvi a :: L) st h = zev kX1_slack 30 (x0 :: x1 :: x2 :: zvi a :: L) (zvi a :: st) h) ∧
  (∀ (v0 v1 v2 : ZV) (q : Nat) (L st : List ZV) (h : PH), zev kX1_slack 30 L (v2 :: v1 :: v0 :: zvr (some q) :: st) h = if (ph_K h q).1 % 1000 = 17 ∧ zcat st ≤ 8 then zk kX1_slack 30 33 L st (mX3_arrives [zvr (some q), v0, v1, v2] h) else none) ∧
  (∀ (x0 x1 x2 x3 x4 x5 x6 : ZV) (a : Int) (L st : List ZV) (h : PH) (hx : zisL x5 = false) , zev kX1_slack 33 (x0 :: x1 :: x2 :: x3 :: x4 :: x5 :: x6 :: L) (zvi a :: st) h = zev kX1_slack 35 (x0 :: x1 :: x2 :: x3 :: x4 :: x5 :: zvi a :: L) st h) ∧
  (∀ (x0 x1 x2 x3 x4 x5 : ZV) (a : Int) (L st : List ZV) (h : PH), zev kX1_slack 35 (x0 :: x1 :: x2 :: x3 :: x4 :: x5 :: zvi a :: L) st h = zev kX1_slack 37 (x0 :: x1 :: x2 :: x3 :: x4 :: x5 :: zvi a :: L) (zvi a :: st) h) ∧
  (∀ (L st : List ZV) (h : PH), zev kX1_slack 37 L st h = zev kX1_slack 39 L (zvi (-2) :: st) h) ∧
  (∀ (a b : Int) (L st : List ZV) (h : PH), zev kX1_slack 39 L (zvi b :: zvi a :: st) h = if a ≠ b then zev kX1_slack 49 L st h else zev kX1_slack 42 L st h) ∧
  (∀ (a : Option Nat) (L st : List ZV) (h : PH), zev kX1_slack 42 (zvr a :: L) st h = zev kX1_slack 43 (zvr a :: L) (zvr a :: st) h) ∧
  (∀ (L st : List ZV) (h : PH), zev kX1_slack 43 L st h = zev kX1_slack 45 L (zvi (-2) :: st) h) ∧
  (∀ (v0 : ZV) (q : Nat) (L st : List ZV) (h : PH), zev kX1_slack 45 L (v0 :: zvr (some q) :: st) h = if (ph_K h q).1 % 1000 = 16 ∧ zcat st ≤ 8 then zk kX1_slack 45 48 L st (mX1_fine [zvr (some q), v0] h) else none) ∧
  (∀ (a : Int) (L : List ZV) (h : PH), zev kX1_slack 48 L [zvi a] h = zrv (zvi a) h) ∧
  (∀ (L st : List ZV) (h : PH), zev kX1_slack 49 L st h = zev kX1_slack 50 L (zvi 0 :: st) h) ∧
  (∀ (x0 x1 x2 x3 x4 x5 x6 x7 : ZV) (a : Int) (L st : List ZV) (h : PH) (hx : zisL x6 = false) , zev kX1_slack 50 (x0 :: x1 :: x2 :: x3 :: x4 :: x5 :: x6 :: x7 :: L) (zvi a :: st) h = zev kX1_slack 52 (x0 :: x1 :: x2 :: x3 :: x4 :: x5 :: x6 :: zvi a :: L) st h) ∧
  (∀ (L st : List ZV) (h : PH), zev kX1_slack 52 L st h = zev kX1_slack 53 L (zvi 1 :: st) h) ∧
  (∀ (x0 x1 x2 x3 x4 x5 x6 x7 x8 : ZV) (a : Int) (L st : List ZV) (h : PH) (hx : zisL x7 = false) , zev kX1_slack 53 (x0 :: x1 :: x2 :: x3 :: x4 :: x5 :: x6 :: x7 :: x8 :: L) (zvi a :: st) h = zev kX1_slack 55 (x0 :: x1 :: x2 :: x3 :: x4 :: x5 :: x6 :: x7 :: zvi a :: L) st h) ∧
  (∀ (a : Int) (L st : List ZV) (h : PH), zev kX1_slack 57 L (zvi a :: st) h = if a = 0 then zev kX1_slack 121 L st h else zev kX1_slack 60 L st h) ∧
  (∀ (x0 x1 x2 x3 x4 x5 x6 : ZV) (a : Int) (L st : List ZV) (h : PH), zev kX1_slack 60 (x0 :: x1 :: x2 :: x3 :: x4 :: x5 :: x6 :: zvi a :: L) st h = zev kX1_slack 62 (x0 :: x1 :: x2 :: x3 :: x4 :: x5 :: x6 :: zvi a :: L) (zvi a :: st) h) ∧
  (∀ (L st : List ZV) (h : PH), zev kX1_slack 62 L st h = zev kX1_slack 64 L (zvi 99 :: st) h) ∧
  (∀ (a b : Int) (L st : List ZV) (h : PH), zev kX1_slack 64 L (zvi b :: zvi a :: st) h = if a ≥ b then zev kX1_slack 121 L st h else zev kX1_slack 67 L st h) ∧
  (∀ (a : Option Nat) (L st : List ZV) (h : PH), zev kX1_slack 67 (zvr a :: L) st h = zev kX1_slack 68 (zvr a :: L) (zvr a :: st) h) ∧
  (∀ (q : Nat) (L st : List ZV) (h : PH), zev kX1_slack 68 L (zvr (some q) :: st) h = if (ph_K h q).1 % 1000 = 16 then zev kX1_slack 71 L (zvr (ph_R h q 8) :: st) h else none) ∧
  (∀ (L st : List ZV) (h : PH), zev kX1_slack 71 L st h = zev kX1_slack 72 L (zvi (-1) :: st) h) ∧
  (∀ (x0 x1 x2 x3 : ZV) (a : Int) (L st : List ZV) (h : PH), zev kX1_slack 72 (x0 :: x1 :: x2 :: x3 :: zvi a :: L) st h = zev kX1_slack 74 (x0 :: x1 :: x2 :: x3 :: zvi a :: L) (zvi a :: st) h) ∧
  (∀ (x0 x1 x2 x3 x4 x5 x6 : ZV) (a : Int) (L st : List ZV) (h : PH), zev kX1_slack 74 (x0 :: x1 :: x2 :: x3 :: x4 :: x5 :: x6 :: zvi a :: L) st h = zev kX1_slack 76 (x0 :: x1 :: x2 :: x3 :: x4 :: x5 :: x6 :: zvi a :: L) (zvi a :: st) h) ∧
  (∀ (L st : List ZV) (h : PH), zev kX1_slack 76 L st h = zev kX1_slack 77 L (zvi 1 :: st) h) ∧
  (∀ (a b : Int) (L st : List ZV) (h : PH), zev kX1_slack 77 L (zvi b :: zvi a :: st) h = zev kX1_slack 78 L (zvi (w32 (a + b)) :: st) h) ∧
  (∀ (v0 v1 v2 : ZV) (q : Nat) (L st : List ZV) (h : PH), zev kX1_slack 78 L (v2 :: v1 :: v0 :: zvr (some q) :: st) h = if (ph_K h q).1 % 1000 = 17 ∧ zcat st ≤ 8 then zk kX1_slack 78 81 L st (mX3_lays [zvr (some q), v0, v1, v2] h) else none) ∧
  (∀ (x0 : ZV) (a : Int) (L st : List ZV) (h : PH), zev kX1_slack 81 (x0 :: zvi a :: L) st h = zev kX1_slack 82 (x0 :: zvi a :: L) (zvi a :: st) h) ∧
  (∀ (x0 x1 : ZV) (a : Int) (L st : List ZV) (h : PH), zev kX1_slack 82 (x0 :: x1 :: zvi a :: L) st h = zev kX1_slack 83 (x0 :: x1 :: zvi a :: L) (zvi a :: st) h) ∧
  (∀ (x0 x1 x2 : ZV) (a : Int) (L st : List ZV) (h : PH), zev kX1_slack 83 (x0 :: x1 :: x2 :: zvi a :: L) st h = zev kX1_slack 84 (x0 :: x1 :: x2 :: zvi a :: L) (zvi a :: st) h) ∧
  (∀ (v0 v1 v2 : ZV) (q : Nat) (L st : List ZV) (h : PH), zev kX1_slack 84 L (v2 :: v1 :: v0 :: zvr (some q) :: st) h = if (ph_K h q).1 % 1000 = 17 ∧ zcat st ≤ 8 then zk kX1_slack 84 87 L st (mX3_arrives [zvr (some q), v0, v1, v2] h) else none) ∧
  (∀ (x0 x1 x2 x3 x4 x5 x6 x7 x8 x9 : ZV) (a : Int) (L st : List ZV) (h : PH) (hx : zisL x8 = false) , zev kX1_slack 87 (x0 :: x1 :: x2 :: x3 :: x4 :: x5 :: x6 :: x7 :: x8 :: x9 :: L) (zvi a :: st) h = zev kX1_slack 89 (x0 :: x1 :: x2 :: x3 :: x4 :: x5 :: x6 :: x7 :: x8 :: zvi a :: L) st h) ∧
  (∀ (x0 x1 x2 x3 x4 x5 x6 x7 x8 : ZV) (a : Int) (L st : List ZV) (h : PH), zev kX1_slack 89 (x0 :: x1 :: x2 :: x3 :: x4 :: x5 :: x6 :: x7 :: x8 :: zvi a :: L) st h = zev kX1_slack 91 (x0 :: x1 :: x2 :: x3 :: x4 :: x5 :: x6 :: x7 :: x8 :: zvi a :: L) (zvi a :: st) h) ∧
  (∀ (L st : List ZV) (h : PH), zev kX1_slack 91 L st h = zev kX1_slack 93 L (zvi (-2) :: st) h) ∧
  (∀ (a b : Int) (L st : List ZV) (h : PH), zev kX1_slack 93 L (zvi b :: zvi a :: st) h = if a = b then zev kX1_slack 107 L st h else zev kX1_slack 96 L st h) ∧
  (∀ (x0 x1 x2 x3 x4 x5 x6 x7 x8 : ZV) (a : Int) (L st : List ZV) (h : PH), zev kX1_slack 96 (x0 :: x1 :: x2 :: x3 :: x4 :: x5 :: x6 :: x7 :: x8 :: zvi a :: L) st h = zev kX1_slack 98 (x0 :: x1 :: x2 :: x3 :: x4 :: x5 :: x6 :: x7 :: x8 :: zvi a :: L) (zvi a :: st) h) ∧
  (∀ (x0 x1 x2 x3 x4 x5 : ZV) (a : Int) (L st : List ZV) (h : PH), zev kX1_slack 98 (x0 :: x1 :: x2 :: x3 :: x4 :: x5 :: zvi a :: L) st h = zev kX1_slack 100 (x0 :: x1 :: x2 :: x3 :: x4 :: x5 :: zvi a :: L) (zvi a :: st) h) ∧
  (∀ (a b : Int) (L st : List ZV) (h : PH), zev kX1_slack 100 L (zvi b :: zvi a :: st) h = if a > b then zev kX1_slack 107 L st h else zev kX1_slack 103 L st h) ∧
  (∀ (L st : List ZV) (h : PH), zev kX1_slack 103 L st h = zev kX1_slack 104 L (zvi 1 :: st) h) ∧
  (∀ (L st : List ZV) (h : PH), zev kX1_slack 104 L st h = zev kX1_slack 108 L st h) ∧
  (∀ (L st : List ZV) (h : PH), zev kX1_slack 107 L st h = zev kX1_slack 108 L (zvi 0 :: st) h) ∧
  (∀ (x0 x1 x2 x3 x4 x5 x6 x7 x8 : ZV) (a : Int) (L st : List ZV) (h : PH) (hx : zisL x7 = false) , zev kX1_slack 108 (x0 :: x1 :: x2 :: x3 :: x4 :: x5 :: x6 :: x7 :: x8 :: L) (zvi a :: st) h = zev kX1_slack 110 (x0 :: x1 :: x2 :: x3 :: x4 :: x5 :: x6 :: x7 :: zvi a :: L) st h) ∧
  (∀ (x0 x1 x2 x3 x4 x5 x6 x7 : ZV) (a : Int) (L st : List ZV) (h : PH), zev kX1_slack 110 (x0 :: x1 :: x2 :: x3 :: x4 :: x5 :: x6 :: x7 :: zvi a :: L) st h = zev kX1_slack 112 (x0 :: x1 :: x2 :: x3 :: x4 :: x5 :: x6 :: x7 :: zvi a :: L) (zvi a :: st) h) ∧
  (∀ (a : Int) (L st : List ZV) (h : PH), zev kX1_slack 112 L (zvi a :: st) h = if a = 0 then zev kX1_slack 118 L st h else zev kX1_slack 115 L st h) ∧
  (∀ (x0 x1 x2 x3 x4 x5 x6 : ZV) (a : Int) (L st : List ZV) (h : PH) (hx : zisL x6 = false) , zev kX1_slack 115 (x0 :: x1 :: x2 :: x3 :: x4 :: x5 :: x6 :: zvi a :: L) st h = zev kX1_slack 118 (x0 :: x1 :: x2 :: x3 :: x4 :: x5 :: x6 :: zvi (w32 (a + 1)) :: L) st h) ∧
  (∀ (L st : List ZV) (h : PH), zev kX1_slack 118 L st h = zev kX1_slack 55 L st h) ∧
  (∀ (a : Option Nat) (L st : List ZV) (h : PH), zev kX1_slack 121 (zvr a :: L) st h = zev kX1_slack 122 (zvr a :: L) (zvr a :: st) h) ∧
  (∀ (x0 x1 x2 x3 x4 x5 x6 : ZV) (a : Int) (L st : List ZV) (h : PH), zev kX1_slack 122 (x0 :: x1 :: x2 :: x3 :: x4 :: x5 :: x6 :: zvi a :: L) st h = zev kX1_slack 124 (x0 :: x1 :: x2 :: x3 :: x4 :: x5 :: x6 :: zvi a :: L) (zvi a :: st) h) ∧
  (∀ (v0 : ZV) (q : Nat) (L st : List ZV) (h : PH), zev kX1_slack 124 L (v0 :: zvr (some q) :: st) h = if (ph_K h q).1 % 1000 = 16 ∧ zcat st ≤ 8 then zk kX1_slack 124 127 L st (mX1_fine [zvr (some q), v0] h) else none) ∧
  (∀ (a : Int) (L : List ZV) (h : PH), zev kX1_slack 127 L [zvi a] h = zrv (zvi a) h) :=
  ⟨fun a L st h => e_ld0R (n := 1) rfl,
  fun x0 a L st h => e_ld1I (n := 2) rfl,
  fun x0 x1 a L st h => e_ld2I (n := 3) rfl,
  fun x0 x1 x2 a L st h => e_ld3I (n := 4) rfl,
  fun x0 x1 x2 x3 a L st h => e_ld4I (n := 6) rfl,
  fun v0 v1 v2 v3 q L st h => e_callV5 (F := mX1_refusesOne) (kd := 16) (n := 9) rfl,
  fun x0 x1 x2 x3 x4 x5 a L st h hx => e_st5I (n := 11) rfl hx,
  fun x0 x1 x2 x3 x4 a L st h => e_ld5I (n := 13) rfl,
  fun a L st h => e_ifle (t := 23) (n := 16) rfl,
  fun a L st h => e_ld0R (n := 17) rfl,
  fun x0 x1 x2 x3 x4 a L st h => e_ld5I (n := 19) rfl,
  fun v0 q L st h => e_callV2 (F := mX1_refused) (kd := 16) (n := 22) rfl,
  fun a L h => e_retI rfl,
  fun a L st h => e_ld0R (n := 24) rfl,
  fun q L st h => e_callV1 (F := mX1_asIs) (kd := 16) (n := 27) rfl,
  fun x0 a L st h => e_ld1I (n := 28) rfl,
  fun x0 x1 a L st h => e_ld2I (n := 29) rfl,
  fun x0 x1 x2 a L st h => e_ld3I (n := 30) rfl,
  fun v0 v1 v2 q L st h => e_callV4 (F := mX3_arrives) (kd := 17) (n := 33) rfl,
  fun x0 x1 x2 x3 x4 x5 x6 a L st h hx => e_st6I (n := 35) rfl hx,
  fun x0 x1 x2 x3 x4 x5 a L st h => e_ld6I (n := 37) rfl,
  fun L st h => e_push (v := zvi (-2)) (n := 39) rfl,
  fun a b L st h => e_cmpne (t := 49) (n := 42) rfl,
  fun a L st h => e_ld0R (n := 43) rfl,
  fun L st h => e_push (v := zvi (-2)) (n := 45) rfl,
  fun v0 q L st h => e_callV2 (F := mX1_fine) (kd := 16) (n := 48) rfl,
  fun a L h => e_retI rfl,
  fun L st h => e_push (v := zvi 0) (n := 50) rfl,
  fun x0 x1 x2 x3 x4 x5 x6 x7 a L st h hx => e_st7I (n := 52) rfl hx,
  fun L st h => e_push (v := zvi 1) (n := 53) rfl,
  fun x0 x1 x2 x3 x4 x5 x6 x7 x8 a L st h hx => e_st8I (n := 55) rfl hx,
  fun a L st h => e_ifeq (t := 121) (n := 60) rfl,
  fun x0 x1 x2 x3 x4 x5 x6 a L st h => e_ld7I (n := 62) rfl,
  fun L st h => e_push (v := zvi 99) (n := 64) rfl,
  fun a b L st h => e_cmpge (t := 121) (n := 67) rfl,
  fun a L st h => e_ld0R (n := 68) rfl,
  fun q L st h => e_getR (kd := 16) (k := 8) (n := 71) rfl,
  fun L st h => e_push (v := zvi (-1)) (n := 72) rfl,
  fun x0 x1 x2 x3 a L st h => e_ld4I (n := 74) rfl,
  fun x0 x1 x2 x3 x4 x5 x6 a L st h => e_ld7I (n := 76) rfl,
  fun L st h => e_push (v := zvi 1) (n := 77) rfl,
  fun a b L st h => e_bin (f := (fun a b => w32 (a + b))) (n := 78) rfl,
  fun v0 v1 v2 q L st h => e_callV4 (F := mX3_lays) (kd := 17) (n := 81) rfl,
  fun x0 a L st h => e_ld1I (n := 82) rfl,
  fun x0 x1 a L st h => e_ld2I (n := 83) rfl,
  fun x0 x1 x2 a L st h => e_ld3I (n := 84) rfl,
  fun v0 v1 v2 q L st h => e_callV4 (F := mX3_arrives) (kd := 17) (n := 87) rfl,
  fun x0 x1 x2 x3 x4 x5 x6 x7 x8 x9 a L st h hx => e_st9I (n := 89) rfl hx,
  fun x0 x1 x2 x3 x4 x5 x6 x7 x8 a L st h => e_ld9I (n := 91) rfl,
  fun L st h => e_push (v := zvi (-2)) (n := 93) rfl,
  fun a b L st h => e_cmpeq (t := 107) (n := 96) rfl,
  fun x0 x1 x2 x3 x4 x5 x6 x7 x8 a L st h => e_ld9I (n := 98) rfl,
  fun x0 x1 x2 x3 x4 x5 a L st h => e_ld6I (n := 100) rfl,
  fun a b L st h => e_cmpgt (t := 107) (n := 103) rfl,
  fun L st h => e_push (v := zvi 1) (n := 104) rfl,
  fun L st h => e_goto (t := 108) rfl,
  fun L st h => e_push (v := zvi 0) (n := 108) rfl,
  fun x0 x1 x2 x3 x4 x5 x6 x7 x8 a L st h hx => e_st8I (n := 110) rfl hx,
  fun x0 x1 x2 x3 x4 x5 x6 x7 a L st h => e_ld8I (n := 112) rfl,
  fun a L st h => e_ifeq (t := 118) (n := 115) rfl,
  fun x0 x1 x2 x3 x4 x5 x6 a L st h hx => e_iinc7 (d := 1) (n := 118) rfl hx,
  fun L st h => e_goto (t := 55) rfl,
  fun a L st h => e_ld0R (n := 122) rfl,
  fun x0 x1 x2 x3 x4 x5 x6 a L st h => e_ld7I (n := 124) rfl,
  fun v0 q L st h => e_callV2 (F := mX1_fine) (kd := 16) (n := 127) rfl,
  fun a L h => e_retI rfl⟩
theorem allX1_slack : zall yX1_slack cX1_slack 10 (some .int) 8 kX1_slack.1 :=
  ⟨k_aload_n dX1_slack_0,
  k_iload_n dX1_slack_1,
  k_iload_n dX1_slack_2,
  k_iload_n dX1_slack_3,
  k_iload dX1_slack_4,
  k_callV (y2 := yX1_refusesOne) (C := RX1) (T0 := TX1) (ci := 0) dX1_slack_6 sndX1_refusesOne rfl q1550 q1552 qs55 q128 q1553 (by decide +kernel) ⟨by decide, by decide⟩ (by decide) (by decide),
  k_istore dX1_slack_9,
  k_iload dX1_slack_11,
  k_ifle (t := 23) dX1_slack_13 (by decide),
  k_aload_n dX1_slack_16,
  k_iload dX1_slack_17,
  k_callV (y2 := yX1_refused) (C := RX1) (T0 := TX1) (ci := 0) dX1_slack_19 sndX1_refused rfl q378 q380 qs1 q128 q381 (by decide +kernel) ⟨by decide, by decide⟩ (by decide) (by decide),
  k_iret dX1_slack_22,
  k_aload_n dX1_slack_23,
  k_callV (y2 := yX1_asIs) (C := RX1) (T0 := TX1) (ci := 0) dX1_slack_24 sndX1_asIs rfl q1338 q1340 qs37 q128 q1341 (by decide +kernel) ⟨by decide, by decide⟩ (by decide) (by decide),
  k_iload_n dX1_slack_27,
  k_iload_n dX1_slack_28,
  k_iload_n dX1_slack_29,
  k_callV (y2 := yX3_arrives) (C := RX3) (T0 := TX3) (ci := 1) dX1_slack_30 sndX3_arrives rfl q1353 q1354 q1355 q136 q1356 (by decide +kernel) ⟨by decide, by decide⟩ (by decide) (by decide),
  k_istore dX1_slack_33,
  k_iload dX1_slack_35,
  k_bipush dX1_slack_37,
  k_cmpne (t := 49) dX1_slack_39 (by decide),
  k_aload_n dX1_slack_42,
  k_bipush dX1_slack_43,
  k_callV (y2 := yX1_fine) (C := RX1) (T0 := TX1) (ci := 0) dX1_slack_45 sndX1_fine rfl q1211 q1213 qs32 q128 q1214 (by decide +kernel) ⟨by decide, by decide⟩ (by decide) (by decide),
  k_iret dX1_slack_48,
  k_iconst dX1_slack_49,
  k_istore dX1_slack_50,
  k_iconst dX1_slack_52,
  k_istore dX1_slack_53,
  k_iload dX1_slack_55,
  k_ifeq (t := 121) dX1_slack_57 (by decide),
  k_iload dX1_slack_60,
  k_bipush dX1_slack_62,
  k_cmpge (t := 121) dX1_slack_64 (by decide),
  k_aload_n dX1_slack_67,
  k_getR (C := RX1) (T := TX1) (N := 19) (ci := 0) (k := 8) (ref := "LinkTimes") dX1_slack_68 rfl in_X1 (by decide) q311 (Or.inl rfl) (fun _ _ _ => rfl),
  k_iconst dX1_slack_71,
  k_iload dX1_slack_72,
  k_iload dX1_slack_74,
  k_iconst dX1_slack_76,
  k_iadd dX1_slack_77,
  k_callV (y2 := yX3_lays) (C := RX3) (T0 := TX3) (ci := 1) dX1_slack_78 sndX3_lays rfl q1342 q1343 q1344 q136 q1345 (by decide +kernel) ⟨by decide, by decide⟩ (by decide) (by decide),
  k_iload_n dX1_slack_81,
  k_iload_n dX1_slack_82,
  k_iload_n dX1_slack_83,
  k_callV (y2 := yX3_arrives) (C := RX3) (T0 := TX3) (ci := 1) dX1_slack_84 sndX3_arrives rfl q1353 q1354 q1355 q136 q1356 (by decide +kernel) ⟨by decide, by decide⟩ (by decide) (by decide),
  k_istore dX1_slack_87,
  k_iload dX1_slack_89,
  k_bipush dX1_slack_91,
  k_cmpeq (t := 107) dX1_slack_93 (by decide),
  k_iload dX1_slack_96,
  k_iload dX1_slack_98,
  k_cmpgt (t := 107) dX1_slack_100 (by decide),
  k_iconst dX1_slack_103,
  k_goto (t := 108) dX1_slack_104 (by decide),
  k_iconst dX1_slack_107,
  k_istore dX1_slack_108,
  k_iload dX1_slack_110,
  k_ifeq (t := 118) dX1_slack_112 (by decide),
  k_iinc dX1_slack_115,
  k_goto (t := 55) dX1_slack_118 (by decide),
  k_aload_n dX1_slack_121,
  k_iload dX1_slack_122,
  k_callV (y2 := yX1_fine) (C := RX1) (T0 := TX1) (ci := 0) dX1_slack_124 sndX1_fine rfl q1211 q1213 qs32 q128 q1214 (by decide +kernel) ⟨by decide, by decide⟩ (by decide) (by decide),
  k_iret dX1_slack_127, trivial⟩
theorem sndX1_slack : MSound 8 yX1_slack (ws_ yX1_slack cX1_slack 10 (some .int)) mX1_slack := msound_M (by decide) allX1_slack (fun _ _ => rfl)
/-! LinkTimes.hasWay(IIII)Z -/
noncomputable def kX1_hasWay : ZM := ([(0, zi_ld 0 4 2), (2, zi_if (fun a => zc_ne a 0) 12 5), (5, zi_ld 1 0 6), (6, zi_callV mX1_asIs 16 1 9), (9, zi_goto 25), (12, zi_ld 1 0 13), (13, zi_getR 16 8 16), (16, zi_ld 0 4 18), (18, zi_push (zvi 2) 19), (19, zi_mm zmin 22), (22, zi_callV mX3_laysAll 17 2 25), (25, zi_st 1 5 27), (27, zi_ld 1 5 29), (29, zi_ld 0 1 30), (30, zi_ld 0 2 31), (31, zi_ld 0 4 33), (33, zi_push (zvi 2) 34), (34, zi_cmp zc_le 41 37), (37, zi_push (zvi 0) 38), (38, zi_goto 42), (41, zi_ld 0 3 42), (42, zi_callV mX3_arrives 17 4 45), (45, zi_push (zvi (-2)) 47), (47, zi_cmp zc_eq 54 50), (50, zi_push (zvi 1) 51), (51, zi_goto 55), (54, zi_push (zvi 0) 55), (55, zi_retz)], fun _ _ => none)
noncomputable def mX1_hasWay : ZF := zrunM kX1_hasWay 6
theorem enX1_hasWay (x0 : Option Nat) (x1 : Int) (x2 : Int) (x3 : Int) (x4 : Int) (h : PH) : mX1_hasWay [zvr x0, zvi x1, zvi x2, zvi x3, zvi x4] h = zev kX1_hasWay 0 [zvr x0, zvi x1, zvi x2, zvi x3, zvi x4, zvu] [] h := zrunM_eq rfl rfl
theorem rX1_hasWay : (∀ (x0 x1 x2 x3 : ZV) (a : Int) (L st : List ZV) (h : PH), zev kX1_hasWay 0 (x0 :: x1 :: x2 :: x3 :: zvi a :: L) st h = zev kX1_hasWay 2 (x0 :: x1 :: x2 :: x3 :: zvi a :: L) (zvi a :: st) h) ∧
  (∀ (a : Int) (L st : List ZV) (h : PH), zev kX1_hasWay 2 L (zvi a :: st) h = if a ≠ 0 then zev kX1_hasWay 12 L st h else zev kX1_hasWay 5 L st h) ∧
  (∀ (a : Option Nat) (L st : List ZV) (h : PH), zev kX1_hasWay 5 (zvr a :: L) st h = zev kX1_hasWay 6 (zvr a :: L) (zvr a :: st) h) ∧
  (∀ (q : Nat) (L st : List ZV) (h : PH), zev kX1_hasWay 6 L (zvr (some q) :: st) h = if (ph_K h q).1 % 1000 = 16 ∧ zcat st ≤ 8 then zk kX1_hasWay 6 9 L st (mX1_asIs [zvr (some q)] h) else none) ∧
  (∀ (L st : List ZV) (h : PH), zev kX1_hasWay 9 L st h = zev kX1_hasWay 25 L st h) ∧
  (∀ (a : Option Nat) (L st : List ZV) (h : PH), zev kX1_hasWay 12 (zvr a :: L) st h = zev kX1_hasWay 13 (zvr a :: L) (zvr a :: st) h) ∧
  (∀ (q : Nat) (L st : List ZV) (h : PH), zev kX1_hasWay 13 L (zvr (some q) :: st) h = if (ph_K h q).1 % 1000 = 16 then zev kX1_hasWay 16 L (zvr (ph_R h q 8) :: st) h else none) ∧
  (∀ (x0 x1 x2 x3 : ZV) (a : Int) (L st : List ZV) (h : PH), zev kX1_hasWay 16 (x0 :: x1 :: x2 :: x3 :: zvi a :: L) st h = zev kX1_hasWay 18 (x0 :: x1 :: x2 :: x3 :: zvi a :: L) (zvi a :: st) h) ∧
  (∀ (L st : List ZV) (h : PH), zev kX1_hasWay 18 L st h = zev kX1_hasWay 19 L (zvi 2 :: st) h) ∧
  (∀ (a b : Int) (L st : List ZV) (h : PH), zev kX1_hasWay 19 L (zvi b :: zvi a :: st) h = if zcat st ≤ 8 then zev kX1_hasWay 22 L (zvi (zmin a b) :: st) h else none) ∧
  (∀ (v0 : ZV) (q : Nat) (L st : List ZV) (h : PH), zev kX1_hasWay 22 L (v0 :: zvr (some q) :: st) h = if (ph_K h q).1 % 1000 = 17 ∧ zcat st ≤ 8 then zk kX1_hasWay 22 25 L st (mX3_laysAll [zvr (some q), v0] h) else none) ∧
  (∀ (x0 x1 x2 x3 x4 x5 : ZV) (a : Option Nat) (L st : List ZV) (h : PH) (hx : zisL x4 = false) , zev kX1_hasWay 25 (x0 :: x1 :: x2 :: x3 :: x4 :: x5 :: L) (zvr a :: st) h = zev kX1_hasWay 27 (x0 :: x1 :: x2 :: x3 :: x4 :: zvr a :: L) st h) ∧
  (∀ (x0 x1 x2 x3 x4 : ZV) (a : Option Nat) (L st : List ZV) (h : PH), zev kX1_hasWay 27 (x0 :: x1 :: x2 :: x3 :: x4 :: zvr a :: L) st h = zev kX1_hasWay 29 (x0 :: x1 :: x2 :: x3 :: x4 :: zvr a :: L) (zvr a :: st) h) ∧
  (∀ (x0 : ZV) (a : Int) (L st : List ZV) (h : PH), zev kX1_hasWay 29 (x0 :: zvi a :: L) st h = zev kX1_hasWay 30 (x0 :: zvi a :: L) (zvi a :: st) h) ∧
  (∀ (x0 x1 : ZV) (a : Int) (L st : List ZV) (h : PH), zev kX1_hasWay 30 (x0 :: x1 :: zvi a :: L) st h = zev kX1_hasWay 31 (x0 :: x1 :: zvi a :: L) (zvi a :: st) h) ∧
  (∀ (x0 x1 x2 x3 : ZV) (a : Int) (L st : List ZV) (h : PH), zev kX1_hasWay 31 (x0 :: x1 :: x2 :: x3 :: zvi a :: L) st h = zev kX1_hasWay 33 (x0 :: x1 :: x2 :: x3 :: zvi a :: L) (zvi a :: st) h) ∧
  (∀ (L st : List ZV) (h : PH), zev kX1_hasWay 33 L st h = zev kX1_hasWay 34 L (zvi 2 :: st) h) ∧
  (∀ (a b : Int) (L st : List ZV) (h : PH), zev kX1_hasWay 34 L (zvi b :: zvi a :: st) h = if a ≤ b then zev kX1_hasWay 41 L st h else zev kX1_hasWay 37 L st h) ∧
  (∀ (L st : List ZV) (h : PH), zev kX1_hasWay 37 L st h = zev kX1_hasWay 38 L (zvi 0 :: st) h) ∧
  (∀ (L st : List ZV) (h : PH), zev kX1_hasWay 38 L st h = zev kX1_hasWay 42 L st h) ∧
  (∀ (x0 x1 x2 : ZV) (a : Int) (L st : List ZV) (h : PH), zev kX1_hasWay 41 (x0 :: x1 :: x2 :: zvi a :: L) st h = zev kX1_hasWay 42 (x0 :: x1 :: x2 :: zvi a :: L) (zvi a :: st) h) ∧
  (∀ (v0 v1 v2 : ZV) (q : Nat) (L st : List ZV) (h : PH), zev kX1_hasWay 42 L (v2 :: v1 :: v0 :: zvr (some q) :: st) h = if (ph_K h q).1 % 1000 = 17 ∧ zcat st ≤ 8 then zk kX1_hasWay 42 45 L st (mX3_arrives [zvr (some q), v0, v1, v2] h) else none) ∧
  (∀ (L st : List ZV) (h : PH), zev kX1_hasWay 45 L st h = zev kX1_hasWay 47 L (zvi (-2) :: st) h) ∧
  (∀ (a b : Int) (L st : List ZV) (h : PH), zev kX1_hasWay 47 L (zvi b :: zvi a :: st) h = if a = b then zev kX1_hasWay 54 L st h else zev kX1_hasWay 50 L st h) ∧
  (∀ (L st : List ZV) (h : PH), zev kX1_hasWay 50 L st h = zev kX1_hasWay 51 L (zvi 1 :: st) h) ∧
  (∀ (L st : List ZV) (h : PH), zev kX1_hasWay 51 L st h = zev kX1_hasWay 55 L st h) ∧
  (∀ (L st : List ZV) (h : PH), zev kX1_hasWay 54 L st h = zev kX1_hasWay 55 L (zvi 0 :: st) h) ∧
  (∀ (a : Int) (L : List ZV) (h : PH), zev kX1_hasWay 55 L [zvi a] h = if a = 0 ∨ a = 1 then zrv (zvi a) h else none) :=
  ⟨fun x0 x1 x2 x3 a L st h => e_ld4I (n := 2) rfl,
  fun a L st h => e_ifne (t := 12) (n := 5) rfl,
  fun a L st h => e_ld0R (n := 6) rfl,
  fun q L st h => e_callV1 (F := mX1_asIs) (kd := 16) (n := 9) rfl,
  fun L st h => e_goto (t := 25) rfl,
  fun a L st h => e_ld0R (n := 13) rfl,
  fun q L st h => e_getR (kd := 16) (k := 8) (n := 16) rfl,
  fun x0 x1 x2 x3 a L st h => e_ld4I (n := 18) rfl,
  fun L st h => e_push (v := zvi 2) (n := 19) rfl,
  fun a b L st h => e_mm (f := zmin) (n := 22) rfl,
  fun v0 q L st h => e_callV2 (F := mX3_laysAll) (kd := 17) (n := 25) rfl,
  fun x0 x1 x2 x3 x4 x5 a L st h hx => e_st5R (n := 27) rfl hx,
  fun x0 x1 x2 x3 x4 a L st h => e_ld5R (n := 29) rfl,
  fun x0 a L st h => e_ld1I (n := 30) rfl,
  fun x0 x1 a L st h => e_ld2I (n := 31) rfl,
  fun x0 x1 x2 x3 a L st h => e_ld4I (n := 33) rfl,
  fun L st h => e_push (v := zvi 2) (n := 34) rfl,
  fun a b L st h => e_cmple (t := 41) (n := 37) rfl,
  fun L st h => e_push (v := zvi 0) (n := 38) rfl,
  fun L st h => e_goto (t := 42) rfl,
  fun x0 x1 x2 a L st h => e_ld3I (n := 42) rfl,
  fun v0 v1 v2 q L st h => e_callV4 (F := mX3_arrives) (kd := 17) (n := 45) rfl,
  fun L st h => e_push (v := zvi (-2)) (n := 47) rfl,
  fun a b L st h => e_cmpeq (t := 54) (n := 50) rfl,
  fun L st h => e_push (v := zvi 1) (n := 51) rfl,
  fun L st h => e_goto (t := 55) rfl,
  fun L st h => e_push (v := zvi 0) (n := 55) rfl,
  fun a L h => e_retz rfl⟩
theorem allX1_hasWay : zall yX1_hasWay cX1_hasWay 6 (some .boolean) 8 kX1_hasWay.1 :=
  ⟨k_iload dX1_hasWay_0,
  k_ifne (t := 12) dX1_hasWay_2 (by decide),
  k_aload_n dX1_hasWay_5,
  k_callV (y2 := yX1_asIs) (C := RX1) (T0 := TX1) (ci := 0) dX1_hasWay_6 sndX1_asIs rfl q1338 q1340 qs37 q128 q1341 (by decide +kernel) ⟨by decide, by decide⟩ (by decide) (by decide),
  k_goto (t := 25) dX1_hasWay_9 (by decide),
  k_aload_n dX1_hasWay_12,
  k_getR (C := RX1) (T := TX1) (N := 19) (ci := 0) (k := 8) (ref := "LinkTimes") dX1_hasWay_13 rfl in_X1 (by decide) q311 (Or.inl rfl) (fun _ _ _ => rfl),
  k_iload dX1_hasWay_16,
  k_iconst dX1_hasWay_18,
  k_mmin dX1_hasWay_19 q1492 q799 q154 q800 (by decide),
  k_callV (y2 := yX3_laysAll) (C := RX3) (T0 := TX3) (ci := 1) dX1_hasWay_22 sndX3_laysAll rfl q1579 q1580 q1581 q136 q1582 (by decide +kernel) ⟨by decide, by decide⟩ (by decide) (by decide),
  k_astore dX1_hasWay_25,
  k_aload dX1_hasWay_27,
  k_iload_n dX1_hasWay_29,
  k_iload_n dX1_hasWay_30,
  k_iload dX1_hasWay_31,
  k_iconst dX1_hasWay_33,
  k_cmple (t := 41) dX1_hasWay_34 (by decide),
  k_iconst dX1_hasWay_37,
  k_goto (t := 42) dX1_hasWay_38 (by decide),
  k_iload_n dX1_hasWay_41,
  k_callV (y2 := yX3_arrives) (C := RX3) (T0 := TX3) (ci := 1) dX1_hasWay_42 sndX3_arrives rfl q1353 q1354 q1355 q136 q1356 (by decide +kernel) ⟨by decide, by decide⟩ (by decide) (by decide),
  k_bipush dX1_hasWay_45,
  k_cmpeq (t := 54) dX1_hasWay_47 (by decide),
  k_iconst dX1_hasWay_50,
  k_goto (t := 55) dX1_hasWay_51 (by decide),
  k_iconst dX1_hasWay_54,
  k_zret dX1_hasWay_55, trivial⟩
theorem sndX1_hasWay : MSound 8 yX1_hasWay (ws_ yX1_hasWay cX1_hasWay 6 (some .boolean)) mX1_hasWay := msound_M (by decide) allX1_hasWay (fun _ _ => rfl)
/-! LinkTimes.asks(IIII)V -/
noncomputable def kX1_asks_v3 : ZM := ([(0, zi_ld 1 0 1), (1, zi_ld 0 1 2), (2, zi_ld 0 2 3), (3, zi_ld 0 3 4), (4, zi_ld 0 4 6), (6, zi_callV mX1_hasWay 16 5 9), (9, zi_if (fun a => zc_eq a 0) 13 12), (12, zi_ret), (13, zi_push (zvr none) 14), (14, zi_st 1 5 16), (16, zi_ld 0 4 18), (18, zi_push (zvi 2) 19), (19, zi_cmp zc_gt 33 22), (22, zi_ld 1 0 23), (23, zi_ld 0 1 24), (24, zi_ld 0 2 25), (25, zi_ld 0 3 26), (26, zi_ld 0 4 28), (28, zi_push (zvi 1) 29), (29, zi_bin (fun a b => w32 (a + b)) 30), (30, zi_stuck), (33, zi_goto 42), (36, zi_st 1 6 38), (38, zi_ld 1 6 40), (40, zi_st 1 5 42), (42, zi_new 27 7 45), (45, zi_dup 46), (46, zi_ld 0 4 48), (48, zi_push (zvi 1) 49), (49, zi_bin (fun a b => w32 (a + b)) 50), (50, zi_ld 1 5 52), (52, zi_callV mX13_init 27 3 55), (55, zi_throw)], fun pc kd => if 16 ≤ pc ∧ pc < 33 then if kd = 27 then some 36 else some 9999 else none)
noncomputable def mX1_asks_v3 : ZF := zrunM kX1_asks_v3 7
theorem enX1_asks_v3 (x0 : Option Nat) (x1 : Int) (x2 : Int) (x3 : Int) (x4 : Int) (h : PH) : mX1_asks_v3 [zvr x0, zvi x1, zvi x2, zvi x3, zvi x4] h = zev kX1_asks_v3 0 [zvr x0, zvi x1, zvi x2, zvi x3, zvi x4, zvu, zvu] [] h := zrunM_eq rfl rfl
theorem rX1_asks_v3 : (∀ (a : Option Nat) (L st : List ZV) (h : PH), zev kX1_asks_v3 0 (zvr a :: L) st h = zev kX1_asks_v3 1 (zvr a :: L) (zvr a :: st) h) ∧
  (∀ (x0 : ZV) (a : Int) (L st : List ZV) (h : PH), zev kX1_asks_v3 1 (x0 :: zvi a :: L) st h = zev kX1_asks_v3 2 (x0 :: zvi a :: L) (zvi a :: st) h) ∧
  (∀ (x0 x1 : ZV) (a : Int) (L st : List ZV) (h : PH), zev kX1_asks_v3 2 (x0 :: x1 :: zvi a :: L) st h = zev kX1_asks_v3 3 (x0 :: x1 :: zvi a :: L) (zvi a :: st) h) ∧
  (∀ (x0 x1 x2 : ZV) (a : Int) (L st : List ZV) (h : PH), zev kX1_asks_v3 3 (x0 :: x1 :: x2 :: zvi a :: L) st h = zev kX1_asks_v3 4 (x0 :: x1 :: x2 :: zvi a :: L) (zvi a :: st) h) ∧
  (∀ (x0 x1 x2 x3 : ZV) (a : Int) (L st : List ZV) (h : PH), zev kX1_asks_v3 4 (x0 :: x1 :: x2 :: x3 :: zvi a :: L) st h = zev kX1_asks_v3 6 (x0 :: x1 :: x2 :: x3 :: zvi a :: L) (zvi a :: st) h) ∧
  (∀ (v0 v1 v2 v3 : ZV) (q : Nat) (L st : List ZV) (h : PH), zev kX1_asks_v3 6 L (v3 :: v2 :: v1 :: v0 :: zvr (some q) :: st) h = if (ph_K h q).1 % 1000 = 16 ∧ zcat st ≤ 8 then zk kX1_asks_v3 6 9 L st (mX1_hasWay [zvr (some q), v0, v1, v2, v3] h) else none) ∧
  (∀ (a : Int) (L st : List ZV) (h : PH), zev kX1_asks_v3 9 L (zvi a :: st) h = if a = 0 then zev kX1_asks_v3 13 L st h else zev kX1_asks_v3 12 L st h) ∧
  (∀ (L : List ZV) (h : PH), zev kX1_asks_v3 12 L [] h = zr0 h) ∧
  (∀ (L st : List ZV) (h : PH), zev kX1_asks_v3 13 L st h = zev kX1_asks_v3 14 L (zvr none :: st) h) ∧
  (∀ (x0 x1 x2 x3 x4 x5 : ZV) (a : Option Nat) (L st : List ZV) (h : PH) (hx : zisL x4 = false) , zev kX1_asks_v3 14 (x0 :: x1 :: x2 :: x3 :: x4 :: x5 :: L) (zvr a :: st) h = zev kX1_asks_v3 16 (x0 :: x1 :: x2 :: x3 :: x4 :: zvr a :: L) st h) ∧
  (∀ (x0 x1 x2 x3 : ZV) (a : Int) (L st : List ZV) (h : PH), zev kX1_asks_v3 16 (x0 :: x1 :: x2 :: x3 :: zvi a :: L) st h = zev kX1_asks_v3 18 (x0 :: x1 :: x2 :: x3 :: zvi a :: L) (zvi a :: st) h) ∧
  (∀ (L st : List ZV) (h : PH), zev kX1_asks_v3 18 L st h = zev kX1_asks_v3 19 L (zvi 2 :: st) h) ∧
  (∀ (a b : Int) (L st : List ZV) (h : PH), zev kX1_asks_v3 19 L (zvi b :: zvi a :: st) h = if a > b then zev kX1_asks_v3 33 L st h else zev kX1_asks_v3 22 L st h) ∧
  (∀ (a : Option Nat) (L st : List ZV) (h : PH), zev kX1_asks_v3 22 (zvr a :: L) st h = zev kX1_asks_v3 23 (zvr a :: L) (zvr a :: st) h) ∧
  (∀ (x0 : ZV) (a : Int) (L st : List ZV) (h : PH), zev kX1_asks_v3 23 (x0 :: zvi a :: L) st h = zev kX1_asks_v3 24 (x0 :: zvi a :: L) (zvi a :: st) h) ∧
  (∀ (x0 x1 : ZV) (a : Int) (L st : List ZV) (h : PH), zev kX1_asks_v3 24 (x0 :: x1 :: zvi a :: L) st h = zev kX1_asks_v3 25 (x0 :: x1 :: zvi a :: L) (zvi a :: st) h) ∧
  (∀ (x0 x1 x2 : ZV) (a : Int) (L st : List ZV) (h : PH), zev kX1_asks_v3 25 (x0 :: x1 :: x2 :: zvi a :: L) st h = zev kX1_asks_v3 26 (x0 :: x1 :: x2 :: zvi a :: L) (zvi a :: st) h) ∧
  (∀ (x0 x1 x2 x3 : ZV) (a : Int) (L st : List ZV) (h : PH), zev kX1_asks_v3 26 (x0 :: x1 :: x2 :: x3 :: zvi a :: L) st h = zev kX1_asks_v3 28 (x0 :: x1 :: x2 :: x3 :: zvi a :: L) (zvi a :: st) h) ∧
  (∀ (L st : List ZV) (h : PH), zev kX1_asks_v3 28 L st h = zev kX1_asks_v3 29 L (zvi 1 :: st) h) ∧
  (∀ (a b : Int) (L st : List ZV) (h : PH), zev kX1_asks_v3 29 L (zvi b :: zvi a :: st) h = zev kX1_asks_v3 30 L (zvi (w32 (a + b)) :: st) h) ∧
  (∀ (L st : List ZV) (h : PH), zev kX1_asks_v3 33 L st h = zev kX1_asks_v3 42 L st h) ∧
  (∀ (x0 x1 x2 x3 x4 x5 x6 : ZV) (a : Option Nat) (L st : List ZV) (h : PH) (hx : zisL x5 = false) , zev kX1_asks_v3 36 (x0 :: x1 :: x2 :: x3 :: x4 :: x5 :: x6 :: L) (zvr a :: st) h = zev kX1_asks_v3 38 (x0 :: x1 :: x2 :: x3 :: x4 :: x5 :: zvr a :: L) st h) ∧
  (∀ (x0 x1 x2 x3 x4 x5 : ZV) (a : Option Nat) (L st : List ZV) (h : PH), zev kX1_asks_v3 38 (x0 :: x1 :: x2 :: x3 :: x4 :: x5 :: zvr a :: L) st h = zev kX1_asks_v3 40 (x0 :: x1 :: x2 :: x3 :: x4 :: x5 :: zvr a :: L) (zvr a :: st) h) ∧
  (∀ (x0 x1 x2 x3 x4 x5 : ZV) (a : Option Nat) (L st : List ZV) (h : PH) (hx : zisL x4 = false) , zev kX1_asks_v3 40 (x0 :: x1 :: x2 :: x3 :: x4 :: x5 :: L) (zvr a :: st) h = zev kX1_asks_v3 42 (x0 :: x1 :: x2 :: x3 :: x4 :: zvr a :: L) st h) ∧
  (∀ (L st : List ZV) (h : PH), zev kX1_asks_v3 42 L st h = zev kX1_asks_v3 45 L (zvr (some (ph_N h)) :: st) (al_ h 27 0 7)) ∧
  (∀ (a : Int) (L st : List ZV) (h : PH), zev kX1_asks_v3 45 L (zvi a :: st) h = zev kX1_asks_v3 46 L (zvi a :: zvi a :: st) h) ∧
  (∀ (a : Option Nat) (L st : List ZV) (h : PH), zev kX1_asks_v3 45 L (zvr a :: st) h = zev kX1_asks_v3 46 L (zvr a :: zvr a :: st) h) ∧
  (∀ (x0 x1 x2 x3 : ZV) (a : Int) (L st : List ZV) (h : PH), zev kX1_asks_v3 46 (x0 :: x1 :: x2 :: x3 :: zvi a :: L) st h = zev kX1_asks_v3 48 (x0 :: x1 :: x2 :: x3 :: zvi a :: L) (zvi a :: st) h) ∧
  (∀ (L st : List ZV) (h : PH), zev kX1_asks_v3 48 L st h = zev kX1_asks_v3 49 L (zvi 1 :: st) h) ∧
  (∀ (a b : Int) (L st : List ZV) (h : PH), zev kX1_asks_v3 49 L (zvi b :: zvi a :: st) h = zev kX1_asks_v3 50 L (zvi (w32 (a + b)) :: st) h) ∧
  (∀ (x0 x1 x2 x3 x4 : ZV) (a : Option Nat) (L st : List ZV) (h : PH), zev kX1_asks_v3 50 (x0 :: x1 :: x2 :: x3 :: x4 :: zvr a :: L) st h = zev kX1_asks_v3 52 (x0 :: x1 :: x2 :: x3 :: x4 :: zvr a :: L) (zvr a :: st) h) ∧
  (∀ (v0 v1 : ZV) (q : Nat) (L st : List ZV) (h : PH), zev kX1_asks_v3 52 L (v1 :: v0 :: zvr (some q) :: st) h = if (ph_K h q).1 % 1000 = 27 ∧ zcat st ≤ 8 then zk kX1_asks_v3 52 55 L st (mX13_init [zvr (some q), v0, v1] h) else none) ∧
  (∀ (q : Nat) (L st : List ZV) (h : PH), zev kX1_asks_v3 55 L (zvr (some q) :: st) h = if (ph_K h q).1 ≠ 0 then zk kX1_asks_v3 55 0 L [] (zrx q h) else none) :=
  ⟨fun a L st h => e_ld0R (n := 1) rfl,
  fun x0 a L st h => e_ld1I (n := 2) rfl,
  fun x0 x1 a L st h => e_ld2I (n := 3) rfl,
  fun x0 x1 x2 a L st h => e_ld3I (n := 4) rfl,
  fun x0 x1 x2 x3 a L st h => e_ld4I (n := 6) rfl,
  fun v0 v1 v2 v3 q L st h => e_callV5 (F := mX1_hasWay) (kd := 16) (n := 9) rfl,
  fun a L st h => e_ifeq (t := 13) (n := 12) rfl,
  fun L h => e_ret rfl,
  fun L st h => e_push (v := zvr none) (n := 14) rfl,
  fun x0 x1 x2 x3 x4 x5 a L st h hx => e_st5R (n := 16) rfl hx,
  fun x0 x1 x2 x3 a L st h => e_ld4I (n := 18) rfl,
  fun L st h => e_push (v := zvi 2) (n := 19) rfl,
  fun a b L st h => e_cmpgt (t := 33) (n := 22) rfl,
  fun a L st h => e_ld0R (n := 23) rfl,
  fun x0 a L st h => e_ld1I (n := 24) rfl,
  fun x0 x1 a L st h => e_ld2I (n := 25) rfl,
  fun x0 x1 x2 a L st h => e_ld3I (n := 26) rfl,
  fun x0 x1 x2 x3 a L st h => e_ld4I (n := 28) rfl,
  fun L st h => e_push (v := zvi 1) (n := 29) rfl,
  fun a b L st h => e_bin (f := (fun a b => w32 (a + b))) (n := 30) rfl,
  fun L st h => e_goto (t := 42) rfl,
  fun x0 x1 x2 x3 x4 x5 x6 a L st h hx => e_st6R (n := 38) rfl hx,
  fun x0 x1 x2 x3 x4 x5 a L st h => e_ld6R (n := 40) rfl,
  fun x0 x1 x2 x3 x4 x5 a L st h hx => e_st5R (n := 42) rfl hx,
  fun L st h => e_new (kd := 27) (sl := 7) (n := 45) rfl,
  fun a L st h => e_dupI (n := 46) rfl,
  fun a L st h => e_dupR (n := 46) rfl,
  fun x0 x1 x2 x3 a L st h => e_ld4I (n := 48) rfl,
  fun L st h => e_push (v := zvi 1) (n := 49) rfl,
  fun a b L st h => e_bin (f := (fun a b => w32 (a + b))) (n := 50) rfl,
  fun x0 x1 x2 x3 x4 a L st h => e_ld5R (n := 52) rfl,
  fun v0 v1 q L st h => e_callV3 (F := mX13_init) (kd := 27) (n := 55) rfl,
  fun q L st h => e_throw (n := 0) rfl⟩
theorem allX1_asks_v3 : zall yX1_asks cX1_asks 7 none 9 kX1_asks_v3.1 :=
  ⟨k_aload_n dX1_asks_0,
  k_iload_n dX1_asks_1,
  k_iload_n dX1_asks_2,
  k_iload_n dX1_asks_3,
  k_iload dX1_asks_4,
  k_callV (y2 := yX1_hasWay) (C := RX1) (T0 := TX1) (ci := 0) dX1_asks_6 sndX1_hasWay rfl q1575 q1577 qs58 q128 q1578 (by decide +kernel) ⟨by decide, by decide⟩ (by decide) (by decide),
  k_ifeq (t := 13) dX1_asks_9 (by decide),
  k_ret dX1_asks_12,
  k_anull dX1_asks_13,
  k_astore dX1_asks_14,
  k_iload dX1_asks_16,
  k_iconst dX1_asks_18,
  k_cmpgt (t := 33) dX1_asks_19 (by decide),
  k_aload_n dX1_asks_22,
  k_iload_n dX1_asks_23,
  k_iload_n dX1_asks_24,
  k_iload_n dX1_asks_25,
  k_iload dX1_asks_26,
  k_iconst dX1_asks_28,
  k_iadd dX1_asks_29,
  k_stuck,
  k_goto (t := 42) dX1_asks_33 (by decide),
  k_astore dX1_asks_36,
  k_aload dX1_asks_38,
  k_astore dX1_asks_40,
  k_new (C := RX13) (T := TX13) (N := 7) (ci := 11) dX1_asks_42 rfl in_X13 tyX13 tyX13_ok rfl (by decide) q1570 q1583 q168,
  k_dup dX1_asks_45,
  k_iload dX1_asks_46,
  k_iconst dX1_asks_48,
  k_iadd dX1_asks_49,
  k_aload dX1_asks_50,
  k_callI (y2 := yX13_init) (C := RX13) (T0 := TX13) (ci := 11) dX1_asks_52 sndX13_init rfl q1591 q1592 q168 q1593 rfl (by decide +kernel) ⟨by decide, by decide⟩ (by decide) (by decide),
  k_throw dX1_asks_55, trivial⟩
theorem sndX1_asks_v3 : MSound 9 yX1_asks (wsW_ yX1_asks cX1_asks 7 none [(16, 33, 36, 340)]) mX1_asks_v3 := msound_H (by decide) allX1_asks_v3
  (fun pc kd t h1 h2 => by
    have h1 : (if 16 ≤ pc ∧ pc < 33 then if kd = 27 then some 36 else some 9999 else none) = some t := h1
    by_cases hp : 16 ≤ pc ∧ pc < 33
    · rw [if_pos hp] at h1
      by_cases hk : kd = 27
      · rw [if_pos hk] at h1
        obtain rfl := Option.some.inj h1
        subst hk
        exact ⟨[], ⟨16, 33, 36, 340⟩, [], 11, RX13, TX13, 7, "LinkTimes$NoWay", rfl, by simp [covers]; omega, by decide, rfl, ⟨rfl, by decide⟩, rfl, q1570, q1584, fun z hz => by cases hz⟩
      rw [if_neg hk] at h1
      obtain rfl := Option.some.inj h1
      cases h2
    · rw [if_neg hp] at h1; cases h1)
  (fun pc kd h1 x hx => by
    have h1 : (if 16 ≤ pc ∧ pc < 33 then if kd = 27 then some 36 else some 9999 else none) = none := h1
    by_cases hp : 16 ≤ pc ∧ pc < 33
    · rw [if_pos hp] at h1
      by_cases hk : kd = 27
      · rw [if_pos hk] at h1; cases h1
      rw [if_neg hk] at h1
      cases h1
    · have hx : x ∈ [(⟨16, 33, 36, 340⟩ : ExceptionTableEntry)] := hx
      simp only [List.mem_cons, List.not_mem_nil, or_false] at hx
      rcases hx with rfl <;> (simp [covers]; omega))
/-! LinkTimes.asks(IIII)V -/
noncomputable def kX1_asks_v2 : ZM := ([(0, zi_ld 1 0 1), (1, zi_ld 0 1 2), (2, zi_ld 0 2 3), (3, zi_ld 0 3 4), (4, zi_ld 0 4 6), (6, zi_callV mX1_hasWay 16 5 9), (9, zi_if (fun a => zc_eq a 0) 13 12), (12, zi_ret), (13, zi_push (zvr none) 14), (14, zi_st 1 5 16), (16, zi_ld 0 4 18), (18, zi_push (zvi 2) 19), (19, zi_cmp zc_gt 33 22), (22, zi_ld 1 0 23), (23, zi_ld 0 1 24), (24, zi_ld 0 2 25), (25, zi_ld 0 3 26), (26, zi_ld 0 4 28), (28, zi_push (zvi 1) 29), (29, zi_bin (fun a b => w32 (a + b)) 30), (30, zi_callV mX1_asks_v3 16 5 33), (33, zi_goto 42), (36, zi_st 1 6 38), (38, zi_ld 1 6 40), (40, zi_st 1 5 42), (42, zi_new 27 7 45), (45, zi_dup 46), (46, zi_ld 0 4 48), (48, zi_push (zvi 1) 49), (49, zi_bin (fun a b => w32 (a + b)) 50), (50, zi_ld 1 5 52), (52, zi_callV mX13_init 27 3 55), (55, zi_throw)], fun pc kd => if 16 ≤ pc ∧ pc < 33 then if kd = 27 then some 36 else some 9999 else none)
noncomputable def mX1_asks_v2 : ZF := zrunM kX1_asks_v2 7
theorem enX1_asks_v2 (x0 : Option Nat) (x1 : Int) (x2 : Int) (x3 : Int) (x4 : Int) (h : PH) : mX1_asks_v2 [zvr x0, zvi x1, zvi x2, zvi x3, zvi x4] h = zev kX1_asks_v2 0 [zvr x0, zvi x1, zvi x2, zvi x3, zvi x4, zvu, zvu] [] h := zrunM_eq rfl rfl
theorem rX1_asks_v2 : (∀ (a : Option Nat) (L st : List ZV) (h : PH), zev kX1_asks_v2 0 (zvr a :: L) st h = zev kX1_asks_v2 1 (zvr a :: L) (zvr a :: st) h) ∧
  (∀ (x0 : ZV) (a : Int) (L st : List ZV) (h : PH), zev kX1_asks_v2 1 (x0 :: zvi a :: L) st h = zev kX1_asks_v2 2 (x0 :: zvi a :: L) (zvi a :: st) h) ∧
  (∀ (x0 x1 : ZV) (a : Int) (L st : List ZV) (h : PH), zev kX1_asks_v2 2 (x0 :: x1 :: zvi a :: L) st h = zev kX1_asks_v2 3 (x0 :: x1 :: zvi a :: L) (zvi a :: st) h) ∧
  (∀ (x0 x1 x2 : ZV) (a : Int) (L st : List ZV) (h : PH), zev kX1_asks_v2 3 (x0 :: x1 :: x2 :: zvi a :: L) st h = zev kX1_asks_v2 4 (x0 :: x1 :: x2 :: zvi a :: L) (zvi a :: st) h) ∧
  (∀ (x0 x1 x2 x3 : ZV) (a : Int) (L st : List ZV) (h : PH), zev kX1_asks_v2 4 (x0 :: x1 :: x2 :: x3 :: zvi a :: L) st h = zev kX1_asks_v2 6 (x0 :: x1 :: x2 :: x3 :: zvi a :: L) (zvi a :: st) h) ∧
  (∀ (v0 v1 v2 v3 : ZV) (q : Nat) (L st : List ZV) (h : PH), zev kX1_asks_v2 6 L (v3 :: v2 :: v1 :: v0 :: zvr (some q) :: st) h = if (ph_K h q).1 % 1000 = 16 ∧ zcat st ≤ 8 then zk kX1_asks_v2 6 9 L st (mX1_hasWay [zvr (some q), v0, v1, v2, v3] h) else none) ∧
  (∀ (a : Int) (L st : List ZV) (h : PH), zev kX1_asks_v2 9 L (zvi a :: st) h = if a = 0 then zev kX1_asks_v2 13 L st h else zev kX1_asks_v2 12 L st h) ∧
  (∀ (L : List ZV) (h : PH), zev kX1_asks_v2 12 L [] h = zr0 h) ∧
  (∀ (L st : List ZV) (h : PH), zev kX1_asks_v2 13 L st h = zev kX1_asks_v2 14 L (zvr none :: st) h) ∧
  (∀ (x0 x1 x2 x3 x4 x5 : ZV) (a : Option Nat) (L st : List ZV) (h : PH) (hx : zisL x4 = false) , zev kX1_asks_v2 14 (x0 :: x1 :: x2 :: x3 :: x4 :: x5 :: L) (zvr a :: st) h = zev kX1_asks_v2 16 (x0 :: x1 :: x2 :: x3 :: x4 :: zvr a :: L) st h) ∧
  (∀ (x0 x1 x2 x3 : ZV) (a : Int) (L st : List ZV) (h : PH), zev kX1_asks_v2 16 (x0 :: x1 :: x2 :: x3 :: zvi a :: L) st h = zev kX1_asks_v2 18 (x0 :: x1 :: x2 :: x3 :: zvi a :: L) (zvi a :: st) h) ∧
  (∀ (L st : List ZV) (h : PH), zev kX1_asks_v2 18 L st h = zev kX1_asks_v2 19 L (zvi 2 :: st) h) ∧
  (∀ (a b : Int) (L st : List ZV) (h : PH), zev kX1_asks_v2 19 L (zvi b :: zvi a :: st) h = if a > b then zev kX1_asks_v2 33 L st h else zev kX1_asks_v2 22 L st h) ∧
  (∀ (a : Option Nat) (L st : List ZV) (h : PH), zev kX1_asks_v2 22 (zvr a :: L) st h = zev kX1_asks_v2 23 (zvr a :: L) (zvr a :: st) h) ∧
  (∀ (x0 : ZV) (a : Int) (L st : List ZV) (h : PH), zev kX1_asks_v2 23 (x0 :: zvi a :: L) st h = zev kX1_asks_v2 24 (x0 :: zvi a :: L) (zvi a :: st) h) ∧
  (∀ (x0 x1 : ZV) (a : Int) (L st : List ZV) (h : PH), zev kX1_asks_v2 24 (x0 :: x1 :: zvi a :: L) st h = zev kX1_asks_v2 25 (x0 :: x1 :: zvi a :: L) (zvi a :: st) h) ∧
  (∀ (x0 x1 x2 : ZV) (a : Int) (L st : List ZV) (h : PH), zev kX1_asks_v2 25 (x0 :: x1 :: x2 :: zvi a :: L) st h = zev kX1_asks_v2 26 (x0 :: x1 :: x2 :: zvi a :: L) (zvi a :: st) h) ∧
  (∀ (x0 x1 x2 x3 : ZV) (a : Int) (L st : List ZV) (h : PH), zev kX1_asks_v2 26 (x0 :: x1 :: x2 :: x3 :: zvi a :: L) st h = zev kX1_asks_v2 28 (x0 :: x1 :: x2 :: x3 :: zvi a :: L) (zvi a :: st) h) ∧
  (∀ (L st : List ZV) (h : PH), zev kX1_asks_v2 28 L st h = zev kX1_asks_v2 29 L (zvi 1 :: st) h) ∧
  (∀ (a b : Int) (L st : List ZV) (h : PH), zev kX1_asks_v2 29 L (zvi b :: zvi a :: st) h = zev kX1_asks_v2 30 L (zvi (w32 (a + b)) :: st) h) ∧
  (∀ (v0 v1 v2 v3 : ZV) (q : Nat) (L st : List ZV) (h : PH), zev kX1_asks_v2 30 L (v3 :: v2 :: v1 :: v0 :: zvr (some q) :: st) h = if (ph_K h q).1 % 1000 = 16 ∧ zcat st ≤ 8 then zk kX1_asks_v2 30 33 L st (mX1_asks_v3 [zvr (some q), v0, v1, v2, v3] h) else none) ∧
  (∀ (L st : List ZV) (h : PH), zev kX1_asks_v2 33 L st h = zev kX1_asks_v2 42 L st h) ∧
  (∀ (x0 x1 x2 x3 x4 x5 x6 : ZV) (a : Option Nat) (L st : List ZV) (h : PH) (hx : zisL x5 = false) , zev kX1_asks_v2 36 (x0 :: x1 :: x2 :: x3 :: x4 :: x5 :: x6 :: L) (zvr a :: st) h = zev kX1_asks_v2 38 (x0 :: x1 :: x2 :: x3 :: x4 :: x5 :: zvr a :: L) st h) ∧
  (∀ (x0 x1 x2 x3 x4 x5 : ZV) (a : Option Nat) (L st : List ZV) (h : PH), zev kX1_asks_v2 38 (x0 :: x1 :: x2 :: x3 :: x4 :: x5 :: zvr a :: L) st h = zev kX1_asks_v2 40 (x0 :: x1 :: x2 :: x3 :: x4 :: x5 :: zvr a :: L) (zvr a :: st) h) ∧
  (∀ (x0 x1 x2 x3 x4 x5 : ZV) (a : Option Nat) (L st : List ZV) (h : PH) (hx : zisL x4 = false) , zev kX1_asks_v2 40 (x0 :: x1 :: x2 :: x3 :: x4 :: x5 :: L) (zvr a :: st) h = zev kX1_asks_v2 42 (x0 :: x1 :: x2 :: x3 :: x4 :: zvr a :: L) st h) ∧
  (∀ (L st : List ZV) (h : PH), zev kX1_asks_v2 42 L st h = zev kX1_asks_v2 45 L (zvr (some (ph_N h)) :: st) (al_ h 27 0 7)) ∧
  (∀ (a : Int) (L st : List ZV) (h : PH), zev kX1_asks_v2 45 L (zvi a :: st) h = zev kX1_asks_v2 46 L (zvi a :: zvi a :: st) h) ∧
  (∀ (a : Option Nat) (L st : List ZV) (h : PH), zev kX1_asks_v2 45 L (zvr a :: st) h = zev kX1_asks_v2 46 L (zvr a :: zvr a :: st) h) ∧
  (∀ (x0 x1 x2 x3 : ZV) (a : Int) (L st : List ZV) (h : PH), zev kX1_asks_v2 46 (x0 :: x1 :: x2 :: x3 :: zvi a :: L) st h = zev kX1_asks_v2 48 (x0 :: x1 :: x2 :: x3 :: zvi a :: L) (zvi a :: st) h) ∧
  (∀ (L st : List ZV) (h : PH), zev kX1_asks_v2 48 L st h = zev kX1_asks_v2 49 L (zvi 1 :: st) h) ∧
  (∀ (a b : Int) (L st : List ZV) (h : PH), zev kX1_asks_v2 49 L (zvi b :: zvi a :: st) h = zev kX1_asks_v2 50 L (zvi (w32 (a + b)) :: st) h) ∧
  (∀ (x0 x1 x2 x3 x4 : ZV) (a : Option Nat) (L st : List ZV) (h : PH), zev kX1_asks_v2 50 (x0 :: x1 :: x2 :: x3 :: x4 :: zvr a :: L) st h = zev kX1_asks_v2 52 (x0 :: x1 :: x2 :: x3 :: x4 :: zvr a :: L) (zvr a :: st) h) ∧
  (∀ (v0 v1 : ZV) (q : Nat) (L st : List ZV) (h : PH), zev kX1_asks_v2 52 L (v1 :: v0 :: zvr (some q) :: st) h = if (ph_K h q).1 % 1000 = 27 ∧ zcat st ≤ 8 then zk kX1_asks_v2 52 55 L st (mX13_init [zvr (some q), v0, v1] h) else none) ∧
  (∀ (q : Nat) (L st : List ZV) (h : PH), zev kX1_asks_v2 55 L (zvr (some q) :: st) h = if (ph_K h q).1 ≠ 0 then zk kX1_asks_v2 55 0 L [] (zrx q h) else none) :=
  ⟨fun a L st h => e_ld0R (n := 1) rfl,
  fun x0 a L st h => e_ld1I (n := 2) rfl,
  fun x0 x1 a L st h => e_ld2I (n := 3) rfl,
  fun x0 x1 x2 a L st h => e_ld3I (n := 4) rfl,
  fun x0 x1 x2 x3 a L st h => e_ld4I (n := 6) rfl,
  fun v0 v1 v2 v3 q L st h => e_callV5 (F := mX1_hasWay) (kd := 16) (n := 9) rfl,
  fun a L st h => e_ifeq (t := 13) (n := 12) rfl,
  fun L h => e_ret rfl,
  fun L st h => e_push (v := zvr none) (n := 14) rfl,
  fun x0 x1 x2 x3 x4 x5 a L st h hx => e_st5R (n := 16) rfl hx,
  fun x0 x1 x2 x3 a L st h => e_ld4I (n := 18) rfl,
  fun L st h => e_push (v := zvi 2) (n := 19) rfl,
  fun a b L st h => e_cmpgt (t := 33) (n := 22) rfl,
  fun a L st h => e_ld0R (n := 23) rfl,
  fun x0 a L st h => e_ld1I (n := 24) rfl,
  fun x0 x1 a L st h => e_ld2I (n := 25) rfl,
  fun x0 x1 x2 a L st h => e_ld3I (n := 26) rfl,
  fun x0 x1 x2 x3 a L st h => e_ld4I (n := 28) rfl,
  fun L st h => e_push (v := zvi 1) (n := 29) rfl,
  fun a b L st h => e_bin (f := (fun a b => w32 (a + b))) (n := 30) rfl,
  fun v0 v1 v2 v3 q L st h => e_callV5 (F := mX1_asks_v3) (kd := 16) (n := 33) rfl,
  fun L st h => e_goto (t := 42) rfl,
  fun x0 x1 x2 x3 x4 x5 x6 a L st h hx => e_st6R (n := 38) rfl hx,
  fun x0 x1 x2 x3 x4 x5 a L st h => e_ld6R (n := 40) rfl,
  fun x0 x1 x2 x3 x4 x5 a L st h hx => e_st5R (n := 42) rfl hx,
  fun L st h => e_new (kd := 27) (sl := 7) (n := 45) rfl,
  fun a L st h => e_dupI (n := 46) rfl,
  fun a L st h => e_dupR (n := 46) rfl,
  fun x0 x1 x2 x3 a L st h => e_ld4I (n := 48) rfl,
  fun L st h => e_push (v := zvi 1) (n := 49) rfl,
  fun a b L st h => e_bin (f := (fun a b => w32 (a + b))) (n := 50) rfl,
  fun x0 x1 x2 x3 x4 a L st h => e_ld5R (n := 52) rfl,
  fun v0 v1 q L st h => e_callV3 (F := mX13_init) (kd := 27) (n := 55) rfl,
  fun q L st h => e_throw (n := 0) rfl⟩
theorem allX1_asks_v2 : zall yX1_asks cX1_asks 7 none 10 kX1_asks_v2.1 :=
  ⟨k_aload_n dX1_asks_0,
  k_iload_n dX1_asks_1,
  k_iload_n dX1_asks_2,
  k_iload_n dX1_asks_3,
  k_iload dX1_asks_4,
  k_callV (y2 := yX1_hasWay) (C := RX1) (T0 := TX1) (ci := 0) dX1_asks_6 sndX1_hasWay rfl q1575 q1577 qs58 q128 q1578 (by decide +kernel) ⟨by decide, by decide⟩ (by decide) (by decide),
  k_ifeq (t := 13) dX1_asks_9 (by decide),
  k_ret dX1_asks_12,
  k_anull dX1_asks_13,
  k_astore dX1_asks_14,
  k_iload dX1_asks_16,
  k_iconst dX1_asks_18,
  k_cmpgt (t := 33) dX1_asks_19 (by decide),
  k_aload_n dX1_asks_22,
  k_iload_n dX1_asks_23,
  k_iload_n dX1_asks_24,
  k_iload_n dX1_asks_25,
  k_iload dX1_asks_26,
  k_iconst dX1_asks_28,
  k_iadd dX1_asks_29,
  k_callVX (y2 := yX1_asks) (C := RX1) (T0 := TX1) (ci := 0) dX1_asks_30 sndX1_asks_v3 rfl q1571 q1573 qs57 q128 q1574 (by decide +kernel) ⟨by decide, by decide⟩ (by decide) (by decide),
  k_goto (t := 42) dX1_asks_33 (by decide),
  k_astore dX1_asks_36,
  k_aload dX1_asks_38,
  k_astore dX1_asks_40,
  k_new (C := RX13) (T := TX13) (N := 7) (ci := 11) dX1_asks_42 rfl in_X13 tyX13 tyX13_ok rfl (by decide) q1570 q1583 q168,
  k_dup dX1_asks_45,
  k_iload dX1_asks_46,
  k_iconst dX1_asks_48,
  k_iadd dX1_asks_49,
  k_aload dX1_asks_50,
  k_callI (y2 := yX13_init) (C := RX13) (T0 := TX13) (ci := 11) dX1_asks_52 sndX13_init rfl q1591 q1592 q168 q1593 rfl (by decide +kernel) ⟨by decide, by decide⟩ (by decide) (by decide),
  k_throw dX1_asks_55, trivial⟩
theorem sndX1_asks_v2 : MSound 10 yX1_asks (wsW_ yX1_asks cX1_asks 7 none [(16, 33, 36, 340)]) mX1_asks_v2 := msound_H (by decide) allX1_asks_v2
  (fun pc kd t h1 h2 => by
    have h1 : (if 16 ≤ pc ∧ pc < 33 then if kd = 27 then some 36 else some 9999 else none) = some t := h1
    by_cases hp : 16 ≤ pc ∧ pc < 33
    · rw [if_pos hp] at h1
      by_cases hk : kd = 27
      · rw [if_pos hk] at h1
        obtain rfl := Option.some.inj h1
        subst hk
        exact ⟨[], ⟨16, 33, 36, 340⟩, [], 11, RX13, TX13, 7, "LinkTimes$NoWay", rfl, by simp [covers]; omega, by decide, rfl, ⟨rfl, by decide⟩, rfl, q1570, q1584, fun z hz => by cases hz⟩
      rw [if_neg hk] at h1
      obtain rfl := Option.some.inj h1
      cases h2
    · rw [if_neg hp] at h1; cases h1)
  (fun pc kd h1 x hx => by
    have h1 : (if 16 ≤ pc ∧ pc < 33 then if kd = 27 then some 36 else some 9999 else none) = none := h1
    by_cases hp : 16 ≤ pc ∧ pc < 33
    · rw [if_pos hp] at h1
      by_cases hk : kd = 27
      · rw [if_pos hk] at h1; cases h1
      rw [if_neg hk] at h1
      cases h1
    · have hx : x ∈ [(⟨16, 33, 36, 340⟩ : ExceptionTableEntry)] := hx
      simp only [List.mem_cons, List.not_mem_nil, or_false] at hx
      rcases hx with rfl <;> (simp [covers]; omega))
/-! LinkTimes.asks(IIII)V -/
noncomputable def kX1_asks_v1 : ZM := ([(0, zi_ld 1 0 1), (1, zi_ld 0 1 2), (2, zi_ld 0 2 3), (3, zi_ld 0 3 4), (4, zi_ld 0 4 6), (6, zi_callV mX1_hasWay 16 5 9), (9, zi_if (fun a => zc_eq a 0) 13 12), (12, zi_ret), (13, zi_push (zvr none) 14), (14, zi_st 1 5 16), (16, zi_ld 0 4 18), (18, zi_push (zvi 2) 19), (19, zi_cmp zc_gt 33 22), (22, zi_ld 1 0 23), (23, zi_ld 0 1 24), (24, zi_ld 0 2 25), (25, zi_ld 0 3 26), (26, zi_ld 0 4 28), (28, zi_push (zvi 1) 29), (29, zi_bin (fun a b => w32 (a + b)) 30), (30, zi_callV mX1_asks_v2 16 5 33), (33, zi_goto 42), (36, zi_st 1 6 38), (38, zi_ld 1 6 40), (40, zi_st 1 5 42), (42, zi_new 27 7 45), (45, zi_dup 46), (46, zi_ld 0 4 48), (48, zi_push (zvi 1) 49), (49, zi_bin (fun a b => w32 (a + b)) 50), (50, zi_ld 1 5 52), (52, zi_callV mX13_init 27 3 55), (55, zi_throw)], fun pc kd => if 16 ≤ pc ∧ pc < 33 then if kd = 27 then some 36 else some 9999 else none)
noncomputable def mX1_asks_v1 : ZF := zrunM kX1_asks_v1 7
theorem enX1_asks_v1 (x0 : Option Nat) (x1 : Int) (x2 : Int) (x3 : Int) (x4 : Int) (h : PH) : mX1_asks_v1 [zvr x0, zvi x1, zvi x2, zvi x3, zvi x4] h = zev kX1_asks_v1 0 [zvr x0, zvi x1, zvi x2, zvi x3, zvi x4, zvu, zvu] [] h := zrunM_eq rfl rfl
theorem rX1_asks_v1 : (∀ (a : Option Nat) (L st : List ZV) (h : PH), zev kX1_asks_v1 0 (zvr a :: L) st h = zev kX1_asks_v1 1 (zvr a :: L) (zvr a :: st) h) ∧
  (∀ (x0 : ZV) (a : Int) (L st : List ZV) (h : PH), zev kX1_asks_v1 1 (x0 :: zvi a :: L) st h = zev kX1_asks_v1 2 (x0 :: zvi a :: L) (zvi a :: st) h) ∧
  (∀ (x0 x1 : ZV) (a : Int) (L st : List ZV) (h : PH), zev kX1_asks_v1 2 (x0 :: x1 :: zvi a :: L) st h = zev kX1_asks_v1 3 (x0 :: x1 :: zvi a :: L) (zvi a :: st) h) ∧
  (∀ (x0 x1 x2 : ZV) (a : Int) (L st : List ZV) (h : PH), zev kX1_asks_v1 3 (x0 :: x1 :: x2 :: zvi a :: L) st h = zev kX1_asks_v1 4 (x0 :: x1 :: x2 :: zvi a :: L) (zvi a :: st) h) ∧
  (∀ (x0 x1 x2 x3 : ZV) (a : Int) (L st : List ZV) (h : PH), zev kX1_asks_v1 4 (x0 :: x1 :: x2 :: x3 :: zvi a :: L) st h = zev kX1_asks_v1 6 (x0 :: x1 :: x2 :: x3 :: zvi a :: L) (zvi a :: st) h) ∧
  (∀ (v0 v1 v2 v3 : ZV) (q : Nat) (L st : List ZV) (h : PH), zev kX1_asks_v1 6 L (v3 :: v2 :: v1 :: v0 :: zvr (some q) :: st) h = if (ph_K h q).1 % 1000 = 16 ∧ zcat st ≤ 8 then zk kX1_asks_v1 6 9 L st (mX1_hasWay [zvr (some q), v0, v1, v2, v3] h) else none) ∧
  (∀ (a : Int) (L st : List ZV) (h : PH), zev kX1_asks_v1 9 L (zvi a :: st) h = if a = 0 then zev kX1_asks_v1 13 L st h else zev kX1_asks_v1 12 L st h) ∧
  (∀ (L : List ZV) (h : PH), zev kX1_asks_v1 12 L [] h = zr0 h) ∧
  (∀ (L st : List ZV) (h : PH), zev kX1_asks_v1 13 L st h = zev kX1_asks_v1 14 L (zvr none :: st) h) ∧
  (∀ (x0 x1 x2 x3 x4 x5 : ZV) (a : Option Nat) (L st : List ZV) (h : PH) (hx : zisL x4 = false) , zev kX1_asks_v1 14 (x0 :: x1 :: x2 :: x3 :: x4 :: x5 :: L) (zvr a :: st) h = zev kX1_asks_v1 16 (x0 :: x1 :: x2 :: x3 :: x4 :: zvr a :: L) st h) ∧
  (∀ (x0 x1 x2 x3 : ZV) (a : Int) (L st : List ZV) (h : PH), zev kX1_asks_v1 16 (x0 :: x1 :: x2 :: x3 :: zvi a :: L) st h = zev kX1_asks_v1 18 (x0 :: x1 :: x2 :: x3 :: zvi a :: L) (zvi a :: st) h) ∧
  (∀ (L st : List ZV) (h : PH), zev kX1_asks_v1 18 L st h = zev kX1_asks_v1 19 L (zvi 2 :: st) h) ∧
  (∀ (a b : Int) (L st : List ZV) (h : PH), zev kX1_asks_v1 19 L (zvi b :: zvi a :: st) h = if a > b then zev kX1_asks_v1 33 L st h else zev kX1_asks_v1 22 L st h) ∧
  (∀ (a : Option Nat) (L st : List ZV) (h : PH), zev kX1_asks_v1 22 (zvr a :: L) st h = zev kX1_asks_v1 23 (zvr a :: L) (zvr a :: st) h) ∧
  (∀ (x0 : ZV) (a : Int) (L st : List ZV) (h : PH), zev kX1_asks_v1 23 (x0 :: zvi a :: L) st h = zev kX1_asks_v1 24 (x0 :: zvi a :: L) (zvi a :: st) h) ∧
  (∀ (x0 x1 : ZV) (a : Int) (L st : List ZV) (h : PH), zev kX1_asks_v1 24 (x0 :: x1 :: zvi a :: L) st h = zev kX1_asks_v1 25 (x0 :: x1 :: zvi a :: L) (zvi a :: st) h) ∧
  (∀ (x0 x1 x2 : ZV) (a : Int) (L st : List ZV) (h : PH), zev kX1_asks_v1 25 (x0 :: x1 :: x2 :: zvi a :: L) st h = zev kX1_asks_v1 26 (x0 :: x1 :: x2 :: zvi a :: L) (zvi a :: st) h) ∧
  (∀ (x0 x1 x2 x3 : ZV) (a : Int) (L st : List ZV) (h : PH), zev kX1_asks_v1 26 (x0 :: x1 :: x2 :: x3 :: zvi a :: L) st h = zev kX1_asks_v1 28 (x0 :: x1 :: x2 :: x3 :: zvi a :: L) (zvi a :: st) h) ∧
  (∀ (L st : List ZV) (h : PH), zev kX1_asks_v1 28 L st h = zev kX1_asks_v1 29 L (zvi 1 :: st) h) ∧
  (∀ (a b : Int) (L st : List ZV) (h : PH), zev kX1_asks_v1 29 L (zvi b :: zvi a :: st) h = zev kX1_asks_v1 30 L (zvi (w32 (a + b)) :: st) h) ∧
  (∀ (v0 v1 v2 v3 : ZV) (q : Nat) (L st : List ZV) (h : PH), zev kX1_asks_v1 30 L (v3 :: v2 :: v1 :: v0 :: zvr (some q) :: st) h = if (ph_K h q).1 % 1000 = 16 ∧ zcat st ≤ 8 then zk kX1_asks_v1 30 33 L st (mX1_asks_v2 [zvr (some q), v0, v1, v2, v3] h) else none) ∧
  (∀ (L st : List ZV) (h : PH), zev kX1_asks_v1 33 L st h = zev kX1_asks_v1 42 L st h) ∧
  (∀ (x0 x1 x2 x3 x4 x5 x6 : ZV) (a : Option Nat) (L st : List ZV) (h : PH) (hx : zisL x5 = false) , zev kX1_asks_v1 36 (x0 :: x1 :: x2 :: x3 :: x4 :: x5 :: x6 :: L) (zvr a :: st) h = zev kX1_asks_v1 38 (x0 :: x1 :: x2 :: x3 :: x4 :: x5 :: zvr a :: L) st h) ∧
  (∀ (x0 x1 x2 x3 x4 x5 : ZV) (a : Option Nat) (L st : List ZV) (h : PH), zev kX1_asks_v1 38 (x0 :: x1 :: x2 :: x3 :: x4 :: x5 :: zvr a :: L) st h = zev kX1_asks_v1 40 (x0 :: x1 :: x2 :: x3 :: x4 :: x5 :: zvr a :: L) (zvr a :: st) h) ∧
  (∀ (x0 x1 x2 x3 x4 x5 : ZV) (a : Option Nat) (L st : List ZV) (h : PH) (hx : zisL x4 = false) , zev kX1_asks_v1 40 (x0 :: x1 :: x2 :: x3 :: x4 :: x5 :: L) (zvr a :: st) h = zev kX1_asks_v1 42 (x0 :: x1 :: x2 :: x3 :: x4 :: zvr a :: L) st h) ∧
  (∀ (L st : List ZV) (h : PH), zev kX1_asks_v1 42 L st h = zev kX1_asks_v1 45 L (zvr (some (ph_N h)) :: st) (al_ h 27 0 7)) ∧
  (∀ (a : Int) (L st : List ZV) (h : PH), zev kX1_asks_v1 45 L (zvi a :: st) h = zev kX1_asks_v1 46 L (zvi a :: zvi a :: st) h) ∧
  (∀ (a : Option Nat) (L st : List ZV) (h : PH), zev kX1_asks_v1 45 L (zvr a :: st) h = zev kX1_asks_v1 46 L (zvr a :: zvr a :: st) h) ∧
  (∀ (x0 x1 x2 x3 : ZV) (a : Int) (L st : List ZV) (h : PH), zev kX1_asks_v1 46 (x0 :: x1 :: x2 :: x3 :: zvi a :: L) st h = zev kX1_asks_v1 48 (x0 :: x1 :: x2 :: x3 :: zvi a :: L) (zvi a :: st) h) ∧
  (∀ (L st : List ZV) (h : PH), zev kX1_asks_v1 48 L st h = zev kX1_asks_v1 49 L (zvi 1 :: st) h) ∧
  (∀ (a b : Int) (L st : List ZV) (h : PH), zev kX1_asks_v1 49 L (zvi b :: zvi a :: st) h = zev kX1_asks_v1 50 L (zvi (w32 (a + b)) :: st) h) ∧
  (∀ (x0 x1 x2 x3 x4 : ZV) (a : Option Nat) (L st : List ZV) (h : PH), zev kX1_asks_v1 50 (x0 :: x1 :: x2 :: x3 :: x4 :: zvr a :: L) st h = zev kX1_asks_v1 52 (x0 :: x1 :: x2 :: x3 :: x4 :: zvr a :: L) (zvr a :: st) h) ∧
  (∀ (v0 v1 : ZV) (q : Nat) (L st : List ZV) (h : PH), zev kX1_asks_v1 52 L (v1 :: v0 :: zvr (some q) :: st) h = if (ph_K h q).1 % 1000 = 27 ∧ zcat st ≤ 8 then zk kX1_asks_v1 52 55 L st (mX13_init [zvr (some q), v0, v1] h) else none) ∧
  (∀ (q : Nat) (L st : List ZV) (h : PH), zev kX1_asks_v1 55 L (zvr (some q) :: st) h = if (ph_K h q).1 ≠ 0 then zk kX1_asks_v1 55 0 L [] (zrx q h) else none) :=
  ⟨fun a L st h => e_ld0R (n := 1) rfl,
  fun x0 a L st h => e_ld1I (n := 2) rfl,
  fun x0 x1 a L st h => e_ld2I (n := 3) rfl,
  fun x0 x1 x2 a L st h => e_ld3I (n := 4) rfl,
  fun x0 x1 x2 x3 a L st h => e_ld4I (n := 6) rfl,
  fun v0 v1 v2 v3 q L st h => e_callV5 (F := mX1_hasWay) (kd := 16) (n := 9) rfl,
  fun a L st h => e_ifeq (t := 13) (n := 12) rfl,
  fun L h => e_ret rfl,
  fun L st h => e_push (v := zvr none) (n := 14) rfl,
  fun x0 x1 x2 x3 x4 x5 a L st h hx => e_st5R (n := 16) rfl hx,
  fun x0 x1 x2 x3 a L st h => e_ld4I (n := 18) rfl,
  fun L st h => e_push (v := zvi 2) (n := 19) rfl,
  fun a b L st h => e_cmpgt (t := 33) (n := 22) rfl,
  fun a L st h => e_ld0R (n := 23) rfl,
  fun x0 a L st h => e_ld1I (n := 24) rfl,
  fun x0 x1 a L st h => e_ld2I (n := 25) rfl,
  fun x0 x1 x2 a L st h => e_ld3I (n := 26) rfl,
  fun x0 x1 x2 x3 a L st h => e_ld4I (n := 28) rfl,
  fun L st h => e_push (v := zvi 1) (n := 29) rfl,
  fun a b L st h => e_bin (f := (fun a b => w32 (a + b))) (n := 30) rfl,
  fun v0 v1 v2 v3 q L st h => e_callV5 (F := mX1_asks_v2) (kd := 16) (n := 33) rfl,
  fun L st h => e_goto (t := 42) rfl,
  fun x0 x1 x2 x3 x4 x5 x6 a L st h hx => e_st6R (n := 38) rfl hx,
  fun x0 x1 x2 x3 x4 x5 a L st h => e_ld6R (n := 40) rfl,
  fun x0 x1 x2 x3 x4 x5 a L st h hx => e_st5R (n := 42) rfl hx,
  fun L st h => e_new (kd := 27) (sl := 7) (n := 45) rfl,
  fun a L st h => e_dupI (n := 46) rfl,
  fun a L st h => e_dupR (n := 46) rfl,
  fun x0 x1 x2 x3 a L st h => e_ld4I (n := 48) rfl,
  fun L st h => e_push (v := zvi 1) (n := 49) rfl,
  fun a b L st h => e_bin (f := (fun a b => w32 (a + b))) (n := 50) rfl,
  fun x0 x1 x2 x3 x4 a L st h => e_ld5R (n := 52) rfl,
  fun v0 v1 q L st h => e_callV3 (F := mX13_init) (kd := 27) (n := 55) rfl,
  fun q L st h => e_throw (n := 0) rfl⟩
theorem allX1_asks_v1 : zall yX1_asks cX1_asks 7 none 11 kX1_asks_v1.1 :=
  ⟨k_aload_n dX1_asks_0,
  k_iload_n dX1_asks_1,
  k_iload_n dX1_asks_2,
  k_iload_n dX1_asks_3,
  k_iload dX1_asks_4,
  k_callV (y2 := yX1_hasWay) (C := RX1) (T0 := TX1) (ci := 0) dX1_asks_6 sndX1_hasWay rfl q1575 q1577 qs58 q128 q1578 (by decide +kernel) ⟨by decide, by decide⟩ (by decide) (by decide),
  k_ifeq (t := 13) dX1_asks_9 (by decide),
  k_ret dX1_asks_12,
  k_anull dX1_asks_13,
  k_astore dX1_asks_14,
  k_iload dX1_asks_16,
  k_iconst dX1_asks_18,
  k_cmpgt (t := 33) dX1_asks_19 (by decide),
  k_aload_n dX1_asks_22,
  k_iload_n dX1_asks_23,
  k_iload_n dX1_asks_24,
  k_iload_n dX1_asks_25,
  k_iload dX1_asks_26,
  k_iconst dX1_asks_28,
  k_iadd dX1_asks_29,
  k_callVX (y2 := yX1_asks) (C := RX1) (T0 := TX1) (ci := 0) dX1_asks_30 sndX1_asks_v2 rfl q1571 q1573 qs57 q128 q1574 (by decide +kernel) ⟨by decide, by decide⟩ (by decide) (by decide),
  k_goto (t := 42) dX1_asks_33 (by decide),
  k_astore dX1_asks_36,
  k_aload dX1_asks_38,
  k_astore dX1_asks_40,
  k_new (C := RX13) (T := TX13) (N := 7) (ci := 11) dX1_asks_42 rfl in_X13 tyX13 tyX13_ok rfl (by decide) q1570 q1583 q168,
  k_dup dX1_asks_45,
  k_iload dX1_asks_46,
  k_iconst dX1_asks_48,
  k_iadd dX1_asks_49,
  k_aload dX1_asks_50,
  k_callI (y2 := yX13_init) (C := RX13) (T0 := TX13) (ci := 11) dX1_asks_52 sndX13_init rfl q1591 q1592 q168 q1593 rfl (by decide +kernel) ⟨by decide, by decide⟩ (by decide) (by decide),
  k_throw dX1_asks_55, trivial⟩
theorem sndX1_asks_v1 : MSound 11 yX1_asks (wsW_ yX1_asks cX1_asks 7 none [(16, 33, 36, 340)]) mX1_asks_v1 := msound_H (by decide) allX1_asks_v1
  (fun pc kd t h1 h2 => by
    have h1 : (if 16 ≤ pc ∧ pc < 33 then if kd = 27 then some 36 else some 9999 else none) = some t := h1
    by_cases hp : 16 ≤ pc ∧ pc < 33
    · rw [if_pos hp] at h1
      by_cases hk : kd = 27
      · rw [if_pos hk] at h1
        obtain rfl := Option.some.inj h1
        subst hk
        exact ⟨[], ⟨16, 33, 36, 340⟩, [], 11, RX13, TX13, 7, "LinkTimes$NoWay", rfl, by simp [covers]; omega, by decide, rfl, ⟨rfl, by decide⟩, rfl, q1570, q1584, fun z hz => by cases hz⟩
      rw [if_neg hk] at h1
      obtain rfl := Option.some.inj h1
      cases h2
    · rw [if_neg hp] at h1; cases h1)
  (fun pc kd h1 x hx => by
    have h1 : (if 16 ≤ pc ∧ pc < 33 then if kd = 27 then some 36 else some 9999 else none) = none := h1
    by_cases hp : 16 ≤ pc ∧ pc < 33
    · rw [if_pos hp] at h1
      by_cases hk : kd = 27
      · rw [if_pos hk] at h1; cases h1
      rw [if_neg hk] at h1
      cases h1
    · have hx : x ∈ [(⟨16, 33, 36, 340⟩ : ExceptionTableEntry)] := hx
      simp only [List.mem_cons, List.not_mem_nil, or_false] at hx
      rcases hx with rfl <;> (simp [covers]; omega))
/-! LinkTimes.asks(IIII)V -/
noncomputable def kX1_asks_v0 : ZM := ([(0, zi_ld 1 0 1), (1, zi_ld 0 1 2), (2, zi_ld 0 2 3), (3, zi_ld 0 3 4), (4, zi_ld 0 4 6), (6, zi_callV mX1_hasWay 16 5 9), (9, zi_if (fun a => zc_eq a 0) 13 12), (12, zi_ret), (13, zi_push (zvr none) 14), (14, zi_st 1 5 16), (16, zi_ld 0 4 18), (18, zi_push (zvi 2) 19), (19, zi_cmp zc_gt 33 22), (22, zi_ld 1 0 23), (23, zi_ld 0 1 24), (24, zi_ld 0 2 25), (25, zi_ld 0 3 26), (26, zi_ld 0 4 28), (28, zi_push (zvi 1) 29), (29, zi_bin (fun a b => w32 (a + b)) 30), (30, zi_callV mX1_asks_v1 16 5 33), (33, zi_goto 42), (36, zi_st 1 6 38), (38, zi_ld 1 6 40), (40, zi_st 1 5 42), (42, zi_new 27 7 45), (45, zi_dup 46), (46, zi_ld 0 4 48), (48, zi_push (zvi 1) 49), (49, zi_bin (fun a b => w32 (a + b)) 50), (50, zi_ld 1 5 52), (52, zi_callV mX13_init 27 3 55), (55, zi_throw)], fun pc kd => if 16 ≤ pc ∧ pc < 33 then if kd = 27 then some 36 else some 9999 else none)
noncomputable def mX1_asks_v0 : ZF := zrunM kX1_asks_v0 7
theorem enX1_asks_v0 (x0 : Option Nat) (x1 : Int) (x2 : Int) (x3 : Int) (x4 : Int) (h : PH) : mX1_asks_v0 [zvr x0, zvi x1, zvi x2, zvi x3, zvi x4] h = zev kX1_asks_v0 0 [zvr x0, zvi x1, zvi x2, zvi x3, zvi x4, zvu, zvu] [] h := zrunM_eq rfl rfl
theorem rX1_asks_v0 : (∀ (a : Option Nat) (L st : List ZV) (h : PH), zev kX1_asks_v0 0 (zvr a :: L) st h = zev kX1_asks_v0 1 (zvr a :: L) (zvr a :: st) h) ∧
  (∀ (x0 : ZV) (a : Int) (L st : List ZV) (h : PH), zev kX1_asks_v0 1 (x0 :: zvi a :: L) st h = zev kX1_asks_v0 2 (x0 :: zvi a :: L) (zvi a :: st) h) ∧
  (∀ (x0 x1 : ZV) (a : Int) (L st : List ZV) (h : PH), zev kX1_asks_v0 2 (x0 :: x1 :: zvi a :: L) st h = zev kX1_asks_v0 3 (x0 :: x1 :: zvi a :: L) (zvi a :: st) h) ∧
  (∀ (x0 x1 x2 : ZV) (a : Int) (L st : List ZV) (h : PH), zev kX1_asks_v0 3 (x0 :: x1 :: x2 :: zvi a :: L) st h = zev kX1_asks_v0 4 (x0 :: x1 :: x2 :: zvi a :: L) (zvi a :: st) h) ∧
  (∀ (x0 x1 x2 x3 : ZV) (a : Int) (L st : List ZV) (h : PH), zev kX1_asks_v0 4 (x0 :: x1 :: x2 :: x3 :: zvi a :: L) st h = zev kX1_asks_v0 6 (x0 :: x1 :: x2 :: x3 :: zvi a :: L) (zvi a :: st) h) ∧
  (∀ (v0 v1 v2 v3 : ZV) (q : Nat) (L st : List ZV) (h : PH), zev kX1_asks_v0 6 L (v3 :: v2 :: v1 :: v0 :: zvr (some q) :: st) h = if (ph_K h q).1 % 1000 = 16 ∧ zcat st ≤ 8 then zk kX1_asks_v0 6 9 L st (mX1_hasWay [zvr (some q), v0, v1, v2, v3] h) else none) ∧
  (∀ (a : Int) (L st : List ZV) (h : PH), zev kX1_asks_v0 9 L (zvi a :: st) h = if a = 0 then zev kX1_asks_v0 13 L st h else zev kX1_asks_v0 12 L st h) ∧
  (∀ (L : List ZV) (h : PH), zev kX1_asks_v0 12 L [] h = zr0 h) ∧
  (∀ (L st : List ZV) (h : PH), zev kX1_asks_v0 13 L st h = zev kX1_asks_v0 14 L (zvr none :: st) h) ∧
  (∀ (x0 x1 x2 x3 x4 x5 : ZV) (a : Option Nat) (L st : List ZV) (h : PH) (hx : zisL x4 = false) , zev kX1_asks_v0 14 (x0 :: x1 :: x2 :: x3 :: x4 :: x5 :: L) (zvr a :: st) h = zev kX1_asks_v0 16 (x0 :: x1 :: x2 :: x3 :: x4 :: zvr a :: L) st h) ∧
  (∀ (x0 x1 x2 x3 : ZV) (a : Int) (L st : List ZV) (h : PH), zev kX1_asks_v0 16 (x0 :: x1 :: x2 :: x3 :: zvi a :: L) st h = zev kX1_asks_v0 18 (x0 :: x1 :: x2 :: x3 :: zvi a :: L) (zvi a :: st) h) ∧
  (∀ (L st : List ZV) (h : PH), zev kX1_asks_v0 18 L st h = zev kX1_asks_v0 19 L (zvi 2 :: st) h) ∧
  (∀ (a b : Int) (L st : List ZV) (h : PH), zev kX1_asks_v0 19 L (zvi b :: zvi a :: st) h = if a > b then zev kX1_asks_v0 33 L st h else zev kX1_asks_v0 22 L st h) ∧
  (∀ (a : Option Nat) (L st : List ZV) (h : PH), zev kX1_asks_v0 22 (zvr a :: L) st h = zev kX1_asks_v0 23 (zvr a :: L) (zvr a :: st) h) ∧
  (∀ (x0 : ZV) (a : Int) (L st : List ZV) (h : PH), zev kX1_asks_v0 23 (x0 :: zvi a :: L) st h = zev kX1_asks_v0 24 (x0 :: zvi a :: L) (zvi a :: st) h) ∧
  (∀ (x0 x1 : ZV) (a : Int) (L st : List ZV) (h : PH), zev kX1_asks_v0 24 (x0 :: x1 :: zvi a :: L) st h = zev kX1_asks_v0 25 (x0 :: x1 :: zvi a :: L) (zvi a :: st) h) ∧
  (∀ (x0 x1 x2 : ZV) (a : Int) (L st : List ZV) (h : PH), zev kX1_asks_v0 25 (x0 :: x1 :: x2 :: zvi a :: L) st h = zev kX1_asks_v0 26 (x0 :: x1 :: x2 :: zvi a :: L) (zvi a :: st) h) ∧
  (∀ (x0 x1 x2 x3 : ZV) (a : Int) (L st : List ZV) (h : PH), zev kX1_asks_v0 26 (x0 :: x1 :: x2 :: x3 :: zvi a :: L) st h = zev kX1_asks_v0 28 (x0 :: x1 :: x2 :: x3 :: zvi a :: L) (zvi a :: st) h) ∧
  (∀ (L st : List ZV) (h : PH), zev kX1_asks_v0 28 L st h = zev kX1_asks_v0 29 L (zvi 1 :: st) h) ∧
  (∀ (a b : Int) (L st : List ZV) (h : PH), zev kX1_asks_v0 29 L (zvi b :: zvi a :: st) h = zev kX1_asks_v0 30 L (zvi (w32 (a + b)) :: st) h) ∧
  (∀ (v0 v1 v2 v3 : ZV) (q : Nat) (L st : List ZV) (h : PH), zev kX1_asks_v0 30 L (v3 :: v2 :: v1 :: v0 :: zvr (some q) :: st) h = if (ph_K h q).1 % 1000 = 16 ∧ zcat st ≤ 8 then zk kX1_asks_v0 30 33 L st (mX1_asks_v1 [zvr (some q), v0, v1, v2, v3] h) else none) ∧
  (∀ (L st : List ZV) (h : PH), zev kX1_asks_v0 33 L st h = zev kX1_asks_v0 42 L st h) ∧
  (∀ (x0 x1 x2 x3 x4 x5 x6 : ZV) (a : Option Nat) (L st : List ZV) (h : PH) (hx : zisL x5 = false) , zev kX1_asks_v0 36 (x0 :: x1 :: x2 :: x3 :: x4 :: x5 :: x6 :: L) (zvr a :: st) h = zev kX1_asks_v0 38 (x0 :: x1 :: x2 :: x3 :: x4 :: x5 :: zvr a :: L) st h) ∧
  (∀ (x0 x1 x2 x3 x4 x5 : ZV) (a : Option Nat) (L st : List ZV) (h : PH), zev kX1_asks_v0 38 (x0 :: x1 :: x2 :: x3 :: x4 :: x5 :: zvr a :: L) st h = zev kX1_asks_v0 40 (x0 :: x1 :: x2 :: x3 :: x4 :: x5 :: zvr a :: L) (zvr a :: st) h) ∧
  (∀ (x0 x1 x2 x3 x4 x5 : ZV) (a : Option Nat) (L st : List ZV) (h : PH) (hx : zisL x4 = false) , zev kX1_asks_v0 40 (x0 :: x1 :: x2 :: x3 :: x4 :: x5 :: L) (zvr a :: st) h = zev kX1_asks_v0 42 (x0 :: x1 :: x2 :: x3 :: x4 :: zvr a :: L) st h) ∧
  (∀ (L st : List ZV) (h : PH), zev kX1_asks_v0 42 L st h = zev kX1_asks_v0 45 L (zvr (some (ph_N h)) :: st) (al_ h 27 0 7)) ∧
  (∀ (a : Int) (L st : List ZV) (h : PH), zev kX1_asks_v0 45 L (zvi a :: st) h = zev kX1_asks_v0 46 L (zvi a :: zvi a :: st) h) ∧
  (∀ (a : Option Nat) (L st : List ZV) (h : PH), zev kX1_asks_v0 45 L (zvr a :: st) h = zev kX1_asks_v0 46 L (zvr a :: zvr a :: st) h) ∧
  (∀ (x0 x1 x2 x3 : ZV) (a : Int) (L st : List ZV) (h : PH), zev kX1_asks_v0 46 (x0 :: x1 :: x2 :: x3 :: zvi a :: L) st h = zev kX1_asks_v0 48 (x0 :: x1 :: x2 :: x3 :: zvi a :: L) (zvi a :: st) h) ∧
  (∀ (L st : List ZV) (h : PH), zev kX1_asks_v0 48 L st h = zev kX1_asks_v0 49 L (zvi 1 :: st) h) ∧
  (∀ (a b : Int) (L st : List ZV) (h : PH), zev kX1_asks_v0 49 L (zvi b :: zvi a :: st) h = zev kX1_asks_v0 50 L (zvi (w32 (a + b)) :: st) h) ∧
  (∀ (x0 x1 x2 x3 x4 : ZV) (a : Option Nat) (L st : List ZV) (h : PH), zev kX1_asks_v0 50 (x0 :: x1 :: x2 :: x3 :: x4 :: zvr a :: L) st h = zev kX1_asks_v0 52 (x0 :: x1 :: x2 :: x3 :: x4 :: zvr a :: L) (zvr a :: st) h) ∧
  (∀ (v0 v1 : ZV) (q : Nat) (L st : List ZV) (h : PH), zev kX1_asks_v0 52 L (v1 :: v0 :: zvr (some q) :: st) h = if (ph_K h q).1 % 1000 = 27 ∧ zcat st ≤ 8 then zk kX1_asks_v0 52 55 L st (mX13_init [zvr (some q), v0, v1] h) else none) ∧
  (∀ (q : Nat) (L st : List ZV) (h : PH), zev kX1_asks_v0 55 L (zvr (some q) :: st) h = if (ph_K h q).1 ≠ 0 then zk kX1_asks_v0 55 0 L [] (zrx q h) else none) :=
  ⟨fun a L st h => e_ld0R (n := 1) rfl,
  fun x0 a L st h => e_ld1I (n := 2) rfl,
  fun x0 x1 a L st h => e_ld2I (n := 3) rfl,
  fun x0 x1 x2 a L st h => e_ld3I (n := 4) rfl,
  fun x0 x1 x2 x3 a L st h => e_ld4I (n := 6) rfl,
  fun v0 v1 v2 v3 q L st h => e_callV5 (F := mX1_hasWay) (kd := 16) (n := 9) rfl,
  fun a L st h => e_ifeq (t := 13) (n := 12) rfl,
  fun L h => e_ret rfl,
  fun L st h => e_push (v := zvr none) (n := 14) rfl,
  fun x0 x1 x2 x3 x4 x5 a L st h hx => e_st5R (n := 16) rfl hx,
  fun x0 x1 x2 x3 a L st h => e_ld4I (n := 18) rfl,
  fun L st h => e_push (v := zvi 2) (n := 19) rfl,
  fun a b L st h => e_cmpgt (t := 33) (n := 22) rfl,
  fun a L st h => e_ld0R (n := 23) rfl,
  fun x0 a L st h => e_ld1I (n := 24) rfl,
  fun x0 x1 a L st h => e_ld2I (n := 25) rfl,
  fun x0 x1 x2 a L st h => e_ld3I (n := 26) rfl,
  fun x0 x1 x2 x3 a L st h => e_ld4I (n := 28) rfl,
  fun L st h => e_push (v := zvi 1) (n := 29) rfl,
  fun a b L st h => e_bin (f := (fun a b => w32 (a + b))) (n := 30) rfl,
  fun v0 v1 v2 v3 q L st h => e_callV5 (F := mX1_asks_v1) (kd := 16) (n := 33) rfl,
  fun L st h => e_goto (t := 42) rfl,
  fun x0 x1 x2 x3 x4 x5 x6 a L st h hx => e_st6R (n := 38) rfl hx,
  fun x0 x1 x2 x3 x4 x5 a L st h => e_ld6R (n := 40) rfl,
  fun x0 x1 x2 x3 x4 x5 a L st h hx => e_st5R (n := 42) rfl hx,
  fun L st h => e_new (kd := 27) (sl := 7) (n := 45) rfl,
  fun a L st h => e_dupI (n := 46) rfl,
  fun a L st h => e_dupR (n := 46) rfl,
  fun x0 x1 x2 x3 a L st h => e_ld4I (n := 48) rfl,
  fun L st h => e_push (v := zvi 1) (n := 49) rfl,
  fun a b L st h => e_bin (f := (fun a b => w32 (a + b))) (n := 50) rfl,
  fun x0 x1 x2 x3 x4 a L st h => e_ld5R (n := 52) rfl,
  fun v0 v1 q L st h => e_callV3 (F := mX13_init) (kd := 27) (n := 55) rfl,
  fun q L st h => e_throw (n := 0) rfl⟩
theorem allX1_asks_v0 : zall yX1_asks cX1_asks 7 none 12 kX1_asks_v0.1 :=
  ⟨k_aload_n dX1_asks_0,
  k_iload_n dX1_asks_1,
  k_iload_n dX1_asks_2,
  k_iload_n dX1_asks_3,
  k_iload dX1_asks_4,
  k_callV (y2 := yX1_hasWay) (C := RX1) (T0 := TX1) (ci := 0) dX1_asks_6 sndX1_hasWay rfl q1575 q1577 qs58 q128 q1578 (by decide +kernel) ⟨by decide, by decide⟩ (by decide) (by decide),
  k_ifeq (t := 13) dX1_asks_9 (by decide),
  k_ret dX1_asks_12,
  k_anull dX1_asks_13,
  k_astore dX1_asks_14,
  k_iload dX1_asks_16,
  k_iconst dX1_asks_18,
  k_cmpgt (t := 33) dX1_asks_19 (by decide),
  k_aload_n dX1_asks_22,
  k_iload_n dX1_asks_23,
  k_iload_n dX1_asks_24,
  k_iload_n dX1_asks_25,
  k_iload dX1_asks_26,
  k_iconst dX1_asks_28,
  k_iadd dX1_asks_29,
  k_callVX (y2 := yX1_asks) (C := RX1) (T0 := TX1) (ci := 0) dX1_asks_30 sndX1_asks_v1 rfl q1571 q1573 qs57 q128 q1574 (by decide +kernel) ⟨by decide, by decide⟩ (by decide) (by decide),
  k_goto (t := 42) dX1_asks_33 (by decide),
  k_astore dX1_asks_36,
  k_aload dX1_asks_38,
  k_astore dX1_asks_40,
  k_new (C := RX13) (T := TX13) (N := 7) (ci := 11) dX1_asks_42 rfl in_X13 tyX13 tyX13_ok rfl (by decide) q1570 q1583 q168,
  k_dup dX1_asks_45,
  k_iload dX1_asks_46,
  k_iconst dX1_asks_48,
  k_iadd dX1_asks_49,
  k_aload dX1_asks_50,
  k_callI (y2 := yX13_init) (C := RX13) (T0 := TX13) (ci := 11) dX1_asks_52 sndX13_init rfl q1591 q1592 q168 q1593 rfl (by decide +kernel) ⟨by decide, by decide⟩ (by decide) (by decide),
  k_throw dX1_asks_55, trivial⟩
theorem sndX1_asks_v0 : MSound 12 yX1_asks (wsW_ yX1_asks cX1_asks 7 none [(16, 33, 36, 340)]) mX1_asks_v0 := msound_H (by decide) allX1_asks_v0
  (fun pc kd t h1 h2 => by
    have h1 : (if 16 ≤ pc ∧ pc < 33 then if kd = 27 then some 36 else some 9999 else none) = some t := h1
    by_cases hp : 16 ≤ pc ∧ pc < 33
    · rw [if_pos hp] at h1
      by_cases hk : kd = 27
      · rw [if_pos hk] at h1
        obtain rfl := Option.some.inj h1
        subst hk
        exact ⟨[], ⟨16, 33, 36, 340⟩, [], 11, RX13, TX13, 7, "LinkTimes$NoWay", rfl, by simp [covers]; omega, by decide, rfl, ⟨rfl, by decide⟩, rfl, q1570, q1584, fun z hz => by cases hz⟩
      rw [if_neg hk] at h1
      obtain rfl := Option.some.inj h1
      cases h2
    · rw [if_neg hp] at h1; cases h1)
  (fun pc kd h1 x hx => by
    have h1 : (if 16 ≤ pc ∧ pc < 33 then if kd = 27 then some 36 else some 9999 else none) = none := h1
    by_cases hp : 16 ≤ pc ∧ pc < 33
    · rw [if_pos hp] at h1
      by_cases hk : kd = 27
      · rw [if_pos hk] at h1; cases h1
      rw [if_neg hk] at h1
      cases h1
    · have hx : x ∈ [(⟨16, 33, 36, 340⟩ : ExceptionTableEntry)] := hx
      simp only [List.mem_cons, List.not_mem_nil, or_false] at hx
      rcases hx with rfl <;> (simp [covers]; omega))
/-! LinkTimes.why(IIII)I -/
noncomputable def kX1_why : ZM := ([(0, zi_ld 1 0 1), (1, zi_ld 0 1 2), (2, zi_ld 0 2 3), (3, zi_ld 0 3 4), (4, zi_callV mX1_refuses 16 4 7), (7, zi_st 0 5 9), (9, zi_ld 0 5 11), (11, zi_if (fun a => zc_ne a 0) 22 14), (14, zi_ld 0 4 16), (16, zi_if (fun a => zc_ge a 0) 22 19), (19, zi_push (zvi 2) 20), (20, zi_st 0 5 22), (22, zi_ld 0 5 24), (24, zi_if (fun a => zc_le a 0) 34 27), (27, zi_ld 1 0 28), (28, zi_ld 0 5 30), (30, zi_callV mX1_refused 16 2 33), (33, zi_retv 0), (34, zi_ld 1 0 35), (35, zi_ld 0 1 36), (36, zi_ld 0 2 37), (37, zi_ld 0 3 38), (38, zi_push (zvi 0) 39), (39, zi_callV mX1_asks_v0 16 5 42), (42, zi_ld 1 0 43), (43, zi_push (zvi 0) 44), (44, zi_callV mX1_fine 16 2 47), (47, zi_retv 0), (48, zi_st 1 6 50), (50, zi_ld 1 6 52), (52, zi_st 1 7 54), (54, zi_push (zvi 0) 55), (55, zi_st 0 8 57), (57, zi_ld 0 8 59), (59, zi_ld 0 4 61), (61, zi_cmp zc_ge 82 64), (64, zi_ld 1 7 66), (66, zi_null 82 69), (69, zi_ld 1 7 71), (71, zi_callV mGC 27 1 74), (74, zi_st 1 7 76), (76, zi_iinc 8 1 79), (79, zi_goto 57), (82, zi_ld 1 0 83), (83, zi_ld 1 7 85), (85, zi_nonnull 92 88), (88, zi_push (zvi 0) 89), (89, zi_goto 100), (92, zi_ld 1 7 94), (94, zi_cast zokNoWay 97), (97, zi_getI 27 6 100), (100, zi_callV mX1_fine 16 2 103), (103, zi_retv 0)], fun pc kd => if 34 ≤ pc ∧ pc < 47 then if kd = 27 then some 48 else some 9999 else none)
noncomputable def mX1_why : ZF := zrunM kX1_why 9
theorem enX1_why (x0 : Option Nat) (x1 : Int) (x2 : Int) (x3 : Int) (x4 : Int) (h : PH) : mX1_why [zvr x0, zvi x1, zvi x2, zvi x3, zvi x4] h = zev kX1_why 0 [zvr x0, zvi x1, zvi x2, zvi x3, zvi x4, zvu, zvu, zvu, zvu] [] h := zrunM_eq rfl rfl
theorem hdX1_why_57 (x0 x1 x2 x3 x4 x5 x6 x7 : ZV) (a : Int) (L st : List ZV) (h : PH) : zev kX1_why 57 (x0 :: x1 :: x2 :: x3 :: x4 :: x5 :: x6 :: x7 :: zvi a :: L) st h = zev kX1_why 59 (x0 :: x1 :: x2 :: x3 :: x4 :: x5 :: x6 :: x7 :: zvi a :: L) (zvi a :: st) h := e_ld8I (n := 59) rfl
theorem rX1_why : (∀ (a : Option Nat) (L st : List ZV) (h : PH), zev kX1_why 0 (zvr a :: L) st h = zev kX1_why 1 (zvr a :: L) (zvr a :: st) h) ∧
  (∀ (x0 : ZV) (a : Int) (L st : List ZV) (h : PH), zev kX1_why 1 (x0 :: zvi a :: L) st h = zev kX1_why 2 (x0 :: zvi a :: L) (zvi a :: st) h) ∧
  (∀ (x0 x1 : ZV) (a : Int) (L st : List ZV) (h : PH), zev kX1_why 2 (x0 :: x1 :: zvi a :: L) st h = zev kX1_why 3 (x0 :: x1 :: zvi a :: L) (zvi a :: st) h) ∧
  (∀ (x0 x1 x2 : ZV) (a : Int) (L st : List ZV) (h : PH), zev kX1_why 3 (x0 :: x1 :: x2 :: zvi a :: L) st h = zev kX1_why 4 (x0 :: x1 :: x2 :: zvi a :: L) (zvi a :: st) h) ∧
  (∀ (v0 v1 v2 : ZV) (q : Nat) (L st : List ZV) (h : PH), zev kX1_why 4 L (v2 :: v1 :: v0 :: zvr (some q) :: st) h = if (ph_K h q).1 % 1000 = 16 ∧ zcat st ≤ 8 then zk kX1_why 4 7 L st (mX1_refuses [zvr (some q), v0, v1, v2] h) else none) ∧
  (∀ (x0 x1 x2 x3 x4 x5 : ZV) (a : Int) (L st : List ZV) (h : PH) (hx : zisL x4 = false) , zev kX1_why 7 (x0 :: x1 :: x2 :: x3 :: x4 :: x5 :: L) (zvi a :: st) h = zev kX1_why 9 (x0 :: x1 :: x2 :: x3 :: x4 :: zvi a :: L) st h) ∧
  (∀ (x0 x1 x2 x3 x4 : ZV) (a : Int) (L st : List ZV) (h : PH), zev kX1_why 9 (x0 :: x1 :: x2 :: x3 :: x4 :: zvi a :: L) st h = zev kX1_why 11 (x0 :: x1 :: x2 :: x3 :: x4 :: zvi a :: L) (zvi a :: st) h) ∧
  (∀ (a : Int) (L st : List ZV) (h : PH), zev kX1_why 11 L (zvi a :: st) h = if a ≠ 0 then zev kX1_why 22 L st h else zev kX1_why 14 L st h) ∧
  (∀ (x0 x1 x2 x3 : ZV) (a : Int) (L st : List ZV) (h : PH), zev kX1_why 14 (x0 :: x1 :: x2 :: x3 :: zvi a :: L) st h = zev kX1_why 16 (x0 :: x1 :: x2 :: x3 :: zvi a :: L) (zvi a :: st) h) ∧
  (∀ (a : Int) (L st : List ZV) (h : PH), zev kX1_why 16 L (zvi a :: st) h = if a ≥ 0 then zev kX1_why 22 L st h else zev kX1_why 19 L st h) ∧
  (∀ (L st : List ZV) (h : PH), zev kX1_why 19 L st h = zev kX1_why 20 L (zvi 2 :: st) h) ∧
  (∀ (x0 x1 x2 x3 x4 x5 : ZV) (a : Int) (L st : List ZV) (h : PH) (hx : zisL x4 = false) , zev kX1_why 20 (x0 :: x1 :: x2 :: x3 :: x4 :: x5 :: L) (zvi a :: st) h = zev kX1_why 22 (x0 :: x1 :: x2 :: x3 :: x4 :: zvi a :: L) st h) ∧
  (∀ (x0 x1 x2 x3 x4 : ZV) (a : Int) (L st : List ZV) (h : PH), zev kX1_why 22 (x0 :: x1 :: x2 :: x3 :: x4 :: zvi a :: L) st h = zev kX1_why 24 (x0 :: x1 :: x2 :: x3 :: x4 :: zvi a :: L) (zvi a :: st) h) ∧
  (∀ (a : Int) (L st : List ZV) (h : PH), zev kX1_why 24 L (zvi a :: st) h = if a ≤ 0 then zev kX1_why 34 L st h else zev kX1_why 27 L st h) ∧
  (∀ (a : Option Nat) (L st : List ZV) (h : PH), zev kX1_why 27 (zvr a :: L) st h = zev kX1_why 28 (zvr a :: L) (zvr a :: st) h) ∧
  (∀ (x0 x1 x2 x3 x4 : ZV) (a : Int) (L st : List ZV) (h : PH), zev kX1_why 28 (x0 :: x1 :: x2 :: x3 :: x4 :: zvi a :: L) st h = zev kX1_why 30 (x0 :: x1 :: x2 :: x3 :: x4 :: zvi a :: L) (zvi a :: st) h) ∧
  (∀ (v0 : ZV) (q : Nat) (L st : List ZV) (h : PH), zev kX1_why 30 L (v0 :: zvr (some q) :: st) h = if (ph_K h q).1 % 1000 = 16 ∧ zcat st ≤ 8 then zk kX1_why 30 33 L st (mX1_refused [zvr (some q), v0] h) else none) ∧
  (∀ (a : Int) (L : List ZV) (h : PH), zev kX1_why 33 L [zvi a] h = zrv (zvi a) h) ∧
  (∀ (a : Option Nat) (L st : List ZV) (h : PH), zev kX1_why 34 (zvr a :: L) st h = zev kX1_why 35 (zvr a :: L) (zvr a :: st) h) ∧
  (∀ (x0 : ZV) (a : Int) (L st : List ZV) (h : PH), zev kX1_why 35 (x0 :: zvi a :: L) st h = zev kX1_why 36 (x0 :: zvi a :: L) (zvi a :: st) h) ∧
  (∀ (x0 x1 : ZV) (a : Int) (L st : List ZV) (h : PH), zev kX1_why 36 (x0 :: x1 :: zvi a :: L) st h = zev kX1_why 37 (x0 :: x1 :: zvi a :: L) (zvi a :: st) h) ∧
  (∀ (x0 x1 x2 : ZV) (a : Int) (L st : List ZV) (h : PH), zev kX1_why 37 (x0 :: x1 :: x2 :: zvi a :: L) st h = zev kX1_why 38 (x0 :: x1 :: x2 :: zvi a :: L) (zvi a :: st) h) ∧
  (∀ (L st : List ZV) (h : PH), zev kX1_why 38 L st h = zev kX1_why 39 L (zvi 0 :: st) h) ∧
  (∀ (v0 v1 v2 v3 : ZV) (q : Nat) (L st : List ZV) (h : PH), zev kX1_why 39 L (v3 :: v2 :: v1 :: v0 :: zvr (some q) :: st) h = if (ph_K h q).1 % 1000 = 16 ∧ zcat st ≤ 8 then zk kX1_why 39 42 L st (mX1_asks_v0 [zvr (some q), v0, v1, v2, v3] h) else none) ∧
  (∀ (a : Option Nat) (L st : List ZV) (h : PH), zev kX1_why 42 (zvr a :: L) st h = zev kX1_why 43 (zvr a :: L) (zvr a :: st) h) ∧
  (∀ (L st : List ZV) (h : PH), zev kX1_why 43 L st h = zev kX1_why 44 L (zvi 0 :: st) h) ∧
  (∀ (v0 : ZV) (q : Nat) (L st : List ZV) (h : PH), zev kX1_why 44 L (v0 :: zvr (some q) :: st) h = if (ph_K h q).1 % 1000 = 16 ∧ zcat st ≤ 8 then zk kX1_why 44 47 L st (mX1_fine [zvr (some q), v0] h) else none) ∧
  (∀ (a : Int) (L : List ZV) (h : PH), zev kX1_why 47 L [zvi a] h = zrv (zvi a) h) ∧
  (∀ (x0 x1 x2 x3 x4 x5 x6 : ZV) (a : Option Nat) (L st : List ZV) (h : PH) (hx : zisL x5 = false) , zev kX1_why 48 (x0 :: x1 :: x2 :: x3 :: x4 :: x5 :: x6 :: L) (zvr a :: st) h = zev kX1_why 50 (x0 :: x1 :: x2 :: x3 :: x4 :: x5 :: zvr a :: L) st h) ∧
  (∀ (x0 x1 x2 x3 x4 x5 : ZV) (a : Option Nat) (L st : List ZV) (h : PH), zev kX1_why 50 (x0 :: x1 :: x2 :: x3 :: x4 :: x5 :: zvr a :: L) st h = zev kX1_why 52 (x0 :: x1 :: x2 :: x3 :: x4 :: x5 :: zvr a :: L) (zvr a :: st) h) ∧
  (∀ (x0 x1 x2 x3 x4 x5 x6 x7 : ZV) (a : Option Nat) (L st : List ZV) (h : PH) (hx : zisL x6 = false) , zev kX1_why 52 (x0 :: x1 :: x2 :: x3 :: x4 :: x5 :: x6 :: x7 :: L) (zvr a :: st) h = zev kX1_why 54 (x0 :: x1 :: x2 :: x3 :: x4 :: x5 :: x6 :: zvr a :: L) st h) ∧
  (∀ (L st : List ZV) (h : PH), zev kX1_why 54 L st h = zev kX1_why 55 L (zvi 0 :: st) h) ∧
  (∀ (x0 x1 x2 x3 x4 x5 x6 x7 x8 : ZV) (a : Int) (L st : List ZV) (h : PH) (hx : zisL x7 = false) , zev kX1_why 55 (x0 :: x1 :: x2 :: x3 :: x4 :: x5 :: x6 :: x7 :: x8 :: L) (zvi a :: st) h = zev kX1_why 57 (x0 :: x1 :: x2 :: x3 :: x4 :: x5 :: x6 :: x7 :: zvi a :: L) st h) ∧
  (∀ (x0 x1 x2 x3 : ZV) (a : Int) (L st : List ZV) (h : PH), zev kX1_why 59 (x0 :: x1 :: x2 :: x3 :: zvi a :: L) st h = zev kX1_why 61 (x0 :: x1 :: x2 :: x3 :: zvi a :: L) (zvi a :: st) h) ∧
  (∀ (a b : Int) (L st : List ZV) (h : PH), zev kX1_why 61 L (zvi b :: zvi a :: st) h = if a ≥ b then zev kX1_why 82 L st h else zev kX1_why 64 L st h) ∧
  (∀ (x0 x1 x2 x3 x4 x5 x6 : ZV) (a : Option Nat) (L st : List ZV) (h : PH), zev kX1_why 64 (x0 :: x1 :: x2 :: x3 :: x4 :: x5 :: x6 :: zvr a :: L) st h = zev kX1_why 66 (x0 :: x1 :: x2 :: x3 :: x4 :: x5 :: x6 :: zvr a :: L) (zvr a :: st) h) ∧
  (∀ (L st : List ZV) (h : PH), zev kX1_why 66 L (zvr none :: st) h = zev kX1_why 82 L st h) ∧
  (∀ (q : Nat) (L st : List ZV) (h : PH), zev kX1_why 66 L (zvr (some q) :: st) h = if (ph_K h q).1 ≠ 0 then zev kX1_why 69 L st h else none) ∧
  (∀ (x0 x1 x2 x3 x4 x5 x6 : ZV) (a : Option Nat) (L st : List ZV) (h : PH), zev kX1_why 69 (x0 :: x1 :: x2 :: x3 :: x4 :: x5 :: x6 :: zvr a :: L) st h = zev kX1_why 71 (x0 :: x1 :: x2 :: x3 :: x4 :: x5 :: x6 :: zvr a :: L) (zvr a :: st) h) ∧
  (∀ (q : Nat) (L st : List ZV) (h : PH), zev kX1_why 71 L (zvr (some q) :: st) h = if (ph_K h q).1 % 1000 = 27 ∧ zcat st ≤ 8 then zk kX1_why 71 74 L st (mGC [zvr (some q)] h) else none) ∧
  (∀ (x0 x1 x2 x3 x4 x5 x6 x7 : ZV) (a : Option Nat) (L st : List ZV) (h : PH) (hx : zisL x6 = false) , zev kX1_why 74 (x0 :: x1 :: x2 :: x3 :: x4 :: x5 :: x6 :: x7 :: L) (zvr a :: st) h = zev kX1_why 76 (x0 :: x1 :: x2 :: x3 :: x4 :: x5 :: x6 :: zvr a :: L) st h) ∧
  (∀ (x0 x1 x2 x3 x4 x5 x6 x7 : ZV) (a : Int) (L st : List ZV) (h : PH) (hx : zisL x7 = false) , zev kX1_why 76 (x0 :: x1 :: x2 :: x3 :: x4 :: x5 :: x6 :: x7 :: zvi a :: L) st h = zev kX1_why 79 (x0 :: x1 :: x2 :: x3 :: x4 :: x5 :: x6 :: x7 :: zvi (w32 (a + 1)) :: L) st h) ∧
  (∀ (L st : List ZV) (h : PH), zev kX1_why 79 L st h = zev kX1_why 57 L st h) ∧
  (∀ (a : Option Nat) (L st : List ZV) (h : PH), zev kX1_why 82 (zvr a :: L) st h = zev kX1_why 83 (zvr a :: L) (zvr a :: st) h) ∧
  (∀ (x0 x1 x2 x3 x4 x5 x6 : ZV) (a : Option Nat) (L st : List ZV) (h : PH), zev kX1_why 83 (x0 :: x1 :: x2 :: x3 :: x4 :: x5 :: x6 :: zvr a :: L) st h = zev kX1_why 85 (x0 :: x1 :: x2 :: x3 :: x4 :: x5 :: x6 :: zvr a :: L) (zvr a :: st) h) ∧
  (∀ (L st : List ZV) (h : PH), zev kX1_why 85 L (zvr none :: st) h = zev kX1_why 88 L st h) ∧
  (∀ (q : Nat) (L st : List ZV) (h : PH), zev kX1_why 85 L (zvr (some q) :: st) h = if (ph_K h q).1 ≠ 0 then zev kX1_why 92 L st h else none) ∧
  (∀ (L st : List ZV) (h : PH), zev kX1_why 88 L st h = zev kX1_why 89 L (zvi 0 :: st) h) ∧
  (∀ (L st : List ZV) (h : PH), zev kX1_why 89 L st h = zev kX1_why 100 L st h) ∧
  (∀ (x0 x1 x2 x3 x4 x5 x6 : ZV) (a : Option Nat) (L st : List ZV) (h : PH), zev kX1_why 92 (x0 :: x1 :: x2 :: x3 :: x4 :: x5 :: x6 :: zvr a :: L) st h = zev kX1_why 94 (x0 :: x1 :: x2 :: x3 :: x4 :: x5 :: x6 :: zvr a :: L) (zvr a :: st) h) ∧
  (∀ (L st : List ZV) (h : PH), zev kX1_why 94 L (zvr none :: st) h = zev kX1_why 97 L (zvr none :: st) h) ∧
  (∀ (q : Nat) (L st : List ZV) (h : PH), zev kX1_why 94 L (zvr (some q) :: st) h = if zokNoWay (ph_K h q).1 = true then zev kX1_why 97 L (zvr (some q) :: st) h else none) ∧
  (∀ (q : Nat) (L st : List ZV) (h : PH), zev kX1_why 97 L (zvr (some q) :: st) h = if (ph_K h q).1 % 1000 = 27 then zev kX1_why 100 L (zvi (ph_I h q 6) :: st) h else none) ∧
  (∀ (v0 : ZV) (q : Nat) (L st : List ZV) (h : PH), zev kX1_why 100 L (v0 :: zvr (some q) :: st) h = if (ph_K h q).1 % 1000 = 16 ∧ zcat st ≤ 8 then zk kX1_why 100 103 L st (mX1_fine [zvr (some q), v0] h) else none) ∧
  (∀ (a : Int) (L : List ZV) (h : PH), zev kX1_why 103 L [zvi a] h = zrv (zvi a) h) :=
  ⟨fun a L st h => e_ld0R (n := 1) rfl,
  fun x0 a L st h => e_ld1I (n := 2) rfl,
  fun x0 x1 a L st h => e_ld2I (n := 3) rfl,
  fun x0 x1 x2 a L st h => e_ld3I (n := 4) rfl,
  fun v0 v1 v2 q L st h => e_callV4 (F := mX1_refuses) (kd := 16) (n := 7) rfl,
  fun x0 x1 x2 x3 x4 x5 a L st h hx => e_st5I (n := 9) rfl hx,
  fun x0 x1 x2 x3 x4 a L st h => e_ld5I (n := 11) rfl,
  fun a L st h => e_ifne (t := 22) (n := 14) rfl,
  fun x0 x1 x2 x3 a L st h => e_ld4I (n := 16) rfl,
  fun a L st h => e_ifge (t := 22) (n := 19) rfl,
  fun L st h => e_push (v := zvi 2) (n := 20) rfl,
  fun x0 x1 x2 x3 x4 x5 a L st h hx => e_st5I (n := 22) rfl hx,
  fun x0 x1 x2 x3 x4 a L st h => e_ld5I (n := 24) rfl,
  fun a L st h => e_ifle (t := 34) (n := 27) rfl,
  fun a L st h => e_ld0R (n := 28) rfl,
  fun x0 x1 x2 x3 x4 a L st h => e_ld5I (n := 30) rfl,
  fun v0 q L st h => e_callV2 (F := mX1_refused) (kd := 16) (n := 33) rfl,
  fun a L h => e_retI rfl,
  fun a L st h => e_ld0R (n := 35) rfl,
  fun x0 a L st h => e_ld1I (n := 36) rfl,
  fun x0 x1 a L st h => e_ld2I (n := 37) rfl,
  fun x0 x1 x2 a L st h => e_ld3I (n := 38) rfl,
  fun L st h => e_push (v := zvi 0) (n := 39) rfl,
  fun v0 v1 v2 v3 q L st h => e_callV5 (F := mX1_asks_v0) (kd := 16) (n := 42) rfl,
  fun a L st h => e_ld0R (n := 43) rfl,
  fun L st h => e_push (v := zvi 0) (n := 44) rfl,
  fun v0 q L st h => e_callV2 (F := mX1_fine) (kd := 16) (n := 47) rfl,
  fun a L h => e_retI rfl,
  fun x0 x1 x2 x3 x4 x5 x6 a L st h hx => e_st6R (n := 50) rfl hx,
  fun x0 x1 x2 x3 x4 x5 a L st h => e_ld6R (n := 52) rfl,
  fun x0 x1 x2 x3 x4 x5 x6 x7 a L st h hx => e_st7R (n := 54) rfl hx,
  fun L st h => e_push (v := zvi 0) (n := 55) rfl,
  fun x0 x1 x2 x3 x4 x5 x6 x7 x8 a L st h hx => e_st8I (n := 57) rfl hx,
  fun x0 x1 x2 x3 a L st h => e_ld4I (n := 61) rfl,
  fun a b L st h => e_cmpge (t := 82) (n := 64) rfl,
  fun x0 x1 x2 x3 x4 x5 x6 a L st h => e_ld7R (n := 66) rfl,
  fun L st h => e_null0 (t := 82) (n := 69) rfl,
  fun q L st h => e_null1 (t := 82) (n := 69) rfl,
  fun x0 x1 x2 x3 x4 x5 x6 a L st h => e_ld7R (n := 71) rfl,
  fun q L st h => e_callV1 (F := mGC) (kd := 27) (n := 74) rfl,
  fun x0 x1 x2 x3 x4 x5 x6 x7 a L st h hx => e_st7R (n := 76) rfl hx,
  fun x0 x1 x2 x3 x4 x5 x6 x7 a L st h hx => e_iinc8 (d := 1) (n := 79) rfl hx,
  fun L st h => e_goto (t := 57) rfl,
  fun a L st h => e_ld0R (n := 83) rfl,
  fun x0 x1 x2 x3 x4 x5 x6 a L st h => e_ld7R (n := 85) rfl,
  fun L st h => e_nonnull0 (t := 92) (n := 88) rfl,
  fun q L st h => e_nonnull1 (t := 92) (n := 88) rfl,
  fun L st h => e_push (v := zvi 0) (n := 89) rfl,
  fun L st h => e_goto (t := 100) rfl,
  fun x0 x1 x2 x3 x4 x5 x6 a L st h => e_ld7R (n := 94) rfl,
  fun L st h => e_cast0 (ok := zokNoWay) (n := 97) rfl,
  fun q L st h => e_cast1 (ok := zokNoWay) (n := 97) rfl,
  fun q L st h => e_getI (kd := 27) (k := 6) (n := 100) rfl,
  fun v0 q L st h => e_callV2 (F := mX1_fine) (kd := 16) (n := 103) rfl,
  fun a L h => e_retI rfl⟩
theorem allX1_why : zall yX1_why cX1_why 9 (some .int) 13 kX1_why.1 :=
  ⟨k_aload_n dX1_why_0,
  k_iload_n dX1_why_1,
  k_iload_n dX1_why_2,
  k_iload_n dX1_why_3,
  k_callV (y2 := yX1_refuses) (C := RX1) (T0 := TX1) (ci := 0) dX1_why_4 sndX1_refuses rfl q1334 q1336 qs36 q128 q1337 (by decide +kernel) ⟨by decide, by decide⟩ (by decide) (by decide),
  k_istore dX1_why_7,
  k_iload dX1_why_9,
  k_ifne (t := 22) dX1_why_11 (by decide),
  k_iload dX1_why_14,
  k_ifge (t := 22) dX1_why_16 (by decide),
  k_iconst dX1_why_19,
  k_istore dX1_why_20,
  k_iload dX1_why_22,
  k_ifle (t := 34) dX1_why_24 (by decide),
  k_aload_n dX1_why_27,
  k_iload dX1_why_28,
  k_callV (y2 := yX1_refused) (C := RX1) (T0 := TX1) (ci := 0) dX1_why_30 sndX1_refused rfl q378 q380 qs1 q128 q381 (by decide +kernel) ⟨by decide, by decide⟩ (by decide) (by decide),
  k_iret dX1_why_33,
  k_aload_n dX1_why_34,
  k_iload_n dX1_why_35,
  k_iload_n dX1_why_36,
  k_iload_n dX1_why_37,
  k_iconst dX1_why_38,
  k_callVX (y2 := yX1_asks) (C := RX1) (T0 := TX1) (ci := 0) dX1_why_39 sndX1_asks_v0 rfl q1571 q1573 qs57 q128 q1574 (by decide +kernel) ⟨by decide, by decide⟩ (by decide) (by decide),
  k_aload_n dX1_why_42,
  k_iconst dX1_why_43,
  k_callV (y2 := yX1_fine) (C := RX1) (T0 := TX1) (ci := 0) dX1_why_44 sndX1_fine rfl q1211 q1213 qs32 q128 q1214 (by decide +kernel) ⟨by decide, by decide⟩ (by decide) (by decide),
  k_iret dX1_why_47,
  k_astore dX1_why_48,
  k_aload dX1_why_50,
  k_astore dX1_why_52,
  k_iconst dX1_why_54,
  k_istore dX1_why_55,
  k_iload dX1_why_57,
  k_iload dX1_why_59,
  k_cmpge (t := 82) dX1_why_61 (by decide),
  k_aload dX1_why_64,
  k_null (t := 82) dX1_why_66 (by decide),
  k_aload dX1_why_69,
  k_callGC (C := RX13) (T0 := TX13) (ci := 11) (x2 := ⟨"java/lang/Throwable", "getCause", "()Ljava/lang/Throwable;"⟩) dX1_why_71 rfl q1601 q2380 q2384 rfl rfl (by decide),
  k_astore dX1_why_74,
  k_iinc dX1_why_76,
  k_goto (t := 57) dX1_why_79 (by decide),
  k_aload_n dX1_why_82,
  k_aload dX1_why_83,
  k_nonnull (t := 92) dX1_why_85 (by decide),
  k_iconst dX1_why_88,
  k_goto (t := 100) dX1_why_89 (by decide),
  k_aload dX1_why_92,
  k_cast (nm := "LinkTimes$NoWay") dX1_why_94 q1570 zokNoWay_can,
  k_getIN (C := RX13) (T := TX13) (N := 7) (ci := 11) (k := 6) (ref := "LinkTimes$NoWay") dX1_why_97 rfl in_X13 (by decide) q1596 (Or.inl rfl) (fun _ _ _ => rfl),
  k_callV (y2 := yX1_fine) (C := RX1) (T0 := TX1) (ci := 0) dX1_why_100 sndX1_fine rfl q1211 q1213 qs32 q128 q1214 (by decide +kernel) ⟨by decide, by decide⟩ (by decide) (by decide),
  k_iret dX1_why_103, trivial⟩
theorem sndX1_why : MSound 13 yX1_why (wsW_ yX1_why cX1_why 9 (some .int) [(34, 47, 48, 340)]) mX1_why := msound_H (by decide) allX1_why
  (fun pc kd t h1 h2 => by
    have h1 : (if 34 ≤ pc ∧ pc < 47 then if kd = 27 then some 48 else some 9999 else none) = some t := h1
    by_cases hp : 34 ≤ pc ∧ pc < 47
    · rw [if_pos hp] at h1
      by_cases hk : kd = 27
      · rw [if_pos hk] at h1
        obtain rfl := Option.some.inj h1
        subst hk
        exact ⟨[], ⟨34, 47, 48, 340⟩, [], 11, RX13, TX13, 7, "LinkTimes$NoWay", rfl, by simp [covers]; omega, by decide, rfl, ⟨rfl, by decide⟩, rfl, q1570, q1584, fun z hz => by cases hz⟩
      rw [if_neg hk] at h1
      obtain rfl := Option.some.inj h1
      cases h2
    · rw [if_neg hp] at h1; cases h1)
  (fun pc kd h1 x hx => by
    have h1 : (if 34 ≤ pc ∧ pc < 47 then if kd = 27 then some 48 else some 9999 else none) = none := h1
    by_cases hp : 34 ≤ pc ∧ pc < 47
    · rw [if_pos hp] at h1
      by_cases hk : kd = 27
      · rw [if_pos hk] at h1; cases h1
      rw [if_neg hk] at h1
      cases h1
    · have hx : x ∈ [(⟨34, 47, 48, 340⟩ : ExceptionTableEntry)] := hx
      simp only [List.mem_cons, List.not_mem_nil, or_false] at hx
      rcases hx with rfl <;> (simp [covers]; omega))
/-! LinkTimes.remembers(III)V -/
noncomputable def kX1_remembers : ZM := ([(0, zi_ld 1 0 1), (1, zi_getR 16 7 4), (4, zi_callV mJ5_size 30 1 7), (7, zi_push (zvi 10) 9), (9, zi_cmp zc_ne 20 12), (12, zi_ld 1 0 13), (13, zi_getR 16 7 16), (16, zi_callV mJ5_removeFirst 30 1 19), (19, zi_pop 20), (20, zi_ld 1 0 21), (21, zi_getR 16 7 24), (24, zi_new 23 3 27), (27, zi_dup 28), (28, zi_ld 0 1 29), (29, zi_ld 0 2 30), (30, zi_ld 0 3 31), (31, zi_callV mX14_init 23 4 34), (34, zi_callV mJ5_addLast 30 2 37), (37, zi_ret)], fun _ _ => none)
noncomputable def mX1_remembers : ZF := zrunM kX1_remembers 4
theorem enX1_remembers (x0 : Option Nat) (x1 : Int) (x2 : Int) (x3 : Int) (h : PH) : mX1_remembers [zvr x0, zvi x1, zvi x2, zvi x3] h = zev kX1_remembers 0 [zvr x0, zvi x1, zvi x2, zvi x3] [] h := zrunM_eq rfl rfl
theorem rX1_remembers : (∀ (a : Option Nat) (L st : List ZV) (h : PH), zev kX1_remembers 0 (zvr a :: L) st h = zev kX1_remembers 1 (zvr a :: L) (zvr a :: st) h) ∧
  (∀ (q : Nat) (L st : List ZV) (h : PH), zev kX1_remembers 1 L (zvr (some q) :: st) h = if (ph_K h q).1 % 1000 = 16 then zev kX1_remembers 4 L (zvr (ph_R h q 7) :: st) h else none) ∧
  (∀ (q : Nat) (L st : List ZV) (h : PH), zev kX1_remembers 4 L (zvr (some q) :: st) h = if (ph_K h q).1 % 1000 = 30 ∧ zcat st ≤ 8 then zk kX1_remembers 4 7 L st (mJ5_size [zvr (some q)] h) else none) ∧
  (∀ (L st : List ZV) (h : PH), zev kX1_remembers 7 L st h = zev kX1_remembers 9 L (zvi 10 :: st) h) ∧
  (∀ (a b : Int) (L st : List ZV) (h : PH), zev kX1_remembers 9 L (zvi b :: zvi a :: st) h = if a ≠ b then zev kX1_remembers 20 L st h else zev kX1_remembers 12 L st h) ∧
  (∀ (a : Option Nat) (L st : List ZV) (h : PH), zev kX1_remembers 12 (zvr a :: L) st h = zev kX1_remembers 13 (zvr a :: L) (zvr a :: st) h) ∧
  (∀ (q : Nat) (L st : List ZV) (h : PH), zev kX1_remembers 13 L (zvr (some q) :: st) h = if (ph_K h q).1 % 1000 = 16 then zev kX1_remembers 16 L (zvr (ph_R h q 7) :: st) h else none) ∧
  (∀ (q : Nat) (L st : List ZV) (h : PH), zev kX1_remembers 16 L (zvr (some q) :: st) h = if (ph_K h q).1 % 1000 = 30 ∧ zcat st ≤ 8 then zk kX1_remembers 16 19 L st (mJ5_removeFirst [zvr (some q)] h) else none) ∧
  (∀ (a : Int) (L st : List ZV) (h : PH), zev kX1_remembers 19 L (zvi a :: st) h = zev kX1_remembers 20 L st h) ∧
  (∀ (a : Option Nat) (L st : List ZV) (h : PH), zev kX1_remembers 19 L (zvr a :: st) h = zev kX1_remembers 20 L st h) ∧
  (∀ (a : Option Nat) (L st : List ZV) (h : PH), zev kX1_remembers 20 (zvr a :: L) st h = zev kX1_remembers 21 (zvr a :: L) (zvr a :: st) h) ∧
  (∀ (q : Nat) (L st : List ZV) (h : PH), zev kX1_remembers 21 L (zvr (some q) :: st) h = if (ph_K h q).1 % 1000 = 16 then zev kX1_remembers 24 L (zvr (ph_R h q 7) :: st) h else none) ∧
  (∀ (L st : List ZV) (h : PH), zev kX1_remembers 24 L st h = zev kX1_remembers 27 L (zvr (some (ph_N h)) :: st) (al_ h 23 0 3)) ∧
  (∀ (a : Int) (L st : List ZV) (h : PH), zev kX1_remembers 27 L (zvi a :: st) h = zev kX1_remembers 28 L (zvi a :: zvi a :: st) h) ∧
  (∀ (a : Option Nat) (L st : List ZV) (h : PH), zev kX1_remembers 27 L (zvr a :: st) h = zev kX1_remembers 28 L (zvr a :: zvr a :: st) h) ∧
  (∀ (x0 : ZV) (a : Int) (L st : List ZV) (h : PH), zev kX1_remembers 28 (x0 :: zvi a :: L) st h = zev kX1_remembers 29 (x0 :: zvi a :: L) (zvi a :: st) h) ∧
  (∀ (x0 x1 : ZV) (a : Int) (L st : List ZV) (h : PH), zev kX1_remembers 29 (x0 :: x1 :: zvi a :: L) st h = zev kX1_remembers 30 (x0 :: x1 :: zvi a :: L) (zvi a :: st) h) ∧
  (∀ (x0 x1 x2 : ZV) (a : Int) (L st : List ZV) (h : PH), zev kX1_remembers 30 (x0 :: x1 :: x2 :: zvi a :: L) st h = zev kX1_remembers 31 (x0 :: x1 :: x2 :: zvi a :: L) (zvi a :: st) h) ∧
  (∀ (v0 v1 v2 : ZV) (q : Nat) (L st : List ZV) (h : PH), zev kX1_remembers 31 L (v2 :: v1 :: v0 :: zvr (some q) :: st) h = if (ph_K h q).1 % 1000 = 23 ∧ zcat st ≤ 8 then zk kX1_remembers 31 34 L st (mX14_init [zvr (some q), v0, v1, v2] h) else none) ∧
  (∀ (v0 : ZV) (q : Nat) (L st : List ZV) (h : PH), zev kX1_remembers 34 L (v0 :: zvr (some q) :: st) h = if (ph_K h q).1 % 1000 = 30 ∧ zcat st ≤ 8 then zk kX1_remembers 34 37 L st (mJ5_addLast [zvr (some q), v0] h) else none) ∧
  (∀ (L : List ZV) (h : PH), zev kX1_remembers 37 L [] h = zr0 h) :=
  ⟨fun a L st h => e_ld0R (n := 1) rfl,
  fun q L st h => e_getR (kd := 16) (k := 7) (n := 4) rfl,
  fun q L st h => e_callV1 (F := mJ5_size) (kd := 30) (n := 7) rfl,
  fun L st h => e_push (v := zvi 10) (n := 9) rfl,
  fun a b L st h => e_cmpne (t := 20) (n := 12) rfl,
  fun a L st h => e_ld0R (n := 13) rfl,
  fun q L st h => e_getR (kd := 16) (k := 7) (n := 16) rfl,
  fun q L st h => e_callV1 (F := mJ5_removeFirst) (kd := 30) (n := 19) rfl,
  fun a L st h => e_popI (n := 20) rfl,
  fun a L st h => e_popR (n := 20) rfl,
  fun a L st h => e_ld0R (n := 21) rfl,
  fun q L st h => e_getR (kd := 16) (k := 7) (n := 24) rfl,
  fun L st h => e_new (kd := 23) (sl := 3) (n := 27) rfl,
  fun a L st h => e_dupI (n := 28) rfl,
  fun a L st h => e_dupR (n := 28) rfl,
  fun x0 a L st h => e_ld1I (n := 29) rfl,
  fun x0 x1 a L st h => e_ld2I (n := 30) rfl,
  fun x0 x1 x2 a L st h => e_ld3I (n := 31) rfl,
  fun v0 v1 v2 q L st h => e_callV4 (F := mX14_init) (kd := 23) (n := 34) rfl,
  fun v0 q L st h => e_callV2 (F := mJ5_addLast) (kd := 30) (n := 37) rfl,
  fun L h => e_ret rfl⟩
theorem allX1_remembers : zall yX1_remembers cX1_remembers 4 none 7 kX1_remembers.1 :=
  ⟨k_aload_n dX1_remembers_0,
  k_getR (C := RX1) (T := TX1) (N := 19) (ci := 0) (k := 7) (ref := "LinkTimes") dX1_remembers_1 rfl in_X1 (by decide) q310 (Or.inl rfl) (fun _ _ _ => rfl),
  k_callV (y2 := yJ5_size) (C := RJ5) (T0 := TJ5) (ci := 14) dX1_remembers_4 sndJ5_size rfl q1614 q1615 q1616 q135 q1617 (by decide +kernel) ⟨by decide, by decide⟩ (by decide) (by decide),
  k_bipush dX1_remembers_7,
  k_cmpne (t := 20) dX1_remembers_9 (by decide),
  k_aload_n dX1_remembers_12,
  k_getR (C := RX1) (T := TX1) (N := 19) (ci := 0) (k := 7) (ref := "LinkTimes") dX1_remembers_13 rfl in_X1 (by decide) q310 (Or.inl rfl) (fun _ _ _ => rfl),
  k_callV (y2 := yJ5_removeFirst) (C := RJ5) (T0 := TJ5) (ci := 14) dX1_remembers_16 sndJ5_removeFirst rfl q1621 q1622 q1623 q135 q1624 (by decide +kernel) ⟨by decide, by decide⟩ (by decide) (by decide),
  k_pop dX1_remembers_19,
  k_aload_n dX1_remembers_20,
  k_getR (C := RX1) (T := TX1) (N := 19) (ci := 0) (k := 7) (ref := "LinkTimes") dX1_remembers_21 rfl in_X1 (by decide) q310 (Or.inl rfl) (fun _ _ _ => rfl),
  k_new (C := RX14) (T := TX14) (N := 3) (ci := 7) dX1_remembers_24 rfl in_X14 tyX14 tyX14_ok rfl (by decide) q1637 q1638 q170,
  k_dup dX1_remembers_27,
  k_iload_n dX1_remembers_28,
  k_iload_n dX1_remembers_29,
  k_iload_n dX1_remembers_30,
  k_callIN (y2 := yX14_init) (C := RX14) (T0 := TX14) (ci := 7) dX1_remembers_31 sndX14_init rfl q1639 q1640 q170 q1641 rfl (by decide +kernel) ⟨by decide, by decide⟩ (by decide) (by decide),
  k_callV (y2 := yJ5_addLast) (C := RJ5) (T0 := TJ5) (ci := 14) dX1_remembers_34 sndJ5_addLast rfl q1656 q1657 q1658 q135 q1659 (by decide +kernel) ⟨by decide, by decide⟩ (by decide) (by decide),
  k_ret dX1_remembers_37, trivial⟩
theorem sndX1_remembers : MSound 7 yX1_remembers (ws_ yX1_remembers cX1_remembers 4 none) mX1_remembers := msound_M (by decide) allX1_remembers (fun _ _ => rfl)
/-! LinkTimes.sets(LLinkTimes$Departure;Z)V -/
noncomputable def kX1_sets : ZM := ([(0, zi_ld 1 1 1), (1, zi_getI 22 8 4), (4, zi_if (fun a => zc_eq a 0) 16 7), (7, zi_ld 1 0 8), (8, zi_getR 16 6 11), (11, zi_ld 1 1 12), (12, zi_callV mJ2_remove 31 2 15), (15, zi_pop 16), (16, zi_ld 1 1 17), (17, zi_ld 0 2 18), (18, zi_putZ 22 8 21), (21, zi_ld 0 2 22), (22, zi_if (fun a => zc_eq a 0) 34 25), (25, zi_ld 1 0 26), (26, zi_getR 16 6 29), (29, zi_ld 1 1 30), (30, zi_callV mJ2_add 31 2 33), (33, zi_pop 34), (34, zi_ret)], fun _ _ => none)
noncomputable def mX1_sets : ZF := zrunM kX1_sets 3
theorem enX1_sets (x0 : Option Nat) (x1 : Option Nat) (x2 : Int) (h : PH) : mX1_sets [zvr x0, zvr x1, zvi x2] h = zev kX1_sets 0 [zvr x0, zvr x1, zvi x2] [] h := zrunM_eq rfl rfl
theorem rX1_sets : (∀ (x0 : ZV) (a : Option Nat) (L st : List ZV) (h : PH), zev kX1_sets 0 (x0 :: zvr a :: L) st h = zev kX1_sets 1 (x0 :: zvr a :: L) (zvr a :: st) h) ∧
  (∀ (q : Nat) (L st : List ZV) (h : PH), zev kX1_sets 1 L (zvr (some q) :: st) h = if (ph_K h q).1 % 1000 = 22 then zev kX1_sets 4 L (zvi (ph_I h q 8) :: st) h else none) ∧
  (∀ (a : Int) (L st : List ZV) (h : PH), zev kX1_sets 4 L (zvi a :: st) h = if a = 0 then zev kX1_sets 16 L st h else zev kX1_sets 7 L st h) ∧
  (∀ (a : Option Nat) (L st : List ZV) (h : PH), zev kX1_sets 7 (zvr a :: L) st h = zev kX1_sets 8 (zvr a :: L) (zvr a :: st) h) ∧
  (∀ (q : Nat) (L st : List ZV) (h : PH), zev kX1_sets 8 L (zvr (some q) :: st) h = if (ph_K h q).1 % 1000 = 16 then zev kX1_sets 11 L (zvr (ph_R h q 6) :: st) h else none) ∧
  (∀ (x0 : ZV) (a : Option Nat) (L st : List ZV) (h : PH), zev kX1_sets 11 (x0 :: zvr a :: L) st h = zev kX1_sets 12 (x0 :: zvr a :: L) (zvr a :: st) h) ∧
  (∀ (v0 : ZV) (q : Nat) (L st : List ZV) (h : PH), zev kX1_sets 12 L (v0 :: zvr (some q) :: st) h = if (ph_K h q).1 % 1000 = 31 ∧ zcat st ≤ 8 then zk kX1_sets 12 15 L st (mJ2_remove [zvr (some q), v0] h) else none) ∧
  (∀ (a : Int) (L st : List ZV) (h : PH), zev kX1_sets 15 L (zvi a :: st) h = zev kX1_sets 16 L st h) ∧
  (∀ (a : Option Nat) (L st : List ZV) (h : PH), zev kX1_sets 15 L (zvr a :: st) h = zev kX1_sets 16 L st h) ∧
  (∀ (x0 : ZV) (a : Option Nat) (L st : List ZV) (h : PH), zev kX1_sets 16 (x0 :: zvr a :: L) st h = zev kX1_sets 17 (x0 :: zvr a :: L) (zvr a :: st) h) ∧
  (∀ (x0 x1 : ZV) (a : Int) (L st : List ZV) (h : PH), zev kX1_sets 17 (x0 :: x1 :: zvi a :: L) st h = zev kX1_sets 18 (x0 :: x1 :: zvi a :: L) (zvi a :: st) h) ∧
  (∀ (a : Int) (q : Nat) (L st : List ZV) (h : PH), zev kX1_sets 18 L (zvi a :: zvr (some q) :: st) h = if (ph_K h q).1 = 22 ∧ (a = 0 ∨ a = 1) then zev kX1_sets 21 L st (st_I h q 8 a) else none) ∧
  (∀ (x0 x1 : ZV) (a : Int) (L st : List ZV) (h : PH), zev kX1_sets 21 (x0 :: x1 :: zvi a :: L) st h = zev kX1_sets 22 (x0 :: x1 :: zvi a :: L) (zvi a :: st) h) ∧
  (∀ (a : Int) (L st : List ZV) (h : PH), zev kX1_sets 22 L (zvi a :: st) h = if a = 0 then zev kX1_sets 34 L st h else zev kX1_sets 25 L st h) ∧
  (∀ (a : Option Nat) (L st : List ZV) (h : PH), zev kX1_sets 25 (zvr a :: L) st h = zev kX1_sets 26 (zvr a :: L) (zvr a :: st) h) ∧
  (∀ (q : Nat) (L st : List ZV) (h : PH), zev kX1_sets 26 L (zvr (some q) :: st) h = if (ph_K h q).1 % 1000 = 16 then zev kX1_sets 29 L (zvr (ph_R h q 6) :: st) h else none) ∧
  (∀ (x0 : ZV) (a : Option Nat) (L st : List ZV) (h : PH), zev kX1_sets 29 (x0 :: zvr a :: L) st h = zev kX1_sets 30 (x0 :: zvr a :: L) (zvr a :: st) h) ∧
  (∀ (v0 : ZV) (q : Nat) (L st : List ZV) (h : PH), zev kX1_sets 30 L (v0 :: zvr (some q) :: st) h = if (ph_K h q).1 % 1000 = 31 ∧ zcat st ≤ 8 then zk kX1_sets 30 33 L st (mJ2_add [zvr (some q), v0] h) else none) ∧
  (∀ (a : Int) (L st : List ZV) (h : PH), zev kX1_sets 33 L (zvi a :: st) h = zev kX1_sets 34 L st h) ∧
  (∀ (a : Option Nat) (L st : List ZV) (h : PH), zev kX1_sets 33 L (zvr a :: st) h = zev kX1_sets 34 L st h) ∧
  (∀ (L : List ZV) (h : PH), zev kX1_sets 34 L [] h = zr0 h) :=
  ⟨fun x0 a L st h => e_ld1R (n := 1) rfl,
  fun q L st h => e_getI (kd := 22) (k := 8) (n := 4) rfl,
  fun a L st h => e_ifeq (t := 16) (n := 7) rfl,
  fun a L st h => e_ld0R (n := 8) rfl,
  fun q L st h => e_getR (kd := 16) (k := 6) (n := 11) rfl,
  fun x0 a L st h => e_ld1R (n := 12) rfl,
  fun v0 q L st h => e_callV2 (F := mJ2_remove) (kd := 31) (n := 15) rfl,
  fun a L st h => e_popI (n := 16) rfl,
  fun a L st h => e_popR (n := 16) rfl,
  fun x0 a L st h => e_ld1R (n := 17) rfl,
  fun x0 x1 a L st h => e_ld2I (n := 18) rfl,
  fun a q L st h => e_putZ (kd := 22) (k := 8) (n := 21) rfl,
  fun x0 x1 a L st h => e_ld2I (n := 22) rfl,
  fun a L st h => e_ifeq (t := 34) (n := 25) rfl,
  fun a L st h => e_ld0R (n := 26) rfl,
  fun q L st h => e_getR (kd := 16) (k := 6) (n := 29) rfl,
  fun x0 a L st h => e_ld1R (n := 30) rfl,
  fun v0 q L st h => e_callV2 (F := mJ2_add) (kd := 31) (n := 33) rfl,
  fun a L st h => e_popI (n := 34) rfl,
  fun a L st h => e_popR (n := 34) rfl,
  fun L h => e_ret rfl⟩
theorem allX1_sets : zall yX1_sets cX1_sets 3 none 9 kX1_sets.1 :=
  ⟨k_aload_n dX1_sets_0,
  k_getIN (C := RX11) (T := TX11) (N := 9) (ci := 6) (k := 8) (ref := "LinkTimes$Departure") dX1_sets_1 rfl in_X11 (by decide) q871 (Or.inl rfl) (fun _ _ _ => rfl),
  k_ifeq (t := 16) dX1_sets_4 (by decide),
  k_aload_n dX1_sets_7,
  k_getR (C := RX1) (T := TX1) (N := 19) (ci := 0) (k := 6) (ref := "LinkTimes") dX1_sets_8 rfl in_X1 (by decide) q309 (Or.inl rfl) (fun _ _ _ => rfl),
  k_aload_n dX1_sets_11,
  k_callV (y2 := yJ2_remove) (C := RJ2) (T0 := TJ2) (ci := 15) dX1_sets_12 sndJ2_remove rfl q1675 q1676 q1677 q131 q1678 (by decide +kernel) ⟨by decide, by decide⟩ (by decide) (by decide),
  k_pop dX1_sets_15,
  k_aload_n dX1_sets_16,
  k_iload_n dX1_sets_17,
  k_putZ (C := RX11) (T := TX11) (N := 9) (ci := 6) (k := 8) (ref := "LinkTimes$Departure") dX1_sets_18 rfl in_X11 tyX11 tyX11_ok nmX11 (by decide) (Or.inr ⟨"LinkTimes", q871⟩) (Or.inl rfl) (Or.inl rfl) (tyX11_ok 8 (by decide)) (fun _ _ _ => rfl),
  k_iload_n dX1_sets_21,
  k_ifeq (t := 34) dX1_sets_22 (by decide),
  k_aload_n dX1_sets_25,
  k_getR (C := RX1) (T := TX1) (N := 19) (ci := 0) (k := 6) (ref := "LinkTimes") dX1_sets_26 rfl in_X1 (by decide) q309 (Or.inl rfl) (fun _ _ _ => rfl),
  k_aload_n dX1_sets_29,
  k_callV (y2 := yJ2_add) (C := RJ2) (T0 := TJ2) (ci := 15) dX1_sets_30 sndJ2_add rfl q939 q940 q941 q131 q942 (by decide +kernel) ⟨by decide, by decide⟩ (by decide) (by decide),
  k_pop dX1_sets_33,
  k_ret dX1_sets_34, trivial⟩
theorem sndX1_sets : MSound 9 yX1_sets (ws_ yX1_sets cX1_sets 3 none) mX1_sets := msound_M (by decide) allX1_sets (fun _ _ => rfl)
/-! LinkTimes.turns(IZ)I -/
noncomputable def kX1_turns : ZM := ([(0, zi_ld 1 0 1), (1, zi_ld 0 1 2), (2, zi_callV mX1_isDeparture 16 2 5), (5, zi_if (fun a => zc_ne a 0) 14 8), (8, zi_ld 1 0 9), (9, zi_push (zvi 1) 10), (10, zi_callV mX1_refused 16 2 13), (13, zi_retv 0), (14, zi_ld 1 0 15), (15, zi_getR 16 5 18), (18, zi_getR 20 4 21), (21, zi_ld 0 1 22), (22, zi_callV mJ7_get 29 2 25), (25, zi_cast zokDep 28), (28, zi_st 1 3 29), (29, zi_ld 1 3 30), (30, zi_getI 22 8 33), (33, zi_ld 0 2 34), (34, zi_cmp zc_ne 43 37), (37, zi_ld 1 0 38), (38, zi_push (zvi 5) 39), (39, zi_callV mX1_refused 16 2 42), (42, zi_retv 0), (43, zi_ld 1 0 44), (44, zi_push (zvi 0) 45), (45, zi_ld 0 1 46), (46, zi_ld 1 3 47), (47, zi_getI 22 8 50), (50, zi_if (fun a => zc_eq a 0) 57 53), (53, zi_push (zvi 1) 54), (54, zi_goto 58), (57, zi_push (zvi 0) 58), (58, zi_callV mX1_remembers 16 4 61), (61, zi_ld 1 0 62), (62, zi_ld 1 3 63), (63, zi_ld 0 2 64), (64, zi_callV mX1_sets 16 3 67), (67, zi_ld 1 0 68), (68, zi_ld 1 0 69), (69, zi_getR 16 6 72), (72, zi_callV mJ2_size 31 1 75), (75, zi_callV mX1_fine 16 2 78), (78, zi_retv 0)], fun _ _ => none)
noncomputable def mX1_turns : ZF := zrunM kX1_turns 4
theorem enX1_turns (x0 : Option Nat) (x1 : Int) (x2 : Int) (h : PH) : mX1_turns [zvr x0, zvi x1, zvi x2] h = zev kX1_turns 0 [zvr x0, zvi x1, zvi x2, zvu] [] h := zrunM_eq rfl rfl
theorem rX1_turns : (∀ (a : Option Nat) (L st : List ZV) (h : PH), zev kX1_turns 0 (zvr a :: L) st h = zev kX1_turns 1 (zvr a :: L) (zvr a :: st) h) ∧
  (∀ (x0 : ZV) (a : Int) (L st : List ZV) (h : PH), zev kX1_turns 1 (x0 :: zvi a :: L) st h = zev kX1_turns 2 (x0 :: zvi a :: L) (zvi a :: st) h) ∧
  (∀ (v0 : ZV) (q : Nat) (L st : List ZV) (h : PH), zev kX1_turns 2 L (v0 :: zvr (some q) :: st) h = if (ph_K h q).1 % 1000 = 16 ∧ zcat st ≤ 8 then zk kX1_turns 2 5 L st (mX1_isDeparture [zvr (some q), v0] h) else none) ∧
  (∀ (a : Int) (L st : List ZV) (h : PH), zev kX1_turns 5 L (zvi a :: st) h = if a ≠ 0 then zev kX1_turns 14 L st h else zev kX1_turns 8 L st h) ∧
  (∀ (a : Option Nat) (L st : List ZV) (h : PH), zev kX1_turns 8 (zvr a :: L) st h = zev kX1_turns 9 (zvr a :: L) (zvr a :: st) h) ∧
  (∀ (L st : List ZV) (h : PH), zev kX1_turns 9 L st h = zev kX1_turns 10 L (zvi 1 :: st) h) ∧
  (∀ (v0 : ZV) (q : Nat) (L st : List ZV) (h : PH), zev kX1_turns 10 L (v0 :: zvr (some q) :: st) h = if (ph_K h q).1 % 1000 = 16 ∧ zcat st ≤ 8 then zk kX1_turns 10 13 L st (mX1_refused [zvr (some q), v0] h) else none) ∧
  (∀ (a : Int) (L : List ZV) (h : PH), zev kX1_turns 13 L [zvi a] h = zrv (zvi a) h) ∧
  (∀ (a : Option Nat) (L st : List ZV) (h : PH), zev kX1_turns 14 (zvr a :: L) st h = zev kX1_turns 15 (zvr a :: L) (zvr a :: st) h) ∧
  (∀ (q : Nat) (L st : List ZV) (h : PH), zev kX1_turns 15 L (zvr (some q) :: st) h = if (ph_K h q).1 % 1000 = 16 then zev kX1_turns 18 L (zvr (ph_R h q 5) :: st) h else none) ∧
  (∀ (q : Nat) (L st : List ZV) (h : PH), zev kX1_turns 18 L (zvr (some q) :: st) h = if (ph_K h q).1 % 1000 = 20 then zev kX1_turns 21 L (zvr (ph_R h q 4) :: st) h else none) ∧
  (∀ (x0 : ZV) (a : Int) (L st : List ZV) (h : PH), zev kX1_turns 21 (x0 :: zvi a :: L) st h = zev kX1_turns 22 (x0 :: zvi a :: L) (zvi a :: st) h) ∧
  (∀ (v0 : ZV) (q : Nat) (L st : List ZV) (h : PH), zev kX1_turns 22 L (v0 :: zvr (some q) :: st) h = if (ph_K h q).1 % 1000 = 29 ∧ zcat st ≤ 8 then zk kX1_turns 22 25 L st (mJ7_get [zvr (some q), v0] h) else none) ∧
  (∀ (L st : List ZV) (h : PH), zev kX1_turns 25 L (zvr none :: st) h = zev kX1_turns 28 L (zvr none :: st) h) ∧
  (∀ (q : Nat) (L st : List ZV) (h : PH), zev kX1_turns 25 L (zvr (some q) :: st) h = if zokDep (ph_K h q).1 = true then zev kX1_turns 28 L (zvr (some q) :: st) h else none) ∧
  (∀ (x0 x1 x2 x3 : ZV) (a : Option Nat) (L st : List ZV) (h : PH) (hx : zisL x2 = false) , zev kX1_turns 28 (x0 :: x1 :: x2 :: x3 :: L) (zvr a :: st) h = zev kX1_turns 29 (x0 :: x1 :: x2 :: zvr a :: L) st h) ∧
  (∀ (x0 x1 x2 : ZV) (a : Option Nat) (L st : List ZV) (h : PH), zev kX1_turns 29 (x0 :: x1 :: x2 :: zvr a :: L) st h = zev kX1_turns 30 (x0 :: x1 :: x2 :: zvr a :: L) (zvr a :: st) h) ∧
  (∀ (q : Nat) (L st : List ZV) (h : PH), zev kX1_turns 30 L (zvr (some q) :: st) h = if (ph_K h q).1 % 1000 = 22 then zev kX1_turns 33 L (zvi (ph_I h q 8) :: st) h else none) ∧
  (∀ (x0 x1 : ZV) (a : Int) (L st : List ZV) (h : PH), zev kX1_turns 33 (x0 :: x1 :: zvi a :: L) st h = zev kX1_turns 34 (x0 :: x1 :: zvi a :: L) (zvi a :: st) h) ∧
  (∀ (a b : Int) (L st : List ZV) (h : PH), zev kX1_turns 34 L (zvi b :: zvi a :: st) h = if a ≠ b then zev kX1_turns 43 L st h else zev kX1_turns 37 L st h) ∧
  (∀ (a : Option Nat) (L st : List ZV) (h : PH), zev kX1_turns 37 (zvr a :: L) st h = zev kX1_turns 38 (zvr a :: L) (zvr a :: st) h) ∧
  (∀ (L st : List ZV) (h : PH), zev kX1_turns 38 L st h = zev kX1_turns 39 L (zvi 5 :: st) h) ∧
  (∀ (v0 : ZV) (q : Nat) (L st : List ZV) (h : PH), zev kX1_turns 39 L (v0 :: zvr (some q) :: st) h = if (ph_K h q).1 % 1000 = 16 ∧ zcat st ≤ 8 then zk kX1_turns 39 42 L st (mX1_refused [zvr (some q), v0] h) else none) ∧
  (∀ (a : Int) (L : List ZV) (h : PH), zev kX1_turns 42 L [zvi a] h = zrv (zvi a) h) ∧
  (∀ (a : Option Nat) (L st : List ZV) (h : PH), zev kX1_turns 43 (zvr a :: L) st h = zev kX1_turns 44 (zvr a :: L) (zvr a :: st) h) ∧
  (∀ (L st : List ZV) (h : PH), zev kX1_turns 44 L st h = zev kX1_turns 45 L (zvi 0 :: st) h) ∧
  (∀ (x0 : ZV) (a : Int) (L st : List ZV) (h : PH), zev kX1_turns 45 (x0 :: zvi a :: L) st h = zev kX1_turns 46 (x0 :: zvi a :: L) (zvi a :: st) h) ∧
  (∀ (x0 x1 x2 : ZV) (a : Option Nat) (L st : List ZV) (h : PH), zev kX1_turns 46 (x0 :: x1 :: x2 :: zvr a :: L) st h = zev kX1_turns 47 (x0 :: x1 :: x2 :: zvr a :: L) (zvr a :: st) h) ∧
  (∀ (q : Nat) (L st : List ZV) (h : PH), zev kX1_turns 47 L (zvr (some q) :: st) h = if (ph_K h q).1 % 1000 = 22 then zev kX1_turns 50 L (zvi (ph_I h q 8) :: st) h else none) ∧
  (∀ (a : Int) (L st : List ZV) (h : PH), zev kX1_turns 50 L (zvi a :: st) h = if a = 0 then zev kX1_turns 57 L st h else zev kX1_turns 53 L st h) ∧
  (∀ (L st : List ZV) (h : PH), zev kX1_turns 53 L st h = zev kX1_turns 54 L (zvi 1 :: st) h) ∧
  (∀ (L st : List ZV) (h : PH), zev kX1_turns 54 L st h = zev kX1_turns 58 L st h) ∧
  (∀ (L st : List ZV) (h : PH), zev kX1_turns 57 L st h = zev kX1_turns 58 L (zvi 0 :: st) h) ∧
  (∀ (v0 v1 v2 : ZV) (q : Nat) (L st : List ZV) (h : PH), zev kX1_turns 58 L (v2 :: v1 :: v0 :: zvr (some q) :: st) h = if (ph_K h q).1 % 1000 = 16 ∧ zcat st ≤ 8 then zk kX1_turns 58 61 L st (mX1_remembers [zvr (some q), v0, v1, v2] h) else none) ∧
  (∀ (a : Option Nat) (L st : List ZV) (h : PH), zev kX1_turns 61 (zvr a :: L) st h = zev kX1_turns 62 (zvr a :: L) (zvr a :: st) h) ∧
  (∀ (x0 x1 x2 : ZV) (a : Option Nat) (L st : List ZV) (h : PH), zev kX1_turns 62 (x0 :: x1 :: x2 :: zvr a :: L) st h = zev kX1_turns 63 (x0 :: x1 :: x2 :: zvr a :: L) (zvr a :: st) h) ∧
  (∀ (x0 x1 : ZV) (a : Int) (L st : List ZV) (h : PH), zev kX1_turns 63 (x0 :: x1 :: zvi a :: L) st h = zev kX1_turns 64 (x0 :: x1 :: zvi a :: L) (zvi a :: st) h) ∧
  (∀ (v0 v1 : ZV) (q : Nat) (L st : List ZV) (h : PH), zev kX1_turns 64 L (v1 :: v0 :: zvr (some q) :: st) h = if (ph_K h q).1 % 1000 = 16 ∧ zcat st ≤ 8 then zk kX1_turns 64 67 L st (mX1_sets [zvr (some q), v0, v1] h) else none) ∧
  (∀ (a : Option Nat) (L st : List ZV) (h : PH), zev kX1_turns 67 (zvr a :: L) st h = zev kX1_turns 68 (zvr a :: L) (zvr a :: st) h) ∧
  (∀ (a : Option Nat) (L st : List ZV) (h : PH), zev kX1_turns 68 (zvr a :: L) st h = zev kX1_turns 69 (zvr a :: L) (zvr a :: st) h) ∧
  (∀ (q : Nat) (L st : List ZV) (h : PH), zev kX1_turns 69 L (zvr (some q) :: st) h = if (ph_K h q).1 % 1000 = 16 then zev kX1_turns 72 L (zvr (ph_R h q 6) :: st) h else none) ∧
  (∀ (q : Nat) (L st : List ZV) (h : PH), zev kX1_turns 72 L (zvr (some q) :: st) h = if (ph_K h q).1 % 1000 = 31 ∧ zcat st ≤ 8 then zk kX1_turns 72 75 L st (mJ2_size [zvr (some q)] h) else none) ∧
  (∀ (v0 : ZV) (q : Nat) (L st : List ZV) (h : PH), zev kX1_turns 75 L (v0 :: zvr (some q) :: st) h = if (ph_K h q).1 % 1000 = 16 ∧ zcat st ≤ 8 then zk kX1_turns 75 78 L st (mX1_fine [zvr (some q), v0] h) else none) ∧
  (∀ (a : Int) (L : List ZV) (h : PH), zev kX1_turns 78 L [zvi a] h = zrv (zvi a) h) :=
  ⟨fun a L st h => e_ld0R (n := 1) rfl,
  fun x0 a L st h => e_ld1I (n := 2) rfl,
  fun v0 q L st h => e_callV2 (F := mX1_isDeparture) (kd := 16) (n := 5) rfl,
  fun a L st h => e_ifne (t := 14) (n := 8) rfl,
  fun a L st h => e_ld0R (n := 9) rfl,
  fun L st h => e_push (v := zvi 1) (n := 10) rfl,
  fun v0 q L st h => e_callV2 (F := mX1_refused) (kd := 16) (n := 13) rfl,
  fun a L h => e_retI rfl,
  fun a L st h => e_ld0R (n := 15) rfl,
  fun q L st h => e_getR (kd := 16) (k := 5) (n := 18) rfl,
  fun q L st h => e_getR (kd := 20) (k := 4) (n := 21) rfl,
  fun x0 a L st h => e_ld1I (n := 22) rfl,
  fun v0 q L st h => e_callV2 (F := mJ7_get) (kd := 29) (n := 25) rfl,
  fun L st h => e_cast0 (ok := zokDep) (n := 28) rfl,
  fun q L st h => e_cast1 (ok := zokDep) (n := 28) rfl,
  fun x0 x1 x2 x3 a L st h hx => e_st3R (n := 29) rfl hx,
  fun x0 x1 x2 a L st h => e_ld3R (n := 30) rfl,
  fun q L st h => e_getI (kd := 22) (k := 8) (n := 33) rfl,
  fun x0 x1 a L st h => e_ld2I (n := 34) rfl,
  fun a b L st h => e_cmpne (t := 43) (n := 37) rfl,
  fun a L st h => e_ld0R (n := 38) rfl,
  fun L st h => e_push (v := zvi 5) (n := 39) rfl,
  fun v0 q L st h => e_callV2 (F := mX1_refused) (kd := 16) (n := 42) rfl,
  fun a L h => e_retI rfl,
  fun a L st h => e_ld0R (n := 44) rfl,
  fun L st h => e_push (v := zvi 0) (n := 45) rfl,
  fun x0 a L st h => e_ld1I (n := 46) rfl,
  fun x0 x1 x2 a L st h => e_ld3R (n := 47) rfl,
  fun q L st h => e_getI (kd := 22) (k := 8) (n := 50) rfl,
  fun a L st h => e_ifeq (t := 57) (n := 53) rfl,
  fun L st h => e_push (v := zvi 1) (n := 54) rfl,
  fun L st h => e_goto (t := 58) rfl,
  fun L st h => e_push (v := zvi 0) (n := 58) rfl,
  fun v0 v1 v2 q L st h => e_callV4 (F := mX1_remembers) (kd := 16) (n := 61) rfl,
  fun a L st h => e_ld0R (n := 62) rfl,
  fun x0 x1 x2 a L st h => e_ld3R (n := 63) rfl,
  fun x0 x1 a L st h => e_ld2I (n := 64) rfl,
  fun v0 v1 q L st h => e_callV3 (F := mX1_sets) (kd := 16) (n := 67) rfl,
  fun a L st h => e_ld0R (n := 68) rfl,
  fun a L st h => e_ld0R (n := 69) rfl,
  fun q L st h => e_getR (kd := 16) (k := 6) (n := 72) rfl,
  fun q L st h => e_callV1 (F := mJ2_size) (kd := 31) (n := 75) rfl,
  fun v0 q L st h => e_callV2 (F := mX1_fine) (kd := 16) (n := 78) rfl,
  fun a L h => e_retI rfl⟩
theorem allX1_turns : zall yX1_turns cX1_turns 4 (some .int) 10 kX1_turns.1 :=
  ⟨k_aload_n dX1_turns_0,
  k_iload_n dX1_turns_1,
  k_callV (y2 := yX1_isDeparture) (C := RX1) (T0 := TX1) (ci := 0) dX1_turns_2 sndX1_isDeparture rfl q1255 q1257 qs35 q128 q1258 (by decide +kernel) ⟨by decide, by decide⟩ (by decide) (by decide),
  k_ifne (t := 14) dX1_turns_5 (by decide),
  k_aload_n dX1_turns_8,
  k_iconst dX1_turns_9,
  k_callV (y2 := yX1_refused) (C := RX1) (T0 := TX1) (ci := 0) dX1_turns_10 sndX1_refused rfl q378 q380 qs1 q128 q381 (by decide +kernel) ⟨by decide, by decide⟩ (by decide) (by decide),
  k_iret dX1_turns_13,
  k_aload_n dX1_turns_14,
  k_getR (C := RX1) (T := TX1) (N := 19) (ci := 0) (k := 5) (ref := "LinkTimes") dX1_turns_15 rfl in_X1 (by decide) q308 (Or.inl rfl) (fun _ _ _ => rfl),
  k_getRN (C := RX6) (T := TX6) (N := 5) (ci := 4) (k := 4) (ref := "LinkTimes$Desk") dX1_turns_18 rfl in_X6 (by decide) q430 (Or.inl rfl) (fun _ _ _ => rfl),
  k_iload_n dX1_turns_21,
  k_callV (y2 := yJ7_get) (C := RJ7) (T0 := TJ7) (ci := 13) dX1_turns_22 sndJ7_get rfl q937 q695 q696 q141 q697 (by decide +kernel) ⟨by decide, by decide⟩ (by decide) (by decide),
  k_cast (nm := "LinkTimes$Departure") dX1_turns_25 q938 zokDep_can,
  k_astore_n dX1_turns_28,
  k_aload_n dX1_turns_29,
  k_getIN (C := RX11) (T := TX11) (N := 9) (ci := 6) (k := 8) (ref := "LinkTimes$Departure") dX1_turns_30 rfl in_X11 (by decide) q871 (Or.inl rfl) (fun _ _ _ => rfl),
  k_iload_n dX1_turns_33,
  k_cmpne (t := 43) dX1_turns_34 (by decide),
  k_aload_n dX1_turns_37,
  k_iconst dX1_turns_38,
  k_callV (y2 := yX1_refused) (C := RX1) (T0 := TX1) (ci := 0) dX1_turns_39 sndX1_refused rfl q378 q380 qs1 q128 q381 (by decide +kernel) ⟨by decide, by decide⟩ (by decide) (by decide),
  k_iret dX1_turns_42,
  k_aload_n dX1_turns_43,
  k_iconst dX1_turns_44,
  k_iload_n dX1_turns_45,
  k_aload_n dX1_turns_46,
  k_getIN (C := RX11) (T := TX11) (N := 9) (ci := 6) (k := 8) (ref := "LinkTimes$Departure") dX1_turns_47 rfl in_X11 (by decide) q871 (Or.inl rfl) (fun _ _ _ => rfl),
  k_ifeq (t := 57) dX1_turns_50 (by decide),
  k_iconst dX1_turns_53,
  k_goto (t := 58) dX1_turns_54 (by decide),
  k_iconst dX1_turns_57,
  k_callV (y2 := yX1_remembers) (C := RX1) (T0 := TX1) (ci := 0) dX1_turns_58 sndX1_remembers rfl q1610 q1612 qs60 q128 q1613 (by decide +kernel) ⟨by decide, by decide⟩ (by decide) (by decide),
  k_aload_n dX1_turns_61,
  k_aload_n dX1_turns_62,
  k_iload_n dX1_turns_63,
  k_callV (y2 := yX1_sets) (C := RX1) (T0 := TX1) (ci := 0) dX1_turns_64 sndX1_sets rfl q1671 q1673 qs63 q128 q1674 (by decide +kernel) ⟨by decide, by decide⟩ (by decide) (by decide),
  k_aload_n dX1_turns_67,
  k_aload_n dX1_turns_68,
  k_getR (C := RX1) (T := TX1) (N := 19) (ci := 0) (k := 6) (ref := "LinkTimes") dX1_turns_69 rfl in_X1 (by decide) q309 (Or.inl rfl) (fun _ _ _ => rfl),
  k_callV (y2 := yJ2_size) (C := RJ2) (T0 := TJ2) (ci := 15) dX1_turns_72 sndJ2_size rfl q1227 q1228 q1229 q131 q1230 (by decide +kernel) ⟨by decide, by decide⟩ (by decide) (by decide),
  k_callV (y2 := yX1_fine) (C := RX1) (T0 := TX1) (ci := 0) dX1_turns_75 sndX1_fine rfl q1211 q1213 qs32 q128 q1214 (by decide +kernel) ⟨by decide, by decide⟩ (by decide) (by decide),
  k_iret dX1_turns_78, trivial⟩
theorem sndX1_turns : MSound 10 yX1_turns (ws_ yX1_turns cX1_turns 4 (some .int)) mX1_turns := msound_M (by decide) allX1_turns (fun _ _ => rfl)
