/-! Z program: LinkTimesModel (written by gen/gen_prog.py) -/
set_option maxRecDepth 100000
/-! LinkTimesModel.why(IIII)I -/
noncomputable def kX4_why : ZM := ([(0, zi_ld 1 0 1), (1, zi_ld 1 0 2), (2, zi_ld 0 1 3), (3, zi_callV mX4_isSpot 18 2 6), (6, zi_if (fun a => zc_eq a 0) 21 9), (9, zi_ld 1 0 10), (10, zi_ld 0 2 11), (11, zi_callV mX4_isSpot 18 2 14), (14, zi_if (fun a => zc_eq a 0) 21 17), (17, zi_push (zvi 1) 18), (18, zi_goto 22), (21, zi_push (zvi 0) 22), (22, zi_ld 0 3 23), (23, zi_push (zvi 0) 24), (24, zi_push (zvi 1999) 27), (27, zi_callS mX4_in 3 30), (30, zi_if (fun a => zc_eq a 0) 42 33), (33, zi_ld 0 4 35), (35, zi_if (fun a => zc_lt a 0) 42 38), (38, zi_push (zvi 1) 39), (39, zi_goto 43), (42, zi_push (zvi 0) 43), (43, zi_callS mX4_unless_2 2 46), (46, zi_callV mX4_isRefused 18 2 49), (49, zi_if (fun a => zc_eq a 0) 54 52), (52, zi_push (zvi (-1)) 53), (53, zi_retv 0), (54, zi_ld 1 0 55), (55, zi_callV mX4_laysAside 18 1 58), (58, zi_ld 1 0 59), (59, zi_ld 0 1 60), (60, zi_ld 0 2 61), (61, zi_ld 0 3 62), (62, zi_callV mX4_causes 18 4 65), (65, zi_st 0 5 67), (67, zi_ld 1 0 68), (68, zi_callV mX4_takesBack 18 1 71), (71, zi_ld 0 4 73), (73, zi_ld 0 5 75), (75, zi_cmp zc_ge 85 78), (78, zi_ld 0 4 80), (80, zi_push (zvi 1) 81), (81, zi_bin (fun a b => w32 (a + b)) 82), (82, zi_goto 86), (85, zi_push (zvi 0) 86), (86, zi_retv 0)], fun _ _ => none)
noncomputable def mX4_why : ZF := zrunM kX4_why 6
theorem enX4_why (x0 : Option Nat) (x1 : Int) (x2 : Int) (x3 : Int) (x4 : Int) (h : PH) : mX4_why [zvr x0, zvi x1, zvi x2, zvi x3, zvi x4] h = zev kX4_why 0 [zvr x0, zvi x1, zvi x2, zvi x3, zvi x4, zvu] [] h := zrunM_eq rfl rfl
theorem rX4_why : (∀ (a : Option Nat) (L st : List ZV) (h : PH), zev kX4_why 0 (zvr a :: L) st h = zev kX4_why 1 (zvr a :: L) (zvr a :: st) h) ∧
  (∀ (a : Option Nat) (L st : List ZV) (h : PH), zev kX4_why 1 (zvr a :: L) st h = zev kX4_why 2 (zvr a :: L) (zvr a :: st) h) ∧
  (∀ (x0 : ZV) (a : Int) (L st : List ZV) (h : PH), zev kX4_why 2 (x0 :: zvi a :: L) st h = zev kX4_why 3 (x0 :: zvi a :: L) (zvi a :: st) h) ∧
  (∀ (v0 : ZV) (q : Nat) (L st : List ZV) (h : PH), zev kX4_why 3 L (v0 :: zvr (some q) :: st) h = if (ph_K h q).1 % 1000 = 18 ∧ zcat st ≤ 8 then zk kX4_why 3 6 L st (mX4_isSpot [zvr (some q), v0] h) else none) ∧
  (∀ (a : Int) (L st : List ZV) (h : PH), zev kX4_why 6 L (zvi a :: st) h = if a = 0 then zev kX4_why 21 L st h else zev kX4_why 9 L st h) ∧
  (∀ (a : Option Nat) (L st : List ZV) (h : PH), zev kX4_why 9 (zvr a :: L) st h = zev kX4_why 10 (zvr a :: L) (zvr a :: st) h) ∧
  (∀ (x0 x1 : ZV) (a : Int) (L st : List ZV) (h : PH), zev kX4_why 10 (x0 :: x1 :: zvi a :: L) st h = zev kX4_why 11 (x0 :: x1 :: zvi a :: L) (zvi a :: st) h) ∧
  (∀ (v0 : ZV) (q : Nat) (L st : List ZV) (h : PH), zev kX4_why 11 L (v0 :: zvr (some q) :: st) h = if (ph_K h q).1 % 1000 = 18 ∧ zcat st ≤ 8 then zk kX4_why 11 14 L st (mX4_isSpot [zvr (some q), v0] h) else none) ∧
  (∀ (a : Int) (L st : List ZV) (h : PH), zev kX4_why 14 L (zvi a :: st) h = if a = 0 then zev kX4_why 21 L st h else zev kX4_why 17 L st h) ∧
  (∀ (L st : List ZV) (h : PH), zev kX4_why 17 L st h = zev kX4_why 18 L (zvi 1 :: st) h) ∧
  (∀ (L st : List ZV) (h : PH), zev kX4_why 18 L st h = zev kX4_why 22 L st h) ∧
  (∀ (L st : List ZV) (h : PH), zev kX4_why 21 L st h = zev kX4_why 22 L (zvi 0 :: st) h) ∧
  (∀ (x0 x1 x2 : ZV) (a : Int) (L st : List ZV) (h : PH), zev kX4_why 22 (x0 :: x1 :: x2 :: zvi a :: L) st h = zev kX4_why 23 (x0 :: x1 :: x2 :: zvi a :: L) (zvi a :: st) h) ∧
  (∀ (L st : List ZV) (h : PH), zev kX4_why 23 L st h = zev kX4_why 24 L (zvi 0 :: st) h) ∧
  (∀ (L st : List ZV) (h : PH), zev kX4_why 24 L st h = zev kX4_why 27 L (zvi 1999 :: st) h) ∧
  (∀ (v0 v1 v2 : ZV) (L st : List ZV) (h : PH), zev kX4_why 27 L (v2 :: v1 :: v0 :: st) h = if zcat st ≤ 8 then zk kX4_why 27 30 L st (mX4_in [v0, v1, v2] h) else none) ∧
  (∀ (a : Int) (L st : List ZV) (h : PH), zev kX4_why 30 L (zvi a :: st) h = if a = 0 then zev kX4_why 42 L st h else zev kX4_why 33 L st h) ∧
  (∀ (x0 x1 x2 x3 : ZV) (a : Int) (L st : List ZV) (h : PH), zev kX4_why 33 (x0 :: x1 :: x2 :: x3 :: zvi a :: L) st h = zev kX4_why 35 (x0 :: x1 :: x2 :: x3 :: zvi a :: L) (zvi a :: st) h) ∧
  (∀ (a : Int) (L st : List ZV) (h : PH), zev kX4_why 35 L (zvi a :: st) h = if a < 0 then zev kX4_why 42 L st h else zev kX4_why 38 L st h) ∧
  (∀ (L st : List ZV) (h : PH), zev kX4_why 38 L st h = zev kX4_why 39 L (zvi 1 :: st) h) ∧
  (∀ (L st : List ZV) (h : PH), zev kX4_why 39 L st h = zev kX4_why 43 L st h) ∧
  (∀ (L st : List ZV) (h : PH), zev kX4_why 42 L st h = zev kX4_why 43 L (zvi 0 :: st) h) ∧
  (∀ (v0 v1 : ZV) (L st : List ZV) (h : PH), zev kX4_why 43 L (v1 :: v0 :: st) h = if zcat st ≤ 8 then zk kX4_why 43 46 L st (mX4_unless_2 [v0, v1] h) else none) ∧
  (∀ (v0 : ZV) (q : Nat) (L st : List ZV) (h : PH), zev kX4_why 46 L (v0 :: zvr (some q) :: st) h = if (ph_K h q).1 % 1000 = 18 ∧ zcat st ≤ 8 then zk kX4_why 46 49 L st (mX4_isRefused [zvr (some q), v0] h) else none) ∧
  (∀ (a : Int) (L st : List ZV) (h : PH), zev kX4_why 49 L (zvi a :: st) h = if a = 0 then zev kX4_why 54 L st h else zev kX4_why 52 L st h) ∧
  (∀ (L st : List ZV) (h : PH), zev kX4_why 52 L st h = zev kX4_why 53 L (zvi (-1) :: st) h) ∧
  (∀ (a : Int) (L : List ZV) (h : PH), zev kX4_why 53 L [zvi a] h = zrv (zvi a) h) ∧
  (∀ (a : Option Nat) (L st : List ZV) (h : PH), zev kX4_why 54 (zvr a :: L) st h = zev kX4_why 55 (zvr a :: L) (zvr a :: st) h) ∧
  (∀ (q : Nat) (L st : List ZV) (h : PH), zev kX4_why 55 L (zvr (some q) :: st) h = if (ph_K h q).1 % 1000 = 18 ∧ zcat st ≤ 8 then zk kX4_why 55 58 L st (mX4_laysAside [zvr (some q)] h) else none) ∧
  (∀ (a : Option Nat) (L st : List ZV) (h : PH), zev kX4_why 58 (zvr a :: L) st h = zev kX4_why 59 (zvr a :: L) (zvr a :: st) h) ∧
  (∀ (x0 : ZV) (a : Int) (L st : List ZV) (h : PH), zev kX4_why 59 (x0 :: zvi a :: L) st h = zev kX4_why 60 (x0 :: zvi a :: L) (zvi a :: st) h) ∧
  (∀ (x0 x1 : ZV) (a : Int) (L st : List ZV) (h : PH), zev kX4_why 60 (x0 :: x1 :: zvi a :: L) st h = zev kX4_why 61 (x0 :: x1 :: zvi a :: L) (zvi a :: st) h) ∧
  (∀ (x0 x1 x2 : ZV) (a : Int) (L st : List ZV) (h : PH), zev kX4_why 61 (x0 :: x1 :: x2 :: zvi a :: L) st h = zev kX4_why 62 (x0 :: x1 :: x2 :: zvi a :: L) (zvi a :: st) h) ∧
  (∀ (v0 v1 v2 : ZV) (q : Nat) (L st : List ZV) (h : PH), zev kX4_why 62 L (v2 :: v1 :: v0 :: zvr (some q) :: st) h = if (ph_K h q).1 % 1000 = 18 ∧ zcat st ≤ 8 then zk kX4_why 62 65 L st (mX4_causes [zvr (some q), v0, v1, v2] h) else none) ∧
  (∀ (x0 x1 x2 x3 x4 x5 : ZV) (a : Int) (L st : List ZV) (h : PH) (hx : zisL x4 = false) , zev kX4_why 65 (x0 :: x1 :: x2 :: x3 :: x4 :: x5 :: L) (zvi a :: st) h = zev kX4_why 67 (x0 :: x1 :: x2 :: x3 :: x4 :: zvi a :: L) st h) ∧
  (∀ (a : Option Nat) (L st : List ZV) (h : PH), zev kX4_why 67 (zvr a :: L) st h = zev kX4_why 68 (zvr a :: L) (zvr a :: st) h) ∧
  (∀ (q : Nat) (L st : List ZV) (h : PH), zev kX4_why 68 L (zvr (some q) :: st) h = if (ph_K h q).1 % 1000 = 18 ∧ zcat st ≤ 8 then zk kX4_why 68 71 L st (mX4_takesBack [zvr (some q)] h) else none) ∧
  (∀ (x0 x1 x2 x3 : ZV) (a : Int) (L st : List ZV) (h : PH), zev kX4_why 71 (x0 :: x1 :: x2 :: x3 :: zvi a :: L) st h = zev kX4_why 73 (x0 :: x1 :: x2 :: x3 :: zvi a :: L) (zvi a :: st) h) ∧
  (∀ (x0 x1 x2 x3 x4 : ZV) (a : Int) (L st : List ZV) (h : PH), zev kX4_why 73 (x0 :: x1 :: x2 :: x3 :: x4 :: zvi a :: L) st h = zev kX4_why 75 (x0 :: x1 :: x2 :: x3 :: x4 :: zvi a :: L) (zvi a :: st) h) ∧
  (∀ (a b : Int) (L st : List ZV) (h : PH), zev kX4_why 75 L (zvi b :: zvi a :: st) h = if a ≥ b then zev kX4_why 85 L st h else zev kX4_why 78 L st h) ∧
  (∀ (x0 x1 x2 x3 : ZV) (a : Int) (L st : List ZV) (h : PH), zev kX4_why 78 (x0 :: x1 :: x2 :: x3 :: zvi a :: L) st h = zev kX4_why 80 (x0 :: x1 :: x2 :: x3 :: zvi a :: L) (zvi a :: st) h) ∧
  (∀ (L st : List ZV) (h : PH), zev kX4_why 80 L st h = zev kX4_why 81 L (zvi 1 :: st) h) ∧
  (∀ (a b : Int) (L st : List ZV) (h : PH), zev kX4_why 81 L (zvi b :: zvi a :: st) h = zev kX4_why 82 L (zvi (w32 (a + b)) :: st) h) ∧
  (∀ (L st : List ZV) (h : PH), zev kX4_why 82 L st h = zev kX4_why 86 L st h) ∧
  (∀ (L st : List ZV) (h : PH), zev kX4_why 85 L st h = zev kX4_why 86 L (zvi 0 :: st) h) ∧
  (∀ (a : Int) (L : List ZV) (h : PH), zev kX4_why 86 L [zvi a] h = zrv (zvi a) h) :=
  ⟨fun a L st h => e_ld0R (n := 1) rfl,
  fun a L st h => e_ld0R (n := 2) rfl,
  fun x0 a L st h => e_ld1I (n := 3) rfl,
  fun v0 q L st h => e_callV2 (F := mX4_isSpot) (kd := 18) (n := 6) rfl,
  fun a L st h => e_ifeq (t := 21) (n := 9) rfl,
  fun a L st h => e_ld0R (n := 10) rfl,
  fun x0 x1 a L st h => e_ld2I (n := 11) rfl,
  fun v0 q L st h => e_callV2 (F := mX4_isSpot) (kd := 18) (n := 14) rfl,
  fun a L st h => e_ifeq (t := 21) (n := 17) rfl,
  fun L st h => e_push (v := zvi 1) (n := 18) rfl,
  fun L st h => e_goto (t := 22) rfl,
  fun L st h => e_push (v := zvi 0) (n := 22) rfl,
  fun x0 x1 x2 a L st h => e_ld3I (n := 23) rfl,
  fun L st h => e_push (v := zvi 0) (n := 24) rfl,
  fun L st h => e_push (v := zvi 1999) (n := 27) rfl,
  fun v0 v1 v2 L st h => e_callS3 (F := mX4_in) (n := 30) rfl,
  fun a L st h => e_ifeq (t := 42) (n := 33) rfl,
  fun x0 x1 x2 x3 a L st h => e_ld4I (n := 35) rfl,
  fun a L st h => e_iflt (t := 42) (n := 38) rfl,
  fun L st h => e_push (v := zvi 1) (n := 39) rfl,
  fun L st h => e_goto (t := 43) rfl,
  fun L st h => e_push (v := zvi 0) (n := 43) rfl,
  fun v0 v1 L st h => e_callS2 (F := mX4_unless_2) (n := 46) rfl,
  fun v0 q L st h => e_callV2 (F := mX4_isRefused) (kd := 18) (n := 49) rfl,
  fun a L st h => e_ifeq (t := 54) (n := 52) rfl,
  fun L st h => e_push (v := zvi (-1)) (n := 53) rfl,
  fun a L h => e_retI rfl,
  fun a L st h => e_ld0R (n := 55) rfl,
  fun q L st h => e_callV1 (F := mX4_laysAside) (kd := 18) (n := 58) rfl,
  fun a L st h => e_ld0R (n := 59) rfl,
  fun x0 a L st h => e_ld1I (n := 60) rfl,
  fun x0 x1 a L st h => e_ld2I (n := 61) rfl,
  fun x0 x1 x2 a L st h => e_ld3I (n := 62) rfl,
  fun v0 v1 v2 q L st h => e_callV4 (F := mX4_causes) (kd := 18) (n := 65) rfl,
  fun x0 x1 x2 x3 x4 x5 a L st h hx => e_st5I (n := 67) rfl hx,
  fun a L st h => e_ld0R (n := 68) rfl,
  fun q L st h => e_callV1 (F := mX4_takesBack) (kd := 18) (n := 71) rfl,
  fun x0 x1 x2 x3 a L st h => e_ld4I (n := 73) rfl,
  fun x0 x1 x2 x3 x4 a L st h => e_ld5I (n := 75) rfl,
  fun a b L st h => e_cmpge (t := 85) (n := 78) rfl,
  fun x0 x1 x2 x3 a L st h => e_ld4I (n := 80) rfl,
  fun L st h => e_push (v := zvi 1) (n := 81) rfl,
  fun a b L st h => e_bin (f := (fun a b => w32 (a + b))) (n := 82) rfl,
  fun L st h => e_goto (t := 86) rfl,
  fun L st h => e_push (v := zvi 0) (n := 86) rfl,
  fun a L h => e_retI rfl⟩
theorem allX4_why : zall yX4_why cX4_why 6 (some .int) 9 kX4_why.1 :=
  ⟨k_aload_n dX4_why_0,
  k_aload_n dX4_why_1,
  k_iload_n dX4_why_2,
  k_callV (y2 := yX4_isSpot) (C := RX4) (T0 := TX4) (ci := 2) dX4_why_3 sndX4_isSpot rfl q2084 q2086 qs93 q137 q2087 (by decide +kernel) ⟨by decide, by decide⟩ (by decide) (by decide),
  k_ifeq (t := 21) dX4_why_6 (by decide),
  k_aload_n dX4_why_9,
  k_iload_n dX4_why_10,
  k_callV (y2 := yX4_isSpot) (C := RX4) (T0 := TX4) (ci := 2) dX4_why_11 sndX4_isSpot rfl q2084 q2086 qs93 q137 q2087 (by decide +kernel) ⟨by decide, by decide⟩ (by decide) (by decide),
  k_ifeq (t := 21) dX4_why_14 (by decide),
  k_iconst dX4_why_17,
  k_goto (t := 22) dX4_why_18 (by decide),
  k_iconst dX4_why_21,
  k_iload_n dX4_why_22,
  k_iconst dX4_why_23,
  k_sipush dX4_why_24,
  k_callS (y2 := yX4_in) dX4_why_27 sndX4_in q1943 q1944 q137 q1945 (by decide +kernel) ⟨by decide, by decide⟩ (by decide) (by decide),
  k_ifeq (t := 42) dX4_why_30 (by decide),
  k_iload dX4_why_33,
  k_iflt (t := 42) dX4_why_35 (by decide),
  k_iconst dX4_why_38,
  k_goto (t := 43) dX4_why_39 (by decide),
  k_iconst dX4_why_42,
  k_callS (y2 := yX4_unless_2) dX4_why_43 sndX4_unless_2 q2120 q2121 q137 q2122 (by decide +kernel) ⟨by decide, by decide⟩ (by decide) (by decide),
  k_callV (y2 := yX4_isRefused) (C := RX4) (T0 := TX4) (ci := 2) dX4_why_46 sndX4_isRefused rfl q1946 q1948 qs70 q137 q1949 (by decide +kernel) ⟨by decide, by decide⟩ (by decide) (by decide),
  k_ifeq (t := 54) dX4_why_49 (by decide),
  k_iconst dX4_why_52,
  k_iret dX4_why_53,
  k_aload_n dX4_why_54,
  k_callV (y2 := yX4_laysAside) (C := RX4) (T0 := TX4) (ci := 2) dX4_why_55 sndX4_laysAside rfl q2247 q2249 qs116 q137 q2250 (by decide +kernel) ⟨by decide, by decide⟩ (by decide) (by decide),
  k_aload_n dX4_why_58,
  k_iload_n dX4_why_59,
  k_iload_n dX4_why_60,
  k_iload_n dX4_why_61,
  k_callV (y2 := yX4_causes) (C := RX4) (T0 := TX4) (ci := 2) dX4_why_62 sndX4_causes rfl q2323 q2325 qs123 q137 q2326 (by decide +kernel) ⟨by decide, by decide⟩ (by decide) (by decide),
  k_istore dX4_why_65,
  k_aload_n dX4_why_67,
  k_callV (y2 := yX4_takesBack) (C := RX4) (T0 := TX4) (ci := 2) dX4_why_68 sndX4_takesBack rfl q2251 q2253 qs117 q137 q2254 (by decide +kernel) ⟨by decide, by decide⟩ (by decide) (by decide),
  k_iload dX4_why_71,
  k_iload dX4_why_73,
  k_cmpge (t := 85) dX4_why_75 (by decide),
  k_iload dX4_why_78,
  k_iconst dX4_why_80,
  k_iadd dX4_why_81,
  k_goto (t := 86) dX4_why_82 (by decide),
  k_iconst dX4_why_85,
  k_iret dX4_why_86, trivial⟩
theorem sndX4_why : MSound 9 yX4_why (ws_ yX4_why cX4_why 6 (some .int)) mX4_why := msound_M (by decide) allX4_why (fun _ _ => rfl)
/-! LinkTimesModel.keeps()V -/
noncomputable def kX4_keeps : ZM := ([(0, zi_ld 1 0 1), (1, zi_getI 18 10 4), (4, zi_push (zvi 10) 6), (6, zi_cmp zc_ne 50 9), (9, zi_push (zvi 0) 10), (10, zi_st 0 1 11), (11, zi_ld 0 1 12), (12, zi_push (zvi 8865) 15), (15, zi_cmp zc_ge 40 18), (18, zi_ld 1 0 19), (19, zi_getR 18 9 22), (22, zi_ld 0 1 23), (23, zi_ld 1 0 24), (24, zi_getR 18 9 27), (27, zi_ld 0 1 28), (28, zi_push (zvi 985) 31), (31, zi_bin (fun a b => w32 (a + b)) 32), (32, zi_ald 1 33), (33, zi_ast 34), (34, zi_iinc 1 1 37), (37, zi_goto 11), (40, zi_ld 1 0 41), (41, zi_dup 42), (42, zi_getI 18 10 45), (45, zi_push (zvi 1) 46), (46, zi_bin (fun a b => w32 (a - b)) 47), (47, zi_putI 18 10 50), (50, zi_ld 1 0 51), (51, zi_getR 18 6 54), (54, zi_push (zvi 0) 55), (55, zi_ld 1 0 56), (56, zi_getR 18 9 59), (59, zi_push (zvi 985) 62), (62, zi_ld 1 0 63), (63, zi_getI 18 10 66), (66, zi_bin (fun a b => w32 (a * b)) 67), (67, zi_callS mX4_copies 4 70), (70, zi_ld 1 0 71), (71, zi_dup 72), (72, zi_getI 18 10 75), (75, zi_push (zvi 1) 76), (76, zi_bin (fun a b => w32 (a + b)) 77), (77, zi_putI 18 10 80), (80, zi_ret)], fun _ _ => none)
noncomputable def mX4_keeps : ZF := zrunM kX4_keeps 2
theorem enX4_keeps (x0 : Option Nat) (h : PH) : mX4_keeps [zvr x0] h = zev kX4_keeps 0 [zvr x0, zvu] [] h := zrunM_eq rfl rfl
theorem hdX4_keeps_11 (x0 : ZV) (a : Int) (L st : List ZV) (h : PH) : zev kX4_keeps 11 (x0 :: zvi a :: L) st h = zev kX4_keeps 12 (x0 :: zvi a :: L) (zvi a :: st) h := e_ld1I (n := 12) rfl
theorem rX4_keeps : (∀ (a : Option Nat) (L st : List ZV) (h : PH), zev kX4_keeps 0 (zvr a :: L) st h = zev kX4_keeps 1 (zvr a :: L) (zvr a :: st) h) ∧
  (∀ (q : Nat) (L st : List ZV) (h : PH), zev kX4_keeps 1 L (zvr (some q) :: st) h = if (ph_K h q).1 % 1000 = 18 then zev kX4_keeps 4 L (zvi (ph_I h q 10) :: st) h else none) ∧
  (∀ (L st : List ZV) (h : PH), zev kX4_keeps 4 L st h = zev kX4_keeps 6 L (zvi 10 :: st) h) ∧
  (∀ (a b : Int) (L st : List ZV) (h : PH), zev kX4_keeps 6 L (zvi b :: zvi a :: st) h = if a ≠ b then zev kX4_keeps 50 L st h else zev kX4_keeps 9 L st h) ∧
  (∀ (L st : List ZV) (h : PH), zev kX4_keeps 9 L st h = zev kX4_keeps 10 L (zvi 0 :: st) h) ∧
  (∀ (x0 x1 : ZV) (a : Int) (L st : List ZV) (h : PH) (hx : zisL x0 = false) , zev kX4_keeps 10 (x0 :: x1 :: L) (zvi a :: st) h = zev kX4_keeps 11 (x0 :: zvi a :: L) st h) ∧
  (∀ (L st : List ZV) (h : PH), zev kX4_keeps 12 L st h = zev kX4_keeps 15 L (zvi 8865 :: st) h) ∧
  (∀ (a b : Int) (L st : List ZV) (h : PH), zev kX4_keeps 15 L (zvi b :: zvi a :: st) h = if a ≥ b then zev kX4_keeps 40 L st h else zev kX4_keeps 18 L st h) ∧
  (∀ (a : Option Nat) (L st : List ZV) (h : PH), zev kX4_keeps 18 (zvr a :: L) st h = zev kX4_keeps 19 (zvr a :: L) (zvr a :: st) h) ∧
  (∀ (q : Nat) (L st : List ZV) (h : PH), zev kX4_keeps 19 L (zvr (some q) :: st) h = if (ph_K h q).1 % 1000 = 18 then zev kX4_keeps 22 L (zvr (ph_R h q 9) :: st) h else none) ∧
  (∀ (x0 : ZV) (a : Int) (L st : List ZV) (h : PH), zev kX4_keeps 22 (x0 :: zvi a :: L) st h = zev kX4_keeps 23 (x0 :: zvi a :: L) (zvi a :: st) h) ∧
  (∀ (a : Option Nat) (L st : List ZV) (h : PH), zev kX4_keeps 23 (zvr a :: L) st h = zev kX4_keeps 24 (zvr a :: L) (zvr a :: st) h) ∧
  (∀ (q : Nat) (L st : List ZV) (h : PH), zev kX4_keeps 24 L (zvr (some q) :: st) h = if (ph_K h q).1 % 1000 = 18 then zev kX4_keeps 27 L (zvr (ph_R h q 9) :: st) h else none) ∧
  (∀ (x0 : ZV) (a : Int) (L st : List ZV) (h : PH), zev kX4_keeps 27 (x0 :: zvi a :: L) st h = zev kX4_keeps 28 (x0 :: zvi a :: L) (zvi a :: st) h) ∧
  (∀ (L st : List ZV) (h : PH), zev kX4_keeps 28 L st h = zev kX4_keeps 31 L (zvi 985 :: st) h) ∧
  (∀ (a b : Int) (L st : List ZV) (h : PH), zev kX4_keeps 31 L (zvi b :: zvi a :: st) h = zev kX4_keeps 32 L (zvi (w32 (a + b)) :: st) h) ∧
  (∀ (j : Int) (q : Nat) (L st : List ZV) (h : PH), zev kX4_keeps 32 L (zvi j :: zvr (some q) :: st) h = if (ph_K h q).1 % 1000 = 1 ∧ 0 ≤ j ∧ j < (ph_K h q).2 then zev kX4_keeps 33 L (zvi (ph_I h q j) :: st) h else none) ∧
  (∀ (x j : Int) (q : Nat) (L st : List ZV) (h : PH), zev kX4_keeps 33 L (zvi x :: zvi j :: zvr (some q) :: st) h = if (ph_K h q).1 = 1 ∧ 0 ≤ j ∧ j < (ph_K h q).2 then zev kX4_keeps 34 L st (st_I h q j x) else none) ∧
  (∀ (x0 : ZV) (a : Int) (L st : List ZV) (h : PH) (hx : zisL x0 = false) , zev kX4_keeps 34 (x0 :: zvi a :: L) st h = zev kX4_keeps 37 (x0 :: zvi (w32 (a + 1)) :: L) st h) ∧
  (∀ (L st : List ZV) (h : PH), zev kX4_keeps 37 L st h = zev kX4_keeps 11 L st h) ∧
  (∀ (a : Option Nat) (L st : List ZV) (h : PH), zev kX4_keeps 40 (zvr a :: L) st h = zev kX4_keeps 41 (zvr a :: L) (zvr a :: st) h) ∧
  (∀ (a : Int) (L st : List ZV) (h : PH), zev kX4_keeps 41 L (zvi a :: st) h = zev kX4_keeps 42 L (zvi a :: zvi a :: st) h) ∧
  (∀ (a : Option Nat) (L st : List ZV) (h : PH), zev kX4_keeps 41 L (zvr a :: st) h = zev kX4_keeps 42 L (zvr a :: zvr a :: st) h) ∧
  (∀ (q : Nat) (L st : List ZV) (h : PH), zev kX4_keeps 42 L (zvr (some q) :: st) h = if (ph_K h q).1 % 1000 = 18 then zev kX4_keeps 45 L (zvi (ph_I h q 10) :: st) h else none) ∧
  (∀ (L st : List ZV) (h : PH), zev kX4_keeps 45 L st h = zev kX4_keeps 46 L (zvi 1 :: st) h) ∧
  (∀ (a b : Int) (L st : List ZV) (h : PH), zev kX4_keeps 46 L (zvi b :: zvi a :: st) h = zev kX4_keeps 47 L (zvi (w32 (a - b)) :: st) h) ∧
  (∀ (a : Int) (q : Nat) (L st : List ZV) (h : PH), zev kX4_keeps 47 L (zvi a :: zvr (some q) :: st) h = if (ph_K h q).1 = 18 then zev kX4_keeps 50 L st (st_I h q 10 a) else none) ∧
  (∀ (a : Option Nat) (L st : List ZV) (h : PH), zev kX4_keeps 50 (zvr a :: L) st h = zev kX4_keeps 51 (zvr a :: L) (zvr a :: st) h) ∧
  (∀ (q : Nat) (L st : List ZV) (h : PH), zev kX4_keeps 51 L (zvr (some q) :: st) h = if (ph_K h q).1 % 1000 = 18 then zev kX4_keeps 54 L (zvr (ph_R h q 6) :: st) h else none) ∧
  (∀ (L st : List ZV) (h : PH), zev kX4_keeps 54 L st h = zev kX4_keeps 55 L (zvi 0 :: st) h) ∧
  (∀ (a : Option Nat) (L st : List ZV) (h : PH), zev kX4_keeps 55 (zvr a :: L) st h = zev kX4_keeps 56 (zvr a :: L) (zvr a :: st) h) ∧
  (∀ (q : Nat) (L st : List ZV) (h : PH), zev kX4_keeps 56 L (zvr (some q) :: st) h = if (ph_K h q).1 % 1000 = 18 then zev kX4_keeps 59 L (zvr (ph_R h q 9) :: st) h else none) ∧
  (∀ (L st : List ZV) (h : PH), zev kX4_keeps 59 L st h = zev kX4_keeps 62 L (zvi 985 :: st) h) ∧
  (∀ (a : Option Nat) (L st : List ZV) (h : PH), zev kX4_keeps 62 (zvr a :: L) st h = zev kX4_keeps 63 (zvr a :: L) (zvr a :: st) h) ∧
  (∀ (q : Nat) (L st : List ZV) (h : PH), zev kX4_keeps 63 L (zvr (some q) :: st) h = if (ph_K h q).1 % 1000 = 18 then zev kX4_keeps 66 L (zvi (ph_I h q 10) :: st) h else none) ∧
  (∀ (a b : Int) (L st : List ZV) (h : PH), zev kX4_keeps 66 L (zvi b :: zvi a :: st) h = zev kX4_keeps 67 L (zvi (w32 (a * b)) :: st) h) ∧
  (∀ (v0 v1 v2 v3 : ZV) (L st : List ZV) (h : PH), zev kX4_keeps 67 L (v3 :: v2 :: v1 :: v0 :: st) h = if zcat st ≤ 8 then zk kX4_keeps 67 70 L st (mX4_copies [v0, v1, v2, v3] h) else none) ∧
  (∀ (a : Option Nat) (L st : List ZV) (h : PH), zev kX4_keeps 70 (zvr a :: L) st h = zev kX4_keeps 71 (zvr a :: L) (zvr a :: st) h) ∧
  (∀ (a : Int) (L st : List ZV) (h : PH), zev kX4_keeps 71 L (zvi a :: st) h = zev kX4_keeps 72 L (zvi a :: zvi a :: st) h) ∧
  (∀ (a : Option Nat) (L st : List ZV) (h : PH), zev kX4_keeps 71 L (zvr a :: st) h = zev kX4_keeps 72 L (zvr a :: zvr a :: st) h) ∧
  (∀ (q : Nat) (L st : List ZV) (h : PH), zev kX4_keeps 72 L (zvr (some q) :: st) h = if (ph_K h q).1 % 1000 = 18 then zev kX4_keeps 75 L (zvi (ph_I h q 10) :: st) h else none) ∧
  (∀ (L st : List ZV) (h : PH), zev kX4_keeps 75 L st h = zev kX4_keeps 76 L (zvi 1 :: st) h) ∧
  (∀ (a b : Int) (L st : List ZV) (h : PH), zev kX4_keeps 76 L (zvi b :: zvi a :: st) h = zev kX4_keeps 77 L (zvi (w32 (a + b)) :: st) h) ∧
  (∀ (a : Int) (q : Nat) (L st : List ZV) (h : PH), zev kX4_keeps 77 L (zvi a :: zvr (some q) :: st) h = if (ph_K h q).1 = 18 then zev kX4_keeps 80 L st (st_I h q 10 a) else none) ∧
  (∀ (L : List ZV) (h : PH), zev kX4_keeps 80 L [] h = zr0 h) :=
  ⟨fun a L st h => e_ld0R (n := 1) rfl,
  fun q L st h => e_getI (kd := 18) (k := 10) (n := 4) rfl,
  fun L st h => e_push (v := zvi 10) (n := 6) rfl,
  fun a b L st h => e_cmpne (t := 50) (n := 9) rfl,
  fun L st h => e_push (v := zvi 0) (n := 10) rfl,
  fun x0 x1 a L st h hx => e_st1I (n := 11) rfl hx,
  fun L st h => e_push (v := zvi 8865) (n := 15) rfl,
  fun a b L st h => e_cmpge (t := 40) (n := 18) rfl,
  fun a L st h => e_ld0R (n := 19) rfl,
  fun q L st h => e_getR (kd := 18) (k := 9) (n := 22) rfl,
  fun x0 a L st h => e_ld1I (n := 23) rfl,
  fun a L st h => e_ld0R (n := 24) rfl,
  fun q L st h => e_getR (kd := 18) (k := 9) (n := 27) rfl,
  fun x0 a L st h => e_ld1I (n := 28) rfl,
  fun L st h => e_push (v := zvi 985) (n := 31) rfl,
  fun a b L st h => e_bin (f := (fun a b => w32 (a + b))) (n := 32) rfl,
  fun j q L st h => e_ald (kd := 1) (n := 33) rfl,
  fun x j q L st h => e_ast (n := 34) rfl,
  fun x0 a L st h hx => e_iinc1 (d := 1) (n := 37) rfl hx,
  fun L st h => e_goto (t := 11) rfl,
  fun a L st h => e_ld0R (n := 41) rfl,
  fun a L st h => e_dupI (n := 42) rfl,
  fun a L st h => e_dupR (n := 42) rfl,
  fun q L st h => e_getI (kd := 18) (k := 10) (n := 45) rfl,
  fun L st h => e_push (v := zvi 1) (n := 46) rfl,
  fun a b L st h => e_bin (f := (fun a b => w32 (a - b))) (n := 47) rfl,
  fun a q L st h => e_putI (kd := 18) (k := 10) (n := 50) rfl,
  fun a L st h => e_ld0R (n := 51) rfl,
  fun q L st h => e_getR (kd := 18) (k := 6) (n := 54) rfl,
  fun L st h => e_push (v := zvi 0) (n := 55) rfl,
  fun a L st h => e_ld0R (n := 56) rfl,
  fun q L st h => e_getR (kd := 18) (k := 9) (n := 59) rfl,
  fun L st h => e_push (v := zvi 985) (n := 62) rfl,
  fun a L st h => e_ld0R (n := 63) rfl,
  fun q L st h => e_getI (kd := 18) (k := 10) (n := 66) rfl,
  fun a b L st h => e_bin (f := (fun a b => w32 (a * b))) (n := 67) rfl,
  fun v0 v1 v2 v3 L st h => e_callS4 (F := mX4_copies) (n := 70) rfl,
  fun a L st h => e_ld0R (n := 71) rfl,
  fun a L st h => e_dupI (n := 72) rfl,
  fun a L st h => e_dupR (n := 72) rfl,
  fun q L st h => e_getI (kd := 18) (k := 10) (n := 75) rfl,
  fun L st h => e_push (v := zvi 1) (n := 76) rfl,
  fun a b L st h => e_bin (f := (fun a b => w32 (a + b))) (n := 77) rfl,
  fun a q L st h => e_putI (kd := 18) (k := 10) (n := 80) rfl,
  fun L h => e_ret rfl⟩
theorem allX4_keeps : zall yX4_keeps cX4_keeps 2 none 2 kX4_keeps.1 :=
  ⟨k_aload_n dX4_keeps_0,
  k_getI (C := RX4) (T := TX4) (N := 42) (ci := 2) (k := 10) (ref := "LinkTimesModel") dX4_keeps_1 rfl in_X4 (by decide) q1809 (Or.inl rfl) (fun _ _ _ => rfl),
  k_bipush dX4_keeps_4,
  k_cmpne (t := 50) dX4_keeps_6 (by decide),
  k_iconst dX4_keeps_9,
  k_istore_n dX4_keeps_10,
  k_iload_n dX4_keeps_11,
  k_sipush dX4_keeps_12,
  k_cmpge (t := 40) dX4_keeps_15 (by decide),
  k_aload_n dX4_keeps_18,
  k_getR (C := RX4) (T := TX4) (N := 42) (ci := 2) (k := 9) (ref := "LinkTimesModel") dX4_keeps_19 rfl in_X4 (by decide) q1808 (Or.inl rfl) (fun _ _ _ => rfl),
  k_iload_n dX4_keeps_22,
  k_aload_n dX4_keeps_23,
  k_getR (C := RX4) (T := TX4) (N := 42) (ci := 2) (k := 9) (ref := "LinkTimesModel") dX4_keeps_24 rfl in_X4 (by decide) q1808 (Or.inl rfl) (fun _ _ _ => rfl),
  k_iload_n dX4_keeps_27,
  k_sipush dX4_keeps_28,
  k_iadd dX4_keeps_31,
  k_iald dX4_keeps_32,
  k_iast dX4_keeps_33,
  k_iinc dX4_keeps_34,
  k_goto (t := 11) dX4_keeps_37 (by decide),
  k_aload_n dX4_keeps_40,
  k_dup dX4_keeps_41,
  k_getI (C := RX4) (T := TX4) (N := 42) (ci := 2) (k := 10) (ref := "LinkTimesModel") dX4_keeps_42 rfl in_X4 (by decide) q1809 (Or.inl rfl) (fun _ _ _ => rfl),
  k_iconst dX4_keeps_45,
  k_isub dX4_keeps_46,
  k_putI (C := RX4) (T := TX4) (N := 42) (ci := 2) (k := 10) (ref := "LinkTimesModel") dX4_keeps_47 rfl in_X4 tyX4 tyX4_ok nmX4 (by decide) (Or.inl q1809) (Or.inl rfl) (Or.inl rfl) (tyX4_ok 10 (by decide)) (fun _ _ _ => rfl),
  k_aload_n dX4_keeps_50,
  k_getR (C := RX4) (T := TX4) (N := 42) (ci := 2) (k := 6) (ref := "LinkTimesModel") dX4_keeps_51 rfl in_X4 (by decide) q1805 (Or.inl rfl) (fun _ _ _ => rfl),
  k_iconst dX4_keeps_54,
  k_aload_n dX4_keeps_55,
  k_getR (C := RX4) (T := TX4) (N := 42) (ci := 2) (k := 9) (ref := "LinkTimesModel") dX4_keeps_56 rfl in_X4 (by decide) q1808 (Or.inl rfl) (fun _ _ _ => rfl),
  k_sipush dX4_keeps_59,
  k_aload_n dX4_keeps_62,
  k_getI (C := RX4) (T := TX4) (N := 42) (ci := 2) (k := 10) (ref := "LinkTimesModel") dX4_keeps_63 rfl in_X4 (by decide) q1809 (Or.inl rfl) (fun _ _ _ => rfl),
  k_imul dX4_keeps_66,
  k_callS (y2 := yX4_copies) dX4_keeps_67 sndX4_copies q2054 q2055 q137 q2056 (by decide +kernel) ⟨by decide, by decide⟩ (by decide) (by decide),
  k_aload_n dX4_keeps_70,
  k_dup dX4_keeps_71,
  k_getI (C := RX4) (T := TX4) (N := 42) (ci := 2) (k := 10) (ref := "LinkTimesModel") dX4_keeps_72 rfl in_X4 (by decide) q1809 (Or.inl rfl) (fun _ _ _ => rfl),
  k_iconst dX4_keeps_75,
  k_iadd dX4_keeps_76,
  k_putI (C := RX4) (T := TX4) (N := 42) (ci := 2) (k := 10) (ref := "LinkTimesModel") dX4_keeps_77 rfl in_X4 tyX4 tyX4_ok nmX4 (by decide) (Or.inl q1809) (Or.inl rfl) (Or.inl rfl) (tyX4_ok 10 (by decide)) (fun _ _ _ => rfl),
  k_ret dX4_keeps_80, trivial⟩
theorem sndX4_keeps : MSound 2 yX4_keeps (ws_ yX4_keeps cX4_keeps 2 none) mX4_keeps := msound_M (by decide) allX4_keeps (fun _ _ => rfl)
/-! LinkTimesModel.puts(II)I -/
noncomputable def kX4_puts : ZM := ([(0, zi_ld 1 0 1), (1, zi_callV mX4_keeps 18 1 4), (4, zi_ld 1 0 5), (5, zi_getR 18 6 8), (8, zi_ld 0 1 9), (9, zi_ald 1 10), (10, zi_st 0 3 11), (11, zi_ld 1 0 12), (12, zi_getR 18 6 15), (15, zi_ld 0 1 16), (16, zi_ld 0 2 17), (17, zi_ast 18), (18, zi_ld 0 3 19), (19, zi_retv 0)], fun _ _ => none)
noncomputable def mX4_puts : ZF := zrunM kX4_puts 4
theorem enX4_puts (x0 : Option Nat) (x1 : Int) (x2 : Int) (h : PH) : mX4_puts [zvr x0, zvi x1, zvi x2] h = zev kX4_puts 0 [zvr x0, zvi x1, zvi x2, zvu] [] h := zrunM_eq rfl rfl
theorem rX4_puts : (∀ (a : Option Nat) (L st : List ZV) (h : PH), zev kX4_puts 0 (zvr a :: L) st h = zev kX4_puts 1 (zvr a :: L) (zvr a :: st) h) ∧
  (∀ (q : Nat) (L st : List ZV) (h : PH), zev kX4_puts 1 L (zvr (some q) :: st) h = if (ph_K h q).1 % 1000 = 18 ∧ zcat st ≤ 8 then zk kX4_puts 1 4 L st (mX4_keeps [zvr (some q)] h) else none) ∧
  (∀ (a : Option Nat) (L st : List ZV) (h : PH), zev kX4_puts 4 (zvr a :: L) st h = zev kX4_puts 5 (zvr a :: L) (zvr a :: st) h) ∧
  (∀ (q : Nat) (L st : List ZV) (h : PH), zev kX4_puts 5 L (zvr (some q) :: st) h = if (ph_K h q).1 % 1000 = 18 then zev kX4_puts 8 L (zvr (ph_R h q 6) :: st) h else none) ∧
  (∀ (x0 : ZV) (a : Int) (L st : List ZV) (h : PH), zev kX4_puts 8 (x0 :: zvi a :: L) st h = zev kX4_puts 9 (x0 :: zvi a :: L) (zvi a :: st) h) ∧
  (∀ (j : Int) (q : Nat) (L st : List ZV) (h : PH), zev kX4_puts 9 L (zvi j :: zvr (some q) :: st) h = if (ph_K h q).1 % 1000 = 1 ∧ 0 ≤ j ∧ j < (ph_K h q).2 then zev kX4_puts 10 L (zvi (ph_I h q j) :: st) h else none) ∧
  (∀ (x0 x1 x2 x3 : ZV) (a : Int) (L st : List ZV) (h : PH) (hx : zisL x2 = false) , zev kX4_puts 10 (x0 :: x1 :: x2 :: x3 :: L) (zvi a :: st) h = zev kX4_puts 11 (x0 :: x1 :: x2 :: zvi a :: L) st h) ∧
  (∀ (a : Option Nat) (L st : List ZV) (h : PH), zev kX4_puts 11 (zvr a :: L) st h = zev kX4_puts 12 (zvr a :: L) (zvr a :: st) h) ∧
  (∀ (q : Nat) (L st : List ZV) (h : PH), zev kX4_puts 12 L (zvr (some q) :: st) h = if (ph_K h q).1 % 1000 = 18 then zev kX4_puts 15 L (zvr (ph_R h q 6) :: st) h else none) ∧
  (∀ (x0 : ZV) (a : Int) (L st : List ZV) (h : PH), zev kX4_puts 15 (x0 :: zvi a :: L) st h = zev kX4_puts 16 (x0 :: zvi a :: L) (zvi a :: st) h) ∧
  (∀ (x0 x1 : ZV) (a : Int) (L st : List ZV) (h : PH), zev kX4_puts 16 (x0 :: x1 :: zvi a :: L) st h = zev kX4_puts 17 (x0 :: x1 :: zvi a :: L) (zvi a :: st) h) ∧
  (∀ (x j : Int) (q : Nat) (L st : List ZV) (h : PH), zev kX4_puts 17 L (zvi x :: zvi j :: zvr (some q) :: st) h = if (ph_K h q).1 = 1 ∧ 0 ≤ j ∧ j < (ph_K h q).2 then zev kX4_puts 18 L st (st_I h q j x) else none) ∧
  (∀ (x0 x1 x2 : ZV) (a : Int) (L st : List ZV) (h : PH), zev kX4_puts 18 (x0 :: x1 :: x2 :: zvi a :: L) st h = zev kX4_puts 19 (x0 :: x1 :: x2 :: zvi a :: L) (zvi a :: st) h) ∧
  (∀ (a : Int) (L : List ZV) (h : PH), zev kX4_puts 19 L [zvi a] h = zrv (zvi a) h) :=
  ⟨fun a L st h => e_ld0R (n := 1) rfl,
  fun q L st h => e_callV1 (F := mX4_keeps) (kd := 18) (n := 4) rfl,
  fun a L st h => e_ld0R (n := 5) rfl,
  fun q L st h => e_getR (kd := 18) (k := 6) (n := 8) rfl,
  fun x0 a L st h => e_ld1I (n := 9) rfl,
  fun j q L st h => e_ald (kd := 1) (n := 10) rfl,
  fun x0 x1 x2 x3 a L st h hx => e_st3I (n := 11) rfl hx,
  fun a L st h => e_ld0R (n := 12) rfl,
  fun q L st h => e_getR (kd := 18) (k := 6) (n := 15) rfl,
  fun x0 a L st h => e_ld1I (n := 16) rfl,
  fun x0 x1 a L st h => e_ld2I (n := 17) rfl,
  fun x j q L st h => e_ast (n := 18) rfl,
  fun x0 x1 x2 a L st h => e_ld3I (n := 19) rfl,
  fun a L h => e_retI rfl⟩
theorem allX4_puts : zall yX4_puts cX4_puts 4 (some .int) 3 kX4_puts.1 :=
  ⟨k_aload_n dX4_puts_0,
  k_callV (y2 := yX4_keeps) (C := RX4) (T0 := TX4) (ci := 2) dX4_puts_1 sndX4_keeps rfl q2335 q2337 qs125 q137 q2338 (by decide +kernel) ⟨by decide, by decide⟩ (by decide) (by decide),
  k_aload_n dX4_puts_4,
  k_getR (C := RX4) (T := TX4) (N := 42) (ci := 2) (k := 6) (ref := "LinkTimesModel") dX4_puts_5 rfl in_X4 (by decide) q1805 (Or.inl rfl) (fun _ _ _ => rfl),
  k_iload_n dX4_puts_8,
  k_iald dX4_puts_9,
  k_istore_n dX4_puts_10,
  k_aload_n dX4_puts_11,
  k_getR (C := RX4) (T := TX4) (N := 42) (ci := 2) (k := 6) (ref := "LinkTimesModel") dX4_puts_12 rfl in_X4 (by decide) q1805 (Or.inl rfl) (fun _ _ _ => rfl),
  k_iload_n dX4_puts_15,
  k_iload_n dX4_puts_16,
  k_iast dX4_puts_17,
  k_iload_n dX4_puts_18,
  k_iret dX4_puts_19, trivial⟩
theorem sndX4_puts : MSound 3 yX4_puts (ws_ yX4_puts cX4_puts 4 (some .int)) mX4_puts := msound_M (by decide) allX4_puts (fun _ _ => rfl)
/-! LinkTimesModel.cancel(I)I -/
noncomputable def kX4_cancel : ZM := ([(0, zi_ld 1 0 1), (1, zi_ld 1 0 2), (2, zi_ld 0 1 3), (3, zi_callV mX4_isOne 18 2 6), (6, zi_if (fun a => zc_ne a 0) 13 9), (9, zi_push (zvi 1) 10), (10, zi_goto 26), (13, zi_ld 1 0 14), (14, zi_ld 0 1 15), (15, zi_callV mX4_runs 18 2 18), (18, zi_if (fun a => zc_eq a 0) 25 21), (21, zi_push (zvi 0) 22), (22, zi_goto 26), (25, zi_push (zvi 5) 26), (26, zi_callV mX4_isRefused 18 2 29), (29, zi_if (fun a => zc_eq a 0) 34 32), (32, zi_push (zvi (-1)) 33), (33, zi_retv 0), (34, zi_ld 1 0 35), (35, zi_ld 0 1 36), (36, zi_push (zvi 6) 38), (38, zi_callS mX4_at 2 41), (41, zi_push (zvi 0) 42), (42, zi_callV mX4_puts 18 3 45), (45, zi_st 0 2 46), (46, zi_ld 1 0 47), (47, zi_callV mX4_runMany 18 1 50), (50, zi_retv 0)], fun _ _ => none)
noncomputable def mX4_cancel : ZF := zrunM kX4_cancel 3
theorem enX4_cancel (x0 : Option Nat) (x1 : Int) (h : PH) : mX4_cancel [zvr x0, zvi x1] h = zev kX4_cancel 0 [zvr x0, zvi x1, zvu] [] h := zrunM_eq rfl rfl
theorem rX4_cancel : (∀ (a : Option Nat) (L st : List ZV) (h : PH), zev kX4_cancel 0 (zvr a :: L) st h = zev kX4_cancel 1 (zvr a :: L) (zvr a :: st) h) ∧
  (∀ (a : Option Nat) (L st : List ZV) (h : PH), zev kX4_cancel 1 (zvr a :: L) st h = zev kX4_cancel 2 (zvr a :: L) (zvr a :: st) h) ∧
  (∀ (x0 : ZV) (a : Int) (L st : List ZV) (h : PH), zev kX4_cancel 2 (x0 :: zvi a :: L) st h = zev kX4_cancel 3 (x0 :: zvi a :: L) (zvi a :: st) h) ∧
  (∀ (v0 : ZV) (q : Nat) (L st : List ZV) (h : PH), zev kX4_cancel 3 L (v0 :: zvr (some q) :: st) h = if (ph_K h q).1 % 1000 = 18 ∧ zcat st ≤ 8 then zk kX4_cancel 3 6 L st (mX4_isOne [zvr (some q), v0] h) else none) ∧
  (∀ (a : Int) (L st : List ZV) (h : PH), zev kX4_cancel 6 L (zvi a :: st) h = if a ≠ 0 then zev kX4_cancel 13 L st h else zev kX4_cancel 9 L st h) ∧
  (∀ (L st : List ZV) (h : PH), zev kX4_cancel 9 L st h = zev kX4_cancel 10 L (zvi 1 :: st) h) ∧
  (∀ (L st : List ZV) (h : PH), zev kX4_cancel 10 L st h = zev kX4_cancel 26 L st h) ∧
  (∀ (a : Option Nat) (L st : List ZV) (h : PH), zev kX4_cancel 13 (zvr a :: L) st h = zev kX4_cancel 14 (zvr a :: L) (zvr a :: st) h) ∧
  (∀ (x0 : ZV) (a : Int) (L st : List ZV) (h : PH), zev kX4_cancel 14 (x0 :: zvi a :: L) st h = zev kX4_cancel 15 (x0 :: zvi a :: L) (zvi a :: st) h) ∧
  (∀ (v0 : ZV) (q : Nat) (L st : List ZV) (h : PH), zev kX4_cancel 15 L (v0 :: zvr (some q) :: st) h = if (ph_K h q).1 % 1000 = 18 ∧ zcat st ≤ 8 then zk kX4_cancel 15 18 L st (mX4_runs [zvr (some q), v0] h) else none) ∧
  (∀ (a : Int) (L st : List ZV) (h : PH), zev kX4_cancel 18 L (zvi a :: st) h = if a = 0 then zev kX4_cancel 25 L st h else zev kX4_cancel 21 L st h) ∧
  (∀ (L st : List ZV) (h : PH), zev kX4_cancel 21 L st h = zev kX4_cancel 22 L (zvi 0 :: st) h) ∧
  (∀ (L st : List ZV) (h : PH), zev kX4_cancel 22 L st h = zev kX4_cancel 26 L st h) ∧
  (∀ (L st : List ZV) (h : PH), zev kX4_cancel 25 L st h = zev kX4_cancel 26 L (zvi 5 :: st) h) ∧
  (∀ (v0 : ZV) (q : Nat) (L st : List ZV) (h : PH), zev kX4_cancel 26 L (v0 :: zvr (some q) :: st) h = if (ph_K h q).1 % 1000 = 18 ∧ zcat st ≤ 8 then zk kX4_cancel 26 29 L st (mX4_isRefused [zvr (some q), v0] h) else none) ∧
  (∀ (a : Int) (L st : List ZV) (h : PH), zev kX4_cancel 29 L (zvi a :: st) h = if a = 0 then zev kX4_cancel 34 L st h else zev kX4_cancel 32 L st h) ∧
  (∀ (L st : List ZV) (h : PH), zev kX4_cancel 32 L st h = zev kX4_cancel 33 L (zvi (-1) :: st) h) ∧
  (∀ (a : Int) (L : List ZV) (h : PH), zev kX4_cancel 33 L [zvi a] h = zrv (zvi a) h) ∧
  (∀ (a : Option Nat) (L st : List ZV) (h : PH), zev kX4_cancel 34 (zvr a :: L) st h = zev kX4_cancel 35 (zvr a :: L) (zvr a :: st) h) ∧
  (∀ (x0 : ZV) (a : Int) (L st : List ZV) (h : PH), zev kX4_cancel 35 (x0 :: zvi a :: L) st h = zev kX4_cancel 36 (x0 :: zvi a :: L) (zvi a :: st) h) ∧
  (∀ (L st : List ZV) (h : PH), zev kX4_cancel 36 L st h = zev kX4_cancel 38 L (zvi 6 :: st) h) ∧
  (∀ (v0 v1 : ZV) (L st : List ZV) (h : PH), zev kX4_cancel 38 L (v1 :: v0 :: st) h = if zcat st ≤ 8 then zk kX4_cancel 38 41 L st (mX4_at [v0, v1] h) else none) ∧
  (∀ (L st : List ZV) (h : PH), zev kX4_cancel 41 L st h = zev kX4_cancel 42 L (zvi 0 :: st) h) ∧
  (∀ (v0 v1 : ZV) (q : Nat) (L st : List ZV) (h : PH), zev kX4_cancel 42 L (v1 :: v0 :: zvr (some q) :: st) h = if (ph_K h q).1 % 1000 = 18 ∧ zcat st ≤ 8 then zk kX4_cancel 42 45 L st (mX4_puts [zvr (some q), v0, v1] h) else none) ∧
  (∀ (x0 x1 x2 : ZV) (a : Int) (L st : List ZV) (h : PH) (hx : zisL x1 = false) , zev kX4_cancel 45 (x0 :: x1 :: x2 :: L) (zvi a :: st) h = zev kX4_cancel 46 (x0 :: x1 :: zvi a :: L) st h) ∧
  (∀ (a : Option Nat) (L st : List ZV) (h : PH), zev kX4_cancel 46 (zvr a :: L) st h = zev kX4_cancel 47 (zvr a :: L) (zvr a :: st) h) ∧
  (∀ (q : Nat) (L st : List ZV) (h : PH), zev kX4_cancel 47 L (zvr (some q) :: st) h = if (ph_K h q).1 % 1000 = 18 ∧ zcat st ≤ 8 then zk kX4_cancel 47 50 L st (mX4_runMany [zvr (some q)] h) else none) ∧
  (∀ (a : Int) (L : List ZV) (h : PH), zev kX4_cancel 50 L [zvi a] h = zrv (zvi a) h) :=
  ⟨fun a L st h => e_ld0R (n := 1) rfl,
  fun a L st h => e_ld0R (n := 2) rfl,
  fun x0 a L st h => e_ld1I (n := 3) rfl,
  fun v0 q L st h => e_callV2 (F := mX4_isOne) (kd := 18) (n := 6) rfl,
  fun a L st h => e_ifne (t := 13) (n := 9) rfl,
  fun L st h => e_push (v := zvi 1) (n := 10) rfl,
  fun L st h => e_goto (t := 26) rfl,
  fun a L st h => e_ld0R (n := 14) rfl,
  fun x0 a L st h => e_ld1I (n := 15) rfl,
  fun v0 q L st h => e_callV2 (F := mX4_runs) (kd := 18) (n := 18) rfl,
  fun a L st h => e_ifeq (t := 25) (n := 21) rfl,
  fun L st h => e_push (v := zvi 0) (n := 22) rfl,
  fun L st h => e_goto (t := 26) rfl,
  fun L st h => e_push (v := zvi 5) (n := 26) rfl,
  fun v0 q L st h => e_callV2 (F := mX4_isRefused) (kd := 18) (n := 29) rfl,
  fun a L st h => e_ifeq (t := 34) (n := 32) rfl,
  fun L st h => e_push (v := zvi (-1)) (n := 33) rfl,
  fun a L h => e_retI rfl,
  fun a L st h => e_ld0R (n := 35) rfl,
  fun x0 a L st h => e_ld1I (n := 36) rfl,
  fun L st h => e_push (v := zvi 6) (n := 38) rfl,
  fun v0 v1 L st h => e_callS2 (F := mX4_at) (n := 41) rfl,
  fun L st h => e_push (v := zvi 0) (n := 42) rfl,
  fun v0 v1 q L st h => e_callV3 (F := mX4_puts) (kd := 18) (n := 45) rfl,
  fun x0 x1 x2 a L st h hx => e_st2I (n := 46) rfl hx,
  fun a L st h => e_ld0R (n := 47) rfl,
  fun q L st h => e_callV1 (F := mX4_runMany) (kd := 18) (n := 50) rfl,
  fun a L h => e_retI rfl⟩
theorem allX4_cancel : zall yX4_cancel cX4_cancel 3 (some .int) 4 kX4_cancel.1 :=
  ⟨k_aload_n dX4_cancel_0,
  k_aload_n dX4_cancel_1,
  k_iload_n dX4_cancel_2,
  k_callV (y2 := yX4_isOne) (C := RX4) (T0 := TX4) (ci := 2) dX4_cancel_3 sndX4_isOne rfl q2096 q2098 qs95 q137 q2099 (by decide +kernel) ⟨by decide, by decide⟩ (by decide) (by decide),
  k_ifne (t := 13) dX4_cancel_6 (by decide),
  k_iconst dX4_cancel_9,
  k_goto (t := 26) dX4_cancel_10 (by decide),
  k_aload_n dX4_cancel_13,
  k_iload_n dX4_cancel_14,
  k_callV (y2 := yX4_runs) (C := RX4) (T0 := TX4) (ci := 2) dX4_cancel_15 sndX4_runs rfl q2076 q2078 qs92 q137 q2079 (by decide +kernel) ⟨by decide, by decide⟩ (by decide) (by decide),
  k_ifeq (t := 25) dX4_cancel_18 (by decide),
  k_iconst dX4_cancel_21,
  k_goto (t := 26) dX4_cancel_22 (by decide),
  k_iconst dX4_cancel_25,
  k_callV (y2 := yX4_isRefused) (C := RX4) (T0 := TX4) (ci := 2) dX4_cancel_26 sndX4_isRefused rfl q1946 q1948 qs70 q137 q1949 (by decide +kernel) ⟨by decide, by decide⟩ (by decide) (by decide),
  k_ifeq (t := 34) dX4_cancel_29 (by decide),
  k_iconst dX4_cancel_32,
  k_iret dX4_cancel_33,
  k_aload_n dX4_cancel_34,
  k_iload_n dX4_cancel_35,
  k_bipush dX4_cancel_36,
  k_callS (y2 := yX4_at) dX4_cancel_38 sndX4_at q2047 q2048 q137 q2049 (by decide +kernel) ⟨by decide, by decide⟩ (by decide) (by decide),
  k_iconst dX4_cancel_41,
  k_callV (y2 := yX4_puts) (C := RX4) (T0 := TX4) (ci := 2) dX4_cancel_42 sndX4_puts rfl q2331 q2333 qs124 q137 q2334 (by decide +kernel) ⟨by decide, by decide⟩ (by decide) (by decide),
  k_istore_n dX4_cancel_45,
  k_aload_n dX4_cancel_46,
  k_callV (y2 := yX4_runMany) (C := RX4) (T0 := TX4) (ci := 2) dX4_cancel_47 sndX4_runMany rfl q2072 q2074 qs91 q137 q2075 (by decide +kernel) ⟨by decide, by decide⟩ (by decide) (by decide),
  k_iret dX4_cancel_50, trivial⟩
theorem sndX4_cancel : MSound 4 yX4_cancel (ws_ yX4_cancel cX4_cancel 3 (some .int)) mX4_cancel := msound_M (by decide) allX4_cancel (fun _ _ => rfl)
/-! LinkTimesModel.run(I)I -/
noncomputable def kX4_run : ZM := ([(0, zi_ld 1 0 1), (1, zi_ld 1 0 2), (2, zi_ld 0 1 3), (3, zi_callV mX4_isOne 18 2 6), (6, zi_if (fun a => zc_ne a 0) 13 9), (9, zi_push (zvi 1) 10), (10, zi_goto 26), (13, zi_ld 1 0 14), (14, zi_ld 0 1 15), (15, zi_callV mX4_runs 18 2 18), (18, zi_if (fun a => zc_eq a 0) 25 21), (21, zi_push (zvi 5) 22), (22, zi_goto 26), (25, zi_push (zvi 0) 26), (26, zi_callV mX4_isRefused 18 2 29), (29, zi_if (fun a => zc_eq a 0) 34 32), (32, zi_push (zvi (-1)) 33), (33, zi_retv 0), (34, zi_ld 1 0 35), (35, zi_ld 0 1 36), (36, zi_push (zvi 6) 38), (38, zi_callS mX4_at 2 41), (41, zi_push (zvi 1) 42), (42, zi_callV mX4_puts 18 3 45), (45, zi_st 0 2 46), (46, zi_ld 1 0 47), (47, zi_callV mX4_runMany 18 1 50), (50, zi_retv 0)], fun _ _ => none)
noncomputable def mX4_run : ZF := zrunM kX4_run 3
theorem enX4_run (x0 : Option Nat) (x1 : Int) (h : PH) : mX4_run [zvr x0, zvi x1] h = zev kX4_run 0 [zvr x0, zvi x1, zvu] [] h := zrunM_eq rfl rfl
theorem rX4_run : (∀ (a : Option Nat) (L st : List ZV) (h : PH), zev kX4_run 0 (zvr a :: L) st h = zev kX4_run 1 (zvr a :: L) (zvr a :: st) h) ∧
  (∀ (a : Option Nat) (L st : List ZV) (h : PH), zev kX4_run 1 (zvr a :: L) st h = zev kX4_run 2 (zvr a :: L) (zvr a :: st) h) ∧
  (∀ (x0 : ZV) (a : Int) (L st : List ZV) (h : PH), zev kX4_run 2 (x0 :: zvi a :: L) st h = zev kX4_run 3 (x0 :: zvi a :: L) (zvi a :: st) h) ∧
  (∀ (v0 : ZV) (q : Nat) (L st : List ZV) (h : PH), zev kX4_run 3 L (v0 :: zvr (some q) :: st) h = if (ph_K h q).1 % 1000 = 18 ∧ zcat st ≤ 8 then zk kX4_run 3 6 L st (mX4_isOne [zvr (some q), v0] h) else none) ∧
  (∀ (a : Int) (L st : List ZV) (h : PH), zev kX4_run 6 L (zvi a :: st) h = if a ≠ 0 then zev kX4_run 13 L st h else zev kX4_run 9 L st h) ∧
  (∀ (L st : List ZV) (h : PH), zev kX4_run 9 L st h = zev kX4_run 10 L (zvi 1 :: st) h) ∧
  (∀ (L st : List ZV) (h : PH), zev kX4_run 10 L st h = zev kX4_run 26 L st h) ∧
  (∀ (a : Option Nat) (L st : List ZV) (h : PH), zev kX4_run 13 (zvr a :: L) st h = zev kX4_run 14 (zvr a :: L) (zvr a :: st) h) ∧
  (∀ (x0 : ZV) (a : Int) (L st : List ZV) (h : PH), zev kX4_run 14 (x0 :: zvi a :: L) st h = zev kX4_run 15 (x0 :: zvi a :: L) (zvi a :: st) h) ∧
  (∀ (v0 : ZV) (q : Nat) (L st : List ZV) (h : PH), zev kX4_run 15 L (v0 :: zvr (some q) :: st) h = if (ph_K h q).1 % 1000 = 18 ∧ zcat st ≤ 8 then zk kX4_run 15 18 L st (mX4_runs [zvr (some q), v0] h) else none) ∧
  (∀ (a : Int) (L st : List ZV) (h : PH), zev kX4_run 18 L (zvi a :: st) h = if a = 0 then zev kX4_run 25 L st h else zev kX4_run 21 L st h) ∧
  (∀ (L st : List ZV) (h : PH), zev kX4_run 21 L st h = zev kX4_run 22 L (zvi 5 :: st) h) ∧
  (∀ (L st : List ZV) (h : PH), zev kX4_run 22 L st h = zev kX4_run 26 L st h) ∧
  (∀ (L st : List ZV) (h : PH), zev kX4_run 25 L st h = zev kX4_run 26 L (zvi 0 :: st) h) ∧
  (∀ (v0 : ZV) (q : Nat) (L st : List ZV) (h : PH), zev kX4_run 26 L (v0 :: zvr (some q) :: st) h = if (ph_K h q).1 % 1000 = 18 ∧ zcat st ≤ 8 then zk kX4_run 26 29 L st (mX4_isRefused [zvr (some q), v0] h) else none) ∧
  (∀ (a : Int) (L st : List ZV) (h : PH), zev kX4_run 29 L (zvi a :: st) h = if a = 0 then zev kX4_run 34 L st h else zev kX4_run 32 L st h) ∧
  (∀ (L st : List ZV) (h : PH), zev kX4_run 32 L st h = zev kX4_run 33 L (zvi (-1) :: st) h) ∧
  (∀ (a : Int) (L : List ZV) (h : PH), zev kX4_run 33 L [zvi a] h = zrv (zvi a) h) ∧
  (∀ (a : Option Nat) (L st : List ZV) (h : PH), zev kX4_run 34 (zvr a :: L) st h = zev kX4_run 35 (zvr a :: L) (zvr a :: st) h) ∧
  (∀ (x0 : ZV) (a : Int) (L st : List ZV) (h : PH), zev kX4_run 35 (x0 :: zvi a :: L) st h = zev kX4_run 36 (x0 :: zvi a :: L) (zvi a :: st) h) ∧
  (∀ (L st : List ZV) (h : PH), zev kX4_run 36 L st h = zev kX4_run 38 L (zvi 6 :: st) h) ∧
  (∀ (v0 v1 : ZV) (L st : List ZV) (h : PH), zev kX4_run 38 L (v1 :: v0 :: st) h = if zcat st ≤ 8 then zk kX4_run 38 41 L st (mX4_at [v0, v1] h) else none) ∧
  (∀ (L st : List ZV) (h : PH), zev kX4_run 41 L st h = zev kX4_run 42 L (zvi 1 :: st) h) ∧
  (∀ (v0 v1 : ZV) (q : Nat) (L st : List ZV) (h : PH), zev kX4_run 42 L (v1 :: v0 :: zvr (some q) :: st) h = if (ph_K h q).1 % 1000 = 18 ∧ zcat st ≤ 8 then zk kX4_run 42 45 L st (mX4_puts [zvr (some q), v0, v1] h) else none) ∧
  (∀ (x0 x1 x2 : ZV) (a : Int) (L st : List ZV) (h : PH) (hx : zisL x1 = false) , zev kX4_run 45 (x0 :: x1 :: x2 :: L) (zvi a :: st) h = zev kX4_run 46 (x0 :: x1 :: zvi a :: L) st h) ∧
  (∀ (a : Option Nat) (L st : List ZV) (h : PH), zev kX4_run 46 (zvr a :: L) st h = zev kX4_run 47 (zvr a :: L) (zvr a :: st) h) ∧
  (∀ (q : Nat) (L st : List ZV) (h : PH), zev kX4_run 47 L (zvr (some q) :: st) h = if (ph_K h q).1 % 1000 = 18 ∧ zcat st ≤ 8 then zk kX4_run 47 50 L st (mX4_runMany [zvr (some q)] h) else none) ∧
  (∀ (a : Int) (L : List ZV) (h : PH), zev kX4_run 50 L [zvi a] h = zrv (zvi a) h) :=
  ⟨fun a L st h => e_ld0R (n := 1) rfl,
  fun a L st h => e_ld0R (n := 2) rfl,
  fun x0 a L st h => e_ld1I (n := 3) rfl,
  fun v0 q L st h => e_callV2 (F := mX4_isOne) (kd := 18) (n := 6) rfl,
  fun a L st h => e_ifne (t := 13) (n := 9) rfl,
  fun L st h => e_push (v := zvi 1) (n := 10) rfl,
  fun L st h => e_goto (t := 26) rfl,
  fun a L st h => e_ld0R (n := 14) rfl,
  fun x0 a L st h => e_ld1I (n := 15) rfl,
  fun v0 q L st h => e_callV2 (F := mX4_runs) (kd := 18) (n := 18) rfl,
  fun a L st h => e_ifeq (t := 25) (n := 21) rfl,
  fun L st h => e_push (v := zvi 5) (n := 22) rfl,
  fun L st h => e_goto (t := 26) rfl,
  fun L st h => e_push (v := zvi 0) (n := 26) rfl,
  fun v0 q L st h => e_callV2 (F := mX4_isRefused) (kd := 18) (n := 29) rfl,
  fun a L st h => e_ifeq (t := 34) (n := 32) rfl,
  fun L st h => e_push (v := zvi (-1)) (n := 33) rfl,
  fun a L h => e_retI rfl,
  fun a L st h => e_ld0R (n := 35) rfl,
  fun x0 a L st h => e_ld1I (n := 36) rfl,
  fun L st h => e_push (v := zvi 6) (n := 38) rfl,
  fun v0 v1 L st h => e_callS2 (F := mX4_at) (n := 41) rfl,
  fun L st h => e_push (v := zvi 1) (n := 42) rfl,
  fun v0 v1 q L st h => e_callV3 (F := mX4_puts) (kd := 18) (n := 45) rfl,
  fun x0 x1 x2 a L st h hx => e_st2I (n := 46) rfl hx,
  fun a L st h => e_ld0R (n := 47) rfl,
  fun q L st h => e_callV1 (F := mX4_runMany) (kd := 18) (n := 50) rfl,
  fun a L h => e_retI rfl⟩
theorem allX4_run : zall yX4_run cX4_run 3 (some .int) 4 kX4_run.1 :=
  ⟨k_aload_n dX4_run_0,
  k_aload_n dX4_run_1,
  k_iload_n dX4_run_2,
  k_callV (y2 := yX4_isOne) (C := RX4) (T0 := TX4) (ci := 2) dX4_run_3 sndX4_isOne rfl q2096 q2098 qs95 q137 q2099 (by decide +kernel) ⟨by decide, by decide⟩ (by decide) (by decide),
  k_ifne (t := 13) dX4_run_6 (by decide),
  k_iconst dX4_run_9,
  k_goto (t := 26) dX4_run_10 (by decide),
  k_aload_n dX4_run_13,
  k_iload_n dX4_run_14,
  k_callV (y2 := yX4_runs) (C := RX4) (T0 := TX4) (ci := 2) dX4_run_15 sndX4_runs rfl q2076 q2078 qs92 q137 q2079 (by decide +kernel) ⟨by decide, by decide⟩ (by decide) (by decide),
  k_ifeq (t := 25) dX4_run_18 (by decide),
  k_iconst dX4_run_21,
  k_goto (t := 26) dX4_run_22 (by decide),
  k_iconst dX4_run_25,
  k_callV (y2 := yX4_isRefused) (C := RX4) (T0 := TX4) (ci := 2) dX4_run_26 sndX4_isRefused rfl q1946 q1948 qs70 q137 q1949 (by decide +kernel) ⟨by decide, by decide⟩ (by decide) (by decide),
  k_ifeq (t := 34) dX4_run_29 (by decide),
  k_iconst dX4_run_32,
  k_iret dX4_run_33,
  k_aload_n dX4_run_34,
  k_iload_n dX4_run_35,
  k_bipush dX4_run_36,
  k_callS (y2 := yX4_at) dX4_run_38 sndX4_at q2047 q2048 q137 q2049 (by decide +kernel) ⟨by decide, by decide⟩ (by decide) (by decide),
  k_iconst dX4_run_41,
  k_callV (y2 := yX4_puts) (C := RX4) (T0 := TX4) (ci := 2) dX4_run_42 sndX4_puts rfl q2331 q2333 qs124 q137 q2334 (by decide +kernel) ⟨by decide, by decide⟩ (by decide) (by decide),
  k_istore_n dX4_run_45,
  k_aload_n dX4_run_46,
  k_callV (y2 := yX4_runMany) (C := RX4) (T0 := TX4) (ci := 2) dX4_run_47 sndX4_runMany rfl q2072 q2074 qs91 q137 q2075 (by decide +kernel) ⟨by decide, by decide⟩ (by decide) (by decide),
  k_iret dX4_run_50, trivial⟩
theorem sndX4_run : MSound 4 yX4_run (ws_ yX4_run cX4_run 3 (some .int)) mX4_run := msound_M (by decide) allX4_run (fun _ _ => rfl)
/-! LinkTimesModel.delay(II)I -/
noncomputable def kX4_delay : ZM := ([(0, zi_ld 1 0 1), (1, zi_ld 1 0 2), (2, zi_ld 0 1 3), (3, zi_callV mX4_isOne 18 2 6), (6, zi_ld 0 2 7), (7, zi_push (zvi 0) 8), (8, zi_push (zvi 99) 10), (10, zi_callS mX4_in 3 13), (13, zi_callS mX4_unless_2 2 16), (16, zi_callV mX4_isRefused 18 2 19), (19, zi_if (fun a => zc_eq a 0) 26 22), (22, zi_push (zvi (-1)) 23), (23, zi_goto 36), (26, zi_ld 1 0 27), (27, zi_ld 0 1 28), (28, zi_push (zvi 5) 29), (29, zi_callS mX4_at 2 32), (32, zi_ld 0 2 33), (33, zi_callV mX4_puts 18 3 36), (36, zi_retv 0)], fun _ _ => none)
noncomputable def mX4_delay : ZF := zrunM kX4_delay 3
theorem enX4_delay (x0 : Option Nat) (x1 : Int) (x2 : Int) (h : PH) : mX4_delay [zvr x0, zvi x1, zvi x2] h = zev kX4_delay 0 [zvr x0, zvi x1, zvi x2] [] h := zrunM_eq rfl rfl
theorem rX4_delay : (∀ (a : Option Nat) (L st : List ZV) (h : PH), zev kX4_delay 0 (zvr a :: L) st h = zev kX4_delay 1 (zvr a :: L) (zvr a :: st) h) ∧
  (∀ (a : Option Nat) (L st : List ZV) (h : PH), zev kX4_delay 1 (zvr a :: L) st h = zev kX4_delay 2 (zvr a :: L) (zvr a :: st) h) ∧
  (∀ (x0 : ZV) (a : Int) (L st : List ZV) (h : PH), zev kX4_delay 2 (x0 :: zvi a :: L) st h = zev kX4_delay 3 (x0 :: zvi a :: L) (zvi a :: st) h) ∧
  (∀ (v0 : ZV) (q : Nat) (L st : List ZV) (h : PH), zev kX4_delay 3 L (v0 :: zvr (some q) :: st) h = if (ph_K h q).1 % 1000 = 18 ∧ zcat st ≤ 8 then zk kX4_delay 3 6 L st (mX4_isOne [zvr (some q), v0] h) else none) ∧
  (∀ (x0 x1 : ZV) (a : Int) (L st : List ZV) (h : PH), zev kX4_delay 6 (x0 :: x1 :: zvi a :: L) st h = zev kX4_delay 7 (x0 :: x1 :: zvi a :: L) (zvi a :: st) h) ∧
  (∀ (L st : List ZV) (h : PH), zev kX4_delay 7 L st h = zev kX4_delay 8 L (zvi 0 :: st) h) ∧
  (∀ (L st : List ZV) (h : PH), zev kX4_delay 8 L st h = zev kX4_delay 10 L (zvi 99 :: st) h) ∧
  (∀ (v0 v1 v2 : ZV) (L st : List ZV) (h : PH), zev kX4_delay 10 L (v2 :: v1 :: v0 :: st) h = if zcat st ≤ 8 then zk kX4_delay 10 13 L st (mX4_in [v0, v1, v2] h) else none) ∧
  (∀ (v0 v1 : ZV) (L st : List ZV) (h : PH), zev kX4_delay 13 L (v1 :: v0 :: st) h = if zcat st ≤ 8 then zk kX4_delay 13 16 L st (mX4_unless_2 [v0, v1] h) else none) ∧
  (∀ (v0 : ZV) (q : Nat) (L st : List ZV) (h : PH), zev kX4_delay 16 L (v0 :: zvr (some q) :: st) h = if (ph_K h q).1 % 1000 = 18 ∧ zcat st ≤ 8 then zk kX4_delay 16 19 L st (mX4_isRefused [zvr (some q), v0] h) else none) ∧
  (∀ (a : Int) (L st : List ZV) (h : PH), zev kX4_delay 19 L (zvi a :: st) h = if a = 0 then zev kX4_delay 26 L st h else zev kX4_delay 22 L st h) ∧
  (∀ (L st : List ZV) (h : PH), zev kX4_delay 22 L st h = zev kX4_delay 23 L (zvi (-1) :: st) h) ∧
  (∀ (L st : List ZV) (h : PH), zev kX4_delay 23 L st h = zev kX4_delay 36 L st h) ∧
  (∀ (a : Option Nat) (L st : List ZV) (h : PH), zev kX4_delay 26 (zvr a :: L) st h = zev kX4_delay 27 (zvr a :: L) (zvr a :: st) h) ∧
  (∀ (x0 : ZV) (a : Int) (L st : List ZV) (h : PH), zev kX4_delay 27 (x0 :: zvi a :: L) st h = zev kX4_delay 28 (x0 :: zvi a :: L) (zvi a :: st) h) ∧
  (∀ (L st : List ZV) (h : PH), zev kX4_delay 28 L st h = zev kX4_delay 29 L (zvi 5 :: st) h) ∧
  (∀ (v0 v1 : ZV) (L st : List ZV) (h : PH), zev kX4_delay 29 L (v1 :: v0 :: st) h = if zcat st ≤ 8 then zk kX4_delay 29 32 L st (mX4_at [v0, v1] h) else none) ∧
  (∀ (x0 x1 : ZV) (a : Int) (L st : List ZV) (h : PH), zev kX4_delay 32 (x0 :: x1 :: zvi a :: L) st h = zev kX4_delay 33 (x0 :: x1 :: zvi a :: L) (zvi a :: st) h) ∧
  (∀ (v0 v1 : ZV) (q : Nat) (L st : List ZV) (h : PH), zev kX4_delay 33 L (v1 :: v0 :: zvr (some q) :: st) h = if (ph_K h q).1 % 1000 = 18 ∧ zcat st ≤ 8 then zk kX4_delay 33 36 L st (mX4_puts [zvr (some q), v0, v1] h) else none) ∧
  (∀ (a : Int) (L : List ZV) (h : PH), zev kX4_delay 36 L [zvi a] h = zrv (zvi a) h) :=
  ⟨fun a L st h => e_ld0R (n := 1) rfl,
  fun a L st h => e_ld0R (n := 2) rfl,
  fun x0 a L st h => e_ld1I (n := 3) rfl,
  fun v0 q L st h => e_callV2 (F := mX4_isOne) (kd := 18) (n := 6) rfl,
  fun x0 x1 a L st h => e_ld2I (n := 7) rfl,
  fun L st h => e_push (v := zvi 0) (n := 8) rfl,
  fun L st h => e_push (v := zvi 99) (n := 10) rfl,
  fun v0 v1 v2 L st h => e_callS3 (F := mX4_in) (n := 13) rfl,
  fun v0 v1 L st h => e_callS2 (F := mX4_unless_2) (n := 16) rfl,
  fun v0 q L st h => e_callV2 (F := mX4_isRefused) (kd := 18) (n := 19) rfl,
  fun a L st h => e_ifeq (t := 26) (n := 22) rfl,
  fun L st h => e_push (v := zvi (-1)) (n := 23) rfl,
  fun L st h => e_goto (t := 36) rfl,
  fun a L st h => e_ld0R (n := 27) rfl,
  fun x0 a L st h => e_ld1I (n := 28) rfl,
  fun L st h => e_push (v := zvi 5) (n := 29) rfl,
  fun v0 v1 L st h => e_callS2 (F := mX4_at) (n := 32) rfl,
  fun x0 x1 a L st h => e_ld2I (n := 33) rfl,
  fun v0 v1 q L st h => e_callV3 (F := mX4_puts) (kd := 18) (n := 36) rfl,
  fun a L h => e_retI rfl⟩
theorem allX4_delay : zall yX4_delay cX4_delay 3 (some .int) 4 kX4_delay.1 :=
  ⟨k_aload_n dX4_delay_0,
  k_aload_n dX4_delay_1,
  k_iload_n dX4_delay_2,
  k_callV (y2 := yX4_isOne) (C := RX4) (T0 := TX4) (ci := 2) dX4_delay_3 sndX4_isOne rfl q2096 q2098 qs95 q137 q2099 (by decide +kernel) ⟨by decide, by decide⟩ (by decide) (by decide),
  k_iload_n dX4_delay_6,
  k_iconst dX4_delay_7,
  k_bipush dX4_delay_8,
  k_callS (y2 := yX4_in) dX4_delay_10 sndX4_in q1943 q1944 q137 q1945 (by decide +kernel) ⟨by decide, by decide⟩ (by decide) (by decide),
  k_callS (y2 := yX4_unless_2) dX4_delay_13 sndX4_unless_2 q2120 q2121 q137 q2122 (by decide +kernel) ⟨by decide, by decide⟩ (by decide) (by decide),
  k_callV (y2 := yX4_isRefused) (C := RX4) (T0 := TX4) (ci := 2) dX4_delay_16 sndX4_isRefused rfl q1946 q1948 qs70 q137 q1949 (by decide +kernel) ⟨by decide, by decide⟩ (by decide) (by decide),
  k_ifeq (t := 26) dX4_delay_19 (by decide),
  k_iconst dX4_delay_22,
  k_goto (t := 36) dX4_delay_23 (by decide),
  k_aload_n dX4_delay_26,
  k_iload_n dX4_delay_27,
  k_iconst dX4_delay_28,
  k_callS (y2 := yX4_at) dX4_delay_29 sndX4_at q2047 q2048 q137 q2049 (by decide +kernel) ⟨by decide, by decide⟩ (by decide) (by decide),
  k_iload_n dX4_delay_32,
  k_callV (y2 := yX4_puts) (C := RX4) (T0 := TX4) (ci := 2) dX4_delay_33 sndX4_puts rfl q2331 q2333 qs124 q137 q2334 (by decide +kernel) ⟨by decide, by decide⟩ (by decide) (by decide),
  k_iret dX4_delay_36, trivial⟩
theorem sndX4_delay : MSound 4 yX4_delay (ws_ yX4_delay cX4_delay 3 (some .int)) mX4_delay := msound_M (by decide) allX4_delay (fun _ _ => rfl)
/-! LinkTimesModel.change(II)I -/
noncomputable def kX4_change : ZM := ([(0, zi_ld 1 0 1), (1, zi_ld 1 0 2), (2, zi_ld 0 1 3), (3, zi_callV mX4_isSpot 18 2 6), (6, zi_ld 0 2 7), (7, zi_push (zvi 0) 8), (8, zi_push (zvi 99) 10), (10, zi_callS mX4_in 3 13), (13, zi_callS mX4_unless_2 2 16), (16, zi_callV mX4_isRefused 18 2 19), (19, zi_if (fun a => zc_eq a 0) 26 22), (22, zi_push (zvi (-1)) 23), (23, zi_goto 34), (26, zi_ld 1 0 27), (27, zi_push (zvi 5) 28), (28, zi_ld 0 1 29), (29, zi_bin (fun a b => w32 (a + b)) 30), (30, zi_ld 0 2 31), (31, zi_callV mX4_puts 18 3 34), (34, zi_retv 0)], fun _ _ => none)
noncomputable def mX4_change : ZF := zrunM kX4_change 3
theorem enX4_change (x0 : Option Nat) (x1 : Int) (x2 : Int) (h : PH) : mX4_change [zvr x0, zvi x1, zvi x2] h = zev kX4_change 0 [zvr x0, zvi x1, zvi x2] [] h := zrunM_eq rfl rfl
theorem rX4_change : (∀ (a : Option Nat) (L st : List ZV) (h : PH), zev kX4_change 0 (zvr a :: L) st h = zev kX4_change 1 (zvr a :: L) (zvr a :: st) h) ∧
  (∀ (a : Option Nat) (L st : List ZV) (h : PH), zev kX4_change 1 (zvr a :: L) st h = zev kX4_change 2 (zvr a :: L) (zvr a :: st) h) ∧
  (∀ (x0 : ZV) (a : Int) (L st : List ZV) (h : PH), zev kX4_change 2 (x0 :: zvi a :: L) st h = zev kX4_change 3 (x0 :: zvi a :: L) (zvi a :: st) h) ∧
  (∀ (v0 : ZV) (q : Nat) (L st : List ZV) (h : PH), zev kX4_change 3 L (v0 :: zvr (some q) :: st) h = if (ph_K h q).1 % 1000 = 18 ∧ zcat st ≤ 8 then zk kX4_change 3 6 L st (mX4_isSpot [zvr (some q), v0] h) else none) ∧
  (∀ (x0 x1 : ZV) (a : Int) (L st : List ZV) (h : PH), zev kX4_change 6 (x0 :: x1 :: zvi a :: L) st h = zev kX4_change 7 (x0 :: x1 :: zvi a :: L) (zvi a :: st) h) ∧
  (∀ (L st : List ZV) (h : PH), zev kX4_change 7 L st h = zev kX4_change 8 L (zvi 0 :: st) h) ∧
  (∀ (L st : List ZV) (h : PH), zev kX4_change 8 L st h = zev kX4_change 10 L (zvi 99 :: st) h) ∧
  (∀ (v0 v1 v2 : ZV) (L st : List ZV) (h : PH), zev kX4_change 10 L (v2 :: v1 :: v0 :: st) h = if zcat st ≤ 8 then zk kX4_change 10 13 L st (mX4_in [v0, v1, v2] h) else none) ∧
  (∀ (v0 v1 : ZV) (L st : List ZV) (h : PH), zev kX4_change 13 L (v1 :: v0 :: st) h = if zcat st ≤ 8 then zk kX4_change 13 16 L st (mX4_unless_2 [v0, v1] h) else none) ∧
  (∀ (v0 : ZV) (q : Nat) (L st : List ZV) (h : PH), zev kX4_change 16 L (v0 :: zvr (some q) :: st) h = if (ph_K h q).1 % 1000 = 18 ∧ zcat st ≤ 8 then zk kX4_change 16 19 L st (mX4_isRefused [zvr (some q), v0] h) else none) ∧
  (∀ (a : Int) (L st : List ZV) (h : PH), zev kX4_change 19 L (zvi a :: st) h = if a = 0 then zev kX4_change 26 L st h else zev kX4_change 22 L st h) ∧
  (∀ (L st : List ZV) (h : PH), zev kX4_change 22 L st h = zev kX4_change 23 L (zvi (-1) :: st) h) ∧
  (∀ (L st : List ZV) (h : PH), zev kX4_change 23 L st h = zev kX4_change 34 L st h) ∧
  (∀ (a : Option Nat) (L st : List ZV) (h : PH), zev kX4_change 26 (zvr a :: L) st h = zev kX4_change 27 (zvr a :: L) (zvr a :: st) h) ∧
  (∀ (L st : List ZV) (h : PH), zev kX4_change 27 L st h = zev kX4_change 28 L (zvi 5 :: st) h) ∧
  (∀ (x0 : ZV) (a : Int) (L st : List ZV) (h : PH), zev kX4_change 28 (x0 :: zvi a :: L) st h = zev kX4_change 29 (x0 :: zvi a :: L) (zvi a :: st) h) ∧
  (∀ (a b : Int) (L st : List ZV) (h : PH), zev kX4_change 29 L (zvi b :: zvi a :: st) h = zev kX4_change 30 L (zvi (w32 (a + b)) :: st) h) ∧
  (∀ (x0 x1 : ZV) (a : Int) (L st : List ZV) (h : PH), zev kX4_change 30 (x0 :: x1 :: zvi a :: L) st h = zev kX4_change 31 (x0 :: x1 :: zvi a :: L) (zvi a :: st) h) ∧
  (∀ (v0 v1 : ZV) (q : Nat) (L st : List ZV) (h : PH), zev kX4_change 31 L (v1 :: v0 :: zvr (some q) :: st) h = if (ph_K h q).1 % 1000 = 18 ∧ zcat st ≤ 8 then zk kX4_change 31 34 L st (mX4_puts [zvr (some q), v0, v1] h) else none) ∧
  (∀ (a : Int) (L : List ZV) (h : PH), zev kX4_change 34 L [zvi a] h = zrv (zvi a) h) :=
  ⟨fun a L st h => e_ld0R (n := 1) rfl,
  fun a L st h => e_ld0R (n := 2) rfl,
  fun x0 a L st h => e_ld1I (n := 3) rfl,
  fun v0 q L st h => e_callV2 (F := mX4_isSpot) (kd := 18) (n := 6) rfl,
  fun x0 x1 a L st h => e_ld2I (n := 7) rfl,
  fun L st h => e_push (v := zvi 0) (n := 8) rfl,
  fun L st h => e_push (v := zvi 99) (n := 10) rfl,
  fun v0 v1 v2 L st h => e_callS3 (F := mX4_in) (n := 13) rfl,
  fun v0 v1 L st h => e_callS2 (F := mX4_unless_2) (n := 16) rfl,
  fun v0 q L st h => e_callV2 (F := mX4_isRefused) (kd := 18) (n := 19) rfl,
  fun a L st h => e_ifeq (t := 26) (n := 22) rfl,
  fun L st h => e_push (v := zvi (-1)) (n := 23) rfl,
  fun L st h => e_goto (t := 34) rfl,
  fun a L st h => e_ld0R (n := 27) rfl,
  fun L st h => e_push (v := zvi 5) (n := 28) rfl,
  fun x0 a L st h => e_ld1I (n := 29) rfl,
  fun a b L st h => e_bin (f := (fun a b => w32 (a + b))) (n := 30) rfl,
  fun x0 x1 a L st h => e_ld2I (n := 31) rfl,
  fun v0 v1 q L st h => e_callV3 (F := mX4_puts) (kd := 18) (n := 34) rfl,
  fun a L h => e_retI rfl⟩
theorem allX4_change : zall yX4_change cX4_change 3 (some .int) 4 kX4_change.1 :=
  ⟨k_aload_n dX4_change_0,
  k_aload_n dX4_change_1,
  k_iload_n dX4_change_2,
  k_callV (y2 := yX4_isSpot) (C := RX4) (T0 := TX4) (ci := 2) dX4_change_3 sndX4_isSpot rfl q2084 q2086 qs93 q137 q2087 (by decide +kernel) ⟨by decide, by decide⟩ (by decide) (by decide),
  k_iload_n dX4_change_6,
  k_iconst dX4_change_7,
  k_bipush dX4_change_8,
  k_callS (y2 := yX4_in) dX4_change_10 sndX4_in q1943 q1944 q137 q1945 (by decide +kernel) ⟨by decide, by decide⟩ (by decide) (by decide),
  k_callS (y2 := yX4_unless_2) dX4_change_13 sndX4_unless_2 q2120 q2121 q137 q2122 (by decide +kernel) ⟨by decide, by decide⟩ (by decide) (by decide),
  k_callV (y2 := yX4_isRefused) (C := RX4) (T0 := TX4) (ci := 2) dX4_change_16 sndX4_isRefused rfl q1946 q1948 qs70 q137 q1949 (by decide +kernel) ⟨by decide, by decide⟩ (by decide) (by decide),
  k_ifeq (t := 26) dX4_change_19 (by decide),
  k_iconst dX4_change_22,
  k_goto (t := 34) dX4_change_23 (by decide),
  k_aload_n dX4_change_26,
  k_iconst dX4_change_27,
  k_iload_n dX4_change_28,
  k_iadd dX4_change_29,
  k_iload_n dX4_change_30,
  k_callV (y2 := yX4_puts) (C := RX4) (T0 := TX4) (ci := 2) dX4_change_31 sndX4_puts rfl q2331 q2333 qs124 q137 q2334 (by decide +kernel) ⟨by decide, by decide⟩ (by decide) (by decide),
  k_iret dX4_change_34, trivial⟩
theorem sndX4_change : MSound 4 yX4_change (ws_ yX4_change cX4_change 3 (some .int)) mX4_change := msound_M (by decide) allX4_change (fun _ _ => rfl)
/-! LinkTimesModel.hold(II)I -/
noncomputable def kX4_hold : ZM := ([(0, zi_ld 1 0 1), (1, zi_ld 1 0 2), (2, zi_ld 0 1 3), (3, zi_callV mX4_isSpot 18 2 6), (6, zi_ld 0 2 7), (7, zi_push (zvi (-1)) 8), (8, zi_push (zvi 999) 11), (11, zi_callS mX4_in 3 14), (14, zi_callS mX4_unless_2 2 17), (17, zi_callV mX4_isRefused 18 2 20), (20, zi_if (fun a => zc_eq a 0) 27 23), (23, zi_push (zvi (-1)) 24), (24, zi_goto 46), (27, zi_ld 1 0 28), (28, zi_push (zvi 15) 30), (30, zi_ld 0 1 31), (31, zi_bin (fun a b => w32 (a + b)) 32), (32, zi_ld 0 2 33), (33, zi_push (zvi (-1)) 34), (34, zi_cmp zc_ne 42 37), (37, zi_push (zvi (-2)) 39), (39, zi_goto 43), (42, zi_ld 0 2 43), (43, zi_callV mX4_puts 18 3 46), (46, zi_retv 0)], fun _ _ => none)
noncomputable def mX4_hold : ZF := zrunM kX4_hold 3
theorem enX4_hold (x0 : Option Nat) (x1 : Int) (x2 : Int) (h : PH) : mX4_hold [zvr x0, zvi x1, zvi x2] h = zev kX4_hold 0 [zvr x0, zvi x1, zvi x2] [] h := zrunM_eq rfl rfl
theorem rX4_hold : (∀ (a : Option Nat) (L st : List ZV) (h : PH), zev kX4_hold 0 (zvr a :: L) st h = zev kX4_hold 1 (zvr a :: L) (zvr a :: st) h) ∧
  (∀ (a : Option Nat) (L st : List ZV) (h : PH), zev kX4_hold 1 (zvr a :: L) st h = zev kX4_hold 2 (zvr a :: L) (zvr a :: st) h) ∧
  (∀ (x0 : ZV) (a : Int) (L st : List ZV) (h : PH), zev kX4_hold 2 (x0 :: zvi a :: L) st h = zev kX4_hold 3 (x0 :: zvi a :: L) (zvi a :: st) h) ∧
  (∀ (v0 : ZV) (q : Nat) (L st : List ZV) (h : PH), zev kX4_hold 3 L (v0 :: zvr (some q) :: st) h = if (ph_K h q).1 % 1000 = 18 ∧ zcat st ≤ 8 then zk kX4_hold 3 6 L st (mX4_isSpot [zvr (some q), v0] h) else none) ∧
  (∀ (x0 x1 : ZV) (a : Int) (L st : List ZV) (h : PH), zev kX4_hold 6 (x0 :: x1 :: zvi a :: L) st h = zev kX4_hold 7 (x0 :: x1 :: zvi a :: L) (zvi a :: st) h) ∧
  (∀ (L st : List ZV) (h : PH), zev kX4_hold 7 L st h = zev kX4_hold 8 L (zvi (-1) :: st) h) ∧
  (∀ (L st : List ZV) (h : PH), zev kX4_hold 8 L st h = zev kX4_hold 11 L (zvi 999 :: st) h) ∧
  (∀ (v0 v1 v2 : ZV) (L st : List ZV) (h : PH), zev kX4_hold 11 L (v2 :: v1 :: v0 :: st) h = if zcat st ≤ 8 then zk kX4_hold 11 14 L st (mX4_in [v0, v1, v2] h) else none) ∧
  (∀ (v0 v1 : ZV) (L st : List ZV) (h : PH), zev kX4_hold 14 L (v1 :: v0 :: st) h = if zcat st ≤ 8 then zk kX4_hold 14 17 L st (mX4_unless_2 [v0, v1] h) else none) ∧
  (∀ (v0 : ZV) (q : Nat) (L st : List ZV) (h : PH), zev kX4_hold 17 L (v0 :: zvr (some q) :: st) h = if (ph_K h q).1 % 1000 = 18 ∧ zcat st ≤ 8 then zk kX4_hold 17 20 L st (mX4_isRefused [zvr (some q), v0] h) else none) ∧
  (∀ (a : Int) (L st : List ZV) (h : PH), zev kX4_hold 20 L (zvi a :: st) h = if a = 0 then zev kX4_hold 27 L st h else zev kX4_hold 23 L st h) ∧
  (∀ (L st : List ZV) (h : PH), zev kX4_hold 23 L st h = zev kX4_hold 24 L (zvi (-1) :: st) h) ∧
  (∀ (L st : List ZV) (h : PH), zev kX4_hold 24 L st h = zev kX4_hold 46 L st h) ∧
  (∀ (a : Option Nat) (L st : List ZV) (h : PH), zev kX4_hold 27 (zvr a :: L) st h = zev kX4_hold 28 (zvr a :: L) (zvr a :: st) h) ∧
  (∀ (L st : List ZV) (h : PH), zev kX4_hold 28 L st h = zev kX4_hold 30 L (zvi 15 :: st) h) ∧
  (∀ (x0 : ZV) (a : Int) (L st : List ZV) (h : PH), zev kX4_hold 30 (x0 :: zvi a :: L) st h = zev kX4_hold 31 (x0 :: zvi a :: L) (zvi a :: st) h) ∧
  (∀ (a b : Int) (L st : List ZV) (h : PH), zev kX4_hold 31 L (zvi b :: zvi a :: st) h = zev kX4_hold 32 L (zvi (w32 (a + b)) :: st) h) ∧
  (∀ (x0 x1 : ZV) (a : Int) (L st : List ZV) (h : PH), zev kX4_hold 32 (x0 :: x1 :: zvi a :: L) st h = zev kX4_hold 33 (x0 :: x1 :: zvi a :: L) (zvi a :: st) h) ∧
  (∀ (L st : List ZV) (h : PH), zev kX4_hold 33 L st h = zev kX4_hold 34 L (zvi (-1) :: st) h) ∧
  (∀ (a b : Int) (L st : List ZV) (h : PH), zev kX4_hold 34 L (zvi b :: zvi a :: st) h = if a ≠ b then zev kX4_hold 42 L st h else zev kX4_hold 37 L st h) ∧
  (∀ (L st : List ZV) (h : PH), zev kX4_hold 37 L st h = zev kX4_hold 39 L (zvi (-2) :: st) h) ∧
  (∀ (L st : List ZV) (h : PH), zev kX4_hold 39 L st h = zev kX4_hold 43 L st h) ∧
  (∀ (x0 x1 : ZV) (a : Int) (L st : List ZV) (h : PH), zev kX4_hold 42 (x0 :: x1 :: zvi a :: L) st h = zev kX4_hold 43 (x0 :: x1 :: zvi a :: L) (zvi a :: st) h) ∧
  (∀ (v0 v1 : ZV) (q : Nat) (L st : List ZV) (h : PH), zev kX4_hold 43 L (v1 :: v0 :: zvr (some q) :: st) h = if (ph_K h q).1 % 1000 = 18 ∧ zcat st ≤ 8 then zk kX4_hold 43 46 L st (mX4_puts [zvr (some q), v0, v1] h) else none) ∧
  (∀ (a : Int) (L : List ZV) (h : PH), zev kX4_hold 46 L [zvi a] h = zrv (zvi a) h) :=
  ⟨fun a L st h => e_ld0R (n := 1) rfl,
  fun a L st h => e_ld0R (n := 2) rfl,
  fun x0 a L st h => e_ld1I (n := 3) rfl,
  fun v0 q L st h => e_callV2 (F := mX4_isSpot) (kd := 18) (n := 6) rfl,
  fun x0 x1 a L st h => e_ld2I (n := 7) rfl,
  fun L st h => e_push (v := zvi (-1)) (n := 8) rfl,
  fun L st h => e_push (v := zvi 999) (n := 11) rfl,
  fun v0 v1 v2 L st h => e_callS3 (F := mX4_in) (n := 14) rfl,
  fun v0 v1 L st h => e_callS2 (F := mX4_unless_2) (n := 17) rfl,
  fun v0 q L st h => e_callV2 (F := mX4_isRefused) (kd := 18) (n := 20) rfl,
  fun a L st h => e_ifeq (t := 27) (n := 23) rfl,
  fun L st h => e_push (v := zvi (-1)) (n := 24) rfl,
  fun L st h => e_goto (t := 46) rfl,
  fun a L st h => e_ld0R (n := 28) rfl,
  fun L st h => e_push (v := zvi 15) (n := 30) rfl,
  fun x0 a L st h => e_ld1I (n := 31) rfl,
  fun a b L st h => e_bin (f := (fun a b => w32 (a + b))) (n := 32) rfl,
  fun x0 x1 a L st h => e_ld2I (n := 33) rfl,
  fun L st h => e_push (v := zvi (-1)) (n := 34) rfl,
  fun a b L st h => e_cmpne (t := 42) (n := 37) rfl,
  fun L st h => e_push (v := zvi (-2)) (n := 39) rfl,
  fun L st h => e_goto (t := 43) rfl,
  fun x0 x1 a L st h => e_ld2I (n := 43) rfl,
  fun v0 v1 q L st h => e_callV3 (F := mX4_puts) (kd := 18) (n := 46) rfl,
  fun a L h => e_retI rfl⟩
theorem allX4_hold : zall yX4_hold cX4_hold 3 (some .int) 4 kX4_hold.1 :=
  ⟨k_aload_n dX4_hold_0,
  k_aload_n dX4_hold_1,
  k_iload_n dX4_hold_2,
  k_callV (y2 := yX4_isSpot) (C := RX4) (T0 := TX4) (ci := 2) dX4_hold_3 sndX4_isSpot rfl q2084 q2086 qs93 q137 q2087 (by decide +kernel) ⟨by decide, by decide⟩ (by decide) (by decide),
  k_iload_n dX4_hold_6,
  k_iconst dX4_hold_7,
  k_sipush dX4_hold_8,
  k_callS (y2 := yX4_in) dX4_hold_11 sndX4_in q1943 q1944 q137 q1945 (by decide +kernel) ⟨by decide, by decide⟩ (by decide) (by decide),
  k_callS (y2 := yX4_unless_2) dX4_hold_14 sndX4_unless_2 q2120 q2121 q137 q2122 (by decide +kernel) ⟨by decide, by decide⟩ (by decide) (by decide),
  k_callV (y2 := yX4_isRefused) (C := RX4) (T0 := TX4) (ci := 2) dX4_hold_17 sndX4_isRefused rfl q1946 q1948 qs70 q137 q1949 (by decide +kernel) ⟨by decide, by decide⟩ (by decide) (by decide),
  k_ifeq (t := 27) dX4_hold_20 (by decide),
  k_iconst dX4_hold_23,
  k_goto (t := 46) dX4_hold_24 (by decide),
  k_aload_n dX4_hold_27,
  k_bipush dX4_hold_28,
  k_iload_n dX4_hold_30,
  k_iadd dX4_hold_31,
  k_iload_n dX4_hold_32,
  k_iconst dX4_hold_33,
  k_cmpne (t := 42) dX4_hold_34 (by decide),
  k_bipush dX4_hold_37,
  k_goto (t := 43) dX4_hold_39 (by decide),
  k_iload_n dX4_hold_42,
  k_callV (y2 := yX4_puts) (C := RX4) (T0 := TX4) (ci := 2) dX4_hold_43 sndX4_puts rfl q2331 q2333 qs124 q137 q2334 (by decide +kernel) ⟨by decide, by decide⟩ (by decide) (by decide),
  k_iret dX4_hold_46, trivial⟩
theorem sndX4_hold : MSound 4 yX4_hold (ws_ yX4_hold cX4_hold 3 (some .int)) mX4_hold := msound_M (by decide) allX4_hold (fun _ _ => rfl)
/-! LinkTimesModel.extra(IIIII)I -/
noncomputable def kX4_extra : ZM := ([(0, zi_ld 1 0 1), (1, zi_ld 0 2 2), (2, zi_ld 0 3 3), (3, zi_callV mX4_areUnlike 18 3 6), (6, zi_if (fun a => zc_eq a 0) 29 9), (9, zi_ld 0 1 10), (10, zi_push (zvi 0) 11), (11, zi_ld 1 0 12), (12, zi_getR 18 6 15), (15, zi_push (zvi 2) 16), (16, zi_ald 1 17), (17, zi_push (zvi 1) 18), (18, zi_bin (fun a b => w32 (a - b)) 19), (19, zi_callS mX4_in 3 22), (22, zi_if (fun a => zc_eq a 0) 29 25), (25, zi_push (zvi 1) 26), (26, zi_goto 30), (29, zi_push (zvi 0) 30), (30, zi_st 0 6 32), (32, zi_ld 1 0 33), (33, zi_ld 0 6 35), (35, zi_if (fun a => zc_ne a 0) 42 38), (38, zi_push (zvi 1) 39), (39, zi_goto 88), (42, zi_ld 0 4 44), (44, zi_push (zvi 0) 45), (45, zi_ld 1 0 46), (46, zi_getR 18 6 49), (49, zi_push (zvi 0) 50), (50, zi_ald 1 51), (51, zi_callS mX4_in 3 54), (54, zi_if (fun a => zc_eq a 0) 68 57), (57, zi_ld 0 5 59), (59, zi_push (zvi 1) 60), (60, zi_push (zvi 99) 62), (62, zi_callS mX4_in 3 65), (65, zi_if (fun a => zc_ne a 0) 72 68), (68, zi_push (zvi 2) 69), (69, zi_goto 88), (72, zi_ld 1 0 73), (73, zi_getR 18 6 76), (76, zi_push (zvi 4) 77), (77, zi_ald 1 78), (78, zi_push (zvi 120) 80), (80, zi_cmp zc_ne 87 83), (83, zi_push (zvi 3) 84), (84, zi_goto 88), (87, zi_push (zvi 0) 88), (88, zi_callV mX4_isRefused 18 2 91), (91, zi_if (fun a => zc_eq a 0) 96 94), (94, zi_push (zvi (-1)) 95), (95, zi_retv 0), (96, zi_ld 1 0 97), (97, zi_callV mX4_keeps 18 1 100), (100, zi_ld 1 0 101), (101, zi_getR 18 6 104), (104, zi_ld 0 1 105), (105, zi_ld 0 2 106), (106, zi_ld 0 3 107), (107, zi_ld 0 4 109), (109, zi_ld 0 5 111), (111, zi_push (zvi (-2)) 113), (113, zi_callS mX4_lays_2 7 116), (116, zi_ld 1 0 117), (117, zi_getR 18 6 120), (120, zi_push (zvi 4) 121), (121, zi_ald 1 122), (122, zi_push (zvi 1) 123), (123, zi_bin (fun a b => w32 (a - b)) 124), (124, zi_retv 0)], fun _ _ => none)
noncomputable def mX4_extra : ZF := zrunM kX4_extra 7
theorem enX4_extra (x0 : Option Nat) (x1 : Int) (x2 : Int) (x3 : Int) (x4 : Int) (x5 : Int) (h : PH) : mX4_extra [zvr x0, zvi x1, zvi x2, zvi x3, zvi x4, zvi x5] h = zev kX4_extra 0 [zvr x0, zvi x1, zvi x2, zvi x3, zvi x4, zvi x5, zvu] [] h := zrunM_eq rfl rfl
theorem rX4_extra : (∀ (a : Option Nat) (L st : List ZV) (h : PH), zev kX4_extra 0 (zvr a :: L) st h = zev kX4_extra 1 (zvr a :: L) (zvr a :: st) h) ∧
  (∀ (x0 x1 : ZV) (a : Int) (L st : List ZV) (h : PH), zev kX4_extra 1 (x0 :: x1 :: zvi a :: L) st h = zev kX4_extra 2 (x0 :: x1 :: zvi a :: L) (zvi a :: st) h) ∧
  (∀ (x0 x1 x2 : ZV) (a : Int) (L st : List ZV) (h : PH), zev kX4_extra 2 (x0 :: x1 :: x2 :: zvi a :: L) st h = zev kX4_extra 3 (x0 :: x1 :: x2 :: zvi a :: L) (zvi a :: st) h) ∧
  (∀ (v0 v1 : ZV) (q : Nat) (L st : List ZV) (h : PH), zev kX4_extra 3 L (v1 :: v0 :: zvr (some q) :: st) h = if (ph_K h q).1 % 1000 = 18 ∧ zcat st ≤ 8 then zk kX4_extra 3 6 L st (mX4_areUnlike [zvr (some q), v0, v1] h) else none) ∧
  (∀ (a : Int) (L st : List ZV) (h : PH), zev kX4_extra 6 L (zvi a :: st) h = if a = 0 then zev kX4_extra 29 L st h else zev kX4_extra 9 L st h) ∧
  (∀ (x0 : ZV) (a : Int) (L st : List ZV) (h : PH), zev kX4_extra 9 (x0 :: zvi a :: L) st h = zev kX4_extra 10 (x0 :: zvi a :: L) (zvi a :: st) h) ∧
  (∀ (L st : List ZV) (h : PH), zev kX4_extra 10 L st h = zev kX4_extra 11 L (zvi 0 :: st) h) ∧
  (∀ (a : Option Nat) (L st : List ZV) (h : PH), zev kX4_extra 11 (zvr a :: L) st h = zev kX4_extra 12 (zvr a :: L) (zvr a :: st) h) ∧
  (∀ (q : Nat) (L st : List ZV) (h : PH), zev kX4_extra 12 L (zvr (some q) :: st) h = if (ph_K h q).1 % 1000 = 18 then zev kX4_extra 15 L (zvr (ph_R h q 6) :: st) h else none) ∧
  (∀ (L st : List ZV) (h : PH), zev kX4_extra 15 L st h = zev kX4_extra 16 L (zvi 2 :: st) h) ∧
  (∀ (j : Int) (q : Nat) (L st : List ZV) (h : PH), zev kX4_extra 16 L (zvi j :: zvr (some q) :: st) h = if (ph_K h q).1 % 1000 = 1 ∧ 0 ≤ j ∧ j < (ph_K h q).2 then zev kX4_extra 17 L (zvi (ph_I h q j) :: st) h else none) ∧
  (∀ (L st : List ZV) (h : PH), zev kX4_extra 17 L st h = zev kX4_extra 18 L (zvi 1 :: st) h) ∧
  (∀ (a b : Int) (L st : List ZV) (h : PH), zev kX4_extra 18 L (zvi b :: zvi a :: st) h = zev kX4_extra 19 L (zvi (w32 (a - b)) :: st) h) ∧
  (∀ (v0 v1 v2 : ZV) (L st : List ZV) (h : PH), zev kX4_extra 19 L (v2 :: v1 :: v0 :: st) h = if zcat st ≤ 8 then zk kX4_extra 19 22 L st (mX4_in [v0, v1, v2] h) else none) ∧
  (∀ (a : Int) (L st : List ZV) (h : PH), zev kX4_extra 22 L (zvi a :: st) h = if a = 0 then zev kX4_extra 29 L st h else zev kX4_extra 25 L st h) ∧
  (∀ (L st : List ZV) (h : PH), zev kX4_extra 25 L st h = zev kX4_extra 26 L (zvi 1 :: st) h) ∧
  (∀ (L st : List ZV) (h : PH), zev kX4_extra 26 L st h = zev kX4_extra 30 L st h) ∧
  (∀ (L st : List ZV) (h : PH), zev kX4_extra 29 L st h = zev kX4_extra 30 L (zvi 0 :: st) h) ∧
  (∀ (x0 x1 x2 x3 x4 x5 x6 : ZV) (a : Int) (L st : List ZV) (h : PH) (hx : zisL x5 = false) , zev kX4_extra 30 (x0 :: x1 :: x2 :: x3 :: x4 :: x5 :: x6 :: L) (zvi a :: st) h = zev kX4_extra 32 (x0 :: x1 :: x2 :: x3 :: x4 :: x5 :: zvi a :: L) st h) ∧
  (∀ (a : Option Nat) (L st : List ZV) (h : PH), zev kX4_extra 32 (zvr a :: L) st h = zev kX4_extra 33 (zvr a :: L) (zvr a :: st) h) ∧
  (∀ (x0 x1 x2 x3 x4 x5 : ZV) (a : Int) (L st : List ZV) (h : PH), zev kX4_extra 33 (x0 :: x1 :: x2 :: x3 :: x4 :: x5 :: zvi a :: L) st h = zev kX4_extra 35 (x0 :: x1 :: x2 :: x3 :: x4 :: x5 :: zvi a :: L) (zvi a :: st) h) ∧
  (∀ (a : Int) (L st : List ZV) (h : PH), zev kX4_extra 35 L (zvi a :: st) h = if a ≠ 0 then zev kX4_extra 42 L st h else zev kX4_extra 38 L st h) ∧
  (∀ (L st : List ZV) (h : PH), zev kX4_extra 38 L st h = zev kX4_extra 39 L (zvi 1 :: st) h) ∧
  (∀ (L st : List ZV) (h : PH), zev kX4_extra 39 L st h = zev kX4_extra 88 L st h) ∧
  (∀ (x0 x1 x2 x3 : ZV) (a : Int) (L st : List ZV) (h : PH), zev kX4_extra 42 (x0 :: x1 :: x2 :: x3 :: zvi a :: L) st h = zev kX4_extra 44 (x0 :: x1 :: x2 :: x3 :: zvi a :: L) (zvi a :: st) h) ∧
  (∀ (L st : List ZV) (h : PH), zev kX4_extra 44 L st h = zev kX4_extra 45 L (zvi 0 :: st) h) ∧
  (∀ (a : Option Nat) (L st : List ZV) (h : PH), zev kX4_extra 45 (zvr a :: L) st h = zev kX4_extra 46 (zvr a :: L) (zvr a :: st) h) ∧
  (∀ (q : Nat) (L st : List ZV) (h : PH), zev kX4_extra 46 L (zvr (some q) :: st) h = if (ph_K h q).1 % 1000 = 18 then zev kX4_extra 49 L (zvr (ph_R h q 6) :: st) h else none) ∧
  (∀ (L st : List ZV) (h : PH), zev kX4_extra 49 L st h = zev kX4_extra 50 L (zvi 0 :: st) h) ∧
  (∀ (j : Int) (q : Nat) (L st : List ZV) (h : PH), zev kX4_extra 50 L (zvi j :: zvr (some q) :: st) h = if (ph_K h q).1 % 1000 = 1 ∧ 0 ≤ j ∧ j < (ph_K h q).2 then zev kX4_extra 51 L (zvi (ph_I h q j) :: st) h else none) ∧
  (∀ (v0 v1 v2 : ZV) (L st : List ZV) (h : PH), zev kX4_extra 51 L (v2 :: v1 :: v0 :: st) h = if zcat st ≤ 8 then zk kX4_extra 51 54 L st (mX4_in [v0, v1, v2] h) else none) ∧
  (∀ (a : Int) (L st : List ZV) (h : PH), zev kX4_extra 54 L (zvi a :: st) h = if a = 0 then zev kX4_extra 68 L st h else zev kX4_extra 57 L st h) ∧
  (∀ (x0 x1 x2 x3 x4 : ZV) (a : Int) (L st : List ZV) (h : PH), zev kX4_extra 57 (x0 :: x1 :: x2 :: x3 :: x4 :: zvi a :: L) st h = zev kX4_extra 59 (x0 :: x1 :: x2 :: x3 :: x4 :: zvi a :: L) (zvi a :: st) h) ∧
  (∀ (L st : List ZV) (h : PH), zev kX4_extra 59 L st h = zev kX4_extra 60 L (zvi 1 :: st) h) ∧
  (∀ (L st : List ZV) (h : PH), zev kX4_extra 60 L st h = zev kX4_extra 62 L (zvi 99 :: st) h) ∧
  (∀ (v0 v1 v2 : ZV) (L st : List ZV) (h : PH), zev kX4_extra 62 L (v2 :: v1 :: v0 :: st) h = if zcat st ≤ 8 then zk kX4_extra 62 65 L st (mX4_in [v0, v1, v2] h) else none) ∧
  (∀ (a : Int) (L st : List ZV) (h : PH), zev kX4_extra 65 L (zvi a :: st) h = if a ≠ 0 then zev kX4_extra 72 L st h else zev kX4_extra 68 L st h) ∧
  (∀ (L st : List ZV) (h : PH), zev kX4_extra 68 L st h = zev kX4_extra 69 L (zvi 2 :: st) h) ∧
  (∀ (L st : List ZV) (h : PH), zev kX4_extra 69 L st h = zev kX4_extra 88 L st h) ∧
  (∀ (a : Option Nat) (L st : List ZV) (h : PH), zev kX4_extra 72 (zvr a :: L) st h = zev kX4_extra 73 (zvr a :: L) (zvr a :: st) h) ∧
  (∀ (q : Nat) (L st : List ZV) (h : PH), zev kX4_extra 73 L (zvr (some q) :: st) h = if (ph_K h q).1 % 1000 = 18 then zev kX4_extra 76 L (zvr (ph_R h q 6) :: st) h else none) ∧
  (∀ (L st : List ZV) (h : PH), zev kX4_extra 76 L st h = zev kX4_extra 77 L (zvi 4 :: st) h) ∧
  (∀ (j : Int) (q : Nat) (L st : List ZV) (h : PH), zev kX4_extra 77 L (zvi j :: zvr (some q) :: st) h = if (ph_K h q).1 % 1000 = 1 ∧ 0 ≤ j ∧ j < (ph_K h q).2 then zev kX4_extra 78 L (zvi (ph_I h q j) :: st) h else none) ∧
  (∀ (L st : List ZV) (h : PH), zev kX4_extra 78 L st h = zev kX4_extra 80 L (zvi 120 :: st) h) ∧
  (∀ (a b : Int) (L st : List ZV) (h : PH), zev kX4_extra 80 L (zvi b :: zvi a :: st) h = if a ≠ b then zev kX4_extra 87 L st h else zev kX4_extra 83 L st h) ∧
  (∀ (L st : List ZV) (h : PH), zev kX4_extra 83 L st h = zev kX4_extra 84 L (zvi 3 :: st) h) ∧
  (∀ (L st : List ZV) (h : PH), zev kX4_extra 84 L st h = zev kX4_extra 88 L st h) ∧
  (∀ (L st : List ZV) (h : PH), zev kX4_extra 87 L st h = zev kX4_extra 88 L (zvi 0 :: st) h) ∧
  (∀ (v0 : ZV) (q : Nat) (L st : List ZV) (h : PH), zev kX4_extra 88 L (v0 :: zvr (some q) :: st) h = if (ph_K h q).1 % 1000 = 18 ∧ zcat st ≤ 8 then zk kX4_extra 88 91 L st (mX4_isRefused [zvr (some q), v0] h) else none) ∧
  (∀ (a : Int) (L st : List ZV) (h : PH), zev kX4_extra 91 L (zvi a :: st) h = if a = 0 then zev kX4_extra 96 L st h else zev kX4_extra 94 L st h) ∧
  (∀ (L st : List ZV) (h : PH), zev kX4_extra 94 L st h = zev kX4_extra 95 L (zvi (-1) :: st) h) ∧
  (∀ (a : Int) (L : List ZV) (h : PH), zev kX4_extra 95 L [zvi a] h = zrv (zvi a) h) ∧
  (∀ (a : Option Nat) (L st : List ZV) (h : PH), zev kX4_extra 96 (zvr a :: L) st h = zev kX4_extra 97 (zvr a :: L) (zvr a :: st) h) ∧
  (∀ (q : Nat) (L st : List ZV) (h : PH), zev kX4_extra 97 L (zvr (some q) :: st) h = if (ph_K h q).1 % 1000 = 18 ∧ zcat st ≤ 8 then zk kX4_extra 97 100 L st (mX4_keeps [zvr (some q)] h) else none) ∧
  (∀ (a : Option Nat) (L st : List ZV) (h : PH), zev kX4_extra 100 (zvr a :: L) st h = zev kX4_extra 101 (zvr a :: L) (zvr a :: st) h) ∧
  (∀ (q : Nat) (L st : List ZV) (h : PH), zev kX4_extra 101 L (zvr (some q) :: st) h = if (ph_K h q).1 % 1000 = 18 then zev kX4_extra 104 L (zvr (ph_R h q 6) :: st) h else none) ∧
  (∀ (x0 : ZV) (a : Int) (L st : List ZV) (h : PH), zev kX4_extra 104 (x0 :: zvi a :: L) st h = zev kX4_extra 105 (x0 :: zvi a :: L) (zvi a :: st) h) ∧
  (∀ (x0 x1 : ZV) (a : Int) (L st : List ZV) (h : PH), zev kX4_extra 105 (x0 :: x1 :: zvi a :: L) st h = zev kX4_extra 106 (x0 :: x1 :: zvi a :: L) (zvi a :: st) h) ∧
  (∀ (x0 x1 x2 : ZV) (a : Int) (L st : List ZV) (h : PH), zev kX4_extra 106 (x0 :: x1 :: x2 :: zvi a :: L) st h = zev kX4_extra 107 (x0 :: x1 :: x2 :: zvi a :: L) (zvi a :: st) h) ∧
  (∀ (x0 x1 x2 x3 : ZV) (a : Int) (L st : List ZV) (h : PH), zev kX4_extra 107 (x0 :: x1 :: x2 :: x3 :: zvi a :: L) st h = zev kX4_extra 109 (x0 :: x1 :: x2 :: x3 :: zvi a :: L) (zvi a :: st) h) ∧
  (∀ (x0 x1 x2 x3 x4 : ZV) (a : Int) (L st : List ZV) (h : PH), zev kX4_extra 109 (x0 :: x1 :: x2 :: x3 :: x4 :: zvi a :: L) st h = zev kX4_extra 111 (x0 :: x1 :: x2 :: x3 :: x4 :: zvi a :: L) (zvi a :: st) h) ∧
  (∀ (L st : List ZV) (h : PH), zev kX4_extra 111 L st h = zev kX4_extra 113 L (zvi (-2) :: st) h) ∧
  (∀ (v0 v1 v2 v3 v4 v5 v6 : ZV) (L st : List ZV) (h : PH), zev kX4_extra 113 L (v6 :: v5 :: v4 :: v3 :: v2 :: v1 :: v0 :: st) h = if zcat st ≤ 8 then zk kX4_extra 113 116 L st (mX4_lays_2 [v0, v1, v2, v3, v4, v5, v6] h) else none) ∧
  (∀ (a : Option Nat) (L st : List ZV) (h : PH), zev kX4_extra 116 (zvr a :: L) st h = zev kX4_extra 117 (zvr a :: L) (zvr a :: st) h) ∧
  (∀ (q : Nat) (L st : List ZV) (h : PH), zev kX4_extra 117 L (zvr (some q) :: st) h = if (ph_K h q).1 % 1000 = 18 then zev kX4_extra 120 L (zvr (ph_R h q 6) :: st) h else none) ∧
  (∀ (L st : List ZV) (h : PH), zev kX4_extra 120 L st h = zev kX4_extra 121 L (zvi 4 :: st) h) ∧
  (∀ (j : Int) (q : Nat) (L st : List ZV) (h : PH), zev kX4_extra 121 L (zvi j :: zvr (some q) :: st) h = if (ph_K h q).1 % 1000 = 1 ∧ 0 ≤ j ∧ j < (ph_K h q).2 then zev kX4_extra 122 L (zvi (ph_I h q j) :: st) h else none) ∧
  (∀ (L st : List ZV) (h : PH), zev kX4_extra 122 L st h = zev kX4_extra 123 L (zvi 1 :: st) h) ∧
  (∀ (a b : Int) (L st : List ZV) (h : PH), zev kX4_extra 123 L (zvi b :: zvi a :: st) h = zev kX4_extra 124 L (zvi (w32 (a - b)) :: st) h) ∧
  (∀ (a : Int) (L : List ZV) (h : PH), zev kX4_extra 124 L [zvi a] h = zrv (zvi a) h) :=
  ⟨fun a L st h => e_ld0R (n := 1) rfl,
  fun x0 x1 a L st h => e_ld2I (n := 2) rfl,
  fun x0 x1 x2 a L st h => e_ld3I (n := 3) rfl,
  fun v0 v1 q L st h => e_callV3 (F := mX4_areUnlike) (kd := 18) (n := 6) rfl,
  fun a L st h => e_ifeq (t := 29) (n := 9) rfl,
  fun x0 a L st h => e_ld1I (n := 10) rfl,
  fun L st h => e_push (v := zvi 0) (n := 11) rfl,
  fun a L st h => e_ld0R (n := 12) rfl,
  fun q L st h => e_getR (kd := 18) (k := 6) (n := 15) rfl,
  fun L st h => e_push (v := zvi 2) (n := 16) rfl,
  fun j q L st h => e_ald (kd := 1) (n := 17) rfl,
  fun L st h => e_push (v := zvi 1) (n := 18) rfl,
  fun a b L st h => e_bin (f := (fun a b => w32 (a - b))) (n := 19) rfl,
  fun v0 v1 v2 L st h => e_callS3 (F := mX4_in) (n := 22) rfl,
  fun a L st h => e_ifeq (t := 29) (n := 25) rfl,
  fun L st h => e_push (v := zvi 1) (n := 26) rfl,
  fun L st h => e_goto (t := 30) rfl,
  fun L st h => e_push (v := zvi 0) (n := 30) rfl,
  fun x0 x1 x2 x3 x4 x5 x6 a L st h hx => e_st6I (n := 32) rfl hx,
  fun a L st h => e_ld0R (n := 33) rfl,
  fun x0 x1 x2 x3 x4 x5 a L st h => e_ld6I (n := 35) rfl,
  fun a L st h => e_ifne (t := 42) (n := 38) rfl,
  fun L st h => e_push (v := zvi 1) (n := 39) rfl,
  fun L st h => e_goto (t := 88) rfl,
  fun x0 x1 x2 x3 a L st h => e_ld4I (n := 44) rfl,
  fun L st h => e_push (v := zvi 0) (n := 45) rfl,
  fun a L st h => e_ld0R (n := 46) rfl,
  fun q L st h => e_getR (kd := 18) (k := 6) (n := 49) rfl,
  fun L st h => e_push (v := zvi 0) (n := 50) rfl,
  fun j q L st h => e_ald (kd := 1) (n := 51) rfl,
  fun v0 v1 v2 L st h => e_callS3 (F := mX4_in) (n := 54) rfl,
  fun a L st h => e_ifeq (t := 68) (n := 57) rfl,
  fun x0 x1 x2 x3 x4 a L st h => e_ld5I (n := 59) rfl,
  fun L st h => e_push (v := zvi 1) (n := 60) rfl,
  fun L st h => e_push (v := zvi 99) (n := 62) rfl,
  fun v0 v1 v2 L st h => e_callS3 (F := mX4_in) (n := 65) rfl,
  fun a L st h => e_ifne (t := 72) (n := 68) rfl,
  fun L st h => e_push (v := zvi 2) (n := 69) rfl,
  fun L st h => e_goto (t := 88) rfl,
  fun a L st h => e_ld0R (n := 73) rfl,
  fun q L st h => e_getR (kd := 18) (k := 6) (n := 76) rfl,
  fun L st h => e_push (v := zvi 4) (n := 77) rfl,
  fun j q L st h => e_ald (kd := 1) (n := 78) rfl,
  fun L st h => e_push (v := zvi 120) (n := 80) rfl,
  fun a b L st h => e_cmpne (t := 87) (n := 83) rfl,
  fun L st h => e_push (v := zvi 3) (n := 84) rfl,
  fun L st h => e_goto (t := 88) rfl,
  fun L st h => e_push (v := zvi 0) (n := 88) rfl,
  fun v0 q L st h => e_callV2 (F := mX4_isRefused) (kd := 18) (n := 91) rfl,
  fun a L st h => e_ifeq (t := 96) (n := 94) rfl,
  fun L st h => e_push (v := zvi (-1)) (n := 95) rfl,
  fun a L h => e_retI rfl,
  fun a L st h => e_ld0R (n := 97) rfl,
  fun q L st h => e_callV1 (F := mX4_keeps) (kd := 18) (n := 100) rfl,
  fun a L st h => e_ld0R (n := 101) rfl,
  fun q L st h => e_getR (kd := 18) (k := 6) (n := 104) rfl,
  fun x0 a L st h => e_ld1I (n := 105) rfl,
  fun x0 x1 a L st h => e_ld2I (n := 106) rfl,
  fun x0 x1 x2 a L st h => e_ld3I (n := 107) rfl,
  fun x0 x1 x2 x3 a L st h => e_ld4I (n := 109) rfl,
  fun x0 x1 x2 x3 x4 a L st h => e_ld5I (n := 111) rfl,
  fun L st h => e_push (v := zvi (-2)) (n := 113) rfl,
  fun v0 v1 v2 v3 v4 v5 v6 L st h => e_callS7 (F := mX4_lays_2) (n := 116) rfl,
  fun a L st h => e_ld0R (n := 117) rfl,
  fun q L st h => e_getR (kd := 18) (k := 6) (n := 120) rfl,
  fun L st h => e_push (v := zvi 4) (n := 121) rfl,
  fun j q L st h => e_ald (kd := 1) (n := 122) rfl,
  fun L st h => e_push (v := zvi 1) (n := 123) rfl,
  fun a b L st h => e_bin (f := (fun a b => w32 (a - b))) (n := 124) rfl,
  fun a L h => e_retI rfl⟩
theorem allX4_extra : zall yX4_extra cX4_extra 7 (some .int) 4 kX4_extra.1 :=
  ⟨k_aload_n dX4_extra_0,
  k_iload_n dX4_extra_1,
  k_iload_n dX4_extra_2,
  k_callV (y2 := yX4_areUnlike) (C := RX4) (T0 := TX4) (ci := 2) dX4_extra_3 sndX4_areUnlike rfl q2239 q2241 qs114 q137 q2242 (by decide +kernel) ⟨by decide, by decide⟩ (by decide) (by decide),
  k_ifeq (t := 29) dX4_extra_6 (by decide),
  k_iload_n dX4_extra_9,
  k_iconst dX4_extra_10,
  k_aload_n dX4_extra_11,
  k_getR (C := RX4) (T := TX4) (N := 42) (ci := 2) (k := 6) (ref := "LinkTimesModel") dX4_extra_12 rfl in_X4 (by decide) q1805 (Or.inl rfl) (fun _ _ _ => rfl),
  k_iconst dX4_extra_15,
  k_iald dX4_extra_16,
  k_iconst dX4_extra_17,
  k_isub dX4_extra_18,
  k_callS (y2 := yX4_in) dX4_extra_19 sndX4_in q1943 q1944 q137 q1945 (by decide +kernel) ⟨by decide, by decide⟩ (by decide) (by decide),
  k_ifeq (t := 29) dX4_extra_22 (by decide),
  k_iconst dX4_extra_25,
  k_goto (t := 30) dX4_extra_26 (by decide),
  k_iconst dX4_extra_29,
  k_istore dX4_extra_30,
  k_aload_n dX4_extra_32,
  k_iload dX4_extra_33,
  k_ifne (t := 42) dX4_extra_35 (by decide),
  k_iconst dX4_extra_38,
  k_goto (t := 88) dX4_extra_39 (by decide),
  k_iload dX4_extra_42,
  k_iconst dX4_extra_44,
  k_aload_n dX4_extra_45,
  k_getR (C := RX4) (T := TX4) (N := 42) (ci := 2) (k := 6) (ref := "LinkTimesModel") dX4_extra_46 rfl in_X4 (by decide) q1805 (Or.inl rfl) (fun _ _ _ => rfl),
  k_iconst dX4_extra_49,
  k_iald dX4_extra_50,
  k_callS (y2 := yX4_in) dX4_extra_51 sndX4_in q1943 q1944 q137 q1945 (by decide +kernel) ⟨by decide, by decide⟩ (by decide) (by decide),
  k_ifeq (t := 68) dX4_extra_54 (by decide),
  k_iload dX4_extra_57,
  k_iconst dX4_extra_59,
  k_bipush dX4_extra_60,
  k_callS (y2 := yX4_in) dX4_extra_62 sndX4_in q1943 q1944 q137 q1945 (by decide +kernel) ⟨by decide, by decide⟩ (by decide) (by decide),
  k_ifne (t := 72) dX4_extra_65 (by decide),
  k_iconst dX4_extra_68,
  k_goto (t := 88) dX4_extra_69 (by decide),
  k_aload_n dX4_extra_72,
  k_getR (C := RX4) (T := TX4) (N := 42) (ci := 2) (k := 6) (ref := "LinkTimesModel") dX4_extra_73 rfl in_X4 (by decide) q1805 (Or.inl rfl) (fun _ _ _ => rfl),
  k_iconst dX4_extra_76,
  k_iald dX4_extra_77,
  k_bipush dX4_extra_78,
  k_cmpne (t := 87) dX4_extra_80 (by decide),
  k_iconst dX4_extra_83,
  k_goto (t := 88) dX4_extra_84 (by decide),
  k_iconst dX4_extra_87,
  k_callV (y2 := yX4_isRefused) (C := RX4) (T0 := TX4) (ci := 2) dX4_extra_88 sndX4_isRefused rfl q1946 q1948 qs70 q137 q1949 (by decide +kernel) ⟨by decide, by decide⟩ (by decide) (by decide),
  k_ifeq (t := 96) dX4_extra_91 (by decide),
  k_iconst dX4_extra_94,
  k_iret dX4_extra_95,
  k_aload_n dX4_extra_96,
  k_callV (y2 := yX4_keeps) (C := RX4) (T0 := TX4) (ci := 2) dX4_extra_97 sndX4_keeps rfl q2335 q2337 qs125 q137 q2338 (by decide +kernel) ⟨by decide, by decide⟩ (by decide) (by decide),
  k_aload_n dX4_extra_100,
  k_getR (C := RX4) (T := TX4) (N := 42) (ci := 2) (k := 6) (ref := "LinkTimesModel") dX4_extra_101 rfl in_X4 (by decide) q1805 (Or.inl rfl) (fun _ _ _ => rfl),
  k_iload_n dX4_extra_104,
  k_iload_n dX4_extra_105,
  k_iload_n dX4_extra_106,
  k_iload dX4_extra_107,
  k_iload dX4_extra_109,
  k_bipush dX4_extra_111,
  k_callS (y2 := yX4_lays_2) dX4_extra_113 sndX4_lays_2 q2044 q2045 q137 q2046 (by decide +kernel) ⟨by decide, by decide⟩ (by decide) (by decide),
  k_aload_n dX4_extra_116,
  k_getR (C := RX4) (T := TX4) (N := 42) (ci := 2) (k := 6) (ref := "LinkTimesModel") dX4_extra_117 rfl in_X4 (by decide) q1805 (Or.inl rfl) (fun _ _ _ => rfl),
  k_iconst dX4_extra_120,
  k_iald dX4_extra_121,
  k_iconst dX4_extra_122,
  k_isub dX4_extra_123,
  k_iret dX4_extra_124, trivial⟩
theorem sndX4_extra : MSound 4 yX4_extra (ws_ yX4_extra cX4_extra 7 (some .int)) mX4_extra := msound_M (by decide) allX4_extra (fun _ _ => rfl)
/-! LinkTimesModel.undo()Z -/
noncomputable def kX4_undo : ZM := ([(0, zi_ld 1 0 1), (1, zi_ld 1 0 2), (2, zi_getI 18 10 5), (5, zi_if (fun a => zc_le a 0) 12 8), (8, zi_push (zvi 1) 9), (9, zi_goto 13), (12, zi_push (zvi 0) 13), (13, zi_callS mX4_unless 1 16), (16, zi_callV mX4_isRefused 18 2 19), (19, zi_if (fun a => zc_eq a 0) 24 22), (22, zi_push (zvi 0) 23), (23, zi_retz), (24, zi_ld 1 0 25), (25, zi_dup 26), (26, zi_getI 18 10 29), (29, zi_push (zvi 1) 30), (30, zi_bin (fun a b => w32 (a - b)) 31), (31, zi_putI 18 10 34), (34, zi_ld 1 0 35), (35, zi_getR 18 9 38), (38, zi_push (zvi 985) 41), (41, zi_ld 1 0 42), (42, zi_getI 18 10 45), (45, zi_bin (fun a b => w32 (a * b)) 46), (46, zi_ld 1 0 47), (47, zi_getR 18 6 50), (50, zi_push (zvi 0) 51), (51, zi_callS mX4_copies 4 54), (54, zi_push (zvi 1) 55), (55, zi_retz)], fun _ _ => none)
noncomputable def mX4_undo : ZF := zrunM kX4_undo 1
theorem enX4_undo (x0 : Option Nat) (h : PH) : mX4_undo [zvr x0] h = zev kX4_undo 0 [zvr x0] [] h := zrunM_eq rfl rfl
theorem rX4_undo : (∀ (a : Option Nat) (L st : List ZV) (h : PH), zev kX4_undo 0 (zvr a :: L) st h = zev kX4_undo 1 (zvr a :: L) (zvr a :: st) h) ∧
  (∀ (a : Option Nat) (L st : List ZV) (h : PH), zev kX4_undo 1 (zvr a :: L) st h = zev kX4_undo 2 (zvr a :: L) (zvr a :: st) h) ∧
  (∀ (q : Nat) (L st : List ZV) (h : PH), zev kX4_undo 2 L (zvr (some q) :: st) h = if (ph_K h q).1 % 1000 = 18 then zev kX4_undo 5 L (zvi (ph_I h q 10) :: st) h else none) ∧
  (∀ (a : Int) (L st : List ZV) (h : PH), zev kX4_undo 5 L (zvi a :: st) h = if a ≤ 0 then zev kX4_undo 12 L st h else zev kX4_undo 8 L st h) ∧
  (∀ (L st : List ZV) (h : PH), zev kX4_undo 8 L st h = zev kX4_undo 9 L (zvi 1 :: st) h) ∧
  (∀ (L st : List ZV) (h : PH), zev kX4_undo 9 L st h = zev kX4_undo 13 L st h) ∧
  (∀ (L st : List ZV) (h : PH), zev kX4_undo 12 L st h = zev kX4_undo 13 L (zvi 0 :: st) h) ∧
  (∀ (v0 : ZV) (L st : List ZV) (h : PH), zev kX4_undo 13 L (v0 :: st) h = if zcat st ≤ 8 then zk kX4_undo 13 16 L st (mX4_unless [v0] h) else none) ∧
  (∀ (v0 : ZV) (q : Nat) (L st : List ZV) (h : PH), zev kX4_undo 16 L (v0 :: zvr (some q) :: st) h = if (ph_K h q).1 % 1000 = 18 ∧ zcat st ≤ 8 then zk kX4_undo 16 19 L st (mX4_isRefused [zvr (some q), v0] h) else none) ∧
  (∀ (a : Int) (L st : List ZV) (h : PH), zev kX4_undo 19 L (zvi a :: st) h = if a = 0 then zev kX4_undo 24 L st h else zev kX4_undo 22 L st h) ∧
  (∀ (L st : List ZV) (h : PH), zev kX4_undo 22 L st h = zev kX4_undo 23 L (zvi 0 :: st) h) ∧
  (∀ (a : Int) (L : List ZV) (h : PH), zev kX4_undo 23 L [zvi a] h = if a = 0 ∨ a = 1 then zrv (zvi a) h else none) ∧
  (∀ (a : Option Nat) (L st : List ZV) (h : PH), zev kX4_undo 24 (zvr a :: L) st h = zev kX4_undo 25 (zvr a :: L) (zvr a :: st) h) ∧
  (∀ (a : Int) (L st : List ZV) (h : PH), zev kX4_undo 25 L (zvi a :: st) h = zev kX4_undo 26 L (zvi a :: zvi a :: st) h) ∧
  (∀ (a : Option Nat) (L st : List ZV) (h : PH), zev kX4_undo 25 L (zvr a :: st) h = zev kX4_undo 26 L (zvr a :: zvr a :: st) h) ∧
  (∀ (q : Nat) (L st : List ZV) (h : PH), zev kX4_undo 26 L (zvr (some q) :: st) h = if (ph_K h q).1 % 1000 = 18 then zev kX4_undo 29 L (zvi (ph_I h q 10) :: st) h else none) ∧
  (∀ (L st : List ZV) (h : PH), zev kX4_undo 29 L st h = zev kX4_undo 30 L (zvi 1 :: st) h) ∧
  (∀ (a b : Int) (L st : List ZV) (h : PH), zev kX4_undo 30 L (zvi b :: zvi a :: st) h = zev kX4_undo 31 L (zvi (w32 (a - b)) :: st) h) ∧
  (∀ (a : Int) (q : Nat) (L st : List ZV) (h : PH), zev kX4_undo 31 L (zvi a :: zvr (some q) :: st) h = if (ph_K h q).1 = 18 then zev kX4_undo 34 L st (st_I h q 10 a) else none) ∧
  (∀ (a : Option Nat) (L st : List ZV) (h : PH), zev kX4_undo 34 (zvr a :: L) st h = zev kX4_undo 35 (zvr a :: L) (zvr a :: st) h) ∧
  (∀ (q : Nat) (L st : List ZV) (h : PH), zev kX4_undo 35 L (zvr (some q) :: st) h = if (ph_K h q).1 % 1000 = 18 then zev kX4_undo 38 L (zvr (ph_R h q 9) :: st) h else none) ∧
  (∀ (L st : List ZV) (h : PH), zev kX4_undo 38 L st h = zev kX4_undo 41 L (zvi 985 :: st) h) ∧
  (∀ (a : Option Nat) (L st : List ZV) (h : PH), zev kX4_undo 41 (zvr a :: L) st h = zev kX4_undo 42 (zvr a :: L) (zvr a :: st) h) ∧
  (∀ (q : Nat) (L st : List ZV) (h : PH), zev kX4_undo 42 L (zvr (some q) :: st) h = if (ph_K h q).1 % 1000 = 18 then zev kX4_undo 45 L (zvi (ph_I h q 10) :: st) h else none) ∧
  (∀ (a b : Int) (L st : List ZV) (h : PH), zev kX4_undo 45 L (zvi b :: zvi a :: st) h = zev kX4_undo 46 L (zvi (w32 (a * b)) :: st) h) ∧
  (∀ (a : Option Nat) (L st : List ZV) (h : PH), zev kX4_undo 46 (zvr a :: L) st h = zev kX4_undo 47 (zvr a :: L) (zvr a :: st) h) ∧
  (∀ (q : Nat) (L st : List ZV) (h : PH), zev kX4_undo 47 L (zvr (some q) :: st) h = if (ph_K h q).1 % 1000 = 18 then zev kX4_undo 50 L (zvr (ph_R h q 6) :: st) h else none) ∧
  (∀ (L st : List ZV) (h : PH), zev kX4_undo 50 L st h = zev kX4_undo 51 L (zvi 0 :: st) h) ∧
  (∀ (v0 v1 v2 v3 : ZV) (L st : List ZV) (h : PH), zev kX4_undo 51 L (v3 :: v2 :: v1 :: v0 :: st) h = if zcat st ≤ 8 then zk kX4_undo 51 54 L st (mX4_copies [v0, v1, v2, v3] h) else none) ∧
  (∀ (L st : List ZV) (h : PH), zev kX4_undo 54 L st h = zev kX4_undo 55 L (zvi 1 :: st) h) ∧
  (∀ (a : Int) (L : List ZV) (h : PH), zev kX4_undo 55 L [zvi a] h = if a = 0 ∨ a = 1 then zrv (zvi a) h else none) :=
  ⟨fun a L st h => e_ld0R (n := 1) rfl,
  fun a L st h => e_ld0R (n := 2) rfl,
  fun q L st h => e_getI (kd := 18) (k := 10) (n := 5) rfl,
  fun a L st h => e_ifle (t := 12) (n := 8) rfl,
  fun L st h => e_push (v := zvi 1) (n := 9) rfl,
  fun L st h => e_goto (t := 13) rfl,
  fun L st h => e_push (v := zvi 0) (n := 13) rfl,
  fun v0 L st h => e_callS1 (F := mX4_unless) (n := 16) rfl,
  fun v0 q L st h => e_callV2 (F := mX4_isRefused) (kd := 18) (n := 19) rfl,
  fun a L st h => e_ifeq (t := 24) (n := 22) rfl,
  fun L st h => e_push (v := zvi 0) (n := 23) rfl,
  fun a L h => e_retz rfl,
  fun a L st h => e_ld0R (n := 25) rfl,
  fun a L st h => e_dupI (n := 26) rfl,
  fun a L st h => e_dupR (n := 26) rfl,
  fun q L st h => e_getI (kd := 18) (k := 10) (n := 29) rfl,
  fun L st h => e_push (v := zvi 1) (n := 30) rfl,
  fun a b L st h => e_bin (f := (fun a b => w32 (a - b))) (n := 31) rfl,
  fun a q L st h => e_putI (kd := 18) (k := 10) (n := 34) rfl,
  fun a L st h => e_ld0R (n := 35) rfl,
  fun q L st h => e_getR (kd := 18) (k := 9) (n := 38) rfl,
  fun L st h => e_push (v := zvi 985) (n := 41) rfl,
  fun a L st h => e_ld0R (n := 42) rfl,
  fun q L st h => e_getI (kd := 18) (k := 10) (n := 45) rfl,
  fun a b L st h => e_bin (f := (fun a b => w32 (a * b))) (n := 46) rfl,
  fun a L st h => e_ld0R (n := 47) rfl,
  fun q L st h => e_getR (kd := 18) (k := 6) (n := 50) rfl,
  fun L st h => e_push (v := zvi 0) (n := 51) rfl,
  fun v0 v1 v2 v3 L st h => e_callS4 (F := mX4_copies) (n := 54) rfl,
  fun L st h => e_push (v := zvi 1) (n := 55) rfl,
  fun a L h => e_retz rfl⟩
theorem allX4_undo : zall yX4_undo cX4_undo 1 (some .boolean) 2 kX4_undo.1 :=
  ⟨k_aload_n dX4_undo_0,
  k_aload_n dX4_undo_1,
  k_getI (C := RX4) (T := TX4) (N := 42) (ci := 2) (k := 10) (ref := "LinkTimesModel") dX4_undo_2 rfl in_X4 (by decide) q1809 (Or.inl rfl) (fun _ _ _ => rfl),
  k_ifle (t := 12) dX4_undo_5 (by decide),
  k_iconst dX4_undo_8,
  k_goto (t := 13) dX4_undo_9 (by decide),
  k_iconst dX4_undo_12,
  k_callS (y2 := yX4_unless) dX4_undo_13 sndX4_unless q2069 q2070 q137 q2071 (by decide +kernel) ⟨by decide, by decide⟩ (by decide) (by decide),
  k_callV (y2 := yX4_isRefused) (C := RX4) (T0 := TX4) (ci := 2) dX4_undo_16 sndX4_isRefused rfl q1946 q1948 qs70 q137 q1949 (by decide +kernel) ⟨by decide, by decide⟩ (by decide) (by decide),
  k_ifeq (t := 24) dX4_undo_19 (by decide),
  k_iconst dX4_undo_22,
  k_zret dX4_undo_23,
  k_aload_n dX4_undo_24,
  k_dup dX4_undo_25,
  k_getI (C := RX4) (T := TX4) (N := 42) (ci := 2) (k := 10) (ref := "LinkTimesModel") dX4_undo_26 rfl in_X4 (by decide) q1809 (Or.inl rfl) (fun _ _ _ => rfl),
  k_iconst dX4_undo_29,
  k_isub dX4_undo_30,
  k_putI (C := RX4) (T := TX4) (N := 42) (ci := 2) (k := 10) (ref := "LinkTimesModel") dX4_undo_31 rfl in_X4 tyX4 tyX4_ok nmX4 (by decide) (Or.inl q1809) (Or.inl rfl) (Or.inl rfl) (tyX4_ok 10 (by decide)) (fun _ _ _ => rfl),
  k_aload_n dX4_undo_34,
  k_getR (C := RX4) (T := TX4) (N := 42) (ci := 2) (k := 9) (ref := "LinkTimesModel") dX4_undo_35 rfl in_X4 (by decide) q1808 (Or.inl rfl) (fun _ _ _ => rfl),
  k_sipush dX4_undo_38,
  k_aload_n dX4_undo_41,
  k_getI (C := RX4) (T := TX4) (N := 42) (ci := 2) (k := 10) (ref := "LinkTimesModel") dX4_undo_42 rfl in_X4 (by decide) q1809 (Or.inl rfl) (fun _ _ _ => rfl),
  k_imul dX4_undo_45,
  k_aload_n dX4_undo_46,
  k_getR (C := RX4) (T := TX4) (N := 42) (ci := 2) (k := 6) (ref := "LinkTimesModel") dX4_undo_47 rfl in_X4 (by decide) q1805 (Or.inl rfl) (fun _ _ _ => rfl),
  k_iconst dX4_undo_50,
  k_callS (y2 := yX4_copies) dX4_undo_51 sndX4_copies q2054 q2055 q137 q2056 (by decide +kernel) ⟨by decide, by decide⟩ (by decide) (by decide),
  k_iconst dX4_undo_54,
  k_zret dX4_undo_55, trivial⟩
theorem sndX4_undo : MSound 2 yX4_undo (ws_ yX4_undo cX4_undo 1 (some .boolean)) mX4_undo := msound_M (by decide) allX4_undo (fun _ _ => rfl)
/-! LinkTimesModel.still(I)I -/
noncomputable def kX4_still : ZM := ([(0, zi_ld 1 0 1), (1, zi_push (zvi 0) 2), (2, zi_putI 18 0 5), (5, zi_push (zvi 0) 6), (6, zi_st 0 2 7), (7, zi_push (zvi 0) 8), (8, zi_st 0 3 9), (9, zi_ld 1 0 10), (10, zi_getI 18 11 13), (13, zi_if (fun a => zc_eq a 0) 58 16), (16, zi_ld 0 3 17), (17, zi_ld 1 0 18), (18, zi_getR 18 6 21), (21, zi_push (zvi 1) 22), (22, zi_ald 1 23), (23, zi_cmp zc_ge 58 26), (26, zi_ld 1 0 27), (27, zi_ld 0 3 28), (28, zi_push (zvi 1) 29), (29, zi_callV mX4_runsBy 18 3 32), (32, zi_ld 1 0 33), (33, zi_ld 0 3 34), (34, zi_push (zvi 2) 35), (35, zi_callV mX4_runsBy 18 3 38), (38, zi_bin (fun a b => w32 (a + b)) 39), (39, zi_if (fun a => zc_ne a 0) 52 42), (42, zi_ld 0 2 43), (43, zi_ld 0 1 44), (44, zi_cmp zc_ne 49 47), (47, zi_ld 0 3 48), (48, zi_retv 0), (49, zi_iinc 2 1 52), (52, zi_iinc 3 1 55), (55, zi_goto 9), (58, zi_ld 1 0 59), (59, zi_push (zvi 1) 60), (60, zi_putI 18 0 63), (63, zi_push (zvi 0) 64), (64, zi_retv 0)], fun _ _ => none)
noncomputable def mX4_still : ZF := zrunM kX4_still 4
theorem enX4_still (x0 : Option Nat) (x1 : Int) (h : PH) : mX4_still [zvr x0, zvi x1] h = zev kX4_still 0 [zvr x0, zvi x1, zvu, zvu] [] h := zrunM_eq rfl rfl
theorem hdX4_still_9 (a : Option Nat) (L st : List ZV) (h : PH) : zev kX4_still 9 (zvr a :: L) st h = zev kX4_still 10 (zvr a :: L) (zvr a :: st) h := e_ld0R (n := 10) rfl
theorem rX4_still : (∀ (a : Option Nat) (L st : List ZV) (h : PH), zev kX4_still 0 (zvr a :: L) st h = zev kX4_still 1 (zvr a :: L) (zvr a :: st) h) ∧
  (∀ (L st : List ZV) (h : PH), zev kX4_still 1 L st h = zev kX4_still 2 L (zvi 0 :: st) h) ∧
  (∀ (a : Int) (q : Nat) (L st : List ZV) (h : PH), zev kX4_still 2 L (zvi a :: zvr (some q) :: st) h = if (ph_K h q).1 = 18 then zev kX4_still 5 L st (st_I h q 0 a) else none) ∧
  (∀ (L st : List ZV) (h : PH), zev kX4_still 5 L st h = zev kX4_still 6 L (zvi 0 :: st) h) ∧
  (∀ (x0 x1 x2 : ZV) (a : Int) (L st : List ZV) (h : PH) (hx : zisL x1 = false) , zev kX4_still 6 (x0 :: x1 :: x2 :: L) (zvi a :: st) h = zev kX4_still 7 (x0 :: x1 :: zvi a :: L) st h) ∧
  (∀ (L st : List ZV) (h : PH), zev kX4_still 7 L st h = zev kX4_still 8 L (zvi 0 :: st) h) ∧
  (∀ (x0 x1 x2 x3 : ZV) (a : Int) (L st : List ZV) (h : PH) (hx : zisL x2 = false) , zev kX4_still 8 (x0 :: x1 :: x2 :: x3 :: L) (zvi a :: st) h = zev kX4_still 9 (x0 :: x1 :: x2 :: zvi a :: L) st h) ∧
  (∀ (q : Nat) (L st : List ZV) (h : PH), zev kX4_still 10 L (zvr (some q) :: st) h = if (ph_K h q).1 % 1000 = 18 then zev kX4_still 13 L (zvi (ph_I h q 11) :: st) h else none) ∧
  (∀ (a : Int) (L st : List ZV) (h : PH), zev kX4_still 13 L (zvi a :: st) h = if a = 0 then zev kX4_still 58 L st h else zev kX4_still 16 L st h) ∧
  (∀ (x0 x1 x2 : ZV) (a : Int) (L st : List ZV) (h : PH), zev kX4_still 16 (x0 :: x1 :: x2 :: zvi a :: L) st h = zev kX4_still 17 (x0 :: x1 :: x2 :: zvi a :: L) (zvi a :: st) h) ∧
  (∀ (a : Option Nat) (L st : List ZV) (h : PH), zev kX4_still 17 (zvr a :: L) st h = zev kX4_still 18 (zvr a :: L) (zvr a :: st) h) ∧
  (∀ (q : Nat) (L st : List ZV) (h : PH), zev kX4_still 18 L (zvr (some q) :: st) h = if (ph_K h q).1 % 1000 = 18 then zev kX4_still 21 L (zvr (ph_R h q 6) :: st) h else none) ∧
  (∀ (L st : List ZV) (h : PH), zev kX4_still 21 L st h = zev kX4_still 22 L (zvi 1 :: st) h) ∧
  (∀ (j : Int) (q : Nat) (L st : List ZV) (h : PH), zev kX4_still 22 L (zvi j :: zvr (some q) :: st) h = if (ph_K h q).1 % 1000 = 1 ∧ 0 ≤ j ∧ j < (ph_K h q).2 then zev kX4_still 23 L (zvi (ph_I h q j) :: st) h else none) ∧
  (∀ (a b : Int) (L st : List ZV) (h : PH), zev kX4_still 23 L (zvi b :: zvi a :: st) h = if a ≥ b then zev kX4_still 58 L st h else zev kX4_still 26 L st h) ∧
  (∀ (a : Option Nat) (L st : List ZV) (h : PH), zev kX4_still 26 (zvr a :: L) st h = zev kX4_still 27 (zvr a :: L) (zvr a :: st) h) ∧
  (∀ (x0 x1 x2 : ZV) (a : Int) (L st : List ZV) (h : PH), zev kX4_still 27 (x0 :: x1 :: x2 :: zvi a :: L) st h = zev kX4_still 28 (x0 :: x1 :: x2 :: zvi a :: L) (zvi a :: st) h) ∧
  (∀ (L st : List ZV) (h : PH), zev kX4_still 28 L st h = zev kX4_still 29 L (zvi 1 :: st) h) ∧
  (∀ (v0 v1 : ZV) (q : Nat) (L st : List ZV) (h : PH), zev kX4_still 29 L (v1 :: v0 :: zvr (some q) :: st) h = if (ph_K h q).1 % 1000 = 18 ∧ zcat st ≤ 8 then zk kX4_still 29 32 L st (mX4_runsBy [zvr (some q), v0, v1] h) else none) ∧
  (∀ (a : Option Nat) (L st : List ZV) (h : PH), zev kX4_still 32 (zvr a :: L) st h = zev kX4_still 33 (zvr a :: L) (zvr a :: st) h) ∧
  (∀ (x0 x1 x2 : ZV) (a : Int) (L st : List ZV) (h : PH), zev kX4_still 33 (x0 :: x1 :: x2 :: zvi a :: L) st h = zev kX4_still 34 (x0 :: x1 :: x2 :: zvi a :: L) (zvi a :: st) h) ∧
  (∀ (L st : List ZV) (h : PH), zev kX4_still 34 L st h = zev kX4_still 35 L (zvi 2 :: st) h) ∧
  (∀ (v0 v1 : ZV) (q : Nat) (L st : List ZV) (h : PH), zev kX4_still 35 L (v1 :: v0 :: zvr (some q) :: st) h = if (ph_K h q).1 % 1000 = 18 ∧ zcat st ≤ 8 then zk kX4_still 35 38 L st (mX4_runsBy [zvr (some q), v0, v1] h) else none) ∧
  (∀ (a b : Int) (L st : List ZV) (h : PH), zev kX4_still 38 L (zvi b :: zvi a :: st) h = zev kX4_still 39 L (zvi (w32 (a + b)) :: st) h) ∧
  (∀ (a : Int) (L st : List ZV) (h : PH), zev kX4_still 39 L (zvi a :: st) h = if a ≠ 0 then zev kX4_still 52 L st h else zev kX4_still 42 L st h) ∧
  (∀ (x0 x1 : ZV) (a : Int) (L st : List ZV) (h : PH), zev kX4_still 42 (x0 :: x1 :: zvi a :: L) st h = zev kX4_still 43 (x0 :: x1 :: zvi a :: L) (zvi a :: st) h) ∧
  (∀ (x0 : ZV) (a : Int) (L st : List ZV) (h : PH), zev kX4_still 43 (x0 :: zvi a :: L) st h = zev kX4_still 44 (x0 :: zvi a :: L) (zvi a :: st) h) ∧
  (∀ (a b : Int) (L st : List ZV) (h : PH), zev kX4_still 44 L (zvi b :: zvi a :: st) h = if a ≠ b then zev kX4_still 49 L st h else zev kX4_still 47 L st h) ∧
  (∀ (x0 x1 x2 : ZV) (a : Int) (L st : List ZV) (h : PH), zev kX4_still 47 (x0 :: x1 :: x2 :: zvi a :: L) st h = zev kX4_still 48 (x0 :: x1 :: x2 :: zvi a :: L) (zvi a :: st) h) ∧
  (∀ (a : Int) (L : List ZV) (h : PH), zev kX4_still 48 L [zvi a] h = zrv (zvi a) h) ∧
  (∀ (x0 x1 : ZV) (a : Int) (L st : List ZV) (h : PH) (hx : zisL x1 = false) , zev kX4_still 49 (x0 :: x1 :: zvi a :: L) st h = zev kX4_still 52 (x0 :: x1 :: zvi (w32 (a + 1)) :: L) st h) ∧
  (∀ (x0 x1 x2 : ZV) (a : Int) (L st : List ZV) (h : PH) (hx : zisL x2 = false) , zev kX4_still 52 (x0 :: x1 :: x2 :: zvi a :: L) st h = zev kX4_still 55 (x0 :: x1 :: x2 :: zvi (w32 (a + 1)) :: L) st h) ∧
  (∀ (L st : List ZV) (h : PH), zev kX4_still 55 L st h = zev kX4_still 9 L st h) ∧
  (∀ (a : Option Nat) (L st : List ZV) (h : PH), zev kX4_still 58 (zvr a :: L) st h = zev kX4_still 59 (zvr a :: L) (zvr a :: st) h) ∧
  (∀ (L st : List ZV) (h : PH), zev kX4_still 59 L st h = zev kX4_still 60 L (zvi 1 :: st) h) ∧
  (∀ (a : Int) (q : Nat) (L st : List ZV) (h : PH), zev kX4_still 60 L (zvi a :: zvr (some q) :: st) h = if (ph_K h q).1 = 18 then zev kX4_still 63 L st (st_I h q 0 a) else none) ∧
  (∀ (L st : List ZV) (h : PH), zev kX4_still 63 L st h = zev kX4_still 64 L (zvi 0 :: st) h) ∧
  (∀ (a : Int) (L : List ZV) (h : PH), zev kX4_still 64 L [zvi a] h = zrv (zvi a) h) :=
  ⟨fun a L st h => e_ld0R (n := 1) rfl,
  fun L st h => e_push (v := zvi 0) (n := 2) rfl,
  fun a q L st h => e_putI (kd := 18) (k := 0) (n := 5) rfl,
  fun L st h => e_push (v := zvi 0) (n := 6) rfl,
  fun x0 x1 x2 a L st h hx => e_st2I (n := 7) rfl hx,
  fun L st h => e_push (v := zvi 0) (n := 8) rfl,
  fun x0 x1 x2 x3 a L st h hx => e_st3I (n := 9) rfl hx,
  fun q L st h => e_getI (kd := 18) (k := 11) (n := 13) rfl,
  fun a L st h => e_ifeq (t := 58) (n := 16) rfl,
  fun x0 x1 x2 a L st h => e_ld3I (n := 17) rfl,
  fun a L st h => e_ld0R (n := 18) rfl,
  fun q L st h => e_getR (kd := 18) (k := 6) (n := 21) rfl,
  fun L st h => e_push (v := zvi 1) (n := 22) rfl,
  fun j q L st h => e_ald (kd := 1) (n := 23) rfl,
  fun a b L st h => e_cmpge (t := 58) (n := 26) rfl,
  fun a L st h => e_ld0R (n := 27) rfl,
  fun x0 x1 x2 a L st h => e_ld3I (n := 28) rfl,
  fun L st h => e_push (v := zvi 1) (n := 29) rfl,
  fun v0 v1 q L st h => e_callV3 (F := mX4_runsBy) (kd := 18) (n := 32) rfl,
  fun a L st h => e_ld0R (n := 33) rfl,
  fun x0 x1 x2 a L st h => e_ld3I (n := 34) rfl,
  fun L st h => e_push (v := zvi 2) (n := 35) rfl,
  fun v0 v1 q L st h => e_callV3 (F := mX4_runsBy) (kd := 18) (n := 38) rfl,
  fun a b L st h => e_bin (f := (fun a b => w32 (a + b))) (n := 39) rfl,
  fun a L st h => e_ifne (t := 52) (n := 42) rfl,
  fun x0 x1 a L st h => e_ld2I (n := 43) rfl,
  fun x0 a L st h => e_ld1I (n := 44) rfl,
  fun a b L st h => e_cmpne (t := 49) (n := 47) rfl,
  fun x0 x1 x2 a L st h => e_ld3I (n := 48) rfl,
  fun a L h => e_retI rfl,
  fun x0 x1 a L st h hx => e_iinc2 (d := 1) (n := 52) rfl hx,
  fun x0 x1 x2 a L st h hx => e_iinc3 (d := 1) (n := 55) rfl hx,
  fun L st h => e_goto (t := 9) rfl,
  fun a L st h => e_ld0R (n := 59) rfl,
  fun L st h => e_push (v := zvi 1) (n := 60) rfl,
  fun a q L st h => e_putI (kd := 18) (k := 0) (n := 63) rfl,
  fun L st h => e_push (v := zvi 0) (n := 64) rfl,
  fun a L h => e_retI rfl⟩
theorem allX4_still : zall yX4_still cX4_still 4 (some .int) 4 kX4_still.1 :=
  ⟨k_aload_n dX4_still_0,
  k_iconst dX4_still_1,
  k_putI (C := RX4) (T := TX4) (N := 42) (ci := 2) (k := 0) (ref := "LinkTimesModel") dX4_still_2 rfl in_X4 tyX4 tyX4_ok nmX4 (by decide) (Or.inl q1799) (Or.inl rfl) (Or.inl rfl) (tyX4_ok 0 (by decide)) (fun _ _ _ => rfl),
  k_iconst dX4_still_5,
  k_istore_n dX4_still_6,
  k_iconst dX4_still_7,
  k_istore_n dX4_still_8,
  k_aload_n dX4_still_9,
  k_getI (C := RX4) (T := TX4) (N := 42) (ci := 2) (k := 11) (ref := "LinkTimesModel") dX4_still_10 rfl in_X4 (by decide) q1810 (Or.inl rfl) (fun _ _ _ => rfl),
  k_ifeq (t := 58) dX4_still_13 (by decide),
  k_iload_n dX4_still_16,
  k_aload_n dX4_still_17,
  k_getR (C := RX4) (T := TX4) (N := 42) (ci := 2) (k := 6) (ref := "LinkTimesModel") dX4_still_18 rfl in_X4 (by decide) q1805 (Or.inl rfl) (fun _ _ _ => rfl),
  k_iconst dX4_still_21,
  k_iald dX4_still_22,
  k_cmpge (t := 58) dX4_still_23 (by decide),
  k_aload_n dX4_still_26,
  k_iload_n dX4_still_27,
  k_iconst dX4_still_28,
  k_callV (y2 := yX4_runsBy) (C := RX4) (T0 := TX4) (ci := 2) dX4_still_29 sndX4_runsBy rfl q2088 q2090 qs94 q137 q2091 (by decide +kernel) ⟨by decide, by decide⟩ (by decide) (by decide),
  k_aload_n dX4_still_32,
  k_iload_n dX4_still_33,
  k_iconst dX4_still_34,
  k_callV (y2 := yX4_runsBy) (C := RX4) (T0 := TX4) (ci := 2) dX4_still_35 sndX4_runsBy rfl q2088 q2090 qs94 q137 q2091 (by decide +kernel) ⟨by decide, by decide⟩ (by decide) (by decide),
  k_iadd dX4_still_38,
  k_ifne (t := 52) dX4_still_39 (by decide),
  k_iload_n dX4_still_42,
  k_iload_n dX4_still_43,
  k_cmpne (t := 49) dX4_still_44 (by decide),
  k_iload_n dX4_still_47,
  k_iret dX4_still_48,
  k_iinc dX4_still_49,
  k_iinc dX4_still_52,
  k_goto (t := 9) dX4_still_55 (by decide),
  k_aload_n dX4_still_58,
  k_iconst dX4_still_59,
  k_putI (C := RX4) (T := TX4) (N := 42) (ci := 2) (k := 0) (ref := "LinkTimesModel") dX4_still_60 rfl in_X4 tyX4 tyX4_ok nmX4 (by decide) (Or.inl q1799) (Or.inl rfl) (Or.inl rfl) (tyX4_ok 0 (by decide)) (fun _ _ _ => rfl),
  k_iconst dX4_still_63,
  k_iret dX4_still_64, trivial⟩
theorem sndX4_still : MSound 4 yX4_still (ws_ yX4_still cX4_still 4 (some .int)) mX4_still := msound_M (by decide) allX4_still (fun _ _ => rfl)
/-! LinkTimesModel.lateMany()I -/
noncomputable def kX4_lateMany : ZM := ([(0, zi_push (zvi 0) 1), (1, zi_st 0 1 2), (2, zi_push (zvi 0) 3), (3, zi_st 0 2 4), (4, zi_ld 0 2 5), (5, zi_ld 1 0 6), (6, zi_getR 18 6 9), (9, zi_push (zvi 4) 10), (10, zi_ald 1 11), (11, zi_cmp zc_ge 41 14), (14, zi_ld 0 1 15), (15, zi_ld 1 0 16), (16, zi_getR 18 6 19), (19, zi_ld 0 2 20), (20, zi_push (zvi 5) 21), (21, zi_callS mX4_at 2 24), (24, zi_ald 1 25), (25, zi_if (fun a => zc_le a 0) 32 28), (28, zi_push (zvi 1) 29), (29, zi_goto 33), (32, zi_push (zvi 0) 33), (33, zi_bin (fun a b => w32 (a + b)) 34), (34, zi_st 0 1 35), (35, zi_iinc 2 1 38), (38, zi_goto 4), (41, zi_ld 0 1 42), (42, zi_retv 0)], fun _ _ => none)
noncomputable def mX4_lateMany : ZF := zrunM kX4_lateMany 3
theorem enX4_lateMany (x0 : Option Nat) (h : PH) : mX4_lateMany [zvr x0] h = zev kX4_lateMany 0 [zvr x0, zvu, zvu] [] h := zrunM_eq rfl rfl
theorem hdX4_lateMany_4 (x0 x1 : ZV) (a : Int) (L st : List ZV) (h : PH) : zev kX4_lateMany 4 (x0 :: x1 :: zvi a :: L) st h = zev kX4_lateMany 5 (x0 :: x1 :: zvi a :: L) (zvi a :: st) h := e_ld2I (n := 5) rfl
theorem rX4_lateMany : (∀ (L st : List ZV) (h : PH), zev kX4_lateMany 0 L st h = zev kX4_lateMany 1 L (zvi 0 :: st) h) ∧
  (∀ (x0 x1 : ZV) (a : Int) (L st : List ZV) (h : PH) (hx : zisL x0 = false) , zev kX4_lateMany 1 (x0 :: x1 :: L) (zvi a :: st) h = zev kX4_lateMany 2 (x0 :: zvi a :: L) st h) ∧
  (∀ (L st : List ZV) (h : PH), zev kX4_lateMany 2 L st h = zev kX4_lateMany 3 L (zvi 0 :: st) h) ∧
  (∀ (x0 x1 x2 : ZV) (a : Int) (L st : List ZV) (h : PH) (hx : zisL x1 = false) , zev kX4_lateMany 3 (x0 :: x1 :: x2 :: L) (zvi a :: st) h = zev kX4_lateMany 4 (x0 :: x1 :: zvi a :: L) st h) ∧
  (∀ (a : Option Nat) (L st : List ZV) (h : PH), zev kX4_lateMany 5 (zvr a :: L) st h = zev kX4_lateMany 6 (zvr a :: L) (zvr a :: st) h) ∧
  (∀ (q : Nat) (L st : List ZV) (h : PH), zev kX4_lateMany 6 L (zvr (some q) :: st) h = if (ph_K h q).1 % 1000 = 18 then zev kX4_lateMany 9 L (zvr (ph_R h q 6) :: st) h else none) ∧
  (∀ (L st : List ZV) (h : PH), zev kX4_lateMany 9 L st h = zev kX4_lateMany 10 L (zvi 4 :: st) h) ∧
  (∀ (j : Int) (q : Nat) (L st : List ZV) (h : PH), zev kX4_lateMany 10 L (zvi j :: zvr (some q) :: st) h = if (ph_K h q).1 % 1000 = 1 ∧ 0 ≤ j ∧ j < (ph_K h q).2 then zev kX4_lateMany 11 L (zvi (ph_I h q j) :: st) h else none) ∧
  (∀ (a b : Int) (L st : List ZV) (h : PH), zev kX4_lateMany 11 L (zvi b :: zvi a :: st) h = if a ≥ b then zev kX4_lateMany 41 L st h else zev kX4_lateMany 14 L st h) ∧
  (∀ (x0 : ZV) (a : Int) (L st : List ZV) (h : PH), zev kX4_lateMany 14 (x0 :: zvi a :: L) st h = zev kX4_lateMany 15 (x0 :: zvi a :: L) (zvi a :: st) h) ∧
  (∀ (a : Option Nat) (L st : List ZV) (h : PH), zev kX4_lateMany 15 (zvr a :: L) st h = zev kX4_lateMany 16 (zvr a :: L) (zvr a :: st) h) ∧
  (∀ (q : Nat) (L st : List ZV) (h : PH), zev kX4_lateMany 16 L (zvr (some q) :: st) h = if (ph_K h q).1 % 1000 = 18 then zev kX4_lateMany 19 L (zvr (ph_R h q 6) :: st) h else none) ∧
  (∀ (x0 x1 : ZV) (a : Int) (L st : List ZV) (h : PH), zev kX4_lateMany 19 (x0 :: x1 :: zvi a :: L) st h = zev kX4_lateMany 20 (x0 :: x1 :: zvi a :: L) (zvi a :: st) h) ∧
  (∀ (L st : List ZV) (h : PH), zev kX4_lateMany 20 L st h = zev kX4_lateMany 21 L (zvi 5 :: st) h) ∧
  (∀ (v0 v1 : ZV) (L st : List ZV) (h : PH), zev kX4_lateMany 21 L (v1 :: v0 :: st) h = if zcat st ≤ 8 then zk kX4_lateMany 21 24 L st (mX4_at [v0, v1] h) else none) ∧
  (∀ (j : Int) (q : Nat) (L st : List ZV) (h : PH), zev kX4_lateMany 24 L (zvi j :: zvr (some q) :: st) h = if (ph_K h q).1 % 1000 = 1 ∧ 0 ≤ j ∧ j < (ph_K h q).2 then zev kX4_lateMany 25 L (zvi (ph_I h q j) :: st) h else none) ∧
  (∀ (a : Int) (L st : List ZV) (h : PH), zev kX4_lateMany 25 L (zvi a :: st) h = if a ≤ 0 then zev kX4_lateMany 32 L st h else zev kX4_lateMany 28 L st h) ∧
  (∀ (L st : List ZV) (h : PH), zev kX4_lateMany 28 L st h = zev kX4_lateMany 29 L (zvi 1 :: st) h) ∧
  (∀ (L st : List ZV) (h : PH), zev kX4_lateMany 29 L st h = zev kX4_lateMany 33 L st h) ∧
  (∀ (L st : List ZV) (h : PH), zev kX4_lateMany 32 L st h = zev kX4_lateMany 33 L (zvi 0 :: st) h) ∧
  (∀ (a b : Int) (L st : List ZV) (h : PH), zev kX4_lateMany 33 L (zvi b :: zvi a :: st) h = zev kX4_lateMany 34 L (zvi (w32 (a + b)) :: st) h) ∧
  (∀ (x0 x1 : ZV) (a : Int) (L st : List ZV) (h : PH) (hx : zisL x0 = false) , zev kX4_lateMany 34 (x0 :: x1 :: L) (zvi a :: st) h = zev kX4_lateMany 35 (x0 :: zvi a :: L) st h) ∧
  (∀ (x0 x1 : ZV) (a : Int) (L st : List ZV) (h : PH) (hx : zisL x1 = false) , zev kX4_lateMany 35 (x0 :: x1 :: zvi a :: L) st h = zev kX4_lateMany 38 (x0 :: x1 :: zvi (w32 (a + 1)) :: L) st h) ∧
  (∀ (L st : List ZV) (h : PH), zev kX4_lateMany 38 L st h = zev kX4_lateMany 4 L st h) ∧
  (∀ (x0 : ZV) (a : Int) (L st : List ZV) (h : PH), zev kX4_lateMany 41 (x0 :: zvi a :: L) st h = zev kX4_lateMany 42 (x0 :: zvi a :: L) (zvi a :: st) h) ∧
  (∀ (a : Int) (L : List ZV) (h : PH), zev kX4_lateMany 42 L [zvi a] h = zrv (zvi a) h) :=
  ⟨fun L st h => e_push (v := zvi 0) (n := 1) rfl,
  fun x0 x1 a L st h hx => e_st1I (n := 2) rfl hx,
  fun L st h => e_push (v := zvi 0) (n := 3) rfl,
  fun x0 x1 x2 a L st h hx => e_st2I (n := 4) rfl hx,
  fun a L st h => e_ld0R (n := 6) rfl,
  fun q L st h => e_getR (kd := 18) (k := 6) (n := 9) rfl,
  fun L st h => e_push (v := zvi 4) (n := 10) rfl,
  fun j q L st h => e_ald (kd := 1) (n := 11) rfl,
  fun a b L st h => e_cmpge (t := 41) (n := 14) rfl,
  fun x0 a L st h => e_ld1I (n := 15) rfl,
  fun a L st h => e_ld0R (n := 16) rfl,
  fun q L st h => e_getR (kd := 18) (k := 6) (n := 19) rfl,
  fun x0 x1 a L st h => e_ld2I (n := 20) rfl,
  fun L st h => e_push (v := zvi 5) (n := 21) rfl,
  fun v0 v1 L st h => e_callS2 (F := mX4_at) (n := 24) rfl,
  fun j q L st h => e_ald (kd := 1) (n := 25) rfl,
  fun a L st h => e_ifle (t := 32) (n := 28) rfl,
  fun L st h => e_push (v := zvi 1) (n := 29) rfl,
  fun L st h => e_goto (t := 33) rfl,
  fun L st h => e_push (v := zvi 0) (n := 33) rfl,
  fun a b L st h => e_bin (f := (fun a b => w32 (a + b))) (n := 34) rfl,
  fun x0 x1 a L st h hx => e_st1I (n := 35) rfl hx,
  fun x0 x1 a L st h hx => e_iinc2 (d := 1) (n := 38) rfl hx,
  fun L st h => e_goto (t := 4) rfl,
  fun x0 a L st h => e_ld1I (n := 42) rfl,
  fun a L h => e_retI rfl⟩
theorem allX4_lateMany : zall yX4_lateMany cX4_lateMany 3 (some .int) 2 kX4_lateMany.1 :=
  ⟨k_iconst dX4_lateMany_0,
  k_istore_n dX4_lateMany_1,
  k_iconst dX4_lateMany_2,
  k_istore_n dX4_lateMany_3,
  k_iload_n dX4_lateMany_4,
  k_aload_n dX4_lateMany_5,
  k_getR (C := RX4) (T := TX4) (N := 42) (ci := 2) (k := 6) (ref := "LinkTimesModel") dX4_lateMany_6 rfl in_X4 (by decide) q1805 (Or.inl rfl) (fun _ _ _ => rfl),
  k_iconst dX4_lateMany_9,
  k_iald dX4_lateMany_10,
  k_cmpge (t := 41) dX4_lateMany_11 (by decide),
  k_iload_n dX4_lateMany_14,
  k_aload_n dX4_lateMany_15,
  k_getR (C := RX4) (T := TX4) (N := 42) (ci := 2) (k := 6) (ref := "LinkTimesModel") dX4_lateMany_16 rfl in_X4 (by decide) q1805 (Or.inl rfl) (fun _ _ _ => rfl),
  k_iload_n dX4_lateMany_19,
  k_iconst dX4_lateMany_20,
  k_callS (y2 := yX4_at) dX4_lateMany_21 sndX4_at q2047 q2048 q137 q2049 (by decide +kernel) ⟨by decide, by decide⟩ (by decide) (by decide),
  k_iald dX4_lateMany_24,
  k_ifle (t := 32) dX4_lateMany_25 (by decide),
  k_iconst dX4_lateMany_28,
  k_goto (t := 33) dX4_lateMany_29 (by decide),
  k_iconst dX4_lateMany_32,
  k_iadd dX4_lateMany_33,
  k_istore_n dX4_lateMany_34,
  k_iinc dX4_lateMany_35,
  k_goto (t := 4) dX4_lateMany_38 (by decide),
  k_iload_n dX4_lateMany_41,
  k_iret dX4_lateMany_42, trivial⟩
theorem sndX4_lateMany : MSound 2 yX4_lateMany (ws_ yX4_lateMany cX4_lateMany 3 (some .int)) mX4_lateMany := msound_M (by decide) allX4_lateMany (fun _ _ => rfl)
/-! LinkTimesModel.size(I)I -/
noncomputable def kX4_size : ZM := ([(0, zi_ld 1 0 1), (1, zi_push (zvi 0) 2), (2, zi_putI 18 0 5), (5, zi_ld 0 1 6), (6, zi_sw 0 2 [32, 37, 42] 47), (32, zi_ld 1 0 33), (33, zi_getI 18 5 36), (36, zi_retv 0), (37, zi_ld 1 0 38), (38, zi_getI 18 10 41), (41, zi_retv 0), (42, zi_ld 1 0 43), (43, zi_callV mX4_lateMany 18 1 46), (46, zi_retv 0), (47, zi_push (zvi (-1)) 48), (48, zi_retv 0)], fun _ _ => none)
noncomputable def mX4_size : ZF := zrunM kX4_size 2
theorem enX4_size (x0 : Option Nat) (x1 : Int) (h : PH) : mX4_size [zvr x0, zvi x1] h = zev kX4_size 0 [zvr x0, zvi x1] [] h := zrunM_eq rfl rfl
theorem rX4_size : (∀ (a : Option Nat) (L st : List ZV) (h : PH), zev kX4_size 0 (zvr a :: L) st h = zev kX4_size 1 (zvr a :: L) (zvr a :: st) h) ∧
  (∀ (L st : List ZV) (h : PH), zev kX4_size 1 L st h = zev kX4_size 2 L (zvi 0 :: st) h) ∧
  (∀ (a : Int) (q : Nat) (L st : List ZV) (h : PH), zev kX4_size 2 L (zvi a :: zvr (some q) :: st) h = if (ph_K h q).1 = 18 then zev kX4_size 5 L st (st_I h q 0 a) else none) ∧
  (∀ (x0 : ZV) (a : Int) (L st : List ZV) (h : PH), zev kX4_size 5 (x0 :: zvi a :: L) st h = zev kX4_size 6 (x0 :: zvi a :: L) (zvi a :: st) h) ∧
  (∀ (a : Int) (L st : List ZV) (h : PH), zev kX4_size 6 L (zvi a :: st) h = zev kX4_size (zswt 0 2 [32, 37, 42] 47 a) L st h) ∧
  (∀ (a : Option Nat) (L st : List ZV) (h : PH), zev kX4_size 32 (zvr a :: L) st h = zev kX4_size 33 (zvr a :: L) (zvr a :: st) h) ∧
  (∀ (q : Nat) (L st : List ZV) (h : PH), zev kX4_size 33 L (zvr (some q) :: st) h = if (ph_K h q).1 % 1000 = 18 then zev kX4_size 36 L (zvi (ph_I h q 5) :: st) h else none) ∧
  (∀ (a : Int) (L : List ZV) (h : PH), zev kX4_size 36 L [zvi a] h = zrv (zvi a) h) ∧
  (∀ (a : Option Nat) (L st : List ZV) (h : PH), zev kX4_size 37 (zvr a :: L) st h = zev kX4_size 38 (zvr a :: L) (zvr a :: st) h) ∧
  (∀ (q : Nat) (L st : List ZV) (h : PH), zev kX4_size 38 L (zvr (some q) :: st) h = if (ph_K h q).1 % 1000 = 18 then zev kX4_size 41 L (zvi (ph_I h q 10) :: st) h else none) ∧
  (∀ (a : Int) (L : List ZV) (h : PH), zev kX4_size 41 L [zvi a] h = zrv (zvi a) h) ∧
  (∀ (a : Option Nat) (L st : List ZV) (h : PH), zev kX4_size 42 (zvr a :: L) st h = zev kX4_size 43 (zvr a :: L) (zvr a :: st) h) ∧
  (∀ (q : Nat) (L st : List ZV) (h : PH), zev kX4_size 43 L (zvr (some q) :: st) h = if (ph_K h q).1 % 1000 = 18 ∧ zcat st ≤ 8 then zk kX4_size 43 46 L st (mX4_lateMany [zvr (some q)] h) else none) ∧
  (∀ (a : Int) (L : List ZV) (h : PH), zev kX4_size 46 L [zvi a] h = zrv (zvi a) h) ∧
  (∀ (L st : List ZV) (h : PH), zev kX4_size 47 L st h = zev kX4_size 48 L (zvi (-1) :: st) h) ∧
  (∀ (a : Int) (L : List ZV) (h : PH), zev kX4_size 48 L [zvi a] h = zrv (zvi a) h) :=
  ⟨fun a L st h => e_ld0R (n := 1) rfl,
  fun L st h => e_push (v := zvi 0) (n := 2) rfl,
  fun a q L st h => e_putI (kd := 18) (k := 0) (n := 5) rfl,
  fun x0 a L st h => e_ld1I (n := 6) rfl,
  fun a L st h => e_sw (lo := 0) (hi := 2) (ts := [32, 37, 42]) (d := 47) rfl,
  fun a L st h => e_ld0R (n := 33) rfl,
  fun q L st h => e_getI (kd := 18) (k := 5) (n := 36) rfl,
  fun a L h => e_retI rfl,
  fun a L st h => e_ld0R (n := 38) rfl,
  fun q L st h => e_getI (kd := 18) (k := 10) (n := 41) rfl,
  fun a L h => e_retI rfl,
  fun a L st h => e_ld0R (n := 43) rfl,
  fun q L st h => e_callV1 (F := mX4_lateMany) (kd := 18) (n := 46) rfl,
  fun a L h => e_retI rfl,
  fun L st h => e_push (v := zvi (-1)) (n := 48) rfl,
  fun a L h => e_retI rfl⟩
theorem allX4_size : zall yX4_size cX4_size 2 (some .int) 3 kX4_size.1 :=
  ⟨k_aload_n dX4_size_0,
  k_iconst dX4_size_1,
  k_putI (C := RX4) (T := TX4) (N := 42) (ci := 2) (k := 0) (ref := "LinkTimesModel") dX4_size_2 rfl in_X4 tyX4 tyX4_ok nmX4 (by decide) (Or.inl q1799) (Or.inl rfl) (Or.inl rfl) (tyX4_ok 0 (by decide)) (fun _ _ _ => rfl),
  k_iload_n dX4_size_5,
  k_sw (ts := [32, 37, 42]) (dt := 47) dX4_size_6 (by decide) (by decide) (by decide),
  k_aload_n dX4_size_32,
  k_getI (C := RX4) (T := TX4) (N := 42) (ci := 2) (k := 5) (ref := "LinkTimesModel") dX4_size_33 rfl in_X4 (by decide) q1804 (Or.inl rfl) (fun _ _ _ => rfl),
  k_iret dX4_size_36,
  k_aload_n dX4_size_37,
  k_getI (C := RX4) (T := TX4) (N := 42) (ci := 2) (k := 10) (ref := "LinkTimesModel") dX4_size_38 rfl in_X4 (by decide) q1809 (Or.inl rfl) (fun _ _ _ => rfl),
  k_iret dX4_size_41,
  k_aload_n dX4_size_42,
  k_callV (y2 := yX4_lateMany) (C := RX4) (T0 := TX4) (ci := 2) dX4_size_43 sndX4_lateMany rfl q2371 q2373 qs126 q137 q2374 (by decide +kernel) ⟨by decide, by decide⟩ (by decide) (by decide),
  k_iret dX4_size_46,
  k_iconst dX4_size_47,
  k_iret dX4_size_48, trivial⟩
theorem sndX4_size : MSound 3 yX4_size (ws_ yX4_size cX4_size 2 (some .int)) mX4_size := msound_M (by decide) allX4_size (fun _ _ => rfl)
/-! LinkTimesModel.trouble()I -/
noncomputable def kX4_trouble : ZM := ([(0, zi_ld 1 0 1), (1, zi_push (zvi 0) 2), (2, zi_putI 18 0 5), (5, zi_ld 1 0 6), (6, zi_getI 18 1 9), (9, zi_retv 0)], fun _ _ => none)
noncomputable def mX4_trouble : ZF := zrunM kX4_trouble 1
theorem enX4_trouble (x0 : Option Nat) (h : PH) : mX4_trouble [zvr x0] h = zev kX4_trouble 0 [zvr x0] [] h := zrunM_eq rfl rfl
theorem rX4_trouble : (∀ (a : Option Nat) (L st : List ZV) (h : PH), zev kX4_trouble 0 (zvr a :: L) st h = zev kX4_trouble 1 (zvr a :: L) (zvr a :: st) h) ∧
  (∀ (L st : List ZV) (h : PH), zev kX4_trouble 1 L st h = zev kX4_trouble 2 L (zvi 0 :: st) h) ∧
  (∀ (a : Int) (q : Nat) (L st : List ZV) (h : PH), zev kX4_trouble 2 L (zvi a :: zvr (some q) :: st) h = if (ph_K h q).1 = 18 then zev kX4_trouble 5 L st (st_I h q 0 a) else none) ∧
  (∀ (a : Option Nat) (L st : List ZV) (h : PH), zev kX4_trouble 5 (zvr a :: L) st h = zev kX4_trouble 6 (zvr a :: L) (zvr a :: st) h) ∧
  (∀ (q : Nat) (L st : List ZV) (h : PH), zev kX4_trouble 6 L (zvr (some q) :: st) h = if (ph_K h q).1 % 1000 = 18 then zev kX4_trouble 9 L (zvi (ph_I h q 1) :: st) h else none) ∧
  (∀ (a : Int) (L : List ZV) (h : PH), zev kX4_trouble 9 L [zvi a] h = zrv (zvi a) h) :=
  ⟨fun a L st h => e_ld0R (n := 1) rfl,
  fun L st h => e_push (v := zvi 0) (n := 2) rfl,
  fun a q L st h => e_putI (kd := 18) (k := 0) (n := 5) rfl,
  fun a L st h => e_ld0R (n := 6) rfl,
  fun q L st h => e_getI (kd := 18) (k := 1) (n := 9) rfl,
  fun a L h => e_retI rfl⟩
theorem allX4_trouble : zall yX4_trouble cX4_trouble 1 (some .int) 1 kX4_trouble.1 :=
  ⟨k_aload_n dX4_trouble_0,
  k_iconst dX4_trouble_1,
  k_putI (C := RX4) (T := TX4) (N := 42) (ci := 2) (k := 0) (ref := "LinkTimesModel") dX4_trouble_2 rfl in_X4 tyX4 tyX4_ok nmX4 (by decide) (Or.inl q1799) (Or.inl rfl) (Or.inl rfl) (tyX4_ok 0 (by decide)) (fun _ _ _ => rfl),
  k_aload_n dX4_trouble_5,
  k_getI (C := RX4) (T := TX4) (N := 42) (ci := 2) (k := 1) (ref := "LinkTimesModel") dX4_trouble_6 rfl in_X4 (by decide) q1800 (Or.inl rfl) (fun _ _ _ => rfl),
  k_iret dX4_trouble_9, trivial⟩
theorem sndX4_trouble : MSound 1 yX4_trouble (ws_ yX4_trouble cX4_trouble 1 (some .int)) mX4_trouble := msound_M (by decide) allX4_trouble (fun _ _ => rfl)
