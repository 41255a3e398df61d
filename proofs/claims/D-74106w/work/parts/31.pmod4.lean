/-! Z program: LinkTimesModel (written by gen/gen_prog.py) -/
set_option maxRecDepth 100000
/-! LinkTimesModel.arrives(III)I -/
noncomputable def kX4_arrives : ZM := ([(0, zi_ld 1 0 1), (1, zi_ld 1 0 2), (2, zi_ld 0 1 3), (3, zi_ld 0 2 4), (4, zi_ld 0 3 5), (5, zi_callV mX4_wayWhy 18 4 8), (8, zi_callV mX4_isRefused 18 2 11), (11, zi_if (fun a => zc_eq a 0) 18 14), (14, zi_push (zvi (-1)) 15), (15, zi_goto 25), (18, zi_ld 1 0 19), (19, zi_ld 0 1 20), (20, zi_ld 0 2 21), (21, zi_ld 0 3 22), (22, zi_callV mX4_best 18 4 25), (25, zi_retv 0)], fun _ _ => none)
noncomputable def mX4_arrives : ZF := zrunM kX4_arrives 4
theorem enX4_arrives (x0 : Option Nat) (x1 : Int) (x2 : Int) (x3 : Int) (h : PH) : mX4_arrives [zvr x0, zvi x1, zvi x2, zvi x3] h = zev kX4_arrives 0 [zvr x0, zvi x1, zvi x2, zvi x3] [] h := zrunM_eq rfl rfl
theorem rX4_arrives : (∀ (a : Option Nat) (L st : List ZV) (h : PH), zev kX4_arrives 0 (zvr a :: L) st h = zev kX4_arrives 1 (zvr a :: L) (zvr a :: st) h) ∧
  (∀ (a : Option Nat) (L st : List ZV) (h : PH), zev kX4_arrives 1 (zvr a :: L) st h = zev kX4_arrives 2 (zvr a :: L) (zvr a :: st) h) ∧
  (∀ (x0 : ZV) (a : Int) (L st : List ZV) (h : PH), zev kX4_arrives 2 (x0 :: zvi a :: L) st h = zev kX4_arrives 3 (x0 :: zvi a :: L) (zvi a :: st) h) ∧
  (∀ (x0 x1 : ZV) (a : Int) (L st : List ZV) (h : PH), zev kX4_arrives 3 (x0 :: x1 :: zvi a :: L) st h = zev kX4_arrives 4 (x0 :: x1 :: zvi a :: L) (zvi a :: st) h) ∧
  (∀ (x0 x1 x2 : ZV) (a : Int) (L st : List ZV) (h : PH), zev kX4_arrives 4 (x0 :: x1 :: x2 :: zvi a :: L) st h = zev kX4_arrives 5 (x0 :: x1 :: x2 :: zvi a :: L) (zvi a :: st) h) ∧
  (∀ (v0 v1 v2 : ZV) (q : Nat) (L st : List ZV) (h : PH), zev kX4_arrives 5 L (v2 :: v1 :: v0 :: zvr (some q) :: st) h = if (ph_K h q).1 % 1000 = 18 ∧ zcat st ≤ 8 then zk kX4_arrives 5 8 L st (mX4_wayWhy [zvr (some q), v0, v1, v2] h) else none) ∧
  (∀ (v0 : ZV) (q : Nat) (L st : List ZV) (h : PH), zev kX4_arrives 8 L (v0 :: zvr (some q) :: st) h = if (ph_K h q).1 % 1000 = 18 ∧ zcat st ≤ 8 then zk kX4_arrives 8 11 L st (mX4_isRefused [zvr (some q), v0] h) else none) ∧
  (∀ (a : Int) (L st : List ZV) (h : PH), zev kX4_arrives 11 L (zvi a :: st) h = if a = 0 then zev kX4_arrives 18 L st h else zev kX4_arrives 14 L st h) ∧
  (∀ (L st : List ZV) (h : PH), zev kX4_arrives 14 L st h = zev kX4_arrives 15 L (zvi (-1) :: st) h) ∧
  (∀ (L st : List ZV) (h : PH), zev kX4_arrives 15 L st h = zev kX4_arrives 25 L st h) ∧
  (∀ (a : Option Nat) (L st : List ZV) (h : PH), zev kX4_arrives 18 (zvr a :: L) st h = zev kX4_arrives 19 (zvr a :: L) (zvr a :: st) h) ∧
  (∀ (x0 : ZV) (a : Int) (L st : List ZV) (h : PH), zev kX4_arrives 19 (x0 :: zvi a :: L) st h = zev kX4_arrives 20 (x0 :: zvi a :: L) (zvi a :: st) h) ∧
  (∀ (x0 x1 : ZV) (a : Int) (L st : List ZV) (h : PH), zev kX4_arrives 20 (x0 :: x1 :: zvi a :: L) st h = zev kX4_arrives 21 (x0 :: x1 :: zvi a :: L) (zvi a :: st) h) ∧
  (∀ (x0 x1 x2 : ZV) (a : Int) (L st : List ZV) (h : PH), zev kX4_arrives 21 (x0 :: x1 :: x2 :: zvi a :: L) st h = zev kX4_arrives 22 (x0 :: x1 :: x2 :: zvi a :: L) (zvi a :: st) h) ∧
  (∀ (v0 v1 v2 : ZV) (q : Nat) (L st : List ZV) (h : PH), zev kX4_arrives 22 L (v2 :: v1 :: v0 :: zvr (some q) :: st) h = if (ph_K h q).1 % 1000 = 18 ∧ zcat st ≤ 8 then zk kX4_arrives 22 25 L st (mX4_best [zvr (some q), v0, v1, v2] h) else none) ∧
  (∀ (a : Int) (L : List ZV) (h : PH), zev kX4_arrives 25 L [zvi a] h = zrv (zvi a) h) :=
  ⟨fun a L st h => e_ld0R (n := 1) rfl,
  fun a L st h => e_ld0R (n := 2) rfl,
  fun x0 a L st h => e_ld1I (n := 3) rfl,
  fun x0 x1 a L st h => e_ld2I (n := 4) rfl,
  fun x0 x1 x2 a L st h => e_ld3I (n := 5) rfl,
  fun v0 v1 v2 q L st h => e_callV4 (F := mX4_wayWhy) (kd := 18) (n := 8) rfl,
  fun v0 q L st h => e_callV2 (F := mX4_isRefused) (kd := 18) (n := 11) rfl,
  fun a L st h => e_ifeq (t := 18) (n := 14) rfl,
  fun L st h => e_push (v := zvi (-1)) (n := 15) rfl,
  fun L st h => e_goto (t := 25) rfl,
  fun a L st h => e_ld0R (n := 19) rfl,
  fun x0 a L st h => e_ld1I (n := 20) rfl,
  fun x0 x1 a L st h => e_ld2I (n := 21) rfl,
  fun x0 x1 x2 a L st h => e_ld3I (n := 22) rfl,
  fun v0 v1 v2 q L st h => e_callV4 (F := mX4_best) (kd := 18) (n := 25) rfl,
  fun a L h => e_retI rfl⟩
theorem allX4_arrives : zall yX4_arrives cX4_arrives 4 (some .int) 8 kX4_arrives.1 :=
  ⟨k_aload_n dX4_arrives_0,
  k_aload_n dX4_arrives_1,
  k_iload_n dX4_arrives_2,
  k_iload_n dX4_arrives_3,
  k_iload_n dX4_arrives_4,
  k_callV (y2 := yX4_wayWhy) (C := RX4) (T0 := TX4) (ci := 2) dX4_arrives_5 sndX4_wayWhy rfl q2116 q2118 qs98 q137 q2119 (by decide +kernel) ⟨by decide, by decide⟩ (by decide) (by decide),
  k_callV (y2 := yX4_isRefused) (C := RX4) (T0 := TX4) (ci := 2) dX4_arrives_8 sndX4_isRefused rfl q1946 q1948 qs70 q137 q1949 (by decide +kernel) ⟨by decide, by decide⟩ (by decide) (by decide),
  k_ifeq (t := 18) dX4_arrives_11 (by decide),
  k_iconst dX4_arrives_14,
  k_goto (t := 25) dX4_arrives_15 (by decide),
  k_aload_n dX4_arrives_18,
  k_iload_n dX4_arrives_19,
  k_iload_n dX4_arrives_20,
  k_iload_n dX4_arrives_21,
  k_callV (y2 := yX4_best) (C := RX4) (T0 := TX4) (ci := 2) dX4_arrives_22 sndX4_best rfl q2123 q2125 qs99 q137 q2126 (by decide +kernel) ⟨by decide, by decide⟩ (by decide) (by decide),
  k_iret dX4_arrives_25, trivial⟩
theorem sndX4_arrives : MSound 8 yX4_arrives (ws_ yX4_arrives cX4_arrives 4 (some .int)) mX4_arrives := msound_M (by decide) allX4_arrives (fun _ _ => rfl)
/-! LinkTimesModel.begins(III)I -/
noncomputable def kX4_begins_2 : ZM := ([(0, zi_ld 1 0 1), (1, zi_ld 0 1 2), (2, zi_ld 0 2 3), (3, zi_ld 0 3 4), (4, zi_callV mX4_best 18 4 7), (7, zi_st 0 4 9), (9, zi_ld 0 1 10), (10, zi_ld 0 2 11), (11, zi_cmp zc_eq 21 14), (14, zi_ld 0 4 16), (16, zi_push (zvi (-2)) 18), (18, zi_cmp zc_ne 25 21), (21, zi_push (zvi (-1)) 22), (22, zi_goto 31), (25, zi_ld 1 0 26), (26, zi_ld 0 1 27), (27, zi_ld 0 3 28), (28, zi_callV mX4_firstOf 18 3 31), (31, zi_retv 0)], fun _ _ => none)
noncomputable def mX4_begins_2 : ZF := zrunM kX4_begins_2 5
theorem enX4_begins_2 (x0 : Option Nat) (x1 : Int) (x2 : Int) (x3 : Int) (h : PH) : mX4_begins_2 [zvr x0, zvi x1, zvi x2, zvi x3] h = zev kX4_begins_2 0 [zvr x0, zvi x1, zvi x2, zvi x3, zvu] [] h := zrunM_eq rfl rfl
theorem rX4_begins_2 : (∀ (a : Option Nat) (L st : List ZV) (h : PH), zev kX4_begins_2 0 (zvr a :: L) st h = zev kX4_begins_2 1 (zvr a :: L) (zvr a :: st) h) ∧
  (∀ (x0 : ZV) (a : Int) (L st : List ZV) (h : PH), zev kX4_begins_2 1 (x0 :: zvi a :: L) st h = zev kX4_begins_2 2 (x0 :: zvi a :: L) (zvi a :: st) h) ∧
  (∀ (x0 x1 : ZV) (a : Int) (L st : List ZV) (h : PH), zev kX4_begins_2 2 (x0 :: x1 :: zvi a :: L) st h = zev kX4_begins_2 3 (x0 :: x1 :: zvi a :: L) (zvi a :: st) h) ∧
  (∀ (x0 x1 x2 : ZV) (a : Int) (L st : List ZV) (h : PH), zev kX4_begins_2 3 (x0 :: x1 :: x2 :: zvi a :: L) st h = zev kX4_begins_2 4 (x0 :: x1 :: x2 :: zvi a :: L) (zvi a :: st) h) ∧
  (∀ (v0 v1 v2 : ZV) (q : Nat) (L st : List ZV) (h : PH), zev kX4_begins_2 4 L (v2 :: v1 :: v0 :: zvr (some q) :: st) h = if (ph_K h q).1 % 1000 = 18 ∧ zcat st ≤ 8 then zk kX4_begins_2 4 7 L st (mX4_best [zvr (some q), v0, v1, v2] h) else none) ∧
  (∀ (x0 x1 x2 x3 x4 : ZV) (a : Int) (L st : List ZV) (h : PH) (hx : zisL x3 = false) , zev kX4_begins_2 7 (x0 :: x1 :: x2 :: x3 :: x4 :: L) (zvi a :: st) h = zev kX4_begins_2 9 (x0 :: x1 :: x2 :: x3 :: zvi a :: L) st h) ∧
  (∀ (x0 : ZV) (a : Int) (L st : List ZV) (h : PH), zev kX4_begins_2 9 (x0 :: zvi a :: L) st h = zev kX4_begins_2 10 (x0 :: zvi a :: L) (zvi a :: st) h) ∧
  (∀ (x0 x1 : ZV) (a : Int) (L st : List ZV) (h : PH), zev kX4_begins_2 10 (x0 :: x1 :: zvi a :: L) st h = zev kX4_begins_2 11 (x0 :: x1 :: zvi a :: L) (zvi a :: st) h) ∧
  (∀ (a b : Int) (L st : List ZV) (h : PH), zev kX4_begins_2 11 L (zvi b :: zvi a :: st) h = if a = b then zev kX4_begins_2 21 L st h else zev kX4_begins_2 14 L st h) ∧
  (∀ (x0 x1 x2 x3 : ZV) (a : Int) (L st : List ZV) (h : PH), zev kX4_begins_2 14 (x0 :: x1 :: x2 :: x3 :: zvi a :: L) st h = zev kX4_begins_2 16 (x0 :: x1 :: x2 :: x3 :: zvi a :: L) (zvi a :: st) h) ∧
  (∀ (L st : List ZV) (h : PH), zev kX4_begins_2 16 L st h = zev kX4_begins_2 18 L (zvi (-2) :: st) h) ∧
  (∀ (a b : Int) (L st : List ZV) (h : PH), zev kX4_begins_2 18 L (zvi b :: zvi a :: st) h = if a ≠ b then zev kX4_begins_2 25 L st h else zev kX4_begins_2 21 L st h) ∧
  (∀ (L st : List ZV) (h : PH), zev kX4_begins_2 21 L st h = zev kX4_begins_2 22 L (zvi (-1) :: st) h) ∧
  (∀ (L st : List ZV) (h : PH), zev kX4_begins_2 22 L st h = zev kX4_begins_2 31 L st h) ∧
  (∀ (a : Option Nat) (L st : List ZV) (h : PH), zev kX4_begins_2 25 (zvr a :: L) st h = zev kX4_begins_2 26 (zvr a :: L) (zvr a :: st) h) ∧
  (∀ (x0 : ZV) (a : Int) (L st : List ZV) (h : PH), zev kX4_begins_2 26 (x0 :: zvi a :: L) st h = zev kX4_begins_2 27 (x0 :: zvi a :: L) (zvi a :: st) h) ∧
  (∀ (x0 x1 x2 : ZV) (a : Int) (L st : List ZV) (h : PH), zev kX4_begins_2 27 (x0 :: x1 :: x2 :: zvi a :: L) st h = zev kX4_begins_2 28 (x0 :: x1 :: x2 :: zvi a :: L) (zvi a :: st) h) ∧
  (∀ (v0 v1 : ZV) (q : Nat) (L st : List ZV) (h : PH), zev kX4_begins_2 28 L (v1 :: v0 :: zvr (some q) :: st) h = if (ph_K h q).1 % 1000 = 18 ∧ zcat st ≤ 8 then zk kX4_begins_2 28 31 L st (mX4_firstOf [zvr (some q), v0, v1] h) else none) ∧
  (∀ (a : Int) (L : List ZV) (h : PH), zev kX4_begins_2 31 L [zvi a] h = zrv (zvi a) h) :=
  ⟨fun a L st h => e_ld0R (n := 1) rfl,
  fun x0 a L st h => e_ld1I (n := 2) rfl,
  fun x0 x1 a L st h => e_ld2I (n := 3) rfl,
  fun x0 x1 x2 a L st h => e_ld3I (n := 4) rfl,
  fun v0 v1 v2 q L st h => e_callV4 (F := mX4_best) (kd := 18) (n := 7) rfl,
  fun x0 x1 x2 x3 x4 a L st h hx => e_st4I (n := 9) rfl hx,
  fun x0 a L st h => e_ld1I (n := 10) rfl,
  fun x0 x1 a L st h => e_ld2I (n := 11) rfl,
  fun a b L st h => e_cmpeq (t := 21) (n := 14) rfl,
  fun x0 x1 x2 x3 a L st h => e_ld4I (n := 16) rfl,
  fun L st h => e_push (v := zvi (-2)) (n := 18) rfl,
  fun a b L st h => e_cmpne (t := 25) (n := 21) rfl,
  fun L st h => e_push (v := zvi (-1)) (n := 22) rfl,
  fun L st h => e_goto (t := 31) rfl,
  fun a L st h => e_ld0R (n := 26) rfl,
  fun x0 a L st h => e_ld1I (n := 27) rfl,
  fun x0 x1 x2 a L st h => e_ld3I (n := 28) rfl,
  fun v0 v1 q L st h => e_callV3 (F := mX4_firstOf) (kd := 18) (n := 31) rfl,
  fun a L h => e_retI rfl⟩
theorem allX4_begins_2 : zall yX4_begins_2 cX4_begins_2 5 (some .int) 8 kX4_begins_2.1 :=
  ⟨k_aload_n dX4_begins_2_0,
  k_iload_n dX4_begins_2_1,
  k_iload_n dX4_begins_2_2,
  k_iload_n dX4_begins_2_3,
  k_callV (y2 := yX4_best) (C := RX4) (T0 := TX4) (ci := 2) dX4_begins_2_4 sndX4_best rfl q2123 q2125 qs99 q137 q2126 (by decide +kernel) ⟨by decide, by decide⟩ (by decide) (by decide),
  k_istore dX4_begins_2_7,
  k_iload_n dX4_begins_2_9,
  k_iload_n dX4_begins_2_10,
  k_cmpeq (t := 21) dX4_begins_2_11 (by decide),
  k_iload dX4_begins_2_14,
  k_bipush dX4_begins_2_16,
  k_cmpne (t := 25) dX4_begins_2_18 (by decide),
  k_iconst dX4_begins_2_21,
  k_goto (t := 31) dX4_begins_2_22 (by decide),
  k_aload_n dX4_begins_2_25,
  k_iload_n dX4_begins_2_26,
  k_iload_n dX4_begins_2_27,
  k_callV (y2 := yX4_firstOf) (C := RX4) (T0 := TX4) (ci := 2) dX4_begins_2_28 sndX4_firstOf rfl q2151 q2153 qs106 q137 q2154 (by decide +kernel) ⟨by decide, by decide⟩ (by decide) (by decide),
  k_iret dX4_begins_2_31, trivial⟩
theorem sndX4_begins_2 : MSound 8 yX4_begins_2 (ws_ yX4_begins_2 cX4_begins_2 5 (some .int)) mX4_begins_2 := msound_M (by decide) allX4_begins_2 (fun _ _ => rfl)
/-! LinkTimesModel.changes(III)I -/
noncomputable def kX4_changes : ZM := ([(0, zi_ld 1 0 1), (1, zi_ld 1 0 2), (2, zi_ld 0 1 3), (3, zi_ld 0 2 4), (4, zi_ld 0 3 5), (5, zi_callV mX4_wayWhy 18 4 8), (8, zi_callV mX4_isRefused 18 2 11), (11, zi_if (fun a => zc_eq a 0) 16 14), (14, zi_push (zvi (-1)) 15), (15, zi_retv 0), (16, zi_ld 1 0 17), (17, zi_ld 0 1 18), (18, zi_ld 0 2 19), (19, zi_ld 0 3 20), (20, zi_callV mX4_begins_2 18 4 23), (23, zi_st 0 4 25), (25, zi_ld 0 4 27), (27, zi_push (zvi (-1)) 28), (28, zi_cmp zc_ne 45 31), (31, zi_ld 0 1 32), (32, zi_ld 0 2 33), (33, zi_cmp zc_ne 40 36), (36, zi_push (zvi 0) 37), (37, zi_goto 52), (40, zi_push (zvi (-2)) 42), (42, zi_goto 52), (45, zi_ld 1 0 46), (46, zi_getR 18 24 49), (49, zi_ld 0 4 51), (51, zi_ald 1 52), (52, zi_retv 0)], fun _ _ => none)
noncomputable def mX4_changes : ZF := zrunM kX4_changes 5
theorem enX4_changes (x0 : Option Nat) (x1 : Int) (x2 : Int) (x3 : Int) (h : PH) : mX4_changes [zvr x0, zvi x1, zvi x2, zvi x3] h = zev kX4_changes 0 [zvr x0, zvi x1, zvi x2, zvi x3, zvu] [] h := zrunM_eq rfl rfl
theorem rX4_changes : (∀ (a : Option Nat) (L st : List ZV) (h : PH), zev kX4_changes 0 (zvr a :: L) st h = zev kX4_changes 1 (zvr a :: L) (zvr a :: st) h) ∧
  (∀ (a : Option Nat) (L st : List ZV) (h : PH), zev kX4_changes 1 (zvr a :: L) st h = zev kX4_changes 2 (zvr a :: L) (zvr a :: st) h) ∧
  (∀ (x0 : ZV) (a : Int) (L st : List ZV) (h : PH), zev kX4_changes 2 (x0 :: zvi a :: L) st h = zev kX4_changes 3 (x0 :: zvi a :: L) (zvi a :: st) h) ∧
  (∀ (x0 x1 : ZV) (a : Int) (L st : List ZV) (h : PH), zev kX4_changes 3 (x0 :: x1 :: zvi a :: L) st h = zev kX4_changes 4 (x0 :: x1 :: zvi a :: L) (zvi a :: st) h) ∧
  (∀ (x0 x1 x2 : ZV) (a : Int) (L st : List ZV) (h : PH), zev kX4_changes 4 (x0 :: x1 :: x2 :: zvi a :: L) st h = zev kX4_changes 5 (x0 :: x1 :: x2 :: zvi a :: L) (zvi a :: st) h) ∧
  (∀ (v0 v1 v2 : ZV) (q : Nat) (L st : List ZV) (h : PH), zev kX4_changes 5 L (v2 :: v1 :: v0 :: zvr (some q) :: st) h = if (ph_K h q).1 % 1000 = 18 ∧ zcat st ≤ 8 then zk kX4_changes 5 8 L st (mX4_wayWhy [zvr (some q), v0, v1, v2] h) else none) ∧
  (∀ (v0 : ZV) (q : Nat) (L st : List ZV) (h : PH), zev kX4_changes 8 L (v0 :: zvr (some q) :: st) h = if (ph_K h q).1 % 1000 = 18 ∧ zcat st ≤ 8 then zk kX4_changes 8 11 L st (mX4_isRefused [zvr (some q), v0] h) else none) ∧
  (∀ (a : Int) (L st : List ZV) (h : PH), zev kX4_changes 11 L (zvi a :: st) h = if a = 0 then zev kX4_changes 16 L st h else zev kX4_changes 14 L st h) ∧
  (∀ (L st : List ZV) (h : PH), zev kX4_changes 14 L st h = zev kX4_changes 15 L (zvi (-1) :: st) h) ∧
  (∀ (a : Int) (L : List ZV) (h : PH), zev kX4_changes 15 L [zvi a] h = zrv (zvi a) h) ∧
  (∀ (a : Option Nat) (L st : List ZV) (h : PH), zev kX4_changes 16 (zvr a :: L) st h = zev kX4_changes 17 (zvr a :: L) (zvr a :: st) h) ∧
  (∀ (x0 : ZV) (a : Int) (L st : List ZV) (h : PH), zev kX4_changes 17 (x0 :: zvi a :: L) st h = zev kX4_changes 18 (x0 :: zvi a :: L) (zvi a :: st) h) ∧
  (∀ (x0 x1 : ZV) (a : Int) (L st : List ZV) (h : PH), zev kX4_changes 18 (x0 :: x1 :: zvi a :: L) st h = zev kX4_changes 19 (x0 :: x1 :: zvi a :: L) (zvi a :: st) h) ∧
  (∀ (x0 x1 x2 : ZV) (a : Int) (L st : List ZV) (h : PH), zev kX4_changes 19 (x0 :: x1 :: x2 :: zvi a :: L) st h = zev kX4_changes 20 (x0 :: x1 :: x2 :: zvi a :: L) (zvi a :: st) h) ∧
  (∀ (v0 v1 v2 : ZV) (q : Nat) (L st : List ZV) (h : PH), zev kX4_changes 20 L (v2 :: v1 :: v0 :: zvr (some q) :: st) h = if (ph_K h q).1 % 1000 = 18 ∧ zcat st ≤ 8 then zk kX4_changes 20 23 L st (mX4_begins_2 [zvr (some q), v0, v1, v2] h) else none) ∧
  (∀ (x0 x1 x2 x3 x4 : ZV) (a : Int) (L st : List ZV) (h : PH) (hx : zisL x3 = false) , zev kX4_changes 23 (x0 :: x1 :: x2 :: x3 :: x4 :: L) (zvi a :: st) h = zev kX4_changes 25 (x0 :: x1 :: x2 :: x3 :: zvi a :: L) st h) ∧
  (∀ (x0 x1 x2 x3 : ZV) (a : Int) (L st : List ZV) (h : PH), zev kX4_changes 25 (x0 :: x1 :: x2 :: x3 :: zvi a :: L) st h = zev kX4_changes 27 (x0 :: x1 :: x2 :: x3 :: zvi a :: L) (zvi a :: st) h) ∧
  (∀ (L st : List ZV) (h : PH), zev kX4_changes 27 L st h = zev kX4_changes 28 L (zvi (-1) :: st) h) ∧
  (∀ (a b : Int) (L st : List ZV) (h : PH), zev kX4_changes 28 L (zvi b :: zvi a :: st) h = if a ≠ b then zev kX4_changes 45 L st h else zev kX4_changes 31 L st h) ∧
  (∀ (x0 : ZV) (a : Int) (L st : List ZV) (h : PH), zev kX4_changes 31 (x0 :: zvi a :: L) st h = zev kX4_changes 32 (x0 :: zvi a :: L) (zvi a :: st) h) ∧
  (∀ (x0 x1 : ZV) (a : Int) (L st : List ZV) (h : PH), zev kX4_changes 32 (x0 :: x1 :: zvi a :: L) st h = zev kX4_changes 33 (x0 :: x1 :: zvi a :: L) (zvi a :: st) h) ∧
  (∀ (a b : Int) (L st : List ZV) (h : PH), zev kX4_changes 33 L (zvi b :: zvi a :: st) h = if a ≠ b then zev kX4_changes 40 L st h else zev kX4_changes 36 L st h) ∧
  (∀ (L st : List ZV) (h : PH), zev kX4_changes 36 L st h = zev kX4_changes 37 L (zvi 0 :: st) h) ∧
  (∀ (L st : List ZV) (h : PH), zev kX4_changes 37 L st h = zev kX4_changes 52 L st h) ∧
  (∀ (L st : List ZV) (h : PH), zev kX4_changes 40 L st h = zev kX4_changes 42 L (zvi (-2) :: st) h) ∧
  (∀ (L st : List ZV) (h : PH), zev kX4_changes 42 L st h = zev kX4_changes 52 L st h) ∧
  (∀ (a : Option Nat) (L st : List ZV) (h : PH), zev kX4_changes 45 (zvr a :: L) st h = zev kX4_changes 46 (zvr a :: L) (zvr a :: st) h) ∧
  (∀ (q : Nat) (L st : List ZV) (h : PH), zev kX4_changes 46 L (zvr (some q) :: st) h = if (ph_K h q).1 % 1000 = 18 then zev kX4_changes 49 L (zvr (ph_R h q 24) :: st) h else none) ∧
  (∀ (x0 x1 x2 x3 : ZV) (a : Int) (L st : List ZV) (h : PH), zev kX4_changes 49 (x0 :: x1 :: x2 :: x3 :: zvi a :: L) st h = zev kX4_changes 51 (x0 :: x1 :: x2 :: x3 :: zvi a :: L) (zvi a :: st) h) ∧
  (∀ (j : Int) (q : Nat) (L st : List ZV) (h : PH), zev kX4_changes 51 L (zvi j :: zvr (some q) :: st) h = if (ph_K h q).1 % 1000 = 1 ∧ 0 ≤ j ∧ j < (ph_K h q).2 then zev kX4_changes 52 L (zvi (ph_I h q j) :: st) h else none) ∧
  (∀ (a : Int) (L : List ZV) (h : PH), zev kX4_changes 52 L [zvi a] h = zrv (zvi a) h) :=
  ⟨fun a L st h => e_ld0R (n := 1) rfl,
  fun a L st h => e_ld0R (n := 2) rfl,
  fun x0 a L st h => e_ld1I (n := 3) rfl,
  fun x0 x1 a L st h => e_ld2I (n := 4) rfl,
  fun x0 x1 x2 a L st h => e_ld3I (n := 5) rfl,
  fun v0 v1 v2 q L st h => e_callV4 (F := mX4_wayWhy) (kd := 18) (n := 8) rfl,
  fun v0 q L st h => e_callV2 (F := mX4_isRefused) (kd := 18) (n := 11) rfl,
  fun a L st h => e_ifeq (t := 16) (n := 14) rfl,
  fun L st h => e_push (v := zvi (-1)) (n := 15) rfl,
  fun a L h => e_retI rfl,
  fun a L st h => e_ld0R (n := 17) rfl,
  fun x0 a L st h => e_ld1I (n := 18) rfl,
  fun x0 x1 a L st h => e_ld2I (n := 19) rfl,
  fun x0 x1 x2 a L st h => e_ld3I (n := 20) rfl,
  fun v0 v1 v2 q L st h => e_callV4 (F := mX4_begins_2) (kd := 18) (n := 23) rfl,
  fun x0 x1 x2 x3 x4 a L st h hx => e_st4I (n := 25) rfl hx,
  fun x0 x1 x2 x3 a L st h => e_ld4I (n := 27) rfl,
  fun L st h => e_push (v := zvi (-1)) (n := 28) rfl,
  fun a b L st h => e_cmpne (t := 45) (n := 31) rfl,
  fun x0 a L st h => e_ld1I (n := 32) rfl,
  fun x0 x1 a L st h => e_ld2I (n := 33) rfl,
  fun a b L st h => e_cmpne (t := 40) (n := 36) rfl,
  fun L st h => e_push (v := zvi 0) (n := 37) rfl,
  fun L st h => e_goto (t := 52) rfl,
  fun L st h => e_push (v := zvi (-2)) (n := 42) rfl,
  fun L st h => e_goto (t := 52) rfl,
  fun a L st h => e_ld0R (n := 46) rfl,
  fun q L st h => e_getR (kd := 18) (k := 24) (n := 49) rfl,
  fun x0 x1 x2 x3 a L st h => e_ld4I (n := 51) rfl,
  fun j q L st h => e_ald (kd := 1) (n := 52) rfl,
  fun a L h => e_retI rfl⟩
theorem allX4_changes : zall yX4_changes cX4_changes 5 (some .int) 9 kX4_changes.1 :=
  ⟨k_aload_n dX4_changes_0,
  k_aload_n dX4_changes_1,
  k_iload_n dX4_changes_2,
  k_iload_n dX4_changes_3,
  k_iload_n dX4_changes_4,
  k_callV (y2 := yX4_wayWhy) (C := RX4) (T0 := TX4) (ci := 2) dX4_changes_5 sndX4_wayWhy rfl q2116 q2118 qs98 q137 q2119 (by decide +kernel) ⟨by decide, by decide⟩ (by decide) (by decide),
  k_callV (y2 := yX4_isRefused) (C := RX4) (T0 := TX4) (ci := 2) dX4_changes_8 sndX4_isRefused rfl q1946 q1948 qs70 q137 q1949 (by decide +kernel) ⟨by decide, by decide⟩ (by decide) (by decide),
  k_ifeq (t := 16) dX4_changes_11 (by decide),
  k_iconst dX4_changes_14,
  k_iret dX4_changes_15,
  k_aload_n dX4_changes_16,
  k_iload_n dX4_changes_17,
  k_iload_n dX4_changes_18,
  k_iload_n dX4_changes_19,
  k_callV (y2 := yX4_begins_2) (C := RX4) (T0 := TX4) (ci := 2) dX4_changes_20 sndX4_begins_2 rfl q2163 q2165 qs108 q137 q2166 (by decide +kernel) ⟨by decide, by decide⟩ (by decide) (by decide),
  k_istore dX4_changes_23,
  k_iload dX4_changes_25,
  k_iconst dX4_changes_27,
  k_cmpne (t := 45) dX4_changes_28 (by decide),
  k_iload_n dX4_changes_31,
  k_iload_n dX4_changes_32,
  k_cmpne (t := 40) dX4_changes_33 (by decide),
  k_iconst dX4_changes_36,
  k_goto (t := 52) dX4_changes_37 (by decide),
  k_bipush dX4_changes_40,
  k_goto (t := 52) dX4_changes_42 (by decide),
  k_aload_n dX4_changes_45,
  k_getR (C := RX4) (T := TX4) (N := 42) (ci := 2) (k := 24) (ref := "LinkTimesModel") dX4_changes_46 rfl in_X4 (by decide) q1823 (Or.inl rfl) (fun _ _ _ => rfl),
  k_iload dX4_changes_49,
  k_iald dX4_changes_51,
  k_iret dX4_changes_52, trivial⟩
theorem sndX4_changes : MSound 9 yX4_changes (ws_ yX4_changes cX4_changes 5 (some .int)) mX4_changes := msound_M (by decide) allX4_changes (fun _ _ => rfl)
/-! LinkTimesModel.leaves(III)I -/
noncomputable def kX4_leaves : ZM := ([(0, zi_ld 1 0 1), (1, zi_ld 1 0 2), (2, zi_ld 0 1 3), (3, zi_ld 0 2 4), (4, zi_ld 0 3 5), (5, zi_callV mX4_wayWhy 18 4 8), (8, zi_callV mX4_isRefused 18 2 11), (11, zi_if (fun a => zc_eq a 0) 16 14), (14, zi_push (zvi (-1)) 15), (15, zi_retv 0), (16, zi_ld 1 0 17), (17, zi_ld 0 1 18), (18, zi_ld 0 2 19), (19, zi_ld 0 3 20), (20, zi_callV mX4_begins_2 18 4 23), (23, zi_st 0 4 25), (25, zi_ld 0 4 27), (27, zi_push (zvi (-1)) 28), (28, zi_cmp zc_ne 45 31), (31, zi_ld 0 1 32), (32, zi_ld 0 2 33), (33, zi_cmp zc_ne 40 36), (36, zi_ld 0 3 37), (37, zi_goto 51), (40, zi_push (zvi (-2)) 42), (42, zi_goto 51), (45, zi_ld 1 0 46), (46, zi_ld 0 4 48), (48, zi_callV mX4_leavesAt 18 2 51), (51, zi_retv 0)], fun _ _ => none)
noncomputable def mX4_leaves : ZF := zrunM kX4_leaves 5
theorem enX4_leaves (x0 : Option Nat) (x1 : Int) (x2 : Int) (x3 : Int) (h : PH) : mX4_leaves [zvr x0, zvi x1, zvi x2, zvi x3] h = zev kX4_leaves 0 [zvr x0, zvi x1, zvi x2, zvi x3, zvu] [] h := zrunM_eq rfl rfl
theorem rX4_leaves : (∀ (a : Option Nat) (L st : List ZV) (h : PH), zev kX4_leaves 0 (zvr a :: L) st h = zev kX4_leaves 1 (zvr a :: L) (zvr a :: st) h) ∧
  (∀ (a : Option Nat) (L st : List ZV) (h : PH), zev kX4_leaves 1 (zvr a :: L) st h = zev kX4_leaves 2 (zvr a :: L) (zvr a :: st) h) ∧
  (∀ (x0 : ZV) (a : Int) (L st : List ZV) (h : PH), zev kX4_leaves 2 (x0 :: zvi a :: L) st h = zev kX4_leaves 3 (x0 :: zvi a :: L) (zvi a :: st) h) ∧
  (∀ (x0 x1 : ZV) (a : Int) (L st : List ZV) (h : PH), zev kX4_leaves 3 (x0 :: x1 :: zvi a :: L) st h = zev kX4_leaves 4 (x0 :: x1 :: zvi a :: L) (zvi a :: st) h) ∧
  (∀ (x0 x1 x2 : ZV) (a : Int) (L st : List ZV) (h : PH), zev kX4_leaves 4 (x0 :: x1 :: x2 :: zvi a :: L) st h = zev kX4_leaves 5 (x0 :: x1 :: x2 :: zvi a :: L) (zvi a :: st) h) ∧
  (∀ (v0 v1 v2 : ZV) (q : Nat) (L st : List ZV) (h : PH), zev kX4_leaves 5 L (v2 :: v1 :: v0 :: zvr (some q) :: st) h = if (ph_K h q).1 % 1000 = 18 ∧ zcat st ≤ 8 then zk kX4_leaves 5 8 L st (mX4_wayWhy [zvr (some q), v0, v1, v2] h) else none) ∧
  (∀ (v0 : ZV) (q : Nat) (L st : List ZV) (h : PH), zev kX4_leaves 8 L (v0 :: zvr (some q) :: st) h = if (ph_K h q).1 % 1000 = 18 ∧ zcat st ≤ 8 then zk kX4_leaves 8 11 L st (mX4_isRefused [zvr (some q), v0] h) else none) ∧
  (∀ (a : Int) (L st : List ZV) (h : PH), zev kX4_leaves 11 L (zvi a :: st) h = if a = 0 then zev kX4_leaves 16 L st h else zev kX4_leaves 14 L st h) ∧
  (∀ (L st : List ZV) (h : PH), zev kX4_leaves 14 L st h = zev kX4_leaves 15 L (zvi (-1) :: st) h) ∧
  (∀ (a : Int) (L : List ZV) (h : PH), zev kX4_leaves 15 L [zvi a] h = zrv (zvi a) h) ∧
  (∀ (a : Option Nat) (L st : List ZV) (h : PH), zev kX4_leaves 16 (zvr a :: L) st h = zev kX4_leaves 17 (zvr a :: L) (zvr a :: st) h) ∧
  (∀ (x0 : ZV) (a : Int) (L st : List ZV) (h : PH), zev kX4_leaves 17 (x0 :: zvi a :: L) st h = zev kX4_leaves 18 (x0 :: zvi a :: L) (zvi a :: st) h) ∧
  (∀ (x0 x1 : ZV) (a : Int) (L st : List ZV) (h : PH), zev kX4_leaves 18 (x0 :: x1 :: zvi a :: L) st h = zev kX4_leaves 19 (x0 :: x1 :: zvi a :: L) (zvi a :: st) h) ∧
  (∀ (x0 x1 x2 : ZV) (a : Int) (L st : List ZV) (h : PH), zev kX4_leaves 19 (x0 :: x1 :: x2 :: zvi a :: L) st h = zev kX4_leaves 20 (x0 :: x1 :: x2 :: zvi a :: L) (zvi a :: st) h) ∧
  (∀ (v0 v1 v2 : ZV) (q : Nat) (L st : List ZV) (h : PH), zev kX4_leaves 20 L (v2 :: v1 :: v0 :: zvr (some q) :: st) h = if (ph_K h q).1 % 1000 = 18 ∧ zcat st ≤ 8 then zk kX4_leaves 20 23 L st (mX4_begins_2 [zvr (some q), v0, v1, v2] h) else none) ∧
  (∀ (x0 x1 x2 x3 x4 : ZV) (a : Int) (L st : List ZV) (h : PH) (hx : zisL x3 = false) , zev kX4_leaves 23 (x0 :: x1 :: x2 :: x3 :: x4 :: L) (zvi a :: st) h = zev kX4_leaves 25 (x0 :: x1 :: x2 :: x3 :: zvi a :: L) st h) ∧
  (∀ (x0 x1 x2 x3 : ZV) (a : Int) (L st : List ZV) (h : PH), zev kX4_leaves 25 (x0 :: x1 :: x2 :: x3 :: zvi a :: L) st h = zev kX4_leaves 27 (x0 :: x1 :: x2 :: x3 :: zvi a :: L) (zvi a :: st) h) ∧
  (∀ (L st : List ZV) (h : PH), zev kX4_leaves 27 L st h = zev kX4_leaves 28 L (zvi (-1) :: st) h) ∧
  (∀ (a b : Int) (L st : List ZV) (h : PH), zev kX4_leaves 28 L (zvi b :: zvi a :: st) h = if a ≠ b then zev kX4_leaves 45 L st h else zev kX4_leaves 31 L st h) ∧
  (∀ (x0 : ZV) (a : Int) (L st : List ZV) (h : PH), zev kX4_leaves 31 (x0 :: zvi a :: L) st h = zev kX4_leaves 32 (x0 :: zvi a :: L) (zvi a :: st) h) ∧
  (∀ (x0 x1 : ZV) (a : Int) (L st : List ZV) (h : PH), zev kX4_leaves 32 (x0 :: x1 :: zvi a :: L) st h = zev kX4_leaves 33 (x0 :: x1 :: zvi a :: L) (zvi a :: st) h) ∧
  (∀ (a b : Int) (L st : List ZV) (h : PH), zev kX4_leaves 33 L (zvi b :: zvi a :: st) h = if a ≠ b then zev kX4_leaves 40 L st h else zev kX4_leaves 36 L st h) ∧
  (∀ (x0 x1 x2 : ZV) (a : Int) (L st : List ZV) (h : PH), zev kX4_leaves 36 (x0 :: x1 :: x2 :: zvi a :: L) st h = zev kX4_leaves 37 (x0 :: x1 :: x2 :: zvi a :: L) (zvi a :: st) h) ∧
  (∀ (L st : List ZV) (h : PH), zev kX4_leaves 37 L st h = zev kX4_leaves 51 L st h) ∧
  (∀ (L st : List ZV) (h : PH), zev kX4_leaves 40 L st h = zev kX4_leaves 42 L (zvi (-2) :: st) h) ∧
  (∀ (L st : List ZV) (h : PH), zev kX4_leaves 42 L st h = zev kX4_leaves 51 L st h) ∧
  (∀ (a : Option Nat) (L st : List ZV) (h : PH), zev kX4_leaves 45 (zvr a :: L) st h = zev kX4_leaves 46 (zvr a :: L) (zvr a :: st) h) ∧
  (∀ (x0 x1 x2 x3 : ZV) (a : Int) (L st : List ZV) (h : PH), zev kX4_leaves 46 (x0 :: x1 :: x2 :: x3 :: zvi a :: L) st h = zev kX4_leaves 48 (x0 :: x1 :: x2 :: x3 :: zvi a :: L) (zvi a :: st) h) ∧
  (∀ (v0 : ZV) (q : Nat) (L st : List ZV) (h : PH), zev kX4_leaves 48 L (v0 :: zvr (some q) :: st) h = if (ph_K h q).1 % 1000 = 18 ∧ zcat st ≤ 8 then zk kX4_leaves 48 51 L st (mX4_leavesAt [zvr (some q), v0] h) else none) ∧
  (∀ (a : Int) (L : List ZV) (h : PH), zev kX4_leaves 51 L [zvi a] h = zrv (zvi a) h) :=
  ⟨fun a L st h => e_ld0R (n := 1) rfl,
  fun a L st h => e_ld0R (n := 2) rfl,
  fun x0 a L st h => e_ld1I (n := 3) rfl,
  fun x0 x1 a L st h => e_ld2I (n := 4) rfl,
  fun x0 x1 x2 a L st h => e_ld3I (n := 5) rfl,
  fun v0 v1 v2 q L st h => e_callV4 (F := mX4_wayWhy) (kd := 18) (n := 8) rfl,
  fun v0 q L st h => e_callV2 (F := mX4_isRefused) (kd := 18) (n := 11) rfl,
  fun a L st h => e_ifeq (t := 16) (n := 14) rfl,
  fun L st h => e_push (v := zvi (-1)) (n := 15) rfl,
  fun a L h => e_retI rfl,
  fun a L st h => e_ld0R (n := 17) rfl,
  fun x0 a L st h => e_ld1I (n := 18) rfl,
  fun x0 x1 a L st h => e_ld2I (n := 19) rfl,
  fun x0 x1 x2 a L st h => e_ld3I (n := 20) rfl,
  fun v0 v1 v2 q L st h => e_callV4 (F := mX4_begins_2) (kd := 18) (n := 23) rfl,
  fun x0 x1 x2 x3 x4 a L st h hx => e_st4I (n := 25) rfl hx,
  fun x0 x1 x2 x3 a L st h => e_ld4I (n := 27) rfl,
  fun L st h => e_push (v := zvi (-1)) (n := 28) rfl,
  fun a b L st h => e_cmpne (t := 45) (n := 31) rfl,
  fun x0 a L st h => e_ld1I (n := 32) rfl,
  fun x0 x1 a L st h => e_ld2I (n := 33) rfl,
  fun a b L st h => e_cmpne (t := 40) (n := 36) rfl,
  fun x0 x1 x2 a L st h => e_ld3I (n := 37) rfl,
  fun L st h => e_goto (t := 51) rfl,
  fun L st h => e_push (v := zvi (-2)) (n := 42) rfl,
  fun L st h => e_goto (t := 51) rfl,
  fun a L st h => e_ld0R (n := 46) rfl,
  fun x0 x1 x2 x3 a L st h => e_ld4I (n := 48) rfl,
  fun v0 q L st h => e_callV2 (F := mX4_leavesAt) (kd := 18) (n := 51) rfl,
  fun a L h => e_retI rfl⟩
theorem allX4_leaves : zall yX4_leaves cX4_leaves 5 (some .int) 9 kX4_leaves.1 :=
  ⟨k_aload_n dX4_leaves_0,
  k_aload_n dX4_leaves_1,
  k_iload_n dX4_leaves_2,
  k_iload_n dX4_leaves_3,
  k_iload_n dX4_leaves_4,
  k_callV (y2 := yX4_wayWhy) (C := RX4) (T0 := TX4) (ci := 2) dX4_leaves_5 sndX4_wayWhy rfl q2116 q2118 qs98 q137 q2119 (by decide +kernel) ⟨by decide, by decide⟩ (by decide) (by decide),
  k_callV (y2 := yX4_isRefused) (C := RX4) (T0 := TX4) (ci := 2) dX4_leaves_8 sndX4_isRefused rfl q1946 q1948 qs70 q137 q1949 (by decide +kernel) ⟨by decide, by decide⟩ (by decide) (by decide),
  k_ifeq (t := 16) dX4_leaves_11 (by decide),
  k_iconst dX4_leaves_14,
  k_iret dX4_leaves_15,
  k_aload_n dX4_leaves_16,
  k_iload_n dX4_leaves_17,
  k_iload_n dX4_leaves_18,
  k_iload_n dX4_leaves_19,
  k_callV (y2 := yX4_begins_2) (C := RX4) (T0 := TX4) (ci := 2) dX4_leaves_20 sndX4_begins_2 rfl q2163 q2165 qs108 q137 q2166 (by decide +kernel) ⟨by decide, by decide⟩ (by decide) (by decide),
  k_istore dX4_leaves_23,
  k_iload dX4_leaves_25,
  k_iconst dX4_leaves_27,
  k_cmpne (t := 45) dX4_leaves_28 (by decide),
  k_iload_n dX4_leaves_31,
  k_iload_n dX4_leaves_32,
  k_cmpne (t := 40) dX4_leaves_33 (by decide),
  k_iload_n dX4_leaves_36,
  k_goto (t := 51) dX4_leaves_37 (by decide),
  k_bipush dX4_leaves_40,
  k_goto (t := 51) dX4_leaves_42 (by decide),
  k_aload_n dX4_leaves_45,
  k_iload dX4_leaves_46,
  k_callV (y2 := yX4_leavesAt) (C := RX4) (T0 := TX4) (ci := 2) dX4_leaves_48 sndX4_leavesAt rfl q2100 q2102 qs96 q137 q2103 (by decide +kernel) ⟨by decide, by decide⟩ (by decide) (by decide),
  k_iret dX4_leaves_51, trivial⟩
theorem sndX4_leaves : MSound 9 yX4_leaves (ws_ yX4_leaves cX4_leaves 5 (some .int)) mX4_leaves := msound_M (by decide) allX4_leaves (fun _ _ => rfl)
/-! LinkTimesModel.rides(III)I -/
noncomputable def kX4_rides : ZM := ([(0, zi_ld 1 0 1), (1, zi_ld 1 0 2), (2, zi_ld 0 1 3), (3, zi_ld 0 2 4), (4, zi_ld 0 3 5), (5, zi_callV mX4_wayWhy 18 4 8), (8, zi_callV mX4_isRefused 18 2 11), (11, zi_if (fun a => zc_eq a 0) 16 14), (14, zi_push (zvi (-1)) 15), (15, zi_retv 0), (16, zi_ld 1 0 17), (17, zi_ld 0 1 18), (18, zi_ld 0 2 19), (19, zi_ld 0 3 20), (20, zi_callV mX4_begins_2 18 4 23), (23, zi_st 0 4 25), (25, zi_ld 0 4 27), (27, zi_push (zvi (-1)) 28), (28, zi_cmp zc_ne 45 31), (31, zi_ld 0 1 32), (32, zi_ld 0 2 33), (33, zi_cmp zc_ne 40 36), (36, zi_push (zvi 0) 37), (37, zi_goto 52), (40, zi_push (zvi (-2)) 42), (42, zi_goto 52), (45, zi_ld 1 0 46), (46, zi_getR 18 25 49), (49, zi_ld 0 4 51), (51, zi_ald 1 52), (52, zi_retv 0)], fun _ _ => none)
noncomputable def mX4_rides : ZF := zrunM kX4_rides 5
theorem enX4_rides (x0 : Option Nat) (x1 : Int) (x2 : Int) (x3 : Int) (h : PH) : mX4_rides [zvr x0, zvi x1, zvi x2, zvi x3] h = zev kX4_rides 0 [zvr x0, zvi x1, zvi x2, zvi x3, zvu] [] h := zrunM_eq rfl rfl
theorem rX4_rides : (∀ (a : Option Nat) (L st : List ZV) (h : PH), zev kX4_rides 0 (zvr a :: L) st h = zev kX4_rides 1 (zvr a :: L) (zvr a :: st) h) ∧
  (∀ (a : Option Nat) (L st : List ZV) (h : PH), zev kX4_rides 1 (zvr a :: L) st h = zev kX4_rides 2 (zvr a :: L) (zvr a :: st) h) ∧
  (∀ (x0 : ZV) (a : Int) (L st : List ZV) (h : PH), zev kX4_rides 2 (x0 :: zvi a :: L) st h = zev kX4_rides 3 (x0 :: zvi a :: L) (zvi a :: st) h) ∧
  (∀ (x0 x1 : ZV) (a : Int) (L st : List ZV) (h : PH), zev kX4_rides 3 (x0 :: x1 :: zvi a :: L) st h = zev kX4_rides 4 (x0 :: x1 :: zvi a :: L) (zvi a :: st) h) ∧
  (∀ (x0 x1 x2 : ZV) (a : Int) (L st : List ZV) (h : PH), zev kX4_rides 4 (x0 :: x1 :: x2 :: zvi a :: L) st h = zev kX4_rides 5 (x0 :: x1 :: x2 :: zvi a :: L) (zvi a :: st) h) ∧
  (∀ (v0 v1 v2 : ZV) (q : Nat) (L st : List ZV) (h : PH), zev kX4_rides 5 L (v2 :: v1 :: v0 :: zvr (some q) :: st) h = if (ph_K h q).1 % 1000 = 18 ∧ zcat st ≤ 8 then zk kX4_rides 5 8 L st (mX4_wayWhy [zvr (some q), v0, v1, v2] h) else none) ∧
  (∀ (v0 : ZV) (q : Nat) (L st : List ZV) (h : PH), zev kX4_rides 8 L (v0 :: zvr (some q) :: st) h = if (ph_K h q).1 % 1000 = 18 ∧ zcat st ≤ 8 then zk kX4_rides 8 11 L st (mX4_isRefused [zvr (some q), v0] h) else none) ∧
  (∀ (a : Int) (L st : List ZV) (h : PH), zev kX4_rides 11 L (zvi a :: st) h = if a = 0 then zev kX4_rides 16 L st h else zev kX4_rides 14 L st h) ∧
  (∀ (L st : List ZV) (h : PH), zev kX4_rides 14 L st h = zev kX4_rides 15 L (zvi (-1) :: st) h) ∧
  (∀ (a : Int) (L : List ZV) (h : PH), zev kX4_rides 15 L [zvi a] h = zrv (zvi a) h) ∧
  (∀ (a : Option Nat) (L st : List ZV) (h : PH), zev kX4_rides 16 (zvr a :: L) st h = zev kX4_rides 17 (zvr a :: L) (zvr a :: st) h) ∧
  (∀ (x0 : ZV) (a : Int) (L st : List ZV) (h : PH), zev kX4_rides 17 (x0 :: zvi a :: L) st h = zev kX4_rides 18 (x0 :: zvi a :: L) (zvi a :: st) h) ∧
  (∀ (x0 x1 : ZV) (a : Int) (L st : List ZV) (h : PH), zev kX4_rides 18 (x0 :: x1 :: zvi a :: L) st h = zev kX4_rides 19 (x0 :: x1 :: zvi a :: L) (zvi a :: st) h) ∧
  (∀ (x0 x1 x2 : ZV) (a : Int) (L st : List ZV) (h : PH), zev kX4_rides 19 (x0 :: x1 :: x2 :: zvi a :: L) st h = zev kX4_rides 20 (x0 :: x1 :: x2 :: zvi a :: L) (zvi a :: st) h) ∧
  (∀ (v0 v1 v2 : ZV) (q : Nat) (L st : List ZV) (h : PH), zev kX4_rides 20 L (v2 :: v1 :: v0 :: zvr (some q) :: st) h = if (ph_K h q).1 % 1000 = 18 ∧ zcat st ≤ 8 then zk kX4_rides 20 23 L st (mX4_begins_2 [zvr (some q), v0, v1, v2] h) else none) ∧
  (∀ (x0 x1 x2 x3 x4 : ZV) (a : Int) (L st : List ZV) (h : PH) (hx : zisL x3 = false) , zev kX4_rides 23 (x0 :: x1 :: x2 :: x3 :: x4 :: L) (zvi a :: st) h = zev kX4_rides 25 (x0 :: x1 :: x2 :: x3 :: zvi a :: L) st h) ∧
  (∀ (x0 x1 x2 x3 : ZV) (a : Int) (L st : List ZV) (h : PH), zev kX4_rides 25 (x0 :: x1 :: x2 :: x3 :: zvi a :: L) st h = zev kX4_rides 27 (x0 :: x1 :: x2 :: x3 :: zvi a :: L) (zvi a :: st) h) ∧
  (∀ (L st : List ZV) (h : PH), zev kX4_rides 27 L st h = zev kX4_rides 28 L (zvi (-1) :: st) h) ∧
  (∀ (a b : Int) (L st : List ZV) (h : PH), zev kX4_rides 28 L (zvi b :: zvi a :: st) h = if a ≠ b then zev kX4_rides 45 L st h else zev kX4_rides 31 L st h) ∧
  (∀ (x0 : ZV) (a : Int) (L st : List ZV) (h : PH), zev kX4_rides 31 (x0 :: zvi a :: L) st h = zev kX4_rides 32 (x0 :: zvi a :: L) (zvi a :: st) h) ∧
  (∀ (x0 x1 : ZV) (a : Int) (L st : List ZV) (h : PH), zev kX4_rides 32 (x0 :: x1 :: zvi a :: L) st h = zev kX4_rides 33 (x0 :: x1 :: zvi a :: L) (zvi a :: st) h) ∧
  (∀ (a b : Int) (L st : List ZV) (h : PH), zev kX4_rides 33 L (zvi b :: zvi a :: st) h = if a ≠ b then zev kX4_rides 40 L st h else zev kX4_rides 36 L st h) ∧
  (∀ (L st : List ZV) (h : PH), zev kX4_rides 36 L st h = zev kX4_rides 37 L (zvi 0 :: st) h) ∧
  (∀ (L st : List ZV) (h : PH), zev kX4_rides 37 L st h = zev kX4_rides 52 L st h) ∧
  (∀ (L st : List ZV) (h : PH), zev kX4_rides 40 L st h = zev kX4_rides 42 L (zvi (-2) :: st) h) ∧
  (∀ (L st : List ZV) (h : PH), zev kX4_rides 42 L st h = zev kX4_rides 52 L st h) ∧
  (∀ (a : Option Nat) (L st : List ZV) (h : PH), zev kX4_rides 45 (zvr a :: L) st h = zev kX4_rides 46 (zvr a :: L) (zvr a :: st) h) ∧
  (∀ (q : Nat) (L st : List ZV) (h : PH), zev kX4_rides 46 L (zvr (some q) :: st) h = if (ph_K h q).1 % 1000 = 18 then zev kX4_rides 49 L (zvr (ph_R h q 25) :: st) h else none) ∧
  (∀ (x0 x1 x2 x3 : ZV) (a : Int) (L st : List ZV) (h : PH), zev kX4_rides 49 (x0 :: x1 :: x2 :: x3 :: zvi a :: L) st h = zev kX4_rides 51 (x0 :: x1 :: x2 :: x3 :: zvi a :: L) (zvi a :: st) h) ∧
  (∀ (j : Int) (q : Nat) (L st : List ZV) (h : PH), zev kX4_rides 51 L (zvi j :: zvr (some q) :: st) h = if (ph_K h q).1 % 1000 = 1 ∧ 0 ≤ j ∧ j < (ph_K h q).2 then zev kX4_rides 52 L (zvi (ph_I h q j) :: st) h else none) ∧
  (∀ (a : Int) (L : List ZV) (h : PH), zev kX4_rides 52 L [zvi a] h = zrv (zvi a) h) :=
  ⟨fun a L st h => e_ld0R (n := 1) rfl,
  fun a L st h => e_ld0R (n := 2) rfl,
  fun x0 a L st h => e_ld1I (n := 3) rfl,
  fun x0 x1 a L st h => e_ld2I (n := 4) rfl,
  fun x0 x1 x2 a L st h => e_ld3I (n := 5) rfl,
  fun v0 v1 v2 q L st h => e_callV4 (F := mX4_wayWhy) (kd := 18) (n := 8) rfl,
  fun v0 q L st h => e_callV2 (F := mX4_isRefused) (kd := 18) (n := 11) rfl,
  fun a L st h => e_ifeq (t := 16) (n := 14) rfl,
  fun L st h => e_push (v := zvi (-1)) (n := 15) rfl,
  fun a L h => e_retI rfl,
  fun a L st h => e_ld0R (n := 17) rfl,
  fun x0 a L st h => e_ld1I (n := 18) rfl,
  fun x0 x1 a L st h => e_ld2I (n := 19) rfl,
  fun x0 x1 x2 a L st h => e_ld3I (n := 20) rfl,
  fun v0 v1 v2 q L st h => e_callV4 (F := mX4_begins_2) (kd := 18) (n := 23) rfl,
  fun x0 x1 x2 x3 x4 a L st h hx => e_st4I (n := 25) rfl hx,
  fun x0 x1 x2 x3 a L st h => e_ld4I (n := 27) rfl,
  fun L st h => e_push (v := zvi (-1)) (n := 28) rfl,
  fun a b L st h => e_cmpne (t := 45) (n := 31) rfl,
  fun x0 a L st h => e_ld1I (n := 32) rfl,
  fun x0 x1 a L st h => e_ld2I (n := 33) rfl,
  fun a b L st h => e_cmpne (t := 40) (n := 36) rfl,
  fun L st h => e_push (v := zvi 0) (n := 37) rfl,
  fun L st h => e_goto (t := 52) rfl,
  fun L st h => e_push (v := zvi (-2)) (n := 42) rfl,
  fun L st h => e_goto (t := 52) rfl,
  fun a L st h => e_ld0R (n := 46) rfl,
  fun q L st h => e_getR (kd := 18) (k := 25) (n := 49) rfl,
  fun x0 x1 x2 x3 a L st h => e_ld4I (n := 51) rfl,
  fun j q L st h => e_ald (kd := 1) (n := 52) rfl,
  fun a L h => e_retI rfl⟩
theorem allX4_rides : zall yX4_rides cX4_rides 5 (some .int) 9 kX4_rides.1 :=
  ⟨k_aload_n dX4_rides_0,
  k_aload_n dX4_rides_1,
  k_iload_n dX4_rides_2,
  k_iload_n dX4_rides_3,
  k_iload_n dX4_rides_4,
  k_callV (y2 := yX4_wayWhy) (C := RX4) (T0 := TX4) (ci := 2) dX4_rides_5 sndX4_wayWhy rfl q2116 q2118 qs98 q137 q2119 (by decide +kernel) ⟨by decide, by decide⟩ (by decide) (by decide),
  k_callV (y2 := yX4_isRefused) (C := RX4) (T0 := TX4) (ci := 2) dX4_rides_8 sndX4_isRefused rfl q1946 q1948 qs70 q137 q1949 (by decide +kernel) ⟨by decide, by decide⟩ (by decide) (by decide),
  k_ifeq (t := 16) dX4_rides_11 (by decide),
  k_iconst dX4_rides_14,
  k_iret dX4_rides_15,
  k_aload_n dX4_rides_16,
  k_iload_n dX4_rides_17,
  k_iload_n dX4_rides_18,
  k_iload_n dX4_rides_19,
  k_callV (y2 := yX4_begins_2) (C := RX4) (T0 := TX4) (ci := 2) dX4_rides_20 sndX4_begins_2 rfl q2163 q2165 qs108 q137 q2166 (by decide +kernel) ⟨by decide, by decide⟩ (by decide) (by decide),
  k_istore dX4_rides_23,
  k_iload dX4_rides_25,
  k_iconst dX4_rides_27,
  k_cmpne (t := 45) dX4_rides_28 (by decide),
  k_iload_n dX4_rides_31,
  k_iload_n dX4_rides_32,
  k_cmpne (t := 40) dX4_rides_33 (by decide),
  k_iconst dX4_rides_36,
  k_goto (t := 52) dX4_rides_37 (by decide),
  k_bipush dX4_rides_40,
  k_goto (t := 52) dX4_rides_42 (by decide),
  k_aload_n dX4_rides_45,
  k_getR (C := RX4) (T := TX4) (N := 42) (ci := 2) (k := 25) (ref := "LinkTimesModel") dX4_rides_46 rfl in_X4 (by decide) q1824 (Or.inl rfl) (fun _ _ _ => rfl),
  k_iload dX4_rides_49,
  k_iald dX4_rides_51,
  k_iret dX4_rides_52, trivial⟩
theorem sndX4_rides : MSound 9 yX4_rides (ws_ yX4_rides cX4_rides 5 (some .int)) mX4_rides := msound_M (by decide) allX4_rides (fun _ _ => rfl)
/-! LinkTimesModel.ride(IIII)I -/
noncomputable def kX4_ride : ZM := ([(0, zi_ld 1 0 1), (1, zi_ld 1 0 2), (2, zi_ld 0 1 3), (3, zi_ld 0 2 4), (4, zi_ld 0 3 5), (5, zi_callV mX4_wayWhy 18 4 8), (8, zi_callV mX4_isRefused 18 2 11), (11, zi_if (fun a => zc_eq a 0) 16 14), (14, zi_push (zvi (-1)) 15), (15, zi_retv 0), (16, zi_ld 1 0 17), (17, zi_ld 0 1 18), (18, zi_ld 0 2 19), (19, zi_ld 0 3 20), (20, zi_callV mX4_begins_2 18 4 23), (23, zi_st 0 5 25), (25, zi_ld 0 5 27), (27, zi_push (zvi (-1)) 28), (28, zi_cmp zc_ne 39 31), (31, zi_ld 0 1 32), (32, zi_ld 0 2 33), (33, zi_cmp zc_eq 39 36), (36, zi_push (zvi (-2)) 38), (38, zi_retv 0), (39, zi_push (zvi 0) 40), (40, zi_st 0 6 42), (42, zi_ld 0 6 44), (44, zi_ld 0 4 46), (46, zi_cmp zc_ge 70 49), (49, zi_ld 0 5 51), (51, zi_push (zvi (-1)) 52), (52, zi_cmp zc_eq 70 55), (55, zi_ld 1 0 56), (56, zi_getR 18 26 59), (59, zi_ld 0 5 61), (61, zi_ald 1 62), (62, zi_st 0 5 64), (64, zi_iinc 6 1 67), (67, zi_goto 42), (70, zi_ld 0 4 72), (72, zi_if (fun a => zc_lt a 0) 81 75), (75, zi_ld 0 5 77), (77, zi_push (zvi (-1)) 78), (78, zi_cmp zc_ne 89 81), (81, zi_ld 1 0 82), (82, zi_push (zvi 1) 83), (83, zi_callV mX4_no 18 2 86), (86, zi_goto 91), (89, zi_ld 0 5 91), (91, zi_retv 0)], fun _ _ => none)
noncomputable def mX4_ride : ZF := zrunM kX4_ride 7
theorem enX4_ride (x0 : Option Nat) (x1 : Int) (x2 : Int) (x3 : Int) (x4 : Int) (h : PH) : mX4_ride [zvr x0, zvi x1, zvi x2, zvi x3, zvi x4] h = zev kX4_ride 0 [zvr x0, zvi x1, zvi x2, zvi x3, zvi x4, zvu, zvu] [] h := zrunM_eq rfl rfl
theorem hdX4_ride_42 (x0 x1 x2 x3 x4 x5 : ZV) (a : Int) (L st : List ZV) (h : PH) : zev kX4_ride 42 (x0 :: x1 :: x2 :: x3 :: x4 :: x5 :: zvi a :: L) st h = zev kX4_ride 44 (x0 :: x1 :: x2 :: x3 :: x4 :: x5 :: zvi a :: L) (zvi a :: st) h := e_ld6I (n := 44) rfl
theorem rX4_ride : (∀ (a : Option Nat) (L st : List ZV) (h : PH), zev kX4_ride 0 (zvr a :: L) st h = zev kX4_ride 1 (zvr a :: L) (zvr a :: st) h) ∧
  (∀ (a : Option Nat) (L st : List ZV) (h : PH), zev kX4_ride 1 (zvr a :: L) st h = zev kX4_ride 2 (zvr a :: L) (zvr a :: st) h) ∧
  (∀ (x0 : ZV) (a : Int) (L st : List ZV) (h : PH), zev kX4_ride 2 (x0 :: zvi a :: L) st h = zev kX4_ride 3 (x0 :: zvi a :: L) (zvi a :: st) h) ∧
  (∀ (x0 x1 : ZV) (a : Int) (L st : List ZV) (h : PH), zev kX4_ride 3 (x0 :: x1 :: zvi a :: L) st h = zev kX4_ride 4 (x0 :: x1 :: zvi a :: L) (zvi a :: st) h) ∧
  (∀ (x0 x1 x2 : ZV) (a : Int) (L st : List ZV) (h : PH), zev kX4_ride 4 (x0 :: x1 :: x2 :: zvi a :: L) st h = zev kX4_ride 5 (x0 :: x1 :: x2 :: zvi a :: L) (zvi a :: st) h) ∧
  (∀ (v0 v1 v2 : ZV) (q : Nat) (L st : List ZV) (h : PH), zev kX4_ride 5 L (v2 :: v1 :: v0 :: zvr (some q) :: st) h = if (ph_K h q).1 % 1000 = 18 ∧ zcat st ≤ 8 then zk kX4_ride 5 8 L st (mX4_wayWhy [zvr (some q), v0, v1, v2] h) else none) ∧
  (∀ (v0 : ZV) (q : Nat) (L st : List ZV) (h : PH), zev kX4_ride 8 L (v0 :: zvr (some q) :: st) h = if (ph_K h q).1 % 1000 = 18 ∧ zcat st ≤ 8 then zk kX4_ride 8 11 L st (mX4_isRefused [zvr (some q), v0] h) else none) ∧
  (∀ (a : Int) (L st : List ZV) (h : PH), zev kX4_ride 11 L (zvi a :: st) h = if a = 0 then zev kX4_ride 16 L st h else zev kX4_ride 14 L st h) ∧
  (∀ (L st : List ZV) (h : PH), zev kX4_ride 14 L st h = zev kX4_ride 15 L (zvi (-1) :: st) h) ∧
  (∀ (a : Int) (L : List ZV) (h : PH), zev kX4_ride 15 L [zvi a] h = zrv (zvi a) h) ∧
  (∀ (a : Option Nat) (L st : List ZV) (h : PH), zev kX4_ride 16 (zvr a :: L) st h = zev kX4_ride 17 (zvr a :: L) (zvr a :: st) h) ∧
  (∀ (x0 : ZV) (a : Int) (L st : List ZV) (h : PH), zev kX4_ride 17 (x0 :: zvi a :: L) st h = zev kX4_ride 18 (x0 :: zvi a :: L) (zvi a :: st) h) ∧
  (∀ (x0 x1 : ZV) (a : Int) (L st : List ZV) (h : PH), zev kX4_ride 18 (x0 :: x1 :: zvi a :: L) st h = zev kX4_ride 19 (x0 :: x1 :: zvi a :: L) (zvi a :: st) h) ∧
  (∀ (x0 x1 x2 : ZV) (a : Int) (L st : List ZV) (h : PH), zev kX4_ride 19 (x0 :: x1 :: x2 :: zvi a :: L) st h = zev kX4_ride 20 (x0 :: x1 :: x2 :: zvi a :: L) (zvi a :: st) h) ∧
  (∀ (v0 v1 v2 : ZV) (q : Nat) (L st : List ZV) (h : PH), zev kX4_ride 20 L (v2 :: v1 :: v0 :: zvr (some q) :: st) h = if (ph_K h q).1 % 1000 = 18 ∧ zcat st ≤ 8 then zk kX4_ride 20 23 L st (mX4_begins_2 [zvr (some q), v0, v1, v2] h) else none) ∧
  (∀ (x0 x1 x2 x3 x4 x5 : ZV) (a : Int) (L st : List ZV) (h : PH) (hx : zisL x4 = false) , zev kX4_ride 23 (x0 :: x1 :: x2 :: x3 :: x4 :: x5 :: L) (zvi a :: st) h = zev kX4_ride 25 (x0 :: x1 :: x2 :: x3 :: x4 :: zvi a :: L) st h) ∧
  (∀ (x0 x1 x2 x3 x4 : ZV) (a : Int) (L st : List ZV) (h : PH), zev kX4_ride 25 (x0 :: x1 :: x2 :: x3 :: x4 :: zvi a :: L) st h = zev kX4_ride 27 (x0 :: x1 :: x2 :: x3 :: x4 :: zvi a :: L) (zvi a :: st) h) ∧
  (∀ (L st : List ZV) (h : PH), zev kX4_ride 27 L st h = zev kX4_ride 28 L (zvi (-1) :: st) h) ∧
  (∀ (a b : Int) (L st : List ZV) (h : PH), zev kX4_ride 28 L (zvi b :: zvi a :: st) h = if a ≠ b then zev kX4_ride 39 L st h else zev kX4_ride 31 L st h) ∧
  (∀ (x0 : ZV) (a : Int) (L st : List ZV) (h : PH), zev kX4_ride 31 (x0 :: zvi a :: L) st h = zev kX4_ride 32 (x0 :: zvi a :: L) (zvi a :: st) h) ∧
  (∀ (x0 x1 : ZV) (a : Int) (L st : List ZV) (h : PH), zev kX4_ride 32 (x0 :: x1 :: zvi a :: L) st h = zev kX4_ride 33 (x0 :: x1 :: zvi a :: L) (zvi a :: st) h) ∧
  (∀ (a b : Int) (L st : List ZV) (h : PH), zev kX4_ride 33 L (zvi b :: zvi a :: st) h = if a = b then zev kX4_ride 39 L st h else zev kX4_ride 36 L st h) ∧
  (∀ (L st : List ZV) (h : PH), zev kX4_ride 36 L st h = zev kX4_ride 38 L (zvi (-2) :: st) h) ∧
  (∀ (a : Int) (L : List ZV) (h : PH), zev kX4_ride 38 L [zvi a] h = zrv (zvi a) h) ∧
  (∀ (L st : List ZV) (h : PH), zev kX4_ride 39 L st h = zev kX4_ride 40 L (zvi 0 :: st) h) ∧
  (∀ (x0 x1 x2 x3 x4 x5 x6 : ZV) (a : Int) (L st : List ZV) (h : PH) (hx : zisL x5 = false) , zev kX4_ride 40 (x0 :: x1 :: x2 :: x3 :: x4 :: x5 :: x6 :: L) (zvi a :: st) h = zev kX4_ride 42 (x0 :: x1 :: x2 :: x3 :: x4 :: x5 :: zvi a :: L) st h) ∧
  (∀ (x0 x1 x2 x3 : ZV) (a : Int) (L st : List ZV) (h : PH), zev kX4_ride 44 (x0 :: x1 :: x2 :: x3 :: zvi a :: L) st h = zev kX4_ride 46 (x0 :: x1 :: x2 :: x3 :: zvi a :: L) (zvi a :: st) h) ∧
  (∀ (a b : Int) (L st : List ZV) (h : PH), zev kX4_ride 46 L (zvi b :: zvi a :: st) h = if a ≥ b then zev kX4_ride 70 L st h else zev kX4_ride 49 L st h) ∧
  (∀ (x0 x1 x2 x3 x4 : ZV) (a : Int) (L st : List ZV) (h : PH), zev kX4_ride 49 (x0 :: x1 :: x2 :: x3 :: x4 :: zvi a :: L) st h = zev kX4_ride 51 (x0 :: x1 :: x2 :: x3 :: x4 :: zvi a :: L) (zvi a :: st) h) ∧
  (∀ (L st : List ZV) (h : PH), zev kX4_ride 51 L st h = zev kX4_ride 52 L (zvi (-1) :: st) h) ∧
  (∀ (a b : Int) (L st : List ZV) (h : PH), zev kX4_ride 52 L (zvi b :: zvi a :: st) h = if a = b then zev kX4_ride 70 L st h else zev kX4_ride 55 L st h) ∧
  (∀ (a : Option Nat) (L st : List ZV) (h : PH), zev kX4_ride 55 (zvr a :: L) st h = zev kX4_ride 56 (zvr a :: L) (zvr a :: st) h) ∧
  (∀ (q : Nat) (L st : List ZV) (h : PH), zev kX4_ride 56 L (zvr (some q) :: st) h = if (ph_K h q).1 % 1000 = 18 then zev kX4_ride 59 L (zvr (ph_R h q 26) :: st) h else none) ∧
  (∀ (x0 x1 x2 x3 x4 : ZV) (a : Int) (L st : List ZV) (h : PH), zev kX4_ride 59 (x0 :: x1 :: x2 :: x3 :: x4 :: zvi a :: L) st h = zev kX4_ride 61 (x0 :: x1 :: x2 :: x3 :: x4 :: zvi a :: L) (zvi a :: st) h) ∧
  (∀ (j : Int) (q : Nat) (L st : List ZV) (h : PH), zev kX4_ride 61 L (zvi j :: zvr (some q) :: st) h = if (ph_K h q).1 % 1000 = 1 ∧ 0 ≤ j ∧ j < (ph_K h q).2 then zev kX4_ride 62 L (zvi (ph_I h q j) :: st) h else none) ∧
  (∀ (x0 x1 x2 x3 x4 x5 : ZV) (a : Int) (L st : List ZV) (h : PH) (hx : zisL x4 = false) , zev kX4_ride 62 (x0 :: x1 :: x2 :: x3 :: x4 :: x5 :: L) (zvi a :: st) h = zev kX4_ride 64 (x0 :: x1 :: x2 :: x3 :: x4 :: zvi a :: L) st h) ∧
  (∀ (x0 x1 x2 x3 x4 x5 : ZV) (a : Int) (L st : List ZV) (h : PH) (hx : zisL x5 = false) , zev kX4_ride 64 (x0 :: x1 :: x2 :: x3 :: x4 :: x5 :: zvi a :: L) st h = zev kX4_ride 67 (x0 :: x1 :: x2 :: x3 :: x4 :: x5 :: zvi (w32 (a + 1)) :: L) st h) ∧
  (∀ (L st : List ZV) (h : PH), zev kX4_ride 67 L st h = zev kX4_ride 42 L st h) ∧
  (∀ (x0 x1 x2 x3 : ZV) (a : Int) (L st : List ZV) (h : PH), zev kX4_ride 70 (x0 :: x1 :: x2 :: x3 :: zvi a :: L) st h = zev kX4_ride 72 (x0 :: x1 :: x2 :: x3 :: zvi a :: L) (zvi a :: st) h) ∧
  (∀ (a : Int) (L st : List ZV) (h : PH), zev kX4_ride 72 L (zvi a :: st) h = if a < 0 then zev kX4_ride 81 L st h else zev kX4_ride 75 L st h) ∧
  (∀ (x0 x1 x2 x3 x4 : ZV) (a : Int) (L st : List ZV) (h : PH), zev kX4_ride 75 (x0 :: x1 :: x2 :: x3 :: x4 :: zvi a :: L) st h = zev kX4_ride 77 (x0 :: x1 :: x2 :: x3 :: x4 :: zvi a :: L) (zvi a :: st) h) ∧
  (∀ (L st : List ZV) (h : PH), zev kX4_ride 77 L st h = zev kX4_ride 78 L (zvi (-1) :: st) h) ∧
  (∀ (a b : Int) (L st : List ZV) (h : PH), zev kX4_ride 78 L (zvi b :: zvi a :: st) h = if a ≠ b then zev kX4_ride 89 L st h else zev kX4_ride 81 L st h) ∧
  (∀ (a : Option Nat) (L st : List ZV) (h : PH), zev kX4_ride 81 (zvr a :: L) st h = zev kX4_ride 82 (zvr a :: L) (zvr a :: st) h) ∧
  (∀ (L st : List ZV) (h : PH), zev kX4_ride 82 L st h = zev kX4_ride 83 L (zvi 1 :: st) h) ∧
  (∀ (v0 : ZV) (q : Nat) (L st : List ZV) (h : PH), zev kX4_ride 83 L (v0 :: zvr (some q) :: st) h = if (ph_K h q).1 % 1000 = 18 ∧ zcat st ≤ 8 then zk kX4_ride 83 86 L st (mX4_no [zvr (some q), v0] h) else none) ∧
  (∀ (L st : List ZV) (h : PH), zev kX4_ride 86 L st h = zev kX4_ride 91 L st h) ∧
  (∀ (x0 x1 x2 x3 x4 : ZV) (a : Int) (L st : List ZV) (h : PH), zev kX4_ride 89 (x0 :: x1 :: x2 :: x3 :: x4 :: zvi a :: L) st h = zev kX4_ride 91 (x0 :: x1 :: x2 :: x3 :: x4 :: zvi a :: L) (zvi a :: st) h) ∧
  (∀ (a : Int) (L : List ZV) (h : PH), zev kX4_ride 91 L [zvi a] h = zrv (zvi a) h) :=
  ⟨fun a L st h => e_ld0R (n := 1) rfl,
  fun a L st h => e_ld0R (n := 2) rfl,
  fun x0 a L st h => e_ld1I (n := 3) rfl,
  fun x0 x1 a L st h => e_ld2I (n := 4) rfl,
  fun x0 x1 x2 a L st h => e_ld3I (n := 5) rfl,
  fun v0 v1 v2 q L st h => e_callV4 (F := mX4_wayWhy) (kd := 18) (n := 8) rfl,
  fun v0 q L st h => e_callV2 (F := mX4_isRefused) (kd := 18) (n := 11) rfl,
  fun a L st h => e_ifeq (t := 16) (n := 14) rfl,
  fun L st h => e_push (v := zvi (-1)) (n := 15) rfl,
  fun a L h => e_retI rfl,
  fun a L st h => e_ld0R (n := 17) rfl,
  fun x0 a L st h => e_ld1I (n := 18) rfl,
  fun x0 x1 a L st h => e_ld2I (n := 19) rfl,
  fun x0 x1 x2 a L st h => e_ld3I (n := 20) rfl,
  fun v0 v1 v2 q L st h => e_callV4 (F := mX4_begins_2) (kd := 18) (n := 23) rfl,
  fun x0 x1 x2 x3 x4 x5 a L st h hx => e_st5I (n := 25) rfl hx,
  fun x0 x1 x2 x3 x4 a L st h => e_ld5I (n := 27) rfl,
  fun L st h => e_push (v := zvi (-1)) (n := 28) rfl,
  fun a b L st h => e_cmpne (t := 39) (n := 31) rfl,
  fun x0 a L st h => e_ld1I (n := 32) rfl,
  fun x0 x1 a L st h => e_ld2I (n := 33) rfl,
  fun a b L st h => e_cmpeq (t := 39) (n := 36) rfl,
  fun L st h => e_push (v := zvi (-2)) (n := 38) rfl,
  fun a L h => e_retI rfl,
  fun L st h => e_push (v := zvi 0) (n := 40) rfl,
  fun x0 x1 x2 x3 x4 x5 x6 a L st h hx => e_st6I (n := 42) rfl hx,
  fun x0 x1 x2 x3 a L st h => e_ld4I (n := 46) rfl,
  fun a b L st h => e_cmpge (t := 70) (n := 49) rfl,
  fun x0 x1 x2 x3 x4 a L st h => e_ld5I (n := 51) rfl,
  fun L st h => e_push (v := zvi (-1)) (n := 52) rfl,
  fun a b L st h => e_cmpeq (t := 70) (n := 55) rfl,
  fun a L st h => e_ld0R (n := 56) rfl,
  fun q L st h => e_getR (kd := 18) (k := 26) (n := 59) rfl,
  fun x0 x1 x2 x3 x4 a L st h => e_ld5I (n := 61) rfl,
  fun j q L st h => e_ald (kd := 1) (n := 62) rfl,
  fun x0 x1 x2 x3 x4 x5 a L st h hx => e_st5I (n := 64) rfl hx,
  fun x0 x1 x2 x3 x4 x5 a L st h hx => e_iinc6 (d := 1) (n := 67) rfl hx,
  fun L st h => e_goto (t := 42) rfl,
  fun x0 x1 x2 x3 a L st h => e_ld4I (n := 72) rfl,
  fun a L st h => e_iflt (t := 81) (n := 75) rfl,
  fun x0 x1 x2 x3 x4 a L st h => e_ld5I (n := 77) rfl,
  fun L st h => e_push (v := zvi (-1)) (n := 78) rfl,
  fun a b L st h => e_cmpne (t := 89) (n := 81) rfl,
  fun a L st h => e_ld0R (n := 82) rfl,
  fun L st h => e_push (v := zvi 1) (n := 83) rfl,
  fun v0 q L st h => e_callV2 (F := mX4_no) (kd := 18) (n := 86) rfl,
  fun L st h => e_goto (t := 91) rfl,
  fun x0 x1 x2 x3 x4 a L st h => e_ld5I (n := 91) rfl,
  fun a L h => e_retI rfl⟩
theorem allX4_ride : zall yX4_ride cX4_ride 7 (some .int) 9 kX4_ride.1 :=
  ⟨k_aload_n dX4_ride_0,
  k_aload_n dX4_ride_1,
  k_iload_n dX4_ride_2,
  k_iload_n dX4_ride_3,
  k_iload_n dX4_ride_4,
  k_callV (y2 := yX4_wayWhy) (C := RX4) (T0 := TX4) (ci := 2) dX4_ride_5 sndX4_wayWhy rfl q2116 q2118 qs98 q137 q2119 (by decide +kernel) ⟨by decide, by decide⟩ (by decide) (by decide),
  k_callV (y2 := yX4_isRefused) (C := RX4) (T0 := TX4) (ci := 2) dX4_ride_8 sndX4_isRefused rfl q1946 q1948 qs70 q137 q1949 (by decide +kernel) ⟨by decide, by decide⟩ (by decide) (by decide),
  k_ifeq (t := 16) dX4_ride_11 (by decide),
  k_iconst dX4_ride_14,
  k_iret dX4_ride_15,
  k_aload_n dX4_ride_16,
  k_iload_n dX4_ride_17,
  k_iload_n dX4_ride_18,
  k_iload_n dX4_ride_19,
  k_callV (y2 := yX4_begins_2) (C := RX4) (T0 := TX4) (ci := 2) dX4_ride_20 sndX4_begins_2 rfl q2163 q2165 qs108 q137 q2166 (by decide +kernel) ⟨by decide, by decide⟩ (by decide) (by decide),
  k_istore dX4_ride_23,
  k_iload dX4_ride_25,
  k_iconst dX4_ride_27,
  k_cmpne (t := 39) dX4_ride_28 (by decide),
  k_iload_n dX4_ride_31,
  k_iload_n dX4_ride_32,
  k_cmpeq (t := 39) dX4_ride_33 (by decide),
  k_bipush dX4_ride_36,
  k_iret dX4_ride_38,
  k_iconst dX4_ride_39,
  k_istore dX4_ride_40,
  k_iload dX4_ride_42,
  k_iload dX4_ride_44,
  k_cmpge (t := 70) dX4_ride_46 (by decide),
  k_iload dX4_ride_49,
  k_iconst dX4_ride_51,
  k_cmpeq (t := 70) dX4_ride_52 (by decide),
  k_aload_n dX4_ride_55,
  k_getR (C := RX4) (T := TX4) (N := 42) (ci := 2) (k := 26) (ref := "LinkTimesModel") dX4_ride_56 rfl in_X4 (by decide) q1825 (Or.inl rfl) (fun _ _ _ => rfl),
  k_iload dX4_ride_59,
  k_iald dX4_ride_61,
  k_istore dX4_ride_62,
  k_iinc dX4_ride_64,
  k_goto (t := 42) dX4_ride_67 (by decide),
  k_iload dX4_ride_70,
  k_iflt (t := 81) dX4_ride_72 (by decide),
  k_iload dX4_ride_75,
  k_iconst dX4_ride_77,
  k_cmpne (t := 89) dX4_ride_78 (by decide),
  k_aload_n dX4_ride_81,
  k_iconst dX4_ride_82,
  k_callV (y2 := yX4_no) (C := RX4) (T0 := TX4) (ci := 2) dX4_ride_83 sndX4_no rfl q2050 q2052 qs90 q137 q2053 (by decide +kernel) ⟨by decide, by decide⟩ (by decide) (by decide),
  k_goto (t := 91) dX4_ride_86 (by decide),
  k_iload dX4_ride_89,
  k_iret dX4_ride_91, trivial⟩
theorem sndX4_ride : MSound 9 yX4_ride (ws_ yX4_ride cX4_ride 7 (some .int)) mX4_ride := msound_M (by decide) allX4_ride (fun _ _ => rfl)
/-! LinkTimesModel.soonest(II)I -/
noncomputable def kX4_soonest : ZM := ([(0, zi_ld 1 0 1), (1, zi_getR 18 29 4), (4, zi_push (zvi 120) 6), (6, zi_ld 0 1 7), (7, zi_bin (fun a b => w32 (a * b)) 8), (8, zi_ld 0 2 9), (9, zi_bin (fun a b => w32 (a + b)) 10), (10, zi_ald 1 11), (11, zi_retv 0)], fun _ _ => none)
noncomputable def mX4_soonest : ZF := zrunM kX4_soonest 3
theorem enX4_soonest (x0 : Option Nat) (x1 : Int) (x2 : Int) (h : PH) : mX4_soonest [zvr x0, zvi x1, zvi x2] h = zev kX4_soonest 0 [zvr x0, zvi x1, zvi x2] [] h := zrunM_eq rfl rfl
theorem rX4_soonest : (∀ (a : Option Nat) (L st : List ZV) (h : PH), zev kX4_soonest 0 (zvr a :: L) st h = zev kX4_soonest 1 (zvr a :: L) (zvr a :: st) h) ∧
  (∀ (q : Nat) (L st : List ZV) (h : PH), zev kX4_soonest 1 L (zvr (some q) :: st) h = if (ph_K h q).1 % 1000 = 18 then zev kX4_soonest 4 L (zvr (ph_R h q 29) :: st) h else none) ∧
  (∀ (L st : List ZV) (h : PH), zev kX4_soonest 4 L st h = zev kX4_soonest 6 L (zvi 120 :: st) h) ∧
  (∀ (x0 : ZV) (a : Int) (L st : List ZV) (h : PH), zev kX4_soonest 6 (x0 :: zvi a :: L) st h = zev kX4_soonest 7 (x0 :: zvi a :: L) (zvi a :: st) h) ∧
  (∀ (a b : Int) (L st : List ZV) (h : PH), zev kX4_soonest 7 L (zvi b :: zvi a :: st) h = zev kX4_soonest 8 L (zvi (w32 (a * b)) :: st) h) ∧
  (∀ (x0 x1 : ZV) (a : Int) (L st : List ZV) (h : PH), zev kX4_soonest 8 (x0 :: x1 :: zvi a :: L) st h = zev kX4_soonest 9 (x0 :: x1 :: zvi a :: L) (zvi a :: st) h) ∧
  (∀ (a b : Int) (L st : List ZV) (h : PH), zev kX4_soonest 9 L (zvi b :: zvi a :: st) h = zev kX4_soonest 10 L (zvi (w32 (a + b)) :: st) h) ∧
  (∀ (j : Int) (q : Nat) (L st : List ZV) (h : PH), zev kX4_soonest 10 L (zvi j :: zvr (some q) :: st) h = if (ph_K h q).1 % 1000 = 1 ∧ 0 ≤ j ∧ j < (ph_K h q).2 then zev kX4_soonest 11 L (zvi (ph_I h q j) :: st) h else none) ∧
  (∀ (a : Int) (L : List ZV) (h : PH), zev kX4_soonest 11 L [zvi a] h = zrv (zvi a) h) :=
  ⟨fun a L st h => e_ld0R (n := 1) rfl,
  fun q L st h => e_getR (kd := 18) (k := 29) (n := 4) rfl,
  fun L st h => e_push (v := zvi 120) (n := 6) rfl,
  fun x0 a L st h => e_ld1I (n := 7) rfl,
  fun a b L st h => e_bin (f := (fun a b => w32 (a * b))) (n := 8) rfl,
  fun x0 x1 a L st h => e_ld2I (n := 9) rfl,
  fun a b L st h => e_bin (f := (fun a b => w32 (a + b))) (n := 10) rfl,
  fun j q L st h => e_ald (kd := 1) (n := 11) rfl,
  fun a L h => e_retI rfl⟩
theorem allX4_soonest : zall yX4_soonest cX4_soonest 3 (some .int) 1 kX4_soonest.1 :=
  ⟨k_aload_n dX4_soonest_0,
  k_getR (C := RX4) (T := TX4) (N := 42) (ci := 2) (k := 29) (ref := "LinkTimesModel") dX4_soonest_1 rfl in_X4 (by decide) q1828 (Or.inl rfl) (fun _ _ _ => rfl),
  k_bipush dX4_soonest_4,
  k_iload_n dX4_soonest_6,
  k_imul dX4_soonest_7,
  k_iload_n dX4_soonest_8,
  k_iadd dX4_soonest_9,
  k_iald dX4_soonest_10,
  k_iret dX4_soonest_11, trivial⟩
theorem sndX4_soonest : MSound 1 yX4_soonest (ws_ yX4_soonest cX4_soonest 3 (some .int)) mX4_soonest := msound_M (by decide) allX4_soonest (fun _ _ => rfl)
/-! LinkTimesModel.laysWithin(II)V -/
noncomputable def kX4_laysWithin : ZM := ([(0, zi_ld 1 0 1), (1, zi_callV mX4_sorts 18 1 4), (4, zi_push (zvi 0) 5), (5, zi_st 0 3 6), (6, zi_ld 0 3 7), (7, zi_ld 1 0 8), (8, zi_getI 18 28 11), (11, zi_cmp zc_ge 172 14), (14, zi_ld 1 0 15), (15, zi_getR 18 27 18), (18, zi_ld 0 3 19), (19, zi_ald 1 20), (20, zi_st 0 4 22), (22, zi_push (zvi 0) 23), (23, zi_st 0 5 25), (25, zi_ld 0 5 27), (27, zi_ld 0 2 28), (28, zi_cmp zc_gt 166 31), (31, zi_ld 1 0 32), (32, zi_getR 18 6 35), (35, zi_ld 0 4 37), (37, zi_push (zvi 2) 38), (38, zi_callS mX4_at 2 41), (41, zi_ald 1 42), (42, zi_ld 0 1 43), (43, zi_cmp zc_ne 55 46), (46, zi_ld 1 0 47), (47, zi_ld 0 4 49), (49, zi_callV mX4_arrivesAt 18 2 52), (52, zi_goto 58), (55, zi_push (zvi 9999) 58), (58, zi_st 0 6 60), (60, zi_push (zvi 0) 61), (61, zi_st 0 7 63), (63, zi_ld 0 7 65), (65, zi_ld 0 3 66), (66, zi_cmp zc_ge 145 69), (69, zi_ld 1 0 70), (70, zi_getR 18 27 73), (73, zi_ld 0 7 75), (75, zi_ald 1 76), (76, zi_st 0 8 78), (78, zi_ld 1 0 79), (79, zi_ld 0 4 81), (81, zi_ld 0 8 83), (83, zi_callV mX4_canFollow 18 3 86), (86, zi_if (fun a => zc_eq a 0) 103 89), (89, zi_ld 0 5 91), (91, zi_ld 1 0 92), (92, zi_ld 0 4 94), (94, zi_ld 0 8 96), (96, zi_callV mX4_turns 18 3 99), (99, zi_bin (fun a b => w32 (a - b)) 100), (100, zi_goto 104), (103, zi_push (zvi (-1)) 104), (104, zi_st 0 9 106), (106, zi_ld 0 9 108), (108, zi_if (fun a => zc_lt a 0) 135 111), (111, zi_ld 1 0 112), (112, zi_ld 0 8 114), (114, zi_ld 0 9 116), (116, zi_callV mX4_soonest 18 3 119), (119, zi_ld 0 6 121), (121, zi_cmp zc_ge 135 124), (124, zi_ld 1 0 125), (125, zi_ld 0 8 127), (127, zi_ld 0 9 129), (129, zi_callV mX4_soonest 18 3 132), (132, zi_goto 137), (135, zi_ld 0 6 137), (137, zi_st 0 6 139), (139, zi_iinc 7 1 142), (142, zi_goto 63), (145, zi_ld 1 0 146), (146, zi_getR 18 29 149), (149, zi_push (zvi 120) 151), (151, zi_ld 0 4 153), (153, zi_bin (fun a b => w32 (a * b)) 154), (154, zi_ld 0 5 156), (156, zi_bin (fun a b => w32 (a + b)) 157), (157, zi_ld 0 6 159), (159, zi_ast 160), (160, zi_iinc 5 1 163), (163, zi_goto 25), (166, zi_iinc 3 1 169), (169, zi_goto 6), (172, zi_ret)], fun _ _ => none)
noncomputable def mX4_laysWithin : ZF := zrunM kX4_laysWithin 10
theorem enX4_laysWithin (x0 : Option Nat) (x1 : Int) (x2 : Int) (h : PH) : mX4_laysWithin [zvr x0, zvi x1, zvi x2] h = zev kX4_laysWithin 0 [zvr x0, zvi x1, zvi x2, zvu, zvu, zvu, zvu, zvu, zvu, zvu] [] h := zrunM_eq rfl rfl
theorem hdX4_laysWithin_6 (x0 x1 x2 : ZV) (a : Int) (L st : List ZV) (h : PH) : zev kX4_laysWithin 6 (x0 :: x1 :: x2 :: zvi a :: L) st h = zev kX4_laysWithin 7 (x0 :: x1 :: x2 :: zvi a :: L) (zvi a :: st) h := e_ld3I (n := 7) rfl
theorem hdX4_laysWithin_25 (x0 x1 x2 x3 x4 : ZV) (a : Int) (L st : List ZV) (h : PH) : zev kX4_laysWithin 25 (x0 :: x1 :: x2 :: x3 :: x4 :: zvi a :: L) st h = zev kX4_laysWithin 27 (x0 :: x1 :: x2 :: x3 :: x4 :: zvi a :: L) (zvi a :: st) h := e_ld5I (n := 27) rfl
theorem hdX4_laysWithin_63 (x0 x1 x2 x3 x4 x5 x6 : ZV) (a : Int) (L st : List ZV) (h : PH) : zev kX4_laysWithin 63 (x0 :: x1 :: x2 :: x3 :: x4 :: x5 :: x6 :: zvi a :: L) st h = zev kX4_laysWithin 65 (x0 :: x1 :: x2 :: x3 :: x4 :: x5 :: x6 :: zvi a :: L) (zvi a :: st) h := e_ld7I (n := 65) rfl
theorem rX4_laysWithin : (∀ (a : Option Nat) (L st : List ZV) (h : PH), zev kX4_laysWithin 0 (zvr a :: L) st h = zev kX4_laysWithin 1 (zvr a :: L) (zvr a :: st) h) ∧
  (∀ (q : Nat) (L st : List ZV) (h : PH), zev kX4_laysWithin 1 L (zvr (some q) :: st) h = if (ph_K h q).1 % 1000 = 18 ∧ zcat st ≤ 8 then zk kX4_laysWithin 1 4 L st (mX4_sorts [zvr (some q)] h) else none) ∧
  (∀ (L st : List ZV) (h : PH), zev kX4_laysWithin 4 L st h = zev kX4_laysWithin 5 L (zvi 0 :: st) h) ∧
  (∀ (x0 x1 x2 x3 : ZV) (a : Int) (L st : List ZV) (h : PH) (hx : zisL x2 = false) , zev kX4_laysWithin 5 (x0 :: x1 :: x2 :: x3 :: L) (zvi a :: st) h = zev kX4_laysWithin 6 (x0 :: x1 :: x2 :: zvi a :: L) st h) ∧
  (∀ (a : Option Nat) (L st : List ZV) (h : PH), zev kX4_laysWithin 7 (zvr a :: L) st h = zev kX4_laysWithin 8 (zvr a :: L) (zvr a :: st) h) ∧
  (∀ (q : Nat) (L st : List ZV) (h : PH), zev kX4_laysWithin 8 L (zvr (some q) :: st) h = if (ph_K h q).1 % 1000 = 18 then zev kX4_laysWithin 11 L (zvi (ph_I h q 28) :: st) h else none) ∧
  (∀ (a b : Int) (L st : List ZV) (h : PH), zev kX4_laysWithin 11 L (zvi b :: zvi a :: st) h = if a ≥ b then zev kX4_laysWithin 172 L st h else zev kX4_laysWithin 14 L st h) ∧
  (∀ (a : Option Nat) (L st : List ZV) (h : PH), zev kX4_laysWithin 14 (zvr a :: L) st h = zev kX4_laysWithin 15 (zvr a :: L) (zvr a :: st) h) ∧
  (∀ (q : Nat) (L st : List ZV) (h : PH), zev kX4_laysWithin 15 L (zvr (some q) :: st) h = if (ph_K h q).1 % 1000 = 18 then zev kX4_laysWithin 18 L (zvr (ph_R h q 27) :: st) h else none) ∧
  (∀ (x0 x1 x2 : ZV) (a : Int) (L st : List ZV) (h : PH), zev kX4_laysWithin 18 (x0 :: x1 :: x2 :: zvi a :: L) st h = zev kX4_laysWithin 19 (x0 :: x1 :: x2 :: zvi a :: L) (zvi a :: st) h) ∧
  (∀ (j : Int) (q : Nat) (L st : List ZV) (h : PH), zev kX4_laysWithin 19 L (zvi j :: zvr (some q) :: st) h = if (ph_K h q).1 % 1000 = 1 ∧ 0 ≤ j ∧ j < (ph_K h q).2 then zev kX4_laysWithin 20 L (zvi (ph_I h q j) :: st) h else none) ∧
  (∀ (x0 x1 x2 x3 x4 : ZV) (a : Int) (L st : List ZV) (h : PH) (hx : zisL x3 = false) , zev kX4_laysWithin 20 (x0 :: x1 :: x2 :: x3 :: x4 :: L) (zvi a :: st) h = zev kX4_laysWithin 22 (x0 :: x1 :: x2 :: x3 :: zvi a :: L) st h) ∧
  (∀ (L st : List ZV) (h : PH), zev kX4_laysWithin 22 L st h = zev kX4_laysWithin 23 L (zvi 0 :: st) h) ∧
  (∀ (x0 x1 x2 x3 x4 x5 : ZV) (a : Int) (L st : List ZV) (h : PH) (hx : zisL x4 = false) , zev kX4_laysWithin 23 (x0 :: x1 :: x2 :: x3 :: x4 :: x5 :: L) (zvi a :: st) h = zev kX4_laysWithin 25 (x0 :: x1 :: x2 :: x3 :: x4 :: zvi a :: L) st h) ∧
  (∀ (x0 x1 : ZV) (a : Int) (L st : List ZV) (h : PH), zev kX4_laysWithin 27 (x0 :: x1 :: zvi a :: L) st h = zev kX4_laysWithin 28 (x0 :: x1 :: zvi a :: L) (zvi a :: st) h) ∧
  (∀ (a b : Int) (L st : List ZV) (h : PH), zev kX4_laysWithin 28 L (zvi b :: zvi a :: st) h = if a > b then zev kX4_laysWithin 166 L st h else zev kX4_laysWithin 31 L st h) ∧
  (∀ (a : Option Nat) (L st : List ZV) (h : PH), zev kX4_laysWithin 31 (zvr a :: L) st h = zev kX4_laysWithin 32 (zvr a :: L) (zvr a :: st) h) ∧
  (∀ (q : Nat) (L st : List ZV) (h : PH), zev kX4_laysWithin 32 L (zvr (some q) :: st) h = if (ph_K h q).1 % 1000 = 18 then zev kX4_laysWithin 35 L (zvr (ph_R h q 6) :: st) h else none) ∧
  (∀ (x0 x1 x2 x3 : ZV) (a : Int) (L st : List ZV) (h : PH), zev kX4_laysWithin 35 (x0 :: x1 :: x2 :: x3 :: zvi a :: L) st h = zev kX4_laysWithin 37 (x0 :: x1 :: x2 :: x3 :: zvi a :: L) (zvi a :: st) h) ∧
  (∀ (L st : List ZV) (h : PH), zev kX4_laysWithin 37 L st h = zev kX4_laysWithin 38 L (zvi 2 :: st) h) ∧
  (∀ (v0 v1 : ZV) (L st : List ZV) (h : PH), zev kX4_laysWithin 38 L (v1 :: v0 :: st) h = if zcat st ≤ 8 then zk kX4_laysWithin 38 41 L st (mX4_at [v0, v1] h) else none) ∧
  (∀ (j : Int) (q : Nat) (L st : List ZV) (h : PH), zev kX4_laysWithin 41 L (zvi j :: zvr (some q) :: st) h = if (ph_K h q).1 % 1000 = 1 ∧ 0 ≤ j ∧ j < (ph_K h q).2 then zev kX4_laysWithin 42 L (zvi (ph_I h q j) :: st) h else none) ∧
  (∀ (x0 : ZV) (a : Int) (L st : List ZV) (h : PH), zev kX4_laysWithin 42 (x0 :: zvi a :: L) st h = zev kX4_laysWithin 43 (x0 :: zvi a :: L) (zvi a :: st) h) ∧
  (∀ (a b : Int) (L st : List ZV) (h : PH), zev kX4_laysWithin 43 L (zvi b :: zvi a :: st) h = if a ≠ b then zev kX4_laysWithin 55 L st h else zev kX4_laysWithin 46 L st h) ∧
  (∀ (a : Option Nat) (L st : List ZV) (h : PH), zev kX4_laysWithin 46 (zvr a :: L) st h = zev kX4_laysWithin 47 (zvr a :: L) (zvr a :: st) h) ∧
  (∀ (x0 x1 x2 x3 : ZV) (a : Int) (L st : List ZV) (h : PH), zev kX4_laysWithin 47 (x0 :: x1 :: x2 :: x3 :: zvi a :: L) st h = zev kX4_laysWithin 49 (x0 :: x1 :: x2 :: x3 :: zvi a :: L) (zvi a :: st) h) ∧
  (∀ (v0 : ZV) (q : Nat) (L st : List ZV) (h : PH), zev kX4_laysWithin 49 L (v0 :: zvr (some q) :: st) h = if (ph_K h q).1 % 1000 = 18 ∧ zcat st ≤ 8 then zk kX4_laysWithin 49 52 L st (mX4_arrivesAt [zvr (some q), v0] h) else none) ∧
  (∀ (L st : List ZV) (h : PH), zev kX4_laysWithin 52 L st h = zev kX4_laysWithin 58 L st h) ∧
  (∀ (L st : List ZV) (h : PH), zev kX4_laysWithin 55 L st h = zev kX4_laysWithin 58 L (zvi 9999 :: st) h) ∧
  (∀ (x0 x1 x2 x3 x4 x5 x6 : ZV) (a : Int) (L st : List ZV) (h : PH) (hx : zisL x5 = false) , zev kX4_laysWithin 58 (x0 :: x1 :: x2 :: x3 :: x4 :: x5 :: x6 :: L) (zvi a :: st) h = zev kX4_laysWithin 60 (x0 :: x1 :: x2 :: x3 :: x4 :: x5 :: zvi a :: L) st h) ∧
  (∀ (L st : List ZV) (h : PH), zev kX4_laysWithin 60 L st h = zev kX4_laysWithin 61 L (zvi 0 :: st) h) ∧
  (∀ (x0 x1 x2 x3 x4 x5 x6 x7 : ZV) (a : Int) (L st : List ZV) (h : PH) (hx : zisL x6 = false) , zev kX4_laysWithin 61 (x0 :: x1 :: x2 :: x3 :: x4 :: x5 :: x6 :: x7 :: L) (zvi a :: st) h = zev kX4_laysWithin 63 (x0 :: x1 :: x2 :: x3 :: x4 :: x5 :: x6 :: zvi a :: L) st h) ∧
  (∀ (x0 x1 x2 : ZV) (a : Int) (L st : List ZV) (h : PH), zev kX4_laysWithin 65 (x0 :: x1 :: x2 :: zvi a :: L) st h = zev kX4_laysWithin 66 (x0 :: x1 :: x2 :: zvi a :: L) (zvi a :: st) h) ∧
  (∀ (a b : Int) (L st : List ZV) (h : PH), zev kX4_laysWithin 66 L (zvi b :: zvi a :: st) h = if a ≥ b then zev kX4_laysWithin 145 L st h else zev kX4_laysWithin 69 L st h) ∧
  (∀ (a : Option Nat) (L st : List ZV) (h : PH), zev kX4_laysWithin 69 (zvr a :: L) st h = zev kX4_laysWithin 70 (zvr a :: L) (zvr a :: st) h) ∧
  (∀ (q : Nat) (L st : List ZV) (h : PH), zev kX4_laysWithin 70 L (zvr (some q) :: st) h = if (ph_K h q).1 % 1000 = 18 then zev kX4_laysWithin 73 L (zvr (ph_R h q 27) :: st) h else none) ∧
  (∀ (x0 x1 x2 x3 x4 x5 x6 : ZV) (a : Int) (L st : List ZV) (h : PH), zev kX4_laysWithin 73 (x0 :: x1 :: x2 :: x3 :: x4 :: x5 :: x6 :: zvi a :: L) st h = zev kX4_laysWithin 75 (x0 :: x1 :: x2 :: x3 :: x4 :: x5 :: x6 :: zvi a :: L) (zvi a :: st) h) ∧
  (∀ (j : Int) (q : Nat) (L st : List ZV) (h : PH), zev kX4_laysWithin 75 L (zvi j :: zvr (some q) :: st) h = if (ph_K h q).1 % 1000 = 1 ∧ 0 ≤ j ∧ j < (ph_K h q).2 then zev kX4_laysWithin 76 L (zvi (ph_I h q j) :: st) h else none) ∧
  (∀ (x0 x1 x2 x3 x4 x5 x6 x7 x8 : ZV) (a : Int) (L st : List ZV) (h : PH) (hx : zisL x7 = false) , zev kX4_laysWithin 76 (x0 :: x1 :: x2 :: x3 :: x4 :: x5 :: x6 :: x7 :: x8 :: L) (zvi a :: st) h = zev kX4_laysWithin 78 (x0 :: x1 :: x2 :: x3 :: x4 :: x5 :: x6 :: x7 :: zvi a :: L) st h) ∧
  (∀ (a : Option Nat) (L st : List ZV) (h : PH), zev kX4_laysWithin 78 (zvr a :: L) st h = zev kX4_laysWithin 79 (zvr a :: L) (zvr a :: st) h) ∧
  (∀ (x0 x1 x2 x3 : ZV) (a : Int) (L st : List ZV) (h : PH), zev kX4_laysWithin 79 (x0 :: x1 :: x2 :: x3 :: zvi a :: L) st h = zev kX4_laysWithin 81 (x0 :: x1 :: x2 :: x3 :: zvi a :: L) (zvi a :: st) h) ∧
  (∀ (x0 x1 x2 x3 x4 x5 x6 x7 : ZV) (a : Int) (L st : List ZV) (h : PH), zev kX4_laysWithin 81 (x0 :: x1 :: x2 :: x3 :: x4 :: x5 :: x6 :: x7 :: zvi a :: L) st h = zev kX4_laysWithin 83 (x0 :: x1 :: x2 :: x3 :: x4 :: x5 :: x6 :: x7 :: zvi a :: L) (zvi a :: st) h) ∧
  (∀ (v0 v1 : ZV) (q : Nat) (L st : List ZV) (h : PH), zev kX4_laysWithin 83 L (v1 :: v0 :: zvr (some q) :: st) h = if (ph_K h q).1 % 1000 = 18 ∧ zcat st ≤ 8 then zk kX4_laysWithin 83 86 L st (mX4_canFollow [zvr (some q), v0, v1] h) else none) ∧
  (∀ (a : Int) (L st : List ZV) (h : PH), zev kX4_laysWithin 86 L (zvi a :: st) h = if a = 0 then zev kX4_laysWithin 103 L st h else zev kX4_laysWithin 89 L st h) ∧
  (∀ (x0 x1 x2 x3 x4 : ZV) (a : Int) (L st : List ZV) (h : PH), zev kX4_laysWithin 89 (x0 :: x1 :: x2 :: x3 :: x4 :: zvi a :: L) st h = zev kX4_laysWithin 91 (x0 :: x1 :: x2 :: x3 :: x4 :: zvi a :: L) (zvi a :: st) h) ∧
  (∀ (a : Option Nat) (L st : List ZV) (h : PH), zev kX4_laysWithin 91 (zvr a :: L) st h = zev kX4_laysWithin 92 (zvr a :: L) (zvr a :: st) h) ∧
  (∀ (x0 x1 x2 x3 : ZV) (a : Int) (L st : List ZV) (h : PH), zev kX4_laysWithin 92 (x0 :: x1 :: x2 :: x3 :: zvi a :: L) st h = zev kX4_laysWithin 94 (x0 :: x1 :: x2 :: x3 :: zvi a :: L) (zvi a :: st) h) ∧
  (∀ (x0 x1 x2 x3 x4 x5 x6 x7 : ZV) (a : Int) (L st : List ZV) (h : PH), zev kX4_laysWithin 94 (x0 :: x1 :: x2 :: x3 :: x4 :: x5 :: x6 :: x7 :: zvi a :: L) st h = zev kX4_laysWithin 96 (x0 :: x1 :: x2 :: x3 :: x4 :: x5 :: x6 :: x7 :: zvi a :: L) (zvi a :: st) h) ∧
  (∀ (v0 v1 : ZV) (q : Nat) (L st : List ZV) (h : PH), zev kX4_laysWithin 96 L (v1 :: v0 :: zvr (some q) :: st) h = if (ph_K h q).1 % 1000 = 18 ∧ zcat st ≤ 8 then zk kX4_laysWithin 96 99 L st (mX4_turns [zvr (some q), v0, v1] h) else none) ∧
  (∀ (a b : Int) (L st : List ZV) (h : PH), zev kX4_laysWithin 99 L (zvi b :: zvi a :: st) h = zev kX4_laysWithin 100 L (zvi (w32 (a - b)) :: st) h) ∧
  (∀ (L st : List ZV) (h : PH), zev kX4_laysWithin 100 L st h = zev kX4_laysWithin 104 L st h) ∧
  (∀ (L st : List ZV) (h : PH), zev kX4_laysWithin 103 L st h = zev kX4_laysWithin 104 L (zvi (-1) :: st) h) ∧
  (∀ (x0 x1 x2 x3 x4 x5 x6 x7 x8 x9 : ZV) (a : Int) (L st : List ZV) (h : PH) (hx : zisL x8 = false) , zev kX4_laysWithin 104 (x0 :: x1 :: x2 :: x3 :: x4 :: x5 :: x6 :: x7 :: x8 :: x9 :: L) (zvi a :: st) h = zev kX4_laysWithin 106 (x0 :: x1 :: x2 :: x3 :: x4 :: x5 :: x6 :: x7 :: x8 :: zvi a :: L) st h) ∧
  (∀ (x0 x1 x2 x3 x4 x5 x6 x7 x8 : ZV) (a : Int) (L st : List ZV) (h : PH), zev kX4_laysWithin 106 (x0 :: x1 :: x2 :: x3 :: x4 :: x5 :: x6 :: x7 :: x8 :: zvi a :: L) st h = zev kX4_laysWithin 108 (x0 :: x1 :: x2 :: x3 :: x4 :: x5 :: x6 :: x7 :: x8 :: zvi a :: L) (zvi a :: st) h) ∧
  (∀ (a : Int) (L st : List ZV) (h : PH), zev kX4_laysWithin 108 L (zvi a :: st) h = if a < 0 then zev kX4_laysWithin 135 L st h else zev kX4_laysWithin 111 L st h) ∧
  (∀ (a : Option Nat) (L st : List ZV) (h : PH), zev kX4_laysWithin 111 (zvr a :: L) st h = zev kX4_laysWithin 112 (zvr a :: L) (zvr a :: st) h) ∧
  (∀ (x0 x1 x2 x3 x4 x5 x6 x7 : ZV) (a : Int) (L st : List ZV) (h : PH), zev kX4_laysWithin 112 (x0 :: x1 :: x2 :: x3 :: x4 :: x5 :: x6 :: x7 :: zvi a :: L) st h = zev kX4_laysWithin 114 (x0 :: x1 :: x2 :: x3 :: x4 :: x5 :: x6 :: x7 :: zvi a :: L) (zvi a :: st) h) ∧
  (∀ (x0 x1 x2 x3 x4 x5 x6 x7 x8 : ZV) (a : Int) (L st : List ZV) (h : PH), zev kX4_laysWithin 114 (x0 :: x1 :: x2 :: x3 :: x4 :: x5 :: x6 :: x7 :: x8 :: zvi a :: L) st h = zev kX4_laysWithin 116 (x0 :: x1 :: x2 :: x3 :: x4 :: x5 :: x6 :: x7 :: x8 :: zvi a :: L) (zvi a :: st) h) ∧
  (∀ (v0 v1 : ZV) (q : Nat) (L st : List ZV) (h : PH), zev kX4_laysWithin 116 L (v1 :: v0 :: zvr (some q) :: st) h = if (ph_K h q).1 % 1000 = 18 ∧ zcat st ≤ 8 then zk kX4_laysWithin 116 119 L st (mX4_soonest [zvr (some q), v0, v1] h) else none) ∧
  (∀ (x0 x1 x2 x3 x4 x5 : ZV) (a : Int) (L st : List ZV) (h : PH), zev kX4_laysWithin 119 (x0 :: x1 :: x2 :: x3 :: x4 :: x5 :: zvi a :: L) st h = zev kX4_laysWithin 121 (x0 :: x1 :: x2 :: x3 :: x4 :: x5 :: zvi a :: L) (zvi a :: st) h) ∧
  (∀ (a b : Int) (L st : List ZV) (h : PH), zev kX4_laysWithin 121 L (zvi b :: zvi a :: st) h = if a ≥ b then zev kX4_laysWithin 135 L st h else zev kX4_laysWithin 124 L st h) ∧
  (∀ (a : Option Nat) (L st : List ZV) (h : PH), zev kX4_laysWithin 124 (zvr a :: L) st h = zev kX4_laysWithin 125 (zvr a :: L) (zvr a :: st) h) ∧
  (∀ (x0 x1 x2 x3 x4 x5 x6 x7 : ZV) (a : Int) (L st : List ZV) (h : PH), zev kX4_laysWithin 125 (x0 :: x1 :: x2 :: x3 :: x4 :: x5 :: x6 :: x7 :: zvi a :: L) st h = zev kX4_laysWithin 127 (x0 :: x1 :: x2 :: x3 :: x4 :: x5 :: x6 :: x7 :: zvi a :: L) (zvi a :: st) h) ∧
  (∀ (x0 x1 x2 x3 x4 x5 x6 x7 x8 : ZV) (a : Int) (L st : List ZV) (h : PH), zev kX4_laysWithin 127 (x0 :: x1 :: x2 :: x3 :: x4 :: x5 :: x6 :: x7 :: x8 :: zvi a :: L) st h = zev kX4_laysWithin 129 (x0 :: x1 :: x2 :: x3 :: x4 :: x5 :: x6 :: x7 :: x8 :: zvi a :: L) (zvi a :: st) h) ∧
  (∀ (v0 v1 : ZV) (q : Nat) (L st : List ZV) (h : PH), zev kX4_laysWithin 129 L (v1 :: v0 :: zvr (some q) :: st) h = if (ph_K h q).1 % 1000 = 18 ∧ zcat st ≤ 8 then zk kX4_laysWithin 129 132 L st (mX4_soonest [zvr (some q), v0, v1] h) else none) ∧
  (∀ (L st : List ZV) (h : PH), zev kX4_laysWithin 132 L st h = zev kX4_laysWithin 137 L st h) ∧
  (∀ (x0 x1 x2 x3 x4 x5 : ZV) (a : Int) (L st : List ZV) (h : PH), zev kX4_laysWithin 135 (x0 :: x1 :: x2 :: x3 :: x4 :: x5 :: zvi a :: L) st h = zev kX4_laysWithin 137 (x0 :: x1 :: x2 :: x3 :: x4 :: x5 :: zvi a :: L) (zvi a :: st) h) ∧
  (∀ (x0 x1 x2 x3 x4 x5 x6 : ZV) (a : Int) (L st : List ZV) (h : PH) (hx : zisL x5 = false) , zev kX4_laysWithin 137 (x0 :: x1 :: x2 :: x3 :: x4 :: x5 :: x6 :: L) (zvi a :: st) h = zev kX4_laysWithin 139 (x0 :: x1 :: x2 :: x3 :: x4 :: x5 :: zvi a :: L) st h) ∧
  (∀ (x0 x1 x2 x3 x4 x5 x6 : ZV) (a : Int) (L st : List ZV) (h : PH) (hx : zisL x6 = false) , zev kX4_laysWithin 139 (x0 :: x1 :: x2 :: x3 :: x4 :: x5 :: x6 :: zvi a :: L) st h = zev kX4_laysWithin 142 (x0 :: x1 :: x2 :: x3 :: x4 :: x5 :: x6 :: zvi (w32 (a + 1)) :: L) st h) ∧
  (∀ (L st : List ZV) (h : PH), zev kX4_laysWithin 142 L st h = zev kX4_laysWithin 63 L st h) ∧
  (∀ (a : Option Nat) (L st : List ZV) (h : PH), zev kX4_laysWithin 145 (zvr a :: L) st h = zev kX4_laysWithin 146 (zvr a :: L) (zvr a :: st) h) ∧
  (∀ (q : Nat) (L st : List ZV) (h : PH), zev kX4_laysWithin 146 L (zvr (some q) :: st) h = if (ph_K h q).1 % 1000 = 18 then zev kX4_laysWithin 149 L (zvr (ph_R h q 29) :: st) h else none) ∧
  (∀ (L st : List ZV) (h : PH), zev kX4_laysWithin 149 L st h = zev kX4_laysWithin 151 L (zvi 120 :: st) h) ∧
  (∀ (x0 x1 x2 x3 : ZV) (a : Int) (L st : List ZV) (h : PH), zev kX4_laysWithin 151 (x0 :: x1 :: x2 :: x3 :: zvi a :: L) st h = zev kX4_laysWithin 153 (x0 :: x1 :: x2 :: x3 :: zvi a :: L) (zvi a :: st) h) ∧
  (∀ (a b : Int) (L st : List ZV) (h : PH), zev kX4_laysWithin 153 L (zvi b :: zvi a :: st) h = zev kX4_laysWithin 154 L (zvi (w32 (a * b)) :: st) h) ∧
  (∀ (x0 x1 x2 x3 x4 : ZV) (a : Int) (L st : List ZV) (h : PH), zev kX4_laysWithin 154 (x0 :: x1 :: x2 :: x3 :: x4 :: zvi a :: L) st h = zev kX4_laysWithin 156 (x0 :: x1 :: x2 :: x3 :: x4 :: zvi a :: L) (zvi a :: st) h) ∧
  (∀ (a b : Int) (L st : List ZV) (h : PH), zev kX4_laysWithin 156 L (zvi b :: zvi a :: st) h = zev kX4_laysWithin 157 L (zvi (w32 (a + b)) :: st) h) ∧
  (∀ (x0 x1 x2 x3 x4 x5 : ZV) (a : Int) (L st : List ZV) (h : PH), zev kX4_laysWithin 157 (x0 :: x1 :: x2 :: x3 :: x4 :: x5 :: zvi a :: L) st h = zev kX4_laysWithin 159 (x0 :: x1 :: x2 :: x3 :: x4 :: x5 :: zvi a :: L) (zvi a :: st) h) ∧
  (∀ (x j : Int) (q : Nat) (L st : List ZV) (h : PH), zev kX4_laysWithin 159 L (zvi x :: zvi j :: zvr (some q) :: st) h = if (ph_K h q).1 = 1 ∧ 0 ≤ j ∧ j < (ph_K h q).2 then zev kX4_laysWithin 160 L st (st_I h q j x) else none) ∧
  (∀ (x0 x1 x2 x3 x4 : ZV) (a : Int) (L st : List ZV) (h : PH) (hx : zisL x4 = false) , zev kX4_laysWithin 160 (x0 :: x1 :: x2 :: x3 :: x4 :: zvi a :: L) st h = zev kX4_laysWithin 163 (x0 :: x1 :: x2 :: x3 :: x4 :: zvi (w32 (a + 1)) :: L) st h) ∧
  (∀ (L st : List ZV) (h : PH), zev kX4_laysWithin 163 L st h = zev kX4_laysWithin 25 L st h) ∧
  (∀ (x0 x1 x2 : ZV) (a : Int) (L st : List ZV) (h : PH) (hx : zisL x2 = false) , zev kX4_laysWithin 166 (x0 :: x1 :: x2 :: zvi a :: L) st h = zev kX4_laysWithin 169 (x0 :: x1 :: x2 :: zvi (w32 (a + 1)) :: L) st h) ∧
  (∀ (L st : List ZV) (h : PH), zev kX4_laysWithin 169 L st h = zev kX4_laysWithin 6 L st h) ∧
  (∀ (L : List ZV) (h : PH), zev kX4_laysWithin 172 L [] h = zr0 h) :=
  ⟨fun a L st h => e_ld0R (n := 1) rfl,
  fun q L st h => e_callV1 (F := mX4_sorts) (kd := 18) (n := 4) rfl,
  fun L st h => e_push (v := zvi 0) (n := 5) rfl,
  fun x0 x1 x2 x3 a L st h hx => e_st3I (n := 6) rfl hx,
  fun a L st h => e_ld0R (n := 8) rfl,
  fun q L st h => e_getI (kd := 18) (k := 28) (n := 11) rfl,
  fun a b L st h => e_cmpge (t := 172) (n := 14) rfl,
  fun a L st h => e_ld0R (n := 15) rfl,
  fun q L st h => e_getR (kd := 18) (k := 27) (n := 18) rfl,
  fun x0 x1 x2 a L st h => e_ld3I (n := 19) rfl,
  fun j q L st h => e_ald (kd := 1) (n := 20) rfl,
  fun x0 x1 x2 x3 x4 a L st h hx => e_st4I (n := 22) rfl hx,
  fun L st h => e_push (v := zvi 0) (n := 23) rfl,
  fun x0 x1 x2 x3 x4 x5 a L st h hx => e_st5I (n := 25) rfl hx,
  fun x0 x1 a L st h => e_ld2I (n := 28) rfl,
  fun a b L st h => e_cmpgt (t := 166) (n := 31) rfl,
  fun a L st h => e_ld0R (n := 32) rfl,
  fun q L st h => e_getR (kd := 18) (k := 6) (n := 35) rfl,
  fun x0 x1 x2 x3 a L st h => e_ld4I (n := 37) rfl,
  fun L st h => e_push (v := zvi 2) (n := 38) rfl,
  fun v0 v1 L st h => e_callS2 (F := mX4_at) (n := 41) rfl,
  fun j q L st h => e_ald (kd := 1) (n := 42) rfl,
  fun x0 a L st h => e_ld1I (n := 43) rfl,
  fun a b L st h => e_cmpne (t := 55) (n := 46) rfl,
  fun a L st h => e_ld0R (n := 47) rfl,
  fun x0 x1 x2 x3 a L st h => e_ld4I (n := 49) rfl,
  fun v0 q L st h => e_callV2 (F := mX4_arrivesAt) (kd := 18) (n := 52) rfl,
  fun L st h => e_goto (t := 58) rfl,
  fun L st h => e_push (v := zvi 9999) (n := 58) rfl,
  fun x0 x1 x2 x3 x4 x5 x6 a L st h hx => e_st6I (n := 60) rfl hx,
  fun L st h => e_push (v := zvi 0) (n := 61) rfl,
  fun x0 x1 x2 x3 x4 x5 x6 x7 a L st h hx => e_st7I (n := 63) rfl hx,
  fun x0 x1 x2 a L st h => e_ld3I (n := 66) rfl,
  fun a b L st h => e_cmpge (t := 145) (n := 69) rfl,
  fun a L st h => e_ld0R (n := 70) rfl,
  fun q L st h => e_getR (kd := 18) (k := 27) (n := 73) rfl,
  fun x0 x1 x2 x3 x4 x5 x6 a L st h => e_ld7I (n := 75) rfl,
  fun j q L st h => e_ald (kd := 1) (n := 76) rfl,
  fun x0 x1 x2 x3 x4 x5 x6 x7 x8 a L st h hx => e_st8I (n := 78) rfl hx,
  fun a L st h => e_ld0R (n := 79) rfl,
  fun x0 x1 x2 x3 a L st h => e_ld4I (n := 81) rfl,
  fun x0 x1 x2 x3 x4 x5 x6 x7 a L st h => e_ld8I (n := 83) rfl,
  fun v0 v1 q L st h => e_callV3 (F := mX4_canFollow) (kd := 18) (n := 86) rfl,
  fun a L st h => e_ifeq (t := 103) (n := 89) rfl,
  fun x0 x1 x2 x3 x4 a L st h => e_ld5I (n := 91) rfl,
  fun a L st h => e_ld0R (n := 92) rfl,
  fun x0 x1 x2 x3 a L st h => e_ld4I (n := 94) rfl,
  fun x0 x1 x2 x3 x4 x5 x6 x7 a L st h => e_ld8I (n := 96) rfl,
  fun v0 v1 q L st h => e_callV3 (F := mX4_turns) (kd := 18) (n := 99) rfl,
  fun a b L st h => e_bin (f := (fun a b => w32 (a - b))) (n := 100) rfl,
  fun L st h => e_goto (t := 104) rfl,
  fun L st h => e_push (v := zvi (-1)) (n := 104) rfl,
  fun x0 x1 x2 x3 x4 x5 x6 x7 x8 x9 a L st h hx => e_st9I (n := 106) rfl hx,
  fun x0 x1 x2 x3 x4 x5 x6 x7 x8 a L st h => e_ld9I (n := 108) rfl,
  fun a L st h => e_iflt (t := 135) (n := 111) rfl,
  fun a L st h => e_ld0R (n := 112) rfl,
  fun x0 x1 x2 x3 x4 x5 x6 x7 a L st h => e_ld8I (n := 114) rfl,
  fun x0 x1 x2 x3 x4 x5 x6 x7 x8 a L st h => e_ld9I (n := 116) rfl,
  fun v0 v1 q L st h => e_callV3 (F := mX4_soonest) (kd := 18) (n := 119) rfl,
  fun x0 x1 x2 x3 x4 x5 a L st h => e_ld6I (n := 121) rfl,
  fun a b L st h => e_cmpge (t := 135) (n := 124) rfl,
  fun a L st h => e_ld0R (n := 125) rfl,
  fun x0 x1 x2 x3 x4 x5 x6 x7 a L st h => e_ld8I (n := 127) rfl,
  fun x0 x1 x2 x3 x4 x5 x6 x7 x8 a L st h => e_ld9I (n := 129) rfl,
  fun v0 v1 q L st h => e_callV3 (F := mX4_soonest) (kd := 18) (n := 132) rfl,
  fun L st h => e_goto (t := 137) rfl,
  fun x0 x1 x2 x3 x4 x5 a L st h => e_ld6I (n := 137) rfl,
  fun x0 x1 x2 x3 x4 x5 x6 a L st h hx => e_st6I (n := 139) rfl hx,
  fun x0 x1 x2 x3 x4 x5 x6 a L st h hx => e_iinc7 (d := 1) (n := 142) rfl hx,
  fun L st h => e_goto (t := 63) rfl,
  fun a L st h => e_ld0R (n := 146) rfl,
  fun q L st h => e_getR (kd := 18) (k := 29) (n := 149) rfl,
  fun L st h => e_push (v := zvi 120) (n := 151) rfl,
  fun x0 x1 x2 x3 a L st h => e_ld4I (n := 153) rfl,
  fun a b L st h => e_bin (f := (fun a b => w32 (a * b))) (n := 154) rfl,
  fun x0 x1 x2 x3 x4 a L st h => e_ld5I (n := 156) rfl,
  fun a b L st h => e_bin (f := (fun a b => w32 (a + b))) (n := 157) rfl,
  fun x0 x1 x2 x3 x4 x5 a L st h => e_ld6I (n := 159) rfl,
  fun x j q L st h => e_ast (n := 160) rfl,
  fun x0 x1 x2 x3 x4 a L st h hx => e_iinc5 (d := 1) (n := 163) rfl hx,
  fun L st h => e_goto (t := 25) rfl,
  fun x0 x1 x2 a L st h hx => e_iinc3 (d := 1) (n := 169) rfl hx,
  fun L st h => e_goto (t := 6) rfl,
  fun L h => e_ret rfl⟩
theorem allX4_laysWithin : zall yX4_laysWithin cX4_laysWithin 10 none 5 kX4_laysWithin.1 :=
  ⟨k_aload_n dX4_laysWithin_0,
  k_callV (y2 := yX4_sorts) (C := RX4) (T0 := TX4) (ci := 2) dX4_laysWithin_1 sndX4_sorts rfl q2131 q2133 qs101 q137 q2134 (by decide +kernel) ⟨by decide, by decide⟩ (by decide) (by decide),
  k_iconst dX4_laysWithin_4,
  k_istore_n dX4_laysWithin_5,
  k_iload_n dX4_laysWithin_6,
  k_aload_n dX4_laysWithin_7,
  k_getI (C := RX4) (T := TX4) (N := 42) (ci := 2) (k := 28) (ref := "LinkTimesModel") dX4_laysWithin_8 rfl in_X4 (by decide) q1827 (Or.inl rfl) (fun _ _ _ => rfl),
  k_cmpge (t := 172) dX4_laysWithin_11 (by decide),
  k_aload_n dX4_laysWithin_14,
  k_getR (C := RX4) (T := TX4) (N := 42) (ci := 2) (k := 27) (ref := "LinkTimesModel") dX4_laysWithin_15 rfl in_X4 (by decide) q1826 (Or.inl rfl) (fun _ _ _ => rfl),
  k_iload_n dX4_laysWithin_18,
  k_iald dX4_laysWithin_19,
  k_istore dX4_laysWithin_20,
  k_iconst dX4_laysWithin_22,
  k_istore dX4_laysWithin_23,
  k_iload dX4_laysWithin_25,
  k_iload_n dX4_laysWithin_27,
  k_cmpgt (t := 166) dX4_laysWithin_28 (by decide),
  k_aload_n dX4_laysWithin_31,
  k_getR (C := RX4) (T := TX4) (N := 42) (ci := 2) (k := 6) (ref := "LinkTimesModel") dX4_laysWithin_32 rfl in_X4 (by decide) q1805 (Or.inl rfl) (fun _ _ _ => rfl),
  k_iload dX4_laysWithin_35,
  k_iconst dX4_laysWithin_37,
  k_callS (y2 := yX4_at) dX4_laysWithin_38 sndX4_at q2047 q2048 q137 q2049 (by decide +kernel) ⟨by decide, by decide⟩ (by decide) (by decide),
  k_iald dX4_laysWithin_41,
  k_iload_n dX4_laysWithin_42,
  k_cmpne (t := 55) dX4_laysWithin_43 (by decide),
  k_aload_n dX4_laysWithin_46,
  k_iload dX4_laysWithin_47,
  k_callV (y2 := yX4_arrivesAt) (C := RX4) (T0 := TX4) (ci := 2) dX4_laysWithin_49 sndX4_arrivesAt rfl q2104 q2106 qs97 q137 q2107 (by decide +kernel) ⟨by decide, by decide⟩ (by decide) (by decide),
  k_goto (t := 58) dX4_laysWithin_52 (by decide),
  k_sipush dX4_laysWithin_55,
  k_istore dX4_laysWithin_58,
  k_iconst dX4_laysWithin_60,
  k_istore dX4_laysWithin_61,
  k_iload dX4_laysWithin_63,
  k_iload_n dX4_laysWithin_65,
  k_cmpge (t := 145) dX4_laysWithin_66 (by decide),
  k_aload_n dX4_laysWithin_69,
  k_getR (C := RX4) (T := TX4) (N := 42) (ci := 2) (k := 27) (ref := "LinkTimesModel") dX4_laysWithin_70 rfl in_X4 (by decide) q1826 (Or.inl rfl) (fun _ _ _ => rfl),
  k_iload dX4_laysWithin_73,
  k_iald dX4_laysWithin_75,
  k_istore dX4_laysWithin_76,
  k_aload_n dX4_laysWithin_78,
  k_iload dX4_laysWithin_79,
  k_iload dX4_laysWithin_81,
  k_callV (y2 := yX4_canFollow) (C := RX4) (T0 := TX4) (ci := 2) dX4_laysWithin_83 sndX4_canFollow rfl q2139 q2141 qs103 q137 q2142 (by decide +kernel) ⟨by decide, by decide⟩ (by decide) (by decide),
  k_ifeq (t := 103) dX4_laysWithin_86 (by decide),
  k_iload dX4_laysWithin_89,
  k_aload_n dX4_laysWithin_91,
  k_iload dX4_laysWithin_92,
  k_iload dX4_laysWithin_94,
  k_callV (y2 := yX4_turns) (C := RX4) (T0 := TX4) (ci := 2) dX4_laysWithin_96 sndX4_turns rfl q2143 q2145 qs104 q137 q2146 (by decide +kernel) ⟨by decide, by decide⟩ (by decide) (by decide),
  k_isub dX4_laysWithin_99,
  k_goto (t := 104) dX4_laysWithin_100 (by decide),
  k_iconst dX4_laysWithin_103,
  k_istore dX4_laysWithin_104,
  k_iload dX4_laysWithin_106,
  k_iflt (t := 135) dX4_laysWithin_108 (by decide),
  k_aload_n dX4_laysWithin_111,
  k_iload dX4_laysWithin_112,
  k_iload dX4_laysWithin_114,
  k_callV (y2 := yX4_soonest) (C := RX4) (T0 := TX4) (ci := 2) dX4_laysWithin_116 sndX4_soonest rfl q2187 q2189 qs110 q137 q2190 (by decide +kernel) ⟨by decide, by decide⟩ (by decide) (by decide),
  k_iload dX4_laysWithin_119,
  k_cmpge (t := 135) dX4_laysWithin_121 (by decide),
  k_aload_n dX4_laysWithin_124,
  k_iload dX4_laysWithin_125,
  k_iload dX4_laysWithin_127,
  k_callV (y2 := yX4_soonest) (C := RX4) (T0 := TX4) (ci := 2) dX4_laysWithin_129 sndX4_soonest rfl q2187 q2189 qs110 q137 q2190 (by decide +kernel) ⟨by decide, by decide⟩ (by decide) (by decide),
  k_goto (t := 137) dX4_laysWithin_132 (by decide),
  k_iload dX4_laysWithin_135,
  k_istore dX4_laysWithin_137,
  k_iinc dX4_laysWithin_139,
  k_goto (t := 63) dX4_laysWithin_142 (by decide),
  k_aload_n dX4_laysWithin_145,
  k_getR (C := RX4) (T := TX4) (N := 42) (ci := 2) (k := 29) (ref := "LinkTimesModel") dX4_laysWithin_146 rfl in_X4 (by decide) q1828 (Or.inl rfl) (fun _ _ _ => rfl),
  k_bipush dX4_laysWithin_149,
  k_iload dX4_laysWithin_151,
  k_imul dX4_laysWithin_153,
  k_iload dX4_laysWithin_154,
  k_iadd dX4_laysWithin_156,
  k_iload dX4_laysWithin_157,
  k_iast dX4_laysWithin_159,
  k_iinc dX4_laysWithin_160,
  k_goto (t := 25) dX4_laysWithin_163 (by decide),
  k_iinc dX4_laysWithin_166,
  k_goto (t := 6) dX4_laysWithin_169 (by decide),
  k_ret dX4_laysWithin_172, trivial⟩
theorem sndX4_laysWithin : MSound 5 yX4_laysWithin (ws_ yX4_laysWithin cX4_laysWithin 10 none) mX4_laysWithin := msound_M (by decide) allX4_laysWithin (fun _ _ => rfl)
/-! LinkTimesModel.soonestBy(III)I -/
noncomputable def kX4_soonestBy : ZM := ([(0, zi_push (zvi 9999) 3), (3, zi_st 0 4 5), (5, zi_push (zvi 0) 6), (6, zi_st 0 5 8), (8, zi_ld 0 5 10), (10, zi_ld 1 0 11), (11, zi_getR 18 6 14), (14, zi_push (zvi 4) 15), (15, zi_ald 1 16), (16, zi_cmp zc_ge 97 19), (19, zi_ld 1 0 20), (20, zi_ld 0 5 22), (22, zi_callV mX4_runs 18 2 25), (25, zi_if (fun a => zc_eq a 0) 57 28), (28, zi_ld 1 0 29), (29, zi_getR 18 6 32), (32, zi_ld 0 5 34), (34, zi_push (zvi 1) 35), (35, zi_callS mX4_at 2 38), (38, zi_ald 1 39), (39, zi_ld 0 1 40), (40, zi_cmp zc_ne 57 43), (43, zi_ld 1 0 44), (44, zi_ld 0 5 46), (46, zi_callV mX4_leavesAt 18 2 49), (49, zi_ld 0 2 50), (50, zi_cmp zc_lt 57 53), (53, zi_push (zvi 1) 54), (54, zi_goto 58), (57, zi_push (zvi 0) 58), (58, zi_st 0 6 60), (60, zi_ld 0 6 62), (62, zi_if (fun a => zc_eq a 0) 87 65), (65, zi_ld 1 0 66), (66, zi_ld 0 5 68), (68, zi_ld 0 3 69), (69, zi_callV mX4_soonest 18 3 72), (72, zi_ld 0 4 74), (74, zi_cmp zc_ge 87 77), (77, zi_ld 1 0 78), (78, zi_ld 0 5 80), (80, zi_ld 0 3 81), (81, zi_callV mX4_soonest 18 3 84), (84, zi_goto 89), (87, zi_ld 0 4 89), (89, zi_st 0 4 91), (91, zi_iinc 5 1 94), (94, zi_goto 8), (97, zi_ld 0 4 99), (99, zi_retv 0)], fun _ _ => none)
noncomputable def mX4_soonestBy : ZF := zrunM kX4_soonestBy 7
theorem enX4_soonestBy (x0 : Option Nat) (x1 : Int) (x2 : Int) (x3 : Int) (h : PH) : mX4_soonestBy [zvr x0, zvi x1, zvi x2, zvi x3] h = zev kX4_soonestBy 0 [zvr x0, zvi x1, zvi x2, zvi x3, zvu, zvu, zvu] [] h := zrunM_eq rfl rfl
theorem hdX4_soonestBy_8 (x0 x1 x2 x3 x4 : ZV) (a : Int) (L st : List ZV) (h : PH) : zev kX4_soonestBy 8 (x0 :: x1 :: x2 :: x3 :: x4 :: zvi a :: L) st h = zev kX4_soonestBy 10 (x0 :: x1 :: x2 :: x3 :: x4 :: zvi a :: L) (zvi a :: st) h := e_ld5I (n := 10) rfl
theorem rX4_soonestBy : (∀ (L st : List ZV) (h : PH), zev kX4_soonestBy 0 L st h = zev kX4_soonestBy 3 L (zvi 9999 :: st) h) ∧
  (∀ (x0 x1 x2 x3 x4 : ZV) (a : Int) (L st : List ZV) (h : PH) (hx : zisL x3 = false) , zev kX4_soonestBy 3 (x0 :: x1 :: x2 :: x3 :: x4 :: L) (zvi a :: st) h = zev kX4_soonestBy 5 (x0 :: x1 :: x2 :: x3 :: zvi a :: L) st h) ∧
  (∀ (L st : List ZV) (h : PH), zev kX4_soonestBy 5 L st h = zev kX4_soonestBy 6 L (zvi 0 :: st) h) ∧
  (∀ (x0 x1 x2 x3 x4 x5 : ZV) (a : Int) (L st : List ZV) (h : PH) (hx : zisL x4 = false) , zev kX4_soonestBy 6 (x0 :: x1 :: x2 :: x3 :: x4 :: x5 :: L) (zvi a :: st) h = zev kX4_soonestBy 8 (x0 :: x1 :: x2 :: x3 :: x4 :: zvi a :: L) st h) ∧
  (∀ (a : Option Nat) (L st : List ZV) (h : PH), zev kX4_soonestBy 10 (zvr a :: L) st h = zev kX4_soonestBy 11 (zvr a :: L) (zvr a :: st) h) ∧
  (∀ (q : Nat) (L st : List ZV) (h : PH), zev kX4_soonestBy 11 L (zvr (some q) :: st) h = if (ph_K h q).1 % 1000 = 18 then zev kX4_soonestBy 14 L (zvr (ph_R h q 6) :: st) h else none) ∧
  (∀ (L st : List ZV) (h : PH), zev kX4_soonestBy 14 L st h = zev kX4_soonestBy 15 L (zvi 4 :: st) h) ∧
  (∀ (j : Int) (q : Nat) (L st : List ZV) (h : PH), zev kX4_soonestBy 15 L (zvi j :: zvr (some q) :: st) h = if (ph_K h q).1 % 1000 = 1 ∧ 0 ≤ j ∧ j < (ph_K h q).2 then zev kX4_soonestBy 16 L (zvi (ph_I h q j) :: st) h else none) ∧
  (∀ (a b : Int) (L st : List ZV) (h : PH), zev kX4_soonestBy 16 L (zvi b :: zvi a :: st) h = if a ≥ b then zev kX4_soonestBy 97 L st h else zev kX4_soonestBy 19 L st h) ∧
  (∀ (a : Option Nat) (L st : List ZV) (h : PH), zev kX4_soonestBy 19 (zvr a :: L) st h = zev kX4_soonestBy 20 (zvr a :: L) (zvr a :: st) h) ∧
  (∀ (x0 x1 x2 x3 x4 : ZV) (a : Int) (L st : List ZV) (h : PH), zev kX4_soonestBy 20 (x0 :: x1 :: x2 :: x3 :: x4 :: zvi a :: L) st h = zev kX4_soonestBy 22 (x0 :: x1 :: x2 :: x3 :: x4 :: zvi a :: L) (zvi a :: st) h) ∧
  (∀ (v0 : ZV) (q : Nat) (L st : List ZV) (h : PH), zev kX4_soonestBy 22 L (v0 :: zvr (some q) :: st) h = if (ph_K h q).1 % 1000 = 18 ∧ zcat st ≤ 8 then zk kX4_soonestBy 22 25 L st (mX4_runs [zvr (some q), v0] h) else none) ∧
  (∀ (a : Int) (L st : List ZV) (h : PH), zev kX4_soonestBy 25 L (zvi a :: st) h = if a = 0 then zev kX4_soonestBy 57 L st h else zev kX4_soonestBy 28 L st h) ∧
  (∀ (a : Option Nat) (L st : List ZV) (h : PH), zev kX4_soonestBy 28 (zvr a :: L) st h = zev kX4_soonestBy 29 (zvr a :: L) (zvr a :: st) h) ∧
  (∀ (q : Nat) (L st : List ZV) (h : PH), zev kX4_soonestBy 29 L (zvr (some q) :: st) h = if (ph_K h q).1 % 1000 = 18 then zev kX4_soonestBy 32 L (zvr (ph_R h q 6) :: st) h else none) ∧
  (∀ (x0 x1 x2 x3 x4 : ZV) (a : Int) (L st : List ZV) (h : PH), zev kX4_soonestBy 32 (x0 :: x1 :: x2 :: x3 :: x4 :: zvi a :: L) st h = zev kX4_soonestBy 34 (x0 :: x1 :: x2 :: x3 :: x4 :: zvi a :: L) (zvi a :: st) h) ∧
  (∀ (L st : List ZV) (h : PH), zev kX4_soonestBy 34 L st h = zev kX4_soonestBy 35 L (zvi 1 :: st) h) ∧
  (∀ (v0 v1 : ZV) (L st : List ZV) (h : PH), zev kX4_soonestBy 35 L (v1 :: v0 :: st) h = if zcat st ≤ 8 then zk kX4_soonestBy 35 38 L st (mX4_at [v0, v1] h) else none) ∧
  (∀ (j : Int) (q : Nat) (L st : List ZV) (h : PH), zev kX4_soonestBy 38 L (zvi j :: zvr (some q) :: st) h = if (ph_K h q).1 % 1000 = 1 ∧ 0 ≤ j ∧ j < (ph_K h q).2 then zev kX4_soonestBy 39 L (zvi (ph_I h q j) :: st) h else none) ∧
  (∀ (x0 : ZV) (a : Int) (L st : List ZV) (h : PH), zev kX4_soonestBy 39 (x0 :: zvi a :: L) st h = zev kX4_soonestBy 40 (x0 :: zvi a :: L) (zvi a :: st) h) ∧
  (∀ (a b : Int) (L st : List ZV) (h : PH), zev kX4_soonestBy 40 L (zvi b :: zvi a :: st) h = if a ≠ b then zev kX4_soonestBy 57 L st h else zev kX4_soonestBy 43 L st h) ∧
  (∀ (a : Option Nat) (L st : List ZV) (h : PH), zev kX4_soonestBy 43 (zvr a :: L) st h = zev kX4_soonestBy 44 (zvr a :: L) (zvr a :: st) h) ∧
  (∀ (x0 x1 x2 x3 x4 : ZV) (a : Int) (L st : List ZV) (h : PH), zev kX4_soonestBy 44 (x0 :: x1 :: x2 :: x3 :: x4 :: zvi a :: L) st h = zev kX4_soonestBy 46 (x0 :: x1 :: x2 :: x3 :: x4 :: zvi a :: L) (zvi a :: st) h) ∧
  (∀ (v0 : ZV) (q : Nat) (L st : List ZV) (h : PH), zev kX4_soonestBy 46 L (v0 :: zvr (some q) :: st) h = if (ph_K h q).1 % 1000 = 18 ∧ zcat st ≤ 8 then zk kX4_soonestBy 46 49 L st (mX4_leavesAt [zvr (some q), v0] h) else none) ∧
  (∀ (x0 x1 : ZV) (a : Int) (L st : List ZV) (h : PH), zev kX4_soonestBy 49 (x0 :: x1 :: zvi a :: L) st h = zev kX4_soonestBy 50 (x0 :: x1 :: zvi a :: L) (zvi a :: st) h) ∧
  (∀ (a b : Int) (L st : List ZV) (h : PH), zev kX4_soonestBy 50 L (zvi b :: zvi a :: st) h = if a < b then zev kX4_soonestBy 57 L st h else zev kX4_soonestBy 53 L st h) ∧
  (∀ (L st : List ZV) (h : PH), zev kX4_soonestBy 53 L st h = zev kX4_soonestBy 54 L (zvi 1 :: st) h) ∧
  (∀ (L st : List ZV) (h : PH), zev kX4_soonestBy 54 L st h = zev kX4_soonestBy 58 L st h) ∧
  (∀ (L st : List ZV) (h : PH), zev kX4_soonestBy 57 L st h = zev kX4_soonestBy 58 L (zvi 0 :: st) h) ∧
  (∀ (x0 x1 x2 x3 x4 x5 x6 : ZV) (a : Int) (L st : List ZV) (h : PH) (hx : zisL x5 = false) , zev kX4_soonestBy 58 (x0 :: x1 :: x2 :: x3 :: x4 :: x5 :: x6 :: L) (zvi a :: st) h = zev kX4_soonestBy 60 (x0 :: x1 :: x2 :: x3 :: x4 :: x5 :: zvi a :: L) st h) ∧
  (∀ (x0 x1 x2 x3 x4 x5 : ZV) (a : Int) (L st : List ZV) (h : PH), zev kX4_soonestBy 60 (x0 :: x1 :: x2 :: x3 :: x4 :: x5 :: zvi a :: L) st h = zev kX4_soonestBy 62 (x0 :: x1 :: x2 :: x3 :: x4 :: x5 :: zvi a :: L) (zvi a :: st) h) ∧
  (∀ (a : Int) (L st : List ZV) (h : PH), zev kX4_soonestBy 62 L (zvi a :: st) h = if a = 0 then zev kX4_soonestBy 87 L st h else zev kX4_soonestBy 65 L st h) ∧
  (∀ (a : Option Nat) (L st : List ZV) (h : PH), zev kX4_soonestBy 65 (zvr a :: L) st h = zev kX4_soonestBy 66 (zvr a :: L) (zvr a :: st) h) ∧
  (∀ (x0 x1 x2 x3 x4 : ZV) (a : Int) (L st : List ZV) (h : PH), zev kX4_soonestBy 66 (x0 :: x1 :: x2 :: x3 :: x4 :: zvi a :: L) st h = zev kX4_soonestBy 68 (x0 :: x1 :: x2 :: x3 :: x4 :: zvi a :: L) (zvi a :: st) h) ∧
  (∀ (x0 x1 x2 : ZV) (a : Int) (L st : List ZV) (h : PH), zev kX4_soonestBy 68 (x0 :: x1 :: x2 :: zvi a :: L) st h = zev kX4_soonestBy 69 (x0 :: x1 :: x2 :: zvi a :: L) (zvi a :: st) h) ∧
  (∀ (v0 v1 : ZV) (q : Nat) (L st : List ZV) (h : PH), zev kX4_soonestBy 69 L (v1 :: v0 :: zvr (some q) :: st) h = if (ph_K h q).1 % 1000 = 18 ∧ zcat st ≤ 8 then zk kX4_soonestBy 69 72 L st (mX4_soonest [zvr (some q), v0, v1] h) else none) ∧
  (∀ (x0 x1 x2 x3 : ZV) (a : Int) (L st : List ZV) (h : PH), zev kX4_soonestBy 72 (x0 :: x1 :: x2 :: x3 :: zvi a :: L) st h = zev kX4_soonestBy 74 (x0 :: x1 :: x2 :: x3 :: zvi a :: L) (zvi a :: st) h) ∧
  (∀ (a b : Int) (L st : List ZV) (h : PH), zev kX4_soonestBy 74 L (zvi b :: zvi a :: st) h = if a ≥ b then zev kX4_soonestBy 87 L st h else zev kX4_soonestBy 77 L st h) ∧
  (∀ (a : Option Nat) (L st : List ZV) (h : PH), zev kX4_soonestBy 77 (zvr a :: L) st h = zev kX4_soonestBy 78 (zvr a :: L) (zvr a :: st) h) ∧
  (∀ (x0 x1 x2 x3 x4 : ZV) (a : Int) (L st : List ZV) (h : PH), zev kX4_soonestBy 78 (x0 :: x1 :: x2 :: x3 :: x4 :: zvi a :: L) st h = zev kX4_soonestBy 80 (x0 :: x1 :: x2 :: x3 :: x4 :: zvi a :: L) (zvi a :: st) h) ∧
  (∀ (x0 x1 x2 : ZV) (a : Int) (L st : List ZV) (h : PH), zev kX4_soonestBy 80 (x0 :: x1 :: x2 :: zvi a :: L) st h = zev kX4_soonestBy 81 (x0 :: x1 :: x2 :: zvi a :: L) (zvi a :: st) h) ∧
  (∀ (v0 v1 : ZV) (q : Nat) (L st : List ZV) (h : PH), zev kX4_soonestBy 81 L (v1 :: v0 :: zvr (some q) :: st) h = if (ph_K h q).1 % 1000 = 18 ∧ zcat st ≤ 8 then zk kX4_soonestBy 81 84 L st (mX4_soonest [zvr (some q), v0, v1] h) else none) ∧
  (∀ (L st : List ZV) (h : PH), zev kX4_soonestBy 84 L st h = zev kX4_soonestBy 89 L st h) ∧
  (∀ (x0 x1 x2 x3 : ZV) (a : Int) (L st : List ZV) (h : PH), zev kX4_soonestBy 87 (x0 :: x1 :: x2 :: x3 :: zvi a :: L) st h = zev kX4_soonestBy 89 (x0 :: x1 :: x2 :: x3 :: zvi a :: L) (zvi a :: st) h) ∧
  (∀ (x0 x1 x2 x3 x4 : ZV) (a : Int) (L st : List ZV) (h : PH) (hx : zisL x3 = false) , zev kX4_soonestBy 89 (x0 :: x1 :: x2 :: x3 :: x4 :: L) (zvi a :: st) h = zev kX4_soonestBy 91 (x0 :: x1 :: x2 :: x3 :: zvi a :: L) st h) ∧
  (∀ (x0 x1 x2 x3 x4 : ZV) (a : Int) (L st : List ZV) (h : PH) (hx : zisL x4 = false) , zev kX4_soonestBy 91 (x0 :: x1 :: x2 :: x3 :: x4 :: zvi a :: L) st h = zev kX4_soonestBy 94 (x0 :: x1 :: x2 :: x3 :: x4 :: zvi (w32 (a + 1)) :: L) st h) ∧
  (∀ (L st : List ZV) (h : PH), zev kX4_soonestBy 94 L st h = zev kX4_soonestBy 8 L st h) ∧
  (∀ (x0 x1 x2 x3 : ZV) (a : Int) (L st : List ZV) (h : PH), zev kX4_soonestBy 97 (x0 :: x1 :: x2 :: x3 :: zvi a :: L) st h = zev kX4_soonestBy 99 (x0 :: x1 :: x2 :: x3 :: zvi a :: L) (zvi a :: st) h) ∧
  (∀ (a : Int) (L : List ZV) (h : PH), zev kX4_soonestBy 99 L [zvi a] h = zrv (zvi a) h) :=
  ⟨fun L st h => e_push (v := zvi 9999) (n := 3) rfl,
  fun x0 x1 x2 x3 x4 a L st h hx => e_st4I (n := 5) rfl hx,
  fun L st h => e_push (v := zvi 0) (n := 6) rfl,
  fun x0 x1 x2 x3 x4 x5 a L st h hx => e_st5I (n := 8) rfl hx,
  fun a L st h => e_ld0R (n := 11) rfl,
  fun q L st h => e_getR (kd := 18) (k := 6) (n := 14) rfl,
  fun L st h => e_push (v := zvi 4) (n := 15) rfl,
  fun j q L st h => e_ald (kd := 1) (n := 16) rfl,
  fun a b L st h => e_cmpge (t := 97) (n := 19) rfl,
  fun a L st h => e_ld0R (n := 20) rfl,
  fun x0 x1 x2 x3 x4 a L st h => e_ld5I (n := 22) rfl,
  fun v0 q L st h => e_callV2 (F := mX4_runs) (kd := 18) (n := 25) rfl,
  fun a L st h => e_ifeq (t := 57) (n := 28) rfl,
  fun a L st h => e_ld0R (n := 29) rfl,
  fun q L st h => e_getR (kd := 18) (k := 6) (n := 32) rfl,
  fun x0 x1 x2 x3 x4 a L st h => e_ld5I (n := 34) rfl,
  fun L st h => e_push (v := zvi 1) (n := 35) rfl,
  fun v0 v1 L st h => e_callS2 (F := mX4_at) (n := 38) rfl,
  fun j q L st h => e_ald (kd := 1) (n := 39) rfl,
  fun x0 a L st h => e_ld1I (n := 40) rfl,
  fun a b L st h => e_cmpne (t := 57) (n := 43) rfl,
  fun a L st h => e_ld0R (n := 44) rfl,
  fun x0 x1 x2 x3 x4 a L st h => e_ld5I (n := 46) rfl,
  fun v0 q L st h => e_callV2 (F := mX4_leavesAt) (kd := 18) (n := 49) rfl,
  fun x0 x1 a L st h => e_ld2I (n := 50) rfl,
  fun a b L st h => e_cmplt (t := 57) (n := 53) rfl,
  fun L st h => e_push (v := zvi 1) (n := 54) rfl,
  fun L st h => e_goto (t := 58) rfl,
  fun L st h => e_push (v := zvi 0) (n := 58) rfl,
  fun x0 x1 x2 x3 x4 x5 x6 a L st h hx => e_st6I (n := 60) rfl hx,
  fun x0 x1 x2 x3 x4 x5 a L st h => e_ld6I (n := 62) rfl,
  fun a L st h => e_ifeq (t := 87) (n := 65) rfl,
  fun a L st h => e_ld0R (n := 66) rfl,
  fun x0 x1 x2 x3 x4 a L st h => e_ld5I (n := 68) rfl,
  fun x0 x1 x2 a L st h => e_ld3I (n := 69) rfl,
  fun v0 v1 q L st h => e_callV3 (F := mX4_soonest) (kd := 18) (n := 72) rfl,
  fun x0 x1 x2 x3 a L st h => e_ld4I (n := 74) rfl,
  fun a b L st h => e_cmpge (t := 87) (n := 77) rfl,
  fun a L st h => e_ld0R (n := 78) rfl,
  fun x0 x1 x2 x3 x4 a L st h => e_ld5I (n := 80) rfl,
  fun x0 x1 x2 a L st h => e_ld3I (n := 81) rfl,
  fun v0 v1 q L st h => e_callV3 (F := mX4_soonest) (kd := 18) (n := 84) rfl,
  fun L st h => e_goto (t := 89) rfl,
  fun x0 x1 x2 x3 a L st h => e_ld4I (n := 89) rfl,
  fun x0 x1 x2 x3 x4 a L st h hx => e_st4I (n := 91) rfl hx,
  fun x0 x1 x2 x3 x4 a L st h hx => e_iinc5 (d := 1) (n := 94) rfl hx,
  fun L st h => e_goto (t := 8) rfl,
  fun x0 x1 x2 x3 a L st h => e_ld4I (n := 99) rfl,
  fun a L h => e_retI rfl⟩
theorem allX4_soonestBy : zall yX4_soonestBy cX4_soonestBy 7 (some .int) 3 kX4_soonestBy.1 :=
  ⟨k_sipush dX4_soonestBy_0,
  k_istore dX4_soonestBy_3,
  k_iconst dX4_soonestBy_5,
  k_istore dX4_soonestBy_6,
  k_iload dX4_soonestBy_8,
  k_aload_n dX4_soonestBy_10,
  k_getR (C := RX4) (T := TX4) (N := 42) (ci := 2) (k := 6) (ref := "LinkTimesModel") dX4_soonestBy_11 rfl in_X4 (by decide) q1805 (Or.inl rfl) (fun _ _ _ => rfl),
  k_iconst dX4_soonestBy_14,
  k_iald dX4_soonestBy_15,
  k_cmpge (t := 97) dX4_soonestBy_16 (by decide),
  k_aload_n dX4_soonestBy_19,
  k_iload dX4_soonestBy_20,
  k_callV (y2 := yX4_runs) (C := RX4) (T0 := TX4) (ci := 2) dX4_soonestBy_22 sndX4_runs rfl q2076 q2078 qs92 q137 q2079 (by decide +kernel) ⟨by decide, by decide⟩ (by decide) (by decide),
  k_ifeq (t := 57) dX4_soonestBy_25 (by decide),
  k_aload_n dX4_soonestBy_28,
  k_getR (C := RX4) (T := TX4) (N := 42) (ci := 2) (k := 6) (ref := "LinkTimesModel") dX4_soonestBy_29 rfl in_X4 (by decide) q1805 (Or.inl rfl) (fun _ _ _ => rfl),
  k_iload dX4_soonestBy_32,
  k_iconst dX4_soonestBy_34,
  k_callS (y2 := yX4_at) dX4_soonestBy_35 sndX4_at q2047 q2048 q137 q2049 (by decide +kernel) ⟨by decide, by decide⟩ (by decide) (by decide),
  k_iald dX4_soonestBy_38,
  k_iload_n dX4_soonestBy_39,
  k_cmpne (t := 57) dX4_soonestBy_40 (by decide),
  k_aload_n dX4_soonestBy_43,
  k_iload dX4_soonestBy_44,
  k_callV (y2 := yX4_leavesAt) (C := RX4) (T0 := TX4) (ci := 2) dX4_soonestBy_46 sndX4_leavesAt rfl q2100 q2102 qs96 q137 q2103 (by decide +kernel) ⟨by decide, by decide⟩ (by decide) (by decide),
  k_iload_n dX4_soonestBy_49,
  k_cmplt (t := 57) dX4_soonestBy_50 (by decide),
  k_iconst dX4_soonestBy_53,
  k_goto (t := 58) dX4_soonestBy_54 (by decide),
  k_iconst dX4_soonestBy_57,
  k_istore dX4_soonestBy_58,
  k_iload dX4_soonestBy_60,
  k_ifeq (t := 87) dX4_soonestBy_62 (by decide),
  k_aload_n dX4_soonestBy_65,
  k_iload dX4_soonestBy_66,
  k_iload_n dX4_soonestBy_68,
  k_callV (y2 := yX4_soonest) (C := RX4) (T0 := TX4) (ci := 2) dX4_soonestBy_69 sndX4_soonest rfl q2187 q2189 qs110 q137 q2190 (by decide +kernel) ⟨by decide, by decide⟩ (by decide) (by decide),
  k_iload dX4_soonestBy_72,
  k_cmpge (t := 87) dX4_soonestBy_74 (by decide),
  k_aload_n dX4_soonestBy_77,
  k_iload dX4_soonestBy_78,
  k_iload_n dX4_soonestBy_80,
  k_callV (y2 := yX4_soonest) (C := RX4) (T0 := TX4) (ci := 2) dX4_soonestBy_81 sndX4_soonest rfl q2187 q2189 qs110 q137 q2190 (by decide +kernel) ⟨by decide, by decide⟩ (by decide) (by decide),
  k_goto (t := 89) dX4_soonestBy_84 (by decide),
  k_iload dX4_soonestBy_87,
  k_istore dX4_soonestBy_89,
  k_iinc dX4_soonestBy_91,
  k_goto (t := 8) dX4_soonestBy_94 (by decide),
  k_iload dX4_soonestBy_97,
  k_iret dX4_soonestBy_99, trivial⟩
theorem sndX4_soonestBy : MSound 3 yX4_soonestBy (ws_ yX4_soonestBy cX4_soonestBy 7 (some .int)) mX4_soonestBy := msound_M (by decide) allX4_soonestBy (fun _ _ => rfl)
/-! LinkTimesModel.within(IIII)I -/
noncomputable def kX4_within : ZM := ([(0, zi_ld 1 0 1), (1, zi_ld 0 1 2), (2, zi_ld 0 2 3), (3, zi_ld 0 3 4), (4, zi_callV mX4_wayWhy 18 4 7), (7, zi_st 0 5 9), (9, zi_ld 1 0 10), (10, zi_ld 0 5 12), (12, zi_if (fun a => zc_ne a 0) 30 15), (15, zi_ld 0 4 17), (17, zi_push (zvi 0) 18), (18, zi_push (zvi 20) 20), (20, zi_callS mX4_in 3 23), (23, zi_if (fun a => zc_ne a 0) 30 26), (26, zi_push (zvi 2) 27), (27, zi_goto 32), (30, zi_ld 0 5 32), (32, zi_callV mX4_isRefused 18 2 35), (35, zi_if (fun a => zc_eq a 0) 40 38), (38, zi_push (zvi (-1)) 39), (39, zi_retv 0), (40, zi_ld 0 1 41), (41, zi_ld 0 2 42), (42, zi_cmp zc_ne 47 45), (45, zi_ld 0 3 46), (46, zi_retv 0), (47, zi_ld 1 0 48), (48, zi_ld 0 2 49), (49, zi_push (zvi 20) 51), (51, zi_callV mX4_laysWithin 18 3 54), (54, zi_ld 1 0 55), (55, zi_ld 0 1 56), (56, zi_ld 0 3 57), (57, zi_ld 0 4 59), (59, zi_callV mX4_soonestBy 18 4 62), (62, zi_st 0 6 64), (64, zi_ld 0 6 66), (66, zi_push (zvi 9999) 69), (69, zi_cmp zc_ne 77 72), (72, zi_push (zvi (-2)) 74), (74, zi_goto 79), (77, zi_ld 0 6 79), (79, zi_retv 0)], fun _ _ => none)
noncomputable def mX4_within : ZF := zrunM kX4_within 7
theorem enX4_within (x0 : Option Nat) (x1 : Int) (x2 : Int) (x3 : Int) (x4 : Int) (h : PH) : mX4_within [zvr x0, zvi x1, zvi x2, zvi x3, zvi x4] h = zev kX4_within 0 [zvr x0, zvi x1, zvi x2, zvi x3, zvi x4, zvu, zvu] [] h := zrunM_eq rfl rfl
theorem rX4_within : (∀ (a : Option Nat) (L st : List ZV) (h : PH), zev kX4_within 0 (zvr a :: L) st h = zev kX4_within 1 (zvr a :: L) (zvr a :: st) h) ∧
  (∀ (x0 : ZV) (a : Int) (L st : List ZV) (h : PH), zev kX4_within 1 (x0 :: zvi a :: L) st h = zev kX4_within 2 (x0 :: zvi a :: L) (zvi a :: st) h) ∧
  (∀ (x0 x1 : ZV) (a : Int) (L st : List ZV) (h : PH), zev kX4_within 2 (x0 :: x1 :: zvi a :: L) st h = zev kX4_within 3 (x0 :: x1 :: zvi a :: L) (zvi a :: st) h) ∧
  (∀ (x0 x1 x2 : ZV) (a : Int) (L st : List ZV) (h : PH), zev kX4_within 3 (x0 :: x1 :: x2 :: zvi a :: L) st h = zev kX4_within 4 (x0 :: x1 :: x2 :: zvi a :: L) (zvi a :: st) h) ∧
  (∀ (v0 v1 v2 : ZV) (q : Nat) (L st : List ZV) (h : PH), zev kX4_within 4 L (v2 :: v1 :: v0 :: zvr (some q) :: st) h = if (ph_K h q).1 % 1000 = 18 ∧ zcat st ≤ 8 then zk kX4_within 4 7 L st (mX4_wayWhy [zvr (some q), v0, v1, v2] h) else none) ∧
  (∀ (x0 x1 x2 x3 x4 x5 : ZV) (a : Int) (L st : List ZV) (h : PH) (hx : zisL x4 = false) , zev kX4_within 7 (x0 :: x1 :: x2 :: x3 :: x4 :: x5 :: L) (zvi a :: st) h = zev kX4_within 9 (x0 :: x1 :: x2 :: x3 :: x4 :: zvi a :: L) st h) ∧
  (∀ (a : Option Nat) (L st : List ZV) (h : PH), zev kX4_within 9 (zvr a :: L) st h = zev kX4_within 10 (zvr a :: L) (zvr a :: st) h) ∧
  (∀ (x0 x1 x2 x3 x4 : ZV) (a : Int) (L st : List ZV) (h : PH), zev kX4_within 10 (x0 :: x1 :: x2 :: x3 :: x4 :: zvi a :: L) st h = zev kX4_within 12 (x0 :: x1 :: x2 :: x3 :: x4 :: zvi a :: L) (zvi a :: st) h) ∧
  (∀ (a : Int) (L st : List ZV) (h : PH), zev kX4_within 12 L (zvi a :: st) h = if a ≠ 0 then zev kX4_within 30 L st h else zev kX4_within 15 L st h) ∧
  (∀ (x0 x1 x2 x3 : ZV) (a : Int) (L st : List ZV) (h : PH), zev kX4_within 15 (x0 :: x1 :: x2 :: x3 :: zvi a :: L) st h = zev kX4_within 17 (x0 :: x1 :: x2 :: x3 :: zvi a :: L) (zvi a :: st) h) ∧
  (∀ (L st : List ZV) (h : PH), zev kX4_within 17 L st h = zev kX4_within 18 L (zvi 0 :: st) h) ∧
  (∀ (L st : List ZV) (h : PH), zev kX4_within 18 L st h = zev kX4_within 20 L (zvi 20 :: st) h) ∧
  (∀ (v0 v1 v2 : ZV) (L st : List ZV) (h : PH), zev kX4_within 20 L (v2 :: v1 :: v0 :: st) h = if zcat st ≤ 8 then zk kX4_within 20 23 L st (mX4_in [v0, v1, v2] h) else none) ∧
  (∀ (a : Int) (L st : List ZV) (h : PH), zev kX4_within 23 L (zvi a :: st) h = if a ≠ 0 then zev kX4_within 30 L st h else zev kX4_within 26 L st h) ∧
  (∀ (L st : List ZV) (h : PH), zev kX4_within 26 L st h = zev kX4_within 27 L (zvi 2 :: st) h) ∧
  (∀ (L st : List ZV) (h : PH), zev kX4_within 27 L st h = zev kX4_within 32 L st h) ∧
  (∀ (x0 x1 x2 x3 x4 : ZV) (a : Int) (L st : List ZV) (h : PH), zev kX4_within 30 (x0 :: x1 :: x2 :: x3 :: x4 :: zvi a :: L) st h = zev kX4_within 32 (x0 :: x1 :: x2 :: x3 :: x4 :: zvi a :: L) (zvi a :: st) h) ∧
  (∀ (v0 : ZV) (q : Nat) (L st : List ZV) (h : PH), zev kX4_within 32 L (v0 :: zvr (some q) :: st) h = if (ph_K h q).1 % 1000 = 18 ∧ zcat st ≤ 8 then zk kX4_within 32 35 L st (mX4_isRefused [zvr (some q), v0] h) else none) ∧
  (∀ (a : Int) (L st : List ZV) (h : PH), zev kX4_within 35 L (zvi a :: st) h = if a = 0 then zev kX4_within 40 L st h else zev kX4_within 38 L st h) ∧
  (∀ (L st : List ZV) (h : PH), zev kX4_within 38 L st h = zev kX4_within 39 L (zvi (-1) :: st) h) ∧
  (∀ (a : Int) (L : List ZV) (h : PH), zev kX4_within 39 L [zvi a] h = zrv (zvi a) h) ∧
  (∀ (x0 : ZV) (a : Int) (L st : List ZV) (h : PH), zev kX4_within 40 (x0 :: zvi a :: L) st h = zev kX4_within 41 (x0 :: zvi a :: L) (zvi a :: st) h) ∧
  (∀ (x0 x1 : ZV) (a : Int) (L st : List ZV) (h : PH), zev kX4_within 41 (x0 :: x1 :: zvi a :: L) st h = zev kX4_within 42 (x0 :: x1 :: zvi a :: L) (zvi a :: st) h) ∧
  (∀ (a b : Int) (L st : List ZV) (h : PH), zev kX4_within 42 L (zvi b :: zvi a :: st) h = if a ≠ b then zev kX4_within 47 L st h else zev kX4_within 45 L st h) ∧
  (∀ (x0 x1 x2 : ZV) (a : Int) (L st : List ZV) (h : PH), zev kX4_within 45 (x0 :: x1 :: x2 :: zvi a :: L) st h = zev kX4_within 46 (x0 :: x1 :: x2 :: zvi a :: L) (zvi a :: st) h) ∧
  (∀ (a : Int) (L : List ZV) (h : PH), zev kX4_within 46 L [zvi a] h = zrv (zvi a) h) ∧
  (∀ (a : Option Nat) (L st : List ZV) (h : PH), zev kX4_within 47 (zvr a :: L) st h = zev kX4_within 48 (zvr a :: L) (zvr a :: st) h) ∧
  (∀ (x0 x1 : ZV) (a : Int) (L st : List ZV) (h : PH), zev kX4_within 48 (x0 :: x1 :: zvi a :: L) st h = zev kX4_within 49 (x0 :: x1 :: zvi a :: L) (zvi a :: st) h) ∧
  (∀ (L st : List ZV) (h : PH), zev kX4_within 49 L st h = zev kX4_within 51 L (zvi 20 :: st) h) ∧
  (∀ (v0 v1 : ZV) (q : Nat) (L st : List ZV) (h : PH), zev kX4_within 51 L (v1 :: v0 :: zvr (some q) :: st) h = if (ph_K h q).1 % 1000 = 18 ∧ zcat st ≤ 8 then zk kX4_within 51 54 L st (mX4_laysWithin [zvr (some q), v0, v1] h) else none) ∧
  (∀ (a : Option Nat) (L st : List ZV) (h : PH), zev kX4_within 54 (zvr a :: L) st h = zev kX4_within 55 (zvr a :: L) (zvr a :: st) h) ∧
  (∀ (x0 : ZV) (a : Int) (L st : List ZV) (h : PH), zev kX4_within 55 (x0 :: zvi a :: L) st h = zev kX4_within 56 (x0 :: zvi a :: L) (zvi a :: st) h) ∧
  (∀ (x0 x1 x2 : ZV) (a : Int) (L st : List ZV) (h : PH), zev kX4_within 56 (x0 :: x1 :: x2 :: zvi a :: L) st h = zev kX4_within 57 (x0 :: x1 :: x2 :: zvi a :: L) (zvi a :: st) h) ∧
  (∀ (x0 x1 x2 x3 : ZV) (a : Int) (L st : List ZV) (h : PH), zev kX4_within 57 (x0 :: x1 :: x2 :: x3 :: zvi a :: L) st h = zev kX4_within 59 (x0 :: x1 :: x2 :: x3 :: zvi a :: L) (zvi a :: st) h) ∧
  (∀ (v0 v1 v2 : ZV) (q : Nat) (L st : List ZV) (h : PH), zev kX4_within 59 L (v2 :: v1 :: v0 :: zvr (some q) :: st) h = if (ph_K h q).1 % 1000 = 18 ∧ zcat st ≤ 8 then zk kX4_within 59 62 L st (mX4_soonestBy [zvr (some q), v0, v1, v2] h) else none) ∧
  (∀ (x0 x1 x2 x3 x4 x5 x6 : ZV) (a : Int) (L st : List ZV) (h : PH) (hx : zisL x5 = false) , zev kX4_within 62 (x0 :: x1 :: x2 :: x3 :: x4 :: x5 :: x6 :: L) (zvi a :: st) h = zev kX4_within 64 (x0 :: x1 :: x2 :: x3 :: x4 :: x5 :: zvi a :: L) st h) ∧
  (∀ (x0 x1 x2 x3 x4 x5 : ZV) (a : Int) (L st : List ZV) (h : PH), zev kX4_within 64 (x0 :: x1 :: x2 :: x3 :: x4 :: x5 :: zvi a :: L) st h = zev kX4_within 66 (x0 :: x1 :: x2 :: x3 :: x4 :: x5 :: zvi a :: L) (zvi a :: st) h) ∧
  (∀ (L st : List ZV) (h : PH), zev kX4_within 66 L st h = zev kX4_within 69 L (zvi 9999 :: st) h) ∧
  (∀ (a b : Int) (L st : List ZV) (h : PH), zev kX4_within 69 L (zvi b :: zvi a :: st) h = if a ≠ b then zev kX4_within 77 L st h else zev kX4_within 72 L st h) ∧
  (∀ (L st : List ZV) (h : PH), zev kX4_within 72 L st h = zev kX4_within 74 L (zvi (-2) :: st) h) ∧
  (∀ (L st : List ZV) (h : PH), zev kX4_within 74 L st h = zev kX4_within 79 L st h) ∧
  (∀ (x0 x1 x2 x3 x4 x5 : ZV) (a : Int) (L st : List ZV) (h : PH), zev kX4_within 77 (x0 :: x1 :: x2 :: x3 :: x4 :: x5 :: zvi a :: L) st h = zev kX4_within 79 (x0 :: x1 :: x2 :: x3 :: x4 :: x5 :: zvi a :: L) (zvi a :: st) h) ∧
  (∀ (a : Int) (L : List ZV) (h : PH), zev kX4_within 79 L [zvi a] h = zrv (zvi a) h) :=
  ⟨fun a L st h => e_ld0R (n := 1) rfl,
  fun x0 a L st h => e_ld1I (n := 2) rfl,
  fun x0 x1 a L st h => e_ld2I (n := 3) rfl,
  fun x0 x1 x2 a L st h => e_ld3I (n := 4) rfl,
  fun v0 v1 v2 q L st h => e_callV4 (F := mX4_wayWhy) (kd := 18) (n := 7) rfl,
  fun x0 x1 x2 x3 x4 x5 a L st h hx => e_st5I (n := 9) rfl hx,
  fun a L st h => e_ld0R (n := 10) rfl,
  fun x0 x1 x2 x3 x4 a L st h => e_ld5I (n := 12) rfl,
  fun a L st h => e_ifne (t := 30) (n := 15) rfl,
  fun x0 x1 x2 x3 a L st h => e_ld4I (n := 17) rfl,
  fun L st h => e_push (v := zvi 0) (n := 18) rfl,
  fun L st h => e_push (v := zvi 20) (n := 20) rfl,
  fun v0 v1 v2 L st h => e_callS3 (F := mX4_in) (n := 23) rfl,
  fun a L st h => e_ifne (t := 30) (n := 26) rfl,
  fun L st h => e_push (v := zvi 2) (n := 27) rfl,
  fun L st h => e_goto (t := 32) rfl,
  fun x0 x1 x2 x3 x4 a L st h => e_ld5I (n := 32) rfl,
  fun v0 q L st h => e_callV2 (F := mX4_isRefused) (kd := 18) (n := 35) rfl,
  fun a L st h => e_ifeq (t := 40) (n := 38) rfl,
  fun L st h => e_push (v := zvi (-1)) (n := 39) rfl,
  fun a L h => e_retI rfl,
  fun x0 a L st h => e_ld1I (n := 41) rfl,
  fun x0 x1 a L st h => e_ld2I (n := 42) rfl,
  fun a b L st h => e_cmpne (t := 47) (n := 45) rfl,
  fun x0 x1 x2 a L st h => e_ld3I (n := 46) rfl,
  fun a L h => e_retI rfl,
  fun a L st h => e_ld0R (n := 48) rfl,
  fun x0 x1 a L st h => e_ld2I (n := 49) rfl,
  fun L st h => e_push (v := zvi 20) (n := 51) rfl,
  fun v0 v1 q L st h => e_callV3 (F := mX4_laysWithin) (kd := 18) (n := 54) rfl,
  fun a L st h => e_ld0R (n := 55) rfl,
  fun x0 a L st h => e_ld1I (n := 56) rfl,
  fun x0 x1 x2 a L st h => e_ld3I (n := 57) rfl,
  fun x0 x1 x2 x3 a L st h => e_ld4I (n := 59) rfl,
  fun v0 v1 v2 q L st h => e_callV4 (F := mX4_soonestBy) (kd := 18) (n := 62) rfl,
  fun x0 x1 x2 x3 x4 x5 x6 a L st h hx => e_st6I (n := 64) rfl hx,
  fun x0 x1 x2 x3 x4 x5 a L st h => e_ld6I (n := 66) rfl,
  fun L st h => e_push (v := zvi 9999) (n := 69) rfl,
  fun a b L st h => e_cmpne (t := 77) (n := 72) rfl,
  fun L st h => e_push (v := zvi (-2)) (n := 74) rfl,
  fun L st h => e_goto (t := 79) rfl,
  fun x0 x1 x2 x3 x4 x5 a L st h => e_ld6I (n := 79) rfl,
  fun a L h => e_retI rfl⟩
theorem allX4_within : zall yX4_within cX4_within 7 (some .int) 6 kX4_within.1 :=
  ⟨k_aload_n dX4_within_0,
  k_iload_n dX4_within_1,
  k_iload_n dX4_within_2,
  k_iload_n dX4_within_3,
  k_callV (y2 := yX4_wayWhy) (C := RX4) (T0 := TX4) (ci := 2) dX4_within_4 sndX4_wayWhy rfl q2116 q2118 qs98 q137 q2119 (by decide +kernel) ⟨by decide, by decide⟩ (by decide) (by decide),
  k_istore dX4_within_7,
  k_aload_n dX4_within_9,
  k_iload dX4_within_10,
  k_ifne (t := 30) dX4_within_12 (by decide),
  k_iload dX4_within_15,
  k_iconst dX4_within_17,
  k_bipush dX4_within_18,
  k_callS (y2 := yX4_in) dX4_within_20 sndX4_in q1943 q1944 q137 q1945 (by decide +kernel) ⟨by decide, by decide⟩ (by decide) (by decide),
  k_ifne (t := 30) dX4_within_23 (by decide),
  k_iconst dX4_within_26,
  k_goto (t := 32) dX4_within_27 (by decide),
  k_iload dX4_within_30,
  k_callV (y2 := yX4_isRefused) (C := RX4) (T0 := TX4) (ci := 2) dX4_within_32 sndX4_isRefused rfl q1946 q1948 qs70 q137 q1949 (by decide +kernel) ⟨by decide, by decide⟩ (by decide) (by decide),
  k_ifeq (t := 40) dX4_within_35 (by decide),
  k_iconst dX4_within_38,
  k_iret dX4_within_39,
  k_iload_n dX4_within_40,
  k_iload_n dX4_within_41,
  k_cmpne (t := 47) dX4_within_42 (by decide),
  k_iload_n dX4_within_45,
  k_iret dX4_within_46,
  k_aload_n dX4_within_47,
  k_iload_n dX4_within_48,
  k_bipush dX4_within_49,
  k_callV (y2 := yX4_laysWithin) (C := RX4) (T0 := TX4) (ci := 2) dX4_within_51 sndX4_laysWithin rfl q2183 q2185 qs109 q137 q2186 (by decide +kernel) ⟨by decide, by decide⟩ (by decide) (by decide),
  k_aload_n dX4_within_54,
  k_iload_n dX4_within_55,
  k_iload_n dX4_within_56,
  k_iload dX4_within_57,
  k_callV (y2 := yX4_soonestBy) (C := RX4) (T0 := TX4) (ci := 2) dX4_within_59 sndX4_soonestBy rfl q2191 q2193 qs111 q137 q2194 (by decide +kernel) ⟨by decide, by decide⟩ (by decide) (by decide),
  k_istore dX4_within_62,
  k_iload dX4_within_64,
  k_sipush dX4_within_66,
  k_cmpne (t := 77) dX4_within_69 (by decide),
  k_bipush dX4_within_72,
  k_goto (t := 79) dX4_within_74 (by decide),
  k_iload dX4_within_77,
  k_iret dX4_within_79, trivial⟩
theorem sndX4_within : MSound 6 yX4_within (ws_ yX4_within cX4_within 7 (some .int)) mX4_within := msound_M (by decide) allX4_within (fun _ _ => rfl)
/-! LinkTimesModel.laysTrades(III)V -/
noncomputable def kX4_laysTrades : ZM := ([(0, zi_ld 1 0 1), (1, zi_ld 0 2 2), (2, zi_push (zvi 119) 4), (4, zi_callV mX4_laysWithin 18 3 7), (7, zi_ld 1 0 8), (8, zi_push (zvi 0) 9), (9, zi_putI 18 32 12), (12, zi_push (zvi 9999) 15), (15, zi_st 0 4 17), (17, zi_push (zvi 0) 18), (18, zi_st 0 5 20), (20, zi_ld 0 5 22), (22, zi_push (zvi 120) 24), (24, zi_cmp zc_ge 86 27), (27, zi_ld 1 0 28), (28, zi_ld 0 1 29), (29, zi_ld 0 3 30), (30, zi_ld 0 5 32), (32, zi_callV mX4_soonestBy 18 4 35), (35, zi_st 0 6 37), (37, zi_ld 0 6 39), (39, zi_ld 0 4 41), (41, zi_cmp zc_ge 80 44), (44, zi_ld 1 0 45), (45, zi_getR 18 30 48), (48, zi_ld 1 0 49), (49, zi_getI 18 32 52), (52, zi_ld 0 6 54), (54, zi_ast 55), (55, zi_ld 1 0 56), (56, zi_getR 18 31 59), (59, zi_ld 1 0 60), (60, zi_getI 18 32 63), (63, zi_ld 0 5 65), (65, zi_ast 66), (66, zi_ld 1 0 67), (67, zi_dup 68), (68, zi_getI 18 32 71), (71, zi_push (zvi 1) 72), (72, zi_bin (fun a b => w32 (a + b)) 73), (73, zi_putI 18 32 76), (76, zi_ld 0 6 78), (78, zi_st 0 4 80), (80, zi_iinc 5 1 83), (83, zi_goto 20), (86, zi_ret)], fun _ _ => none)
noncomputable def mX4_laysTrades : ZF := zrunM kX4_laysTrades 7
theorem enX4_laysTrades (x0 : Option Nat) (x1 : Int) (x2 : Int) (x3 : Int) (h : PH) : mX4_laysTrades [zvr x0, zvi x1, zvi x2, zvi x3] h = zev kX4_laysTrades 0 [zvr x0, zvi x1, zvi x2, zvi x3, zvu, zvu, zvu] [] h := zrunM_eq rfl rfl
theorem hdX4_laysTrades_20 (x0 x1 x2 x3 x4 : ZV) (a : Int) (L st : List ZV) (h : PH) : zev kX4_laysTrades 20 (x0 :: x1 :: x2 :: x3 :: x4 :: zvi a :: L) st h = zev kX4_laysTrades 22 (x0 :: x1 :: x2 :: x3 :: x4 :: zvi a :: L) (zvi a :: st) h := e_ld5I (n := 22) rfl
theorem rX4_laysTrades : (∀ (a : Option Nat) (L st : List ZV) (h : PH), zev kX4_laysTrades 0 (zvr a :: L) st h = zev kX4_laysTrades 1 (zvr a :: L) (zvr a :: st) h) ∧
  (∀ (x0 x1 : ZV) (a : Int) (L st : List ZV) (h : PH), zev kX4_laysTrades 1 (x0 :: x1 :: zvi a :: L) st h = zev kX4_laysTrades 2 (x0 :: x1 :: zvi a :: L) (zvi a :: st) h) ∧
  (∀ (L st : List ZV) (h : PH), zev kX4_laysTrades 2 L st h = zev kX4_laysTrades 4 L (zvi 119 :: st) h) ∧
  (∀ (v0 v1 : ZV) (q : Nat) (L st : List ZV) (h : PH), zev kX4_laysTrades 4 L (v1 :: v0 :: zvr (some q) :: st) h = if (ph_K h q).1 % 1000 = 18 ∧ zcat st ≤ 8 then zk kX4_laysTrades 4 7 L st (mX4_laysWithin [zvr (some q), v0, v1] h) else none) ∧
  (∀ (a : Option Nat) (L st : List ZV) (h : PH), zev kX4_laysTrades 7 (zvr a :: L) st h = zev kX4_laysTrades 8 (zvr a :: L) (zvr a :: st) h) ∧
  (∀ (L st : List ZV) (h : PH), zev kX4_laysTrades 8 L st h = zev kX4_laysTrades 9 L (zvi 0 :: st) h) ∧
  (∀ (a : Int) (q : Nat) (L st : List ZV) (h : PH), zev kX4_laysTrades 9 L (zvi a :: zvr (some q) :: st) h = if (ph_K h q).1 = 18 then zev kX4_laysTrades 12 L st (st_I h q 32 a) else none) ∧
  (∀ (L st : List ZV) (h : PH), zev kX4_laysTrades 12 L st h = zev kX4_laysTrades 15 L (zvi 9999 :: st) h) ∧
  (∀ (x0 x1 x2 x3 x4 : ZV) (a : Int) (L st : List ZV) (h : PH) (hx : zisL x3 = false) , zev kX4_laysTrades 15 (x0 :: x1 :: x2 :: x3 :: x4 :: L) (zvi a :: st) h = zev kX4_laysTrades 17 (x0 :: x1 :: x2 :: x3 :: zvi a :: L) st h) ∧
  (∀ (L st : List ZV) (h : PH), zev kX4_laysTrades 17 L st h = zev kX4_laysTrades 18 L (zvi 0 :: st) h) ∧
  (∀ (x0 x1 x2 x3 x4 x5 : ZV) (a : Int) (L st : List ZV) (h : PH) (hx : zisL x4 = false) , zev kX4_laysTrades 18 (x0 :: x1 :: x2 :: x3 :: x4 :: x5 :: L) (zvi a :: st) h = zev kX4_laysTrades 20 (x0 :: x1 :: x2 :: x3 :: x4 :: zvi a :: L) st h) ∧
  (∀ (L st : List ZV) (h : PH), zev kX4_laysTrades 22 L st h = zev kX4_laysTrades 24 L (zvi 120 :: st) h) ∧
  (∀ (a b : Int) (L st : List ZV) (h : PH), zev kX4_laysTrades 24 L (zvi b :: zvi a :: st) h = if a ≥ b then zev kX4_laysTrades 86 L st h else zev kX4_laysTrades 27 L st h) ∧
  (∀ (a : Option Nat) (L st : List ZV) (h : PH), zev kX4_laysTrades 27 (zvr a :: L) st h = zev kX4_laysTrades 28 (zvr a :: L) (zvr a :: st) h) ∧
  (∀ (x0 : ZV) (a : Int) (L st : List ZV) (h : PH), zev kX4_laysTrades 28 (x0 :: zvi a :: L) st h = zev kX4_laysTrades 29 (x0 :: zvi a :: L) (zvi a :: st) h) ∧
  (∀ (x0 x1 x2 : ZV) (a : Int) (L st : List ZV) (h : PH), zev kX4_laysTrades 29 (x0 :: x1 :: x2 :: zvi a :: L) st h = zev kX4_laysTrades 30 (x0 :: x1 :: x2 :: zvi a :: L) (zvi a :: st) h) ∧
  (∀ (x0 x1 x2 x3 x4 : ZV) (a : Int) (L st : List ZV) (h : PH), zev kX4_laysTrades 30 (x0 :: x1 :: x2 :: x3 :: x4 :: zvi a :: L) st h = zev kX4_laysTrades 32 (x0 :: x1 :: x2 :: x3 :: x4 :: zvi a :: L) (zvi a :: st) h) ∧
  (∀ (v0 v1 v2 : ZV) (q : Nat) (L st : List ZV) (h : PH), zev kX4_laysTrades 32 L (v2 :: v1 :: v0 :: zvr (some q) :: st) h = if (ph_K h q).1 % 1000 = 18 ∧ zcat st ≤ 8 then zk kX4_laysTrades 32 35 L st (mX4_soonestBy [zvr (some q), v0, v1, v2] h) else none) ∧
  (∀ (x0 x1 x2 x3 x4 x5 x6 : ZV) (a : Int) (L st : List ZV) (h : PH) (hx : zisL x5 = false) , zev kX4_laysTrades 35 (x0 :: x1 :: x2 :: x3 :: x4 :: x5 :: x6 :: L) (zvi a :: st) h = zev kX4_laysTrades 37 (x0 :: x1 :: x2 :: x3 :: x4 :: x5 :: zvi a :: L) st h) ∧
  (∀ (x0 x1 x2 x3 x4 x5 : ZV) (a : Int) (L st : List ZV) (h : PH), zev kX4_laysTrades 37 (x0 :: x1 :: x2 :: x3 :: x4 :: x5 :: zvi a :: L) st h = zev kX4_laysTrades 39 (x0 :: x1 :: x2 :: x3 :: x4 :: x5 :: zvi a :: L) (zvi a :: st) h) ∧
  (∀ (x0 x1 x2 x3 : ZV) (a : Int) (L st : List ZV) (h : PH), zev kX4_laysTrades 39 (x0 :: x1 :: x2 :: x3 :: zvi a :: L) st h = zev kX4_laysTrades 41 (x0 :: x1 :: x2 :: x3 :: zvi a :: L) (zvi a :: st) h) ∧
  (∀ (a b : Int) (L st : List ZV) (h : PH), zev kX4_laysTrades 41 L (zvi b :: zvi a :: st) h = if a ≥ b then zev kX4_laysTrades 80 L st h else zev kX4_laysTrades 44 L st h) ∧
  (∀ (a : Option Nat) (L st : List ZV) (h : PH), zev kX4_laysTrades 44 (zvr a :: L) st h = zev kX4_laysTrades 45 (zvr a :: L) (zvr a :: st) h) ∧
  (∀ (q : Nat) (L st : List ZV) (h : PH), zev kX4_laysTrades 45 L (zvr (some q) :: st) h = if (ph_K h q).1 % 1000 = 18 then zev kX4_laysTrades 48 L (zvr (ph_R h q 30) :: st) h else none) ∧
  (∀ (a : Option Nat) (L st : List ZV) (h : PH), zev kX4_laysTrades 48 (zvr a :: L) st h = zev kX4_laysTrades 49 (zvr a :: L) (zvr a :: st) h) ∧
  (∀ (q : Nat) (L st : List ZV) (h : PH), zev kX4_laysTrades 49 L (zvr (some q) :: st) h = if (ph_K h q).1 % 1000 = 18 then zev kX4_laysTrades 52 L (zvi (ph_I h q 32) :: st) h else none) ∧
  (∀ (x0 x1 x2 x3 x4 x5 : ZV) (a : Int) (L st : List ZV) (h : PH), zev kX4_laysTrades 52 (x0 :: x1 :: x2 :: x3 :: x4 :: x5 :: zvi a :: L) st h = zev kX4_laysTrades 54 (x0 :: x1 :: x2 :: x3 :: x4 :: x5 :: zvi a :: L) (zvi a :: st) h) ∧
  (∀ (x j : Int) (q : Nat) (L st : List ZV) (h : PH), zev kX4_laysTrades 54 L (zvi x :: zvi j :: zvr (some q) :: st) h = if (ph_K h q).1 = 1 ∧ 0 ≤ j ∧ j < (ph_K h q).2 then zev kX4_laysTrades 55 L st (st_I h q j x) else none) ∧
  (∀ (a : Option Nat) (L st : List ZV) (h : PH), zev kX4_laysTrades 55 (zvr a :: L) st h = zev kX4_laysTrades 56 (zvr a :: L) (zvr a :: st) h) ∧
  (∀ (q : Nat) (L st : List ZV) (h : PH), zev kX4_laysTrades 56 L (zvr (some q) :: st) h = if (ph_K h q).1 % 1000 = 18 then zev kX4_laysTrades 59 L (zvr (ph_R h q 31) :: st) h else none) ∧
  (∀ (a : Option Nat) (L st : List ZV) (h : PH), zev kX4_laysTrades 59 (zvr a :: L) st h = zev kX4_laysTrades 60 (zvr a :: L) (zvr a :: st) h) ∧
  (∀ (q : Nat) (L st : List ZV) (h : PH), zev kX4_laysTrades 60 L (zvr (some q) :: st) h = if (ph_K h q).1 % 1000 = 18 then zev kX4_laysTrades 63 L (zvi (ph_I h q 32) :: st) h else none) ∧
  (∀ (x0 x1 x2 x3 x4 : ZV) (a : Int) (L st : List ZV) (h : PH), zev kX4_laysTrades 63 (x0 :: x1 :: x2 :: x3 :: x4 :: zvi a :: L) st h = zev kX4_laysTrades 65 (x0 :: x1 :: x2 :: x3 :: x4 :: zvi a :: L) (zvi a :: st) h) ∧
  (∀ (x j : Int) (q : Nat) (L st : List ZV) (h : PH), zev kX4_laysTrades 65 L (zvi x :: zvi j :: zvr (some q) :: st) h = if (ph_K h q).1 = 1 ∧ 0 ≤ j ∧ j < (ph_K h q).2 then zev kX4_laysTrades 66 L st (st_I h q j x) else none) ∧
  (∀ (a : Option Nat) (L st : List ZV) (h : PH), zev kX4_laysTrades 66 (zvr a :: L) st h = zev kX4_laysTrades 67 (zvr a :: L) (zvr a :: st) h) ∧
  (∀ (a : Int) (L st : List ZV) (h : PH), zev kX4_laysTrades 67 L (zvi a :: st) h = zev kX4_laysTrades 68 L (zvi a :: zvi a :: st) h) ∧
  (∀ (a : Option Nat) (L st : List ZV) (h : PH), zev kX4_laysTrades 67 L (zvr a :: st) h = zev kX4_laysTrades 68 L (zvr a :: zvr a :: st) h) ∧
  (∀ (q : Nat) (L st : List ZV) (h : PH), zev kX4_laysTrades 68 L (zvr (some q) :: st) h = if (ph_K h q).1 % 1000 = 18 then zev kX4_laysTrades 71 L (zvi (ph_I h q 32) :: st) h else none) ∧
  (∀ (L st : List ZV) (h : PH), zev kX4_laysTrades 71 L st h = zev kX4_laysTrades 72 L (zvi 1 :: st) h) ∧
  (∀ (a b : Int) (L st : List ZV) (h : PH), zev kX4_laysTrades 72 L (zvi b :: zvi a :: st) h = zev kX4_laysTrades 73 L (zvi (w32 (a + b)) :: st) h) ∧
  (∀ (a : Int) (q : Nat) (L st : List ZV) (h : PH), zev kX4_laysTrades 73 L (zvi a :: zvr (some q) :: st) h = if (ph_K h q).1 = 18 then zev kX4_laysTrades 76 L st (st_I h q 32 a) else none) ∧
  (∀ (x0 x1 x2 x3 x4 x5 : ZV) (a : Int) (L st : List ZV) (h : PH), zev kX4_laysTrades 76 (x0 :: x1 :: x2 :: x3 :: x4 :: x5 :: zvi a :: L) st h = zev kX4_laysTrades 78 (x0 :: x1 :: x2 :: x3 :: x4 :: x5 :: zvi a :: L) (zvi a :: st) h) ∧
  (∀ (x0 x1 x2 x3 x4 : ZV) (a : Int) (L st : List ZV) (h : PH) (hx : zisL x3 = false) , zev kX4_laysTrades 78 (x0 :: x1 :: x2 :: x3 :: x4 :: L) (zvi a :: st) h = zev kX4_laysTrades 80 (x0 :: x1 :: x2 :: x3 :: zvi a :: L) st h) ∧
  (∀ (x0 x1 x2 x3 x4 : ZV) (a : Int) (L st : List ZV) (h : PH) (hx : zisL x4 = false) , zev kX4_laysTrades 80 (x0 :: x1 :: x2 :: x3 :: x4 :: zvi a :: L) st h = zev kX4_laysTrades 83 (x0 :: x1 :: x2 :: x3 :: x4 :: zvi (w32 (a + 1)) :: L) st h) ∧
  (∀ (L st : List ZV) (h : PH), zev kX4_laysTrades 83 L st h = zev kX4_laysTrades 20 L st h) ∧
  (∀ (L : List ZV) (h : PH), zev kX4_laysTrades 86 L [] h = zr0 h) :=
  ⟨fun a L st h => e_ld0R (n := 1) rfl,
  fun x0 x1 a L st h => e_ld2I (n := 2) rfl,
  fun L st h => e_push (v := zvi 119) (n := 4) rfl,
  fun v0 v1 q L st h => e_callV3 (F := mX4_laysWithin) (kd := 18) (n := 7) rfl,
  fun a L st h => e_ld0R (n := 8) rfl,
  fun L st h => e_push (v := zvi 0) (n := 9) rfl,
  fun a q L st h => e_putI (kd := 18) (k := 32) (n := 12) rfl,
  fun L st h => e_push (v := zvi 9999) (n := 15) rfl,
  fun x0 x1 x2 x3 x4 a L st h hx => e_st4I (n := 17) rfl hx,
  fun L st h => e_push (v := zvi 0) (n := 18) rfl,
  fun x0 x1 x2 x3 x4 x5 a L st h hx => e_st5I (n := 20) rfl hx,
  fun L st h => e_push (v := zvi 120) (n := 24) rfl,
  fun a b L st h => e_cmpge (t := 86) (n := 27) rfl,
  fun a L st h => e_ld0R (n := 28) rfl,
  fun x0 a L st h => e_ld1I (n := 29) rfl,
  fun x0 x1 x2 a L st h => e_ld3I (n := 30) rfl,
  fun x0 x1 x2 x3 x4 a L st h => e_ld5I (n := 32) rfl,
  fun v0 v1 v2 q L st h => e_callV4 (F := mX4_soonestBy) (kd := 18) (n := 35) rfl,
  fun x0 x1 x2 x3 x4 x5 x6 a L st h hx => e_st6I (n := 37) rfl hx,
  fun x0 x1 x2 x3 x4 x5 a L st h => e_ld6I (n := 39) rfl,
  fun x0 x1 x2 x3 a L st h => e_ld4I (n := 41) rfl,
  fun a b L st h => e_cmpge (t := 80) (n := 44) rfl,
  fun a L st h => e_ld0R (n := 45) rfl,
  fun q L st h => e_getR (kd := 18) (k := 30) (n := 48) rfl,
  fun a L st h => e_ld0R (n := 49) rfl,
  fun q L st h => e_getI (kd := 18) (k := 32) (n := 52) rfl,
  fun x0 x1 x2 x3 x4 x5 a L st h => e_ld6I (n := 54) rfl,
  fun x j q L st h => e_ast (n := 55) rfl,
  fun a L st h => e_ld0R (n := 56) rfl,
  fun q L st h => e_getR (kd := 18) (k := 31) (n := 59) rfl,
  fun a L st h => e_ld0R (n := 60) rfl,
  fun q L st h => e_getI (kd := 18) (k := 32) (n := 63) rfl,
  fun x0 x1 x2 x3 x4 a L st h => e_ld5I (n := 65) rfl,
  fun x j q L st h => e_ast (n := 66) rfl,
  fun a L st h => e_ld0R (n := 67) rfl,
  fun a L st h => e_dupI (n := 68) rfl,
  fun a L st h => e_dupR (n := 68) rfl,
  fun q L st h => e_getI (kd := 18) (k := 32) (n := 71) rfl,
  fun L st h => e_push (v := zvi 1) (n := 72) rfl,
  fun a b L st h => e_bin (f := (fun a b => w32 (a + b))) (n := 73) rfl,
  fun a q L st h => e_putI (kd := 18) (k := 32) (n := 76) rfl,
  fun x0 x1 x2 x3 x4 x5 a L st h => e_ld6I (n := 78) rfl,
  fun x0 x1 x2 x3 x4 a L st h hx => e_st4I (n := 80) rfl hx,
  fun x0 x1 x2 x3 x4 a L st h hx => e_iinc5 (d := 1) (n := 83) rfl hx,
  fun L st h => e_goto (t := 20) rfl,
  fun L h => e_ret rfl⟩
theorem allX4_laysTrades : zall yX4_laysTrades cX4_laysTrades 7 none 6 kX4_laysTrades.1 :=
  ⟨k_aload_n dX4_laysTrades_0,
  k_iload_n dX4_laysTrades_1,
  k_bipush dX4_laysTrades_2,
  k_callV (y2 := yX4_laysWithin) (C := RX4) (T0 := TX4) (ci := 2) dX4_laysTrades_4 sndX4_laysWithin rfl q2183 q2185 qs109 q137 q2186 (by decide +kernel) ⟨by decide, by decide⟩ (by decide) (by decide),
  k_aload_n dX4_laysTrades_7,
  k_iconst dX4_laysTrades_8,
  k_putI (C := RX4) (T := TX4) (N := 42) (ci := 2) (k := 32) (ref := "LinkTimesModel") dX4_laysTrades_9 rfl in_X4 tyX4 tyX4_ok nmX4 (by decide) (Or.inl q1831) (Or.inl rfl) (Or.inl rfl) (tyX4_ok 32 (by decide)) (fun _ _ _ => rfl),
  k_sipush dX4_laysTrades_12,
  k_istore dX4_laysTrades_15,
  k_iconst dX4_laysTrades_17,
  k_istore dX4_laysTrades_18,
  k_iload dX4_laysTrades_20,
  k_bipush dX4_laysTrades_22,
  k_cmpge (t := 86) dX4_laysTrades_24 (by decide),
  k_aload_n dX4_laysTrades_27,
  k_iload_n dX4_laysTrades_28,
  k_iload_n dX4_laysTrades_29,
  k_iload dX4_laysTrades_30,
  k_callV (y2 := yX4_soonestBy) (C := RX4) (T0 := TX4) (ci := 2) dX4_laysTrades_32 sndX4_soonestBy rfl q2191 q2193 qs111 q137 q2194 (by decide +kernel) ⟨by decide, by decide⟩ (by decide) (by decide),
  k_istore dX4_laysTrades_35,
  k_iload dX4_laysTrades_37,
  k_iload dX4_laysTrades_39,
  k_cmpge (t := 80) dX4_laysTrades_41 (by decide),
  k_aload_n dX4_laysTrades_44,
  k_getR (C := RX4) (T := TX4) (N := 42) (ci := 2) (k := 30) (ref := "LinkTimesModel") dX4_laysTrades_45 rfl in_X4 (by decide) q1829 (Or.inl rfl) (fun _ _ _ => rfl),
  k_aload_n dX4_laysTrades_48,
  k_getI (C := RX4) (T := TX4) (N := 42) (ci := 2) (k := 32) (ref := "LinkTimesModel") dX4_laysTrades_49 rfl in_X4 (by decide) q1831 (Or.inl rfl) (fun _ _ _ => rfl),
  k_iload dX4_laysTrades_52,
  k_iast dX4_laysTrades_54,
  k_aload_n dX4_laysTrades_55,
  k_getR (C := RX4) (T := TX4) (N := 42) (ci := 2) (k := 31) (ref := "LinkTimesModel") dX4_laysTrades_56 rfl in_X4 (by decide) q1830 (Or.inl rfl) (fun _ _ _ => rfl),
  k_aload_n dX4_laysTrades_59,
  k_getI (C := RX4) (T := TX4) (N := 42) (ci := 2) (k := 32) (ref := "LinkTimesModel") dX4_laysTrades_60 rfl in_X4 (by decide) q1831 (Or.inl rfl) (fun _ _ _ => rfl),
  k_iload dX4_laysTrades_63,
  k_iast dX4_laysTrades_65,
  k_aload_n dX4_laysTrades_66,
  k_dup dX4_laysTrades_67,
  k_getI (C := RX4) (T := TX4) (N := 42) (ci := 2) (k := 32) (ref := "LinkTimesModel") dX4_laysTrades_68 rfl in_X4 (by decide) q1831 (Or.inl rfl) (fun _ _ _ => rfl),
  k_iconst dX4_laysTrades_71,
  k_iadd dX4_laysTrades_72,
  k_putI (C := RX4) (T := TX4) (N := 42) (ci := 2) (k := 32) (ref := "LinkTimesModel") dX4_laysTrades_73 rfl in_X4 tyX4 tyX4_ok nmX4 (by decide) (Or.inl q1831) (Or.inl rfl) (Or.inl rfl) (tyX4_ok 32 (by decide)) (fun _ _ _ => rfl),
  k_iload dX4_laysTrades_76,
  k_istore dX4_laysTrades_78,
  k_iinc dX4_laysTrades_80,
  k_goto (t := 20) dX4_laysTrades_83 (by decide),
  k_ret dX4_laysTrades_86, trivial⟩
theorem sndX4_laysTrades : MSound 6 yX4_laysTrades (ws_ yX4_laysTrades cX4_laysTrades 7 none) mX4_laysTrades := msound_M (by decide) allX4_laysTrades (fun _ _ => rfl)
/-! LinkTimesModel.trades(III)I -/
noncomputable def kX4_trades : ZM := ([(0, zi_ld 1 0 1), (1, zi_ld 1 0 2), (2, zi_ld 0 1 3), (3, zi_ld 0 2 4), (4, zi_ld 0 3 5), (5, zi_callV mX4_wayWhy 18 4 8), (8, zi_callV mX4_isRefused 18 2 11), (11, zi_if (fun a => zc_eq a 0) 16 14), (14, zi_push (zvi (-1)) 15), (15, zi_retv 0), (16, zi_ld 0 1 17), (17, zi_ld 0 2 18), (18, zi_cmp zc_ne 23 21), (21, zi_push (zvi 1) 22), (22, zi_retv 0), (23, zi_ld 1 0 24), (24, zi_ld 0 1 25), (25, zi_ld 0 2 26), (26, zi_ld 0 3 27), (27, zi_callV mX4_laysTrades 18 4 30), (30, zi_ld 1 0 31), (31, zi_getI 18 32 34), (34, zi_if (fun a => zc_ne a 0) 42 37), (37, zi_push (zvi (-2)) 39), (39, zi_goto 46), (42, zi_ld 1 0 43), (43, zi_getI 18 32 46), (46, zi_retv 0)], fun _ _ => none)
noncomputable def mX4_trades : ZF := zrunM kX4_trades 4
theorem enX4_trades (x0 : Option Nat) (x1 : Int) (x2 : Int) (x3 : Int) (h : PH) : mX4_trades [zvr x0, zvi x1, zvi x2, zvi x3] h = zev kX4_trades 0 [zvr x0, zvi x1, zvi x2, zvi x3] [] h := zrunM_eq rfl rfl
theorem rX4_trades : (∀ (a : Option Nat) (L st : List ZV) (h : PH), zev kX4_trades 0 (zvr a :: L) st h = zev kX4_trades 1 (zvr a :: L) (zvr a :: st) h) ∧
  (∀ (a : Option Nat) (L st : List ZV) (h : PH), zev kX4_trades 1 (zvr a :: L) st h = zev kX4_trades 2 (zvr a :: L) (zvr a :: st) h) ∧
  (∀ (x0 : ZV) (a : Int) (L st : List ZV) (h : PH), zev kX4_trades 2 (x0 :: zvi a :: L) st h = zev kX4_trades 3 (x0 :: zvi a :: L) (zvi a :: st) h) ∧
  (∀ (x0 x1 : ZV) (a : Int) (L st : List ZV) (h : PH), zev kX4_trades 3 (x0 :: x1 :: zvi a :: L) st h = zev kX4_trades 4 (x0 :: x1 :: zvi a :: L) (zvi a :: st) h) ∧
  (∀ (x0 x1 x2 : ZV) (a : Int) (L st : List ZV) (h : PH), zev kX4_trades 4 (x0 :: x1 :: x2 :: zvi a :: L) st h = zev kX4_trades 5 (x0 :: x1 :: x2 :: zvi a :: L) (zvi a :: st) h) ∧
  (∀ (v0 v1 v2 : ZV) (q : Nat) (L st : List ZV) (h : PH), zev kX4_trades 5 L (v2 :: v1 :: v0 :: zvr (some q) :: st) h = if (ph_K h q).1 % 1000 = 18 ∧ zcat st ≤ 8 then zk kX4_trades 5 8 L st (mX4_wayWhy [zvr (some q), v0, v1, v2] h) else none) ∧
  (∀ (v0 : ZV) (q : Nat) (L st : List ZV) (h : PH), zev kX4_trades 8 L (v0 :: zvr (some q) :: st) h = if (ph_K h q).1 % 1000 = 18 ∧ zcat st ≤ 8 then zk kX4_trades 8 11 L st (mX4_isRefused [zvr (some q), v0] h) else none) ∧
  (∀ (a : Int) (L st : List ZV) (h : PH), zev kX4_trades 11 L (zvi a :: st) h = if a = 0 then zev kX4_trades 16 L st h else zev kX4_trades 14 L st h) ∧
  (∀ (L st : List ZV) (h : PH), zev kX4_trades 14 L st h = zev kX4_trades 15 L (zvi (-1) :: st) h) ∧
  (∀ (a : Int) (L : List ZV) (h : PH), zev kX4_trades 15 L [zvi a] h = zrv (zvi a) h) ∧
  (∀ (x0 : ZV) (a : Int) (L st : List ZV) (h : PH), zev kX4_trades 16 (x0 :: zvi a :: L) st h = zev kX4_trades 17 (x0 :: zvi a :: L) (zvi a :: st) h) ∧
  (∀ (x0 x1 : ZV) (a : Int) (L st : List ZV) (h : PH), zev kX4_trades 17 (x0 :: x1 :: zvi a :: L) st h = zev kX4_trades 18 (x0 :: x1 :: zvi a :: L) (zvi a :: st) h) ∧
  (∀ (a b : Int) (L st : List ZV) (h : PH), zev kX4_trades 18 L (zvi b :: zvi a :: st) h = if a ≠ b then zev kX4_trades 23 L st h else zev kX4_trades 21 L st h) ∧
  (∀ (L st : List ZV) (h : PH), zev kX4_trades 21 L st h = zev kX4_trades 22 L (zvi 1 :: st) h) ∧
  (∀ (a : Int) (L : List ZV) (h : PH), zev kX4_trades 22 L [zvi a] h = zrv (zvi a) h) ∧
  (∀ (a : Option Nat) (L st : List ZV) (h : PH), zev kX4_trades 23 (zvr a :: L) st h = zev kX4_trades 24 (zvr a :: L) (zvr a :: st) h) ∧
  (∀ (x0 : ZV) (a : Int) (L st : List ZV) (h : PH), zev kX4_trades 24 (x0 :: zvi a :: L) st h = zev kX4_trades 25 (x0 :: zvi a :: L) (zvi a :: st) h) ∧
  (∀ (x0 x1 : ZV) (a : Int) (L st : List ZV) (h : PH), zev kX4_trades 25 (x0 :: x1 :: zvi a :: L) st h = zev kX4_trades 26 (x0 :: x1 :: zvi a :: L) (zvi a :: st) h) ∧
  (∀ (x0 x1 x2 : ZV) (a : Int) (L st : List ZV) (h : PH), zev kX4_trades 26 (x0 :: x1 :: x2 :: zvi a :: L) st h = zev kX4_trades 27 (x0 :: x1 :: x2 :: zvi a :: L) (zvi a :: st) h) ∧
  (∀ (v0 v1 v2 : ZV) (q : Nat) (L st : List ZV) (h : PH), zev kX4_trades 27 L (v2 :: v1 :: v0 :: zvr (some q) :: st) h = if (ph_K h q).1 % 1000 = 18 ∧ zcat st ≤ 8 then zk kX4_trades 27 30 L st (mX4_laysTrades [zvr (some q), v0, v1, v2] h) else none) ∧
  (∀ (a : Option Nat) (L st : List ZV) (h : PH), zev kX4_trades 30 (zvr a :: L) st h = zev kX4_trades 31 (zvr a :: L) (zvr a :: st) h) ∧
  (∀ (q : Nat) (L st : List ZV) (h : PH), zev kX4_trades 31 L (zvr (some q) :: st) h = if (ph_K h q).1 % 1000 = 18 then zev kX4_trades 34 L (zvi (ph_I h q 32) :: st) h else none) ∧
  (∀ (a : Int) (L st : List ZV) (h : PH), zev kX4_trades 34 L (zvi a :: st) h = if a ≠ 0 then zev kX4_trades 42 L st h else zev kX4_trades 37 L st h) ∧
  (∀ (L st : List ZV) (h : PH), zev kX4_trades 37 L st h = zev kX4_trades 39 L (zvi (-2) :: st) h) ∧
  (∀ (L st : List ZV) (h : PH), zev kX4_trades 39 L st h = zev kX4_trades 46 L st h) ∧
  (∀ (a : Option Nat) (L st : List ZV) (h : PH), zev kX4_trades 42 (zvr a :: L) st h = zev kX4_trades 43 (zvr a :: L) (zvr a :: st) h) ∧
  (∀ (q : Nat) (L st : List ZV) (h : PH), zev kX4_trades 43 L (zvr (some q) :: st) h = if (ph_K h q).1 % 1000 = 18 then zev kX4_trades 46 L (zvi (ph_I h q 32) :: st) h else none) ∧
  (∀ (a : Int) (L : List ZV) (h : PH), zev kX4_trades 46 L [zvi a] h = zrv (zvi a) h) :=
  ⟨fun a L st h => e_ld0R (n := 1) rfl,
  fun a L st h => e_ld0R (n := 2) rfl,
  fun x0 a L st h => e_ld1I (n := 3) rfl,
  fun x0 x1 a L st h => e_ld2I (n := 4) rfl,
  fun x0 x1 x2 a L st h => e_ld3I (n := 5) rfl,
  fun v0 v1 v2 q L st h => e_callV4 (F := mX4_wayWhy) (kd := 18) (n := 8) rfl,
  fun v0 q L st h => e_callV2 (F := mX4_isRefused) (kd := 18) (n := 11) rfl,
  fun a L st h => e_ifeq (t := 16) (n := 14) rfl,
  fun L st h => e_push (v := zvi (-1)) (n := 15) rfl,
  fun a L h => e_retI rfl,
  fun x0 a L st h => e_ld1I (n := 17) rfl,
  fun x0 x1 a L st h => e_ld2I (n := 18) rfl,
  fun a b L st h => e_cmpne (t := 23) (n := 21) rfl,
  fun L st h => e_push (v := zvi 1) (n := 22) rfl,
  fun a L h => e_retI rfl,
  fun a L st h => e_ld0R (n := 24) rfl,
  fun x0 a L st h => e_ld1I (n := 25) rfl,
  fun x0 x1 a L st h => e_ld2I (n := 26) rfl,
  fun x0 x1 x2 a L st h => e_ld3I (n := 27) rfl,
  fun v0 v1 v2 q L st h => e_callV4 (F := mX4_laysTrades) (kd := 18) (n := 30) rfl,
  fun a L st h => e_ld0R (n := 31) rfl,
  fun q L st h => e_getI (kd := 18) (k := 32) (n := 34) rfl,
  fun a L st h => e_ifne (t := 42) (n := 37) rfl,
  fun L st h => e_push (v := zvi (-2)) (n := 39) rfl,
  fun L st h => e_goto (t := 46) rfl,
  fun a L st h => e_ld0R (n := 43) rfl,
  fun q L st h => e_getI (kd := 18) (k := 32) (n := 46) rfl,
  fun a L h => e_retI rfl⟩
theorem allX4_trades : zall yX4_trades cX4_trades 4 (some .int) 7 kX4_trades.1 :=
  ⟨k_aload_n dX4_trades_0,
  k_aload_n dX4_trades_1,
  k_iload_n dX4_trades_2,
  k_iload_n dX4_trades_3,
  k_iload_n dX4_trades_4,
  k_callV (y2 := yX4_wayWhy) (C := RX4) (T0 := TX4) (ci := 2) dX4_trades_5 sndX4_wayWhy rfl q2116 q2118 qs98 q137 q2119 (by decide +kernel) ⟨by decide, by decide⟩ (by decide) (by decide),
  k_callV (y2 := yX4_isRefused) (C := RX4) (T0 := TX4) (ci := 2) dX4_trades_8 sndX4_isRefused rfl q1946 q1948 qs70 q137 q1949 (by decide +kernel) ⟨by decide, by decide⟩ (by decide) (by decide),
  k_ifeq (t := 16) dX4_trades_11 (by decide),
  k_iconst dX4_trades_14,
  k_iret dX4_trades_15,
  k_iload_n dX4_trades_16,
  k_iload_n dX4_trades_17,
  k_cmpne (t := 23) dX4_trades_18 (by decide),
  k_iconst dX4_trades_21,
  k_iret dX4_trades_22,
  k_aload_n dX4_trades_23,
  k_iload_n dX4_trades_24,
  k_iload_n dX4_trades_25,
  k_iload_n dX4_trades_26,
  k_callV (y2 := yX4_laysTrades) (C := RX4) (T0 := TX4) (ci := 2) dX4_trades_27 sndX4_laysTrades rfl q2199 q2201 qs112 q137 q2202 (by decide +kernel) ⟨by decide, by decide⟩ (by decide) (by decide),
  k_aload_n dX4_trades_30,
  k_getI (C := RX4) (T := TX4) (N := 42) (ci := 2) (k := 32) (ref := "LinkTimesModel") dX4_trades_31 rfl in_X4 (by decide) q1831 (Or.inl rfl) (fun _ _ _ => rfl),
  k_ifne (t := 42) dX4_trades_34 (by decide),
  k_bipush dX4_trades_37,
  k_goto (t := 46) dX4_trades_39 (by decide),
  k_aload_n dX4_trades_42,
  k_getI (C := RX4) (T := TX4) (N := 42) (ci := 2) (k := 32) (ref := "LinkTimesModel") dX4_trades_43 rfl in_X4 (by decide) q1831 (Or.inl rfl) (fun _ _ _ => rfl),
  k_iret dX4_trades_46, trivial⟩
theorem sndX4_trades : MSound 7 yX4_trades (ws_ yX4_trades cX4_trades 4 (some .int)) mX4_trades := msound_M (by decide) allX4_trades (fun _ _ => rfl)
/-! LinkTimesModel.latestOf(IIII)I -/
noncomputable def kX4_latestOf : ZM := ([(0, zi_push (zvi (-2)) 2), (2, zi_st 0 5 4), (4, zi_push (zvi 0) 5), (5, zi_st 0 6 7), (7, zi_ld 0 6 9), (9, zi_ld 1 0 10), (10, zi_getR 18 6 13), (13, zi_push (zvi 4) 14), (14, zi_ald 1 15), (15, zi_cmp zc_ge 106 18), (18, zi_ld 1 0 19), (19, zi_ld 0 6 21), (21, zi_callV mX4_runs 18 2 24), (24, zi_if (fun a => zc_eq a 0) 68 27), (27, zi_ld 1 0 28), (28, zi_getR 18 6 31), (31, zi_ld 0 6 33), (33, zi_push (zvi 1) 34), (34, zi_callS mX4_at 2 37), (37, zi_ald 1 38), (38, zi_ld 0 1 39), (39, zi_cmp zc_ne 68 42), (42, zi_ld 1 0 43), (43, zi_ld 0 6 45), (45, zi_callV mX4_leavesAt 18 2 48), (48, zi_ld 0 2 49), (49, zi_cmp zc_lt 68 52), (52, zi_ld 1 0 53), (53, zi_ld 0 6 55), (55, zi_ld 0 3 56), (56, zi_callV mX4_soonest 18 3 59), (59, zi_ld 0 4 61), (61, zi_cmp zc_ne 68 64), (64, zi_push (zvi 1) 65), (65, zi_goto 69), (68, zi_push (zvi 0) 69), (69, zi_st 0 7 71), (71, zi_ld 0 7 73), (73, zi_if (fun a => zc_eq a 0) 96 76), (76, zi_ld 1 0 77), (77, zi_ld 0 6 79), (79, zi_callV mX4_leavesAt 18 2 82), (82, zi_ld 0 5 84), (84, zi_cmp zc_le 96 87), (87, zi_ld 1 0 88), (88, zi_ld 0 6 90), (90, zi_callV mX4_leavesAt 18 2 93), (93, zi_goto 98), (96, zi_ld 0 5 98), (98, zi_st 0 5 100), (100, zi_iinc 6 1 103), (103, zi_goto 7), (106, zi_ld 0 5 108), (108, zi_retv 0)], fun _ _ => none)
noncomputable def mX4_latestOf : ZF := zrunM kX4_latestOf 8
theorem enX4_latestOf (x0 : Option Nat) (x1 : Int) (x2 : Int) (x3 : Int) (x4 : Int) (h : PH) : mX4_latestOf [zvr x0, zvi x1, zvi x2, zvi x3, zvi x4] h = zev kX4_latestOf 0 [zvr x0, zvi x1, zvi x2, zvi x3, zvi x4, zvu, zvu, zvu] [] h := zrunM_eq rfl rfl
theorem hdX4_latestOf_7 (x0 x1 x2 x3 x4 x5 : ZV) (a : Int) (L st : List ZV) (h : PH) : zev kX4_latestOf 7 (x0 :: x1 :: x2 :: x3 :: x4 :: x5 :: zvi a :: L) st h = zev kX4_latestOf 9 (x0 :: x1 :: x2 :: x3 :: x4 :: x5 :: zvi a :: L) (zvi a :: st) h := e_ld6I (n := 9) rfl
theorem rX4_latestOf : (∀ (L st : List ZV) (h : PH), zev kX4_latestOf 0 L st h = zev kX4_latestOf 2 L (zvi (-2) :: st) h) ∧
  (∀ (x0 x1 x2 x3 x4 x5 : ZV) (a : Int) (L st : List ZV) (h : PH) (hx : zisL x4 = false) , zev kX4_latestOf 2 (x0 :: x1 :: x2 :: x3 :: x4 :: x5 :: L) (zvi a :: st) h = zev kX4_latestOf 4 (x0 :: x1 :: x2 :: x3 :: x4 :: zvi a :: L) st h) ∧
  (∀ (L st : List ZV) (h : PH), zev kX4_latestOf 4 L st h = zev kX4_latestOf 5 L (zvi 0 :: st) h) ∧
  (∀ (x0 x1 x2 x3 x4 x5 x6 : ZV) (a : Int) (L st : List ZV) (h : PH) (hx : zisL x5 = false) , zev kX4_latestOf 5 (x0 :: x1 :: x2 :: x3 :: x4 :: x5 :: x6 :: L) (zvi a :: st) h = zev kX4_latestOf 7 (x0 :: x1 :: x2 :: x3 :: x4 :: x5 :: zvi a :: L) st h) ∧
  (∀ (a : Option Nat) (L st : List ZV) (h : PH), zev kX4_latestOf 9 (zvr a :: L) st h = zev kX4_latestOf 10 (zvr a :: L) (zvr a :: st) h) ∧
  (∀ (q : Nat) (L st : List ZV) (h : PH), zev kX4_latestOf 10 L (zvr (some q) :: st) h = if (ph_K h q).1 % 1000 = 18 then zev kX4_latestOf 13 L (zvr (ph_R h q 6) :: st) h else none) ∧
  (∀ (L st : List ZV) (h : PH), zev kX4_latestOf 13 L st h = zev kX4_latestOf 14 L (zvi 4 :: st) h) ∧
  (∀ (j : Int) (q : Nat) (L st : List ZV) (h : PH), zev kX4_latestOf 14 L (zvi j :: zvr (some q) :: st) h = if (ph_K h q).1 % 1000 = 1 ∧ 0 ≤ j ∧ j < (ph_K h q).2 then zev kX4_latestOf 15 L (zvi (ph_I h q j) :: st) h else none) ∧
  (∀ (a b : Int) (L st : List ZV) (h : PH), zev kX4_latestOf 15 L (zvi b :: zvi a :: st) h = if a ≥ b then zev kX4_latestOf 106 L st h else zev kX4_latestOf 18 L st h) ∧
  (∀ (a : Option Nat) (L st : List ZV) (h : PH), zev kX4_latestOf 18 (zvr a :: L) st h = zev kX4_latestOf 19 (zvr a :: L) (zvr a :: st) h) ∧
  (∀ (x0 x1 x2 x3 x4 x5 : ZV) (a : Int) (L st : List ZV) (h : PH), zev kX4_latestOf 19 (x0 :: x1 :: x2 :: x3 :: x4 :: x5 :: zvi a :: L) st h = zev kX4_latestOf 21 (x0 :: x1 :: x2 :: x3 :: x4 :: x5 :: zvi a :: L) (zvi a :: st) h) ∧
  (∀ (v0 : ZV) (q : Nat) (L st : List ZV) (h : PH), zev kX4_latestOf 21 L (v0 :: zvr (some q) :: st) h = if (ph_K h q).1 % 1000 = 18 ∧ zcat st ≤ 8 then zk kX4_latestOf 21 24 L st (mX4_runs [zvr (some q), v0] h) else none) ∧
  (∀ (a : Int) (L st : List ZV) (h : PH), zev kX4_latestOf 24 L (zvi a :: st) h = if a = 0 then zev kX4_latestOf 68 L st h else zev kX4_latestOf 27 L st h) ∧
  (∀ (a : Option Nat) (L st : List ZV) (h : PH), zev kX4_latestOf 27 (zvr a :: L) st h = zev kX4_latestOf 28 (zvr a :: L) (zvr a :: st) h) ∧
  (∀ (q : Nat) (L st : List ZV) (h : PH), zev kX4_latestOf 28 L (zvr (some q) :: st) h = if (ph_K h q).1 % 1000 = 18 then zev kX4_latestOf 31 L (zvr (ph_R h q 6) :: st) h else none) ∧
  (∀ (x0 x1 x2 x3 x4 x5 : ZV) (a : Int) (L st : List ZV) (h : PH), zev kX4_latestOf 31 (x0 :: x1 :: x2 :: x3 :: x4 :: x5 :: zvi a :: L) st h = zev kX4_latestOf 33 (x0 :: x1 :: x2 :: x3 :: x4 :: x5 :: zvi a :: L) (zvi a :: st) h) ∧
  (∀ (L st : List ZV) (h : PH), zev kX4_latestOf 33 L st h = zev kX4_latestOf 34 L (zvi 1 :: st) h) ∧
  (∀ (v0 v1 : ZV) (L st : List ZV) (h : PH), zev kX4_latestOf 34 L (v1 :: v0 :: st) h = if zcat st ≤ 8 then zk kX4_latestOf 34 37 L st (mX4_at [v0, v1] h) else none) ∧
  (∀ (j : Int) (q : Nat) (L st : List ZV) (h : PH), zev kX4_latestOf 37 L (zvi j :: zvr (some q) :: st) h = if (ph_K h q).1 % 1000 = 1 ∧ 0 ≤ j ∧ j < (ph_K h q).2 then zev kX4_latestOf 38 L (zvi (ph_I h q j) :: st) h else none) ∧
  (∀ (x0 : ZV) (a : Int) (L st : List ZV) (h : PH), zev kX4_latestOf 38 (x0 :: zvi a :: L) st h = zev kX4_latestOf 39 (x0 :: zvi a :: L) (zvi a :: st) h) ∧
  (∀ (a b : Int) (L st : List ZV) (h : PH), zev kX4_latestOf 39 L (zvi b :: zvi a :: st) h = if a ≠ b then zev kX4_latestOf 68 L st h else zev kX4_latestOf 42 L st h) ∧
  (∀ (a : Option Nat) (L st : List ZV) (h : PH), zev kX4_latestOf 42 (zvr a :: L) st h = zev kX4_latestOf 43 (zvr a :: L) (zvr a :: st) h) ∧
  (∀ (x0 x1 x2 x3 x4 x5 : ZV) (a : Int) (L st : List ZV) (h : PH), zev kX4_latestOf 43 (x0 :: x1 :: x2 :: x3 :: x4 :: x5 :: zvi a :: L) st h = zev kX4_latestOf 45 (x0 :: x1 :: x2 :: x3 :: x4 :: x5 :: zvi a :: L) (zvi a :: st) h) ∧
  (∀ (v0 : ZV) (q : Nat) (L st : List ZV) (h : PH), zev kX4_latestOf 45 L (v0 :: zvr (some q) :: st) h = if (ph_K h q).1 % 1000 = 18 ∧ zcat st ≤ 8 then zk kX4_latestOf 45 48 L st (mX4_leavesAt [zvr (some q), v0] h) else none) ∧
  (∀ (x0 x1 : ZV) (a : Int) (L st : List ZV) (h : PH), zev kX4_latestOf 48 (x0 :: x1 :: zvi a :: L) st h = zev kX4_latestOf 49 (x0 :: x1 :: zvi a :: L) (zvi a :: st) h) ∧
  (∀ (a b : Int) (L st : List ZV) (h : PH), zev kX4_latestOf 49 L (zvi b :: zvi a :: st) h = if a < b then zev kX4_latestOf 68 L st h else zev kX4_latestOf 52 L st h) ∧
  (∀ (a : Option Nat) (L st : List ZV) (h : PH), zev kX4_latestOf 52 (zvr a :: L) st h = zev kX4_latestOf 53 (zvr a :: L) (zvr a :: st) h) ∧
  (∀ (x0 x1 x2 x3 x4 x5 : ZV) (a : Int) (L st : List ZV) (h : PH), zev kX4_latestOf 53 (x0 :: x1 :: x2 :: x3 :: x4 :: x5 :: zvi a :: L) st h = zev kX4_latestOf 55 (x0 :: x1 :: x2 :: x3 :: x4 :: x5 :: zvi a :: L) (zvi a :: st) h) ∧
  (∀ (x0 x1 x2 : ZV) (a : Int) (L st : List ZV) (h : PH), zev kX4_latestOf 55 (x0 :: x1 :: x2 :: zvi a :: L) st h = zev kX4_latestOf 56 (x0 :: x1 :: x2 :: zvi a :: L) (zvi a :: st) h) ∧
  (∀ (v0 v1 : ZV) (q : Nat) (L st : List ZV) (h : PH), zev kX4_latestOf 56 L (v1 :: v0 :: zvr (some q) :: st) h = if (ph_K h q).1 % 1000 = 18 ∧ zcat st ≤ 8 then zk kX4_latestOf 56 59 L st (mX4_soonest [zvr (some q), v0, v1] h) else none) ∧
  (∀ (x0 x1 x2 x3 : ZV) (a : Int) (L st : List ZV) (h : PH), zev kX4_latestOf 59 (x0 :: x1 :: x2 :: x3 :: zvi a :: L) st h = zev kX4_latestOf 61 (x0 :: x1 :: x2 :: x3 :: zvi a :: L) (zvi a :: st) h) ∧
  (∀ (a b : Int) (L st : List ZV) (h : PH), zev kX4_latestOf 61 L (zvi b :: zvi a :: st) h = if a ≠ b then zev kX4_latestOf 68 L st h else zev kX4_latestOf 64 L st h) ∧
  (∀ (L st : List ZV) (h : PH), zev kX4_latestOf 64 L st h = zev kX4_latestOf 65 L (zvi 1 :: st) h) ∧
  (∀ (L st : List ZV) (h : PH), zev kX4_latestOf 65 L st h = zev kX4_latestOf 69 L st h) ∧
  (∀ (L st : List ZV) (h : PH), zev kX4_latestOf 68 L st h = zev kX4_latestOf 69 L (zvi 0 :: st) h) ∧
  (∀ (x0 x1 x2 x3 x4 x5 x6 x7 : ZV) (a : Int) (L st : List ZV) (h : PH) (hx : zisL x6 = false) , zev kX4_latestOf 69 (x0 :: x1 :: x2 :: x3 :: x4 :: x5 :: x6 :: x7 :: L) (zvi a :: st) h = zev kX4_latestOf 71 (x0 :: x1 :: x2 :: x3 :: x4 :: x5 :: x6 :: zvi a :: L) st h) ∧
  (∀ (x0 x1 x2 x3 x4 x5 x6 : ZV) (a : Int) (L st : List ZV) (h : PH), zev kX4_latestOf 71 (x0 :: x1 :: x2 :: x3 :: x4 :: x5 :: x6 :: zvi a :: L) st h = zev kX4_latestOf 73 (x0 :: x1 :: x2 :: x3 :: x4 :: x5 :: x6 :: zvi a :: L) (zvi a :: st) h) ∧
  (∀ (a : Int) (L st : List ZV) (h : PH), zev kX4_latestOf 73 L (zvi a :: st) h = if a = 0 then zev kX4_latestOf 96 L st h else zev kX4_latestOf 76 L st h) ∧
  (∀ (a : Option Nat) (L st : List ZV) (h : PH), zev kX4_latestOf 76 (zvr a :: L) st h = zev kX4_latestOf 77 (zvr a :: L) (zvr a :: st) h) ∧
  (∀ (x0 x1 x2 x3 x4 x5 : ZV) (a : Int) (L st : List ZV) (h : PH), zev kX4_latestOf 77 (x0 :: x1 :: x2 :: x3 :: x4 :: x5 :: zvi a :: L) st h = zev kX4_latestOf 79 (x0 :: x1 :: x2 :: x3 :: x4 :: x5 :: zvi a :: L) (zvi a :: st) h) ∧
  (∀ (v0 : ZV) (q : Nat) (L st : List ZV) (h : PH), zev kX4_latestOf 79 L (v0 :: zvr (some q) :: st) h = if (ph_K h q).1 % 1000 = 18 ∧ zcat st ≤ 8 then zk kX4_latestOf 79 82 L st (mX4_leavesAt [zvr (some q), v0] h) else none) ∧
  (∀ (x0 x1 x2 x3 x4 : ZV) (a : Int) (L st : List ZV) (h : PH), zev kX4_latestOf 82 (x0 :: x1 :: x2 :: x3 :: x4 :: zvi a :: L) st h = zev kX4_latestOf 84 (x0 :: x1 :: x2 :: x3 :: x4 :: zvi a :: L) (zvi a :: st) h) ∧
  (∀ (a b : Int) (L st : List ZV) (h : PH), zev kX4_latestOf 84 L (zvi b :: zvi a :: st) h = if a ≤ b then zev kX4_latestOf 96 L st h else zev kX4_latestOf 87 L st h) ∧
  (∀ (a : Option Nat) (L st : List ZV) (h : PH), zev kX4_latestOf 87 (zvr a :: L) st h = zev kX4_latestOf 88 (zvr a :: L) (zvr a :: st) h) ∧
  (∀ (x0 x1 x2 x3 x4 x5 : ZV) (a : Int) (L st : List ZV) (h : PH), zev kX4_latestOf 88 (x0 :: x1 :: x2 :: x3 :: x4 :: x5 :: zvi a :: L) st h = zev kX4_latestOf 90 (x0 :: x1 :: x2 :: x3 :: x4 :: x5 :: zvi a :: L) (zvi a :: st) h) ∧
  (∀ (v0 : ZV) (q : Nat) (L st : List ZV) (h : PH), zev kX4_latestOf 90 L (v0 :: zvr (some q) :: st) h = if (ph_K h q).1 % 1000 = 18 ∧ zcat st ≤ 8 then zk kX4_latestOf 90 93 L st (mX4_leavesAt [zvr (some q), v0] h) else none) ∧
  (∀ (L st : List ZV) (h : PH), zev kX4_latestOf 93 L st h = zev kX4_latestOf 98 L st h) ∧
  (∀ (x0 x1 x2 x3 x4 : ZV) (a : Int) (L st : List ZV) (h : PH), zev kX4_latestOf 96 (x0 :: x1 :: x2 :: x3 :: x4 :: zvi a :: L) st h = zev kX4_latestOf 98 (x0 :: x1 :: x2 :: x3 :: x4 :: zvi a :: L) (zvi a :: st) h) ∧
  (∀ (x0 x1 x2 x3 x4 x5 : ZV) (a : Int) (L st : List ZV) (h : PH) (hx : zisL x4 = false) , zev kX4_latestOf 98 (x0 :: x1 :: x2 :: x3 :: x4 :: x5 :: L) (zvi a :: st) h = zev kX4_latestOf 100 (x0 :: x1 :: x2 :: x3 :: x4 :: zvi a :: L) st h) ∧
  (∀ (x0 x1 x2 x3 x4 x5 : ZV) (a : Int) (L st : List ZV) (h : PH) (hx : zisL x5 = false) , zev kX4_latestOf 100 (x0 :: x1 :: x2 :: x3 :: x4 :: x5 :: zvi a :: L) st h = zev kX4_latestOf 103 (x0 :: x1 :: x2 :: x3 :: x4 :: x5 :: zvi (w32 (a + 1)) :: L) st h) ∧
  (∀ (L st : List ZV) (h : PH), zev kX4_latestOf 103 L st h = zev kX4_latestOf 7 L st h) ∧
  (∀ (x0 x1 x2 x3 x4 : ZV) (a : Int) (L st : List ZV) (h : PH), zev kX4_latestOf 106 (x0 :: x1 :: x2 :: x3 :: x4 :: zvi a :: L) st h = zev kX4_latestOf 108 (x0 :: x1 :: x2 :: x3 :: x4 :: zvi a :: L) (zvi a :: st) h) ∧
  (∀ (a : Int) (L : List ZV) (h : PH), zev kX4_latestOf 108 L [zvi a] h = zrv (zvi a) h) :=
  ⟨fun L st h => e_push (v := zvi (-2)) (n := 2) rfl,
  fun x0 x1 x2 x3 x4 x5 a L st h hx => e_st5I (n := 4) rfl hx,
  fun L st h => e_push (v := zvi 0) (n := 5) rfl,
  fun x0 x1 x2 x3 x4 x5 x6 a L st h hx => e_st6I (n := 7) rfl hx,
  fun a L st h => e_ld0R (n := 10) rfl,
  fun q L st h => e_getR (kd := 18) (k := 6) (n := 13) rfl,
  fun L st h => e_push (v := zvi 4) (n := 14) rfl,
  fun j q L st h => e_ald (kd := 1) (n := 15) rfl,
  fun a b L st h => e_cmpge (t := 106) (n := 18) rfl,
  fun a L st h => e_ld0R (n := 19) rfl,
  fun x0 x1 x2 x3 x4 x5 a L st h => e_ld6I (n := 21) rfl,
  fun v0 q L st h => e_callV2 (F := mX4_runs) (kd := 18) (n := 24) rfl,
  fun a L st h => e_ifeq (t := 68) (n := 27) rfl,
  fun a L st h => e_ld0R (n := 28) rfl,
  fun q L st h => e_getR (kd := 18) (k := 6) (n := 31) rfl,
  fun x0 x1 x2 x3 x4 x5 a L st h => e_ld6I (n := 33) rfl,
  fun L st h => e_push (v := zvi 1) (n := 34) rfl,
  fun v0 v1 L st h => e_callS2 (F := mX4_at) (n := 37) rfl,
  fun j q L st h => e_ald (kd := 1) (n := 38) rfl,
  fun x0 a L st h => e_ld1I (n := 39) rfl,
  fun a b L st h => e_cmpne (t := 68) (n := 42) rfl,
  fun a L st h => e_ld0R (n := 43) rfl,
  fun x0 x1 x2 x3 x4 x5 a L st h => e_ld6I (n := 45) rfl,
  fun v0 q L st h => e_callV2 (F := mX4_leavesAt) (kd := 18) (n := 48) rfl,
  fun x0 x1 a L st h => e_ld2I (n := 49) rfl,
  fun a b L st h => e_cmplt (t := 68) (n := 52) rfl,
  fun a L st h => e_ld0R (n := 53) rfl,
  fun x0 x1 x2 x3 x4 x5 a L st h => e_ld6I (n := 55) rfl,
  fun x0 x1 x2 a L st h => e_ld3I (n := 56) rfl,
  fun v0 v1 q L st h => e_callV3 (F := mX4_soonest) (kd := 18) (n := 59) rfl,
  fun x0 x1 x2 x3 a L st h => e_ld4I (n := 61) rfl,
  fun a b L st h => e_cmpne (t := 68) (n := 64) rfl,
  fun L st h => e_push (v := zvi 1) (n := 65) rfl,
  fun L st h => e_goto (t := 69) rfl,
  fun L st h => e_push (v := zvi 0) (n := 69) rfl,
  fun x0 x1 x2 x3 x4 x5 x6 x7 a L st h hx => e_st7I (n := 71) rfl hx,
  fun x0 x1 x2 x3 x4 x5 x6 a L st h => e_ld7I (n := 73) rfl,
  fun a L st h => e_ifeq (t := 96) (n := 76) rfl,
  fun a L st h => e_ld0R (n := 77) rfl,
  fun x0 x1 x2 x3 x4 x5 a L st h => e_ld6I (n := 79) rfl,
  fun v0 q L st h => e_callV2 (F := mX4_leavesAt) (kd := 18) (n := 82) rfl,
  fun x0 x1 x2 x3 x4 a L st h => e_ld5I (n := 84) rfl,
  fun a b L st h => e_cmple (t := 96) (n := 87) rfl,
  fun a L st h => e_ld0R (n := 88) rfl,
  fun x0 x1 x2 x3 x4 x5 a L st h => e_ld6I (n := 90) rfl,
  fun v0 q L st h => e_callV2 (F := mX4_leavesAt) (kd := 18) (n := 93) rfl,
  fun L st h => e_goto (t := 98) rfl,
  fun x0 x1 x2 x3 x4 a L st h => e_ld5I (n := 98) rfl,
  fun x0 x1 x2 x3 x4 x5 a L st h hx => e_st5I (n := 100) rfl hx,
  fun x0 x1 x2 x3 x4 x5 a L st h hx => e_iinc6 (d := 1) (n := 103) rfl hx,
  fun L st h => e_goto (t := 7) rfl,
  fun x0 x1 x2 x3 x4 a L st h => e_ld5I (n := 108) rfl,
  fun a L h => e_retI rfl⟩
theorem allX4_latestOf : zall yX4_latestOf cX4_latestOf 8 (some .int) 3 kX4_latestOf.1 :=
  ⟨k_bipush dX4_latestOf_0,
  k_istore dX4_latestOf_2,
  k_iconst dX4_latestOf_4,
  k_istore dX4_latestOf_5,
  k_iload dX4_latestOf_7,
  k_aload_n dX4_latestOf_9,
  k_getR (C := RX4) (T := TX4) (N := 42) (ci := 2) (k := 6) (ref := "LinkTimesModel") dX4_latestOf_10 rfl in_X4 (by decide) q1805 (Or.inl rfl) (fun _ _ _ => rfl),
  k_iconst dX4_latestOf_13,
  k_iald dX4_latestOf_14,
  k_cmpge (t := 106) dX4_latestOf_15 (by decide),
  k_aload_n dX4_latestOf_18,
  k_iload dX4_latestOf_19,
  k_callV (y2 := yX4_runs) (C := RX4) (T0 := TX4) (ci := 2) dX4_latestOf_21 sndX4_runs rfl q2076 q2078 qs92 q137 q2079 (by decide +kernel) ⟨by decide, by decide⟩ (by decide) (by decide),
  k_ifeq (t := 68) dX4_latestOf_24 (by decide),
  k_aload_n dX4_latestOf_27,
  k_getR (C := RX4) (T := TX4) (N := 42) (ci := 2) (k := 6) (ref := "LinkTimesModel") dX4_latestOf_28 rfl in_X4 (by decide) q1805 (Or.inl rfl) (fun _ _ _ => rfl),
  k_iload dX4_latestOf_31,
  k_iconst dX4_latestOf_33,
  k_callS (y2 := yX4_at) dX4_latestOf_34 sndX4_at q2047 q2048 q137 q2049 (by decide +kernel) ⟨by decide, by decide⟩ (by decide) (by decide),
  k_iald dX4_latestOf_37,
  k_iload_n dX4_latestOf_38,
  k_cmpne (t := 68) dX4_latestOf_39 (by decide),
  k_aload_n dX4_latestOf_42,
  k_iload dX4_latestOf_43,
  k_callV (y2 := yX4_leavesAt) (C := RX4) (T0 := TX4) (ci := 2) dX4_latestOf_45 sndX4_leavesAt rfl q2100 q2102 qs96 q137 q2103 (by decide +kernel) ⟨by decide, by decide⟩ (by decide) (by decide),
  k_iload_n dX4_latestOf_48,
  k_cmplt (t := 68) dX4_latestOf_49 (by decide),
  k_aload_n dX4_latestOf_52,
  k_iload dX4_latestOf_53,
  k_iload_n dX4_latestOf_55,
  k_callV (y2 := yX4_soonest) (C := RX4) (T0 := TX4) (ci := 2) dX4_latestOf_56 sndX4_soonest rfl q2187 q2189 qs110 q137 q2190 (by decide +kernel) ⟨by decide, by decide⟩ (by decide) (by decide),
  k_iload dX4_latestOf_59,
  k_cmpne (t := 68) dX4_latestOf_61 (by decide),
  k_iconst dX4_latestOf_64,
  k_goto (t := 69) dX4_latestOf_65 (by decide),
  k_iconst dX4_latestOf_68,
  k_istore dX4_latestOf_69,
  k_iload dX4_latestOf_71,
  k_ifeq (t := 96) dX4_latestOf_73 (by decide),
  k_aload_n dX4_latestOf_76,
  k_iload dX4_latestOf_77,
  k_callV (y2 := yX4_leavesAt) (C := RX4) (T0 := TX4) (ci := 2) dX4_latestOf_79 sndX4_leavesAt rfl q2100 q2102 qs96 q137 q2103 (by decide +kernel) ⟨by decide, by decide⟩ (by decide) (by decide),
  k_iload dX4_latestOf_82,
  k_cmple (t := 96) dX4_latestOf_84 (by decide),
  k_aload_n dX4_latestOf_87,
  k_iload dX4_latestOf_88,
  k_callV (y2 := yX4_leavesAt) (C := RX4) (T0 := TX4) (ci := 2) dX4_latestOf_90 sndX4_leavesAt rfl q2100 q2102 qs96 q137 q2103 (by decide +kernel) ⟨by decide, by decide⟩ (by decide) (by decide),
  k_goto (t := 98) dX4_latestOf_93 (by decide),
  k_iload dX4_latestOf_96,
  k_istore dX4_latestOf_98,
  k_iinc dX4_latestOf_100,
  k_goto (t := 7) dX4_latestOf_103 (by decide),
  k_iload dX4_latestOf_106,
  k_iret dX4_latestOf_108, trivial⟩
theorem sndX4_latestOf : MSound 3 yX4_latestOf (ws_ yX4_latestOf cX4_latestOf 8 (some .int)) mX4_latestOf := msound_M (by decide) allX4_latestOf (fun _ _ => rfl)
/-! LinkTimesModel.trade(IIIII)I -/
noncomputable def kX4_trade : ZM := ([(0, zi_ld 1 0 1), (1, zi_ld 1 0 2), (2, zi_ld 0 1 3), (3, zi_ld 0 2 4), (4, zi_ld 0 3 5), (5, zi_callV mX4_wayWhy 18 4 8), (8, zi_callV mX4_isRefused 18 2 11), (11, zi_if (fun a => zc_eq a 0) 16 14), (14, zi_push (zvi (-1)) 15), (15, zi_retv 0), (16, zi_ld 0 1 17), (17, zi_ld 0 2 18), (18, zi_cmp zc_ne 56 21), (21, zi_ld 0 4 23), (23, zi_if (fun a => zc_ne a 0) 36 26), (26, zi_ld 0 5 28), (28, zi_push (zvi 0) 29), (29, zi_push (zvi 2) 30), (30, zi_callS mX4_in 3 33), (33, zi_if (fun a => zc_ne a 0) 44 36), (36, zi_ld 1 0 37), (37, zi_push (zvi 1) 38), (38, zi_callV mX4_no 18 2 41), (41, zi_goto 55), (44, zi_ld 0 5 46), (46, zi_push (zvi 1) 47), (47, zi_cmp zc_ne 54 50), (50, zi_push (zvi 0) 51), (51, zi_goto 55), (54, zi_ld 0 3 55), (55, zi_retv 0), (56, zi_ld 1 0 57), (57, zi_ld 0 1 58), (58, zi_ld 0 2 59), (59, zi_ld 0 3 60), (60, zi_callV mX4_laysTrades 18 4 63), (63, zi_ld 1 0 64), (64, zi_getI 18 32 67), (67, zi_if (fun a => zc_ne a 0) 73 70), (70, zi_push (zvi (-2)) 72), (72, zi_retv 0), (73, zi_ld 0 4 75), (75, zi_push (zvi 0) 76), (76, zi_ld 1 0 77), (77, zi_getI 18 32 80), (80, zi_push (zvi 1) 81), (81, zi_bin (fun a b => w32 (a - b)) 82), (82, zi_callS mX4_in 3 85), (85, zi_if (fun a => zc_eq a 0) 98 88), (88, zi_ld 0 5 90), (90, zi_push (zvi 0) 91), (91, zi_push (zvi 2) 92), (92, zi_callS mX4_in 3 95), (95, zi_if (fun a => zc_ne a 0) 104 98), (98, zi_ld 1 0 99), (99, zi_push (zvi 1) 100), (100, zi_callV mX4_no 18 2 103), (103, zi_retv 0), (104, zi_ld 0 5 106), (106, zi_if (fun a => zc_ne a 0) 119 109), (109, zi_ld 1 0 110), (110, zi_getR 18 30 113), (113, zi_ld 0 4 115), (115, zi_ald 1 116), (116, zi_goto 155), (119, zi_ld 0 5 121), (121, zi_push (zvi 1) 122), (122, zi_cmp zc_ne 135 125), (125, zi_ld 1 0 126), (126, zi_getR 18 31 129), (129, zi_ld 0 4 131), (131, zi_ald 1 132), (132, zi_goto 155), (135, zi_ld 1 0 136), (136, zi_ld 0 1 137), (137, zi_ld 0 3 138), (138, zi_ld 1 0 139), (139, zi_getR 18 31 142), (142, zi_ld 0 4 144), (144, zi_ald 1 145), (145, zi_ld 1 0 146), (146, zi_getR 18 30 149), (149, zi_ld 0 4 151), (151, zi_ald 1 152), (152, zi_callV mX4_latestOf 18 5 155), (155, zi_retv 0)], fun _ _ => none)
noncomputable def mX4_trade : ZF := zrunM kX4_trade 6
theorem enX4_trade (x0 : Option Nat) (x1 : Int) (x2 : Int) (x3 : Int) (x4 : Int) (x5 : Int) (h : PH) : mX4_trade [zvr x0, zvi x1, zvi x2, zvi x3, zvi x4, zvi x5] h = zev kX4_trade 0 [zvr x0, zvi x1, zvi x2, zvi x3, zvi x4, zvi x5] [] h := zrunM_eq rfl rfl
theorem rX4_trade : (∀ (a : Option Nat) (L st : List ZV) (h : PH), zev kX4_trade 0 (zvr a :: L) st h = zev kX4_trade 1 (zvr a :: L) (zvr a :: st) h) ∧
  (∀ (a : Option Nat) (L st : List ZV) (h : PH), zev kX4_trade 1 (zvr a :: L) st h = zev kX4_trade 2 (zvr a :: L) (zvr a :: st) h) ∧
  (∀ (x0 : ZV) (a : Int) (L st : List ZV) (h : PH), zev kX4_trade 2 (x0 :: zvi a :: L) st h = zev kX4_trade 3 (x0 :: zvi a :: L) (zvi a :: st) h) ∧
  (∀ (x0 x1 : ZV) (a : Int) (L st : List ZV) (h : PH), zev kX4_trade 3 (x0 :: x1 :: zvi a :: L) st h = zev kX4_trade 4 (x0 :: x1 :: zvi a :: L) (zvi a :: st) h) ∧
  (∀ (x0 x1 x2 : ZV) (a : Int) (L st : List ZV) (h : PH), zev kX4_trade 4 (x0 :: x1 :: x2 :: zvi a :: L) st h = zev kX4_trade 5 (x0 :: x1 :: x2 :: zvi a :: L) (zvi a :: st) h) ∧
  (∀ (v0 v1 v2 : ZV) (q : Nat) (L st : List ZV) (h : PH), zev kX4_trade 5 L (v2 :: v1 :: v0 :: zvr (some q) :: st) h = if (ph_K h q).1 % 1000 = 18 ∧ zcat st ≤ 8 then zk kX4_trade 5 8 L st (mX4_wayWhy [zvr (some q), v0, v1, v2] h) else none) ∧
  (∀ (v0 : ZV) (q : Nat) (L st : List ZV) (h : PH), zev kX4_trade 8 L (v0 :: zvr (some q) :: st) h = if (ph_K h q).1 % 1000 = 18 ∧ zcat st ≤ 8 then zk kX4_trade 8 11 L st (mX4_isRefused [zvr (some q), v0] h) else none) ∧
  (∀ (a : Int) (L st : List ZV) (h : PH), zev kX4_trade 11 L (zvi a :: st) h = if a = 0 then zev kX4_trade 16 L st h else zev kX4_trade 14 L st h) ∧
  (∀ (L st : List ZV) (h : PH), zev kX4_trade 14 L st h = zev kX4_trade 15 L (zvi (-1) :: st) h) ∧
  (∀ (a : Int) (L : List ZV) (h : PH), zev kX4_trade 15 L [zvi a] h = zrv (zvi a) h) ∧
  (∀ (x0 : ZV) (a : Int) (L st : List ZV) (h : PH), zev kX4_trade 16 (x0 :: zvi a :: L) st h = zev kX4_trade 17 (x0 :: zvi a :: L) (zvi a :: st) h) ∧
  (∀ (x0 x1 : ZV) (a : Int) (L st : List ZV) (h : PH), zev kX4_trade 17 (x0 :: x1 :: zvi a :: L) st h = zev kX4_trade 18 (x0 :: x1 :: zvi a :: L) (zvi a :: st) h) ∧
  (∀ (a b : Int) (L st : List ZV) (h : PH), zev kX4_trade 18 L (zvi b :: zvi a :: st) h = if a ≠ b then zev kX4_trade 56 L st h else zev kX4_trade 21 L st h) ∧
  (∀ (x0 x1 x2 x3 : ZV) (a : Int) (L st : List ZV) (h : PH), zev kX4_trade 21 (x0 :: x1 :: x2 :: x3 :: zvi a :: L) st h = zev kX4_trade 23 (x0 :: x1 :: x2 :: x3 :: zvi a :: L) (zvi a :: st) h) ∧
  (∀ (a : Int) (L st : List ZV) (h : PH), zev kX4_trade 23 L (zvi a :: st) h = if a ≠ 0 then zev kX4_trade 36 L st h else zev kX4_trade 26 L st h) ∧
  (∀ (x0 x1 x2 x3 x4 : ZV) (a : Int) (L st : List ZV) (h : PH), zev kX4_trade 26 (x0 :: x1 :: x2 :: x3 :: x4 :: zvi a :: L) st h = zev kX4_trade 28 (x0 :: x1 :: x2 :: x3 :: x4 :: zvi a :: L) (zvi a :: st) h) ∧
  (∀ (L st : List ZV) (h : PH), zev kX4_trade 28 L st h = zev kX4_trade 29 L (zvi 0 :: st) h) ∧
  (∀ (L st : List ZV) (h : PH), zev kX4_trade 29 L st h = zev kX4_trade 30 L (zvi 2 :: st) h) ∧
  (∀ (v0 v1 v2 : ZV) (L st : List ZV) (h : PH), zev kX4_trade 30 L (v2 :: v1 :: v0 :: st) h = if zcat st ≤ 8 then zk kX4_trade 30 33 L st (mX4_in [v0, v1, v2] h) else none) ∧
  (∀ (a : Int) (L st : List ZV) (h : PH), zev kX4_trade 33 L (zvi a :: st) h = if a ≠ 0 then zev kX4_trade 44 L st h else zev kX4_trade 36 L st h) ∧
  (∀ (a : Option Nat) (L st : List ZV) (h : PH), zev kX4_trade 36 (zvr a :: L) st h = zev kX4_trade 37 (zvr a :: L) (zvr a :: st) h) ∧
  (∀ (L st : List ZV) (h : PH), zev kX4_trade 37 L st h = zev kX4_trade 38 L (zvi 1 :: st) h) ∧
  (∀ (v0 : ZV) (q : Nat) (L st : List ZV) (h : PH), zev kX4_trade 38 L (v0 :: zvr (some q) :: st) h = if (ph_K h q).1 % 1000 = 18 ∧ zcat st ≤ 8 then zk kX4_trade 38 41 L st (mX4_no [zvr (some q), v0] h) else none) ∧
  (∀ (L st : List ZV) (h : PH), zev kX4_trade 41 L st h = zev kX4_trade 55 L st h) ∧
  (∀ (x0 x1 x2 x3 x4 : ZV) (a : Int) (L st : List ZV) (h : PH), zev kX4_trade 44 (x0 :: x1 :: x2 :: x3 :: x4 :: zvi a :: L) st h = zev kX4_trade 46 (x0 :: x1 :: x2 :: x3 :: x4 :: zvi a :: L) (zvi a :: st) h) ∧
  (∀ (L st : List ZV) (h : PH), zev kX4_trade 46 L st h = zev kX4_trade 47 L (zvi 1 :: st) h) ∧
  (∀ (a b : Int) (L st : List ZV) (h : PH), zev kX4_trade 47 L (zvi b :: zvi a :: st) h = if a ≠ b then zev kX4_trade 54 L st h else zev kX4_trade 50 L st h) ∧
  (∀ (L st : List ZV) (h : PH), zev kX4_trade 50 L st h = zev kX4_trade 51 L (zvi 0 :: st) h) ∧
  (∀ (L st : List ZV) (h : PH), zev kX4_trade 51 L st h = zev kX4_trade 55 L st h) ∧
  (∀ (x0 x1 x2 : ZV) (a : Int) (L st : List ZV) (h : PH), zev kX4_trade 54 (x0 :: x1 :: x2 :: zvi a :: L) st h = zev kX4_trade 55 (x0 :: x1 :: x2 :: zvi a :: L) (zvi a :: st) h) ∧
  (∀ (a : Int) (L : List ZV) (h : PH), zev kX4_trade 55 L [zvi a] h = zrv (zvi a) h) ∧
  (∀ (a : Option Nat) (L st : List ZV) (h : PH), zev kX4_trade 56 (zvr a :: L) st h = zev kX4_trade 57 (zvr a :: L) (zvr a :: st) h) ∧
  (∀ (x0 : ZV) (a : Int) (L st : List ZV) (h : PH), zev kX4_trade 57 (x0 :: zvi a :: L) st h = zev kX4_trade 58 (x0 :: zvi a :: L) (zvi a :: st) h) ∧
  (∀ (x0 x1 : ZV) (a : Int) (L st : List ZV) (h : PH), zev kX4_trade 58 (x0 :: x1 :: zvi a :: L) st h = zev kX4_trade 59 (x0 :: x1 :: zvi a :: L) (zvi a :: st) h) ∧
  (∀ (x0 x1 x2 : ZV) (a : Int) (L st : List ZV) (h : PH), zev kX4_trade 59 (x0 :: x1 :: x2 :: zvi a :: L) st h = zev kX4_trade 60 (x0 :: x1 :: x2 :: zvi a :: L) (zvi a :: st) h) ∧
  (∀ (v0 v1 v2 : ZV) (q : Nat) (L st : List ZV) (h : PH), zev kX4_trade 60 L (v2 :: v1 :: v0 :: zvr (some q) :: st) h = if (ph_K h q).1 % 1000 = 18 ∧ zcat st ≤ 8 then zk kX4_trade 60 63 L st (mX4_laysTrades [zvr (some q), v0, v1, v2] h) else none) ∧
  (∀ (a : Option Nat) (L st : List ZV) (h : PH), zev kX4_trade 63 (zvr a :: L) st h = zev kX4_trade 64 (zvr a :: L) (zvr a :: st) h) ∧
  (∀ (q : Nat) (L st : List ZV) (h : PH), zev kX4_trade 64 L (zvr (some q) :: st) h = if (ph_K h q).1 % 1000 = 18 then zev kX4_trade 67 L (zvi (ph_I h q 32) :: st) h else none) ∧
  (∀ (a : Int) (L st : List ZV) (h : PH), zev kX4_trade 67 L (zvi a :: st) h = if a ≠ 0 then zev kX4_trade 73 L st h else zev kX4_trade 70 L st h) ∧
  (∀ (L st : List ZV) (h : PH), zev kX4_trade 70 L st h = zev kX4_trade 72 L (zvi (-2) :: st) h) ∧
  (∀ (a : Int) (L : List ZV) (h : PH), zev kX4_trade 72 L [zvi a] h = zrv (zvi a) h) ∧
  (∀ (x0 x1 x2 x3 : ZV) (a : Int) (L st : List ZV) (h : PH), zev kX4_trade 73 (x0 :: x1 :: x2 :: x3 :: zvi a :: L) st h = zev kX4_trade 75 (x0 :: x1 :: x2 :: x3 :: zvi a :: L) (zvi a :: st) h) ∧
  (∀ (L st : List ZV) (h : PH), zev kX4_trade 75 L st h = zev kX4_trade 76 L (zvi 0 :: st) h) ∧
  (∀ (a : Option Nat) (L st : List ZV) (h : PH), zev kX4_trade 76 (zvr a :: L) st h = zev kX4_trade 77 (zvr a :: L) (zvr a :: st) h) ∧
  (∀ (q : Nat) (L st : List ZV) (h : PH), zev kX4_trade 77 L (zvr (some q) :: st) h = if (ph_K h q).1 % 1000 = 18 then zev kX4_trade 80 L (zvi (ph_I h q 32) :: st) h else none) ∧
  (∀ (L st : List ZV) (h : PH), zev kX4_trade 80 L st h = zev kX4_trade 81 L (zvi 1 :: st) h) ∧
  (∀ (a b : Int) (L st : List ZV) (h : PH), zev kX4_trade 81 L (zvi b :: zvi a :: st) h = zev kX4_trade 82 L (zvi (w32 (a - b)) :: st) h) ∧
  (∀ (v0 v1 v2 : ZV) (L st : List ZV) (h : PH), zev kX4_trade 82 L (v2 :: v1 :: v0 :: st) h = if zcat st ≤ 8 then zk kX4_trade 82 85 L st (mX4_in [v0, v1, v2] h) else none) ∧
  (∀ (a : Int) (L st : List ZV) (h : PH), zev kX4_trade 85 L (zvi a :: st) h = if a = 0 then zev kX4_trade 98 L st h else zev kX4_trade 88 L st h) ∧
  (∀ (x0 x1 x2 x3 x4 : ZV) (a : Int) (L st : List ZV) (h : PH), zev kX4_trade 88 (x0 :: x1 :: x2 :: x3 :: x4 :: zvi a :: L) st h = zev kX4_trade 90 (x0 :: x1 :: x2 :: x3 :: x4 :: zvi a :: L) (zvi a :: st) h) ∧
  (∀ (L st : List ZV) (h : PH), zev kX4_trade 90 L st h = zev kX4_trade 91 L (zvi 0 :: st) h) ∧
  (∀ (L st : List ZV) (h : PH), zev kX4_trade 91 L st h = zev kX4_trade 92 L (zvi 2 :: st) h) ∧
  (∀ (v0 v1 v2 : ZV) (L st : List ZV) (h : PH), zev kX4_trade 92 L (v2 :: v1 :: v0 :: st) h = if zcat st ≤ 8 then zk kX4_trade 92 95 L st (mX4_in [v0, v1, v2] h) else none) ∧
  (∀ (a : Int) (L st : List ZV) (h : PH), zev kX4_trade 95 L (zvi a :: st) h = if a ≠ 0 then zev kX4_trade 104 L st h else zev kX4_trade 98 L st h) ∧
  (∀ (a : Option Nat) (L st : List ZV) (h : PH), zev kX4_trade 98 (zvr a :: L) st h = zev kX4_trade 99 (zvr a :: L) (zvr a :: st) h) ∧
  (∀ (L st : List ZV) (h : PH), zev kX4_trade 99 L st h = zev kX4_trade 100 L (zvi 1 :: st) h) ∧
  (∀ (v0 : ZV) (q : Nat) (L st : List ZV) (h : PH), zev kX4_trade 100 L (v0 :: zvr (some q) :: st) h = if (ph_K h q).1 % 1000 = 18 ∧ zcat st ≤ 8 then zk kX4_trade 100 103 L st (mX4_no [zvr (some q), v0] h) else none) ∧
  (∀ (a : Int) (L : List ZV) (h : PH), zev kX4_trade 103 L [zvi a] h = zrv (zvi a) h) ∧
  (∀ (x0 x1 x2 x3 x4 : ZV) (a : Int) (L st : List ZV) (h : PH), zev kX4_trade 104 (x0 :: x1 :: x2 :: x3 :: x4 :: zvi a :: L) st h = zev kX4_trade 106 (x0 :: x1 :: x2 :: x3 :: x4 :: zvi a :: L) (zvi a :: st) h) ∧
  (∀ (a : Int) (L st : List ZV) (h : PH), zev kX4_trade 106 L (zvi a :: st) h = if a ≠ 0 then zev kX4_trade 119 L st h else zev kX4_trade 109 L st h) ∧
  (∀ (a : Option Nat) (L st : List ZV) (h : PH), zev kX4_trade 109 (zvr a :: L) st h = zev kX4_trade 110 (zvr a :: L) (zvr a :: st) h) ∧
  (∀ (q : Nat) (L st : List ZV) (h : PH), zev kX4_trade 110 L (zvr (some q) :: st) h = if (ph_K h q).1 % 1000 = 18 then zev kX4_trade 113 L (zvr (ph_R h q 30) :: st) h else none) ∧
  (∀ (x0 x1 x2 x3 : ZV) (a : Int) (L st : List ZV) (h : PH), zev kX4_trade 113 (x0 :: x1 :: x2 :: x3 :: zvi a :: L) st h = zev kX4_trade 115 (x0 :: x1 :: x2 :: x3 :: zvi a :: L) (zvi a :: st) h) ∧
  (∀ (j : Int) (q : Nat) (L st : List ZV) (h : PH), zev kX4_trade 115 L (zvi j :: zvr (some q) :: st) h = if (ph_K h q).1 % 1000 = 1 ∧ 0 ≤ j ∧ j < (ph_K h q).2 then zev kX4_trade 116 L (zvi (ph_I h q j) :: st) h else none) ∧
  (∀ (L st : List ZV) (h : PH), zev kX4_trade 116 L st h = zev kX4_trade 155 L st h) ∧
  (∀ (x0 x1 x2 x3 x4 : ZV) (a : Int) (L st : List ZV) (h : PH), zev kX4_trade 119 (x0 :: x1 :: x2 :: x3 :: x4 :: zvi a :: L) st h = zev kX4_trade 121 (x0 :: x1 :: x2 :: x3 :: x4 :: zvi a :: L) (zvi a :: st) h) ∧
  (∀ (L st : List ZV) (h : PH), zev kX4_trade 121 L st h = zev kX4_trade 122 L (zvi 1 :: st) h) ∧
  (∀ (a b : Int) (L st : List ZV) (h : PH), zev kX4_trade 122 L (zvi b :: zvi a :: st) h = if a ≠ b then zev kX4_trade 135 L st h else zev kX4_trade 125 L st h) ∧
  (∀ (a : Option Nat) (L st : List ZV) (h : PH), zev kX4_trade 125 (zvr a :: L) st h = zev kX4_trade 126 (zvr a :: L) (zvr a :: st) h) ∧
  (∀ (q : Nat) (L st : List ZV) (h : PH), zev kX4_trade 126 L (zvr (some q) :: st) h = if (ph_K h q).1 % 1000 = 18 then zev kX4_trade 129 L (zvr (ph_R h q 31) :: st) h else none) ∧
  (∀ (x0 x1 x2 x3 : ZV) (a : Int) (L st : List ZV) (h : PH), zev kX4_trade 129 (x0 :: x1 :: x2 :: x3 :: zvi a :: L) st h = zev kX4_trade 131 (x0 :: x1 :: x2 :: x3 :: zvi a :: L) (zvi a :: st) h) ∧
  (∀ (j : Int) (q : Nat) (L st : List ZV) (h : PH), zev kX4_trade 131 L (zvi j :: zvr (some q) :: st) h = if (ph_K h q).1 % 1000 = 1 ∧ 0 ≤ j ∧ j < (ph_K h q).2 then zev kX4_trade 132 L (zvi (ph_I h q j) :: st) h else none) ∧
  (∀ (L st : List ZV) (h : PH), zev kX4_trade 132 L st h = zev kX4_trade 155 L st h) ∧
  (∀ (a : Option Nat) (L st : List ZV) (h : PH), zev kX4_trade 135 (zvr a :: L) st h = zev kX4_trade 136 (zvr a :: L) (zvr a :: st) h) ∧
  (∀ (x0 : ZV) (a : Int) (L st : List ZV) (h : PH), zev kX4_trade 136 (x0 :: zvi a :: L) st h = zev kX4_trade 137 (x0 :: zvi a :: L) (zvi a :: st) h) ∧
  (∀ (x0 x1 x2 : ZV) (a : Int) (L st : List ZV) (h : PH), zev kX4_trade 137 (x0 :: x1 :: x2 :: zvi a :: L) st h = zev kX4_trade 138 (x0 :: x1 :: x2 :: zvi a :: L) (zvi a :: st) h) ∧
  (∀ (a : Option Nat) (L st : List ZV) (h : PH), zev kX4_trade 138 (zvr a :: L) st h = zev kX4_trade 139 (zvr a :: L) (zvr a :: st) h) ∧
  (∀ (q : Nat) (L st : List ZV) (h : PH), zev kX4_trade 139 L (zvr (some q) :: st) h = if (ph_K h q).1 % 1000 = 18 then zev kX4_trade 142 L (zvr (ph_R h q 31) :: st) h else none) ∧
  (∀ (x0 x1 x2 x3 : ZV) (a : Int) (L st : List ZV) (h : PH), zev kX4_trade 142 (x0 :: x1 :: x2 :: x3 :: zvi a :: L) st h = zev kX4_trade 144 (x0 :: x1 :: x2 :: x3 :: zvi a :: L) (zvi a :: st) h) ∧
  (∀ (j : Int) (q : Nat) (L st : List ZV) (h : PH), zev kX4_trade 144 L (zvi j :: zvr (some q) :: st) h = if (ph_K h q).1 % 1000 = 1 ∧ 0 ≤ j ∧ j < (ph_K h q).2 then zev kX4_trade 145 L (zvi (ph_I h q j) :: st) h else none) ∧
  (∀ (a : Option Nat) (L st : List ZV) (h : PH), zev kX4_trade 145 (zvr a :: L) st h = zev kX4_trade 146 (zvr a :: L) (zvr a :: st) h) ∧
  (∀ (q : Nat) (L st : List ZV) (h : PH), zev kX4_trade 146 L (zvr (some q) :: st) h = if (ph_K h q).1 % 1000 = 18 then zev kX4_trade 149 L (zvr (ph_R h q 30) :: st) h else none) ∧
  (∀ (x0 x1 x2 x3 : ZV) (a : Int) (L st : List ZV) (h : PH), zev kX4_trade 149 (x0 :: x1 :: x2 :: x3 :: zvi a :: L) st h = zev kX4_trade 151 (x0 :: x1 :: x2 :: x3 :: zvi a :: L) (zvi a :: st) h) ∧
  (∀ (j : Int) (q : Nat) (L st : List ZV) (h : PH), zev kX4_trade 151 L (zvi j :: zvr (some q) :: st) h = if (ph_K h q).1 % 1000 = 1 ∧ 0 ≤ j ∧ j < (ph_K h q).2 then zev kX4_trade 152 L (zvi (ph_I h q j) :: st) h else none) ∧
  (∀ (v0 v1 v2 v3 : ZV) (q : Nat) (L st : List ZV) (h : PH), zev kX4_trade 152 L (v3 :: v2 :: v1 :: v0 :: zvr (some q) :: st) h = if (ph_K h q).1 % 1000 = 18 ∧ zcat st ≤ 8 then zk kX4_trade 152 155 L st (mX4_latestOf [zvr (some q), v0, v1, v2, v3] h) else none) ∧
  (∀ (a : Int) (L : List ZV) (h : PH), zev kX4_trade 155 L [zvi a] h = zrv (zvi a) h) :=
  ⟨fun a L st h => e_ld0R (n := 1) rfl,
  fun a L st h => e_ld0R (n := 2) rfl,
  fun x0 a L st h => e_ld1I (n := 3) rfl,
  fun x0 x1 a L st h => e_ld2I (n := 4) rfl,
  fun x0 x1 x2 a L st h => e_ld3I (n := 5) rfl,
  fun v0 v1 v2 q L st h => e_callV4 (F := mX4_wayWhy) (kd := 18) (n := 8) rfl,
  fun v0 q L st h => e_callV2 (F := mX4_isRefused) (kd := 18) (n := 11) rfl,
  fun a L st h => e_ifeq (t := 16) (n := 14) rfl,
  fun L st h => e_push (v := zvi (-1)) (n := 15) rfl,
  fun a L h => e_retI rfl,
  fun x0 a L st h => e_ld1I (n := 17) rfl,
  fun x0 x1 a L st h => e_ld2I (n := 18) rfl,
  fun a b L st h => e_cmpne (t := 56) (n := 21) rfl,
  fun x0 x1 x2 x3 a L st h => e_ld4I (n := 23) rfl,
  fun a L st h => e_ifne (t := 36) (n := 26) rfl,
  fun x0 x1 x2 x3 x4 a L st h => e_ld5I (n := 28) rfl,
  fun L st h => e_push (v := zvi 0) (n := 29) rfl,
  fun L st h => e_push (v := zvi 2) (n := 30) rfl,
  fun v0 v1 v2 L st h => e_callS3 (F := mX4_in) (n := 33) rfl,
  fun a L st h => e_ifne (t := 44) (n := 36) rfl,
  fun a L st h => e_ld0R (n := 37) rfl,
  fun L st h => e_push (v := zvi 1) (n := 38) rfl,
  fun v0 q L st h => e_callV2 (F := mX4_no) (kd := 18) (n := 41) rfl,
  fun L st h => e_goto (t := 55) rfl,
  fun x0 x1 x2 x3 x4 a L st h => e_ld5I (n := 46) rfl,
  fun L st h => e_push (v := zvi 1) (n := 47) rfl,
  fun a b L st h => e_cmpne (t := 54) (n := 50) rfl,
  fun L st h => e_push (v := zvi 0) (n := 51) rfl,
  fun L st h => e_goto (t := 55) rfl,
  fun x0 x1 x2 a L st h => e_ld3I (n := 55) rfl,
  fun a L h => e_retI rfl,
  fun a L st h => e_ld0R (n := 57) rfl,
  fun x0 a L st h => e_ld1I (n := 58) rfl,
  fun x0 x1 a L st h => e_ld2I (n := 59) rfl,
  fun x0 x1 x2 a L st h => e_ld3I (n := 60) rfl,
  fun v0 v1 v2 q L st h => e_callV4 (F := mX4_laysTrades) (kd := 18) (n := 63) rfl,
  fun a L st h => e_ld0R (n := 64) rfl,
  fun q L st h => e_getI (kd := 18) (k := 32) (n := 67) rfl,
  fun a L st h => e_ifne (t := 73) (n := 70) rfl,
  fun L st h => e_push (v := zvi (-2)) (n := 72) rfl,
  fun a L h => e_retI rfl,
  fun x0 x1 x2 x3 a L st h => e_ld4I (n := 75) rfl,
  fun L st h => e_push (v := zvi 0) (n := 76) rfl,
  fun a L st h => e_ld0R (n := 77) rfl,
  fun q L st h => e_getI (kd := 18) (k := 32) (n := 80) rfl,
  fun L st h => e_push (v := zvi 1) (n := 81) rfl,
  fun a b L st h => e_bin (f := (fun a b => w32 (a - b))) (n := 82) rfl,
  fun v0 v1 v2 L st h => e_callS3 (F := mX4_in) (n := 85) rfl,
  fun a L st h => e_ifeq (t := 98) (n := 88) rfl,
  fun x0 x1 x2 x3 x4 a L st h => e_ld5I (n := 90) rfl,
  fun L st h => e_push (v := zvi 0) (n := 91) rfl,
  fun L st h => e_push (v := zvi 2) (n := 92) rfl,
  fun v0 v1 v2 L st h => e_callS3 (F := mX4_in) (n := 95) rfl,
  fun a L st h => e_ifne (t := 104) (n := 98) rfl,
  fun a L st h => e_ld0R (n := 99) rfl,
  fun L st h => e_push (v := zvi 1) (n := 100) rfl,
  fun v0 q L st h => e_callV2 (F := mX4_no) (kd := 18) (n := 103) rfl,
  fun a L h => e_retI rfl,
  fun x0 x1 x2 x3 x4 a L st h => e_ld5I (n := 106) rfl,
  fun a L st h => e_ifne (t := 119) (n := 109) rfl,
  fun a L st h => e_ld0R (n := 110) rfl,
  fun q L st h => e_getR (kd := 18) (k := 30) (n := 113) rfl,
  fun x0 x1 x2 x3 a L st h => e_ld4I (n := 115) rfl,
  fun j q L st h => e_ald (kd := 1) (n := 116) rfl,
  fun L st h => e_goto (t := 155) rfl,
  fun x0 x1 x2 x3 x4 a L st h => e_ld5I (n := 121) rfl,
  fun L st h => e_push (v := zvi 1) (n := 122) rfl,
  fun a b L st h => e_cmpne (t := 135) (n := 125) rfl,
  fun a L st h => e_ld0R (n := 126) rfl,
  fun q L st h => e_getR (kd := 18) (k := 31) (n := 129) rfl,
  fun x0 x1 x2 x3 a L st h => e_ld4I (n := 131) rfl,
  fun j q L st h => e_ald (kd := 1) (n := 132) rfl,
  fun L st h => e_goto (t := 155) rfl,
  fun a L st h => e_ld0R (n := 136) rfl,
  fun x0 a L st h => e_ld1I (n := 137) rfl,
  fun x0 x1 x2 a L st h => e_ld3I (n := 138) rfl,
  fun a L st h => e_ld0R (n := 139) rfl,
  fun q L st h => e_getR (kd := 18) (k := 31) (n := 142) rfl,
  fun x0 x1 x2 x3 a L st h => e_ld4I (n := 144) rfl,
  fun j q L st h => e_ald (kd := 1) (n := 145) rfl,
  fun a L st h => e_ld0R (n := 146) rfl,
  fun q L st h => e_getR (kd := 18) (k := 30) (n := 149) rfl,
  fun x0 x1 x2 x3 a L st h => e_ld4I (n := 151) rfl,
  fun j q L st h => e_ald (kd := 1) (n := 152) rfl,
  fun v0 v1 v2 v3 q L st h => e_callV5 (F := mX4_latestOf) (kd := 18) (n := 155) rfl,
  fun a L h => e_retI rfl⟩
theorem allX4_trade : zall yX4_trade cX4_trade 6 (some .int) 7 kX4_trade.1 :=
  ⟨k_aload_n dX4_trade_0,
  k_aload_n dX4_trade_1,
  k_iload_n dX4_trade_2,
  k_iload_n dX4_trade_3,
  k_iload_n dX4_trade_4,
  k_callV (y2 := yX4_wayWhy) (C := RX4) (T0 := TX4) (ci := 2) dX4_trade_5 sndX4_wayWhy rfl q2116 q2118 qs98 q137 q2119 (by decide +kernel) ⟨by decide, by decide⟩ (by decide) (by decide),
  k_callV (y2 := yX4_isRefused) (C := RX4) (T0 := TX4) (ci := 2) dX4_trade_8 sndX4_isRefused rfl q1946 q1948 qs70 q137 q1949 (by decide +kernel) ⟨by decide, by decide⟩ (by decide) (by decide),
  k_ifeq (t := 16) dX4_trade_11 (by decide),
  k_iconst dX4_trade_14,
  k_iret dX4_trade_15,
  k_iload_n dX4_trade_16,
  k_iload_n dX4_trade_17,
  k_cmpne (t := 56) dX4_trade_18 (by decide),
  k_iload dX4_trade_21,
  k_ifne (t := 36) dX4_trade_23 (by decide),
  k_iload dX4_trade_26,
  k_iconst dX4_trade_28,
  k_iconst dX4_trade_29,
  k_callS (y2 := yX4_in) dX4_trade_30 sndX4_in q1943 q1944 q137 q1945 (by decide +kernel) ⟨by decide, by decide⟩ (by decide) (by decide),
  k_ifne (t := 44) dX4_trade_33 (by decide),
  k_aload_n dX4_trade_36,
  k_iconst dX4_trade_37,
  k_callV (y2 := yX4_no) (C := RX4) (T0 := TX4) (ci := 2) dX4_trade_38 sndX4_no rfl q2050 q2052 qs90 q137 q2053 (by decide +kernel) ⟨by decide, by decide⟩ (by decide) (by decide),
  k_goto (t := 55) dX4_trade_41 (by decide),
  k_iload dX4_trade_44,
  k_iconst dX4_trade_46,
  k_cmpne (t := 54) dX4_trade_47 (by decide),
  k_iconst dX4_trade_50,
  k_goto (t := 55) dX4_trade_51 (by decide),
  k_iload_n dX4_trade_54,
  k_iret dX4_trade_55,
  k_aload_n dX4_trade_56,
  k_iload_n dX4_trade_57,
  k_iload_n dX4_trade_58,
  k_iload_n dX4_trade_59,
  k_callV (y2 := yX4_laysTrades) (C := RX4) (T0 := TX4) (ci := 2) dX4_trade_60 sndX4_laysTrades rfl q2199 q2201 qs112 q137 q2202 (by decide +kernel) ⟨by decide, by decide⟩ (by decide) (by decide),
  k_aload_n dX4_trade_63,
  k_getI (C := RX4) (T := TX4) (N := 42) (ci := 2) (k := 32) (ref := "LinkTimesModel") dX4_trade_64 rfl in_X4 (by decide) q1831 (Or.inl rfl) (fun _ _ _ => rfl),
  k_ifne (t := 73) dX4_trade_67 (by decide),
  k_bipush dX4_trade_70,
  k_iret dX4_trade_72,
  k_iload dX4_trade_73,
  k_iconst dX4_trade_75,
  k_aload_n dX4_trade_76,
  k_getI (C := RX4) (T := TX4) (N := 42) (ci := 2) (k := 32) (ref := "LinkTimesModel") dX4_trade_77 rfl in_X4 (by decide) q1831 (Or.inl rfl) (fun _ _ _ => rfl),
  k_iconst dX4_trade_80,
  k_isub dX4_trade_81,
  k_callS (y2 := yX4_in) dX4_trade_82 sndX4_in q1943 q1944 q137 q1945 (by decide +kernel) ⟨by decide, by decide⟩ (by decide) (by decide),
  k_ifeq (t := 98) dX4_trade_85 (by decide),
  k_iload dX4_trade_88,
  k_iconst dX4_trade_90,
  k_iconst dX4_trade_91,
  k_callS (y2 := yX4_in) dX4_trade_92 sndX4_in q1943 q1944 q137 q1945 (by decide +kernel) ⟨by decide, by decide⟩ (by decide) (by decide),
  k_ifne (t := 104) dX4_trade_95 (by decide),
  k_aload_n dX4_trade_98,
  k_iconst dX4_trade_99,
  k_callV (y2 := yX4_no) (C := RX4) (T0 := TX4) (ci := 2) dX4_trade_100 sndX4_no rfl q2050 q2052 qs90 q137 q2053 (by decide +kernel) ⟨by decide, by decide⟩ (by decide) (by decide),
  k_iret dX4_trade_103,
  k_iload dX4_trade_104,
  k_ifne (t := 119) dX4_trade_106 (by decide),
  k_aload_n dX4_trade_109,
  k_getR (C := RX4) (T := TX4) (N := 42) (ci := 2) (k := 30) (ref := "LinkTimesModel") dX4_trade_110 rfl in_X4 (by decide) q1829 (Or.inl rfl) (fun _ _ _ => rfl),
  k_iload dX4_trade_113,
  k_iald dX4_trade_115,
  k_goto (t := 155) dX4_trade_116 (by decide),
  k_iload dX4_trade_119,
  k_iconst dX4_trade_121,
  k_cmpne (t := 135) dX4_trade_122 (by decide),
  k_aload_n dX4_trade_125,
  k_getR (C := RX4) (T := TX4) (N := 42) (ci := 2) (k := 31) (ref := "LinkTimesModel") dX4_trade_126 rfl in_X4 (by decide) q1830 (Or.inl rfl) (fun _ _ _ => rfl),
  k_iload dX4_trade_129,
  k_iald dX4_trade_131,
  k_goto (t := 155) dX4_trade_132 (by decide),
  k_aload_n dX4_trade_135,
  k_iload_n dX4_trade_136,
  k_iload_n dX4_trade_137,
  k_aload_n dX4_trade_138,
  k_getR (C := RX4) (T := TX4) (N := 42) (ci := 2) (k := 31) (ref := "LinkTimesModel") dX4_trade_139 rfl in_X4 (by decide) q1830 (Or.inl rfl) (fun _ _ _ => rfl),
  k_iload dX4_trade_142,
  k_iald dX4_trade_144,
  k_aload_n dX4_trade_145,
  k_getR (C := RX4) (T := TX4) (N := 42) (ci := 2) (k := 30) (ref := "LinkTimesModel") dX4_trade_146 rfl in_X4 (by decide) q1829 (Or.inl rfl) (fun _ _ _ => rfl),
  k_iload dX4_trade_149,
  k_iald dX4_trade_151,
  k_callV (y2 := yX4_latestOf) (C := RX4) (T0 := TX4) (ci := 2) dX4_trade_152 sndX4_latestOf rfl q2207 q2209 qs113 q137 q2210 (by decide +kernel) ⟨by decide, by decide⟩ (by decide) (by decide),
  k_iret dX4_trade_155, trivial⟩
theorem sndX4_trade : MSound 7 yX4_trade (ws_ yX4_trade cX4_trade 6 (some .int)) mX4_trade := msound_M (by decide) allX4_trade (fun _ _ => rfl)
