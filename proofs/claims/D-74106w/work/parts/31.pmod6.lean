/-! Z program: LinkTimesModel (written by gen/gen_prog.py) -/
set_option maxRecDepth 100000
/-! LinkTimesModel.pairs(I)I -/
noncomputable def kX4_pairs : ZM := ([(0, zi_ld 1 0 1), (1, zi_ld 0 1 2), (2, zi_callV mX4_isAsked 18 2 5), (5, zi_if (fun a => zc_eq a 0) 15 8), (8, zi_ld 1 0 9), (9, zi_getI 18 40 12), (12, zi_goto 16), (15, zi_push (zvi (-1)) 16), (16, zi_retv 0)], fun _ _ => none)
noncomputable def mX4_pairs : ZF := zrunM kX4_pairs 2
theorem enX4_pairs (x0 : Option Nat) (x1 : Int) (h : PH) : mX4_pairs [zvr x0, zvi x1] h = zev kX4_pairs 0 [zvr x0, zvi x1] [] h := zrunM_eq rfl rfl
theorem rX4_pairs : (∀ (a : Option Nat) (L st : List ZV) (h : PH), zev kX4_pairs 0 (zvr a :: L) st h = zev kX4_pairs 1 (zvr a :: L) (zvr a :: st) h) ∧
  (∀ (x0 : ZV) (a : Int) (L st : List ZV) (h : PH), zev kX4_pairs 1 (x0 :: zvi a :: L) st h = zev kX4_pairs 2 (x0 :: zvi a :: L) (zvi a :: st) h) ∧
  (∀ (v0 : ZV) (q : Nat) (L st : List ZV) (h : PH), zev kX4_pairs 2 L (v0 :: zvr (some q) :: st) h = if (ph_K h q).1 % 1000 = 18 ∧ zcat st ≤ 8 then zk kX4_pairs 2 5 L st (mX4_isAsked [zvr (some q), v0] h) else none) ∧
  (∀ (a : Int) (L st : List ZV) (h : PH), zev kX4_pairs 5 L (zvi a :: st) h = if a = 0 then zev kX4_pairs 15 L st h else zev kX4_pairs 8 L st h) ∧
  (∀ (a : Option Nat) (L st : List ZV) (h : PH), zev kX4_pairs 8 (zvr a :: L) st h = zev kX4_pairs 9 (zvr a :: L) (zvr a :: st) h) ∧
  (∀ (q : Nat) (L st : List ZV) (h : PH), zev kX4_pairs 9 L (zvr (some q) :: st) h = if (ph_K h q).1 % 1000 = 18 then zev kX4_pairs 12 L (zvi (ph_I h q 40) :: st) h else none) ∧
  (∀ (L st : List ZV) (h : PH), zev kX4_pairs 12 L st h = zev kX4_pairs 16 L st h) ∧
  (∀ (L st : List ZV) (h : PH), zev kX4_pairs 15 L st h = zev kX4_pairs 16 L (zvi (-1) :: st) h) ∧
  (∀ (a : Int) (L : List ZV) (h : PH), zev kX4_pairs 16 L [zvi a] h = zrv (zvi a) h) :=
  ⟨fun a L st h => e_ld0R (n := 1) rfl,
  fun x0 a L st h => e_ld1I (n := 2) rfl,
  fun v0 q L st h => e_callV2 (F := mX4_isAsked) (kd := 18) (n := 5) rfl,
  fun a L st h => e_ifeq (t := 15) (n := 8) rfl,
  fun a L st h => e_ld0R (n := 9) rfl,
  fun q L st h => e_getI (kd := 18) (k := 40) (n := 12) rfl,
  fun L st h => e_goto (t := 16) rfl,
  fun L st h => e_push (v := zvi (-1)) (n := 16) rfl,
  fun a L h => e_retI rfl⟩
theorem allX4_pairs : zall yX4_pairs cX4_pairs 2 (some .int) 9 kX4_pairs.1 :=
  ⟨k_aload_n dX4_pairs_0,
  k_iload_n dX4_pairs_1,
  k_callV (y2 := yX4_isAsked) (C := RX4) (T0 := TX4) (ci := 2) dX4_pairs_2 sndX4_isAsked rfl q2263 q2265 qs118 q137 q2266 (by decide +kernel) ⟨by decide, by decide⟩ (by decide) (by decide),
  k_ifeq (t := 15) dX4_pairs_5 (by decide),
  k_aload_n dX4_pairs_8,
  k_getI (C := RX4) (T := TX4) (N := 42) (ci := 2) (k := 40) (ref := "LinkTimesModel") dX4_pairs_9 rfl in_X4 (by decide) q1839 (Or.inl rfl) (fun _ _ _ => rfl),
  k_goto (t := 16) dX4_pairs_12 (by decide),
  k_iconst dX4_pairs_15,
  k_iret dX4_pairs_16, trivial⟩
theorem sndX4_pairs : MSound 9 yX4_pairs (ws_ yX4_pairs cX4_pairs 2 (some .int)) mX4_pairs := msound_M (by decide) allX4_pairs (fun _ _ => rfl)
/-! LinkTimesModel.hub(I)I -/
noncomputable def kX4_hub : ZM := ([(0, zi_ld 1 0 1), (1, zi_ld 0 1 2), (2, zi_callV mX4_isAsked 18 2 5), (5, zi_if (fun a => zc_ne a 0) 10 8), (8, zi_push (zvi (-1)) 9), (9, zi_retv 0), (10, zi_push (zvi (-2)) 12), (12, zi_st 0 2 13), (13, zi_push (zvi 0) 14), (14, zi_st 0 3 15), (15, zi_ld 0 3 16), (16, zi_push (zvi 10) 18), (18, zi_cmp zc_ge 62 21), (21, zi_ld 0 2 22), (22, zi_push (zvi (-2)) 24), (24, zi_cmp zc_ne 31 27), (27, zi_push (zvi 0) 28), (28, zi_goto 37), (31, zi_ld 1 0 32), (32, zi_getR 18 39 35), (35, zi_ld 0 2 36), (36, zi_ald 1 37), (37, zi_st 0 4 39), (39, zi_ld 1 0 40), (40, zi_getR 18 39 43), (43, zi_ld 0 3 44), (44, zi_ald 1 45), (45, zi_ld 0 4 47), (47, zi_cmp zc_le 54 50), (50, zi_ld 0 3 51), (51, zi_goto 55), (54, zi_ld 0 2 55), (55, zi_st 0 2 56), (56, zi_iinc 3 1 59), (59, zi_goto 15), (62, zi_ld 0 2 63), (63, zi_retv 0)], fun _ _ => none)
noncomputable def mX4_hub : ZF := zrunM kX4_hub 5
theorem enX4_hub (x0 : Option Nat) (x1 : Int) (h : PH) : mX4_hub [zvr x0, zvi x1] h = zev kX4_hub 0 [zvr x0, zvi x1, zvu, zvu, zvu] [] h := zrunM_eq rfl rfl
theorem hdX4_hub_15 (x0 x1 x2 : ZV) (a : Int) (L st : List ZV) (h : PH) : zev kX4_hub 15 (x0 :: x1 :: x2 :: zvi a :: L) st h = zev kX4_hub 16 (x0 :: x1 :: x2 :: zvi a :: L) (zvi a :: st) h := e_ld3I (n := 16) rfl
theorem rX4_hub : (∀ (a : Option Nat) (L st : List ZV) (h : PH), zev kX4_hub 0 (zvr a :: L) st h = zev kX4_hub 1 (zvr a :: L) (zvr a :: st) h) ∧
  (∀ (x0 : ZV) (a : Int) (L st : List ZV) (h : PH), zev kX4_hub 1 (x0 :: zvi a :: L) st h = zev kX4_hub 2 (x0 :: zvi a :: L) (zvi a :: st) h) ∧
  (∀ (v0 : ZV) (q : Nat) (L st : List ZV) (h : PH), zev kX4_hub 2 L (v0 :: zvr (some q) :: st) h = if (ph_K h q).1 % 1000 = 18 ∧ zcat st ≤ 8 then zk kX4_hub 2 5 L st (mX4_isAsked [zvr (some q), v0] h) else none) ∧
  (∀ (a : Int) (L st : List ZV) (h : PH), zev kX4_hub 5 L (zvi a :: st) h = if a ≠ 0 then zev kX4_hub 10 L st h else zev kX4_hub 8 L st h) ∧
  (∀ (L st : List ZV) (h : PH), zev kX4_hub 8 L st h = zev kX4_hub 9 L (zvi (-1) :: st) h) ∧
  (∀ (a : Int) (L : List ZV) (h : PH), zev kX4_hub 9 L [zvi a] h = zrv (zvi a) h) ∧
  (∀ (L st : List ZV) (h : PH), zev kX4_hub 10 L st h = zev kX4_hub 12 L (zvi (-2) :: st) h) ∧
  (∀ (x0 x1 x2 : ZV) (a : Int) (L st : List ZV) (h : PH) (hx : zisL x1 = false) , zev kX4_hub 12 (x0 :: x1 :: x2 :: L) (zvi a :: st) h = zev kX4_hub 13 (x0 :: x1 :: zvi a :: L) st h) ∧
  (∀ (L st : List ZV) (h : PH), zev kX4_hub 13 L st h = zev kX4_hub 14 L (zvi 0 :: st) h) ∧
  (∀ (x0 x1 x2 x3 : ZV) (a : Int) (L st : List ZV) (h : PH) (hx : zisL x2 = false) , zev kX4_hub 14 (x0 :: x1 :: x2 :: x3 :: L) (zvi a :: st) h = zev kX4_hub 15 (x0 :: x1 :: x2 :: zvi a :: L) st h) ∧
  (∀ (L st : List ZV) (h : PH), zev kX4_hub 16 L st h = zev kX4_hub 18 L (zvi 10 :: st) h) ∧
  (∀ (a b : Int) (L st : List ZV) (h : PH), zev kX4_hub 18 L (zvi b :: zvi a :: st) h = if a ≥ b then zev kX4_hub 62 L st h else zev kX4_hub 21 L st h) ∧
  (∀ (x0 x1 : ZV) (a : Int) (L st : List ZV) (h : PH), zev kX4_hub 21 (x0 :: x1 :: zvi a :: L) st h = zev kX4_hub 22 (x0 :: x1 :: zvi a :: L) (zvi a :: st) h) ∧
  (∀ (L st : List ZV) (h : PH), zev kX4_hub 22 L st h = zev kX4_hub 24 L (zvi (-2) :: st) h) ∧
  (∀ (a b : Int) (L st : List ZV) (h : PH), zev kX4_hub 24 L (zvi b :: zvi a :: st) h = if a ≠ b then zev kX4_hub 31 L st h else zev kX4_hub 27 L st h) ∧
  (∀ (L st : List ZV) (h : PH), zev kX4_hub 27 L st h = zev kX4_hub 28 L (zvi 0 :: st) h) ∧
  (∀ (L st : List ZV) (h : PH), zev kX4_hub 28 L st h = zev kX4_hub 37 L st h) ∧
  (∀ (a : Option Nat) (L st : List ZV) (h : PH), zev kX4_hub 31 (zvr a :: L) st h = zev kX4_hub 32 (zvr a :: L) (zvr a :: st) h) ∧
  (∀ (q : Nat) (L st : List ZV) (h : PH), zev kX4_hub 32 L (zvr (some q) :: st) h = if (ph_K h q).1 % 1000 = 18 then zev kX4_hub 35 L (zvr (ph_R h q 39) :: st) h else none) ∧
  (∀ (x0 x1 : ZV) (a : Int) (L st : List ZV) (h : PH), zev kX4_hub 35 (x0 :: x1 :: zvi a :: L) st h = zev kX4_hub 36 (x0 :: x1 :: zvi a :: L) (zvi a :: st) h) ∧
  (∀ (j : Int) (q : Nat) (L st : List ZV) (h : PH), zev kX4_hub 36 L (zvi j :: zvr (some q) :: st) h = if (ph_K h q).1 % 1000 = 1 ∧ 0 ≤ j ∧ j < (ph_K h q).2 then zev kX4_hub 37 L (zvi (ph_I h q j) :: st) h else none) ∧
  (∀ (x0 x1 x2 x3 x4 : ZV) (a : Int) (L st : List ZV) (h : PH) (hx : zisL x3 = false) , zev kX4_hub 37 (x0 :: x1 :: x2 :: x3 :: x4 :: L) (zvi a :: st) h = zev kX4_hub 39 (x0 :: x1 :: x2 :: x3 :: zvi a :: L) st h) ∧
  (∀ (a : Option Nat) (L st : List ZV) (h : PH), zev kX4_hub 39 (zvr a :: L) st h = zev kX4_hub 40 (zvr a :: L) (zvr a :: st) h) ∧
  (∀ (q : Nat) (L st : List ZV) (h : PH), zev kX4_hub 40 L (zvr (some q) :: st) h = if (ph_K h q).1 % 1000 = 18 then zev kX4_hub 43 L (zvr (ph_R h q 39) :: st) h else none) ∧
  (∀ (x0 x1 x2 : ZV) (a : Int) (L st : List ZV) (h : PH), zev kX4_hub 43 (x0 :: x1 :: x2 :: zvi a :: L) st h = zev kX4_hub 44 (x0 :: x1 :: x2 :: zvi a :: L) (zvi a :: st) h) ∧
  (∀ (j : Int) (q : Nat) (L st : List ZV) (h : PH), zev kX4_hub 44 L (zvi j :: zvr (some q) :: st) h = if (ph_K h q).1 % 1000 = 1 ∧ 0 ≤ j ∧ j < (ph_K h q).2 then zev kX4_hub 45 L (zvi (ph_I h q j) :: st) h else none) ∧
  (∀ (x0 x1 x2 x3 : ZV) (a : Int) (L st : List ZV) (h : PH), zev kX4_hub 45 (x0 :: x1 :: x2 :: x3 :: zvi a :: L) st h = zev kX4_hub 47 (x0 :: x1 :: x2 :: x3 :: zvi a :: L) (zvi a :: st) h) ∧
  (∀ (a b : Int) (L st : List ZV) (h : PH), zev kX4_hub 47 L (zvi b :: zvi a :: st) h = if a ≤ b then zev kX4_hub 54 L st h else zev kX4_hub 50 L st h) ∧
  (∀ (x0 x1 x2 : ZV) (a : Int) (L st : List ZV) (h : PH), zev kX4_hub 50 (x0 :: x1 :: x2 :: zvi a :: L) st h = zev kX4_hub 51 (x0 :: x1 :: x2 :: zvi a :: L) (zvi a :: st) h) ∧
  (∀ (L st : List ZV) (h : PH), zev kX4_hub 51 L st h = zev kX4_hub 55 L st h) ∧
  (∀ (x0 x1 : ZV) (a : Int) (L st : List ZV) (h : PH), zev kX4_hub 54 (x0 :: x1 :: zvi a :: L) st h = zev kX4_hub 55 (x0 :: x1 :: zvi a :: L) (zvi a :: st) h) ∧
  (∀ (x0 x1 x2 : ZV) (a : Int) (L st : List ZV) (h : PH) (hx : zisL x1 = false) , zev kX4_hub 55 (x0 :: x1 :: x2 :: L) (zvi a :: st) h = zev kX4_hub 56 (x0 :: x1 :: zvi a :: L) st h) ∧
  (∀ (x0 x1 x2 : ZV) (a : Int) (L st : List ZV) (h : PH) (hx : zisL x2 = false) , zev kX4_hub 56 (x0 :: x1 :: x2 :: zvi a :: L) st h = zev kX4_hub 59 (x0 :: x1 :: x2 :: zvi (w32 (a + 1)) :: L) st h) ∧
  (∀ (L st : List ZV) (h : PH), zev kX4_hub 59 L st h = zev kX4_hub 15 L st h) ∧
  (∀ (x0 x1 : ZV) (a : Int) (L st : List ZV) (h : PH), zev kX4_hub 62 (x0 :: x1 :: zvi a :: L) st h = zev kX4_hub 63 (x0 :: x1 :: zvi a :: L) (zvi a :: st) h) ∧
  (∀ (a : Int) (L : List ZV) (h : PH), zev kX4_hub 63 L [zvi a] h = zrv (zvi a) h) :=
  ⟨fun a L st h => e_ld0R (n := 1) rfl,
  fun x0 a L st h => e_ld1I (n := 2) rfl,
  fun v0 q L st h => e_callV2 (F := mX4_isAsked) (kd := 18) (n := 5) rfl,
  fun a L st h => e_ifne (t := 10) (n := 8) rfl,
  fun L st h => e_push (v := zvi (-1)) (n := 9) rfl,
  fun a L h => e_retI rfl,
  fun L st h => e_push (v := zvi (-2)) (n := 12) rfl,
  fun x0 x1 x2 a L st h hx => e_st2I (n := 13) rfl hx,
  fun L st h => e_push (v := zvi 0) (n := 14) rfl,
  fun x0 x1 x2 x3 a L st h hx => e_st3I (n := 15) rfl hx,
  fun L st h => e_push (v := zvi 10) (n := 18) rfl,
  fun a b L st h => e_cmpge (t := 62) (n := 21) rfl,
  fun x0 x1 a L st h => e_ld2I (n := 22) rfl,
  fun L st h => e_push (v := zvi (-2)) (n := 24) rfl,
  fun a b L st h => e_cmpne (t := 31) (n := 27) rfl,
  fun L st h => e_push (v := zvi 0) (n := 28) rfl,
  fun L st h => e_goto (t := 37) rfl,
  fun a L st h => e_ld0R (n := 32) rfl,
  fun q L st h => e_getR (kd := 18) (k := 39) (n := 35) rfl,
  fun x0 x1 a L st h => e_ld2I (n := 36) rfl,
  fun j q L st h => e_ald (kd := 1) (n := 37) rfl,
  fun x0 x1 x2 x3 x4 a L st h hx => e_st4I (n := 39) rfl hx,
  fun a L st h => e_ld0R (n := 40) rfl,
  fun q L st h => e_getR (kd := 18) (k := 39) (n := 43) rfl,
  fun x0 x1 x2 a L st h => e_ld3I (n := 44) rfl,
  fun j q L st h => e_ald (kd := 1) (n := 45) rfl,
  fun x0 x1 x2 x3 a L st h => e_ld4I (n := 47) rfl,
  fun a b L st h => e_cmple (t := 54) (n := 50) rfl,
  fun x0 x1 x2 a L st h => e_ld3I (n := 51) rfl,
  fun L st h => e_goto (t := 55) rfl,
  fun x0 x1 a L st h => e_ld2I (n := 55) rfl,
  fun x0 x1 x2 a L st h hx => e_st2I (n := 56) rfl hx,
  fun x0 x1 x2 a L st h hx => e_iinc3 (d := 1) (n := 59) rfl hx,
  fun L st h => e_goto (t := 15) rfl,
  fun x0 x1 a L st h => e_ld2I (n := 63) rfl,
  fun a L h => e_retI rfl⟩
theorem allX4_hub : zall yX4_hub cX4_hub 5 (some .int) 9 kX4_hub.1 :=
  ⟨k_aload_n dX4_hub_0,
  k_iload_n dX4_hub_1,
  k_callV (y2 := yX4_isAsked) (C := RX4) (T0 := TX4) (ci := 2) dX4_hub_2 sndX4_isAsked rfl q2263 q2265 qs118 q137 q2266 (by decide +kernel) ⟨by decide, by decide⟩ (by decide) (by decide),
  k_ifne (t := 10) dX4_hub_5 (by decide),
  k_iconst dX4_hub_8,
  k_iret dX4_hub_9,
  k_bipush dX4_hub_10,
  k_istore_n dX4_hub_12,
  k_iconst dX4_hub_13,
  k_istore_n dX4_hub_14,
  k_iload_n dX4_hub_15,
  k_bipush dX4_hub_16,
  k_cmpge (t := 62) dX4_hub_18 (by decide),
  k_iload_n dX4_hub_21,
  k_bipush dX4_hub_22,
  k_cmpne (t := 31) dX4_hub_24 (by decide),
  k_iconst dX4_hub_27,
  k_goto (t := 37) dX4_hub_28 (by decide),
  k_aload_n dX4_hub_31,
  k_getR (C := RX4) (T := TX4) (N := 42) (ci := 2) (k := 39) (ref := "LinkTimesModel") dX4_hub_32 rfl in_X4 (by decide) q1838 (Or.inl rfl) (fun _ _ _ => rfl),
  k_iload_n dX4_hub_35,
  k_iald dX4_hub_36,
  k_istore dX4_hub_37,
  k_aload_n dX4_hub_39,
  k_getR (C := RX4) (T := TX4) (N := 42) (ci := 2) (k := 39) (ref := "LinkTimesModel") dX4_hub_40 rfl in_X4 (by decide) q1838 (Or.inl rfl) (fun _ _ _ => rfl),
  k_iload_n dX4_hub_43,
  k_iald dX4_hub_44,
  k_iload dX4_hub_45,
  k_cmple (t := 54) dX4_hub_47 (by decide),
  k_iload_n dX4_hub_50,
  k_goto (t := 55) dX4_hub_51 (by decide),
  k_iload_n dX4_hub_54,
  k_istore_n dX4_hub_55,
  k_iinc dX4_hub_56,
  k_goto (t := 15) dX4_hub_59 (by decide),
  k_iload_n dX4_hub_62,
  k_iret dX4_hub_63, trivial⟩
theorem sndX4_hub : MSound 9 yX4_hub (ws_ yX4_hub cX4_hub 5 (some .int)) mX4_hub := msound_M (by decide) allX4_hub (fun _ _ => rfl)
/-! LinkTimesModel.slowest(I)I -/
noncomputable def kX4_slowest : ZM := ([(0, zi_ld 1 0 1), (1, zi_ld 0 1 2), (2, zi_callV mX4_isAsked 18 2 5), (5, zi_if (fun a => zc_eq a 0) 15 8), (8, zi_ld 1 0 9), (9, zi_getI 18 41 12), (12, zi_goto 16), (15, zi_push (zvi (-1)) 16), (16, zi_retv 0)], fun _ _ => none)
noncomputable def mX4_slowest : ZF := zrunM kX4_slowest 2
theorem enX4_slowest (x0 : Option Nat) (x1 : Int) (h : PH) : mX4_slowest [zvr x0, zvi x1] h = zev kX4_slowest 0 [zvr x0, zvi x1] [] h := zrunM_eq rfl rfl
theorem rX4_slowest : (∀ (a : Option Nat) (L st : List ZV) (h : PH), zev kX4_slowest 0 (zvr a :: L) st h = zev kX4_slowest 1 (zvr a :: L) (zvr a :: st) h) ∧
  (∀ (x0 : ZV) (a : Int) (L st : List ZV) (h : PH), zev kX4_slowest 1 (x0 :: zvi a :: L) st h = zev kX4_slowest 2 (x0 :: zvi a :: L) (zvi a :: st) h) ∧
  (∀ (v0 : ZV) (q : Nat) (L st : List ZV) (h : PH), zev kX4_slowest 2 L (v0 :: zvr (some q) :: st) h = if (ph_K h q).1 % 1000 = 18 ∧ zcat st ≤ 8 then zk kX4_slowest 2 5 L st (mX4_isAsked [zvr (some q), v0] h) else none) ∧
  (∀ (a : Int) (L st : List ZV) (h : PH), zev kX4_slowest 5 L (zvi a :: st) h = if a = 0 then zev kX4_slowest 15 L st h else zev kX4_slowest 8 L st h) ∧
  (∀ (a : Option Nat) (L st : List ZV) (h : PH), zev kX4_slowest 8 (zvr a :: L) st h = zev kX4_slowest 9 (zvr a :: L) (zvr a :: st) h) ∧
  (∀ (q : Nat) (L st : List ZV) (h : PH), zev kX4_slowest 9 L (zvr (some q) :: st) h = if (ph_K h q).1 % 1000 = 18 then zev kX4_slowest 12 L (zvi (ph_I h q 41) :: st) h else none) ∧
  (∀ (L st : List ZV) (h : PH), zev kX4_slowest 12 L st h = zev kX4_slowest 16 L st h) ∧
  (∀ (L st : List ZV) (h : PH), zev kX4_slowest 15 L st h = zev kX4_slowest 16 L (zvi (-1) :: st) h) ∧
  (∀ (a : Int) (L : List ZV) (h : PH), zev kX4_slowest 16 L [zvi a] h = zrv (zvi a) h) :=
  ⟨fun a L st h => e_ld0R (n := 1) rfl,
  fun x0 a L st h => e_ld1I (n := 2) rfl,
  fun v0 q L st h => e_callV2 (F := mX4_isAsked) (kd := 18) (n := 5) rfl,
  fun a L st h => e_ifeq (t := 15) (n := 8) rfl,
  fun a L st h => e_ld0R (n := 9) rfl,
  fun q L st h => e_getI (kd := 18) (k := 41) (n := 12) rfl,
  fun L st h => e_goto (t := 16) rfl,
  fun L st h => e_push (v := zvi (-1)) (n := 16) rfl,
  fun a L h => e_retI rfl⟩
theorem allX4_slowest : zall yX4_slowest cX4_slowest 2 (some .int) 9 kX4_slowest.1 :=
  ⟨k_aload_n dX4_slowest_0,
  k_iload_n dX4_slowest_1,
  k_callV (y2 := yX4_isAsked) (C := RX4) (T0 := TX4) (ci := 2) dX4_slowest_2 sndX4_isAsked rfl q2263 q2265 qs118 q137 q2266 (by decide +kernel) ⟨by decide, by decide⟩ (by decide) (by decide),
  k_ifeq (t := 15) dX4_slowest_5 (by decide),
  k_aload_n dX4_slowest_8,
  k_getI (C := RX4) (T := TX4) (N := 42) (ci := 2) (k := 41) (ref := "LinkTimesModel") dX4_slowest_9 rfl in_X4 (by decide) q1840 (Or.inl rfl) (fun _ _ _ => rfl),
  k_goto (t := 16) dX4_slowest_12 (by decide),
  k_iconst dX4_slowest_15,
  k_iret dX4_slowest_16, trivial⟩
theorem sndX4_slowest : MSound 9 yX4_slowest (ws_ yX4_slowest cX4_slowest 2 (some .int)) mX4_slowest := msound_M (by decide) allX4_slowest (fun _ _ => rfl)
/-! LinkTimesModel.beginsStep(II)Z -/
noncomputable def kX4_beginsStep : ZM := ([(0, zi_ld 1 0 1), (1, zi_ld 0 2 2), (2, zi_callV mX4_runs 18 2 5), (5, zi_if (fun a => zc_eq a 0) 34 8), (8, zi_ld 1 0 9), (9, zi_getR 18 6 12), (12, zi_ld 0 2 13), (13, zi_push (zvi 1) 14), (14, zi_callS mX4_at 2 17), (17, zi_ald 1 18), (18, zi_ld 0 1 19), (19, zi_cmp zc_ne 34 22), (22, zi_ld 1 0 23), (23, zi_getR 18 23 26), (26, zi_ld 0 2 27), (27, zi_ald 1 28), (28, zi_push (zvi 9999) 31), (31, zi_cmp zc_ne 36 34), (34, zi_push (zvi 0) 35), (35, zi_retz), (36, zi_push (zvi 0) 37), (37, zi_st 0 3 38), (38, zi_ld 0 3 39), (39, zi_ld 1 0 40), (40, zi_getR 18 6 43), (43, zi_push (zvi 4) 44), (44, zi_ald 1 45), (45, zi_cmp zc_ge 218 48), (48, zi_ld 0 3 49), (49, zi_ld 0 2 50), (50, zi_cmp zc_eq 212 53), (53, zi_ld 1 0 54), (54, zi_ld 0 3 55), (55, zi_callV mX4_runs 18 2 58), (58, zi_if (fun a => zc_eq a 0) 212 61), (61, zi_ld 1 0 62), (62, zi_getR 18 6 65), (65, zi_ld 0 3 66), (66, zi_push (zvi 1) 67), (67, zi_callS mX4_at 2 70), (70, zi_ald 1 71), (71, zi_ld 0 1 72), (72, zi_cmp zc_ne 212 75), (75, zi_ld 1 0 76), (76, zi_getR 18 23 79), (79, zi_ld 0 3 80), (80, zi_ald 1 81), (81, zi_push (zvi 9999) 84), (84, zi_cmp zc_ne 90 87), (87, zi_goto 212), (90, zi_ld 1 0 91), (91, zi_ld 0 3 92), (92, zi_callV mX4_leavesAt 18 2 95), (95, zi_ld 1 0 96), (96, zi_ld 0 2 97), (97, zi_callV mX4_leavesAt 18 2 100), (100, zi_cmp zc_lt 122 103), (103, zi_ld 1 0 104), (104, zi_getR 18 23 107), (107, zi_ld 0 3 108), (108, zi_ald 1 109), (109, zi_ld 1 0 110), (110, zi_getR 18 23 113), (113, zi_ld 0 2 114), (114, zi_ald 1 115), (115, zi_cmp zc_gt 122 118), (118, zi_push (zvi 1) 119), (119, zi_goto 123), (122, zi_push (zvi 0) 123), (123, zi_st 0 4 125), (125, zi_ld 1 0 126), (126, zi_ld 0 3 127), (127, zi_callV mX4_leavesAt 18 2 130), (130, zi_ld 1 0 131), (131, zi_ld 0 2 132), (132, zi_callV mX4_leavesAt 18 2 135), (135, zi_cmp zc_ne 157 138), (138, zi_ld 1 0 139), (139, zi_getR 18 23 142), (142, zi_ld 0 3 143), (143, zi_ald 1 144), (144, zi_ld 1 0 145), (145, zi_getR 18 23 148), (148, zi_ld 0 2 149), (149, zi_ald 1 150), (150, zi_cmp zc_ne 157 153), (153, zi_push (zvi 1) 154), (154, zi_goto 158), (157, zi_push (zvi 0) 158), (158, zi_st 0 5 160), (160, zi_ld 0 4 162), (162, zi_if (fun a => zc_eq a 0) 170 165), (165, zi_ld 0 5 167), (167, zi_if (fun a => zc_eq a 0) 210 170), (170, zi_ld 0 5 172), (172, zi_if (fun a => zc_eq a 0) 212 175), (175, zi_ld 1 0 176), (176, zi_getR 18 24 179), (179, zi_ld 0 3 180), (180, zi_ald 1 181), (181, zi_ld 1 0 182), (182, zi_getR 18 24 185), (185, zi_ld 0 2 186), (186, zi_ald 1 187), (187, zi_cmp zc_lt 210 190), (190, zi_ld 1 0 191), (191, zi_getR 18 24 194), (194, zi_ld 0 3 195), (195, zi_ald 1 196), (196, zi_ld 1 0 197), (197, zi_getR 18 24 200), (200, zi_ld 0 2 201), (201, zi_ald 1 202), (202, zi_cmp zc_ne 212 205), (205, zi_ld 0 3 206), (206, zi_ld 0 2 207), (207, zi_cmp zc_ge 212 210), (210, zi_push (zvi 0) 211), (211, zi_retz), (212, zi_iinc 3 1 215), (215, zi_goto 38), (218, zi_push (zvi 1) 219), (219, zi_retz)], fun _ _ => none)
noncomputable def mX4_beginsStep : ZF := zrunM kX4_beginsStep 6
theorem enX4_beginsStep (x0 : Option Nat) (x1 : Int) (x2 : Int) (h : PH) : mX4_beginsStep [zvr x0, zvi x1, zvi x2] h = zev kX4_beginsStep 0 [zvr x0, zvi x1, zvi x2, zvu, zvu, zvu] [] h := zrunM_eq rfl rfl
theorem hdX4_beginsStep_38 (x0 x1 x2 : ZV) (a : Int) (L st : List ZV) (h : PH) : zev kX4_beginsStep 38 (x0 :: x1 :: x2 :: zvi a :: L) st h = zev kX4_beginsStep 39 (x0 :: x1 :: x2 :: zvi a :: L) (zvi a :: st) h := e_ld3I (n := 39) rfl
theorem rX4_beginsStep : (∀ (a : Option Nat) (L st : List ZV) (h : PH), zev kX4_beginsStep 0 (zvr a :: L) st h = zev kX4_beginsStep 1 (zvr a :: L) (zvr a :: st) h) ∧
  (∀ (x0 x1 : ZV) (a : Int) (L st : List ZV) (h : PH), zev kX4_beginsStep 1 (x0 :: x1 :: zvi a :: L) st h = zev kX4_beginsStep 2 (x0 :: x1 :: zvi a :: L) (zvi a :: st) h) ∧
  (∀ (v0 : ZV) (q : Nat) (L st : List ZV) (h : PH), zev kX4_beginsStep 2 L (v0 :: zvr (some q) :: st) h = if (ph_K h q).1 % 1000 = 18 ∧ zcat st ≤ 8 then zk kX4_beginsStep 2 5 L st (mX4_runs [zvr (some q), v0] h) else none) ∧
  (∀ (a : Int) (L st : List ZV) (h : PH), zev kX4_beginsStep 5 L (zvi a :: st) h = if a = 0 then zev kX4_beginsStep 34 L st h else zev kX4_beginsStep 8 L st h) ∧
  (∀ (a : Option Nat) (L st : List ZV) (h : PH), zev kX4_beginsStep 8 (zvr a :: L) st h = zev kX4_beginsStep 9 (zvr a :: L) (zvr a :: st) h) ∧
  (∀ (q : Nat) (L st : List ZV) (h : PH), zev kX4_beginsStep 9 L (zvr (some q) :: st) h = if (ph_K h q).1 % 1000 = 18 then zev kX4_beginsStep 12 L (zvr (ph_R h q 6) :: st) h else none) ∧
  (∀ (x0 x1 : ZV) (a : Int) (L st : List ZV) (h : PH), zev kX4_beginsStep 12 (x0 :: x1 :: zvi a :: L) st h = zev kX4_beginsStep 13 (x0 :: x1 :: zvi a :: L) (zvi a :: st) h) ∧
  (∀ (L st : List ZV) (h : PH), zev kX4_beginsStep 13 L st h = zev kX4_beginsStep 14 L (zvi 1 :: st) h) ∧
  (∀ (v0 v1 : ZV) (L st : List ZV) (h : PH), zev kX4_beginsStep 14 L (v1 :: v0 :: st) h = if zcat st ≤ 8 then zk kX4_beginsStep 14 17 L st (mX4_at [v0, v1] h) else none) ∧
  (∀ (j : Int) (q : Nat) (L st : List ZV) (h : PH), zev kX4_beginsStep 17 L (zvi j :: zvr (some q) :: st) h = if (ph_K h q).1 % 1000 = 1 ∧ 0 ≤ j ∧ j < (ph_K h q).2 then zev kX4_beginsStep 18 L (zvi (ph_I h q j) :: st) h else none) ∧
  (∀ (x0 : ZV) (a : Int) (L st : List ZV) (h : PH), zev kX4_beginsStep 18 (x0 :: zvi a :: L) st h = zev kX4_beginsStep 19 (x0 :: zvi a :: L) (zvi a :: st) h) ∧
  (∀ (a b : Int) (L st : List ZV) (h : PH), zev kX4_beginsStep 19 L (zvi b :: zvi a :: st) h = if a ≠ b then zev kX4_beginsStep 34 L st h else zev kX4_beginsStep 22 L st h) ∧
  (∀ (a : Option Nat) (L st : List ZV) (h : PH), zev kX4_beginsStep 22 (zvr a :: L) st h = zev kX4_beginsStep 23 (zvr a :: L) (zvr a :: st) h) ∧
  (∀ (q : Nat) (L st : List ZV) (h : PH), zev kX4_beginsStep 23 L (zvr (some q) :: st) h = if (ph_K h q).1 % 1000 = 18 then zev kX4_beginsStep 26 L (zvr (ph_R h q 23) :: st) h else none) ∧
  (∀ (x0 x1 : ZV) (a : Int) (L st : List ZV) (h : PH), zev kX4_beginsStep 26 (x0 :: x1 :: zvi a :: L) st h = zev kX4_beginsStep 27 (x0 :: x1 :: zvi a :: L) (zvi a :: st) h) ∧
  (∀ (j : Int) (q : Nat) (L st : List ZV) (h : PH), zev kX4_beginsStep 27 L (zvi j :: zvr (some q) :: st) h = if (ph_K h q).1 % 1000 = 1 ∧ 0 ≤ j ∧ j < (ph_K h q).2 then zev kX4_beginsStep 28 L (zvi (ph_I h q j) :: st) h else none) ∧
  (∀ (L st : List ZV) (h : PH), zev kX4_beginsStep 28 L st h = zev kX4_beginsStep 31 L (zvi 9999 :: st) h) ∧
  (∀ (a b : Int) (L st : List ZV) (h : PH), zev kX4_beginsStep 31 L (zvi b :: zvi a :: st) h = if a ≠ b then zev kX4_beginsStep 36 L st h else zev kX4_beginsStep 34 L st h) ∧
  (∀ (L st : List ZV) (h : PH), zev kX4_beginsStep 34 L st h = zev kX4_beginsStep 35 L (zvi 0 :: st) h) ∧
  (∀ (a : Int) (L : List ZV) (h : PH), zev kX4_beginsStep 35 L [zvi a] h = if a = 0 ∨ a = 1 then zrv (zvi a) h else none) ∧
  (∀ (L st : List ZV) (h : PH), zev kX4_beginsStep 36 L st h = zev kX4_beginsStep 37 L (zvi 0 :: st) h) ∧
  (∀ (x0 x1 x2 x3 : ZV) (a : Int) (L st : List ZV) (h : PH) (hx : zisL x2 = false) , zev kX4_beginsStep 37 (x0 :: x1 :: x2 :: x3 :: L) (zvi a :: st) h = zev kX4_beginsStep 38 (x0 :: x1 :: x2 :: zvi a :: L) st h) ∧
  (∀ (a : Option Nat) (L st : List ZV) (h : PH), zev kX4_beginsStep 39 (zvr a :: L) st h = zev kX4_beginsStep 40 (zvr a :: L) (zvr a :: st) h) ∧
  (∀ (q : Nat) (L st : List ZV) (h : PH), zev kX4_beginsStep 40 L (zvr (some q) :: st) h = if (ph_K h q).1 % 1000 = 18 then zev kX4_beginsStep 43 L (zvr (ph_R h q 6) :: st) h else none) ∧
  (∀ (L st : List ZV) (h : PH), zev kX4_beginsStep 43 L st h = zev kX4_beginsStep 44 L (zvi 4 :: st) h) ∧
  (∀ (j : Int) (q : Nat) (L st : List ZV) (h : PH), zev kX4_beginsStep 44 L (zvi j :: zvr (some q) :: st) h = if (ph_K h q).1 % 1000 = 1 ∧ 0 ≤ j ∧ j < (ph_K h q).2 then zev kX4_beginsStep 45 L (zvi (ph_I h q j) :: st) h else none) ∧
  (∀ (a b : Int) (L st : List ZV) (h : PH), zev kX4_beginsStep 45 L (zvi b :: zvi a :: st) h = if a ≥ b then zev kX4_beginsStep 218 L st h else zev kX4_beginsStep 48 L st h) ∧
  (∀ (x0 x1 x2 : ZV) (a : Int) (L st : List ZV) (h : PH), zev kX4_beginsStep 48 (x0 :: x1 :: x2 :: zvi a :: L) st h = zev kX4_beginsStep 49 (x0 :: x1 :: x2 :: zvi a :: L) (zvi a :: st) h) ∧
  (∀ (x0 x1 : ZV) (a : Int) (L st : List ZV) (h : PH), zev kX4_beginsStep 49 (x0 :: x1 :: zvi a :: L) st h = zev kX4_beginsStep 50 (x0 :: x1 :: zvi a :: L) (zvi a :: st) h) ∧
  (∀ (a b : Int) (L st : List ZV) (h : PH), zev kX4_beginsStep 50 L (zvi b :: zvi a :: st) h = if a = b then zev kX4_beginsStep 212 L st h else zev kX4_beginsStep 53 L st h) ∧
  (∀ (a : Option Nat) (L st : List ZV) (h : PH), zev kX4_beginsStep 53 (zvr a :: L) st h = zev kX4_beginsStep 54 (zvr a :: L) (zvr a :: st) h) ∧
  (∀ (x0 x1 x2 : ZV) (a : Int) (L st : List ZV) (h : PH), zev kX4_beginsStep 54 (x0 :: x1 :: x2 :: zvi a :: L) st h = zev kX4_beginsStep 55 (x0 :: x1 :: x2 :: zvi a :: L) (zvi a :: st) h) ∧
  (∀ (v0 : ZV) (q : Nat) (L st : List ZV) (h : PH), zev kX4_beginsStep 55 L (v0 :: zvr (some q) :: st) h = if (ph_K h q).1 % 1000 = 18 ∧ zcat st ≤ 8 then zk kX4_beginsStep 55 58 L st (mX4_runs [zvr (some q), v0] h) else none) ∧
  (∀ (a : Int) (L st : List ZV) (h : PH), zev kX4_beginsStep 58 L (zvi a :: st) h = if a = 0 then zev kX4_beginsStep 212 L st h else zev kX4_beginsStep 61 L st h) ∧
  (∀ (a : Option Nat) (L st : List ZV) (h : PH), zev kX4_beginsStep 61 (zvr a :: L) st h = zev kX4_beginsStep 62 (zvr a :: L) (zvr a :: st) h) ∧
  (∀ (q : Nat) (L st : List ZV) (h : PH), zev kX4_beginsStep 62 L (zvr (some q) :: st) h = if (ph_K h q).1 % 1000 = 18 then zev kX4_beginsStep 65 L (zvr (ph_R h q 6) :: st) h else none) ∧
  (∀ (x0 x1 x2 : ZV) (a : Int) (L st : List ZV) (h : PH), zev kX4_beginsStep 65 (x0 :: x1 :: x2 :: zvi a :: L) st h = zev kX4_beginsStep 66 (x0 :: x1 :: x2 :: zvi a :: L) (zvi a :: st) h) ∧
  (∀ (L st : List ZV) (h : PH), zev kX4_beginsStep 66 L st h = zev kX4_beginsStep 67 L (zvi 1 :: st) h) ∧
  (∀ (v0 v1 : ZV) (L st : List ZV) (h : PH), zev kX4_beginsStep 67 L (v1 :: v0 :: st) h = if zcat st ≤ 8 then zk kX4_beginsStep 67 70 L st (mX4_at [v0, v1] h) else none) ∧
  (∀ (j : Int) (q : Nat) (L st : List ZV) (h : PH), zev kX4_beginsStep 70 L (zvi j :: zvr (some q) :: st) h = if (ph_K h q).1 % 1000 = 1 ∧ 0 ≤ j ∧ j < (ph_K h q).2 then zev kX4_beginsStep 71 L (zvi (ph_I h q j) :: st) h else none) ∧
  (∀ (x0 : ZV) (a : Int) (L st : List ZV) (h : PH), zev kX4_beginsStep 71 (x0 :: zvi a :: L) st h = zev kX4_beginsStep 72 (x0 :: zvi a :: L) (zvi a :: st) h) ∧
  (∀ (a b : Int) (L st : List ZV) (h : PH), zev kX4_beginsStep 72 L (zvi b :: zvi a :: st) h = if a ≠ b then zev kX4_beginsStep 212 L st h else zev kX4_beginsStep 75 L st h) ∧
  (∀ (a : Option Nat) (L st : List ZV) (h : PH), zev kX4_beginsStep 75 (zvr a :: L) st h = zev kX4_beginsStep 76 (zvr a :: L) (zvr a :: st) h) ∧
  (∀ (q : Nat) (L st : List ZV) (h : PH), zev kX4_beginsStep 76 L (zvr (some q) :: st) h = if (ph_K h q).1 % 1000 = 18 then zev kX4_beginsStep 79 L (zvr (ph_R h q 23) :: st) h else none) ∧
  (∀ (x0 x1 x2 : ZV) (a : Int) (L st : List ZV) (h : PH), zev kX4_beginsStep 79 (x0 :: x1 :: x2 :: zvi a :: L) st h = zev kX4_beginsStep 80 (x0 :: x1 :: x2 :: zvi a :: L) (zvi a :: st) h) ∧
  (∀ (j : Int) (q : Nat) (L st : List ZV) (h : PH), zev kX4_beginsStep 80 L (zvi j :: zvr (some q) :: st) h = if (ph_K h q).1 % 1000 = 1 ∧ 0 ≤ j ∧ j < (ph_K h q).2 then zev kX4_beginsStep 81 L (zvi (ph_I h q j) :: st) h else none) ∧
  (∀ (L st : List ZV) (h : PH), zev kX4_beginsStep 81 L st h = zev kX4_beginsStep 84 L (zvi 9999 :: st) h) ∧
  (∀ (a b : Int) (L st : List ZV) (h : PH), zev kX4_beginsStep 84 L (zvi b :: zvi a :: st) h = if a ≠ b then zev kX4_beginsStep 90 L st h else zev kX4_beginsStep 87 L st h) ∧
  (∀ (L st : List ZV) (h : PH), zev kX4_beginsStep 87 L st h = zev kX4_beginsStep 212 L st h) ∧
  (∀ (a : Option Nat) (L st : List ZV) (h : PH), zev kX4_beginsStep 90 (zvr a :: L) st h = zev kX4_beginsStep 91 (zvr a :: L) (zvr a :: st) h) ∧
  (∀ (x0 x1 x2 : ZV) (a : Int) (L st : List ZV) (h : PH), zev kX4_beginsStep 91 (x0 :: x1 :: x2 :: zvi a :: L) st h = zev kX4_beginsStep 92 (x0 :: x1 :: x2 :: zvi a :: L) (zvi a :: st) h) ∧
  (∀ (v0 : ZV) (q : Nat) (L st : List ZV) (h : PH), zev kX4_beginsStep 92 L (v0 :: zvr (some q) :: st) h = if (ph_K h q).1 % 1000 = 18 ∧ zcat st ≤ 8 then zk kX4_beginsStep 92 95 L st (mX4_leavesAt [zvr (some q), v0] h) else none) ∧
  (∀ (a : Option Nat) (L st : List ZV) (h : PH), zev kX4_beginsStep 95 (zvr a :: L) st h = zev kX4_beginsStep 96 (zvr a :: L) (zvr a :: st) h) ∧
  (∀ (x0 x1 : ZV) (a : Int) (L st : List ZV) (h : PH), zev kX4_beginsStep 96 (x0 :: x1 :: zvi a :: L) st h = zev kX4_beginsStep 97 (x0 :: x1 :: zvi a :: L) (zvi a :: st) h) ∧
  (∀ (v0 : ZV) (q : Nat) (L st : List ZV) (h : PH), zev kX4_beginsStep 97 L (v0 :: zvr (some q) :: st) h = if (ph_K h q).1 % 1000 = 18 ∧ zcat st ≤ 8 then zk kX4_beginsStep 97 100 L st (mX4_leavesAt [zvr (some q), v0] h) else none) ∧
  (∀ (a b : Int) (L st : List ZV) (h : PH), zev kX4_beginsStep 100 L (zvi b :: zvi a :: st) h = if a < b then zev kX4_beginsStep 122 L st h else zev kX4_beginsStep 103 L st h) ∧
  (∀ (a : Option Nat) (L st : List ZV) (h : PH), zev kX4_beginsStep 103 (zvr a :: L) st h = zev kX4_beginsStep 104 (zvr a :: L) (zvr a :: st) h) ∧
  (∀ (q : Nat) (L st : List ZV) (h : PH), zev kX4_beginsStep 104 L (zvr (some q) :: st) h = if (ph_K h q).1 % 1000 = 18 then zev kX4_beginsStep 107 L (zvr (ph_R h q 23) :: st) h else none) ∧
  (∀ (x0 x1 x2 : ZV) (a : Int) (L st : List ZV) (h : PH), zev kX4_beginsStep 107 (x0 :: x1 :: x2 :: zvi a :: L) st h = zev kX4_beginsStep 108 (x0 :: x1 :: x2 :: zvi a :: L) (zvi a :: st) h) ∧
  (∀ (j : Int) (q : Nat) (L st : List ZV) (h : PH), zev kX4_beginsStep 108 L (zvi j :: zvr (some q) :: st) h = if (ph_K h q).1 % 1000 = 1 ∧ 0 ≤ j ∧ j < (ph_K h q).2 then zev kX4_beginsStep 109 L (zvi (ph_I h q j) :: st) h else none) ∧
  (∀ (a : Option Nat) (L st : List ZV) (h : PH), zev kX4_beginsStep 109 (zvr a :: L) st h = zev kX4_beginsStep 110 (zvr a :: L) (zvr a :: st) h) ∧
  (∀ (q : Nat) (L st : List ZV) (h : PH), zev kX4_beginsStep 110 L (zvr (some q) :: st) h = if (ph_K h q).1 % 1000 = 18 then zev kX4_beginsStep 113 L (zvr (ph_R h q 23) :: st) h else none) ∧
  (∀ (x0 x1 : ZV) (a : Int) (L st : List ZV) (h : PH), zev kX4_beginsStep 113 (x0 :: x1 :: zvi a :: L) st h = zev kX4_beginsStep 114 (x0 :: x1 :: zvi a :: L) (zvi a :: st) h) ∧
  (∀ (j : Int) (q : Nat) (L st : List ZV) (h : PH), zev kX4_beginsStep 114 L (zvi j :: zvr (some q) :: st) h = if (ph_K h q).1 % 1000 = 1 ∧ 0 ≤ j ∧ j < (ph_K h q).2 then zev kX4_beginsStep 115 L (zvi (ph_I h q j) :: st) h else none) ∧
  (∀ (a b : Int) (L st : List ZV) (h : PH), zev kX4_beginsStep 115 L (zvi b :: zvi a :: st) h = if a > b then zev kX4_beginsStep 122 L st h else zev kX4_beginsStep 118 L st h) ∧
  (∀ (L st : List ZV) (h : PH), zev kX4_beginsStep 118 L st h = zev kX4_beginsStep 119 L (zvi 1 :: st) h) ∧
  (∀ (L st : List ZV) (h : PH), zev kX4_beginsStep 119 L st h = zev kX4_beginsStep 123 L st h) ∧
  (∀ (L st : List ZV) (h : PH), zev kX4_beginsStep 122 L st h = zev kX4_beginsStep 123 L (zvi 0 :: st) h) ∧
  (∀ (x0 x1 x2 x3 x4 : ZV) (a : Int) (L st : List ZV) (h : PH) (hx : zisL x3 = false) , zev kX4_beginsStep 123 (x0 :: x1 :: x2 :: x3 :: x4 :: L) (zvi a :: st) h = zev kX4_beginsStep 125 (x0 :: x1 :: x2 :: x3 :: zvi a :: L) st h) ∧
  (∀ (a : Option Nat) (L st : List ZV) (h : PH), zev kX4_beginsStep 125 (zvr a :: L) st h = zev kX4_beginsStep 126 (zvr a :: L) (zvr a :: st) h) ∧
  (∀ (x0 x1 x2 : ZV) (a : Int) (L st : List ZV) (h : PH), zev kX4_beginsStep 126 (x0 :: x1 :: x2 :: zvi a :: L) st h = zev kX4_beginsStep 127 (x0 :: x1 :: x2 :: zvi a :: L) (zvi a :: st) h) ∧
  (∀ (v0 : ZV) (q : Nat) (L st : List ZV) (h : PH), zev kX4_beginsStep 127 L (v0 :: zvr (some q) :: st) h = if (ph_K h q).1 % 1000 = 18 ∧ zcat st ≤ 8 then zk kX4_beginsStep 127 130 L st (mX4_leavesAt [zvr (some q), v0] h) else none) ∧
  (∀ (a : Option Nat) (L st : List ZV) (h : PH), zev kX4_beginsStep 130 (zvr a :: L) st h = zev kX4_beginsStep 131 (zvr a :: L) (zvr a :: st) h) ∧
  (∀ (x0 x1 : ZV) (a : Int) (L st : List ZV) (h : PH), zev kX4_beginsStep 131 (x0 :: x1 :: zvi a :: L) st h = zev kX4_beginsStep 132 (x0 :: x1 :: zvi a :: L) (zvi a :: st) h) ∧
  (∀ (v0 : ZV) (q : Nat) (L st : List ZV) (h : PH), zev kX4_beginsStep 132 L (v0 :: zvr (some q) :: st) h = if (ph_K h q).1 % 1000 = 18 ∧ zcat st ≤ 8 then zk kX4_beginsStep 132 135 L st (mX4_leavesAt [zvr (some q), v0] h) else none) ∧
  (∀ (a b : Int) (L st : List ZV) (h : PH), zev kX4_beginsStep 135 L (zvi b :: zvi a :: st) h = if a ≠ b then zev kX4_beginsStep 157 L st h else zev kX4_beginsStep 138 L st h) ∧
  (∀ (a : Option Nat) (L st : List ZV) (h : PH), zev kX4_beginsStep 138 (zvr a :: L) st h = zev kX4_beginsStep 139 (zvr a :: L) (zvr a :: st) h) ∧
  (∀ (q : Nat) (L st : List ZV) (h : PH), zev kX4_beginsStep 139 L (zvr (some q) :: st) h = if (ph_K h q).1 % 1000 = 18 then zev kX4_beginsStep 142 L (zvr (ph_R h q 23) :: st) h else none) ∧
  (∀ (x0 x1 x2 : ZV) (a : Int) (L st : List ZV) (h : PH), zev kX4_beginsStep 142 (x0 :: x1 :: x2 :: zvi a :: L) st h = zev kX4_beginsStep 143 (x0 :: x1 :: x2 :: zvi a :: L) (zvi a :: st) h) ∧
  (∀ (j : Int) (q : Nat) (L st : List ZV) (h : PH), zev kX4_beginsStep 143 L (zvi j :: zvr (some q) :: st) h = if (ph_K h q).1 % 1000 = 1 ∧ 0 ≤ j ∧ j < (ph_K h q).2 then zev kX4_beginsStep 144 L (zvi (ph_I h q j) :: st) h else none) ∧
  (∀ (a : Option Nat) (L st : List ZV) (h : PH), zev kX4_beginsStep 144 (zvr a :: L) st h = zev kX4_beginsStep 145 (zvr a :: L) (zvr a :: st) h) ∧
  (∀ (q : Nat) (L st : List ZV) (h : PH), zev kX4_beginsStep 145 L (zvr (some q) :: st) h = if (ph_K h q).1 % 1000 = 18 then zev kX4_beginsStep 148 L (zvr (ph_R h q 23) :: st) h else none) ∧
  (∀ (x0 x1 : ZV) (a : Int) (L st : List ZV) (h : PH), zev kX4_beginsStep 148 (x0 :: x1 :: zvi a :: L) st h = zev kX4_beginsStep 149 (x0 :: x1 :: zvi a :: L) (zvi a :: st) h) ∧
  (∀ (j : Int) (q : Nat) (L st : List ZV) (h : PH), zev kX4_beginsStep 149 L (zvi j :: zvr (some q) :: st) h = if (ph_K h q).1 % 1000 = 1 ∧ 0 ≤ j ∧ j < (ph_K h q).2 then zev kX4_beginsStep 150 L (zvi (ph_I h q j) :: st) h else none) ∧
  (∀ (a b : Int) (L st : List ZV) (h : PH), zev kX4_beginsStep 150 L (zvi b :: zvi a :: st) h = if a ≠ b then zev kX4_beginsStep 157 L st h else zev kX4_beginsStep 153 L st h) ∧
  (∀ (L st : List ZV) (h : PH), zev kX4_beginsStep 153 L st h = zev kX4_beginsStep 154 L (zvi 1 :: st) h) ∧
  (∀ (L st : List ZV) (h : PH), zev kX4_beginsStep 154 L st h = zev kX4_beginsStep 158 L st h) ∧
  (∀ (L st : List ZV) (h : PH), zev kX4_beginsStep 157 L st h = zev kX4_beginsStep 158 L (zvi 0 :: st) h) ∧
  (∀ (x0 x1 x2 x3 x4 x5 : ZV) (a : Int) (L st : List ZV) (h : PH) (hx : zisL x4 = false) , zev kX4_beginsStep 158 (x0 :: x1 :: x2 :: x3 :: x4 :: x5 :: L) (zvi a :: st) h = zev kX4_beginsStep 160 (x0 :: x1 :: x2 :: x3 :: x4 :: zvi a :: L) st h) ∧
  (∀ (x0 x1 x2 x3 : ZV) (a : Int) (L st : List ZV) (h : PH), zev kX4_beginsStep 160 (x0 :: x1 :: x2 :: x3 :: zvi a :: L) st h = zev kX4_beginsStep 162 (x0 :: x1 :: x2 :: x3 :: zvi a :: L) (zvi a :: st) h) ∧
  (∀ (a : Int) (L st : List ZV) (h : PH), zev kX4_beginsStep 162 L (zvi a :: st) h = if a = 0 then zev kX4_beginsStep 170 L st h else zev kX4_beginsStep 165 L st h) ∧
  (∀ (x0 x1 x2 x3 x4 : ZV) (a : Int) (L st : List ZV) (h : PH), zev kX4_beginsStep 165 (x0 :: x1 :: x2 :: x3 :: x4 :: zvi a :: L) st h = zev kX4_beginsStep 167 (x0 :: x1 :: x2 :: x3 :: x4 :: zvi a :: L) (zvi a :: st) h) ∧
  (∀ (a : Int) (L st : List ZV) (h : PH), zev kX4_beginsStep 167 L (zvi a :: st) h = if a = 0 then zev kX4_beginsStep 210 L st h else zev kX4_beginsStep 170 L st h) ∧
  (∀ (x0 x1 x2 x3 x4 : ZV) (a : Int) (L st : List ZV) (h : PH), zev kX4_beginsStep 170 (x0 :: x1 :: x2 :: x3 :: x4 :: zvi a :: L) st h = zev kX4_beginsStep 172 (x0 :: x1 :: x2 :: x3 :: x4 :: zvi a :: L) (zvi a :: st) h) ∧
  (∀ (a : Int) (L st : List ZV) (h : PH), zev kX4_beginsStep 172 L (zvi a :: st) h = if a = 0 then zev kX4_beginsStep 212 L st h else zev kX4_beginsStep 175 L st h) ∧
  (∀ (a : Option Nat) (L st : List ZV) (h : PH), zev kX4_beginsStep 175 (zvr a :: L) st h = zev kX4_beginsStep 176 (zvr a :: L) (zvr a :: st) h) ∧
  (∀ (q : Nat) (L st : List ZV) (h : PH), zev kX4_beginsStep 176 L (zvr (some q) :: st) h = if (ph_K h q).1 % 1000 = 18 then zev kX4_beginsStep 179 L (zvr (ph_R h q 24) :: st) h else none) ∧
  (∀ (x0 x1 x2 : ZV) (a : Int) (L st : List ZV) (h : PH), zev kX4_beginsStep 179 (x0 :: x1 :: x2 :: zvi a :: L) st h = zev kX4_beginsStep 180 (x0 :: x1 :: x2 :: zvi a :: L) (zvi a :: st) h) ∧
  (∀ (j : Int) (q : Nat) (L st : List ZV) (h : PH), zev kX4_beginsStep 180 L (zvi j :: zvr (some q) :: st) h = if (ph_K h q).1 % 1000 = 1 ∧ 0 ≤ j ∧ j < (ph_K h q).2 then zev kX4_beginsStep 181 L (zvi (ph_I h q j) :: st) h else none) ∧
  (∀ (a : Option Nat) (L st : List ZV) (h : PH), zev kX4_beginsStep 181 (zvr a :: L) st h = zev kX4_beginsStep 182 (zvr a :: L) (zvr a :: st) h) ∧
  (∀ (q : Nat) (L st : List ZV) (h : PH), zev kX4_beginsStep 182 L (zvr (some q) :: st) h = if (ph_K h q).1 % 1000 = 18 then zev kX4_beginsStep 185 L (zvr (ph_R h q 24) :: st) h else none) ∧
  (∀ (x0 x1 : ZV) (a : Int) (L st : List ZV) (h : PH), zev kX4_beginsStep 185 (x0 :: x1 :: zvi a :: L) st h = zev kX4_beginsStep 186 (x0 :: x1 :: zvi a :: L) (zvi a :: st) h) ∧
  (∀ (j : Int) (q : Nat) (L st : List ZV) (h : PH), zev kX4_beginsStep 186 L (zvi j :: zvr (some q) :: st) h = if (ph_K h q).1 % 1000 = 1 ∧ 0 ≤ j ∧ j < (ph_K h q).2 then zev kX4_beginsStep 187 L (zvi (ph_I h q j) :: st) h else none) ∧
  (∀ (a b : Int) (L st : List ZV) (h : PH), zev kX4_beginsStep 187 L (zvi b :: zvi a :: st) h = if a < b then zev kX4_beginsStep 210 L st h else zev kX4_beginsStep 190 L st h) ∧
  (∀ (a : Option Nat) (L st : List ZV) (h : PH), zev kX4_beginsStep 190 (zvr a :: L) st h = zev kX4_beginsStep 191 (zvr a :: L) (zvr a :: st) h) ∧
  (∀ (q : Nat) (L st : List ZV) (h : PH), zev kX4_beginsStep 191 L (zvr (some q) :: st) h = if (ph_K h q).1 % 1000 = 18 then zev kX4_beginsStep 194 L (zvr (ph_R h q 24) :: st) h else none) ∧
  (∀ (x0 x1 x2 : ZV) (a : Int) (L st : List ZV) (h : PH), zev kX4_beginsStep 194 (x0 :: x1 :: x2 :: zvi a :: L) st h = zev kX4_beginsStep 195 (x0 :: x1 :: x2 :: zvi a :: L) (zvi a :: st) h) ∧
  (∀ (j : Int) (q : Nat) (L st : List ZV) (h : PH), zev kX4_beginsStep 195 L (zvi j :: zvr (some q) :: st) h = if (ph_K h q).1 % 1000 = 1 ∧ 0 ≤ j ∧ j < (ph_K h q).2 then zev kX4_beginsStep 196 L (zvi (ph_I h q j) :: st) h else none) ∧
  (∀ (a : Option Nat) (L st : List ZV) (h : PH), zev kX4_beginsStep 196 (zvr a :: L) st h = zev kX4_beginsStep 197 (zvr a :: L) (zvr a :: st) h) ∧
  (∀ (q : Nat) (L st : List ZV) (h : PH), zev kX4_beginsStep 197 L (zvr (some q) :: st) h = if (ph_K h q).1 % 1000 = 18 then zev kX4_beginsStep 200 L (zvr (ph_R h q 24) :: st) h else none) ∧
  (∀ (x0 x1 : ZV) (a : Int) (L st : List ZV) (h : PH), zev kX4_beginsStep 200 (x0 :: x1 :: zvi a :: L) st h = zev kX4_beginsStep 201 (x0 :: x1 :: zvi a :: L) (zvi a :: st) h) ∧
  (∀ (j : Int) (q : Nat) (L st : List ZV) (h : PH), zev kX4_beginsStep 201 L (zvi j :: zvr (some q) :: st) h = if (ph_K h q).1 % 1000 = 1 ∧ 0 ≤ j ∧ j < (ph_K h q).2 then zev kX4_beginsStep 202 L (zvi (ph_I h q j) :: st) h else none) ∧
  (∀ (a b : Int) (L st : List ZV) (h : PH), zev kX4_beginsStep 202 L (zvi b :: zvi a :: st) h = if a ≠ b then zev kX4_beginsStep 212 L st h else zev kX4_beginsStep 205 L st h) ∧
  (∀ (x0 x1 x2 : ZV) (a : Int) (L st : List ZV) (h : PH), zev kX4_beginsStep 205 (x0 :: x1 :: x2 :: zvi a :: L) st h = zev kX4_beginsStep 206 (x0 :: x1 :: x2 :: zvi a :: L) (zvi a :: st) h) ∧
  (∀ (x0 x1 : ZV) (a : Int) (L st : List ZV) (h : PH), zev kX4_beginsStep 206 (x0 :: x1 :: zvi a :: L) st h = zev kX4_beginsStep 207 (x0 :: x1 :: zvi a :: L) (zvi a :: st) h) ∧
  (∀ (a b : Int) (L st : List ZV) (h : PH), zev kX4_beginsStep 207 L (zvi b :: zvi a :: st) h = if a ≥ b then zev kX4_beginsStep 212 L st h else zev kX4_beginsStep 210 L st h) ∧
  (∀ (L st : List ZV) (h : PH), zev kX4_beginsStep 210 L st h = zev kX4_beginsStep 211 L (zvi 0 :: st) h) ∧
  (∀ (a : Int) (L : List ZV) (h : PH), zev kX4_beginsStep 211 L [zvi a] h = if a = 0 ∨ a = 1 then zrv (zvi a) h else none) ∧
  (∀ (x0 x1 x2 : ZV) (a : Int) (L st : List ZV) (h : PH) (hx : zisL x2 = false) , zev kX4_beginsStep 212 (x0 :: x1 :: x2 :: zvi a :: L) st h = zev kX4_beginsStep 215 (x0 :: x1 :: x2 :: zvi (w32 (a + 1)) :: L) st h) ∧
  (∀ (L st : List ZV) (h : PH), zev kX4_beginsStep 215 L st h = zev kX4_beginsStep 38 L st h) ∧
  (∀ (L st : List ZV) (h : PH), zev kX4_beginsStep 218 L st h = zev kX4_beginsStep 219 L (zvi 1 :: st) h) ∧
  (∀ (a : Int) (L : List ZV) (h : PH), zev kX4_beginsStep 219 L [zvi a] h = if a = 0 ∨ a = 1 then zrv (zvi a) h else none) :=
  ⟨fun a L st h => e_ld0R (n := 1) rfl,
  fun x0 x1 a L st h => e_ld2I (n := 2) rfl,
  fun v0 q L st h => e_callV2 (F := mX4_runs) (kd := 18) (n := 5) rfl,
  fun a L st h => e_ifeq (t := 34) (n := 8) rfl,
  fun a L st h => e_ld0R (n := 9) rfl,
  fun q L st h => e_getR (kd := 18) (k := 6) (n := 12) rfl,
  fun x0 x1 a L st h => e_ld2I (n := 13) rfl,
  fun L st h => e_push (v := zvi 1) (n := 14) rfl,
  fun v0 v1 L st h => e_callS2 (F := mX4_at) (n := 17) rfl,
  fun j q L st h => e_ald (kd := 1) (n := 18) rfl,
  fun x0 a L st h => e_ld1I (n := 19) rfl,
  fun a b L st h => e_cmpne (t := 34) (n := 22) rfl,
  fun a L st h => e_ld0R (n := 23) rfl,
  fun q L st h => e_getR (kd := 18) (k := 23) (n := 26) rfl,
  fun x0 x1 a L st h => e_ld2I (n := 27) rfl,
  fun j q L st h => e_ald (kd := 1) (n := 28) rfl,
  fun L st h => e_push (v := zvi 9999) (n := 31) rfl,
  fun a b L st h => e_cmpne (t := 36) (n := 34) rfl,
  fun L st h => e_push (v := zvi 0) (n := 35) rfl,
  fun a L h => e_retz rfl,
  fun L st h => e_push (v := zvi 0) (n := 37) rfl,
  fun x0 x1 x2 x3 a L st h hx => e_st3I (n := 38) rfl hx,
  fun a L st h => e_ld0R (n := 40) rfl,
  fun q L st h => e_getR (kd := 18) (k := 6) (n := 43) rfl,
  fun L st h => e_push (v := zvi 4) (n := 44) rfl,
  fun j q L st h => e_ald (kd := 1) (n := 45) rfl,
  fun a b L st h => e_cmpge (t := 218) (n := 48) rfl,
  fun x0 x1 x2 a L st h => e_ld3I (n := 49) rfl,
  fun x0 x1 a L st h => e_ld2I (n := 50) rfl,
  fun a b L st h => e_cmpeq (t := 212) (n := 53) rfl,
  fun a L st h => e_ld0R (n := 54) rfl,
  fun x0 x1 x2 a L st h => e_ld3I (n := 55) rfl,
  fun v0 q L st h => e_callV2 (F := mX4_runs) (kd := 18) (n := 58) rfl,
  fun a L st h => e_ifeq (t := 212) (n := 61) rfl,
  fun a L st h => e_ld0R (n := 62) rfl,
  fun q L st h => e_getR (kd := 18) (k := 6) (n := 65) rfl,
  fun x0 x1 x2 a L st h => e_ld3I (n := 66) rfl,
  fun L st h => e_push (v := zvi 1) (n := 67) rfl,
  fun v0 v1 L st h => e_callS2 (F := mX4_at) (n := 70) rfl,
  fun j q L st h => e_ald (kd := 1) (n := 71) rfl,
  fun x0 a L st h => e_ld1I (n := 72) rfl,
  fun a b L st h => e_cmpne (t := 212) (n := 75) rfl,
  fun a L st h => e_ld0R (n := 76) rfl,
  fun q L st h => e_getR (kd := 18) (k := 23) (n := 79) rfl,
  fun x0 x1 x2 a L st h => e_ld3I (n := 80) rfl,
  fun j q L st h => e_ald (kd := 1) (n := 81) rfl,
  fun L st h => e_push (v := zvi 9999) (n := 84) rfl,
  fun a b L st h => e_cmpne (t := 90) (n := 87) rfl,
  fun L st h => e_goto (t := 212) rfl,
  fun a L st h => e_ld0R (n := 91) rfl,
  fun x0 x1 x2 a L st h => e_ld3I (n := 92) rfl,
  fun v0 q L st h => e_callV2 (F := mX4_leavesAt) (kd := 18) (n := 95) rfl,
  fun a L st h => e_ld0R (n := 96) rfl,
  fun x0 x1 a L st h => e_ld2I (n := 97) rfl,
  fun v0 q L st h => e_callV2 (F := mX4_leavesAt) (kd := 18) (n := 100) rfl,
  fun a b L st h => e_cmplt (t := 122) (n := 103) rfl,
  fun a L st h => e_ld0R (n := 104) rfl,
  fun q L st h => e_getR (kd := 18) (k := 23) (n := 107) rfl,
  fun x0 x1 x2 a L st h => e_ld3I (n := 108) rfl,
  fun j q L st h => e_ald (kd := 1) (n := 109) rfl,
  fun a L st h => e_ld0R (n := 110) rfl,
  fun q L st h => e_getR (kd := 18) (k := 23) (n := 113) rfl,
  fun x0 x1 a L st h => e_ld2I (n := 114) rfl,
  fun j q L st h => e_ald (kd := 1) (n := 115) rfl,
  fun a b L st h => e_cmpgt (t := 122) (n := 118) rfl,
  fun L st h => e_push (v := zvi 1) (n := 119) rfl,
  fun L st h => e_goto (t := 123) rfl,
  fun L st h => e_push (v := zvi 0) (n := 123) rfl,
  fun x0 x1 x2 x3 x4 a L st h hx => e_st4I (n := 125) rfl hx,
  fun a L st h => e_ld0R (n := 126) rfl,
  fun x0 x1 x2 a L st h => e_ld3I (n := 127) rfl,
  fun v0 q L st h => e_callV2 (F := mX4_leavesAt) (kd := 18) (n := 130) rfl,
  fun a L st h => e_ld0R (n := 131) rfl,
  fun x0 x1 a L st h => e_ld2I (n := 132) rfl,
  fun v0 q L st h => e_callV2 (F := mX4_leavesAt) (kd := 18) (n := 135) rfl,
  fun a b L st h => e_cmpne (t := 157) (n := 138) rfl,
  fun a L st h => e_ld0R (n := 139) rfl,
  fun q L st h => e_getR (kd := 18) (k := 23) (n := 142) rfl,
  fun x0 x1 x2 a L st h => e_ld3I (n := 143) rfl,
  fun j q L st h => e_ald (kd := 1) (n := 144) rfl,
  fun a L st h => e_ld0R (n := 145) rfl,
  fun q L st h => e_getR (kd := 18) (k := 23) (n := 148) rfl,
  fun x0 x1 a L st h => e_ld2I (n := 149) rfl,
  fun j q L st h => e_ald (kd := 1) (n := 150) rfl,
  fun a b L st h => e_cmpne (t := 157) (n := 153) rfl,
  fun L st h => e_push (v := zvi 1) (n := 154) rfl,
  fun L st h => e_goto (t := 158) rfl,
  fun L st h => e_push (v := zvi 0) (n := 158) rfl,
  fun x0 x1 x2 x3 x4 x5 a L st h hx => e_st5I (n := 160) rfl hx,
  fun x0 x1 x2 x3 a L st h => e_ld4I (n := 162) rfl,
  fun a L st h => e_ifeq (t := 170) (n := 165) rfl,
  fun x0 x1 x2 x3 x4 a L st h => e_ld5I (n := 167) rfl,
  fun a L st h => e_ifeq (t := 210) (n := 170) rfl,
  fun x0 x1 x2 x3 x4 a L st h => e_ld5I (n := 172) rfl,
  fun a L st h => e_ifeq (t := 212) (n := 175) rfl,
  fun a L st h => e_ld0R (n := 176) rfl,
  fun q L st h => e_getR (kd := 18) (k := 24) (n := 179) rfl,
  fun x0 x1 x2 a L st h => e_ld3I (n := 180) rfl,
  fun j q L st h => e_ald (kd := 1) (n := 181) rfl,
  fun a L st h => e_ld0R (n := 182) rfl,
  fun q L st h => e_getR (kd := 18) (k := 24) (n := 185) rfl,
  fun x0 x1 a L st h => e_ld2I (n := 186) rfl,
  fun j q L st h => e_ald (kd := 1) (n := 187) rfl,
  fun a b L st h => e_cmplt (t := 210) (n := 190) rfl,
  fun a L st h => e_ld0R (n := 191) rfl,
  fun q L st h => e_getR (kd := 18) (k := 24) (n := 194) rfl,
  fun x0 x1 x2 a L st h => e_ld3I (n := 195) rfl,
  fun j q L st h => e_ald (kd := 1) (n := 196) rfl,
  fun a L st h => e_ld0R (n := 197) rfl,
  fun q L st h => e_getR (kd := 18) (k := 24) (n := 200) rfl,
  fun x0 x1 a L st h => e_ld2I (n := 201) rfl,
  fun j q L st h => e_ald (kd := 1) (n := 202) rfl,
  fun a b L st h => e_cmpne (t := 212) (n := 205) rfl,
  fun x0 x1 x2 a L st h => e_ld3I (n := 206) rfl,
  fun x0 x1 a L st h => e_ld2I (n := 207) rfl,
  fun a b L st h => e_cmpge (t := 212) (n := 210) rfl,
  fun L st h => e_push (v := zvi 0) (n := 211) rfl,
  fun a L h => e_retz rfl,
  fun x0 x1 x2 a L st h hx => e_iinc3 (d := 1) (n := 215) rfl hx,
  fun L st h => e_goto (t := 38) rfl,
  fun L st h => e_push (v := zvi 1) (n := 219) rfl,
  fun a L h => e_retz rfl⟩
theorem allX4_beginsStep : zall yX4_beginsStep cX4_beginsStep 6 (some .boolean) 3 kX4_beginsStep.1 :=
  ⟨k_aload_n dX4_beginsStep_0,
  k_iload_n dX4_beginsStep_1,
  k_callV (y2 := yX4_runs) (C := RX4) (T0 := TX4) (ci := 2) dX4_beginsStep_2 sndX4_runs rfl q2076 q2078 qs92 q137 q2079 (by decide +kernel) ⟨by decide, by decide⟩ (by decide) (by decide),
  k_ifeq (t := 34) dX4_beginsStep_5 (by decide),
  k_aload_n dX4_beginsStep_8,
  k_getR (C := RX4) (T := TX4) (N := 42) (ci := 2) (k := 6) (ref := "LinkTimesModel") dX4_beginsStep_9 rfl in_X4 (by decide) q1805 (Or.inl rfl) (fun _ _ _ => rfl),
  k_iload_n dX4_beginsStep_12,
  k_iconst dX4_beginsStep_13,
  k_callS (y2 := yX4_at) dX4_beginsStep_14 sndX4_at q2047 q2048 q137 q2049 (by decide +kernel) ⟨by decide, by decide⟩ (by decide) (by decide),
  k_iald dX4_beginsStep_17,
  k_iload_n dX4_beginsStep_18,
  k_cmpne (t := 34) dX4_beginsStep_19 (by decide),
  k_aload_n dX4_beginsStep_22,
  k_getR (C := RX4) (T := TX4) (N := 42) (ci := 2) (k := 23) (ref := "LinkTimesModel") dX4_beginsStep_23 rfl in_X4 (by decide) q1822 (Or.inl rfl) (fun _ _ _ => rfl),
  k_iload_n dX4_beginsStep_26,
  k_iald dX4_beginsStep_27,
  k_sipush dX4_beginsStep_28,
  k_cmpne (t := 36) dX4_beginsStep_31 (by decide),
  k_iconst dX4_beginsStep_34,
  k_zret dX4_beginsStep_35,
  k_iconst dX4_beginsStep_36,
  k_istore_n dX4_beginsStep_37,
  k_iload_n dX4_beginsStep_38,
  k_aload_n dX4_beginsStep_39,
  k_getR (C := RX4) (T := TX4) (N := 42) (ci := 2) (k := 6) (ref := "LinkTimesModel") dX4_beginsStep_40 rfl in_X4 (by decide) q1805 (Or.inl rfl) (fun _ _ _ => rfl),
  k_iconst dX4_beginsStep_43,
  k_iald dX4_beginsStep_44,
  k_cmpge (t := 218) dX4_beginsStep_45 (by decide),
  k_iload_n dX4_beginsStep_48,
  k_iload_n dX4_beginsStep_49,
  k_cmpeq (t := 212) dX4_beginsStep_50 (by decide),
  k_aload_n dX4_beginsStep_53,
  k_iload_n dX4_beginsStep_54,
  k_callV (y2 := yX4_runs) (C := RX4) (T0 := TX4) (ci := 2) dX4_beginsStep_55 sndX4_runs rfl q2076 q2078 qs92 q137 q2079 (by decide +kernel) ⟨by decide, by decide⟩ (by decide) (by decide),
  k_ifeq (t := 212) dX4_beginsStep_58 (by decide),
  k_aload_n dX4_beginsStep_61,
  k_getR (C := RX4) (T := TX4) (N := 42) (ci := 2) (k := 6) (ref := "LinkTimesModel") dX4_beginsStep_62 rfl in_X4 (by decide) q1805 (Or.inl rfl) (fun _ _ _ => rfl),
  k_iload_n dX4_beginsStep_65,
  k_iconst dX4_beginsStep_66,
  k_callS (y2 := yX4_at) dX4_beginsStep_67 sndX4_at q2047 q2048 q137 q2049 (by decide +kernel) ⟨by decide, by decide⟩ (by decide) (by decide),
  k_iald dX4_beginsStep_70,
  k_iload_n dX4_beginsStep_71,
  k_cmpne (t := 212) dX4_beginsStep_72 (by decide),
  k_aload_n dX4_beginsStep_75,
  k_getR (C := RX4) (T := TX4) (N := 42) (ci := 2) (k := 23) (ref := "LinkTimesModel") dX4_beginsStep_76 rfl in_X4 (by decide) q1822 (Or.inl rfl) (fun _ _ _ => rfl),
  k_iload_n dX4_beginsStep_79,
  k_iald dX4_beginsStep_80,
  k_sipush dX4_beginsStep_81,
  k_cmpne (t := 90) dX4_beginsStep_84 (by decide),
  k_goto (t := 212) dX4_beginsStep_87 (by decide),
  k_aload_n dX4_beginsStep_90,
  k_iload_n dX4_beginsStep_91,
  k_callV (y2 := yX4_leavesAt) (C := RX4) (T0 := TX4) (ci := 2) dX4_beginsStep_92 sndX4_leavesAt rfl q2100 q2102 qs96 q137 q2103 (by decide +kernel) ⟨by decide, by decide⟩ (by decide) (by decide),
  k_aload_n dX4_beginsStep_95,
  k_iload_n dX4_beginsStep_96,
  k_callV (y2 := yX4_leavesAt) (C := RX4) (T0 := TX4) (ci := 2) dX4_beginsStep_97 sndX4_leavesAt rfl q2100 q2102 qs96 q137 q2103 (by decide +kernel) ⟨by decide, by decide⟩ (by decide) (by decide),
  k_cmplt (t := 122) dX4_beginsStep_100 (by decide),
  k_aload_n dX4_beginsStep_103,
  k_getR (C := RX4) (T := TX4) (N := 42) (ci := 2) (k := 23) (ref := "LinkTimesModel") dX4_beginsStep_104 rfl in_X4 (by decide) q1822 (Or.inl rfl) (fun _ _ _ => rfl),
  k_iload_n dX4_beginsStep_107,
  k_iald dX4_beginsStep_108,
  k_aload_n dX4_beginsStep_109,
  k_getR (C := RX4) (T := TX4) (N := 42) (ci := 2) (k := 23) (ref := "LinkTimesModel") dX4_beginsStep_110 rfl in_X4 (by decide) q1822 (Or.inl rfl) (fun _ _ _ => rfl),
  k_iload_n dX4_beginsStep_113,
  k_iald dX4_beginsStep_114,
  k_cmpgt (t := 122) dX4_beginsStep_115 (by decide),
  k_iconst dX4_beginsStep_118,
  k_goto (t := 123) dX4_beginsStep_119 (by decide),
  k_iconst dX4_beginsStep_122,
  k_istore dX4_beginsStep_123,
  k_aload_n dX4_beginsStep_125,
  k_iload_n dX4_beginsStep_126,
  k_callV (y2 := yX4_leavesAt) (C := RX4) (T0 := TX4) (ci := 2) dX4_beginsStep_127 sndX4_leavesAt rfl q2100 q2102 qs96 q137 q2103 (by decide +kernel) ⟨by decide, by decide⟩ (by decide) (by decide),
  k_aload_n dX4_beginsStep_130,
  k_iload_n dX4_beginsStep_131,
  k_callV (y2 := yX4_leavesAt) (C := RX4) (T0 := TX4) (ci := 2) dX4_beginsStep_132 sndX4_leavesAt rfl q2100 q2102 qs96 q137 q2103 (by decide +kernel) ⟨by decide, by decide⟩ (by decide) (by decide),
  k_cmpne (t := 157) dX4_beginsStep_135 (by decide),
  k_aload_n dX4_beginsStep_138,
  k_getR (C := RX4) (T := TX4) (N := 42) (ci := 2) (k := 23) (ref := "LinkTimesModel") dX4_beginsStep_139 rfl in_X4 (by decide) q1822 (Or.inl rfl) (fun _ _ _ => rfl),
  k_iload_n dX4_beginsStep_142,
  k_iald dX4_beginsStep_143,
  k_aload_n dX4_beginsStep_144,
  k_getR (C := RX4) (T := TX4) (N := 42) (ci := 2) (k := 23) (ref := "LinkTimesModel") dX4_beginsStep_145 rfl in_X4 (by decide) q1822 (Or.inl rfl) (fun _ _ _ => rfl),
  k_iload_n dX4_beginsStep_148,
  k_iald dX4_beginsStep_149,
  k_cmpne (t := 157) dX4_beginsStep_150 (by decide),
  k_iconst dX4_beginsStep_153,
  k_goto (t := 158) dX4_beginsStep_154 (by decide),
  k_iconst dX4_beginsStep_157,
  k_istore dX4_beginsStep_158,
  k_iload dX4_beginsStep_160,
  k_ifeq (t := 170) dX4_beginsStep_162 (by decide),
  k_iload dX4_beginsStep_165,
  k_ifeq (t := 210) dX4_beginsStep_167 (by decide),
  k_iload dX4_beginsStep_170,
  k_ifeq (t := 212) dX4_beginsStep_172 (by decide),
  k_aload_n dX4_beginsStep_175,
  k_getR (C := RX4) (T := TX4) (N := 42) (ci := 2) (k := 24) (ref := "LinkTimesModel") dX4_beginsStep_176 rfl in_X4 (by decide) q1823 (Or.inl rfl) (fun _ _ _ => rfl),
  k_iload_n dX4_beginsStep_179,
  k_iald dX4_beginsStep_180,
  k_aload_n dX4_beginsStep_181,
  k_getR (C := RX4) (T := TX4) (N := 42) (ci := 2) (k := 24) (ref := "LinkTimesModel") dX4_beginsStep_182 rfl in_X4 (by decide) q1823 (Or.inl rfl) (fun _ _ _ => rfl),
  k_iload_n dX4_beginsStep_185,
  k_iald dX4_beginsStep_186,
  k_cmplt (t := 210) dX4_beginsStep_187 (by decide),
  k_aload_n dX4_beginsStep_190,
  k_getR (C := RX4) (T := TX4) (N := 42) (ci := 2) (k := 24) (ref := "LinkTimesModel") dX4_beginsStep_191 rfl in_X4 (by decide) q1823 (Or.inl rfl) (fun _ _ _ => rfl),
  k_iload_n dX4_beginsStep_194,
  k_iald dX4_beginsStep_195,
  k_aload_n dX4_beginsStep_196,
  k_getR (C := RX4) (T := TX4) (N := 42) (ci := 2) (k := 24) (ref := "LinkTimesModel") dX4_beginsStep_197 rfl in_X4 (by decide) q1823 (Or.inl rfl) (fun _ _ _ => rfl),
  k_iload_n dX4_beginsStep_200,
  k_iald dX4_beginsStep_201,
  k_cmpne (t := 212) dX4_beginsStep_202 (by decide),
  k_iload_n dX4_beginsStep_205,
  k_iload_n dX4_beginsStep_206,
  k_cmpge (t := 212) dX4_beginsStep_207 (by decide),
  k_iconst dX4_beginsStep_210,
  k_zret dX4_beginsStep_211,
  k_iinc dX4_beginsStep_212,
  k_goto (t := 38) dX4_beginsStep_215 (by decide),
  k_iconst dX4_beginsStep_218,
  k_zret dX4_beginsStep_219, trivial⟩
theorem sndX4_beginsStep : MSound 3 yX4_beginsStep (ws_ yX4_beginsStep cX4_beginsStep 6 (some .boolean)) mX4_beginsStep := msound_M (by decide) allX4_beginsStep (fun _ _ => rfl)
/-! LinkTimesModel.laysSteps(II)V -/
noncomputable def kX4_laysSteps : ZM := ([(0, zi_ld 1 0 1), (1, zi_ld 0 2 2), (2, zi_callV mX4_laysGoal 18 2 5), (5, zi_ld 1 0 6), (6, zi_push (zvi 0) 7), (7, zi_putI 18 36 10), (10, zi_ld 1 0 11), (11, zi_getI 18 28 14), (14, zi_push (zvi 1) 15), (15, zi_bin (fun a b => w32 (a - b)) 16), (16, zi_st 0 3 17), (17, zi_ld 0 3 18), (18, zi_if (fun a => zc_lt a 0) 102 21), (21, zi_ld 1 0 22), (22, zi_getR 18 27 25), (25, zi_ld 0 3 26), (26, zi_ald 1 27), (27, zi_st 0 4 29), (29, zi_ld 1 0 30), (30, zi_ld 0 1 31), (31, zi_ld 0 4 33), (33, zi_callV mX4_beginsStep 18 3 36), (36, zi_if (fun a => zc_eq a 0) 96 39), (39, zi_ld 1 0 40), (40, zi_getR 18 33 43), (43, zi_ld 1 0 44), (44, zi_getI 18 36 47), (47, zi_ld 1 0 48), (48, zi_ld 0 4 50), (50, zi_callV mX4_leavesAt 18 2 53), (53, zi_ast 54), (54, zi_ld 1 0 55), (55, zi_getR 18 34 58), (58, zi_ld 1 0 59), (59, zi_getI 18 36 62), (62, zi_ld 1 0 63), (63, zi_getR 18 23 66), (66, zi_ld 0 4 68), (68, zi_ald 1 69), (69, zi_ast 70), (70, zi_ld 1 0 71), (71, zi_getR 18 35 74), (74, zi_ld 1 0 75), (75, zi_getI 18 36 78), (78, zi_ld 1 0 79), (79, zi_getR 18 24 82), (82, zi_ld 0 4 84), (84, zi_ald 1 85), (85, zi_ast 86), (86, zi_ld 1 0 87), (87, zi_dup 88), (88, zi_getI 18 36 91), (91, zi_push (zvi 1) 92), (92, zi_bin (fun a b => w32 (a + b)) 93), (93, zi_putI 18 36 96), (96, zi_iinc 3 (-1) 99), (99, zi_goto 17), (102, zi_ret)], fun _ _ => none)
noncomputable def mX4_laysSteps : ZF := zrunM kX4_laysSteps 5
theorem enX4_laysSteps (x0 : Option Nat) (x1 : Int) (x2 : Int) (h : PH) : mX4_laysSteps [zvr x0, zvi x1, zvi x2] h = zev kX4_laysSteps 0 [zvr x0, zvi x1, zvi x2, zvu, zvu] [] h := zrunM_eq rfl rfl
theorem hdX4_laysSteps_17 (x0 x1 x2 : ZV) (a : Int) (L st : List ZV) (h : PH) : zev kX4_laysSteps 17 (x0 :: x1 :: x2 :: zvi a :: L) st h = zev kX4_laysSteps 18 (x0 :: x1 :: x2 :: zvi a :: L) (zvi a :: st) h := e_ld3I (n := 18) rfl
theorem rX4_laysSteps : (∀ (a : Option Nat) (L st : List ZV) (h : PH), zev kX4_laysSteps 0 (zvr a :: L) st h = zev kX4_laysSteps 1 (zvr a :: L) (zvr a :: st) h) ∧
  (∀ (x0 x1 : ZV) (a : Int) (L st : List ZV) (h : PH), zev kX4_laysSteps 1 (x0 :: x1 :: zvi a :: L) st h = zev kX4_laysSteps 2 (x0 :: x1 :: zvi a :: L) (zvi a :: st) h) ∧
  (∀ (v0 : ZV) (q : Nat) (L st : List ZV) (h : PH), zev kX4_laysSteps 2 L (v0 :: zvr (some q) :: st) h = if (ph_K h q).1 % 1000 = 18 ∧ zcat st ≤ 8 then zk kX4_laysSteps 2 5 L st (mX4_laysGoal [zvr (some q), v0] h) else none) ∧
  (∀ (a : Option Nat) (L st : List ZV) (h : PH), zev kX4_laysSteps 5 (zvr a :: L) st h = zev kX4_laysSteps 6 (zvr a :: L) (zvr a :: st) h) ∧
  (∀ (L st : List ZV) (h : PH), zev kX4_laysSteps 6 L st h = zev kX4_laysSteps 7 L (zvi 0 :: st) h) ∧
  (∀ (a : Int) (q : Nat) (L st : List ZV) (h : PH), zev kX4_laysSteps 7 L (zvi a :: zvr (some q) :: st) h = if (ph_K h q).1 = 18 then zev kX4_laysSteps 10 L st (st_I h q 36 a) else none) ∧
  (∀ (a : Option Nat) (L st : List ZV) (h : PH), zev kX4_laysSteps 10 (zvr a :: L) st h = zev kX4_laysSteps 11 (zvr a :: L) (zvr a :: st) h) ∧
  (∀ (q : Nat) (L st : List ZV) (h : PH), zev kX4_laysSteps 11 L (zvr (some q) :: st) h = if (ph_K h q).1 % 1000 = 18 then zev kX4_laysSteps 14 L (zvi (ph_I h q 28) :: st) h else none) ∧
  (∀ (L st : List ZV) (h : PH), zev kX4_laysSteps 14 L st h = zev kX4_laysSteps 15 L (zvi 1 :: st) h) ∧
  (∀ (a b : Int) (L st : List ZV) (h : PH), zev kX4_laysSteps 15 L (zvi b :: zvi a :: st) h = zev kX4_laysSteps 16 L (zvi (w32 (a - b)) :: st) h) ∧
  (∀ (x0 x1 x2 x3 : ZV) (a : Int) (L st : List ZV) (h : PH) (hx : zisL x2 = false) , zev kX4_laysSteps 16 (x0 :: x1 :: x2 :: x3 :: L) (zvi a :: st) h = zev kX4_laysSteps 17 (x0 :: x1 :: x2 :: zvi a :: L) st h) ∧
  (∀ (a : Int) (L st : List ZV) (h : PH), zev kX4_laysSteps 18 L (zvi a :: st) h = if a < 0 then zev kX4_laysSteps 102 L st h else zev kX4_laysSteps 21 L st h) ∧
  (∀ (a : Option Nat) (L st : List ZV) (h : PH), zev kX4_laysSteps 21 (zvr a :: L) st h = zev kX4_laysSteps 22 (zvr a :: L) (zvr a :: st) h) ∧
  (∀ (q : Nat) (L st : List ZV) (h : PH), zev kX4_laysSteps 22 L (zvr (some q) :: st) h = if (ph_K h q).1 % 1000 = 18 then zev kX4_laysSteps 25 L (zvr (ph_R h q 27) :: st) h else none) ∧
  (∀ (x0 x1 x2 : ZV) (a : Int) (L st : List ZV) (h : PH), zev kX4_laysSteps 25 (x0 :: x1 :: x2 :: zvi a :: L) st h = zev kX4_laysSteps 26 (x0 :: x1 :: x2 :: zvi a :: L) (zvi a :: st) h) ∧
  (∀ (j : Int) (q : Nat) (L st : List ZV) (h : PH), zev kX4_laysSteps 26 L (zvi j :: zvr (some q) :: st) h = if (ph_K h q).1 % 1000 = 1 ∧ 0 ≤ j ∧ j < (ph_K h q).2 then zev kX4_laysSteps 27 L (zvi (ph_I h q j) :: st) h else none) ∧
  (∀ (x0 x1 x2 x3 x4 : ZV) (a : Int) (L st : List ZV) (h : PH) (hx : zisL x3 = false) , zev kX4_laysSteps 27 (x0 :: x1 :: x2 :: x3 :: x4 :: L) (zvi a :: st) h = zev kX4_laysSteps 29 (x0 :: x1 :: x2 :: x3 :: zvi a :: L) st h) ∧
  (∀ (a : Option Nat) (L st : List ZV) (h : PH), zev kX4_laysSteps 29 (zvr a :: L) st h = zev kX4_laysSteps 30 (zvr a :: L) (zvr a :: st) h) ∧
  (∀ (x0 : ZV) (a : Int) (L st : List ZV) (h : PH), zev kX4_laysSteps 30 (x0 :: zvi a :: L) st h = zev kX4_laysSteps 31 (x0 :: zvi a :: L) (zvi a :: st) h) ∧
  (∀ (x0 x1 x2 x3 : ZV) (a : Int) (L st : List ZV) (h : PH), zev kX4_laysSteps 31 (x0 :: x1 :: x2 :: x3 :: zvi a :: L) st h = zev kX4_laysSteps 33 (x0 :: x1 :: x2 :: x3 :: zvi a :: L) (zvi a :: st) h) ∧
  (∀ (v0 v1 : ZV) (q : Nat) (L st : List ZV) (h : PH), zev kX4_laysSteps 33 L (v1 :: v0 :: zvr (some q) :: st) h = if (ph_K h q).1 % 1000 = 18 ∧ zcat st ≤ 8 then zk kX4_laysSteps 33 36 L st (mX4_beginsStep [zvr (some q), v0, v1] h) else none) ∧
  (∀ (a : Int) (L st : List ZV) (h : PH), zev kX4_laysSteps 36 L (zvi a :: st) h = if a = 0 then zev kX4_laysSteps 96 L st h else zev kX4_laysSteps 39 L st h) ∧
  (∀ (a : Option Nat) (L st : List ZV) (h : PH), zev kX4_laysSteps 39 (zvr a :: L) st h = zev kX4_laysSteps 40 (zvr a :: L) (zvr a :: st) h) ∧
  (∀ (q : Nat) (L st : List ZV) (h : PH), zev kX4_laysSteps 40 L (zvr (some q) :: st) h = if (ph_K h q).1 % 1000 = 18 then zev kX4_laysSteps 43 L (zvr (ph_R h q 33) :: st) h else none) ∧
  (∀ (a : Option Nat) (L st : List ZV) (h : PH), zev kX4_laysSteps 43 (zvr a :: L) st h = zev kX4_laysSteps 44 (zvr a :: L) (zvr a :: st) h) ∧
  (∀ (q : Nat) (L st : List ZV) (h : PH), zev kX4_laysSteps 44 L (zvr (some q) :: st) h = if (ph_K h q).1 % 1000 = 18 then zev kX4_laysSteps 47 L (zvi (ph_I h q 36) :: st) h else none) ∧
  (∀ (a : Option Nat) (L st : List ZV) (h : PH), zev kX4_laysSteps 47 (zvr a :: L) st h = zev kX4_laysSteps 48 (zvr a :: L) (zvr a :: st) h) ∧
  (∀ (x0 x1 x2 x3 : ZV) (a : Int) (L st : List ZV) (h : PH), zev kX4_laysSteps 48 (x0 :: x1 :: x2 :: x3 :: zvi a :: L) st h = zev kX4_laysSteps 50 (x0 :: x1 :: x2 :: x3 :: zvi a :: L) (zvi a :: st) h) ∧
  (∀ (v0 : ZV) (q : Nat) (L st : List ZV) (h : PH), zev kX4_laysSteps 50 L (v0 :: zvr (some q) :: st) h = if (ph_K h q).1 % 1000 = 18 ∧ zcat st ≤ 8 then zk kX4_laysSteps 50 53 L st (mX4_leavesAt [zvr (some q), v0] h) else none) ∧
  (∀ (x j : Int) (q : Nat) (L st : List ZV) (h : PH), zev kX4_laysSteps 53 L (zvi x :: zvi j :: zvr (some q) :: st) h = if (ph_K h q).1 = 1 ∧ 0 ≤ j ∧ j < (ph_K h q).2 then zev kX4_laysSteps 54 L st (st_I h q j x) else none) ∧
  (∀ (a : Option Nat) (L st : List ZV) (h : PH), zev kX4_laysSteps 54 (zvr a :: L) st h = zev kX4_laysSteps 55 (zvr a :: L) (zvr a :: st) h) ∧
  (∀ (q : Nat) (L st : List ZV) (h : PH), zev kX4_laysSteps 55 L (zvr (some q) :: st) h = if (ph_K h q).1 % 1000 = 18 then zev kX4_laysSteps 58 L (zvr (ph_R h q 34) :: st) h else none) ∧
  (∀ (a : Option Nat) (L st : List ZV) (h : PH), zev kX4_laysSteps 58 (zvr a :: L) st h = zev kX4_laysSteps 59 (zvr a :: L) (zvr a :: st) h) ∧
  (∀ (q : Nat) (L st : List ZV) (h : PH), zev kX4_laysSteps 59 L (zvr (some q) :: st) h = if (ph_K h q).1 % 1000 = 18 then zev kX4_laysSteps 62 L (zvi (ph_I h q 36) :: st) h else none) ∧
  (∀ (a : Option Nat) (L st : List ZV) (h : PH), zev kX4_laysSteps 62 (zvr a :: L) st h = zev kX4_laysSteps 63 (zvr a :: L) (zvr a :: st) h) ∧
  (∀ (q : Nat) (L st : List ZV) (h : PH), zev kX4_laysSteps 63 L (zvr (some q) :: st) h = if (ph_K h q).1 % 1000 = 18 then zev kX4_laysSteps 66 L (zvr (ph_R h q 23) :: st) h else none) ∧
  (∀ (x0 x1 x2 x3 : ZV) (a : Int) (L st : List ZV) (h : PH), zev kX4_laysSteps 66 (x0 :: x1 :: x2 :: x3 :: zvi a :: L) st h = zev kX4_laysSteps 68 (x0 :: x1 :: x2 :: x3 :: zvi a :: L) (zvi a :: st) h) ∧
  (∀ (j : Int) (q : Nat) (L st : List ZV) (h : PH), zev kX4_laysSteps 68 L (zvi j :: zvr (some q) :: st) h = if (ph_K h q).1 % 1000 = 1 ∧ 0 ≤ j ∧ j < (ph_K h q).2 then zev kX4_laysSteps 69 L (zvi (ph_I h q j) :: st) h else none) ∧
  (∀ (x j : Int) (q : Nat) (L st : List ZV) (h : PH), zev kX4_laysSteps 69 L (zvi x :: zvi j :: zvr (some q) :: st) h = if (ph_K h q).1 = 1 ∧ 0 ≤ j ∧ j < (ph_K h q).2 then zev kX4_laysSteps 70 L st (st_I h q j x) else none) ∧
  (∀ (a : Option Nat) (L st : List ZV) (h : PH), zev kX4_laysSteps 70 (zvr a :: L) st h = zev kX4_laysSteps 71 (zvr a :: L) (zvr a :: st) h) ∧
  (∀ (q : Nat) (L st : List ZV) (h : PH), zev kX4_laysSteps 71 L (zvr (some q) :: st) h = if (ph_K h q).1 % 1000 = 18 then zev kX4_laysSteps 74 L (zvr (ph_R h q 35) :: st) h else none) ∧
  (∀ (a : Option Nat) (L st : List ZV) (h : PH), zev kX4_laysSteps 74 (zvr a :: L) st h = zev kX4_laysSteps 75 (zvr a :: L) (zvr a :: st) h) ∧
  (∀ (q : Nat) (L st : List ZV) (h : PH), zev kX4_laysSteps 75 L (zvr (some q) :: st) h = if (ph_K h q).1 % 1000 = 18 then zev kX4_laysSteps 78 L (zvi (ph_I h q 36) :: st) h else none) ∧
  (∀ (a : Option Nat) (L st : List ZV) (h : PH), zev kX4_laysSteps 78 (zvr a :: L) st h = zev kX4_laysSteps 79 (zvr a :: L) (zvr a :: st) h) ∧
  (∀ (q : Nat) (L st : List ZV) (h : PH), zev kX4_laysSteps 79 L (zvr (some q) :: st) h = if (ph_K h q).1 % 1000 = 18 then zev kX4_laysSteps 82 L (zvr (ph_R h q 24) :: st) h else none) ∧
  (∀ (x0 x1 x2 x3 : ZV) (a : Int) (L st : List ZV) (h : PH), zev kX4_laysSteps 82 (x0 :: x1 :: x2 :: x3 :: zvi a :: L) st h = zev kX4_laysSteps 84 (x0 :: x1 :: x2 :: x3 :: zvi a :: L) (zvi a :: st) h) ∧
  (∀ (j : Int) (q : Nat) (L st : List ZV) (h : PH), zev kX4_laysSteps 84 L (zvi j :: zvr (some q) :: st) h = if (ph_K h q).1 % 1000 = 1 ∧ 0 ≤ j ∧ j < (ph_K h q).2 then zev kX4_laysSteps 85 L (zvi (ph_I h q j) :: st) h else none) ∧
  (∀ (x j : Int) (q : Nat) (L st : List ZV) (h : PH), zev kX4_laysSteps 85 L (zvi x :: zvi j :: zvr (some q) :: st) h = if (ph_K h q).1 = 1 ∧ 0 ≤ j ∧ j < (ph_K h q).2 then zev kX4_laysSteps 86 L st (st_I h q j x) else none) ∧
  (∀ (a : Option Nat) (L st : List ZV) (h : PH), zev kX4_laysSteps 86 (zvr a :: L) st h = zev kX4_laysSteps 87 (zvr a :: L) (zvr a :: st) h) ∧
  (∀ (a : Int) (L st : List ZV) (h : PH), zev kX4_laysSteps 87 L (zvi a :: st) h = zev kX4_laysSteps 88 L (zvi a :: zvi a :: st) h) ∧
  (∀ (a : Option Nat) (L st : List ZV) (h : PH), zev kX4_laysSteps 87 L (zvr a :: st) h = zev kX4_laysSteps 88 L (zvr a :: zvr a :: st) h) ∧
  (∀ (q : Nat) (L st : List ZV) (h : PH), zev kX4_laysSteps 88 L (zvr (some q) :: st) h = if (ph_K h q).1 % 1000 = 18 then zev kX4_laysSteps 91 L (zvi (ph_I h q 36) :: st) h else none) ∧
  (∀ (L st : List ZV) (h : PH), zev kX4_laysSteps 91 L st h = zev kX4_laysSteps 92 L (zvi 1 :: st) h) ∧
  (∀ (a b : Int) (L st : List ZV) (h : PH), zev kX4_laysSteps 92 L (zvi b :: zvi a :: st) h = zev kX4_laysSteps 93 L (zvi (w32 (a + b)) :: st) h) ∧
  (∀ (a : Int) (q : Nat) (L st : List ZV) (h : PH), zev kX4_laysSteps 93 L (zvi a :: zvr (some q) :: st) h = if (ph_K h q).1 = 18 then zev kX4_laysSteps 96 L st (st_I h q 36 a) else none) ∧
  (∀ (x0 x1 x2 : ZV) (a : Int) (L st : List ZV) (h : PH) (hx : zisL x2 = false) , zev kX4_laysSteps 96 (x0 :: x1 :: x2 :: zvi a :: L) st h = zev kX4_laysSteps 99 (x0 :: x1 :: x2 :: zvi (w32 (a + (-1))) :: L) st h) ∧
  (∀ (L st : List ZV) (h : PH), zev kX4_laysSteps 99 L st h = zev kX4_laysSteps 17 L st h) ∧
  (∀ (L : List ZV) (h : PH), zev kX4_laysSteps 102 L [] h = zr0 h) :=
  ⟨fun a L st h => e_ld0R (n := 1) rfl,
  fun x0 x1 a L st h => e_ld2I (n := 2) rfl,
  fun v0 q L st h => e_callV2 (F := mX4_laysGoal) (kd := 18) (n := 5) rfl,
  fun a L st h => e_ld0R (n := 6) rfl,
  fun L st h => e_push (v := zvi 0) (n := 7) rfl,
  fun a q L st h => e_putI (kd := 18) (k := 36) (n := 10) rfl,
  fun a L st h => e_ld0R (n := 11) rfl,
  fun q L st h => e_getI (kd := 18) (k := 28) (n := 14) rfl,
  fun L st h => e_push (v := zvi 1) (n := 15) rfl,
  fun a b L st h => e_bin (f := (fun a b => w32 (a - b))) (n := 16) rfl,
  fun x0 x1 x2 x3 a L st h hx => e_st3I (n := 17) rfl hx,
  fun a L st h => e_iflt (t := 102) (n := 21) rfl,
  fun a L st h => e_ld0R (n := 22) rfl,
  fun q L st h => e_getR (kd := 18) (k := 27) (n := 25) rfl,
  fun x0 x1 x2 a L st h => e_ld3I (n := 26) rfl,
  fun j q L st h => e_ald (kd := 1) (n := 27) rfl,
  fun x0 x1 x2 x3 x4 a L st h hx => e_st4I (n := 29) rfl hx,
  fun a L st h => e_ld0R (n := 30) rfl,
  fun x0 a L st h => e_ld1I (n := 31) rfl,
  fun x0 x1 x2 x3 a L st h => e_ld4I (n := 33) rfl,
  fun v0 v1 q L st h => e_callV3 (F := mX4_beginsStep) (kd := 18) (n := 36) rfl,
  fun a L st h => e_ifeq (t := 96) (n := 39) rfl,
  fun a L st h => e_ld0R (n := 40) rfl,
  fun q L st h => e_getR (kd := 18) (k := 33) (n := 43) rfl,
  fun a L st h => e_ld0R (n := 44) rfl,
  fun q L st h => e_getI (kd := 18) (k := 36) (n := 47) rfl,
  fun a L st h => e_ld0R (n := 48) rfl,
  fun x0 x1 x2 x3 a L st h => e_ld4I (n := 50) rfl,
  fun v0 q L st h => e_callV2 (F := mX4_leavesAt) (kd := 18) (n := 53) rfl,
  fun x j q L st h => e_ast (n := 54) rfl,
  fun a L st h => e_ld0R (n := 55) rfl,
  fun q L st h => e_getR (kd := 18) (k := 34) (n := 58) rfl,
  fun a L st h => e_ld0R (n := 59) rfl,
  fun q L st h => e_getI (kd := 18) (k := 36) (n := 62) rfl,
  fun a L st h => e_ld0R (n := 63) rfl,
  fun q L st h => e_getR (kd := 18) (k := 23) (n := 66) rfl,
  fun x0 x1 x2 x3 a L st h => e_ld4I (n := 68) rfl,
  fun j q L st h => e_ald (kd := 1) (n := 69) rfl,
  fun x j q L st h => e_ast (n := 70) rfl,
  fun a L st h => e_ld0R (n := 71) rfl,
  fun q L st h => e_getR (kd := 18) (k := 35) (n := 74) rfl,
  fun a L st h => e_ld0R (n := 75) rfl,
  fun q L st h => e_getI (kd := 18) (k := 36) (n := 78) rfl,
  fun a L st h => e_ld0R (n := 79) rfl,
  fun q L st h => e_getR (kd := 18) (k := 24) (n := 82) rfl,
  fun x0 x1 x2 x3 a L st h => e_ld4I (n := 84) rfl,
  fun j q L st h => e_ald (kd := 1) (n := 85) rfl,
  fun x j q L st h => e_ast (n := 86) rfl,
  fun a L st h => e_ld0R (n := 87) rfl,
  fun a L st h => e_dupI (n := 88) rfl,
  fun a L st h => e_dupR (n := 88) rfl,
  fun q L st h => e_getI (kd := 18) (k := 36) (n := 91) rfl,
  fun L st h => e_push (v := zvi 1) (n := 92) rfl,
  fun a b L st h => e_bin (f := (fun a b => w32 (a + b))) (n := 93) rfl,
  fun a q L st h => e_putI (kd := 18) (k := 36) (n := 96) rfl,
  fun x0 x1 x2 a L st h hx => e_iinc3 (d := (-1)) (n := 99) rfl hx,
  fun L st h => e_goto (t := 17) rfl,
  fun L h => e_ret rfl⟩
theorem allX4_laysSteps : zall yX4_laysSteps cX4_laysSteps 5 none 7 kX4_laysSteps.1 :=
  ⟨k_aload_n dX4_laysSteps_0,
  k_iload_n dX4_laysSteps_1,
  k_callV (y2 := yX4_laysGoal) (C := RX4) (T0 := TX4) (ci := 2) dX4_laysSteps_2 sndX4_laysGoal rfl q2127 q2129 qs100 q137 q2130 (by decide +kernel) ⟨by decide, by decide⟩ (by decide) (by decide),
  k_aload_n dX4_laysSteps_5,
  k_iconst dX4_laysSteps_6,
  k_putI (C := RX4) (T := TX4) (N := 42) (ci := 2) (k := 36) (ref := "LinkTimesModel") dX4_laysSteps_7 rfl in_X4 tyX4 tyX4_ok nmX4 (by decide) (Or.inl q1835) (Or.inl rfl) (Or.inl rfl) (tyX4_ok 36 (by decide)) (fun _ _ _ => rfl),
  k_aload_n dX4_laysSteps_10,
  k_getI (C := RX4) (T := TX4) (N := 42) (ci := 2) (k := 28) (ref := "LinkTimesModel") dX4_laysSteps_11 rfl in_X4 (by decide) q1827 (Or.inl rfl) (fun _ _ _ => rfl),
  k_iconst dX4_laysSteps_14,
  k_isub dX4_laysSteps_15,
  k_istore_n dX4_laysSteps_16,
  k_iload_n dX4_laysSteps_17,
  k_iflt (t := 102) dX4_laysSteps_18 (by decide),
  k_aload_n dX4_laysSteps_21,
  k_getR (C := RX4) (T := TX4) (N := 42) (ci := 2) (k := 27) (ref := "LinkTimesModel") dX4_laysSteps_22 rfl in_X4 (by decide) q1826 (Or.inl rfl) (fun _ _ _ => rfl),
  k_iload_n dX4_laysSteps_25,
  k_iald dX4_laysSteps_26,
  k_istore dX4_laysSteps_27,
  k_aload_n dX4_laysSteps_29,
  k_iload_n dX4_laysSteps_30,
  k_iload dX4_laysSteps_31,
  k_callV (y2 := yX4_beginsStep) (C := RX4) (T0 := TX4) (ci := 2) dX4_laysSteps_33 sndX4_beginsStep rfl q2287 q2289 qs121 q137 q2290 (by decide +kernel) ⟨by decide, by decide⟩ (by decide) (by decide),
  k_ifeq (t := 96) dX4_laysSteps_36 (by decide),
  k_aload_n dX4_laysSteps_39,
  k_getR (C := RX4) (T := TX4) (N := 42) (ci := 2) (k := 33) (ref := "LinkTimesModel") dX4_laysSteps_40 rfl in_X4 (by decide) q1832 (Or.inl rfl) (fun _ _ _ => rfl),
  k_aload_n dX4_laysSteps_43,
  k_getI (C := RX4) (T := TX4) (N := 42) (ci := 2) (k := 36) (ref := "LinkTimesModel") dX4_laysSteps_44 rfl in_X4 (by decide) q1835 (Or.inl rfl) (fun _ _ _ => rfl),
  k_aload_n dX4_laysSteps_47,
  k_iload dX4_laysSteps_48,
  k_callV (y2 := yX4_leavesAt) (C := RX4) (T0 := TX4) (ci := 2) dX4_laysSteps_50 sndX4_leavesAt rfl q2100 q2102 qs96 q137 q2103 (by decide +kernel) ⟨by decide, by decide⟩ (by decide) (by decide),
  k_iast dX4_laysSteps_53,
  k_aload_n dX4_laysSteps_54,
  k_getR (C := RX4) (T := TX4) (N := 42) (ci := 2) (k := 34) (ref := "LinkTimesModel") dX4_laysSteps_55 rfl in_X4 (by decide) q1833 (Or.inl rfl) (fun _ _ _ => rfl),
  k_aload_n dX4_laysSteps_58,
  k_getI (C := RX4) (T := TX4) (N := 42) (ci := 2) (k := 36) (ref := "LinkTimesModel") dX4_laysSteps_59 rfl in_X4 (by decide) q1835 (Or.inl rfl) (fun _ _ _ => rfl),
  k_aload_n dX4_laysSteps_62,
  k_getR (C := RX4) (T := TX4) (N := 42) (ci := 2) (k := 23) (ref := "LinkTimesModel") dX4_laysSteps_63 rfl in_X4 (by decide) q1822 (Or.inl rfl) (fun _ _ _ => rfl),
  k_iload dX4_laysSteps_66,
  k_iald dX4_laysSteps_68,
  k_iast dX4_laysSteps_69,
  k_aload_n dX4_laysSteps_70,
  k_getR (C := RX4) (T := TX4) (N := 42) (ci := 2) (k := 35) (ref := "LinkTimesModel") dX4_laysSteps_71 rfl in_X4 (by decide) q1834 (Or.inl rfl) (fun _ _ _ => rfl),
  k_aload_n dX4_laysSteps_74,
  k_getI (C := RX4) (T := TX4) (N := 42) (ci := 2) (k := 36) (ref := "LinkTimesModel") dX4_laysSteps_75 rfl in_X4 (by decide) q1835 (Or.inl rfl) (fun _ _ _ => rfl),
  k_aload_n dX4_laysSteps_78,
  k_getR (C := RX4) (T := TX4) (N := 42) (ci := 2) (k := 24) (ref := "LinkTimesModel") dX4_laysSteps_79 rfl in_X4 (by decide) q1823 (Or.inl rfl) (fun _ _ _ => rfl),
  k_iload dX4_laysSteps_82,
  k_iald dX4_laysSteps_84,
  k_iast dX4_laysSteps_85,
  k_aload_n dX4_laysSteps_86,
  k_dup dX4_laysSteps_87,
  k_getI (C := RX4) (T := TX4) (N := 42) (ci := 2) (k := 36) (ref := "LinkTimesModel") dX4_laysSteps_88 rfl in_X4 (by decide) q1835 (Or.inl rfl) (fun _ _ _ => rfl),
  k_iconst dX4_laysSteps_91,
  k_iadd dX4_laysSteps_92,
  k_putI (C := RX4) (T := TX4) (N := 42) (ci := 2) (k := 36) (ref := "LinkTimesModel") dX4_laysSteps_93 rfl in_X4 tyX4 tyX4_ok nmX4 (by decide) (Or.inl q1835) (Or.inl rfl) (Or.inl rfl) (tyX4_ok 36 (by decide)) (fun _ _ _ => rfl),
  k_iinc dX4_laysSteps_96,
  k_goto (t := 17) dX4_laysSteps_99 (by decide),
  k_ret dX4_laysSteps_102, trivial⟩
theorem sndX4_laysSteps : MSound 7 yX4_laysSteps (ws_ yX4_laysSteps cX4_laysSteps 5 none) mX4_laysSteps := msound_M (by decide) allX4_laysSteps (fun _ _ => rfl)
/-! LinkTimesModel.steps(II)I -/
noncomputable def kX4_steps : ZM := ([(0, zi_ld 1 0 1), (1, zi_ld 1 0 2), (2, zi_ld 0 1 3), (3, zi_ld 0 2 4), (4, zi_callV mX4_areUnlike 18 3 7), (7, zi_callS mX4_unless 1 10), (10, zi_callV mX4_isRefused 18 2 13), (13, zi_if (fun a => zc_eq a 0) 18 16), (16, zi_push (zvi (-1)) 17), (17, zi_retv 0), (18, zi_ld 1 0 19), (19, zi_ld 0 1 20), (20, zi_ld 0 2 21), (21, zi_callV mX4_laysSteps 18 3 24), (24, zi_ld 1 0 25), (25, zi_getI 18 36 28), (28, zi_retv 0)], fun _ _ => none)
noncomputable def mX4_steps : ZF := zrunM kX4_steps 3
theorem enX4_steps (x0 : Option Nat) (x1 : Int) (x2 : Int) (h : PH) : mX4_steps [zvr x0, zvi x1, zvi x2] h = zev kX4_steps 0 [zvr x0, zvi x1, zvi x2] [] h := zrunM_eq rfl rfl
theorem rX4_steps : (∀ (a : Option Nat) (L st : List ZV) (h : PH), zev kX4_steps 0 (zvr a :: L) st h = zev kX4_steps 1 (zvr a :: L) (zvr a :: st) h) ∧
  (∀ (a : Option Nat) (L st : List ZV) (h : PH), zev kX4_steps 1 (zvr a :: L) st h = zev kX4_steps 2 (zvr a :: L) (zvr a :: st) h) ∧
  (∀ (x0 : ZV) (a : Int) (L st : List ZV) (h : PH), zev kX4_steps 2 (x0 :: zvi a :: L) st h = zev kX4_steps 3 (x0 :: zvi a :: L) (zvi a :: st) h) ∧
  (∀ (x0 x1 : ZV) (a : Int) (L st : List ZV) (h : PH), zev kX4_steps 3 (x0 :: x1 :: zvi a :: L) st h = zev kX4_steps 4 (x0 :: x1 :: zvi a :: L) (zvi a :: st) h) ∧
  (∀ (v0 v1 : ZV) (q : Nat) (L st : List ZV) (h : PH), zev kX4_steps 4 L (v1 :: v0 :: zvr (some q) :: st) h = if (ph_K h q).1 % 1000 = 18 ∧ zcat st ≤ 8 then zk kX4_steps 4 7 L st (mX4_areUnlike [zvr (some q), v0, v1] h) else none) ∧
  (∀ (v0 : ZV) (L st : List ZV) (h : PH), zev kX4_steps 7 L (v0 :: st) h = if zcat st ≤ 8 then zk kX4_steps 7 10 L st (mX4_unless [v0] h) else none) ∧
  (∀ (v0 : ZV) (q : Nat) (L st : List ZV) (h : PH), zev kX4_steps 10 L (v0 :: zvr (some q) :: st) h = if (ph_K h q).1 % 1000 = 18 ∧ zcat st ≤ 8 then zk kX4_steps 10 13 L st (mX4_isRefused [zvr (some q), v0] h) else none) ∧
  (∀ (a : Int) (L st : List ZV) (h : PH), zev kX4_steps 13 L (zvi a :: st) h = if a = 0 then zev kX4_steps 18 L st h else zev kX4_steps 16 L st h) ∧
  (∀ (L st : List ZV) (h : PH), zev kX4_steps 16 L st h = zev kX4_steps 17 L (zvi (-1) :: st) h) ∧
  (∀ (a : Int) (L : List ZV) (h : PH), zev kX4_steps 17 L [zvi a] h = zrv (zvi a) h) ∧
  (∀ (a : Option Nat) (L st : List ZV) (h : PH), zev kX4_steps 18 (zvr a :: L) st h = zev kX4_steps 19 (zvr a :: L) (zvr a :: st) h) ∧
  (∀ (x0 : ZV) (a : Int) (L st : List ZV) (h : PH), zev kX4_steps 19 (x0 :: zvi a :: L) st h = zev kX4_steps 20 (x0 :: zvi a :: L) (zvi a :: st) h) ∧
  (∀ (x0 x1 : ZV) (a : Int) (L st : List ZV) (h : PH), zev kX4_steps 20 (x0 :: x1 :: zvi a :: L) st h = zev kX4_steps 21 (x0 :: x1 :: zvi a :: L) (zvi a :: st) h) ∧
  (∀ (v0 v1 : ZV) (q : Nat) (L st : List ZV) (h : PH), zev kX4_steps 21 L (v1 :: v0 :: zvr (some q) :: st) h = if (ph_K h q).1 % 1000 = 18 ∧ zcat st ≤ 8 then zk kX4_steps 21 24 L st (mX4_laysSteps [zvr (some q), v0, v1] h) else none) ∧
  (∀ (a : Option Nat) (L st : List ZV) (h : PH), zev kX4_steps 24 (zvr a :: L) st h = zev kX4_steps 25 (zvr a :: L) (zvr a :: st) h) ∧
  (∀ (q : Nat) (L st : List ZV) (h : PH), zev kX4_steps 25 L (zvr (some q) :: st) h = if (ph_K h q).1 % 1000 = 18 then zev kX4_steps 28 L (zvi (ph_I h q 36) :: st) h else none) ∧
  (∀ (a : Int) (L : List ZV) (h : PH), zev kX4_steps 28 L [zvi a] h = zrv (zvi a) h) :=
  ⟨fun a L st h => e_ld0R (n := 1) rfl,
  fun a L st h => e_ld0R (n := 2) rfl,
  fun x0 a L st h => e_ld1I (n := 3) rfl,
  fun x0 x1 a L st h => e_ld2I (n := 4) rfl,
  fun v0 v1 q L st h => e_callV3 (F := mX4_areUnlike) (kd := 18) (n := 7) rfl,
  fun v0 L st h => e_callS1 (F := mX4_unless) (n := 10) rfl,
  fun v0 q L st h => e_callV2 (F := mX4_isRefused) (kd := 18) (n := 13) rfl,
  fun a L st h => e_ifeq (t := 18) (n := 16) rfl,
  fun L st h => e_push (v := zvi (-1)) (n := 17) rfl,
  fun a L h => e_retI rfl,
  fun a L st h => e_ld0R (n := 19) rfl,
  fun x0 a L st h => e_ld1I (n := 20) rfl,
  fun x0 x1 a L st h => e_ld2I (n := 21) rfl,
  fun v0 v1 q L st h => e_callV3 (F := mX4_laysSteps) (kd := 18) (n := 24) rfl,
  fun a L st h => e_ld0R (n := 25) rfl,
  fun q L st h => e_getI (kd := 18) (k := 36) (n := 28) rfl,
  fun a L h => e_retI rfl⟩
theorem allX4_steps : zall yX4_steps cX4_steps 3 (some .int) 8 kX4_steps.1 :=
  ⟨k_aload_n dX4_steps_0,
  k_aload_n dX4_steps_1,
  k_iload_n dX4_steps_2,
  k_iload_n dX4_steps_3,
  k_callV (y2 := yX4_areUnlike) (C := RX4) (T0 := TX4) (ci := 2) dX4_steps_4 sndX4_areUnlike rfl q2239 q2241 qs114 q137 q2242 (by decide +kernel) ⟨by decide, by decide⟩ (by decide) (by decide),
  k_callS (y2 := yX4_unless) dX4_steps_7 sndX4_unless q2069 q2070 q137 q2071 (by decide +kernel) ⟨by decide, by decide⟩ (by decide) (by decide),
  k_callV (y2 := yX4_isRefused) (C := RX4) (T0 := TX4) (ci := 2) dX4_steps_10 sndX4_isRefused rfl q1946 q1948 qs70 q137 q1949 (by decide +kernel) ⟨by decide, by decide⟩ (by decide) (by decide),
  k_ifeq (t := 18) dX4_steps_13 (by decide),
  k_iconst dX4_steps_16,
  k_iret dX4_steps_17,
  k_aload_n dX4_steps_18,
  k_iload_n dX4_steps_19,
  k_iload_n dX4_steps_20,
  k_callV (y2 := yX4_laysSteps) (C := RX4) (T0 := TX4) (ci := 2) dX4_steps_21 sndX4_laysSteps rfl q2283 q2285 qs120 q137 q2286 (by decide +kernel) ⟨by decide, by decide⟩ (by decide) (by decide),
  k_aload_n dX4_steps_24,
  k_getI (C := RX4) (T := TX4) (N := 42) (ci := 2) (k := 36) (ref := "LinkTimesModel") dX4_steps_25 rfl in_X4 (by decide) q1835 (Or.inl rfl) (fun _ _ _ => rfl),
  k_iret dX4_steps_28, trivial⟩
theorem sndX4_steps : MSound 8 yX4_steps (ws_ yX4_steps cX4_steps 3 (some .int)) mX4_steps := msound_M (by decide) allX4_steps (fun _ _ => rfl)
/-! LinkTimesModel.step(IIII)I -/
noncomputable def kX4_step : ZM := ([(0, zi_ld 1 0 1), (1, zi_ld 1 0 2), (2, zi_ld 0 1 3), (3, zi_ld 0 2 4), (4, zi_callV mX4_areUnlike 18 3 7), (7, zi_if (fun a => zc_eq a 0) 24 10), (10, zi_ld 0 4 12), (12, zi_push (zvi 0) 13), (13, zi_push (zvi 2) 14), (14, zi_callS mX4_in 3 17), (17, zi_if (fun a => zc_eq a 0) 24 20), (20, zi_push (zvi 1) 21), (21, zi_goto 25), (24, zi_push (zvi 0) 25), (25, zi_callS mX4_unless 1 28), (28, zi_callV mX4_isRefused 18 2 31), (31, zi_if (fun a => zc_eq a 0) 36 34), (34, zi_push (zvi (-1)) 35), (35, zi_retv 0), (36, zi_ld 1 0 37), (37, zi_ld 0 1 38), (38, zi_ld 0 2 39), (39, zi_callV mX4_laysSteps 18 3 42), (42, zi_ld 0 3 43), (43, zi_push (zvi 0) 44), (44, zi_ld 1 0 45), (45, zi_getI 18 36 48), (48, zi_push (zvi 1) 49), (49, zi_bin (fun a b => w32 (a - b)) 50), (50, zi_callS mX4_in 3 53), (53, zi_if (fun a => zc_ne a 0) 62 56), (56, zi_ld 1 0 57), (57, zi_push (zvi 1) 58), (58, zi_callV mX4_no 18 2 61), (61, zi_retv 0), (62, zi_ld 0 4 64), (64, zi_if (fun a => zc_ne a 0) 76 67), (67, zi_ld 1 0 68), (68, zi_getR 18 33 71), (71, zi_ld 0 3 72), (72, zi_ald 1 73), (73, zi_goto 97), (76, zi_ld 0 4 78), (78, zi_push (zvi 1) 79), (79, zi_cmp zc_ne 91 82), (82, zi_ld 1 0 83), (83, zi_getR 18 34 86), (86, zi_ld 0 3 87), (87, zi_ald 1 88), (88, zi_goto 97), (91, zi_ld 1 0 92), (92, zi_getR 18 35 95), (95, zi_ld 0 3 96), (96, zi_ald 1 97), (97, zi_retv 0)], fun _ _ => none)
noncomputable def mX4_step : ZF := zrunM kX4_step 5
theorem enX4_step (x0 : Option Nat) (x1 : Int) (x2 : Int) (x3 : Int) (x4 : Int) (h : PH) : mX4_step [zvr x0, zvi x1, zvi x2, zvi x3, zvi x4] h = zev kX4_step 0 [zvr x0, zvi x1, zvi x2, zvi x3, zvi x4] [] h := zrunM_eq rfl rfl
theorem rX4_step : (∀ (a : Option Nat) (L st : List ZV) (h : PH), zev kX4_step 0 (zvr a :: L) st h = zev kX4_step 1 (zvr a :: L) (zvr a :: st) h) ∧
  (∀ (a : Option Nat) (L st : List ZV) (h : PH), zev kX4_step 1 (zvr a :: L) st h = zev kX4_step 2 (zvr a :: L) (zvr a :: st) h) ∧
  (∀ (x0 : ZV) (a : Int) (L st : List ZV) (h : PH), zev kX4_step 2 (x0 :: zvi a :: L) st h = zev kX4_step 3 (x0 :: zvi a :: L) (zvi a :: st) h) ∧
  (∀ (x0 x1 : ZV) (a : Int) (L st : List ZV) (h : PH), zev kX4_step 3 (x0 :: x1 :: zvi a :: L) st h = zev kX4_step 4 (x0 :: x1 :: zvi a :: L) (zvi a :: st) h) ∧
  (∀ (v0 v1 : ZV) (q : Nat) (L st : List ZV) (h : PH), zev kX4_step 4 L (v1 :: v0 :: zvr (some q) :: st) h = if (ph_K h q).1 % 1000 = 18 ∧ zcat st ≤ 8 then zk kX4_step 4 7 L st (mX4_areUnlike [zvr (some q), v0, v1] h) else none) ∧
  (∀ (a : Int) (L st : List ZV) (h : PH), zev kX4_step 7 L (zvi a :: st) h = if a = 0 then zev kX4_step 24 L st h else zev kX4_step 10 L st h) ∧
  (∀ (x0 x1 x2 x3 : ZV) (a : Int) (L st : List ZV) (h : PH), zev kX4_step 10 (x0 :: x1 :: x2 :: x3 :: zvi a :: L) st h = zev kX4_step 12 (x0 :: x1 :: x2 :: x3 :: zvi a :: L) (zvi a :: st) h) ∧
  (∀ (L st : List ZV) (h : PH), zev kX4_step 12 L st h = zev kX4_step 13 L (zvi 0 :: st) h) ∧
  (∀ (L st : List ZV) (h : PH), zev kX4_step 13 L st h = zev kX4_step 14 L (zvi 2 :: st) h) ∧
  (∀ (v0 v1 v2 : ZV) (L st : List ZV) (h : PH), zev kX4_step 14 L (v2 :: v1 :: v0 :: st) h = if zcat st ≤ 8 then zk kX4_step 14 17 L st (mX4_in [v0, v1, v2] h) else none) ∧
  (∀ (a : Int) (L st : List ZV) (h : PH), zev kX4_step 17 L (zvi a :: st) h = if a = 0 then zev kX4_step 24 L st h else zev kX4_step 20 L st h) ∧
  (∀ (L st : List ZV) (h : PH), zev kX4_step 20 L st h = zev kX4_step 21 L (zvi 1 :: st) h) ∧
  (∀ (L st : List ZV) (h : PH), zev kX4_step 21 L st h = zev kX4_step 25 L st h) ∧
  (∀ (L st : List ZV) (h : PH), zev kX4_step 24 L st h = zev kX4_step 25 L (zvi 0 :: st) h) ∧
  (∀ (v0 : ZV) (L st : List ZV) (h : PH), zev kX4_step 25 L (v0 :: st) h = if zcat st ≤ 8 then zk kX4_step 25 28 L st (mX4_unless [v0] h) else none) ∧
  (∀ (v0 : ZV) (q : Nat) (L st : List ZV) (h : PH), zev kX4_step 28 L (v0 :: zvr (some q) :: st) h = if (ph_K h q).1 % 1000 = 18 ∧ zcat st ≤ 8 then zk kX4_step 28 31 L st (mX4_isRefused [zvr (some q), v0] h) else none) ∧
  (∀ (a : Int) (L st : List ZV) (h : PH), zev kX4_step 31 L (zvi a :: st) h = if a = 0 then zev kX4_step 36 L st h else zev kX4_step 34 L st h) ∧
  (∀ (L st : List ZV) (h : PH), zev kX4_step 34 L st h = zev kX4_step 35 L (zvi (-1) :: st) h) ∧
  (∀ (a : Int) (L : List ZV) (h : PH), zev kX4_step 35 L [zvi a] h = zrv (zvi a) h) ∧
  (∀ (a : Option Nat) (L st : List ZV) (h : PH), zev kX4_step 36 (zvr a :: L) st h = zev kX4_step 37 (zvr a :: L) (zvr a :: st) h) ∧
  (∀ (x0 : ZV) (a : Int) (L st : List ZV) (h : PH), zev kX4_step 37 (x0 :: zvi a :: L) st h = zev kX4_step 38 (x0 :: zvi a :: L) (zvi a :: st) h) ∧
  (∀ (x0 x1 : ZV) (a : Int) (L st : List ZV) (h : PH), zev kX4_step 38 (x0 :: x1 :: zvi a :: L) st h = zev kX4_step 39 (x0 :: x1 :: zvi a :: L) (zvi a :: st) h) ∧
  (∀ (v0 v1 : ZV) (q : Nat) (L st : List ZV) (h : PH), zev kX4_step 39 L (v1 :: v0 :: zvr (some q) :: st) h = if (ph_K h q).1 % 1000 = 18 ∧ zcat st ≤ 8 then zk kX4_step 39 42 L st (mX4_laysSteps [zvr (some q), v0, v1] h) else none) ∧
  (∀ (x0 x1 x2 : ZV) (a : Int) (L st : List ZV) (h : PH), zev kX4_step 42 (x0 :: x1 :: x2 :: zvi a :: L) st h = zev kX4_step 43 (x0 :: x1 :: x2 :: zvi a :: L) (zvi a :: st) h) ∧
  (∀ (L st : List ZV) (h : PH), zev kX4_step 43 L st h = zev kX4_step 44 L (zvi 0 :: st) h) ∧
  (∀ (a : Option Nat) (L st : List ZV) (h : PH), zev kX4_step 44 (zvr a :: L) st h = zev kX4_step 45 (zvr a :: L) (zvr a :: st) h) ∧
  (∀ (q : Nat) (L st : List ZV) (h : PH), zev kX4_step 45 L (zvr (some q) :: st) h = if (ph_K h q).1 % 1000 = 18 then zev kX4_step 48 L (zvi (ph_I h q 36) :: st) h else none) ∧
  (∀ (L st : List ZV) (h : PH), zev kX4_step 48 L st h = zev kX4_step 49 L (zvi 1 :: st) h) ∧
  (∀ (a b : Int) (L st : List ZV) (h : PH), zev kX4_step 49 L (zvi b :: zvi a :: st) h = zev kX4_step 50 L (zvi (w32 (a - b)) :: st) h) ∧
  (∀ (v0 v1 v2 : ZV) (L st : List ZV) (h : PH), zev kX4_step 50 L (v2 :: v1 :: v0 :: st) h = if zcat st ≤ 8 then zk kX4_step 50 53 L st (mX4_in [v0, v1, v2] h) else none) ∧
  (∀ (a : Int) (L st : List ZV) (h : PH), zev kX4_step 53 L (zvi a :: st) h = if a ≠ 0 then zev kX4_step 62 L st h else zev kX4_step 56 L st h) ∧
  (∀ (a : Option Nat) (L st : List ZV) (h : PH), zev kX4_step 56 (zvr a :: L) st h = zev kX4_step 57 (zvr a :: L) (zvr a :: st) h) ∧
  (∀ (L st : List ZV) (h : PH), zev kX4_step 57 L st h = zev kX4_step 58 L (zvi 1 :: st) h) ∧
  (∀ (v0 : ZV) (q : Nat) (L st : List ZV) (h : PH), zev kX4_step 58 L (v0 :: zvr (some q) :: st) h = if (ph_K h q).1 % 1000 = 18 ∧ zcat st ≤ 8 then zk kX4_step 58 61 L st (mX4_no [zvr (some q), v0] h) else none) ∧
  (∀ (a : Int) (L : List ZV) (h : PH), zev kX4_step 61 L [zvi a] h = zrv (zvi a) h) ∧
  (∀ (x0 x1 x2 x3 : ZV) (a : Int) (L st : List ZV) (h : PH), zev kX4_step 62 (x0 :: x1 :: x2 :: x3 :: zvi a :: L) st h = zev kX4_step 64 (x0 :: x1 :: x2 :: x3 :: zvi a :: L) (zvi a :: st) h) ∧
  (∀ (a : Int) (L st : List ZV) (h : PH), zev kX4_step 64 L (zvi a :: st) h = if a ≠ 0 then zev kX4_step 76 L st h else zev kX4_step 67 L st h) ∧
  (∀ (a : Option Nat) (L st : List ZV) (h : PH), zev kX4_step 67 (zvr a :: L) st h = zev kX4_step 68 (zvr a :: L) (zvr a :: st) h) ∧
  (∀ (q : Nat) (L st : List ZV) (h : PH), zev kX4_step 68 L (zvr (some q) :: st) h = if (ph_K h q).1 % 1000 = 18 then zev kX4_step 71 L (zvr (ph_R h q 33) :: st) h else none) ∧
  (∀ (x0 x1 x2 : ZV) (a : Int) (L st : List ZV) (h : PH), zev kX4_step 71 (x0 :: x1 :: x2 :: zvi a :: L) st h = zev kX4_step 72 (x0 :: x1 :: x2 :: zvi a :: L) (zvi a :: st) h) ∧
  (∀ (j : Int) (q : Nat) (L st : List ZV) (h : PH), zev kX4_step 72 L (zvi j :: zvr (some q) :: st) h = if (ph_K h q).1 % 1000 = 1 ∧ 0 ≤ j ∧ j < (ph_K h q).2 then zev kX4_step 73 L (zvi (ph_I h q j) :: st) h else none) ∧
  (∀ (L st : List ZV) (h : PH), zev kX4_step 73 L st h = zev kX4_step 97 L st h) ∧
  (∀ (x0 x1 x2 x3 : ZV) (a : Int) (L st : List ZV) (h : PH), zev kX4_step 76 (x0 :: x1 :: x2 :: x3 :: zvi a :: L) st h = zev kX4_step 78 (x0 :: x1 :: x2 :: x3 :: zvi a :: L) (zvi a :: st) h) ∧
  (∀ (L st : List ZV) (h : PH), zev kX4_step 78 L st h = zev kX4_step 79 L (zvi 1 :: st) h) ∧
  (∀ (a b : Int) (L st : List ZV) (h : PH), zev kX4_step 79 L (zvi b :: zvi a :: st) h = if a ≠ b then zev kX4_step 91 L st h else zev kX4_step 82 L st h) ∧
  (∀ (a : Option Nat) (L st : List ZV) (h : PH), zev kX4_step 82 (zvr a :: L) st h = zev kX4_step 83 (zvr a :: L) (zvr a :: st) h) ∧
  (∀ (q : Nat) (L st : List ZV) (h : PH), zev kX4_step 83 L (zvr (some q) :: st) h = if (ph_K h q).1 % 1000 = 18 then zev kX4_step 86 L (zvr (ph_R h q 34) :: st) h else none) ∧
  (∀ (x0 x1 x2 : ZV) (a : Int) (L st : List ZV) (h : PH), zev kX4_step 86 (x0 :: x1 :: x2 :: zvi a :: L) st h = zev kX4_step 87 (x0 :: x1 :: x2 :: zvi a :: L) (zvi a :: st) h) ∧
  (∀ (j : Int) (q : Nat) (L st : List ZV) (h : PH), zev kX4_step 87 L (zvi j :: zvr (some q) :: st) h = if (ph_K h q).1 % 1000 = 1 ∧ 0 ≤ j ∧ j < (ph_K h q).2 then zev kX4_step 88 L (zvi (ph_I h q j) :: st) h else none) ∧
  (∀ (L st : List ZV) (h : PH), zev kX4_step 88 L st h = zev kX4_step 97 L st h) ∧
  (∀ (a : Option Nat) (L st : List ZV) (h : PH), zev kX4_step 91 (zvr a :: L) st h = zev kX4_step 92 (zvr a :: L) (zvr a :: st) h) ∧
  (∀ (q : Nat) (L st : List ZV) (h : PH), zev kX4_step 92 L (zvr (some q) :: st) h = if (ph_K h q).1 % 1000 = 18 then zev kX4_step 95 L (zvr (ph_R h q 35) :: st) h else none) ∧
  (∀ (x0 x1 x2 : ZV) (a : Int) (L st : List ZV) (h : PH), zev kX4_step 95 (x0 :: x1 :: x2 :: zvi a :: L) st h = zev kX4_step 96 (x0 :: x1 :: x2 :: zvi a :: L) (zvi a :: st) h) ∧
  (∀ (j : Int) (q : Nat) (L st : List ZV) (h : PH), zev kX4_step 96 L (zvi j :: zvr (some q) :: st) h = if (ph_K h q).1 % 1000 = 1 ∧ 0 ≤ j ∧ j < (ph_K h q).2 then zev kX4_step 97 L (zvi (ph_I h q j) :: st) h else none) ∧
  (∀ (a : Int) (L : List ZV) (h : PH), zev kX4_step 97 L [zvi a] h = zrv (zvi a) h) :=
  ⟨fun a L st h => e_ld0R (n := 1) rfl,
  fun a L st h => e_ld0R (n := 2) rfl,
  fun x0 a L st h => e_ld1I (n := 3) rfl,
  fun x0 x1 a L st h => e_ld2I (n := 4) rfl,
  fun v0 v1 q L st h => e_callV3 (F := mX4_areUnlike) (kd := 18) (n := 7) rfl,
  fun a L st h => e_ifeq (t := 24) (n := 10) rfl,
  fun x0 x1 x2 x3 a L st h => e_ld4I (n := 12) rfl,
  fun L st h => e_push (v := zvi 0) (n := 13) rfl,
  fun L st h => e_push (v := zvi 2) (n := 14) rfl,
  fun v0 v1 v2 L st h => e_callS3 (F := mX4_in) (n := 17) rfl,
  fun a L st h => e_ifeq (t := 24) (n := 20) rfl,
  fun L st h => e_push (v := zvi 1) (n := 21) rfl,
  fun L st h => e_goto (t := 25) rfl,
  fun L st h => e_push (v := zvi 0) (n := 25) rfl,
  fun v0 L st h => e_callS1 (F := mX4_unless) (n := 28) rfl,
  fun v0 q L st h => e_callV2 (F := mX4_isRefused) (kd := 18) (n := 31) rfl,
  fun a L st h => e_ifeq (t := 36) (n := 34) rfl,
  fun L st h => e_push (v := zvi (-1)) (n := 35) rfl,
  fun a L h => e_retI rfl,
  fun a L st h => e_ld0R (n := 37) rfl,
  fun x0 a L st h => e_ld1I (n := 38) rfl,
  fun x0 x1 a L st h => e_ld2I (n := 39) rfl,
  fun v0 v1 q L st h => e_callV3 (F := mX4_laysSteps) (kd := 18) (n := 42) rfl,
  fun x0 x1 x2 a L st h => e_ld3I (n := 43) rfl,
  fun L st h => e_push (v := zvi 0) (n := 44) rfl,
  fun a L st h => e_ld0R (n := 45) rfl,
  fun q L st h => e_getI (kd := 18) (k := 36) (n := 48) rfl,
  fun L st h => e_push (v := zvi 1) (n := 49) rfl,
  fun a b L st h => e_bin (f := (fun a b => w32 (a - b))) (n := 50) rfl,
  fun v0 v1 v2 L st h => e_callS3 (F := mX4_in) (n := 53) rfl,
  fun a L st h => e_ifne (t := 62) (n := 56) rfl,
  fun a L st h => e_ld0R (n := 57) rfl,
  fun L st h => e_push (v := zvi 1) (n := 58) rfl,
  fun v0 q L st h => e_callV2 (F := mX4_no) (kd := 18) (n := 61) rfl,
  fun a L h => e_retI rfl,
  fun x0 x1 x2 x3 a L st h => e_ld4I (n := 64) rfl,
  fun a L st h => e_ifne (t := 76) (n := 67) rfl,
  fun a L st h => e_ld0R (n := 68) rfl,
  fun q L st h => e_getR (kd := 18) (k := 33) (n := 71) rfl,
  fun x0 x1 x2 a L st h => e_ld3I (n := 72) rfl,
  fun j q L st h => e_ald (kd := 1) (n := 73) rfl,
  fun L st h => e_goto (t := 97) rfl,
  fun x0 x1 x2 x3 a L st h => e_ld4I (n := 78) rfl,
  fun L st h => e_push (v := zvi 1) (n := 79) rfl,
  fun a b L st h => e_cmpne (t := 91) (n := 82) rfl,
  fun a L st h => e_ld0R (n := 83) rfl,
  fun q L st h => e_getR (kd := 18) (k := 34) (n := 86) rfl,
  fun x0 x1 x2 a L st h => e_ld3I (n := 87) rfl,
  fun j q L st h => e_ald (kd := 1) (n := 88) rfl,
  fun L st h => e_goto (t := 97) rfl,
  fun a L st h => e_ld0R (n := 92) rfl,
  fun q L st h => e_getR (kd := 18) (k := 35) (n := 95) rfl,
  fun x0 x1 x2 a L st h => e_ld3I (n := 96) rfl,
  fun j q L st h => e_ald (kd := 1) (n := 97) rfl,
  fun a L h => e_retI rfl⟩
theorem allX4_step : zall yX4_step cX4_step 5 (some .int) 8 kX4_step.1 :=
  ⟨k_aload_n dX4_step_0,
  k_aload_n dX4_step_1,
  k_iload_n dX4_step_2,
  k_iload_n dX4_step_3,
  k_callV (y2 := yX4_areUnlike) (C := RX4) (T0 := TX4) (ci := 2) dX4_step_4 sndX4_areUnlike rfl q2239 q2241 qs114 q137 q2242 (by decide +kernel) ⟨by decide, by decide⟩ (by decide) (by decide),
  k_ifeq (t := 24) dX4_step_7 (by decide),
  k_iload dX4_step_10,
  k_iconst dX4_step_12,
  k_iconst dX4_step_13,
  k_callS (y2 := yX4_in) dX4_step_14 sndX4_in q1943 q1944 q137 q1945 (by decide +kernel) ⟨by decide, by decide⟩ (by decide) (by decide),
  k_ifeq (t := 24) dX4_step_17 (by decide),
  k_iconst dX4_step_20,
  k_goto (t := 25) dX4_step_21 (by decide),
  k_iconst dX4_step_24,
  k_callS (y2 := yX4_unless) dX4_step_25 sndX4_unless q2069 q2070 q137 q2071 (by decide +kernel) ⟨by decide, by decide⟩ (by decide) (by decide),
  k_callV (y2 := yX4_isRefused) (C := RX4) (T0 := TX4) (ci := 2) dX4_step_28 sndX4_isRefused rfl q1946 q1948 qs70 q137 q1949 (by decide +kernel) ⟨by decide, by decide⟩ (by decide) (by decide),
  k_ifeq (t := 36) dX4_step_31 (by decide),
  k_iconst dX4_step_34,
  k_iret dX4_step_35,
  k_aload_n dX4_step_36,
  k_iload_n dX4_step_37,
  k_iload_n dX4_step_38,
  k_callV (y2 := yX4_laysSteps) (C := RX4) (T0 := TX4) (ci := 2) dX4_step_39 sndX4_laysSteps rfl q2283 q2285 qs120 q137 q2286 (by decide +kernel) ⟨by decide, by decide⟩ (by decide) (by decide),
  k_iload_n dX4_step_42,
  k_iconst dX4_step_43,
  k_aload_n dX4_step_44,
  k_getI (C := RX4) (T := TX4) (N := 42) (ci := 2) (k := 36) (ref := "LinkTimesModel") dX4_step_45 rfl in_X4 (by decide) q1835 (Or.inl rfl) (fun _ _ _ => rfl),
  k_iconst dX4_step_48,
  k_isub dX4_step_49,
  k_callS (y2 := yX4_in) dX4_step_50 sndX4_in q1943 q1944 q137 q1945 (by decide +kernel) ⟨by decide, by decide⟩ (by decide) (by decide),
  k_ifne (t := 62) dX4_step_53 (by decide),
  k_aload_n dX4_step_56,
  k_iconst dX4_step_57,
  k_callV (y2 := yX4_no) (C := RX4) (T0 := TX4) (ci := 2) dX4_step_58 sndX4_no rfl q2050 q2052 qs90 q137 q2053 (by decide +kernel) ⟨by decide, by decide⟩ (by decide) (by decide),
  k_iret dX4_step_61,
  k_iload dX4_step_62,
  k_ifne (t := 76) dX4_step_64 (by decide),
  k_aload_n dX4_step_67,
  k_getR (C := RX4) (T := TX4) (N := 42) (ci := 2) (k := 33) (ref := "LinkTimesModel") dX4_step_68 rfl in_X4 (by decide) q1832 (Or.inl rfl) (fun _ _ _ => rfl),
  k_iload_n dX4_step_71,
  k_iald dX4_step_72,
  k_goto (t := 97) dX4_step_73 (by decide),
  k_iload dX4_step_76,
  k_iconst dX4_step_78,
  k_cmpne (t := 91) dX4_step_79 (by decide),
  k_aload_n dX4_step_82,
  k_getR (C := RX4) (T := TX4) (N := 42) (ci := 2) (k := 34) (ref := "LinkTimesModel") dX4_step_83 rfl in_X4 (by decide) q1833 (Or.inl rfl) (fun _ _ _ => rfl),
  k_iload_n dX4_step_86,
  k_iald dX4_step_87,
  k_goto (t := 97) dX4_step_88 (by decide),
  k_aload_n dX4_step_91,
  k_getR (C := RX4) (T := TX4) (N := 42) (ci := 2) (k := 35) (ref := "LinkTimesModel") dX4_step_92 rfl in_X4 (by decide) q1834 (Or.inl rfl) (fun _ _ _ => rfl),
  k_iload_n dX4_step_95,
  k_iald dX4_step_96,
  k_iret dX4_step_97, trivial⟩
theorem sndX4_step : MSound 8 yX4_step (ws_ yX4_step cX4_step 5 (some .int)) mX4_step := msound_M (by decide) allX4_step (fun _ _ => rfl)
/-! LinkTimesModel.quickest(II)I -/
noncomputable def kX4_quickest : ZM := ([(0, zi_ld 1 0 1), (1, zi_ld 1 0 2), (2, zi_ld 0 1 3), (3, zi_ld 0 2 4), (4, zi_callV mX4_areUnlike 18 3 7), (7, zi_callS mX4_unless 1 10), (10, zi_callV mX4_isRefused 18 2 13), (13, zi_if (fun a => zc_eq a 0) 18 16), (16, zi_push (zvi (-1)) 17), (17, zi_retv 0), (18, zi_ld 1 0 19), (19, zi_ld 0 1 20), (20, zi_ld 0 2 21), (21, zi_callV mX4_laysSteps 18 3 24), (24, zi_push (zvi (-2)) 26), (26, zi_st 0 3 27), (27, zi_push (zvi 0) 28), (28, zi_st 0 4 30), (30, zi_ld 0 4 32), (32, zi_ld 1 0 33), (33, zi_getI 18 36 36), (36, zi_cmp zc_ge 81 39), (39, zi_ld 1 0 40), (40, zi_getR 18 34 43), (43, zi_ld 0 4 45), (45, zi_ald 1 46), (46, zi_ld 1 0 47), (47, zi_getR 18 33 50), (50, zi_ld 0 4 52), (52, zi_ald 1 53), (53, zi_bin (fun a b => w32 (a - b)) 54), (54, zi_st 0 5 56), (56, zi_ld 0 3 57), (57, zi_push (zvi (-2)) 59), (59, zi_cmp zc_eq 68 62), (62, zi_ld 0 5 64), (64, zi_ld 0 3 65), (65, zi_cmp zc_ge 73 68), (68, zi_ld 0 5 70), (70, zi_goto 74), (73, zi_ld 0 3 74), (74, zi_st 0 3 75), (75, zi_iinc 4 1 78), (78, zi_goto 30), (81, zi_ld 0 3 82), (82, zi_retv 0)], fun _ _ => none)
noncomputable def mX4_quickest : ZF := zrunM kX4_quickest 6
theorem enX4_quickest (x0 : Option Nat) (x1 : Int) (x2 : Int) (h : PH) : mX4_quickest [zvr x0, zvi x1, zvi x2] h = zev kX4_quickest 0 [zvr x0, zvi x1, zvi x2, zvu, zvu, zvu] [] h := zrunM_eq rfl rfl
theorem hdX4_quickest_30 (x0 x1 x2 x3 : ZV) (a : Int) (L st : List ZV) (h : PH) : zev kX4_quickest 30 (x0 :: x1 :: x2 :: x3 :: zvi a :: L) st h = zev kX4_quickest 32 (x0 :: x1 :: x2 :: x3 :: zvi a :: L) (zvi a :: st) h := e_ld4I (n := 32) rfl
theorem rX4_quickest : (∀ (a : Option Nat) (L st : List ZV) (h : PH), zev kX4_quickest 0 (zvr a :: L) st h = zev kX4_quickest 1 (zvr a :: L) (zvr a :: st) h) ∧
  (∀ (a : Option Nat) (L st : List ZV) (h : PH), zev kX4_quickest 1 (zvr a :: L) st h = zev kX4_quickest 2 (zvr a :: L) (zvr a :: st) h) ∧
  (∀ (x0 : ZV) (a : Int) (L st : List ZV) (h : PH), zev kX4_quickest 2 (x0 :: zvi a :: L) st h = zev kX4_quickest 3 (x0 :: zvi a :: L) (zvi a :: st) h) ∧
  (∀ (x0 x1 : ZV) (a : Int) (L st : List ZV) (h : PH), zev kX4_quickest 3 (x0 :: x1 :: zvi a :: L) st h = zev kX4_quickest 4 (x0 :: x1 :: zvi a :: L) (zvi a :: st) h) ∧
  (∀ (v0 v1 : ZV) (q : Nat) (L st : List ZV) (h : PH), zev kX4_quickest 4 L (v1 :: v0 :: zvr (some q) :: st) h = if (ph_K h q).1 % 1000 = 18 ∧ zcat st ≤ 8 then zk kX4_quickest 4 7 L st (mX4_areUnlike [zvr (some q), v0, v1] h) else none) ∧
  (∀ (v0 : ZV) (L st : List ZV) (h : PH), zev kX4_quickest 7 L (v0 :: st) h = if zcat st ≤ 8 then zk kX4_quickest 7 10 L st (mX4_unless [v0] h) else none) ∧
  (∀ (v0 : ZV) (q : Nat) (L st : List ZV) (h : PH), zev kX4_quickest 10 L (v0 :: zvr (some q) :: st) h = if (ph_K h q).1 % 1000 = 18 ∧ zcat st ≤ 8 then zk kX4_quickest 10 13 L st (mX4_isRefused [zvr (some q), v0] h) else none) ∧
  (∀ (a : Int) (L st : List ZV) (h : PH), zev kX4_quickest 13 L (zvi a :: st) h = if a = 0 then zev kX4_quickest 18 L st h else zev kX4_quickest 16 L st h) ∧
  (∀ (L st : List ZV) (h : PH), zev kX4_quickest 16 L st h = zev kX4_quickest 17 L (zvi (-1) :: st) h) ∧
  (∀ (a : Int) (L : List ZV) (h : PH), zev kX4_quickest 17 L [zvi a] h = zrv (zvi a) h) ∧
  (∀ (a : Option Nat) (L st : List ZV) (h : PH), zev kX4_quickest 18 (zvr a :: L) st h = zev kX4_quickest 19 (zvr a :: L) (zvr a :: st) h) ∧
  (∀ (x0 : ZV) (a : Int) (L st : List ZV) (h : PH), zev kX4_quickest 19 (x0 :: zvi a :: L) st h = zev kX4_quickest 20 (x0 :: zvi a :: L) (zvi a :: st) h) ∧
  (∀ (x0 x1 : ZV) (a : Int) (L st : List ZV) (h : PH), zev kX4_quickest 20 (x0 :: x1 :: zvi a :: L) st h = zev kX4_quickest 21 (x0 :: x1 :: zvi a :: L) (zvi a :: st) h) ∧
  (∀ (v0 v1 : ZV) (q : Nat) (L st : List ZV) (h : PH), zev kX4_quickest 21 L (v1 :: v0 :: zvr (some q) :: st) h = if (ph_K h q).1 % 1000 = 18 ∧ zcat st ≤ 8 then zk kX4_quickest 21 24 L st (mX4_laysSteps [zvr (some q), v0, v1] h) else none) ∧
  (∀ (L st : List ZV) (h : PH), zev kX4_quickest 24 L st h = zev kX4_quickest 26 L (zvi (-2) :: st) h) ∧
  (∀ (x0 x1 x2 x3 : ZV) (a : Int) (L st : List ZV) (h : PH) (hx : zisL x2 = false) , zev kX4_quickest 26 (x0 :: x1 :: x2 :: x3 :: L) (zvi a :: st) h = zev kX4_quickest 27 (x0 :: x1 :: x2 :: zvi a :: L) st h) ∧
  (∀ (L st : List ZV) (h : PH), zev kX4_quickest 27 L st h = zev kX4_quickest 28 L (zvi 0 :: st) h) ∧
  (∀ (x0 x1 x2 x3 x4 : ZV) (a : Int) (L st : List ZV) (h : PH) (hx : zisL x3 = false) , zev kX4_quickest 28 (x0 :: x1 :: x2 :: x3 :: x4 :: L) (zvi a :: st) h = zev kX4_quickest 30 (x0 :: x1 :: x2 :: x3 :: zvi a :: L) st h) ∧
  (∀ (a : Option Nat) (L st : List ZV) (h : PH), zev kX4_quickest 32 (zvr a :: L) st h = zev kX4_quickest 33 (zvr a :: L) (zvr a :: st) h) ∧
  (∀ (q : Nat) (L st : List ZV) (h : PH), zev kX4_quickest 33 L (zvr (some q) :: st) h = if (ph_K h q).1 % 1000 = 18 then zev kX4_quickest 36 L (zvi (ph_I h q 36) :: st) h else none) ∧
  (∀ (a b : Int) (L st : List ZV) (h : PH), zev kX4_quickest 36 L (zvi b :: zvi a :: st) h = if a ≥ b then zev kX4_quickest 81 L st h else zev kX4_quickest 39 L st h) ∧
  (∀ (a : Option Nat) (L st : List ZV) (h : PH), zev kX4_quickest 39 (zvr a :: L) st h = zev kX4_quickest 40 (zvr a :: L) (zvr a :: st) h) ∧
  (∀ (q : Nat) (L st : List ZV) (h : PH), zev kX4_quickest 40 L (zvr (some q) :: st) h = if (ph_K h q).1 % 1000 = 18 then zev kX4_quickest 43 L (zvr (ph_R h q 34) :: st) h else none) ∧
  (∀ (x0 x1 x2 x3 : ZV) (a : Int) (L st : List ZV) (h : PH), zev kX4_quickest 43 (x0 :: x1 :: x2 :: x3 :: zvi a :: L) st h = zev kX4_quickest 45 (x0 :: x1 :: x2 :: x3 :: zvi a :: L) (zvi a :: st) h) ∧
  (∀ (j : Int) (q : Nat) (L st : List ZV) (h : PH), zev kX4_quickest 45 L (zvi j :: zvr (some q) :: st) h = if (ph_K h q).1 % 1000 = 1 ∧ 0 ≤ j ∧ j < (ph_K h q).2 then zev kX4_quickest 46 L (zvi (ph_I h q j) :: st) h else none) ∧
  (∀ (a : Option Nat) (L st : List ZV) (h : PH), zev kX4_quickest 46 (zvr a :: L) st h = zev kX4_quickest 47 (zvr a :: L) (zvr a :: st) h) ∧
  (∀ (q : Nat) (L st : List ZV) (h : PH), zev kX4_quickest 47 L (zvr (some q) :: st) h = if (ph_K h q).1 % 1000 = 18 then zev kX4_quickest 50 L (zvr (ph_R h q 33) :: st) h else none) ∧
  (∀ (x0 x1 x2 x3 : ZV) (a : Int) (L st : List ZV) (h : PH), zev kX4_quickest 50 (x0 :: x1 :: x2 :: x3 :: zvi a :: L) st h = zev kX4_quickest 52 (x0 :: x1 :: x2 :: x3 :: zvi a :: L) (zvi a :: st) h) ∧
  (∀ (j : Int) (q : Nat) (L st : List ZV) (h : PH), zev kX4_quickest 52 L (zvi j :: zvr (some q) :: st) h = if (ph_K h q).1 % 1000 = 1 ∧ 0 ≤ j ∧ j < (ph_K h q).2 then zev kX4_quickest 53 L (zvi (ph_I h q j) :: st) h else none) ∧
  (∀ (a b : Int) (L st : List ZV) (h : PH), zev kX4_quickest 53 L (zvi b :: zvi a :: st) h = zev kX4_quickest 54 L (zvi (w32 (a - b)) :: st) h) ∧
  (∀ (x0 x1 x2 x3 x4 x5 : ZV) (a : Int) (L st : List ZV) (h : PH) (hx : zisL x4 = false) , zev kX4_quickest 54 (x0 :: x1 :: x2 :: x3 :: x4 :: x5 :: L) (zvi a :: st) h = zev kX4_quickest 56 (x0 :: x1 :: x2 :: x3 :: x4 :: zvi a :: L) st h) ∧
  (∀ (x0 x1 x2 : ZV) (a : Int) (L st : List ZV) (h : PH), zev kX4_quickest 56 (x0 :: x1 :: x2 :: zvi a :: L) st h = zev kX4_quickest 57 (x0 :: x1 :: x2 :: zvi a :: L) (zvi a :: st) h) ∧
  (∀ (L st : List ZV) (h : PH), zev kX4_quickest 57 L st h = zev kX4_quickest 59 L (zvi (-2) :: st) h) ∧
  (∀ (a b : Int) (L st : List ZV) (h : PH), zev kX4_quickest 59 L (zvi b :: zvi a :: st) h = if a = b then zev kX4_quickest 68 L st h else zev kX4_quickest 62 L st h) ∧
  (∀ (x0 x1 x2 x3 x4 : ZV) (a : Int) (L st : List ZV) (h : PH), zev kX4_quickest 62 (x0 :: x1 :: x2 :: x3 :: x4 :: zvi a :: L) st h = zev kX4_quickest 64 (x0 :: x1 :: x2 :: x3 :: x4 :: zvi a :: L) (zvi a :: st) h) ∧
  (∀ (x0 x1 x2 : ZV) (a : Int) (L st : List ZV) (h : PH), zev kX4_quickest 64 (x0 :: x1 :: x2 :: zvi a :: L) st h = zev kX4_quickest 65 (x0 :: x1 :: x2 :: zvi a :: L) (zvi a :: st) h) ∧
  (∀ (a b : Int) (L st : List ZV) (h : PH), zev kX4_quickest 65 L (zvi b :: zvi a :: st) h = if a ≥ b then zev kX4_quickest 73 L st h else zev kX4_quickest 68 L st h) ∧
  (∀ (x0 x1 x2 x3 x4 : ZV) (a : Int) (L st : List ZV) (h : PH), zev kX4_quickest 68 (x0 :: x1 :: x2 :: x3 :: x4 :: zvi a :: L) st h = zev kX4_quickest 70 (x0 :: x1 :: x2 :: x3 :: x4 :: zvi a :: L) (zvi a :: st) h) ∧
  (∀ (L st : List ZV) (h : PH), zev kX4_quickest 70 L st h = zev kX4_quickest 74 L st h) ∧
  (∀ (x0 x1 x2 : ZV) (a : Int) (L st : List ZV) (h : PH), zev kX4_quickest 73 (x0 :: x1 :: x2 :: zvi a :: L) st h = zev kX4_quickest 74 (x0 :: x1 :: x2 :: zvi a :: L) (zvi a :: st) h) ∧
  (∀ (x0 x1 x2 x3 : ZV) (a : Int) (L st : List ZV) (h : PH) (hx : zisL x2 = false) , zev kX4_quickest 74 (x0 :: x1 :: x2 :: x3 :: L) (zvi a :: st) h = zev kX4_quickest 75 (x0 :: x1 :: x2 :: zvi a :: L) st h) ∧
  (∀ (x0 x1 x2 x3 : ZV) (a : Int) (L st : List ZV) (h : PH) (hx : zisL x3 = false) , zev kX4_quickest 75 (x0 :: x1 :: x2 :: x3 :: zvi a :: L) st h = zev kX4_quickest 78 (x0 :: x1 :: x2 :: x3 :: zvi (w32 (a + 1)) :: L) st h) ∧
  (∀ (L st : List ZV) (h : PH), zev kX4_quickest 78 L st h = zev kX4_quickest 30 L st h) ∧
  (∀ (x0 x1 x2 : ZV) (a : Int) (L st : List ZV) (h : PH), zev kX4_quickest 81 (x0 :: x1 :: x2 :: zvi a :: L) st h = zev kX4_quickest 82 (x0 :: x1 :: x2 :: zvi a :: L) (zvi a :: st) h) ∧
  (∀ (a : Int) (L : List ZV) (h : PH), zev kX4_quickest 82 L [zvi a] h = zrv (zvi a) h) :=
  ⟨fun a L st h => e_ld0R (n := 1) rfl,
  fun a L st h => e_ld0R (n := 2) rfl,
  fun x0 a L st h => e_ld1I (n := 3) rfl,
  fun x0 x1 a L st h => e_ld2I (n := 4) rfl,
  fun v0 v1 q L st h => e_callV3 (F := mX4_areUnlike) (kd := 18) (n := 7) rfl,
  fun v0 L st h => e_callS1 (F := mX4_unless) (n := 10) rfl,
  fun v0 q L st h => e_callV2 (F := mX4_isRefused) (kd := 18) (n := 13) rfl,
  fun a L st h => e_ifeq (t := 18) (n := 16) rfl,
  fun L st h => e_push (v := zvi (-1)) (n := 17) rfl,
  fun a L h => e_retI rfl,
  fun a L st h => e_ld0R (n := 19) rfl,
  fun x0 a L st h => e_ld1I (n := 20) rfl,
  fun x0 x1 a L st h => e_ld2I (n := 21) rfl,
  fun v0 v1 q L st h => e_callV3 (F := mX4_laysSteps) (kd := 18) (n := 24) rfl,
  fun L st h => e_push (v := zvi (-2)) (n := 26) rfl,
  fun x0 x1 x2 x3 a L st h hx => e_st3I (n := 27) rfl hx,
  fun L st h => e_push (v := zvi 0) (n := 28) rfl,
  fun x0 x1 x2 x3 x4 a L st h hx => e_st4I (n := 30) rfl hx,
  fun a L st h => e_ld0R (n := 33) rfl,
  fun q L st h => e_getI (kd := 18) (k := 36) (n := 36) rfl,
  fun a b L st h => e_cmpge (t := 81) (n := 39) rfl,
  fun a L st h => e_ld0R (n := 40) rfl,
  fun q L st h => e_getR (kd := 18) (k := 34) (n := 43) rfl,
  fun x0 x1 x2 x3 a L st h => e_ld4I (n := 45) rfl,
  fun j q L st h => e_ald (kd := 1) (n := 46) rfl,
  fun a L st h => e_ld0R (n := 47) rfl,
  fun q L st h => e_getR (kd := 18) (k := 33) (n := 50) rfl,
  fun x0 x1 x2 x3 a L st h => e_ld4I (n := 52) rfl,
  fun j q L st h => e_ald (kd := 1) (n := 53) rfl,
  fun a b L st h => e_bin (f := (fun a b => w32 (a - b))) (n := 54) rfl,
  fun x0 x1 x2 x3 x4 x5 a L st h hx => e_st5I (n := 56) rfl hx,
  fun x0 x1 x2 a L st h => e_ld3I (n := 57) rfl,
  fun L st h => e_push (v := zvi (-2)) (n := 59) rfl,
  fun a b L st h => e_cmpeq (t := 68) (n := 62) rfl,
  fun x0 x1 x2 x3 x4 a L st h => e_ld5I (n := 64) rfl,
  fun x0 x1 x2 a L st h => e_ld3I (n := 65) rfl,
  fun a b L st h => e_cmpge (t := 73) (n := 68) rfl,
  fun x0 x1 x2 x3 x4 a L st h => e_ld5I (n := 70) rfl,
  fun L st h => e_goto (t := 74) rfl,
  fun x0 x1 x2 a L st h => e_ld3I (n := 74) rfl,
  fun x0 x1 x2 x3 a L st h hx => e_st3I (n := 75) rfl hx,
  fun x0 x1 x2 x3 a L st h hx => e_iinc4 (d := 1) (n := 78) rfl hx,
  fun L st h => e_goto (t := 30) rfl,
  fun x0 x1 x2 a L st h => e_ld3I (n := 82) rfl,
  fun a L h => e_retI rfl⟩
theorem allX4_quickest : zall yX4_quickest cX4_quickest 6 (some .int) 8 kX4_quickest.1 :=
  ⟨k_aload_n dX4_quickest_0,
  k_aload_n dX4_quickest_1,
  k_iload_n dX4_quickest_2,
  k_iload_n dX4_quickest_3,
  k_callV (y2 := yX4_areUnlike) (C := RX4) (T0 := TX4) (ci := 2) dX4_quickest_4 sndX4_areUnlike rfl q2239 q2241 qs114 q137 q2242 (by decide +kernel) ⟨by decide, by decide⟩ (by decide) (by decide),
  k_callS (y2 := yX4_unless) dX4_quickest_7 sndX4_unless q2069 q2070 q137 q2071 (by decide +kernel) ⟨by decide, by decide⟩ (by decide) (by decide),
  k_callV (y2 := yX4_isRefused) (C := RX4) (T0 := TX4) (ci := 2) dX4_quickest_10 sndX4_isRefused rfl q1946 q1948 qs70 q137 q1949 (by decide +kernel) ⟨by decide, by decide⟩ (by decide) (by decide),
  k_ifeq (t := 18) dX4_quickest_13 (by decide),
  k_iconst dX4_quickest_16,
  k_iret dX4_quickest_17,
  k_aload_n dX4_quickest_18,
  k_iload_n dX4_quickest_19,
  k_iload_n dX4_quickest_20,
  k_callV (y2 := yX4_laysSteps) (C := RX4) (T0 := TX4) (ci := 2) dX4_quickest_21 sndX4_laysSteps rfl q2283 q2285 qs120 q137 q2286 (by decide +kernel) ⟨by decide, by decide⟩ (by decide) (by decide),
  k_bipush dX4_quickest_24,
  k_istore_n dX4_quickest_26,
  k_iconst dX4_quickest_27,
  k_istore dX4_quickest_28,
  k_iload dX4_quickest_30,
  k_aload_n dX4_quickest_32,
  k_getI (C := RX4) (T := TX4) (N := 42) (ci := 2) (k := 36) (ref := "LinkTimesModel") dX4_quickest_33 rfl in_X4 (by decide) q1835 (Or.inl rfl) (fun _ _ _ => rfl),
  k_cmpge (t := 81) dX4_quickest_36 (by decide),
  k_aload_n dX4_quickest_39,
  k_getR (C := RX4) (T := TX4) (N := 42) (ci := 2) (k := 34) (ref := "LinkTimesModel") dX4_quickest_40 rfl in_X4 (by decide) q1833 (Or.inl rfl) (fun _ _ _ => rfl),
  k_iload dX4_quickest_43,
  k_iald dX4_quickest_45,
  k_aload_n dX4_quickest_46,
  k_getR (C := RX4) (T := TX4) (N := 42) (ci := 2) (k := 33) (ref := "LinkTimesModel") dX4_quickest_47 rfl in_X4 (by decide) q1832 (Or.inl rfl) (fun _ _ _ => rfl),
  k_iload dX4_quickest_50,
  k_iald dX4_quickest_52,
  k_isub dX4_quickest_53,
  k_istore dX4_quickest_54,
  k_iload_n dX4_quickest_56,
  k_bipush dX4_quickest_57,
  k_cmpeq (t := 68) dX4_quickest_59 (by decide),
  k_iload dX4_quickest_62,
  k_iload_n dX4_quickest_64,
  k_cmpge (t := 73) dX4_quickest_65 (by decide),
  k_iload dX4_quickest_68,
  k_goto (t := 74) dX4_quickest_70 (by decide),
  k_iload_n dX4_quickest_73,
  k_istore_n dX4_quickest_74,
  k_iinc dX4_quickest_75,
  k_goto (t := 30) dX4_quickest_78 (by decide),
  k_iload_n dX4_quickest_81,
  k_iret dX4_quickest_82, trivial⟩
theorem sndX4_quickest : MSound 8 yX4_quickest (ws_ yX4_quickest cX4_quickest 6 (some .int)) mX4_quickest := msound_M (by decide) allX4_quickest (fun _ _ => rfl)
/-! LinkTimesModel.spent(IIII)I -/
noncomputable def kX4_spent : ZM := ([(0, zi_ld 1 0 1), (1, zi_ld 1 0 2), (2, zi_ld 0 1 3), (3, zi_ld 0 2 4), (4, zi_callV mX4_areUnlike 18 3 7), (7, zi_ld 0 3 8), (8, zi_push (zvi 0) 9), (9, zi_push (zvi 1999) 12), (12, zi_callS mX4_in 3 15), (15, zi_if (fun a => zc_eq a 0) 34 18), (18, zi_ld 0 4 20), (20, zi_ld 0 3 21), (21, zi_push (zvi 1999) 24), (24, zi_callS mX4_in 3 27), (27, zi_if (fun a => zc_eq a 0) 34 30), (30, zi_push (zvi 1) 31), (31, zi_goto 35), (34, zi_push (zvi 0) 35), (35, zi_callS mX4_unless_2 2 38), (38, zi_callV mX4_isRefused 18 2 41), (41, zi_if (fun a => zc_eq a 0) 46 44), (44, zi_push (zvi (-1)) 45), (45, zi_retv 0), (46, zi_ld 1 0 47), (47, zi_ld 0 2 48), (48, zi_callV mX4_laysGoal 18 2 51), (51, zi_push (zvi 0) 52), (52, zi_st 0 5 54), (54, zi_ld 0 3 55), (55, zi_st 0 6 57), (57, zi_ld 0 6 59), (59, zi_ld 0 4 61), (61, zi_cmp zc_gt 103 64), (64, zi_ld 1 0 65), (65, zi_ld 0 1 66), (66, zi_ld 0 6 68), (68, zi_callV mX4_firstOf 18 3 71), (71, zi_st 0 7 73), (73, zi_ld 0 7 75), (75, zi_push (zvi (-1)) 76), (76, zi_cmp zc_ne 82 79), (79, zi_push (zvi (-2)) 81), (81, zi_retv 0), (82, zi_ld 0 5 84), (84, zi_ld 1 0 85), (85, zi_getR 18 23 88), (88, zi_ld 0 7 90), (90, zi_ald 1 91), (91, zi_ld 0 6 93), (93, zi_bin (fun a b => w32 (a - b)) 94), (94, zi_bin (fun a b => w32 (a + b)) 95), (95, zi_st 0 5 97), (97, zi_iinc 6 1 100), (100, zi_goto 57), (103, zi_ld 0 5 105), (105, zi_retv 0)], fun _ _ => none)
noncomputable def mX4_spent : ZF := zrunM kX4_spent 8
theorem enX4_spent (x0 : Option Nat) (x1 : Int) (x2 : Int) (x3 : Int) (x4 : Int) (h : PH) : mX4_spent [zvr x0, zvi x1, zvi x2, zvi x3, zvi x4] h = zev kX4_spent 0 [zvr x0, zvi x1, zvi x2, zvi x3, zvi x4, zvu, zvu, zvu] [] h := zrunM_eq rfl rfl
theorem hdX4_spent_57 (x0 x1 x2 x3 x4 x5 : ZV) (a : Int) (L st : List ZV) (h : PH) : zev kX4_spent 57 (x0 :: x1 :: x2 :: x3 :: x4 :: x5 :: zvi a :: L) st h = zev kX4_spent 59 (x0 :: x1 :: x2 :: x3 :: x4 :: x5 :: zvi a :: L) (zvi a :: st) h := e_ld6I (n := 59) rfl
theorem rX4_spent : (∀ (a : Option Nat) (L st : List ZV) (h : PH), zev kX4_spent 0 (zvr a :: L) st h = zev kX4_spent 1 (zvr a :: L) (zvr a :: st) h) ∧
  (∀ (a : Option Nat) (L st : List ZV) (h : PH), zev kX4_spent 1 (zvr a :: L) st h = zev kX4_spent 2 (zvr a :: L) (zvr a :: st) h) ∧
  (∀ (x0 : ZV) (a : Int) (L st : List ZV) (h : PH), zev kX4_spent 2 (x0 :: zvi a :: L) st h = zev kX4_spent 3 (x0 :: zvi a :: L) (zvi a :: st) h) ∧
  (∀ (x0 x1 : ZV) (a : Int) (L st : List ZV) (h : PH), zev kX4_spent 3 (x0 :: x1 :: zvi a :: L) st h = zev kX4_spent 4 (x0 :: x1 :: zvi a :: L) (zvi a :: st) h) ∧
  (∀ (v0 v1 : ZV) (q : Nat) (L st : List ZV) (h : PH), zev kX4_spent 4 L (v1 :: v0 :: zvr (some q) :: st) h = if (ph_K h q).1 % 1000 = 18 ∧ zcat st ≤ 8 then zk kX4_spent 4 7 L st (mX4_areUnlike [zvr (some q), v0, v1] h) else none) ∧
  (∀ (x0 x1 x2 : ZV) (a : Int) (L st : List ZV) (h : PH), zev kX4_spent 7 (x0 :: x1 :: x2 :: zvi a :: L) st h = zev kX4_spent 8 (x0 :: x1 :: x2 :: zvi a :: L) (zvi a :: st) h) ∧
  (∀ (L st : List ZV) (h : PH), zev kX4_spent 8 L st h = zev kX4_spent 9 L (zvi 0 :: st) h) ∧
  (∀ (L st : List ZV) (h : PH), zev kX4_spent 9 L st h = zev kX4_spent 12 L (zvi 1999 :: st) h) ∧
  (∀ (v0 v1 v2 : ZV) (L st : List ZV) (h : PH), zev kX4_spent 12 L (v2 :: v1 :: v0 :: st) h = if zcat st ≤ 8 then zk kX4_spent 12 15 L st (mX4_in [v0, v1, v2] h) else none) ∧
  (∀ (a : Int) (L st : List ZV) (h : PH), zev kX4_spent 15 L (zvi a :: st) h = if a = 0 then zev kX4_spent 34 L st h else zev kX4_spent 18 L st h) ∧
  (∀ (x0 x1 x2 x3 : ZV) (a : Int) (L st : List ZV) (h : PH), zev kX4_spent 18 (x0 :: x1 :: x2 :: x3 :: zvi a :: L) st h = zev kX4_spent 20 (x0 :: x1 :: x2 :: x3 :: zvi a :: L) (zvi a :: st) h) ∧
  (∀ (x0 x1 x2 : ZV) (a : Int) (L st : List ZV) (h : PH), zev kX4_spent 20 (x0 :: x1 :: x2 :: zvi a :: L) st h = zev kX4_spent 21 (x0 :: x1 :: x2 :: zvi a :: L) (zvi a :: st) h) ∧
  (∀ (L st : List ZV) (h : PH), zev kX4_spent 21 L st h = zev kX4_spent 24 L (zvi 1999 :: st) h) ∧
  (∀ (v0 v1 v2 : ZV) (L st : List ZV) (h : PH), zev kX4_spent 24 L (v2 :: v1 :: v0 :: st) h = if zcat st ≤ 8 then zk kX4_spent 24 27 L st (mX4_in [v0, v1, v2] h) else none) ∧
  (∀ (a : Int) (L st : List ZV) (h : PH), zev kX4_spent 27 L (zvi a :: st) h = if a = 0 then zev kX4_spent 34 L st h else zev kX4_spent 30 L st h) ∧
  (∀ (L st : List ZV) (h : PH), zev kX4_spent 30 L st h = zev kX4_spent 31 L (zvi 1 :: st) h) ∧
  (∀ (L st : List ZV) (h : PH), zev kX4_spent 31 L st h = zev kX4_spent 35 L st h) ∧
  (∀ (L st : List ZV) (h : PH), zev kX4_spent 34 L st h = zev kX4_spent 35 L (zvi 0 :: st) h) ∧
  (∀ (v0 v1 : ZV) (L st : List ZV) (h : PH), zev kX4_spent 35 L (v1 :: v0 :: st) h = if zcat st ≤ 8 then zk kX4_spent 35 38 L st (mX4_unless_2 [v0, v1] h) else none) ∧
  (∀ (v0 : ZV) (q : Nat) (L st : List ZV) (h : PH), zev kX4_spent 38 L (v0 :: zvr (some q) :: st) h = if (ph_K h q).1 % 1000 = 18 ∧ zcat st ≤ 8 then zk kX4_spent 38 41 L st (mX4_isRefused [zvr (some q), v0] h) else none) ∧
  (∀ (a : Int) (L st : List ZV) (h : PH), zev kX4_spent 41 L (zvi a :: st) h = if a = 0 then zev kX4_spent 46 L st h else zev kX4_spent 44 L st h) ∧
  (∀ (L st : List ZV) (h : PH), zev kX4_spent 44 L st h = zev kX4_spent 45 L (zvi (-1) :: st) h) ∧
  (∀ (a : Int) (L : List ZV) (h : PH), zev kX4_spent 45 L [zvi a] h = zrv (zvi a) h) ∧
  (∀ (a : Option Nat) (L st : List ZV) (h : PH), zev kX4_spent 46 (zvr a :: L) st h = zev kX4_spent 47 (zvr a :: L) (zvr a :: st) h) ∧
  (∀ (x0 x1 : ZV) (a : Int) (L st : List ZV) (h : PH), zev kX4_spent 47 (x0 :: x1 :: zvi a :: L) st h = zev kX4_spent 48 (x0 :: x1 :: zvi a :: L) (zvi a :: st) h) ∧
  (∀ (v0 : ZV) (q : Nat) (L st : List ZV) (h : PH), zev kX4_spent 48 L (v0 :: zvr (some q) :: st) h = if (ph_K h q).1 % 1000 = 18 ∧ zcat st ≤ 8 then zk kX4_spent 48 51 L st (mX4_laysGoal [zvr (some q), v0] h) else none) ∧
  (∀ (L st : List ZV) (h : PH), zev kX4_spent 51 L st h = zev kX4_spent 52 L (zvi 0 :: st) h) ∧
  (∀ (x0 x1 x2 x3 x4 x5 : ZV) (a : Int) (L st : List ZV) (h : PH) (hx : zisL x4 = false) , zev kX4_spent 52 (x0 :: x1 :: x2 :: x3 :: x4 :: x5 :: L) (zvi a :: st) h = zev kX4_spent 54 (x0 :: x1 :: x2 :: x3 :: x4 :: zvi a :: L) st h) ∧
  (∀ (x0 x1 x2 : ZV) (a : Int) (L st : List ZV) (h : PH), zev kX4_spent 54 (x0 :: x1 :: x2 :: zvi a :: L) st h = zev kX4_spent 55 (x0 :: x1 :: x2 :: zvi a :: L) (zvi a :: st) h) ∧
  (∀ (x0 x1 x2 x3 x4 x5 x6 : ZV) (a : Int) (L st : List ZV) (h : PH) (hx : zisL x5 = false) , zev kX4_spent 55 (x0 :: x1 :: x2 :: x3 :: x4 :: x5 :: x6 :: L) (zvi a :: st) h = zev kX4_spent 57 (x0 :: x1 :: x2 :: x3 :: x4 :: x5 :: zvi a :: L) st h) ∧
  (∀ (x0 x1 x2 x3 : ZV) (a : Int) (L st : List ZV) (h : PH), zev kX4_spent 59 (x0 :: x1 :: x2 :: x3 :: zvi a :: L) st h = zev kX4_spent 61 (x0 :: x1 :: x2 :: x3 :: zvi a :: L) (zvi a :: st) h) ∧
  (∀ (a b : Int) (L st : List ZV) (h : PH), zev kX4_spent 61 L (zvi b :: zvi a :: st) h = if a > b then zev kX4_spent 103 L st h else zev kX4_spent 64 L st h) ∧
  (∀ (a : Option Nat) (L st : List ZV) (h : PH), zev kX4_spent 64 (zvr a :: L) st h = zev kX4_spent 65 (zvr a :: L) (zvr a :: st) h) ∧
  (∀ (x0 : ZV) (a : Int) (L st : List ZV) (h : PH), zev kX4_spent 65 (x0 :: zvi a :: L) st h = zev kX4_spent 66 (x0 :: zvi a :: L) (zvi a :: st) h) ∧
  (∀ (x0 x1 x2 x3 x4 x5 : ZV) (a : Int) (L st : List ZV) (h : PH), zev kX4_spent 66 (x0 :: x1 :: x2 :: x3 :: x4 :: x5 :: zvi a :: L) st h = zev kX4_spent 68 (x0 :: x1 :: x2 :: x3 :: x4 :: x5 :: zvi a :: L) (zvi a :: st) h) ∧
  (∀ (v0 v1 : ZV) (q : Nat) (L st : List ZV) (h : PH), zev kX4_spent 68 L (v1 :: v0 :: zvr (some q) :: st) h = if (ph_K h q).1 % 1000 = 18 ∧ zcat st ≤ 8 then zk kX4_spent 68 71 L st (mX4_firstOf [zvr (some q), v0, v1] h) else none) ∧
  (∀ (x0 x1 x2 x3 x4 x5 x6 x7 : ZV) (a : Int) (L st : List ZV) (h : PH) (hx : zisL x6 = false) , zev kX4_spent 71 (x0 :: x1 :: x2 :: x3 :: x4 :: x5 :: x6 :: x7 :: L) (zvi a :: st) h = zev kX4_spent 73 (x0 :: x1 :: x2 :: x3 :: x4 :: x5 :: x6 :: zvi a :: L) st h) ∧
  (∀ (x0 x1 x2 x3 x4 x5 x6 : ZV) (a : Int) (L st : List ZV) (h : PH), zev kX4_spent 73 (x0 :: x1 :: x2 :: x3 :: x4 :: x5 :: x6 :: zvi a :: L) st h = zev kX4_spent 75 (x0 :: x1 :: x2 :: x3 :: x4 :: x5 :: x6 :: zvi a :: L) (zvi a :: st) h) ∧
  (∀ (L st : List ZV) (h : PH), zev kX4_spent 75 L st h = zev kX4_spent 76 L (zvi (-1) :: st) h) ∧
  (∀ (a b : Int) (L st : List ZV) (h : PH), zev kX4_spent 76 L (zvi b :: zvi a :: st) h = if a ≠ b then zev kX4_spent 82 L st h else zev kX4_spent 79 L st h) ∧
  (∀ (L st : List ZV) (h : PH), zev kX4_spent 79 L st h = zev kX4_spent 81 L (zvi (-2) :: st) h) ∧
  (∀ (a : Int) (L : List ZV) (h : PH), zev kX4_spent 81 L [zvi a] h = zrv (zvi a) h) ∧
  (∀ (x0 x1 x2 x3 x4 : ZV) (a : Int) (L st : List ZV) (h : PH), zev kX4_spent 82 (x0 :: x1 :: x2 :: x3 :: x4 :: zvi a :: L) st h = zev kX4_spent 84 (x0 :: x1 :: x2 :: x3 :: x4 :: zvi a :: L) (zvi a :: st) h) ∧
  (∀ (a : Option Nat) (L st : List ZV) (h : PH), zev kX4_spent 84 (zvr a :: L) st h = zev kX4_spent 85 (zvr a :: L) (zvr a :: st) h) ∧
  (∀ (q : Nat) (L st : List ZV) (h : PH), zev kX4_spent 85 L (zvr (some q) :: st) h = if (ph_K h q).1 % 1000 = 18 then zev kX4_spent 88 L (zvr (ph_R h q 23) :: st) h else none) ∧
  (∀ (x0 x1 x2 x3 x4 x5 x6 : ZV) (a : Int) (L st : List ZV) (h : PH), zev kX4_spent 88 (x0 :: x1 :: x2 :: x3 :: x4 :: x5 :: x6 :: zvi a :: L) st h = zev kX4_spent 90 (x0 :: x1 :: x2 :: x3 :: x4 :: x5 :: x6 :: zvi a :: L) (zvi a :: st) h) ∧
  (∀ (j : Int) (q : Nat) (L st : List ZV) (h : PH), zev kX4_spent 90 L (zvi j :: zvr (some q) :: st) h = if (ph_K h q).1 % 1000 = 1 ∧ 0 ≤ j ∧ j < (ph_K h q).2 then zev kX4_spent 91 L (zvi (ph_I h q j) :: st) h else none) ∧
  (∀ (x0 x1 x2 x3 x4 x5 : ZV) (a : Int) (L st : List ZV) (h : PH), zev kX4_spent 91 (x0 :: x1 :: x2 :: x3 :: x4 :: x5 :: zvi a :: L) st h = zev kX4_spent 93 (x0 :: x1 :: x2 :: x3 :: x4 :: x5 :: zvi a :: L) (zvi a :: st) h) ∧
  (∀ (a b : Int) (L st : List ZV) (h : PH), zev kX4_spent 93 L (zvi b :: zvi a :: st) h = zev kX4_spent 94 L (zvi (w32 (a - b)) :: st) h) ∧
  (∀ (a b : Int) (L st : List ZV) (h : PH), zev kX4_spent 94 L (zvi b :: zvi a :: st) h = zev kX4_spent 95 L (zvi (w32 (a + b)) :: st) h) ∧
  (∀ (x0 x1 x2 x3 x4 x5 : ZV) (a : Int) (L st : List ZV) (h : PH) (hx : zisL x4 = false) , zev kX4_spent 95 (x0 :: x1 :: x2 :: x3 :: x4 :: x5 :: L) (zvi a :: st) h = zev kX4_spent 97 (x0 :: x1 :: x2 :: x3 :: x4 :: zvi a :: L) st h) ∧
  (∀ (x0 x1 x2 x3 x4 x5 : ZV) (a : Int) (L st : List ZV) (h : PH) (hx : zisL x5 = false) , zev kX4_spent 97 (x0 :: x1 :: x2 :: x3 :: x4 :: x5 :: zvi a :: L) st h = zev kX4_spent 100 (x0 :: x1 :: x2 :: x3 :: x4 :: x5 :: zvi (w32 (a + 1)) :: L) st h) ∧
  (∀ (L st : List ZV) (h : PH), zev kX4_spent 100 L st h = zev kX4_spent 57 L st h) ∧
  (∀ (x0 x1 x2 x3 x4 : ZV) (a : Int) (L st : List ZV) (h : PH), zev kX4_spent 103 (x0 :: x1 :: x2 :: x3 :: x4 :: zvi a :: L) st h = zev kX4_spent 105 (x0 :: x1 :: x2 :: x3 :: x4 :: zvi a :: L) (zvi a :: st) h) ∧
  (∀ (a : Int) (L : List ZV) (h : PH), zev kX4_spent 105 L [zvi a] h = zrv (zvi a) h) :=
  ⟨fun a L st h => e_ld0R (n := 1) rfl,
  fun a L st h => e_ld0R (n := 2) rfl,
  fun x0 a L st h => e_ld1I (n := 3) rfl,
  fun x0 x1 a L st h => e_ld2I (n := 4) rfl,
  fun v0 v1 q L st h => e_callV3 (F := mX4_areUnlike) (kd := 18) (n := 7) rfl,
  fun x0 x1 x2 a L st h => e_ld3I (n := 8) rfl,
  fun L st h => e_push (v := zvi 0) (n := 9) rfl,
  fun L st h => e_push (v := zvi 1999) (n := 12) rfl,
  fun v0 v1 v2 L st h => e_callS3 (F := mX4_in) (n := 15) rfl,
  fun a L st h => e_ifeq (t := 34) (n := 18) rfl,
  fun x0 x1 x2 x3 a L st h => e_ld4I (n := 20) rfl,
  fun x0 x1 x2 a L st h => e_ld3I (n := 21) rfl,
  fun L st h => e_push (v := zvi 1999) (n := 24) rfl,
  fun v0 v1 v2 L st h => e_callS3 (F := mX4_in) (n := 27) rfl,
  fun a L st h => e_ifeq (t := 34) (n := 30) rfl,
  fun L st h => e_push (v := zvi 1) (n := 31) rfl,
  fun L st h => e_goto (t := 35) rfl,
  fun L st h => e_push (v := zvi 0) (n := 35) rfl,
  fun v0 v1 L st h => e_callS2 (F := mX4_unless_2) (n := 38) rfl,
  fun v0 q L st h => e_callV2 (F := mX4_isRefused) (kd := 18) (n := 41) rfl,
  fun a L st h => e_ifeq (t := 46) (n := 44) rfl,
  fun L st h => e_push (v := zvi (-1)) (n := 45) rfl,
  fun a L h => e_retI rfl,
  fun a L st h => e_ld0R (n := 47) rfl,
  fun x0 x1 a L st h => e_ld2I (n := 48) rfl,
  fun v0 q L st h => e_callV2 (F := mX4_laysGoal) (kd := 18) (n := 51) rfl,
  fun L st h => e_push (v := zvi 0) (n := 52) rfl,
  fun x0 x1 x2 x3 x4 x5 a L st h hx => e_st5I (n := 54) rfl hx,
  fun x0 x1 x2 a L st h => e_ld3I (n := 55) rfl,
  fun x0 x1 x2 x3 x4 x5 x6 a L st h hx => e_st6I (n := 57) rfl hx,
  fun x0 x1 x2 x3 a L st h => e_ld4I (n := 61) rfl,
  fun a b L st h => e_cmpgt (t := 103) (n := 64) rfl,
  fun a L st h => e_ld0R (n := 65) rfl,
  fun x0 a L st h => e_ld1I (n := 66) rfl,
  fun x0 x1 x2 x3 x4 x5 a L st h => e_ld6I (n := 68) rfl,
  fun v0 v1 q L st h => e_callV3 (F := mX4_firstOf) (kd := 18) (n := 71) rfl,
  fun x0 x1 x2 x3 x4 x5 x6 x7 a L st h hx => e_st7I (n := 73) rfl hx,
  fun x0 x1 x2 x3 x4 x5 x6 a L st h => e_ld7I (n := 75) rfl,
  fun L st h => e_push (v := zvi (-1)) (n := 76) rfl,
  fun a b L st h => e_cmpne (t := 82) (n := 79) rfl,
  fun L st h => e_push (v := zvi (-2)) (n := 81) rfl,
  fun a L h => e_retI rfl,
  fun x0 x1 x2 x3 x4 a L st h => e_ld5I (n := 84) rfl,
  fun a L st h => e_ld0R (n := 85) rfl,
  fun q L st h => e_getR (kd := 18) (k := 23) (n := 88) rfl,
  fun x0 x1 x2 x3 x4 x5 x6 a L st h => e_ld7I (n := 90) rfl,
  fun j q L st h => e_ald (kd := 1) (n := 91) rfl,
  fun x0 x1 x2 x3 x4 x5 a L st h => e_ld6I (n := 93) rfl,
  fun a b L st h => e_bin (f := (fun a b => w32 (a - b))) (n := 94) rfl,
  fun a b L st h => e_bin (f := (fun a b => w32 (a + b))) (n := 95) rfl,
  fun x0 x1 x2 x3 x4 x5 a L st h hx => e_st5I (n := 97) rfl hx,
  fun x0 x1 x2 x3 x4 x5 a L st h hx => e_iinc6 (d := 1) (n := 100) rfl hx,
  fun L st h => e_goto (t := 57) rfl,
  fun x0 x1 x2 x3 x4 a L st h => e_ld5I (n := 105) rfl,
  fun a L h => e_retI rfl⟩
theorem allX4_spent : zall yX4_spent cX4_spent 8 (some .int) 7 kX4_spent.1 :=
  ⟨k_aload_n dX4_spent_0,
  k_aload_n dX4_spent_1,
  k_iload_n dX4_spent_2,
  k_iload_n dX4_spent_3,
  k_callV (y2 := yX4_areUnlike) (C := RX4) (T0 := TX4) (ci := 2) dX4_spent_4 sndX4_areUnlike rfl q2239 q2241 qs114 q137 q2242 (by decide +kernel) ⟨by decide, by decide⟩ (by decide) (by decide),
  k_iload_n dX4_spent_7,
  k_iconst dX4_spent_8,
  k_sipush dX4_spent_9,
  k_callS (y2 := yX4_in) dX4_spent_12 sndX4_in q1943 q1944 q137 q1945 (by decide +kernel) ⟨by decide, by decide⟩ (by decide) (by decide),
  k_ifeq (t := 34) dX4_spent_15 (by decide),
  k_iload dX4_spent_18,
  k_iload_n dX4_spent_20,
  k_sipush dX4_spent_21,
  k_callS (y2 := yX4_in) dX4_spent_24 sndX4_in q1943 q1944 q137 q1945 (by decide +kernel) ⟨by decide, by decide⟩ (by decide) (by decide),
  k_ifeq (t := 34) dX4_spent_27 (by decide),
  k_iconst dX4_spent_30,
  k_goto (t := 35) dX4_spent_31 (by decide),
  k_iconst dX4_spent_34,
  k_callS (y2 := yX4_unless_2) dX4_spent_35 sndX4_unless_2 q2120 q2121 q137 q2122 (by decide +kernel) ⟨by decide, by decide⟩ (by decide) (by decide),
  k_callV (y2 := yX4_isRefused) (C := RX4) (T0 := TX4) (ci := 2) dX4_spent_38 sndX4_isRefused rfl q1946 q1948 qs70 q137 q1949 (by decide +kernel) ⟨by decide, by decide⟩ (by decide) (by decide),
  k_ifeq (t := 46) dX4_spent_41 (by decide),
  k_iconst dX4_spent_44,
  k_iret dX4_spent_45,
  k_aload_n dX4_spent_46,
  k_iload_n dX4_spent_47,
  k_callV (y2 := yX4_laysGoal) (C := RX4) (T0 := TX4) (ci := 2) dX4_spent_48 sndX4_laysGoal rfl q2127 q2129 qs100 q137 q2130 (by decide +kernel) ⟨by decide, by decide⟩ (by decide) (by decide),
  k_iconst dX4_spent_51,
  k_istore dX4_spent_52,
  k_iload_n dX4_spent_54,
  k_istore dX4_spent_55,
  k_iload dX4_spent_57,
  k_iload dX4_spent_59,
  k_cmpgt (t := 103) dX4_spent_61 (by decide),
  k_aload_n dX4_spent_64,
  k_iload_n dX4_spent_65,
  k_iload dX4_spent_66,
  k_callV (y2 := yX4_firstOf) (C := RX4) (T0 := TX4) (ci := 2) dX4_spent_68 sndX4_firstOf rfl q2151 q2153 qs106 q137 q2154 (by decide +kernel) ⟨by decide, by decide⟩ (by decide) (by decide),
  k_istore dX4_spent_71,
  k_iload dX4_spent_73,
  k_iconst dX4_spent_75,
  k_cmpne (t := 82) dX4_spent_76 (by decide),
  k_bipush dX4_spent_79,
  k_iret dX4_spent_81,
  k_iload dX4_spent_82,
  k_aload_n dX4_spent_84,
  k_getR (C := RX4) (T := TX4) (N := 42) (ci := 2) (k := 23) (ref := "LinkTimesModel") dX4_spent_85 rfl in_X4 (by decide) q1822 (Or.inl rfl) (fun _ _ _ => rfl),
  k_iload dX4_spent_88,
  k_iald dX4_spent_90,
  k_iload dX4_spent_91,
  k_isub dX4_spent_93,
  k_iadd dX4_spent_94,
  k_istore dX4_spent_95,
  k_iinc dX4_spent_97,
  k_goto (t := 57) dX4_spent_100 (by decide),
  k_iload dX4_spent_103,
  k_iret dX4_spent_105, trivial⟩
theorem sndX4_spent : MSound 7 yX4_spent (ws_ yX4_spent cX4_spent 8 (some .int)) mX4_spent := msound_M (by decide) allX4_spent (fun _ _ => rfl)
/-! LinkTimesModel.without(IIII)I -/
noncomputable def kX4_without : ZM := ([(0, zi_ld 1 0 1), (1, zi_getR 18 6 4), (4, zi_ld 0 4 6), (6, zi_push (zvi 6) 8), (8, zi_callS mX4_at 2 11), (11, zi_ald 1 12), (12, zi_st 0 5 14), (14, zi_ld 1 0 15), (15, zi_getR 18 6 18), (18, zi_ld 0 4 20), (20, zi_push (zvi 6) 22), (22, zi_callS mX4_at 2 25), (25, zi_push (zvi 0) 26), (26, zi_ast 27), (27, zi_ld 1 0 28), (28, zi_ld 0 1 29), (29, zi_ld 0 2 30), (30, zi_ld 0 3 31), (31, zi_callV mX4_best 18 4 34), (34, zi_st 0 6 36), (36, zi_ld 1 0 37), (37, zi_getR 18 6 40), (40, zi_ld 0 4 42), (42, zi_push (zvi 6) 44), (44, zi_callS mX4_at 2 47), (47, zi_ld 0 5 49), (49, zi_ast 50), (50, zi_ld 0 6 52), (52, zi_retv 0)], fun _ _ => none)
noncomputable def mX4_without : ZF := zrunM kX4_without 7
theorem enX4_without (x0 : Option Nat) (x1 : Int) (x2 : Int) (x3 : Int) (x4 : Int) (h : PH) : mX4_without [zvr x0, zvi x1, zvi x2, zvi x3, zvi x4] h = zev kX4_without 0 [zvr x0, zvi x1, zvi x2, zvi x3, zvi x4, zvu, zvu] [] h := zrunM_eq rfl rfl
theorem rX4_without : (∀ (a : Option Nat) (L st : List ZV) (h : PH), zev kX4_without 0 (zvr a :: L) st h = zev kX4_without 1 (zvr a :: L) (zvr a :: st) h) ∧
  (∀ (q : Nat) (L st : List ZV) (h : PH), zev kX4_without 1 L (zvr (some q) :: st) h = if (ph_K h q).1 % 1000 = 18 then zev kX4_without 4 L (zvr (ph_R h q 6) :: st) h else none) ∧
  (∀ (x0 x1 x2 x3 : ZV) (a : Int) (L st : List ZV) (h : PH), zev kX4_without 4 (x0 :: x1 :: x2 :: x3 :: zvi a :: L) st h = zev kX4_without 6 (x0 :: x1 :: x2 :: x3 :: zvi a :: L) (zvi a :: st) h) ∧
  (∀ (L st : List ZV) (h : PH), zev kX4_without 6 L st h = zev kX4_without 8 L (zvi 6 :: st) h) ∧
  (∀ (v0 v1 : ZV) (L st : List ZV) (h : PH), zev kX4_without 8 L (v1 :: v0 :: st) h = if zcat st ≤ 8 then zk kX4_without 8 11 L st (mX4_at [v0, v1] h) else none) ∧
  (∀ (j : Int) (q : Nat) (L st : List ZV) (h : PH), zev kX4_without 11 L (zvi j :: zvr (some q) :: st) h = if (ph_K h q).1 % 1000 = 1 ∧ 0 ≤ j ∧ j < (ph_K h q).2 then zev kX4_without 12 L (zvi (ph_I h q j) :: st) h else none) ∧
  (∀ (x0 x1 x2 x3 x4 x5 : ZV) (a : Int) (L st : List ZV) (h : PH) (hx : zisL x4 = false) , zev kX4_without 12 (x0 :: x1 :: x2 :: x3 :: x4 :: x5 :: L) (zvi a :: st) h = zev kX4_without 14 (x0 :: x1 :: x2 :: x3 :: x4 :: zvi a :: L) st h) ∧
  (∀ (a : Option Nat) (L st : List ZV) (h : PH), zev kX4_without 14 (zvr a :: L) st h = zev kX4_without 15 (zvr a :: L) (zvr a :: st) h) ∧
  (∀ (q : Nat) (L st : List ZV) (h : PH), zev kX4_without 15 L (zvr (some q) :: st) h = if (ph_K h q).1 % 1000 = 18 then zev kX4_without 18 L (zvr (ph_R h q 6) :: st) h else none) ∧
  (∀ (x0 x1 x2 x3 : ZV) (a : Int) (L st : List ZV) (h : PH), zev kX4_without 18 (x0 :: x1 :: x2 :: x3 :: zvi a :: L) st h = zev kX4_without 20 (x0 :: x1 :: x2 :: x3 :: zvi a :: L) (zvi a :: st) h) ∧
  (∀ (L st : List ZV) (h : PH), zev kX4_without 20 L st h = zev kX4_without 22 L (zvi 6 :: st) h) ∧
  (∀ (v0 v1 : ZV) (L st : List ZV) (h : PH), zev kX4_without 22 L (v1 :: v0 :: st) h = if zcat st ≤ 8 then zk kX4_without 22 25 L st (mX4_at [v0, v1] h) else none) ∧
  (∀ (L st : List ZV) (h : PH), zev kX4_without 25 L st h = zev kX4_without 26 L (zvi 0 :: st) h) ∧
  (∀ (x j : Int) (q : Nat) (L st : List ZV) (h : PH), zev kX4_without 26 L (zvi x :: zvi j :: zvr (some q) :: st) h = if (ph_K h q).1 = 1 ∧ 0 ≤ j ∧ j < (ph_K h q).2 then zev kX4_without 27 L st (st_I h q j x) else none) ∧
  (∀ (a : Option Nat) (L st : List ZV) (h : PH), zev kX4_without 27 (zvr a :: L) st h = zev kX4_without 28 (zvr a :: L) (zvr a :: st) h) ∧
  (∀ (x0 : ZV) (a : Int) (L st : List ZV) (h : PH), zev kX4_without 28 (x0 :: zvi a :: L) st h = zev kX4_without 29 (x0 :: zvi a :: L) (zvi a :: st) h) ∧
  (∀ (x0 x1 : ZV) (a : Int) (L st : List ZV) (h : PH), zev kX4_without 29 (x0 :: x1 :: zvi a :: L) st h = zev kX4_without 30 (x0 :: x1 :: zvi a :: L) (zvi a :: st) h) ∧
  (∀ (x0 x1 x2 : ZV) (a : Int) (L st : List ZV) (h : PH), zev kX4_without 30 (x0 :: x1 :: x2 :: zvi a :: L) st h = zev kX4_without 31 (x0 :: x1 :: x2 :: zvi a :: L) (zvi a :: st) h) ∧
  (∀ (v0 v1 v2 : ZV) (q : Nat) (L st : List ZV) (h : PH), zev kX4_without 31 L (v2 :: v1 :: v0 :: zvr (some q) :: st) h = if (ph_K h q).1 % 1000 = 18 ∧ zcat st ≤ 8 then zk kX4_without 31 34 L st (mX4_best [zvr (some q), v0, v1, v2] h) else none) ∧
  (∀ (x0 x1 x2 x3 x4 x5 x6 : ZV) (a : Int) (L st : List ZV) (h : PH) (hx : zisL x5 = false) , zev kX4_without 34 (x0 :: x1 :: x2 :: x3 :: x4 :: x5 :: x6 :: L) (zvi a :: st) h = zev kX4_without 36 (x0 :: x1 :: x2 :: x3 :: x4 :: x5 :: zvi a :: L) st h) ∧
  (∀ (a : Option Nat) (L st : List ZV) (h : PH), zev kX4_without 36 (zvr a :: L) st h = zev kX4_without 37 (zvr a :: L) (zvr a :: st) h) ∧
  (∀ (q : Nat) (L st : List ZV) (h : PH), zev kX4_without 37 L (zvr (some q) :: st) h = if (ph_K h q).1 % 1000 = 18 then zev kX4_without 40 L (zvr (ph_R h q 6) :: st) h else none) ∧
  (∀ (x0 x1 x2 x3 : ZV) (a : Int) (L st : List ZV) (h : PH), zev kX4_without 40 (x0 :: x1 :: x2 :: x3 :: zvi a :: L) st h = zev kX4_without 42 (x0 :: x1 :: x2 :: x3 :: zvi a :: L) (zvi a :: st) h) ∧
  (∀ (L st : List ZV) (h : PH), zev kX4_without 42 L st h = zev kX4_without 44 L (zvi 6 :: st) h) ∧
  (∀ (v0 v1 : ZV) (L st : List ZV) (h : PH), zev kX4_without 44 L (v1 :: v0 :: st) h = if zcat st ≤ 8 then zk kX4_without 44 47 L st (mX4_at [v0, v1] h) else none) ∧
  (∀ (x0 x1 x2 x3 x4 : ZV) (a : Int) (L st : List ZV) (h : PH), zev kX4_without 47 (x0 :: x1 :: x2 :: x3 :: x4 :: zvi a :: L) st h = zev kX4_without 49 (x0 :: x1 :: x2 :: x3 :: x4 :: zvi a :: L) (zvi a :: st) h) ∧
  (∀ (x j : Int) (q : Nat) (L st : List ZV) (h : PH), zev kX4_without 49 L (zvi x :: zvi j :: zvr (some q) :: st) h = if (ph_K h q).1 = 1 ∧ 0 ≤ j ∧ j < (ph_K h q).2 then zev kX4_without 50 L st (st_I h q j x) else none) ∧
  (∀ (x0 x1 x2 x3 x4 x5 : ZV) (a : Int) (L st : List ZV) (h : PH), zev kX4_without 50 (x0 :: x1 :: x2 :: x3 :: x4 :: x5 :: zvi a :: L) st h = zev kX4_without 52 (x0 :: x1 :: x2 :: x3 :: x4 :: x5 :: zvi a :: L) (zvi a :: st) h) ∧
  (∀ (a : Int) (L : List ZV) (h : PH), zev kX4_without 52 L [zvi a] h = zrv (zvi a) h) :=
  ⟨fun a L st h => e_ld0R (n := 1) rfl,
  fun q L st h => e_getR (kd := 18) (k := 6) (n := 4) rfl,
  fun x0 x1 x2 x3 a L st h => e_ld4I (n := 6) rfl,
  fun L st h => e_push (v := zvi 6) (n := 8) rfl,
  fun v0 v1 L st h => e_callS2 (F := mX4_at) (n := 11) rfl,
  fun j q L st h => e_ald (kd := 1) (n := 12) rfl,
  fun x0 x1 x2 x3 x4 x5 a L st h hx => e_st5I (n := 14) rfl hx,
  fun a L st h => e_ld0R (n := 15) rfl,
  fun q L st h => e_getR (kd := 18) (k := 6) (n := 18) rfl,
  fun x0 x1 x2 x3 a L st h => e_ld4I (n := 20) rfl,
  fun L st h => e_push (v := zvi 6) (n := 22) rfl,
  fun v0 v1 L st h => e_callS2 (F := mX4_at) (n := 25) rfl,
  fun L st h => e_push (v := zvi 0) (n := 26) rfl,
  fun x j q L st h => e_ast (n := 27) rfl,
  fun a L st h => e_ld0R (n := 28) rfl,
  fun x0 a L st h => e_ld1I (n := 29) rfl,
  fun x0 x1 a L st h => e_ld2I (n := 30) rfl,
  fun x0 x1 x2 a L st h => e_ld3I (n := 31) rfl,
  fun v0 v1 v2 q L st h => e_callV4 (F := mX4_best) (kd := 18) (n := 34) rfl,
  fun x0 x1 x2 x3 x4 x5 x6 a L st h hx => e_st6I (n := 36) rfl hx,
  fun a L st h => e_ld0R (n := 37) rfl,
  fun q L st h => e_getR (kd := 18) (k := 6) (n := 40) rfl,
  fun x0 x1 x2 x3 a L st h => e_ld4I (n := 42) rfl,
  fun L st h => e_push (v := zvi 6) (n := 44) rfl,
  fun v0 v1 L st h => e_callS2 (F := mX4_at) (n := 47) rfl,
  fun x0 x1 x2 x3 x4 a L st h => e_ld5I (n := 49) rfl,
  fun x j q L st h => e_ast (n := 50) rfl,
  fun x0 x1 x2 x3 x4 x5 a L st h => e_ld6I (n := 52) rfl,
  fun a L h => e_retI rfl⟩
theorem allX4_without : zall yX4_without cX4_without 7 (some .int) 8 kX4_without.1 :=
  ⟨k_aload_n dX4_without_0,
  k_getR (C := RX4) (T := TX4) (N := 42) (ci := 2) (k := 6) (ref := "LinkTimesModel") dX4_without_1 rfl in_X4 (by decide) q1805 (Or.inl rfl) (fun _ _ _ => rfl),
  k_iload dX4_without_4,
  k_bipush dX4_without_6,
  k_callS (y2 := yX4_at) dX4_without_8 sndX4_at q2047 q2048 q137 q2049 (by decide +kernel) ⟨by decide, by decide⟩ (by decide) (by decide),
  k_iald dX4_without_11,
  k_istore dX4_without_12,
  k_aload_n dX4_without_14,
  k_getR (C := RX4) (T := TX4) (N := 42) (ci := 2) (k := 6) (ref := "LinkTimesModel") dX4_without_15 rfl in_X4 (by decide) q1805 (Or.inl rfl) (fun _ _ _ => rfl),
  k_iload dX4_without_18,
  k_bipush dX4_without_20,
  k_callS (y2 := yX4_at) dX4_without_22 sndX4_at q2047 q2048 q137 q2049 (by decide +kernel) ⟨by decide, by decide⟩ (by decide) (by decide),
  k_iconst dX4_without_25,
  k_iast dX4_without_26,
  k_aload_n dX4_without_27,
  k_iload_n dX4_without_28,
  k_iload_n dX4_without_29,
  k_iload_n dX4_without_30,
  k_callV (y2 := yX4_best) (C := RX4) (T0 := TX4) (ci := 2) dX4_without_31 sndX4_best rfl q2123 q2125 qs99 q137 q2126 (by decide +kernel) ⟨by decide, by decide⟩ (by decide) (by decide),
  k_istore dX4_without_34,
  k_aload_n dX4_without_36,
  k_getR (C := RX4) (T := TX4) (N := 42) (ci := 2) (k := 6) (ref := "LinkTimesModel") dX4_without_37 rfl in_X4 (by decide) q1805 (Or.inl rfl) (fun _ _ _ => rfl),
  k_iload dX4_without_40,
  k_bipush dX4_without_42,
  k_callS (y2 := yX4_at) dX4_without_44 sndX4_at q2047 q2048 q137 q2049 (by decide +kernel) ⟨by decide, by decide⟩ (by decide) (by decide),
  k_iload dX4_without_47,
  k_iast dX4_without_49,
  k_iload dX4_without_50,
  k_iret dX4_without_52, trivial⟩
theorem sndX4_without : MSound 8 yX4_without (ws_ yX4_without cX4_without 7 (some .int)) mX4_without := msound_M (by decide) allX4_without (fun _ _ => rfl)
/-! LinkTimesModel.needs(IIII)I -/
noncomputable def kX4_needs : ZM := ([(0, zi_ld 1 0 1), (1, zi_ld 1 0 2), (2, zi_ld 0 1 3), (3, zi_callV mX4_isSpot 18 2 6), (6, zi_if (fun a => zc_eq a 0) 30 9), (9, zi_ld 1 0 10), (10, zi_ld 0 2 11), (11, zi_callV mX4_isSpot 18 2 14), (14, zi_if (fun a => zc_eq a 0) 30 17), (17, zi_ld 1 0 18), (18, zi_ld 0 4 20), (20, zi_callV mX4_isOne 18 2 23), (23, zi_if (fun a => zc_eq a 0) 30 26), (26, zi_push (zvi 1) 27), (27, zi_goto 31), (30, zi_push (zvi 0) 31), (31, zi_ld 0 3 32), (32, zi_push (zvi 0) 33), (33, zi_push (zvi 1999) 36), (36, zi_callS mX4_in 3 39), (39, zi_callS mX4_unless_2 2 42), (42, zi_callV mX4_isRefused 18 2 45), (45, zi_if (fun a => zc_eq a 0) 50 48), (48, zi_push (zvi (-1)) 49), (49, zi_retv 0), (50, zi_ld 1 0 51), (51, zi_ld 0 1 52), (52, zi_ld 0 2 53), (53, zi_ld 0 3 54), (54, zi_callV mX4_best 18 4 57), (57, zi_st 0 5 59), (59, zi_ld 1 0 60), (60, zi_ld 0 1 61), (61, zi_ld 0 2 62), (62, zi_ld 0 3 63), (63, zi_ld 0 4 65), (65, zi_callV mX4_without 18 5 68), (68, zi_st 0 6 70), (70, zi_ld 0 5 72), (72, zi_push (zvi (-2)) 74), (74, zi_cmp zc_ne 82 77), (77, zi_push (zvi (-3)) 79), (79, zi_goto 99), (82, zi_ld 0 6 84), (84, zi_push (zvi (-2)) 86), (86, zi_cmp zc_ne 94 89), (89, zi_push (zvi (-2)) 91), (91, zi_goto 99), (94, zi_ld 0 6 96), (96, zi_ld 0 5 98), (98, zi_bin (fun a b => w32 (a - b)) 99), (99, zi_retv 0)], fun _ _ => none)
noncomputable def mX4_needs : ZF := zrunM kX4_needs 7
theorem enX4_needs (x0 : Option Nat) (x1 : Int) (x2 : Int) (x3 : Int) (x4 : Int) (h : PH) : mX4_needs [zvr x0, zvi x1, zvi x2, zvi x3, zvi x4] h = zev kX4_needs 0 [zvr x0, zvi x1, zvi x2, zvi x3, zvi x4, zvu, zvu] [] h := zrunM_eq rfl rfl
theorem rX4_needs : (∀ (a : Option Nat) (L st : List ZV) (h : PH), zev kX4_needs 0 (zvr a :: L) st h = zev kX4_needs 1 (zvr a :: L) (zvr a :: st) h) ∧
  (∀ (a : Option Nat) (L st : List ZV) (h : PH), zev kX4_needs 1 (zvr a :: L) st h = zev kX4_needs 2 (zvr a :: L) (zvr a :: st) h) ∧
  (∀ (x0 : ZV) (a : Int) (L st : List ZV) (h : PH), zev kX4_needs 2 (x0 :: zvi a :: L) st h = zev kX4_needs 3 (x0 :: zvi a :: L) (zvi a :: st) h) ∧
  (∀ (v0 : ZV) (q : Nat) (L st : List ZV) (h : PH), zev kX4_needs 3 L (v0 :: zvr (some q) :: st) h = if (ph_K h q).1 % 1000 = 18 ∧ zcat st ≤ 8 then zk kX4_needs 3 6 L st (mX4_isSpot [zvr (some q), v0] h) else none) ∧
  (∀ (a : Int) (L st : List ZV) (h : PH), zev kX4_needs 6 L (zvi a :: st) h = if a = 0 then zev kX4_needs 30 L st h else zev kX4_needs 9 L st h) ∧
  (∀ (a : Option Nat) (L st : List ZV) (h : PH), zev kX4_needs 9 (zvr a :: L) st h = zev kX4_needs 10 (zvr a :: L) (zvr a :: st) h) ∧
  (∀ (x0 x1 : ZV) (a : Int) (L st : List ZV) (h : PH), zev kX4_needs 10 (x0 :: x1 :: zvi a :: L) st h = zev kX4_needs 11 (x0 :: x1 :: zvi a :: L) (zvi a :: st) h) ∧
  (∀ (v0 : ZV) (q : Nat) (L st : List ZV) (h : PH), zev kX4_needs 11 L (v0 :: zvr (some q) :: st) h = if (ph_K h q).1 % 1000 = 18 ∧ zcat st ≤ 8 then zk kX4_needs 11 14 L st (mX4_isSpot [zvr (some q), v0] h) else none) ∧
  (∀ (a : Int) (L st : List ZV) (h : PH), zev kX4_needs 14 L (zvi a :: st) h = if a = 0 then zev kX4_needs 30 L st h else zev kX4_needs 17 L st h) ∧
  (∀ (a : Option Nat) (L st : List ZV) (h : PH), zev kX4_needs 17 (zvr a :: L) st h = zev kX4_needs 18 (zvr a :: L) (zvr a :: st) h) ∧
  (∀ (x0 x1 x2 x3 : ZV) (a : Int) (L st : List ZV) (h : PH), zev kX4_needs 18 (x0 :: x1 :: x2 :: x3 :: zvi a :: L) st h = zev kX4_needs 20 (x0 :: x1 :: x2 :: x3 :: zvi a :: L) (zvi a :: st) h) ∧
  (∀ (v0 : ZV) (q : Nat) (L st : List ZV) (h : PH), zev kX4_needs 20 L (v0 :: zvr (some q) :: st) h = if (ph_K h q).1 % 1000 = 18 ∧ zcat st ≤ 8 then zk kX4_needs 20 23 L st (mX4_isOne [zvr (some q), v0] h) else none) ∧
  (∀ (a : Int) (L st : List ZV) (h : PH), zev kX4_needs 23 L (zvi a :: st) h = if a = 0 then zev kX4_needs 30 L st h else zev kX4_needs 26 L st h) ∧
  (∀ (L st : List ZV) (h : PH), zev kX4_needs 26 L st h = zev kX4_needs 27 L (zvi 1 :: st) h) ∧
  (∀ (L st : List ZV) (h : PH), zev kX4_needs 27 L st h = zev kX4_needs 31 L st h) ∧
  (∀ (L st : List ZV) (h : PH), zev kX4_needs 30 L st h = zev kX4_needs 31 L (zvi 0 :: st) h) ∧
  (∀ (x0 x1 x2 : ZV) (a : Int) (L st : List ZV) (h : PH), zev kX4_needs 31 (x0 :: x1 :: x2 :: zvi a :: L) st h = zev kX4_needs 32 (x0 :: x1 :: x2 :: zvi a :: L) (zvi a :: st) h) ∧
  (∀ (L st : List ZV) (h : PH), zev kX4_needs 32 L st h = zev kX4_needs 33 L (zvi 0 :: st) h) ∧
  (∀ (L st : List ZV) (h : PH), zev kX4_needs 33 L st h = zev kX4_needs 36 L (zvi 1999 :: st) h) ∧
  (∀ (v0 v1 v2 : ZV) (L st : List ZV) (h : PH), zev kX4_needs 36 L (v2 :: v1 :: v0 :: st) h = if zcat st ≤ 8 then zk kX4_needs 36 39 L st (mX4_in [v0, v1, v2] h) else none) ∧
  (∀ (v0 v1 : ZV) (L st : List ZV) (h : PH), zev kX4_needs 39 L (v1 :: v0 :: st) h = if zcat st ≤ 8 then zk kX4_needs 39 42 L st (mX4_unless_2 [v0, v1] h) else none) ∧
  (∀ (v0 : ZV) (q : Nat) (L st : List ZV) (h : PH), zev kX4_needs 42 L (v0 :: zvr (some q) :: st) h = if (ph_K h q).1 % 1000 = 18 ∧ zcat st ≤ 8 then zk kX4_needs 42 45 L st (mX4_isRefused [zvr (some q), v0] h) else none) ∧
  (∀ (a : Int) (L st : List ZV) (h : PH), zev kX4_needs 45 L (zvi a :: st) h = if a = 0 then zev kX4_needs 50 L st h else zev kX4_needs 48 L st h) ∧
  (∀ (L st : List ZV) (h : PH), zev kX4_needs 48 L st h = zev kX4_needs 49 L (zvi (-1) :: st) h) ∧
  (∀ (a : Int) (L : List ZV) (h : PH), zev kX4_needs 49 L [zvi a] h = zrv (zvi a) h) ∧
  (∀ (a : Option Nat) (L st : List ZV) (h : PH), zev kX4_needs 50 (zvr a :: L) st h = zev kX4_needs 51 (zvr a :: L) (zvr a :: st) h) ∧
  (∀ (x0 : ZV) (a : Int) (L st : List ZV) (h : PH), zev kX4_needs 51 (x0 :: zvi a :: L) st h = zev kX4_needs 52 (x0 :: zvi a :: L) (zvi a :: st) h) ∧
  (∀ (x0 x1 : ZV) (a : Int) (L st : List ZV) (h : PH), zev kX4_needs 52 (x0 :: x1 :: zvi a :: L) st h = zev kX4_needs 53 (x0 :: x1 :: zvi a :: L) (zvi a :: st) h) ∧
  (∀ (x0 x1 x2 : ZV) (a : Int) (L st : List ZV) (h : PH), zev kX4_needs 53 (x0 :: x1 :: x2 :: zvi a :: L) st h = zev kX4_needs 54 (x0 :: x1 :: x2 :: zvi a :: L) (zvi a :: st) h) ∧
  (∀ (v0 v1 v2 : ZV) (q : Nat) (L st : List ZV) (h : PH), zev kX4_needs 54 L (v2 :: v1 :: v0 :: zvr (some q) :: st) h = if (ph_K h q).1 % 1000 = 18 ∧ zcat st ≤ 8 then zk kX4_needs 54 57 L st (mX4_best [zvr (some q), v0, v1, v2] h) else none) ∧
  (∀ (x0 x1 x2 x3 x4 x5 : ZV) (a : Int) (L st : List ZV) (h : PH) (hx : zisL x4 = false) , zev kX4_needs 57 (x0 :: x1 :: x2 :: x3 :: x4 :: x5 :: L) (zvi a :: st) h = zev kX4_needs 59 (x0 :: x1 :: x2 :: x3 :: x4 :: zvi a :: L) st h) ∧
  (∀ (a : Option Nat) (L st : List ZV) (h : PH), zev kX4_needs 59 (zvr a :: L) st h = zev kX4_needs 60 (zvr a :: L) (zvr a :: st) h) ∧
  (∀ (x0 : ZV) (a : Int) (L st : List ZV) (h : PH), zev kX4_needs 60 (x0 :: zvi a :: L) st h = zev kX4_needs 61 (x0 :: zvi a :: L) (zvi a :: st) h) ∧
  (∀ (x0 x1 : ZV) (a : Int) (L st : List ZV) (h : PH), zev kX4_needs 61 (x0 :: x1 :: zvi a :: L) st h = zev kX4_needs 62 (x0 :: x1 :: zvi a :: L) (zvi a :: st) h) ∧
  (∀ (x0 x1 x2 : ZV) (a : Int) (L st : List ZV) (h : PH), zev kX4_needs 62 (x0 :: x1 :: x2 :: zvi a :: L) st h = zev kX4_needs 63 (x0 :: x1 :: x2 :: zvi a :: L) (zvi a :: st) h) ∧
  (∀ (x0 x1 x2 x3 : ZV) (a : Int) (L st : List ZV) (h : PH), zev kX4_needs 63 (x0 :: x1 :: x2 :: x3 :: zvi a :: L) st h = zev kX4_needs 65 (x0 :: x1 :: x2 :: x3 :: zvi a :: L) (zvi a :: st) h) ∧
  (∀ (v0 v1 v2 v3 : ZV) (q : Nat) (L st : List ZV) (h : PH), zev kX4_needs 65 L (v3 :: v2 :: v1 :: v0 :: zvr (some q) :: st) h = if (ph_K h q).1 % 1000 = 18 ∧ zcat st ≤ 8 then zk kX4_needs 65 68 L st (mX4_without [zvr (some q), v0, v1, v2, v3] h) else none) ∧
  (∀ (x0 x1 x2 x3 x4 x5 x6 : ZV) (a : Int) (L st : List ZV) (h : PH) (hx : zisL x5 = false) , zev kX4_needs 68 (x0 :: x1 :: x2 :: x3 :: x4 :: x5 :: x6 :: L) (zvi a :: st) h = zev kX4_needs 70 (x0 :: x1 :: x2 :: x3 :: x4 :: x5 :: zvi a :: L) st h) ∧
  (∀ (x0 x1 x2 x3 x4 : ZV) (a : Int) (L st : List ZV) (h : PH), zev kX4_needs 70 (x0 :: x1 :: x2 :: x3 :: x4 :: zvi a :: L) st h = zev kX4_needs 72 (x0 :: x1 :: x2 :: x3 :: x4 :: zvi a :: L) (zvi a :: st) h) ∧
  (∀ (L st : List ZV) (h : PH), zev kX4_needs 72 L st h = zev kX4_needs 74 L (zvi (-2) :: st) h) ∧
  (∀ (a b : Int) (L st : List ZV) (h : PH), zev kX4_needs 74 L (zvi b :: zvi a :: st) h = if a ≠ b then zev kX4_needs 82 L st h else zev kX4_needs 77 L st h) ∧
  (∀ (L st : List ZV) (h : PH), zev kX4_needs 77 L st h = zev kX4_needs 79 L (zvi (-3) :: st) h) ∧
  (∀ (L st : List ZV) (h : PH), zev kX4_needs 79 L st h = zev kX4_needs 99 L st h) ∧
  (∀ (x0 x1 x2 x3 x4 x5 : ZV) (a : Int) (L st : List ZV) (h : PH), zev kX4_needs 82 (x0 :: x1 :: x2 :: x3 :: x4 :: x5 :: zvi a :: L) st h = zev kX4_needs 84 (x0 :: x1 :: x2 :: x3 :: x4 :: x5 :: zvi a :: L) (zvi a :: st) h) ∧
  (∀ (L st : List ZV) (h : PH), zev kX4_needs 84 L st h = zev kX4_needs 86 L (zvi (-2) :: st) h) ∧
  (∀ (a b : Int) (L st : List ZV) (h : PH), zev kX4_needs 86 L (zvi b :: zvi a :: st) h = if a ≠ b then zev kX4_needs 94 L st h else zev kX4_needs 89 L st h) ∧
  (∀ (L st : List ZV) (h : PH), zev kX4_needs 89 L st h = zev kX4_needs 91 L (zvi (-2) :: st) h) ∧
  (∀ (L st : List ZV) (h : PH), zev kX4_needs 91 L st h = zev kX4_needs 99 L st h) ∧
  (∀ (x0 x1 x2 x3 x4 x5 : ZV) (a : Int) (L st : List ZV) (h : PH), zev kX4_needs 94 (x0 :: x1 :: x2 :: x3 :: x4 :: x5 :: zvi a :: L) st h = zev kX4_needs 96 (x0 :: x1 :: x2 :: x3 :: x4 :: x5 :: zvi a :: L) (zvi a :: st) h) ∧
  (∀ (x0 x1 x2 x3 x4 : ZV) (a : Int) (L st : List ZV) (h : PH), zev kX4_needs 96 (x0 :: x1 :: x2 :: x3 :: x4 :: zvi a :: L) st h = zev kX4_needs 98 (x0 :: x1 :: x2 :: x3 :: x4 :: zvi a :: L) (zvi a :: st) h) ∧
  (∀ (a b : Int) (L st : List ZV) (h : PH), zev kX4_needs 98 L (zvi b :: zvi a :: st) h = zev kX4_needs 99 L (zvi (w32 (a - b)) :: st) h) ∧
  (∀ (a : Int) (L : List ZV) (h : PH), zev kX4_needs 99 L [zvi a] h = zrv (zvi a) h) :=
  ⟨fun a L st h => e_ld0R (n := 1) rfl,
  fun a L st h => e_ld0R (n := 2) rfl,
  fun x0 a L st h => e_ld1I (n := 3) rfl,
  fun v0 q L st h => e_callV2 (F := mX4_isSpot) (kd := 18) (n := 6) rfl,
  fun a L st h => e_ifeq (t := 30) (n := 9) rfl,
  fun a L st h => e_ld0R (n := 10) rfl,
  fun x0 x1 a L st h => e_ld2I (n := 11) rfl,
  fun v0 q L st h => e_callV2 (F := mX4_isSpot) (kd := 18) (n := 14) rfl,
  fun a L st h => e_ifeq (t := 30) (n := 17) rfl,
  fun a L st h => e_ld0R (n := 18) rfl,
  fun x0 x1 x2 x3 a L st h => e_ld4I (n := 20) rfl,
  fun v0 q L st h => e_callV2 (F := mX4_isOne) (kd := 18) (n := 23) rfl,
  fun a L st h => e_ifeq (t := 30) (n := 26) rfl,
  fun L st h => e_push (v := zvi 1) (n := 27) rfl,
  fun L st h => e_goto (t := 31) rfl,
  fun L st h => e_push (v := zvi 0) (n := 31) rfl,
  fun x0 x1 x2 a L st h => e_ld3I (n := 32) rfl,
  fun L st h => e_push (v := zvi 0) (n := 33) rfl,
  fun L st h => e_push (v := zvi 1999) (n := 36) rfl,
  fun v0 v1 v2 L st h => e_callS3 (F := mX4_in) (n := 39) rfl,
  fun v0 v1 L st h => e_callS2 (F := mX4_unless_2) (n := 42) rfl,
  fun v0 q L st h => e_callV2 (F := mX4_isRefused) (kd := 18) (n := 45) rfl,
  fun a L st h => e_ifeq (t := 50) (n := 48) rfl,
  fun L st h => e_push (v := zvi (-1)) (n := 49) rfl,
  fun a L h => e_retI rfl,
  fun a L st h => e_ld0R (n := 51) rfl,
  fun x0 a L st h => e_ld1I (n := 52) rfl,
  fun x0 x1 a L st h => e_ld2I (n := 53) rfl,
  fun x0 x1 x2 a L st h => e_ld3I (n := 54) rfl,
  fun v0 v1 v2 q L st h => e_callV4 (F := mX4_best) (kd := 18) (n := 57) rfl,
  fun x0 x1 x2 x3 x4 x5 a L st h hx => e_st5I (n := 59) rfl hx,
  fun a L st h => e_ld0R (n := 60) rfl,
  fun x0 a L st h => e_ld1I (n := 61) rfl,
  fun x0 x1 a L st h => e_ld2I (n := 62) rfl,
  fun x0 x1 x2 a L st h => e_ld3I (n := 63) rfl,
  fun x0 x1 x2 x3 a L st h => e_ld4I (n := 65) rfl,
  fun v0 v1 v2 v3 q L st h => e_callV5 (F := mX4_without) (kd := 18) (n := 68) rfl,
  fun x0 x1 x2 x3 x4 x5 x6 a L st h hx => e_st6I (n := 70) rfl hx,
  fun x0 x1 x2 x3 x4 a L st h => e_ld5I (n := 72) rfl,
  fun L st h => e_push (v := zvi (-2)) (n := 74) rfl,
  fun a b L st h => e_cmpne (t := 82) (n := 77) rfl,
  fun L st h => e_push (v := zvi (-3)) (n := 79) rfl,
  fun L st h => e_goto (t := 99) rfl,
  fun x0 x1 x2 x3 x4 x5 a L st h => e_ld6I (n := 84) rfl,
  fun L st h => e_push (v := zvi (-2)) (n := 86) rfl,
  fun a b L st h => e_cmpne (t := 94) (n := 89) rfl,
  fun L st h => e_push (v := zvi (-2)) (n := 91) rfl,
  fun L st h => e_goto (t := 99) rfl,
  fun x0 x1 x2 x3 x4 x5 a L st h => e_ld6I (n := 96) rfl,
  fun x0 x1 x2 x3 x4 a L st h => e_ld5I (n := 98) rfl,
  fun a b L st h => e_bin (f := (fun a b => w32 (a - b))) (n := 99) rfl,
  fun a L h => e_retI rfl⟩
theorem allX4_needs : zall yX4_needs cX4_needs 7 (some .int) 9 kX4_needs.1 :=
  ⟨k_aload_n dX4_needs_0,
  k_aload_n dX4_needs_1,
  k_iload_n dX4_needs_2,
  k_callV (y2 := yX4_isSpot) (C := RX4) (T0 := TX4) (ci := 2) dX4_needs_3 sndX4_isSpot rfl q2084 q2086 qs93 q137 q2087 (by decide +kernel) ⟨by decide, by decide⟩ (by decide) (by decide),
  k_ifeq (t := 30) dX4_needs_6 (by decide),
  k_aload_n dX4_needs_9,
  k_iload_n dX4_needs_10,
  k_callV (y2 := yX4_isSpot) (C := RX4) (T0 := TX4) (ci := 2) dX4_needs_11 sndX4_isSpot rfl q2084 q2086 qs93 q137 q2087 (by decide +kernel) ⟨by decide, by decide⟩ (by decide) (by decide),
  k_ifeq (t := 30) dX4_needs_14 (by decide),
  k_aload_n dX4_needs_17,
  k_iload dX4_needs_18,
  k_callV (y2 := yX4_isOne) (C := RX4) (T0 := TX4) (ci := 2) dX4_needs_20 sndX4_isOne rfl q2096 q2098 qs95 q137 q2099 (by decide +kernel) ⟨by decide, by decide⟩ (by decide) (by decide),
  k_ifeq (t := 30) dX4_needs_23 (by decide),
  k_iconst dX4_needs_26,
  k_goto (t := 31) dX4_needs_27 (by decide),
  k_iconst dX4_needs_30,
  k_iload_n dX4_needs_31,
  k_iconst dX4_needs_32,
  k_sipush dX4_needs_33,
  k_callS (y2 := yX4_in) dX4_needs_36 sndX4_in q1943 q1944 q137 q1945 (by decide +kernel) ⟨by decide, by decide⟩ (by decide) (by decide),
  k_callS (y2 := yX4_unless_2) dX4_needs_39 sndX4_unless_2 q2120 q2121 q137 q2122 (by decide +kernel) ⟨by decide, by decide⟩ (by decide) (by decide),
  k_callV (y2 := yX4_isRefused) (C := RX4) (T0 := TX4) (ci := 2) dX4_needs_42 sndX4_isRefused rfl q1946 q1948 qs70 q137 q1949 (by decide +kernel) ⟨by decide, by decide⟩ (by decide) (by decide),
  k_ifeq (t := 50) dX4_needs_45 (by decide),
  k_iconst dX4_needs_48,
  k_iret dX4_needs_49,
  k_aload_n dX4_needs_50,
  k_iload_n dX4_needs_51,
  k_iload_n dX4_needs_52,
  k_iload_n dX4_needs_53,
  k_callV (y2 := yX4_best) (C := RX4) (T0 := TX4) (ci := 2) dX4_needs_54 sndX4_best rfl q2123 q2125 qs99 q137 q2126 (by decide +kernel) ⟨by decide, by decide⟩ (by decide) (by decide),
  k_istore dX4_needs_57,
  k_aload_n dX4_needs_59,
  k_iload_n dX4_needs_60,
  k_iload_n dX4_needs_61,
  k_iload_n dX4_needs_62,
  k_iload dX4_needs_63,
  k_callV (y2 := yX4_without) (C := RX4) (T0 := TX4) (ci := 2) dX4_needs_65 sndX4_without rfl q2307 q2309 qs122 q137 q2310 (by decide +kernel) ⟨by decide, by decide⟩ (by decide) (by decide),
  k_istore dX4_needs_68,
  k_iload dX4_needs_70,
  k_bipush dX4_needs_72,
  k_cmpne (t := 82) dX4_needs_74 (by decide),
  k_bipush dX4_needs_77,
  k_goto (t := 99) dX4_needs_79 (by decide),
  k_iload dX4_needs_82,
  k_bipush dX4_needs_84,
  k_cmpne (t := 94) dX4_needs_86 (by decide),
  k_bipush dX4_needs_89,
  k_goto (t := 99) dX4_needs_91 (by decide),
  k_iload dX4_needs_94,
  k_iload dX4_needs_96,
  k_isub dX4_needs_98,
  k_iret dX4_needs_99, trivial⟩
theorem sndX4_needs : MSound 9 yX4_needs (ws_ yX4_needs cX4_needs 7 (some .int)) mX4_needs := msound_M (by decide) allX4_needs (fun _ _ => rfl)
/-! LinkTimesModel.vital(III)I -/
noncomputable def kX4_vital : ZM := ([(0, zi_ld 1 0 1), (1, zi_ld 1 0 2), (2, zi_ld 0 1 3), (3, zi_ld 0 2 4), (4, zi_ld 0 3 5), (5, zi_callV mX4_wayWhy 18 4 8), (8, zi_callV mX4_isRefused 18 2 11), (11, zi_if (fun a => zc_eq a 0) 16 14), (14, zi_push (zvi (-1)) 15), (15, zi_retv 0), (16, zi_ld 1 0 17), (17, zi_ld 0 1 18), (18, zi_ld 0 2 19), (19, zi_ld 0 3 20), (20, zi_callV mX4_best 18 4 23), (23, zi_st 0 4 25), (25, zi_ld 0 4 27), (27, zi_push (zvi (-2)) 29), (29, zi_cmp zc_ne 35 32), (32, zi_push (zvi (-2)) 34), (34, zi_retv 0), (35, zi_push (zvi 0) 36), (36, zi_st 0 5 38), (38, zi_push (zvi 0) 39), (39, zi_st 0 6 41), (41, zi_ld 0 6 43), (43, zi_ld 1 0 44), (44, zi_getR 18 6 47), (47, zi_push (zvi 4) 48), (48, zi_ald 1 49), (49, zi_cmp zc_ge 82 52), (52, zi_ld 0 5 54), (54, zi_ld 1 0 55), (55, zi_ld 0 1 56), (56, zi_ld 0 2 57), (57, zi_ld 0 3 58), (58, zi_ld 0 6 60), (60, zi_callV mX4_without 18 5 63), (63, zi_ld 0 4 65), (65, zi_cmp zc_eq 72 68), (68, zi_push (zvi 1) 69), (69, zi_goto 73), (72, zi_push (zvi 0) 73), (73, zi_bin (fun a b => w32 (a + b)) 74), (74, zi_st 0 5 76), (76, zi_iinc 6 1 79), (79, zi_goto 41), (82, zi_ld 0 5 84), (84, zi_retv 0)], fun _ _ => none)
noncomputable def mX4_vital : ZF := zrunM kX4_vital 7
theorem enX4_vital (x0 : Option Nat) (x1 : Int) (x2 : Int) (x3 : Int) (h : PH) : mX4_vital [zvr x0, zvi x1, zvi x2, zvi x3] h = zev kX4_vital 0 [zvr x0, zvi x1, zvi x2, zvi x3, zvu, zvu, zvu] [] h := zrunM_eq rfl rfl
theorem hdX4_vital_41 (x0 x1 x2 x3 x4 x5 : ZV) (a : Int) (L st : List ZV) (h : PH) : zev kX4_vital 41 (x0 :: x1 :: x2 :: x3 :: x4 :: x5 :: zvi a :: L) st h = zev kX4_vital 43 (x0 :: x1 :: x2 :: x3 :: x4 :: x5 :: zvi a :: L) (zvi a :: st) h := e_ld6I (n := 43) rfl
theorem rX4_vital : (∀ (a : Option Nat) (L st : List ZV) (h : PH), zev kX4_vital 0 (zvr a :: L) st h = zev kX4_vital 1 (zvr a :: L) (zvr a :: st) h) ∧
  (∀ (a : Option Nat) (L st : List ZV) (h : PH), zev kX4_vital 1 (zvr a :: L) st h = zev kX4_vital 2 (zvr a :: L) (zvr a :: st) h) ∧
  (∀ (x0 : ZV) (a : Int) (L st : List ZV) (h : PH), zev kX4_vital 2 (x0 :: zvi a :: L) st h = zev kX4_vital 3 (x0 :: zvi a :: L) (zvi a :: st) h) ∧
  (∀ (x0 x1 : ZV) (a : Int) (L st : List ZV) (h : PH), zev kX4_vital 3 (x0 :: x1 :: zvi a :: L) st h = zev kX4_vital 4 (x0 :: x1 :: zvi a :: L) (zvi a :: st) h) ∧
  (∀ (x0 x1 x2 : ZV) (a : Int) (L st : List ZV) (h : PH), zev kX4_vital 4 (x0 :: x1 :: x2 :: zvi a :: L) st h = zev kX4_vital 5 (x0 :: x1 :: x2 :: zvi a :: L) (zvi a :: st) h) ∧
  (∀ (v0 v1 v2 : ZV) (q : Nat) (L st : List ZV) (h : PH), zev kX4_vital 5 L (v2 :: v1 :: v0 :: zvr (some q) :: st) h = if (ph_K h q).1 % 1000 = 18 ∧ zcat st ≤ 8 then zk kX4_vital 5 8 L st (mX4_wayWhy [zvr (some q), v0, v1, v2] h) else none) ∧
  (∀ (v0 : ZV) (q : Nat) (L st : List ZV) (h : PH), zev kX4_vital 8 L (v0 :: zvr (some q) :: st) h = if (ph_K h q).1 % 1000 = 18 ∧ zcat st ≤ 8 then zk kX4_vital 8 11 L st (mX4_isRefused [zvr (some q), v0] h) else none) ∧
  (∀ (a : Int) (L st : List ZV) (h : PH), zev kX4_vital 11 L (zvi a :: st) h = if a = 0 then zev kX4_vital 16 L st h else zev kX4_vital 14 L st h) ∧
  (∀ (L st : List ZV) (h : PH), zev kX4_vital 14 L st h = zev kX4_vital 15 L (zvi (-1) :: st) h) ∧
  (∀ (a : Int) (L : List ZV) (h : PH), zev kX4_vital 15 L [zvi a] h = zrv (zvi a) h) ∧
  (∀ (a : Option Nat) (L st : List ZV) (h : PH), zev kX4_vital 16 (zvr a :: L) st h = zev kX4_vital 17 (zvr a :: L) (zvr a :: st) h) ∧
  (∀ (x0 : ZV) (a : Int) (L st : List ZV) (h : PH), zev kX4_vital 17 (x0 :: zvi a :: L) st h = zev kX4_vital 18 (x0 :: zvi a :: L) (zvi a :: st) h) ∧
  (∀ (x0 x1 : ZV) (a : Int) (L st : List ZV) (h : PH), zev kX4_vital 18 (x0 :: x1 :: zvi a :: L) st h = zev kX4_vital 19 (x0 :: x1 :: zvi a :: L) (zvi a :: st) h) ∧
  (∀ (x0 x1 x2 : ZV) (a : Int) (L st : List ZV) (h : PH), zev kX4_vital 19 (x0 :: x1 :: x2 :: zvi a :: L) st h = zev kX4_vital 20 (x0 :: x1 :: x2 :: zvi a :: L) (zvi a :: st) h) ∧
  (∀ (v0 v1 v2 : ZV) (q : Nat) (L st : List ZV) (h : PH), zev kX4_vital 20 L (v2 :: v1 :: v0 :: zvr (some q) :: st) h = if (ph_K h q).1 % 1000 = 18 ∧ zcat st ≤ 8 then zk kX4_vital 20 23 L st (mX4_best [zvr (some q), v0, v1, v2] h) else none) ∧
  (∀ (x0 x1 x2 x3 x4 : ZV) (a : Int) (L st : List ZV) (h : PH) (hx : zisL x3 = false) , zev kX4_vital 23 (x0 :: x1 :: x2 :: x3 :: x4 :: L) (zvi a :: st) h = zev kX4_vital 25 (x0 :: x1 :: x2 :: x3 :: zvi a :: L) st h) ∧
  (∀ (x0 x1 x2 x3 : ZV) (a : Int) (L st : List ZV) (h : PH), zev kX4_vital 25 (x0 :: x1 :: x2 :: x3 :: zvi a :: L) st h = zev kX4_vital 27 (x0 :: x1 :: x2 :: x3 :: zvi a :: L) (zvi a :: st) h) ∧
  (∀ (L st : List ZV) (h : PH), zev kX4_vital 27 L st h = zev kX4_vital 29 L (zvi (-2) :: st) h) ∧
  (∀ (a b : Int) (L st : List ZV) (h : PH), zev kX4_vital 29 L (zvi b :: zvi a :: st) h = if a ≠ b then zev kX4_vital 35 L st h else zev kX4_vital 32 L st h) ∧
  (∀ (L st : List ZV) (h : PH), zev kX4_vital 32 L st h = zev kX4_vital 34 L (zvi (-2) :: st) h) ∧
  (∀ (a : Int) (L : List ZV) (h : PH), zev kX4_vital 34 L [zvi a] h = zrv (zvi a) h) ∧
  (∀ (L st : List ZV) (h : PH), zev kX4_vital 35 L st h = zev kX4_vital 36 L (zvi 0 :: st) h) ∧
  (∀ (x0 x1 x2 x3 x4 x5 : ZV) (a : Int) (L st : List ZV) (h : PH) (hx : zisL x4 = false) , zev kX4_vital 36 (x0 :: x1 :: x2 :: x3 :: x4 :: x5 :: L) (zvi a :: st) h = zev kX4_vital 38 (x0 :: x1 :: x2 :: x3 :: x4 :: zvi a :: L) st h) ∧
  (∀ (L st : List ZV) (h : PH), zev kX4_vital 38 L st h = zev kX4_vital 39 L (zvi 0 :: st) h) ∧
  (∀ (x0 x1 x2 x3 x4 x5 x6 : ZV) (a : Int) (L st : List ZV) (h : PH) (hx : zisL x5 = false) , zev kX4_vital 39 (x0 :: x1 :: x2 :: x3 :: x4 :: x5 :: x6 :: L) (zvi a :: st) h = zev kX4_vital 41 (x0 :: x1 :: x2 :: x3 :: x4 :: x5 :: zvi a :: L) st h) ∧
  (∀ (a : Option Nat) (L st : List ZV) (h : PH), zev kX4_vital 43 (zvr a :: L) st h = zev kX4_vital 44 (zvr a :: L) (zvr a :: st) h) ∧
  (∀ (q : Nat) (L st : List ZV) (h : PH), zev kX4_vital 44 L (zvr (some q) :: st) h = if (ph_K h q).1 % 1000 = 18 then zev kX4_vital 47 L (zvr (ph_R h q 6) :: st) h else none) ∧
  (∀ (L st : List ZV) (h : PH), zev kX4_vital 47 L st h = zev kX4_vital 48 L (zvi 4 :: st) h) ∧
  (∀ (j : Int) (q : Nat) (L st : List ZV) (h : PH), zev kX4_vital 48 L (zvi j :: zvr (some q) :: st) h = if (ph_K h q).1 % 1000 = 1 ∧ 0 ≤ j ∧ j < (ph_K h q).2 then zev kX4_vital 49 L (zvi (ph_I h q j) :: st) h else none) ∧
  (∀ (a b : Int) (L st : List ZV) (h : PH), zev kX4_vital 49 L (zvi b :: zvi a :: st) h = if a ≥ b then zev kX4_vital 82 L st h else zev kX4_vital 52 L st h) ∧
  (∀ (x0 x1 x2 x3 x4 : ZV) (a : Int) (L st : List ZV) (h : PH), zev kX4_vital 52 (x0 :: x1 :: x2 :: x3 :: x4 :: zvi a :: L) st h = zev kX4_vital 54 (x0 :: x1 :: x2 :: x3 :: x4 :: zvi a :: L) (zvi a :: st) h) ∧
  (∀ (a : Option Nat) (L st : List ZV) (h : PH), zev kX4_vital 54 (zvr a :: L) st h = zev kX4_vital 55 (zvr a :: L) (zvr a :: st) h) ∧
  (∀ (x0 : ZV) (a : Int) (L st : List ZV) (h : PH), zev kX4_vital 55 (x0 :: zvi a :: L) st h = zev kX4_vital 56 (x0 :: zvi a :: L) (zvi a :: st) h) ∧
  (∀ (x0 x1 : ZV) (a : Int) (L st : List ZV) (h : PH), zev kX4_vital 56 (x0 :: x1 :: zvi a :: L) st h = zev kX4_vital 57 (x0 :: x1 :: zvi a :: L) (zvi a :: st) h) ∧
  (∀ (x0 x1 x2 : ZV) (a : Int) (L st : List ZV) (h : PH), zev kX4_vital 57 (x0 :: x1 :: x2 :: zvi a :: L) st h = zev kX4_vital 58 (x0 :: x1 :: x2 :: zvi a :: L) (zvi a :: st) h) ∧
  (∀ (x0 x1 x2 x3 x4 x5 : ZV) (a : Int) (L st : List ZV) (h : PH), zev kX4_vital 58 (x0 :: x1 :: x2 :: x3 :: x4 :: x5 :: zvi a :: L) st h = zev kX4_vital 60 (x0 :: x1 :: x2 :: x3 :: x4 :: x5 :: zvi a :: L) (zvi a :: st) h) ∧
  (∀ (v0 v1 v2 v3 : ZV) (q : Nat) (L st : List ZV) (h : PH), zev kX4_vital 60 L (v3 :: v2 :: v1 :: v0 :: zvr (some q) :: st) h = if (ph_K h q).1 % 1000 = 18 ∧ zcat st ≤ 8 then zk kX4_vital 60 63 L st (mX4_without [zvr (some q), v0, v1, v2, v3] h) else none) ∧
  (∀ (x0 x1 x2 x3 : ZV) (a : Int) (L st : List ZV) (h : PH), zev kX4_vital 63 (x0 :: x1 :: x2 :: x3 :: zvi a :: L) st h = zev kX4_vital 65 (x0 :: x1 :: x2 :: x3 :: zvi a :: L) (zvi a :: st) h) ∧
  (∀ (a b : Int) (L st : List ZV) (h : PH), zev kX4_vital 65 L (zvi b :: zvi a :: st) h = if a = b then zev kX4_vital 72 L st h else zev kX4_vital 68 L st h) ∧
  (∀ (L st : List ZV) (h : PH), zev kX4_vital 68 L st h = zev kX4_vital 69 L (zvi 1 :: st) h) ∧
  (∀ (L st : List ZV) (h : PH), zev kX4_vital 69 L st h = zev kX4_vital 73 L st h) ∧
  (∀ (L st : List ZV) (h : PH), zev kX4_vital 72 L st h = zev kX4_vital 73 L (zvi 0 :: st) h) ∧
  (∀ (a b : Int) (L st : List ZV) (h : PH), zev kX4_vital 73 L (zvi b :: zvi a :: st) h = zev kX4_vital 74 L (zvi (w32 (a + b)) :: st) h) ∧
  (∀ (x0 x1 x2 x3 x4 x5 : ZV) (a : Int) (L st : List ZV) (h : PH) (hx : zisL x4 = false) , zev kX4_vital 74 (x0 :: x1 :: x2 :: x3 :: x4 :: x5 :: L) (zvi a :: st) h = zev kX4_vital 76 (x0 :: x1 :: x2 :: x3 :: x4 :: zvi a :: L) st h) ∧
  (∀ (x0 x1 x2 x3 x4 x5 : ZV) (a : Int) (L st : List ZV) (h : PH) (hx : zisL x5 = false) , zev kX4_vital 76 (x0 :: x1 :: x2 :: x3 :: x4 :: x5 :: zvi a :: L) st h = zev kX4_vital 79 (x0 :: x1 :: x2 :: x3 :: x4 :: x5 :: zvi (w32 (a + 1)) :: L) st h) ∧
  (∀ (L st : List ZV) (h : PH), zev kX4_vital 79 L st h = zev kX4_vital 41 L st h) ∧
  (∀ (x0 x1 x2 x3 x4 : ZV) (a : Int) (L st : List ZV) (h : PH), zev kX4_vital 82 (x0 :: x1 :: x2 :: x3 :: x4 :: zvi a :: L) st h = zev kX4_vital 84 (x0 :: x1 :: x2 :: x3 :: x4 :: zvi a :: L) (zvi a :: st) h) ∧
  (∀ (a : Int) (L : List ZV) (h : PH), zev kX4_vital 84 L [zvi a] h = zrv (zvi a) h) :=
  ⟨fun a L st h => e_ld0R (n := 1) rfl,
  fun a L st h => e_ld0R (n := 2) rfl,
  fun x0 a L st h => e_ld1I (n := 3) rfl,
  fun x0 x1 a L st h => e_ld2I (n := 4) rfl,
  fun x0 x1 x2 a L st h => e_ld3I (n := 5) rfl,
  fun v0 v1 v2 q L st h => e_callV4 (F := mX4_wayWhy) (kd := 18) (n := 8) rfl,
  fun v0 q L st h => e_callV2 (F := mX4_isRefused) (kd := 18) (n := 11) rfl,
  fun a L st h => e_ifeq (t := 16) (n := 14) rfl,
  fun L st h => e_push (v := zvi (-1)) (n := 15) rfl,
  fun a L h => e_retI rfl,
  fun a L st h => e_ld0R (n := 17) rfl,
  fun x0 a L st h => e_ld1I (n := 18) rfl,
  fun x0 x1 a L st h => e_ld2I (n := 19) rfl,
  fun x0 x1 x2 a L st h => e_ld3I (n := 20) rfl,
  fun v0 v1 v2 q L st h => e_callV4 (F := mX4_best) (kd := 18) (n := 23) rfl,
  fun x0 x1 x2 x3 x4 a L st h hx => e_st4I (n := 25) rfl hx,
  fun x0 x1 x2 x3 a L st h => e_ld4I (n := 27) rfl,
  fun L st h => e_push (v := zvi (-2)) (n := 29) rfl,
  fun a b L st h => e_cmpne (t := 35) (n := 32) rfl,
  fun L st h => e_push (v := zvi (-2)) (n := 34) rfl,
  fun a L h => e_retI rfl,
  fun L st h => e_push (v := zvi 0) (n := 36) rfl,
  fun x0 x1 x2 x3 x4 x5 a L st h hx => e_st5I (n := 38) rfl hx,
  fun L st h => e_push (v := zvi 0) (n := 39) rfl,
  fun x0 x1 x2 x3 x4 x5 x6 a L st h hx => e_st6I (n := 41) rfl hx,
  fun a L st h => e_ld0R (n := 44) rfl,
  fun q L st h => e_getR (kd := 18) (k := 6) (n := 47) rfl,
  fun L st h => e_push (v := zvi 4) (n := 48) rfl,
  fun j q L st h => e_ald (kd := 1) (n := 49) rfl,
  fun a b L st h => e_cmpge (t := 82) (n := 52) rfl,
  fun x0 x1 x2 x3 x4 a L st h => e_ld5I (n := 54) rfl,
  fun a L st h => e_ld0R (n := 55) rfl,
  fun x0 a L st h => e_ld1I (n := 56) rfl,
  fun x0 x1 a L st h => e_ld2I (n := 57) rfl,
  fun x0 x1 x2 a L st h => e_ld3I (n := 58) rfl,
  fun x0 x1 x2 x3 x4 x5 a L st h => e_ld6I (n := 60) rfl,
  fun v0 v1 v2 v3 q L st h => e_callV5 (F := mX4_without) (kd := 18) (n := 63) rfl,
  fun x0 x1 x2 x3 a L st h => e_ld4I (n := 65) rfl,
  fun a b L st h => e_cmpeq (t := 72) (n := 68) rfl,
  fun L st h => e_push (v := zvi 1) (n := 69) rfl,
  fun L st h => e_goto (t := 73) rfl,
  fun L st h => e_push (v := zvi 0) (n := 73) rfl,
  fun a b L st h => e_bin (f := (fun a b => w32 (a + b))) (n := 74) rfl,
  fun x0 x1 x2 x3 x4 x5 a L st h hx => e_st5I (n := 76) rfl hx,
  fun x0 x1 x2 x3 x4 x5 a L st h hx => e_iinc6 (d := 1) (n := 79) rfl hx,
  fun L st h => e_goto (t := 41) rfl,
  fun x0 x1 x2 x3 x4 a L st h => e_ld5I (n := 84) rfl,
  fun a L h => e_retI rfl⟩
theorem allX4_vital : zall yX4_vital cX4_vital 7 (some .int) 9 kX4_vital.1 :=
  ⟨k_aload_n dX4_vital_0,
  k_aload_n dX4_vital_1,
  k_iload_n dX4_vital_2,
  k_iload_n dX4_vital_3,
  k_iload_n dX4_vital_4,
  k_callV (y2 := yX4_wayWhy) (C := RX4) (T0 := TX4) (ci := 2) dX4_vital_5 sndX4_wayWhy rfl q2116 q2118 qs98 q137 q2119 (by decide +kernel) ⟨by decide, by decide⟩ (by decide) (by decide),
  k_callV (y2 := yX4_isRefused) (C := RX4) (T0 := TX4) (ci := 2) dX4_vital_8 sndX4_isRefused rfl q1946 q1948 qs70 q137 q1949 (by decide +kernel) ⟨by decide, by decide⟩ (by decide) (by decide),
  k_ifeq (t := 16) dX4_vital_11 (by decide),
  k_iconst dX4_vital_14,
  k_iret dX4_vital_15,
  k_aload_n dX4_vital_16,
  k_iload_n dX4_vital_17,
  k_iload_n dX4_vital_18,
  k_iload_n dX4_vital_19,
  k_callV (y2 := yX4_best) (C := RX4) (T0 := TX4) (ci := 2) dX4_vital_20 sndX4_best rfl q2123 q2125 qs99 q137 q2126 (by decide +kernel) ⟨by decide, by decide⟩ (by decide) (by decide),
  k_istore dX4_vital_23,
  k_iload dX4_vital_25,
  k_bipush dX4_vital_27,
  k_cmpne (t := 35) dX4_vital_29 (by decide),
  k_bipush dX4_vital_32,
  k_iret dX4_vital_34,
  k_iconst dX4_vital_35,
  k_istore dX4_vital_36,
  k_iconst dX4_vital_38,
  k_istore dX4_vital_39,
  k_iload dX4_vital_41,
  k_aload_n dX4_vital_43,
  k_getR (C := RX4) (T := TX4) (N := 42) (ci := 2) (k := 6) (ref := "LinkTimesModel") dX4_vital_44 rfl in_X4 (by decide) q1805 (Or.inl rfl) (fun _ _ _ => rfl),
  k_iconst dX4_vital_47,
  k_iald dX4_vital_48,
  k_cmpge (t := 82) dX4_vital_49 (by decide),
  k_iload dX4_vital_52,
  k_aload_n dX4_vital_54,
  k_iload_n dX4_vital_55,
  k_iload_n dX4_vital_56,
  k_iload_n dX4_vital_57,
  k_iload dX4_vital_58,
  k_callV (y2 := yX4_without) (C := RX4) (T0 := TX4) (ci := 2) dX4_vital_60 sndX4_without rfl q2307 q2309 qs122 q137 q2310 (by decide +kernel) ⟨by decide, by decide⟩ (by decide) (by decide),
  k_iload dX4_vital_63,
  k_cmpeq (t := 72) dX4_vital_65 (by decide),
  k_iconst dX4_vital_68,
  k_goto (t := 73) dX4_vital_69 (by decide),
  k_iconst dX4_vital_72,
  k_iadd dX4_vital_73,
  k_istore dX4_vital_74,
  k_iinc dX4_vital_76,
  k_goto (t := 41) dX4_vital_79 (by decide),
  k_iload dX4_vital_82,
  k_iret dX4_vital_84, trivial⟩
theorem sndX4_vital : MSound 9 yX4_vital (ws_ yX4_vital cX4_vital 7 (some .int)) mX4_vital := msound_M (by decide) allX4_vital (fun _ _ => rfl)
/-! LinkTimesModel.slack(IIII)I -/
noncomputable def kX4_slack : ZM := ([(0, zi_ld 1 0 1), (1, zi_ld 1 0 2), (2, zi_ld 0 1 3), (3, zi_callV mX4_isSpot 18 2 6), (6, zi_if (fun a => zc_eq a 0) 30 9), (9, zi_ld 1 0 10), (10, zi_ld 0 2 11), (11, zi_callV mX4_isSpot 18 2 14), (14, zi_if (fun a => zc_eq a 0) 30 17), (17, zi_ld 1 0 18), (18, zi_ld 0 4 20), (20, zi_callV mX4_isOne 18 2 23), (23, zi_if (fun a => zc_eq a 0) 30 26), (26, zi_push (zvi 1) 27), (27, zi_goto 31), (30, zi_push (zvi 0) 31), (31, zi_ld 0 3 32), (32, zi_push (zvi 0) 33), (33, zi_push (zvi 1999) 36), (36, zi_callS mX4_in 3 39), (39, zi_callS mX4_unless_2 2 42), (42, zi_callV mX4_isRefused 18 2 45), (45, zi_if (fun a => zc_eq a 0) 50 48), (48, zi_push (zvi (-1)) 49), (49, zi_retv 0), (50, zi_ld 1 0 51), (51, zi_ld 0 1 52), (52, zi_ld 0 2 53), (53, zi_ld 0 3 54), (54, zi_callV mX4_best 18 4 57), (57, zi_st 0 5 59), (59, zi_ld 0 5 61), (61, zi_push (zvi (-2)) 63), (63, zi_cmp zc_ne 69 66), (66, zi_push (zvi (-2)) 68), (68, zi_retv 0), (69, zi_ld 1 0 70), (70, zi_callV mX4_laysAside 18 1 73), (73, zi_push (zvi 0) 74), (74, zi_st 0 6 76), (76, zi_push (zvi 1) 77), (77, zi_st 0 7 79), (79, zi_ld 0 6 81), (81, zi_push (zvi 99) 83), (83, zi_cmp zc_ge 154 86), (86, zi_ld 0 7 88), (88, zi_if (fun a => zc_eq a 0) 154 91), (91, zi_ld 1 0 92), (92, zi_getR 18 6 95), (95, zi_ld 0 4 97), (97, zi_push (zvi 5) 98), (98, zi_callS mX4_at 2 101), (101, zi_dup2 102), (102, zi_ald 1 103), (103, zi_push (zvi 1) 104), (104, zi_bin (fun a b => w32 (a + b)) 105), (105, zi_ast 106), (106, zi_ld 1 0 107), (107, zi_ld 0 1 108), (108, zi_ld 0 2 109), (109, zi_ld 0 3 110), (110, zi_callV mX4_best 18 4 113), (113, zi_st 0 8 115), (115, zi_ld 0 8 117), (117, zi_push (zvi (-2)) 119), (119, zi_cmp zc_eq 133 122), (122, zi_ld 0 8 124), (124, zi_ld 0 5 126), (126, zi_cmp zc_gt 133 129), (129, zi_push (zvi 1) 130), (130, zi_goto 134), (133, zi_push (zvi 0) 134), (134, zi_st 0 7 136), (136, zi_ld 0 6 138), (138, zi_ld 0 7 140), (140, zi_if (fun a => zc_eq a 0) 147 143), (143, zi_push (zvi 1) 144), (144, zi_goto 148), (147, zi_push (zvi 0) 148), (148, zi_bin (fun a b => w32 (a + b)) 149), (149, zi_st 0 6 151), (151, zi_goto 79), (154, zi_ld 1 0 155), (155, zi_callV mX4_takesBack 18 1 158), (158, zi_ld 0 6 160), (160, zi_retv 0)], fun _ _ => none)
noncomputable def mX4_slack : ZF := zrunM kX4_slack 9
theorem enX4_slack (x0 : Option Nat) (x1 : Int) (x2 : Int) (x3 : Int) (x4 : Int) (h : PH) : mX4_slack [zvr x0, zvi x1, zvi x2, zvi x3, zvi x4] h = zev kX4_slack 0 [zvr x0, zvi x1, zvi x2, zvi x3, zvi x4, zvu, zvu, zvu, zvu] [] h := zrunM_eq rfl rfl
theorem hdX4_slack_79 (x0 x1 x2 x3 x4 x5 : ZV) (a : Int) (L st : List ZV) (h : PH) : zev kX4_slack 79 (x0 :: x1 :: x2 :: x3 :: x4 :: x5 :: zvi a :: L) st h = zev kX4_slack 81 (x0 :: x1 :: x2 :: x3 :: x4 :: x5 :: zvi a :: L) (zvi a :: st) h := e_ld6I (n := 81) rfl
theorem rX4_slack : (∀ (a : Option Nat) (L st : List ZV) (h : PH), zev kX4_slack 0 (zvr a :: L) st h = zev kX4_slack 1 (zvr a :: L) (zvr a :: st) h) ∧
  (∀ (a : Option Nat) (L st : List ZV) (h : PH), zev kX4_slack 1 (zvr a :: L) st h = zev kX4_slack 2 (zvr a :: L) (zvr a :: st) h) ∧
  (∀ (x0 : ZV) (a : Int) (L st : List ZV) (h : PH), zev kX4_slack 2 (x0 :: zvi a :: L) st h = zev kX4_slack 3 (x0 :: zvi a :: L) (zvi a :: st) h) ∧
  (∀ (v0 : ZV) (q : Nat) (L st : List ZV) (h : PH), zev kX4_slack 3 L (v0 :: zvr (some q) :: st) h = if (ph_K h q).1 % 1000 = 18 ∧ zcat st ≤ 8 then zk kX4_slack 3 6 L st (mX4_isSpot [zvr (some q), v0] h) else none) ∧
  (∀ (a : Int) (L st : List ZV) (h : PH), zev kX4_slack 6 L (zvi a :: st) h = if a = 0 then zev kX4_slack 30 L st h else zev kX4_slack 9 L st h) ∧
  (∀ (a : Option Nat) (L st : List ZV) (h : PH), zev kX4_slack 9 (zvr a :: L) st h = zev kX4_slack 10 (zvr a :: L) (zvr a :: st) h) ∧
  (∀ (x0 x1 : ZV) (a : Int) (L st : List ZV) (h : PH), zev kX4_slack 10 (x0 :: x1 :: zvi a :: L) st h = zev kX4_slack 11 (x0 :: x1 :: zvi a :: L) (zvi a :: st) h) ∧
  (∀ (v0 : ZV) (q : Nat) (L st : List ZV) (h : PH), zev kX4_slack 11 L (v0 :: zvr (some q) :: st) h = if (ph_K h q).1 % 1000 = 18 ∧ zcat st ≤ 8 then zk kX4_slack 11 14 L st (mX4_isSpot [zvr (some q), v0] h) else none) ∧
  (∀ (a : Int) (L st : List ZV) (h : PH), zev kX4_slack 14 L (zvi a :: st) h = if a = 0 then zev kX4_slack 30 L st h else zev kX4_slack 17 L st h) ∧
  (∀ (a : Option Nat) (L st : List ZV) (h : PH), zev kX4_slack 17 (zvr a :: L) st h = zev kX4_slack 18 (zvr a :: L) (zvr a :: st) h) ∧
  (∀ (x0 x1 x2 x3 : ZV) (a : Int) (L st : List ZV) (h : PH), zev kX4_slack 18 (x0 :: x1 :: x2 :: x3 :: zvi a :: L) st h = zev kX4_slack 20 (x0 :: x1 :: x2 :: x3 :: zvi a :: L) (zvi a :: st) h) ∧
  (∀ (v0 : ZV) (q : Nat) (L st : List ZV) (h : PH), zev kX4_slack 20 L (v0 :: zvr (some q) :: st) h = if (ph_K h q).1 % 1000 = 18 ∧ zcat st ≤ 8 then zk kX4_slack 20 23 L st (mX4_isOne [zvr (some q), v0] h) else none) ∧
  (∀ (a : Int) (L st : List ZV) (h : PH), zev kX4_slack 23 L (zvi a :: st) h = if a = 0 then zev kX4_slack 30 L st h else zev kX4_slack 26 L st h) ∧
  (∀ (L st : List ZV) (h : PH), zev kX4_slack 26 L st h = zev kX4_slack 27 L (zvi 1 :: st) h) ∧
  (∀ (L st : List ZV) (h : PH), zev kX4_slack 27 L st h = zev kX4_slack 31 L st h) ∧
  (∀ (L st : List ZV) (h : PH), zev kX4_slack 30 L st h = zev kX4_slack 31 L (zvi 0 :: st) h) ∧
  (∀ (x0 x1 x2 : ZV) (a : Int) (L st : List ZV) (h : PH), zev kX4_slack 31 (x0 :: x1 :: x2 :: zvi a :: L) st h = zev kX4_slack 32 (x0 :: x1 :: x2 :: zvi a :: L) (zvi a :: st) h) ∧
  (∀ (L st : List ZV) (h : PH), zev kX4_slack 32 L st h = zev kX4_slack 33 L (zvi 0 :: st) h) ∧
  (∀ (L st : List ZV) (h : PH), zev kX4_slack 33 L st h = zev kX4_slack 36 L (zvi 1999 :: st) h) ∧
  (∀ (v0 v1 v2 : ZV) (L st : List ZV) (h : PH), zev kX4_slack 36 L (v2 :: v1 :: v0 :: st) h = if zcat st ≤ 8 then zk kX4_slack 36 39 L st (mX4_in [v0, v1, v2] h) else none) ∧
  (∀ (v0 v1 : ZV) (L st : List ZV) (h : PH), zev kX4_slack 39 L (v1 :: v0 :: st) h = if zcat st ≤ 8 then zk kX4_slack 39 42 L st (mX4_unless_2 [v0, v1] h) else none) ∧
  (∀ (v0 : ZV) (q : Nat) (L st : List ZV) (h : PH), zev kX4_slack 42 L (v0 :: zvr (some q) :: st) h = if (ph_K h q).1 % 1000 = 18 ∧ zcat st ≤ 8 then zk kX4_slack 42 45 L st (mX4_isRefused [zvr (some q), v0] h) else none) ∧
  (∀ (a : Int) (L st : List ZV) (h : PH), zev kX4_slack 45 L (zvi a :: st) h = if a = 0 then zev kX4_slack 50 L st h else zev kX4_slack 48 L st h) ∧
  (∀ (L st : List ZV) (h : PH), zev kX4_slack 48 L st h = zev kX4_slack 49 L (zvi (-1) :: st) h) ∧
  (∀ (a : Int) (L : List ZV) (h : PH), zev kX4_slack 49 L [zvi a] h = zrv (zvi a) h) ∧
  (∀ (a : Option Nat) (L st : List ZV) (h : PH), zev kX4_slack 50 (zvr a :: L) st h = zev kX4_slack 51 (zvr a :: L) (zvr a :: st) h) ∧
  (∀ (x0 : ZV) (a : Int) (L st : List ZV) (h : PH), zev kX4_slack 51 (x0 :: zvi a :: L) st h = zev kX4_slack 52 (x0 :: zvi a :: L) (zvi a :: st) h) ∧
  (∀ (x0 x1 : ZV) (a : Int) (L st : List ZV) (h : PH), zev kX4_slack 52 (x0 :: x1 :: zvi a :: L) st h = zev kX4_slack 53 (x0 :: x1 :: zvi a :: L) (zvi a :: st) h) ∧
  (∀ (x0 x1 x2 : ZV) (a : Int) (L st : List ZV) (h : PH), zev kX4_slack 53 (x0 :: x1 :: x2 :: zvi a :: L) st h = zev kX4_slack 54 (x0 :: x1 :: x2 :: zvi a :: L) (zvi a :: st) h) ∧
  (∀ (v0 v1 v2 : ZV) (q : Nat) (L st : List ZV) (h : PH), zev kX4_slack 54 L (v2 :: v1 :: v0 :: zvr (some q) :: st) h = if (ph_K h q).1 % 1000 = 18 ∧ zcat st ≤ 8 then zk kX4_slack 54 57 L st (mX4_best [zvr (some q), v0, v1, v2] h) else none) ∧
  (∀ (x0 x1 x2 x3 x4 x5 : ZV) (a : Int) (L st : List ZV) (h : PH) (hx : zisL x4 = false) , zev kX4_slack 57 (x0 :: x1 :: x2 :: x3 :: x4 :: x5 :: L) (zvi a :: st) h = zev kX4_slack 59 (x0 :: x1 :: x2 :: x3 :: x4 :: zvi a :: L) st h) ∧
  (∀ (x0 x1 x2 x3 x4 : ZV) (a : Int) (L st : List ZV) (h : PH), zev kX4_slack 59 (x0 :: x1 :: x2 :: x3 :: x4 :: zvi a :: L) st h = zev kX4_slack 61 (x0 :: x1 :: x2 :: x3 :: x4 :: zvi a :: L) (zvi a :: st) h) ∧
  (∀ (L st : List ZV) (h : PH), zev kX4_slack 61 L st h = zev kX4_slack 63 L (zvi (-2) :: st) h) ∧
  (∀ (a b : Int) (L st : List ZV) (h : PH), zev kX4_slack 63 L (zvi b :: zvi a :: st) h = if a ≠ b then zev kX4_slack 69 L st h else zev kX4_slack 66 L st h) ∧
  (∀ (L st : List ZV) (h : PH), zev kX4_slack 66 L st h = zev kX4_slack 68 L (zvi (-2) :: st) h) ∧
  (∀ (a : Int) (L : List ZV) (h : PH), zev kX4_slack 68 L [zvi a] h = zrv (zvi a) h) ∧
  (∀ (a : Option Nat) (L st : List ZV) (h : PH), zev kX4_slack 69 (zvr a :: L) st h = zev kX4_slack 70 (zvr a :: L) (zvr a :: st) h) ∧
  (∀ (q : Nat) (L st : List ZV) (h : PH), zev kX4_slack 70 L (zvr (some q) :: st) h = if (ph_K h q).1 % 1000 = 18 ∧ zcat st ≤ 8 then zk kX4_slack 70 73 L st (mX4_laysAside [zvr (some q)] h) else none) ∧
  (∀ (L st : List ZV) (h : PH), zev kX4_slack 73 L st h = zev kX4_slack 74 L (zvi 0 :: st) h) ∧
  (∀ (x0 x1 x2 x3 x4 x5 x6 : ZV) (a : Int) (L st : List ZV) (h : PH) (hx : zisL x5 = false) , zev kX4_slack 74 (x0 :: x1 :: x2 :: x3 :: x4 :: x5 :: x6 :: L) (zvi a :: st) h = zev kX4_slack 76 (x0 :: x1 :: x2 :: x3 :: x4 :: x5 :: zvi a :: L) st h) ∧
  (∀ (L st : List ZV) (h : PH), zev kX4_slack 76 L st h = zev kX4_slack 77 L (zvi 1 :: st) h) ∧
  (∀ (x0 x1 x2 x3 x4 x5 x6 x7 : ZV) (a : Int) (L st : List ZV) (h : PH) (hx : zisL x6 = false) , zev kX4_slack 77 (x0 :: x1 :: x2 :: x3 :: x4 :: x5 :: x6 :: x7 :: L) (zvi a :: st) h = zev kX4_slack 79 (x0 :: x1 :: x2 :: x3 :: x4 :: x5 :: x6 :: zvi a :: L) st h) ∧
  (∀ (L st : List ZV) (h : PH), zev kX4_slack 81 L st h = zev kX4_slack 83 L (zvi 99 :: st) h) ∧
  (∀ (a b : Int) (L st : List ZV) (h : PH), zev kX4_slack 83 L (zvi b :: zvi a :: st) h = if a ≥ b then zev kX4_slack 154 L st h else zev kX4_slack 86 L st h) ∧
  (∀ (x0 x1 x2 x3 x4 x5 x6 : ZV) (a : Int) (L st : List ZV) (h : PH), zev kX4_slack 86 (x0 :: x1 :: x2 :: x3 :: x4 :: x5 :: x6 :: zvi a :: L) st h = zev kX4_slack 88 (x0 :: x1 :: x2 :: x3 :: x4 :: x5 :: x6 :: zvi a :: L) (zvi a :: st) h) ∧
  (∀ (a : Int) (L st : List ZV) (h : PH), zev kX4_slack 88 L (zvi a :: st) h = if a = 0 then zev kX4_slack 154 L st h else zev kX4_slack 91 L st h) ∧
  (∀ (a : Option Nat) (L st : List ZV) (h : PH), zev kX4_slack 91 (zvr a :: L) st h = zev kX4_slack 92 (zvr a :: L) (zvr a :: st) h) ∧
  (∀ (q : Nat) (L st : List ZV) (h : PH), zev kX4_slack 92 L (zvr (some q) :: st) h = if (ph_K h q).1 % 1000 = 18 then zev kX4_slack 95 L (zvr (ph_R h q 6) :: st) h else none) ∧
  (∀ (x0 x1 x2 x3 : ZV) (a : Int) (L st : List ZV) (h : PH), zev kX4_slack 95 (x0 :: x1 :: x2 :: x3 :: zvi a :: L) st h = zev kX4_slack 97 (x0 :: x1 :: x2 :: x3 :: zvi a :: L) (zvi a :: st) h) ∧
  (∀ (L st : List ZV) (h : PH), zev kX4_slack 97 L st h = zev kX4_slack 98 L (zvi 5 :: st) h) ∧
  (∀ (v0 v1 : ZV) (L st : List ZV) (h : PH), zev kX4_slack 98 L (v1 :: v0 :: st) h = if zcat st ≤ 8 then zk kX4_slack 98 101 L st (mX4_at [v0, v1] h) else none) ∧
  (∀ (a : Int) (b : Int) (L st : List ZV) (h : PH), zev kX4_slack 101 L (zvi a :: zvi b :: st) h = zev kX4_slack 102 L (zvi a :: zvi b :: zvi a :: zvi b :: st) h) ∧
  (∀ (a : Int) (b : Option Nat) (L st : List ZV) (h : PH), zev kX4_slack 101 L (zvi a :: zvr b :: st) h = zev kX4_slack 102 L (zvi a :: zvr b :: zvi a :: zvr b :: st) h) ∧
  (∀ (a : Option Nat) (b : Int) (L st : List ZV) (h : PH), zev kX4_slack 101 L (zvr a :: zvi b :: st) h = zev kX4_slack 102 L (zvr a :: zvi b :: zvr a :: zvi b :: st) h) ∧
  (∀ (a : Option Nat) (b : Option Nat) (L st : List ZV) (h : PH), zev kX4_slack 101 L (zvr a :: zvr b :: st) h = zev kX4_slack 102 L (zvr a :: zvr b :: zvr a :: zvr b :: st) h) ∧
  (∀ (j : Int) (q : Nat) (L st : List ZV) (h : PH), zev kX4_slack 102 L (zvi j :: zvr (some q) :: st) h = if (ph_K h q).1 % 1000 = 1 ∧ 0 ≤ j ∧ j < (ph_K h q).2 then zev kX4_slack 103 L (zvi (ph_I h q j) :: st) h else none) ∧
  (∀ (L st : List ZV) (h : PH), zev kX4_slack 103 L st h = zev kX4_slack 104 L (zvi 1 :: st) h) ∧
  (∀ (a b : Int) (L st : List ZV) (h : PH), zev kX4_slack 104 L (zvi b :: zvi a :: st) h = zev kX4_slack 105 L (zvi (w32 (a + b)) :: st) h) ∧
  (∀ (x j : Int) (q : Nat) (L st : List ZV) (h : PH), zev kX4_slack 105 L (zvi x :: zvi j :: zvr (some q) :: st) h = if (ph_K h q).1 = 1 ∧ 0 ≤ j ∧ j < (ph_K h q).2 then zev kX4_slack 106 L st (st_I h q j x) else none) ∧
  (∀ (a : Option Nat) (L st : List ZV) (h : PH), zev kX4_slack 106 (zvr a :: L) st h = zev kX4_slack 107 (zvr a :: L) (zvr a :: st) h) ∧
  (∀ (x0 : ZV) (a : Int) (L st : List ZV) (h : PH), zev kX4_slack 107 (x0 :: zvi a :: L) st h = zev kX4_slack 108 (x0 :: zvi a :: L) (zvi a :: st) h) ∧
  (∀ (x0 x1 : ZV) (a : Int) (L st : List ZV) (h : PH), zev kX4_slack 108 (x0 :: x1 :: zvi a :: L) st h = zev kX4_slack 109 (x0 :: x1 :: zvi a :: L) (zvi a :: st) h) ∧
  (∀ (x0 x1 x2 : ZV) (a : Int) (L st : List ZV) (h : PH), zev kX4_slack 109 (x0 :: x1 :: x2 :: zvi a :: L) st h = zev kX4_slack 110 (x0 :: x1 :: x2 :: zvi a :: L) (zvi a :: st) h) ∧
  (∀ (v0 v1 v2 : ZV) (q : Nat) (L st : List ZV) (h : PH), zev kX4_slack 110 L (v2 :: v1 :: v0 :: zvr (some q) :: st) h = if (ph_K h q).1 % 1000 = 18 ∧ zcat st ≤ 8 then zk kX4_slack 110 113 L st (mX4_best [zvr (some q), v0, v1, v2] h) else none) ∧
  (∀ (x0 x1 x2 x3 x4 x5 x6 x7 x8 : ZV) (a : Int) (L st : List ZV) (h : PH) (hx : zisL x7 = false) , zev kX4_slack 113 (x0 :: x1 :: x2 :: x3 :: x4 :: x5 :: x6 :: x7 :: x8 :: L) (zvi a :: st) h = zev kX4_slack 115 (x0 :: x1 :: x2 :: x3 :: x4 :: x5 :: x6 :: x7 :: zvi a :: L) st h) ∧
  (∀ (x0 x1 x2 x3 x4 x5 x6 x7 : ZV) (a : Int) (L st : List ZV) (h : PH), zev kX4_slack 115 (x0 :: x1 :: x2 :: x3 :: x4 :: x5 :: x6 :: x7 :: zvi a :: L) st h = zev kX4_slack 117 (x0 :: x1 :: x2 :: x3 :: x4 :: x5 :: x6 :: x7 :: zvi a :: L) (zvi a :: st) h) ∧
  (∀ (L st : List ZV) (h : PH), zev kX4_slack 117 L st h = zev kX4_slack 119 L (zvi (-2) :: st) h) ∧
  (∀ (a b : Int) (L st : List ZV) (h : PH), zev kX4_slack 119 L (zvi b :: zvi a :: st) h = if a = b then zev kX4_slack 133 L st h else zev kX4_slack 122 L st h) ∧
  (∀ (x0 x1 x2 x3 x4 x5 x6 x7 : ZV) (a : Int) (L st : List ZV) (h : PH), zev kX4_slack 122 (x0 :: x1 :: x2 :: x3 :: x4 :: x5 :: x6 :: x7 :: zvi a :: L) st h = zev kX4_slack 124 (x0 :: x1 :: x2 :: x3 :: x4 :: x5 :: x6 :: x7 :: zvi a :: L) (zvi a :: st) h) ∧
  (∀ (x0 x1 x2 x3 x4 : ZV) (a : Int) (L st : List ZV) (h : PH), zev kX4_slack 124 (x0 :: x1 :: x2 :: x3 :: x4 :: zvi a :: L) st h = zev kX4_slack 126 (x0 :: x1 :: x2 :: x3 :: x4 :: zvi a :: L) (zvi a :: st) h) ∧
  (∀ (a b : Int) (L st : List ZV) (h : PH), zev kX4_slack 126 L (zvi b :: zvi a :: st) h = if a > b then zev kX4_slack 133 L st h else zev kX4_slack 129 L st h) ∧
  (∀ (L st : List ZV) (h : PH), zev kX4_slack 129 L st h = zev kX4_slack 130 L (zvi 1 :: st) h) ∧
  (∀ (L st : List ZV) (h : PH), zev kX4_slack 130 L st h = zev kX4_slack 134 L st h) ∧
  (∀ (L st : List ZV) (h : PH), zev kX4_slack 133 L st h = zev kX4_slack 134 L (zvi 0 :: st) h) ∧
  (∀ (x0 x1 x2 x3 x4 x5 x6 x7 : ZV) (a : Int) (L st : List ZV) (h : PH) (hx : zisL x6 = false) , zev kX4_slack 134 (x0 :: x1 :: x2 :: x3 :: x4 :: x5 :: x6 :: x7 :: L) (zvi a :: st) h = zev kX4_slack 136 (x0 :: x1 :: x2 :: x3 :: x4 :: x5 :: x6 :: zvi a :: L) st h) ∧
  (∀ (x0 x1 x2 x3 x4 x5 : ZV) (a : Int) (L st : List ZV) (h : PH), zev kX4_slack 136 (x0 :: x1 :: x2 :: x3 :: x4 :: x5 :: zvi a :: L) st h = zev kX4_slack 138 (x0 :: x1 :: x2 :: x3 :: x4 :: x5 :: zvi a :: L) (zvi a :: st) h) ∧
  (∀ (x0 x1 x2 x3 x4 x5 x6 : ZV) (a : Int) (L st : List ZV) (h : PH), zev kX4_slack 138 (x0 :: x1 :: x2 :: x3 :: x4 :: x5 :: x6 :: zvi a :: L) st h = zev kX4_slack 140 (x0 :: x1 :: x2 :: x3 :: x4 :: x5 :: x6 :: zvi a :: L) (zvi a :: st) h) ∧
  (∀ (a : Int) (L st : List ZV) (h : PH), zev kX4_slack 140 L (zvi a :: st) h = if a = 0 then zev kX4_slack 147 L st h else zev kX4_slack 143 L st h) ∧
  (∀ (L st : List ZV) (h : PH), zev kX4_slack 143 L st h = zev kX4_slack 144 L (zvi 1 :: st) h) ∧
  (∀ (L st : List ZV) (h : PH), zev kX4_slack 144 L st h = zev kX4_slack 148 L st h) ∧
  (∀ (L st : List ZV) (h : PH), zev kX4_slack 147 L st h = zev kX4_slack 148 L (zvi 0 :: st) h) ∧
  (∀ (a b : Int) (L st : List ZV) (h : PH), zev kX4_slack 148 L (zvi b :: zvi a :: st) h = zev kX4_slack 149 L (zvi (w32 (a + b)) :: st) h) ∧
  (∀ (x0 x1 x2 x3 x4 x5 x6 : ZV) (a : Int) (L st : List ZV) (h : PH) (hx : zisL x5 = false) , zev kX4_slack 149 (x0 :: x1 :: x2 :: x3 :: x4 :: x5 :: x6 :: L) (zvi a :: st) h = zev kX4_slack 151 (x0 :: x1 :: x2 :: x3 :: x4 :: x5 :: zvi a :: L) st h) ∧
  (∀ (L st : List ZV) (h : PH), zev kX4_slack 151 L st h = zev kX4_slack 79 L st h) ∧
  (∀ (a : Option Nat) (L st : List ZV) (h : PH), zev kX4_slack 154 (zvr a :: L) st h = zev kX4_slack 155 (zvr a :: L) (zvr a :: st) h) ∧
  (∀ (q : Nat) (L st : List ZV) (h : PH), zev kX4_slack 155 L (zvr (some q) :: st) h = if (ph_K h q).1 % 1000 = 18 ∧ zcat st ≤ 8 then zk kX4_slack 155 158 L st (mX4_takesBack [zvr (some q)] h) else none) ∧
  (∀ (x0 x1 x2 x3 x4 x5 : ZV) (a : Int) (L st : List ZV) (h : PH), zev kX4_slack 158 (x0 :: x1 :: x2 :: x3 :: x4 :: x5 :: zvi a :: L) st h = zev kX4_slack 160 (x0 :: x1 :: x2 :: x3 :: x4 :: x5 :: zvi a :: L) (zvi a :: st) h) ∧
  (∀ (a : Int) (L : List ZV) (h : PH), zev kX4_slack 160 L [zvi a] h = zrv (zvi a) h) :=
  ⟨fun a L st h => e_ld0R (n := 1) rfl,
  fun a L st h => e_ld0R (n := 2) rfl,
  fun x0 a L st h => e_ld1I (n := 3) rfl,
  fun v0 q L st h => e_callV2 (F := mX4_isSpot) (kd := 18) (n := 6) rfl,
  fun a L st h => e_ifeq (t := 30) (n := 9) rfl,
  fun a L st h => e_ld0R (n := 10) rfl,
  fun x0 x1 a L st h => e_ld2I (n := 11) rfl,
  fun v0 q L st h => e_callV2 (F := mX4_isSpot) (kd := 18) (n := 14) rfl,
  fun a L st h => e_ifeq (t := 30) (n := 17) rfl,
  fun a L st h => e_ld0R (n := 18) rfl,
  fun x0 x1 x2 x3 a L st h => e_ld4I (n := 20) rfl,
  fun v0 q L st h => e_callV2 (F := mX4_isOne) (kd := 18) (n := 23) rfl,
  fun a L st h => e_ifeq (t := 30) (n := 26) rfl,
  fun L st h => e_push (v := zvi 1) (n := 27) rfl,
  fun L st h => e_goto (t := 31) rfl,
  fun L st h => e_push (v := zvi 0) (n := 31) rfl,
  fun x0 x1 x2 a L st h => e_ld3I (n := 32) rfl,
  fun L st h => e_push (v := zvi 0) (n := 33) rfl,
  fun L st h => e_push (v := zvi 1999) (n := 36) rfl,
  fun v0 v1 v2 L st h => e_callS3 (F := mX4_in) (n := 39) rfl,
  fun v0 v1 L st h => e_callS2 (F := mX4_unless_2) (n := 42) rfl,
  fun v0 q L st h => e_callV2 (F := mX4_isRefused) (kd := 18) (n := 45) rfl,
  fun a L st h => e_ifeq (t := 50) (n := 48) rfl,
  fun L st h => e_push (v := zvi (-1)) (n := 49) rfl,
  fun a L h => e_retI rfl,
  fun a L st h => e_ld0R (n := 51) rfl,
  fun x0 a L st h => e_ld1I (n := 52) rfl,
  fun x0 x1 a L st h => e_ld2I (n := 53) rfl,
  fun x0 x1 x2 a L st h => e_ld3I (n := 54) rfl,
  fun v0 v1 v2 q L st h => e_callV4 (F := mX4_best) (kd := 18) (n := 57) rfl,
  fun x0 x1 x2 x3 x4 x5 a L st h hx => e_st5I (n := 59) rfl hx,
  fun x0 x1 x2 x3 x4 a L st h => e_ld5I (n := 61) rfl,
  fun L st h => e_push (v := zvi (-2)) (n := 63) rfl,
  fun a b L st h => e_cmpne (t := 69) (n := 66) rfl,
  fun L st h => e_push (v := zvi (-2)) (n := 68) rfl,
  fun a L h => e_retI rfl,
  fun a L st h => e_ld0R (n := 70) rfl,
  fun q L st h => e_callV1 (F := mX4_laysAside) (kd := 18) (n := 73) rfl,
  fun L st h => e_push (v := zvi 0) (n := 74) rfl,
  fun x0 x1 x2 x3 x4 x5 x6 a L st h hx => e_st6I (n := 76) rfl hx,
  fun L st h => e_push (v := zvi 1) (n := 77) rfl,
  fun x0 x1 x2 x3 x4 x5 x6 x7 a L st h hx => e_st7I (n := 79) rfl hx,
  fun L st h => e_push (v := zvi 99) (n := 83) rfl,
  fun a b L st h => e_cmpge (t := 154) (n := 86) rfl,
  fun x0 x1 x2 x3 x4 x5 x6 a L st h => e_ld7I (n := 88) rfl,
  fun a L st h => e_ifeq (t := 154) (n := 91) rfl,
  fun a L st h => e_ld0R (n := 92) rfl,
  fun q L st h => e_getR (kd := 18) (k := 6) (n := 95) rfl,
  fun x0 x1 x2 x3 a L st h => e_ld4I (n := 97) rfl,
  fun L st h => e_push (v := zvi 5) (n := 98) rfl,
  fun v0 v1 L st h => e_callS2 (F := mX4_at) (n := 101) rfl,
  fun a b L st h => e_dup2II (n := 102) rfl,
  fun a b L st h => e_dup2IR (n := 102) rfl,
  fun a b L st h => e_dup2RI (n := 102) rfl,
  fun a b L st h => e_dup2RR (n := 102) rfl,
  fun j q L st h => e_ald (kd := 1) (n := 103) rfl,
  fun L st h => e_push (v := zvi 1) (n := 104) rfl,
  fun a b L st h => e_bin (f := (fun a b => w32 (a + b))) (n := 105) rfl,
  fun x j q L st h => e_ast (n := 106) rfl,
  fun a L st h => e_ld0R (n := 107) rfl,
  fun x0 a L st h => e_ld1I (n := 108) rfl,
  fun x0 x1 a L st h => e_ld2I (n := 109) rfl,
  fun x0 x1 x2 a L st h => e_ld3I (n := 110) rfl,
  fun v0 v1 v2 q L st h => e_callV4 (F := mX4_best) (kd := 18) (n := 113) rfl,
  fun x0 x1 x2 x3 x4 x5 x6 x7 x8 a L st h hx => e_st8I (n := 115) rfl hx,
  fun x0 x1 x2 x3 x4 x5 x6 x7 a L st h => e_ld8I (n := 117) rfl,
  fun L st h => e_push (v := zvi (-2)) (n := 119) rfl,
  fun a b L st h => e_cmpeq (t := 133) (n := 122) rfl,
  fun x0 x1 x2 x3 x4 x5 x6 x7 a L st h => e_ld8I (n := 124) rfl,
  fun x0 x1 x2 x3 x4 a L st h => e_ld5I (n := 126) rfl,
  fun a b L st h => e_cmpgt (t := 133) (n := 129) rfl,
  fun L st h => e_push (v := zvi 1) (n := 130) rfl,
  fun L st h => e_goto (t := 134) rfl,
  fun L st h => e_push (v := zvi 0) (n := 134) rfl,
  fun x0 x1 x2 x3 x4 x5 x6 x7 a L st h hx => e_st7I (n := 136) rfl hx,
  fun x0 x1 x2 x3 x4 x5 a L st h => e_ld6I (n := 138) rfl,
  fun x0 x1 x2 x3 x4 x5 x6 a L st h => e_ld7I (n := 140) rfl,
  fun a L st h => e_ifeq (t := 147) (n := 143) rfl,
  fun L st h => e_push (v := zvi 1) (n := 144) rfl,
  fun L st h => e_goto (t := 148) rfl,
  fun L st h => e_push (v := zvi 0) (n := 148) rfl,
  fun a b L st h => e_bin (f := (fun a b => w32 (a + b))) (n := 149) rfl,
  fun x0 x1 x2 x3 x4 x5 x6 a L st h hx => e_st6I (n := 151) rfl hx,
  fun L st h => e_goto (t := 79) rfl,
  fun a L st h => e_ld0R (n := 155) rfl,
  fun q L st h => e_callV1 (F := mX4_takesBack) (kd := 18) (n := 158) rfl,
  fun x0 x1 x2 x3 x4 x5 a L st h => e_ld6I (n := 160) rfl,
  fun a L h => e_retI rfl⟩
theorem allX4_slack : zall yX4_slack cX4_slack 9 (some .int) 8 kX4_slack.1 :=
  ⟨k_aload_n dX4_slack_0,
  k_aload_n dX4_slack_1,
  k_iload_n dX4_slack_2,
  k_callV (y2 := yX4_isSpot) (C := RX4) (T0 := TX4) (ci := 2) dX4_slack_3 sndX4_isSpot rfl q2084 q2086 qs93 q137 q2087 (by decide +kernel) ⟨by decide, by decide⟩ (by decide) (by decide),
  k_ifeq (t := 30) dX4_slack_6 (by decide),
  k_aload_n dX4_slack_9,
  k_iload_n dX4_slack_10,
  k_callV (y2 := yX4_isSpot) (C := RX4) (T0 := TX4) (ci := 2) dX4_slack_11 sndX4_isSpot rfl q2084 q2086 qs93 q137 q2087 (by decide +kernel) ⟨by decide, by decide⟩ (by decide) (by decide),
  k_ifeq (t := 30) dX4_slack_14 (by decide),
  k_aload_n dX4_slack_17,
  k_iload dX4_slack_18,
  k_callV (y2 := yX4_isOne) (C := RX4) (T0 := TX4) (ci := 2) dX4_slack_20 sndX4_isOne rfl q2096 q2098 qs95 q137 q2099 (by decide +kernel) ⟨by decide, by decide⟩ (by decide) (by decide),
  k_ifeq (t := 30) dX4_slack_23 (by decide),
  k_iconst dX4_slack_26,
  k_goto (t := 31) dX4_slack_27 (by decide),
  k_iconst dX4_slack_30,
  k_iload_n dX4_slack_31,
  k_iconst dX4_slack_32,
  k_sipush dX4_slack_33,
  k_callS (y2 := yX4_in) dX4_slack_36 sndX4_in q1943 q1944 q137 q1945 (by decide +kernel) ⟨by decide, by decide⟩ (by decide) (by decide),
  k_callS (y2 := yX4_unless_2) dX4_slack_39 sndX4_unless_2 q2120 q2121 q137 q2122 (by decide +kernel) ⟨by decide, by decide⟩ (by decide) (by decide),
  k_callV (y2 := yX4_isRefused) (C := RX4) (T0 := TX4) (ci := 2) dX4_slack_42 sndX4_isRefused rfl q1946 q1948 qs70 q137 q1949 (by decide +kernel) ⟨by decide, by decide⟩ (by decide) (by decide),
  k_ifeq (t := 50) dX4_slack_45 (by decide),
  k_iconst dX4_slack_48,
  k_iret dX4_slack_49,
  k_aload_n dX4_slack_50,
  k_iload_n dX4_slack_51,
  k_iload_n dX4_slack_52,
  k_iload_n dX4_slack_53,
  k_callV (y2 := yX4_best) (C := RX4) (T0 := TX4) (ci := 2) dX4_slack_54 sndX4_best rfl q2123 q2125 qs99 q137 q2126 (by decide +kernel) ⟨by decide, by decide⟩ (by decide) (by decide),
  k_istore dX4_slack_57,
  k_iload dX4_slack_59,
  k_bipush dX4_slack_61,
  k_cmpne (t := 69) dX4_slack_63 (by decide),
  k_bipush dX4_slack_66,
  k_iret dX4_slack_68,
  k_aload_n dX4_slack_69,
  k_callV (y2 := yX4_laysAside) (C := RX4) (T0 := TX4) (ci := 2) dX4_slack_70 sndX4_laysAside rfl q2247 q2249 qs116 q137 q2250 (by decide +kernel) ⟨by decide, by decide⟩ (by decide) (by decide),
  k_iconst dX4_slack_73,
  k_istore dX4_slack_74,
  k_iconst dX4_slack_76,
  k_istore dX4_slack_77,
  k_iload dX4_slack_79,
  k_bipush dX4_slack_81,
  k_cmpge (t := 154) dX4_slack_83 (by decide),
  k_iload dX4_slack_86,
  k_ifeq (t := 154) dX4_slack_88 (by decide),
  k_aload_n dX4_slack_91,
  k_getR (C := RX4) (T := TX4) (N := 42) (ci := 2) (k := 6) (ref := "LinkTimesModel") dX4_slack_92 rfl in_X4 (by decide) q1805 (Or.inl rfl) (fun _ _ _ => rfl),
  k_iload dX4_slack_95,
  k_iconst dX4_slack_97,
  k_callS (y2 := yX4_at) dX4_slack_98 sndX4_at q2047 q2048 q137 q2049 (by decide +kernel) ⟨by decide, by decide⟩ (by decide) (by decide),
  k_dup2 dX4_slack_101,
  k_iald dX4_slack_102,
  k_iconst dX4_slack_103,
  k_iadd dX4_slack_104,
  k_iast dX4_slack_105,
  k_aload_n dX4_slack_106,
  k_iload_n dX4_slack_107,
  k_iload_n dX4_slack_108,
  k_iload_n dX4_slack_109,
  k_callV (y2 := yX4_best) (C := RX4) (T0 := TX4) (ci := 2) dX4_slack_110 sndX4_best rfl q2123 q2125 qs99 q137 q2126 (by decide +kernel) ⟨by decide, by decide⟩ (by decide) (by decide),
  k_istore dX4_slack_113,
  k_iload dX4_slack_115,
  k_bipush dX4_slack_117,
  k_cmpeq (t := 133) dX4_slack_119 (by decide),
  k_iload dX4_slack_122,
  k_iload dX4_slack_124,
  k_cmpgt (t := 133) dX4_slack_126 (by decide),
  k_iconst dX4_slack_129,
  k_goto (t := 134) dX4_slack_130 (by decide),
  k_iconst dX4_slack_133,
  k_istore dX4_slack_134,
  k_iload dX4_slack_136,
  k_iload dX4_slack_138,
  k_ifeq (t := 147) dX4_slack_140 (by decide),
  k_iconst dX4_slack_143,
  k_goto (t := 148) dX4_slack_144 (by decide),
  k_iconst dX4_slack_147,
  k_iadd dX4_slack_148,
  k_istore dX4_slack_149,
  k_goto (t := 79) dX4_slack_151 (by decide),
  k_aload_n dX4_slack_154,
  k_callV (y2 := yX4_takesBack) (C := RX4) (T0 := TX4) (ci := 2) dX4_slack_155 sndX4_takesBack rfl q2251 q2253 qs117 q137 q2254 (by decide +kernel) ⟨by decide, by decide⟩ (by decide) (by decide),
  k_iload dX4_slack_158,
  k_iret dX4_slack_160, trivial⟩
theorem sndX4_slack : MSound 8 yX4_slack (ws_ yX4_slack cX4_slack 9 (some .int)) mX4_slack := msound_M (by decide) allX4_slack (fun _ _ => rfl)
/-! LinkTimesModel.causes(III)I -/
noncomputable def kX4_causes : ZM := ([(0, zi_ld 1 0 1), (1, zi_ld 0 1 2), (2, zi_ld 0 2 3), (3, zi_ld 0 3 4), (4, zi_callV mX4_best 18 4 7), (7, zi_push (zvi (-2)) 9), (9, zi_cmp zc_eq 14 12), (12, zi_push (zvi 0) 13), (13, zi_retv 0), (14, zi_push (zvi 0) 15), (15, zi_st 0 4 17), (17, zi_ld 0 4 19), (19, zi_ld 1 0 20), (20, zi_getR 18 6 23), (23, zi_push (zvi 4) 24), (24, zi_ald 1 25), (25, zi_cmp zc_ge 59 28), (28, zi_ld 1 0 29), (29, zi_getR 18 6 32), (32, zi_ld 0 4 34), (34, zi_push (zvi 5) 35), (35, zi_callS mX4_at 2 38), (38, zi_push (zvi 0) 39), (39, zi_ast 40), (40, zi_ld 1 0 41), (41, zi_getR 18 6 44), (44, zi_ld 0 4 46), (46, zi_push (zvi 6) 48), (48, zi_callS mX4_at 2 51), (51, zi_push (zvi 1) 52), (52, zi_ast 53), (53, zi_iinc 4 1 56), (56, zi_goto 17), (59, zi_ld 1 0 60), (60, zi_ld 0 1 61), (61, zi_ld 0 2 62), (62, zi_ld 0 3 63), (63, zi_callV mX4_best 18 4 66), (66, zi_push (zvi (-2)) 68), (68, zi_cmp zc_eq 73 71), (71, zi_push (zvi 1) 72), (72, zi_retv 0), (73, zi_push (zvi 0) 74), (74, zi_st 0 4 76), (76, zi_ld 0 4 78), (78, zi_ld 1 0 79), (79, zi_getR 18 6 82), (82, zi_push (zvi 1) 83), (83, zi_ald 1 84), (84, zi_cmp zc_ge 115 87), (87, zi_ld 1 0 88), (88, zi_getR 18 6 91), (91, zi_push (zvi 5) 92), (92, zi_ld 0 4 94), (94, zi_bin (fun a b => w32 (a + b)) 95), (95, zi_push (zvi 0) 96), (96, zi_ast 97), (97, zi_ld 1 0 98), (98, zi_getR 18 6 101), (101, zi_push (zvi 15) 103), (103, zi_ld 0 4 105), (105, zi_bin (fun a b => w32 (a + b)) 106), (106, zi_push (zvi (-2)) 108), (108, zi_ast 109), (109, zi_iinc 4 1 112), (112, zi_goto 76), (115, zi_ld 1 0 116), (116, zi_ld 0 1 117), (117, zi_ld 0 2 118), (118, zi_ld 0 3 119), (119, zi_callV mX4_best 18 4 122), (122, zi_push (zvi (-2)) 124), (124, zi_cmp zc_eq 129 127), (127, zi_push (zvi 2) 128), (128, zi_retv 0), (129, zi_ld 1 0 130), (130, zi_ld 0 1 131), (131, zi_ld 0 2 132), (132, zi_push (zvi 0) 133), (133, zi_callV mX4_best 18 4 136), (136, zi_push (zvi (-2)) 138), (138, zi_cmp zc_eq 145 141), (141, zi_push (zvi 3) 142), (142, zi_goto 146), (145, zi_push (zvi 4) 146), (146, zi_retv 0)], fun _ _ => none)
noncomputable def mX4_causes : ZF := zrunM kX4_causes 5
theorem enX4_causes (x0 : Option Nat) (x1 : Int) (x2 : Int) (x3 : Int) (h : PH) : mX4_causes [zvr x0, zvi x1, zvi x2, zvi x3] h = zev kX4_causes 0 [zvr x0, zvi x1, zvi x2, zvi x3, zvu] [] h := zrunM_eq rfl rfl
theorem hdX4_causes_17 (x0 x1 x2 x3 : ZV) (a : Int) (L st : List ZV) (h : PH) : zev kX4_causes 17 (x0 :: x1 :: x2 :: x3 :: zvi a :: L) st h = zev kX4_causes 19 (x0 :: x1 :: x2 :: x3 :: zvi a :: L) (zvi a :: st) h := e_ld4I (n := 19) rfl
theorem hdX4_causes_76 (x0 x1 x2 x3 : ZV) (a : Int) (L st : List ZV) (h : PH) : zev kX4_causes 76 (x0 :: x1 :: x2 :: x3 :: zvi a :: L) st h = zev kX4_causes 78 (x0 :: x1 :: x2 :: x3 :: zvi a :: L) (zvi a :: st) h := e_ld4I (n := 78) rfl
theorem rX4_causes : (∀ (a : Option Nat) (L st : List ZV) (h : PH), zev kX4_causes 0 (zvr a :: L) st h = zev kX4_causes 1 (zvr a :: L) (zvr a :: st) h) ∧
  (∀ (x0 : ZV) (a : Int) (L st : List ZV) (h : PH), zev kX4_causes 1 (x0 :: zvi a :: L) st h = zev kX4_causes 2 (x0 :: zvi a :: L) (zvi a :: st) h) ∧
  (∀ (x0 x1 : ZV) (a : Int) (L st : List ZV) (h : PH), zev kX4_causes 2 (x0 :: x1 :: zvi a :: L) st h = zev kX4_causes 3 (x0 :: x1 :: zvi a :: L) (zvi a :: st) h) ∧
  (∀ (x0 x1 x2 : ZV) (a : Int) (L st : List ZV) (h : PH), zev kX4_causes 3 (x0 :: x1 :: x2 :: zvi a :: L) st h = zev kX4_causes 4 (x0 :: x1 :: x2 :: zvi a :: L) (zvi a :: st) h) ∧
  (∀ (v0 v1 v2 : ZV) (q : Nat) (L st : List ZV) (h : PH), zev kX4_causes 4 L (v2 :: v1 :: v0 :: zvr (some q) :: st) h = if (ph_K h q).1 % 1000 = 18 ∧ zcat st ≤ 8 then zk kX4_causes 4 7 L st (mX4_best [zvr (some q), v0, v1, v2] h) else none) ∧
  (∀ (L st : List ZV) (h : PH), zev kX4_causes 7 L st h = zev kX4_causes 9 L (zvi (-2) :: st) h) ∧
  (∀ (a b : Int) (L st : List ZV) (h : PH), zev kX4_causes 9 L (zvi b :: zvi a :: st) h = if a = b then zev kX4_causes 14 L st h else zev kX4_causes 12 L st h) ∧
  (∀ (L st : List ZV) (h : PH), zev kX4_causes 12 L st h = zev kX4_causes 13 L (zvi 0 :: st) h) ∧
  (∀ (a : Int) (L : List ZV) (h : PH), zev kX4_causes 13 L [zvi a] h = zrv (zvi a) h) ∧
  (∀ (L st : List ZV) (h : PH), zev kX4_causes 14 L st h = zev kX4_causes 15 L (zvi 0 :: st) h) ∧
  (∀ (x0 x1 x2 x3 x4 : ZV) (a : Int) (L st : List ZV) (h : PH) (hx : zisL x3 = false) , zev kX4_causes 15 (x0 :: x1 :: x2 :: x3 :: x4 :: L) (zvi a :: st) h = zev kX4_causes 17 (x0 :: x1 :: x2 :: x3 :: zvi a :: L) st h) ∧
  (∀ (a : Option Nat) (L st : List ZV) (h : PH), zev kX4_causes 19 (zvr a :: L) st h = zev kX4_causes 20 (zvr a :: L) (zvr a :: st) h) ∧
  (∀ (q : Nat) (L st : List ZV) (h : PH), zev kX4_causes 20 L (zvr (some q) :: st) h = if (ph_K h q).1 % 1000 = 18 then zev kX4_causes 23 L (zvr (ph_R h q 6) :: st) h else none) ∧
  (∀ (L st : List ZV) (h : PH), zev kX4_causes 23 L st h = zev kX4_causes 24 L (zvi 4 :: st) h) ∧
  (∀ (j : Int) (q : Nat) (L st : List ZV) (h : PH), zev kX4_causes 24 L (zvi j :: zvr (some q) :: st) h = if (ph_K h q).1 % 1000 = 1 ∧ 0 ≤ j ∧ j < (ph_K h q).2 then zev kX4_causes 25 L (zvi (ph_I h q j) :: st) h else none) ∧
  (∀ (a b : Int) (L st : List ZV) (h : PH), zev kX4_causes 25 L (zvi b :: zvi a :: st) h = if a ≥ b then zev kX4_causes 59 L st h else zev kX4_causes 28 L st h) ∧
  (∀ (a : Option Nat) (L st : List ZV) (h : PH), zev kX4_causes 28 (zvr a :: L) st h = zev kX4_causes 29 (zvr a :: L) (zvr a :: st) h) ∧
  (∀ (q : Nat) (L st : List ZV) (h : PH), zev kX4_causes 29 L (zvr (some q) :: st) h = if (ph_K h q).1 % 1000 = 18 then zev kX4_causes 32 L (zvr (ph_R h q 6) :: st) h else none) ∧
  (∀ (x0 x1 x2 x3 : ZV) (a : Int) (L st : List ZV) (h : PH), zev kX4_causes 32 (x0 :: x1 :: x2 :: x3 :: zvi a :: L) st h = zev kX4_causes 34 (x0 :: x1 :: x2 :: x3 :: zvi a :: L) (zvi a :: st) h) ∧
  (∀ (L st : List ZV) (h : PH), zev kX4_causes 34 L st h = zev kX4_causes 35 L (zvi 5 :: st) h) ∧
  (∀ (v0 v1 : ZV) (L st : List ZV) (h : PH), zev kX4_causes 35 L (v1 :: v0 :: st) h = if zcat st ≤ 8 then zk kX4_causes 35 38 L st (mX4_at [v0, v1] h) else none) ∧
  (∀ (L st : List ZV) (h : PH), zev kX4_causes 38 L st h = zev kX4_causes 39 L (zvi 0 :: st) h) ∧
  (∀ (x j : Int) (q : Nat) (L st : List ZV) (h : PH), zev kX4_causes 39 L (zvi x :: zvi j :: zvr (some q) :: st) h = if (ph_K h q).1 = 1 ∧ 0 ≤ j ∧ j < (ph_K h q).2 then zev kX4_causes 40 L st (st_I h q j x) else none) ∧
  (∀ (a : Option Nat) (L st : List ZV) (h : PH), zev kX4_causes 40 (zvr a :: L) st h = zev kX4_causes 41 (zvr a :: L) (zvr a :: st) h) ∧
  (∀ (q : Nat) (L st : List ZV) (h : PH), zev kX4_causes 41 L (zvr (some q) :: st) h = if (ph_K h q).1 % 1000 = 18 then zev kX4_causes 44 L (zvr (ph_R h q 6) :: st) h else none) ∧
  (∀ (x0 x1 x2 x3 : ZV) (a : Int) (L st : List ZV) (h : PH), zev kX4_causes 44 (x0 :: x1 :: x2 :: x3 :: zvi a :: L) st h = zev kX4_causes 46 (x0 :: x1 :: x2 :: x3 :: zvi a :: L) (zvi a :: st) h) ∧
  (∀ (L st : List ZV) (h : PH), zev kX4_causes 46 L st h = zev kX4_causes 48 L (zvi 6 :: st) h) ∧
  (∀ (v0 v1 : ZV) (L st : List ZV) (h : PH), zev kX4_causes 48 L (v1 :: v0 :: st) h = if zcat st ≤ 8 then zk kX4_causes 48 51 L st (mX4_at [v0, v1] h) else none) ∧
  (∀ (L st : List ZV) (h : PH), zev kX4_causes 51 L st h = zev kX4_causes 52 L (zvi 1 :: st) h) ∧
  (∀ (x j : Int) (q : Nat) (L st : List ZV) (h : PH), zev kX4_causes 52 L (zvi x :: zvi j :: zvr (some q) :: st) h = if (ph_K h q).1 = 1 ∧ 0 ≤ j ∧ j < (ph_K h q).2 then zev kX4_causes 53 L st (st_I h q j x) else none) ∧
  (∀ (x0 x1 x2 x3 : ZV) (a : Int) (L st : List ZV) (h : PH) (hx : zisL x3 = false) , zev kX4_causes 53 (x0 :: x1 :: x2 :: x3 :: zvi a :: L) st h = zev kX4_causes 56 (x0 :: x1 :: x2 :: x3 :: zvi (w32 (a + 1)) :: L) st h) ∧
  (∀ (L st : List ZV) (h : PH), zev kX4_causes 56 L st h = zev kX4_causes 17 L st h) ∧
  (∀ (a : Option Nat) (L st : List ZV) (h : PH), zev kX4_causes 59 (zvr a :: L) st h = zev kX4_causes 60 (zvr a :: L) (zvr a :: st) h) ∧
  (∀ (x0 : ZV) (a : Int) (L st : List ZV) (h : PH), zev kX4_causes 60 (x0 :: zvi a :: L) st h = zev kX4_causes 61 (x0 :: zvi a :: L) (zvi a :: st) h) ∧
  (∀ (x0 x1 : ZV) (a : Int) (L st : List ZV) (h : PH), zev kX4_causes 61 (x0 :: x1 :: zvi a :: L) st h = zev kX4_causes 62 (x0 :: x1 :: zvi a :: L) (zvi a :: st) h) ∧
  (∀ (x0 x1 x2 : ZV) (a : Int) (L st : List ZV) (h : PH), zev kX4_causes 62 (x0 :: x1 :: x2 :: zvi a :: L) st h = zev kX4_causes 63 (x0 :: x1 :: x2 :: zvi a :: L) (zvi a :: st) h) ∧
  (∀ (v0 v1 v2 : ZV) (q : Nat) (L st : List ZV) (h : PH), zev kX4_causes 63 L (v2 :: v1 :: v0 :: zvr (some q) :: st) h = if (ph_K h q).1 % 1000 = 18 ∧ zcat st ≤ 8 then zk kX4_causes 63 66 L st (mX4_best [zvr (some q), v0, v1, v2] h) else none) ∧
  (∀ (L st : List ZV) (h : PH), zev kX4_causes 66 L st h = zev kX4_causes 68 L (zvi (-2) :: st) h) ∧
  (∀ (a b : Int) (L st : List ZV) (h : PH), zev kX4_causes 68 L (zvi b :: zvi a :: st) h = if a = b then zev kX4_causes 73 L st h else zev kX4_causes 71 L st h) ∧
  (∀ (L st : List ZV) (h : PH), zev kX4_causes 71 L st h = zev kX4_causes 72 L (zvi 1 :: st) h) ∧
  (∀ (a : Int) (L : List ZV) (h : PH), zev kX4_causes 72 L [zvi a] h = zrv (zvi a) h) ∧
  (∀ (L st : List ZV) (h : PH), zev kX4_causes 73 L st h = zev kX4_causes 74 L (zvi 0 :: st) h) ∧
  (∀ (x0 x1 x2 x3 x4 : ZV) (a : Int) (L st : List ZV) (h : PH) (hx : zisL x3 = false) , zev kX4_causes 74 (x0 :: x1 :: x2 :: x3 :: x4 :: L) (zvi a :: st) h = zev kX4_causes 76 (x0 :: x1 :: x2 :: x3 :: zvi a :: L) st h) ∧
  (∀ (a : Option Nat) (L st : List ZV) (h : PH), zev kX4_causes 78 (zvr a :: L) st h = zev kX4_causes 79 (zvr a :: L) (zvr a :: st) h) ∧
  (∀ (q : Nat) (L st : List ZV) (h : PH), zev kX4_causes 79 L (zvr (some q) :: st) h = if (ph_K h q).1 % 1000 = 18 then zev kX4_causes 82 L (zvr (ph_R h q 6) :: st) h else none) ∧
  (∀ (L st : List ZV) (h : PH), zev kX4_causes 82 L st h = zev kX4_causes 83 L (zvi 1 :: st) h) ∧
  (∀ (j : Int) (q : Nat) (L st : List ZV) (h : PH), zev kX4_causes 83 L (zvi j :: zvr (some q) :: st) h = if (ph_K h q).1 % 1000 = 1 ∧ 0 ≤ j ∧ j < (ph_K h q).2 then zev kX4_causes 84 L (zvi (ph_I h q j) :: st) h else none) ∧
  (∀ (a b : Int) (L st : List ZV) (h : PH), zev kX4_causes 84 L (zvi b :: zvi a :: st) h = if a ≥ b then zev kX4_causes 115 L st h else zev kX4_causes 87 L st h) ∧
  (∀ (a : Option Nat) (L st : List ZV) (h : PH), zev kX4_causes 87 (zvr a :: L) st h = zev kX4_causes 88 (zvr a :: L) (zvr a :: st) h) ∧
  (∀ (q : Nat) (L st : List ZV) (h : PH), zev kX4_causes 88 L (zvr (some q) :: st) h = if (ph_K h q).1 % 1000 = 18 then zev kX4_causes 91 L (zvr (ph_R h q 6) :: st) h else none) ∧
  (∀ (L st : List ZV) (h : PH), zev kX4_causes 91 L st h = zev kX4_causes 92 L (zvi 5 :: st) h) ∧
  (∀ (x0 x1 x2 x3 : ZV) (a : Int) (L st : List ZV) (h : PH), zev kX4_causes 92 (x0 :: x1 :: x2 :: x3 :: zvi a :: L) st h = zev kX4_causes 94 (x0 :: x1 :: x2 :: x3 :: zvi a :: L) (zvi a :: st) h) ∧
  (∀ (a b : Int) (L st : List ZV) (h : PH), zev kX4_causes 94 L (zvi b :: zvi a :: st) h = zev kX4_causes 95 L (zvi (w32 (a + b)) :: st) h) ∧
  (∀ (L st : List ZV) (h : PH), zev kX4_causes 95 L st h = zev kX4_causes 96 L (zvi 0 :: st) h) ∧
  (∀ (x j : Int) (q : Nat) (L st : List ZV) (h : PH), zev kX4_causes 96 L (zvi x :: zvi j :: zvr (some q) :: st) h = if (ph_K h q).1 = 1 ∧ 0 ≤ j ∧ j < (ph_K h q).2 then zev kX4_causes 97 L st (st_I h q j x) else none) ∧
  (∀ (a : Option Nat) (L st : List ZV) (h : PH), zev kX4_causes 97 (zvr a :: L) st h = zev kX4_causes 98 (zvr a :: L) (zvr a :: st) h) ∧
  (∀ (q : Nat) (L st : List ZV) (h : PH), zev kX4_causes 98 L (zvr (some q) :: st) h = if (ph_K h q).1 % 1000 = 18 then zev kX4_causes 101 L (zvr (ph_R h q 6) :: st) h else none) ∧
  (∀ (L st : List ZV) (h : PH), zev kX4_causes 101 L st h = zev kX4_causes 103 L (zvi 15 :: st) h) ∧
  (∀ (x0 x1 x2 x3 : ZV) (a : Int) (L st : List ZV) (h : PH), zev kX4_causes 103 (x0 :: x1 :: x2 :: x3 :: zvi a :: L) st h = zev kX4_causes 105 (x0 :: x1 :: x2 :: x3 :: zvi a :: L) (zvi a :: st) h) ∧
  (∀ (a b : Int) (L st : List ZV) (h : PH), zev kX4_causes 105 L (zvi b :: zvi a :: st) h = zev kX4_causes 106 L (zvi (w32 (a + b)) :: st) h) ∧
  (∀ (L st : List ZV) (h : PH), zev kX4_causes 106 L st h = zev kX4_causes 108 L (zvi (-2) :: st) h) ∧
  (∀ (x j : Int) (q : Nat) (L st : List ZV) (h : PH), zev kX4_causes 108 L (zvi x :: zvi j :: zvr (some q) :: st) h = if (ph_K h q).1 = 1 ∧ 0 ≤ j ∧ j < (ph_K h q).2 then zev kX4_causes 109 L st (st_I h q j x) else none) ∧
  (∀ (x0 x1 x2 x3 : ZV) (a : Int) (L st : List ZV) (h : PH) (hx : zisL x3 = false) , zev kX4_causes 109 (x0 :: x1 :: x2 :: x3 :: zvi a :: L) st h = zev kX4_causes 112 (x0 :: x1 :: x2 :: x3 :: zvi (w32 (a + 1)) :: L) st h) ∧
  (∀ (L st : List ZV) (h : PH), zev kX4_causes 112 L st h = zev kX4_causes 76 L st h) ∧
  (∀ (a : Option Nat) (L st : List ZV) (h : PH), zev kX4_causes 115 (zvr a :: L) st h = zev kX4_causes 116 (zvr a :: L) (zvr a :: st) h) ∧
  (∀ (x0 : ZV) (a : Int) (L st : List ZV) (h : PH), zev kX4_causes 116 (x0 :: zvi a :: L) st h = zev kX4_causes 117 (x0 :: zvi a :: L) (zvi a :: st) h) ∧
  (∀ (x0 x1 : ZV) (a : Int) (L st : List ZV) (h : PH), zev kX4_causes 117 (x0 :: x1 :: zvi a :: L) st h = zev kX4_causes 118 (x0 :: x1 :: zvi a :: L) (zvi a :: st) h) ∧
  (∀ (x0 x1 x2 : ZV) (a : Int) (L st : List ZV) (h : PH), zev kX4_causes 118 (x0 :: x1 :: x2 :: zvi a :: L) st h = zev kX4_causes 119 (x0 :: x1 :: x2 :: zvi a :: L) (zvi a :: st) h) ∧
  (∀ (v0 v1 v2 : ZV) (q : Nat) (L st : List ZV) (h : PH), zev kX4_causes 119 L (v2 :: v1 :: v0 :: zvr (some q) :: st) h = if (ph_K h q).1 % 1000 = 18 ∧ zcat st ≤ 8 then zk kX4_causes 119 122 L st (mX4_best [zvr (some q), v0, v1, v2] h) else none) ∧
  (∀ (L st : List ZV) (h : PH), zev kX4_causes 122 L st h = zev kX4_causes 124 L (zvi (-2) :: st) h) ∧
  (∀ (a b : Int) (L st : List ZV) (h : PH), zev kX4_causes 124 L (zvi b :: zvi a :: st) h = if a = b then zev kX4_causes 129 L st h else zev kX4_causes 127 L st h) ∧
  (∀ (L st : List ZV) (h : PH), zev kX4_causes 127 L st h = zev kX4_causes 128 L (zvi 2 :: st) h) ∧
  (∀ (a : Int) (L : List ZV) (h : PH), zev kX4_causes 128 L [zvi a] h = zrv (zvi a) h) ∧
  (∀ (a : Option Nat) (L st : List ZV) (h : PH), zev kX4_causes 129 (zvr a :: L) st h = zev kX4_causes 130 (zvr a :: L) (zvr a :: st) h) ∧
  (∀ (x0 : ZV) (a : Int) (L st : List ZV) (h : PH), zev kX4_causes 130 (x0 :: zvi a :: L) st h = zev kX4_causes 131 (x0 :: zvi a :: L) (zvi a :: st) h) ∧
  (∀ (x0 x1 : ZV) (a : Int) (L st : List ZV) (h : PH), zev kX4_causes 131 (x0 :: x1 :: zvi a :: L) st h = zev kX4_causes 132 (x0 :: x1 :: zvi a :: L) (zvi a :: st) h) ∧
  (∀ (L st : List ZV) (h : PH), zev kX4_causes 132 L st h = zev kX4_causes 133 L (zvi 0 :: st) h) ∧
  (∀ (v0 v1 v2 : ZV) (q : Nat) (L st : List ZV) (h : PH), zev kX4_causes 133 L (v2 :: v1 :: v0 :: zvr (some q) :: st) h = if (ph_K h q).1 % 1000 = 18 ∧ zcat st ≤ 8 then zk kX4_causes 133 136 L st (mX4_best [zvr (some q), v0, v1, v2] h) else none) ∧
  (∀ (L st : List ZV) (h : PH), zev kX4_causes 136 L st h = zev kX4_causes 138 L (zvi (-2) :: st) h) ∧
  (∀ (a b : Int) (L st : List ZV) (h : PH), zev kX4_causes 138 L (zvi b :: zvi a :: st) h = if a = b then zev kX4_causes 145 L st h else zev kX4_causes 141 L st h) ∧
  (∀ (L st : List ZV) (h : PH), zev kX4_causes 141 L st h = zev kX4_causes 142 L (zvi 3 :: st) h) ∧
  (∀ (L st : List ZV) (h : PH), zev kX4_causes 142 L st h = zev kX4_causes 146 L st h) ∧
  (∀ (L st : List ZV) (h : PH), zev kX4_causes 145 L st h = zev kX4_causes 146 L (zvi 4 :: st) h) ∧
  (∀ (a : Int) (L : List ZV) (h : PH), zev kX4_causes 146 L [zvi a] h = zrv (zvi a) h) :=
  ⟨fun a L st h => e_ld0R (n := 1) rfl,
  fun x0 a L st h => e_ld1I (n := 2) rfl,
  fun x0 x1 a L st h => e_ld2I (n := 3) rfl,
  fun x0 x1 x2 a L st h => e_ld3I (n := 4) rfl,
  fun v0 v1 v2 q L st h => e_callV4 (F := mX4_best) (kd := 18) (n := 7) rfl,
  fun L st h => e_push (v := zvi (-2)) (n := 9) rfl,
  fun a b L st h => e_cmpeq (t := 14) (n := 12) rfl,
  fun L st h => e_push (v := zvi 0) (n := 13) rfl,
  fun a L h => e_retI rfl,
  fun L st h => e_push (v := zvi 0) (n := 15) rfl,
  fun x0 x1 x2 x3 x4 a L st h hx => e_st4I (n := 17) rfl hx,
  fun a L st h => e_ld0R (n := 20) rfl,
  fun q L st h => e_getR (kd := 18) (k := 6) (n := 23) rfl,
  fun L st h => e_push (v := zvi 4) (n := 24) rfl,
  fun j q L st h => e_ald (kd := 1) (n := 25) rfl,
  fun a b L st h => e_cmpge (t := 59) (n := 28) rfl,
  fun a L st h => e_ld0R (n := 29) rfl,
  fun q L st h => e_getR (kd := 18) (k := 6) (n := 32) rfl,
  fun x0 x1 x2 x3 a L st h => e_ld4I (n := 34) rfl,
  fun L st h => e_push (v := zvi 5) (n := 35) rfl,
  fun v0 v1 L st h => e_callS2 (F := mX4_at) (n := 38) rfl,
  fun L st h => e_push (v := zvi 0) (n := 39) rfl,
  fun x j q L st h => e_ast (n := 40) rfl,
  fun a L st h => e_ld0R (n := 41) rfl,
  fun q L st h => e_getR (kd := 18) (k := 6) (n := 44) rfl,
  fun x0 x1 x2 x3 a L st h => e_ld4I (n := 46) rfl,
  fun L st h => e_push (v := zvi 6) (n := 48) rfl,
  fun v0 v1 L st h => e_callS2 (F := mX4_at) (n := 51) rfl,
  fun L st h => e_push (v := zvi 1) (n := 52) rfl,
  fun x j q L st h => e_ast (n := 53) rfl,
  fun x0 x1 x2 x3 a L st h hx => e_iinc4 (d := 1) (n := 56) rfl hx,
  fun L st h => e_goto (t := 17) rfl,
  fun a L st h => e_ld0R (n := 60) rfl,
  fun x0 a L st h => e_ld1I (n := 61) rfl,
  fun x0 x1 a L st h => e_ld2I (n := 62) rfl,
  fun x0 x1 x2 a L st h => e_ld3I (n := 63) rfl,
  fun v0 v1 v2 q L st h => e_callV4 (F := mX4_best) (kd := 18) (n := 66) rfl,
  fun L st h => e_push (v := zvi (-2)) (n := 68) rfl,
  fun a b L st h => e_cmpeq (t := 73) (n := 71) rfl,
  fun L st h => e_push (v := zvi 1) (n := 72) rfl,
  fun a L h => e_retI rfl,
  fun L st h => e_push (v := zvi 0) (n := 74) rfl,
  fun x0 x1 x2 x3 x4 a L st h hx => e_st4I (n := 76) rfl hx,
  fun a L st h => e_ld0R (n := 79) rfl,
  fun q L st h => e_getR (kd := 18) (k := 6) (n := 82) rfl,
  fun L st h => e_push (v := zvi 1) (n := 83) rfl,
  fun j q L st h => e_ald (kd := 1) (n := 84) rfl,
  fun a b L st h => e_cmpge (t := 115) (n := 87) rfl,
  fun a L st h => e_ld0R (n := 88) rfl,
  fun q L st h => e_getR (kd := 18) (k := 6) (n := 91) rfl,
  fun L st h => e_push (v := zvi 5) (n := 92) rfl,
  fun x0 x1 x2 x3 a L st h => e_ld4I (n := 94) rfl,
  fun a b L st h => e_bin (f := (fun a b => w32 (a + b))) (n := 95) rfl,
  fun L st h => e_push (v := zvi 0) (n := 96) rfl,
  fun x j q L st h => e_ast (n := 97) rfl,
  fun a L st h => e_ld0R (n := 98) rfl,
  fun q L st h => e_getR (kd := 18) (k := 6) (n := 101) rfl,
  fun L st h => e_push (v := zvi 15) (n := 103) rfl,
  fun x0 x1 x2 x3 a L st h => e_ld4I (n := 105) rfl,
  fun a b L st h => e_bin (f := (fun a b => w32 (a + b))) (n := 106) rfl,
  fun L st h => e_push (v := zvi (-2)) (n := 108) rfl,
  fun x j q L st h => e_ast (n := 109) rfl,
  fun x0 x1 x2 x3 a L st h hx => e_iinc4 (d := 1) (n := 112) rfl hx,
  fun L st h => e_goto (t := 76) rfl,
  fun a L st h => e_ld0R (n := 116) rfl,
  fun x0 a L st h => e_ld1I (n := 117) rfl,
  fun x0 x1 a L st h => e_ld2I (n := 118) rfl,
  fun x0 x1 x2 a L st h => e_ld3I (n := 119) rfl,
  fun v0 v1 v2 q L st h => e_callV4 (F := mX4_best) (kd := 18) (n := 122) rfl,
  fun L st h => e_push (v := zvi (-2)) (n := 124) rfl,
  fun a b L st h => e_cmpeq (t := 129) (n := 127) rfl,
  fun L st h => e_push (v := zvi 2) (n := 128) rfl,
  fun a L h => e_retI rfl,
  fun a L st h => e_ld0R (n := 130) rfl,
  fun x0 a L st h => e_ld1I (n := 131) rfl,
  fun x0 x1 a L st h => e_ld2I (n := 132) rfl,
  fun L st h => e_push (v := zvi 0) (n := 133) rfl,
  fun v0 v1 v2 q L st h => e_callV4 (F := mX4_best) (kd := 18) (n := 136) rfl,
  fun L st h => e_push (v := zvi (-2)) (n := 138) rfl,
  fun a b L st h => e_cmpeq (t := 145) (n := 141) rfl,
  fun L st h => e_push (v := zvi 3) (n := 142) rfl,
  fun L st h => e_goto (t := 146) rfl,
  fun L st h => e_push (v := zvi 4) (n := 146) rfl,
  fun a L h => e_retI rfl⟩
theorem allX4_causes : zall yX4_causes cX4_causes 5 (some .int) 8 kX4_causes.1 :=
  ⟨k_aload_n dX4_causes_0,
  k_iload_n dX4_causes_1,
  k_iload_n dX4_causes_2,
  k_iload_n dX4_causes_3,
  k_callV (y2 := yX4_best) (C := RX4) (T0 := TX4) (ci := 2) dX4_causes_4 sndX4_best rfl q2123 q2125 qs99 q137 q2126 (by decide +kernel) ⟨by decide, by decide⟩ (by decide) (by decide),
  k_bipush dX4_causes_7,
  k_cmpeq (t := 14) dX4_causes_9 (by decide),
  k_iconst dX4_causes_12,
  k_iret dX4_causes_13,
  k_iconst dX4_causes_14,
  k_istore dX4_causes_15,
  k_iload dX4_causes_17,
  k_aload_n dX4_causes_19,
  k_getR (C := RX4) (T := TX4) (N := 42) (ci := 2) (k := 6) (ref := "LinkTimesModel") dX4_causes_20 rfl in_X4 (by decide) q1805 (Or.inl rfl) (fun _ _ _ => rfl),
  k_iconst dX4_causes_23,
  k_iald dX4_causes_24,
  k_cmpge (t := 59) dX4_causes_25 (by decide),
  k_aload_n dX4_causes_28,
  k_getR (C := RX4) (T := TX4) (N := 42) (ci := 2) (k := 6) (ref := "LinkTimesModel") dX4_causes_29 rfl in_X4 (by decide) q1805 (Or.inl rfl) (fun _ _ _ => rfl),
  k_iload dX4_causes_32,
  k_iconst dX4_causes_34,
  k_callS (y2 := yX4_at) dX4_causes_35 sndX4_at q2047 q2048 q137 q2049 (by decide +kernel) ⟨by decide, by decide⟩ (by decide) (by decide),
  k_iconst dX4_causes_38,
  k_iast dX4_causes_39,
  k_aload_n dX4_causes_40,
  k_getR (C := RX4) (T := TX4) (N := 42) (ci := 2) (k := 6) (ref := "LinkTimesModel") dX4_causes_41 rfl in_X4 (by decide) q1805 (Or.inl rfl) (fun _ _ _ => rfl),
  k_iload dX4_causes_44,
  k_bipush dX4_causes_46,
  k_callS (y2 := yX4_at) dX4_causes_48 sndX4_at q2047 q2048 q137 q2049 (by decide +kernel) ⟨by decide, by decide⟩ (by decide) (by decide),
  k_iconst dX4_causes_51,
  k_iast dX4_causes_52,
  k_iinc dX4_causes_53,
  k_goto (t := 17) dX4_causes_56 (by decide),
  k_aload_n dX4_causes_59,
  k_iload_n dX4_causes_60,
  k_iload_n dX4_causes_61,
  k_iload_n dX4_causes_62,
  k_callV (y2 := yX4_best) (C := RX4) (T0 := TX4) (ci := 2) dX4_causes_63 sndX4_best rfl q2123 q2125 qs99 q137 q2126 (by decide +kernel) ⟨by decide, by decide⟩ (by decide) (by decide),
  k_bipush dX4_causes_66,
  k_cmpeq (t := 73) dX4_causes_68 (by decide),
  k_iconst dX4_causes_71,
  k_iret dX4_causes_72,
  k_iconst dX4_causes_73,
  k_istore dX4_causes_74,
  k_iload dX4_causes_76,
  k_aload_n dX4_causes_78,
  k_getR (C := RX4) (T := TX4) (N := 42) (ci := 2) (k := 6) (ref := "LinkTimesModel") dX4_causes_79 rfl in_X4 (by decide) q1805 (Or.inl rfl) (fun _ _ _ => rfl),
  k_iconst dX4_causes_82,
  k_iald dX4_causes_83,
  k_cmpge (t := 115) dX4_causes_84 (by decide),
  k_aload_n dX4_causes_87,
  k_getR (C := RX4) (T := TX4) (N := 42) (ci := 2) (k := 6) (ref := "LinkTimesModel") dX4_causes_88 rfl in_X4 (by decide) q1805 (Or.inl rfl) (fun _ _ _ => rfl),
  k_iconst dX4_causes_91,
  k_iload dX4_causes_92,
  k_iadd dX4_causes_94,
  k_iconst dX4_causes_95,
  k_iast dX4_causes_96,
  k_aload_n dX4_causes_97,
  k_getR (C := RX4) (T := TX4) (N := 42) (ci := 2) (k := 6) (ref := "LinkTimesModel") dX4_causes_98 rfl in_X4 (by decide) q1805 (Or.inl rfl) (fun _ _ _ => rfl),
  k_bipush dX4_causes_101,
  k_iload dX4_causes_103,
  k_iadd dX4_causes_105,
  k_bipush dX4_causes_106,
  k_iast dX4_causes_108,
  k_iinc dX4_causes_109,
  k_goto (t := 76) dX4_causes_112 (by decide),
  k_aload_n dX4_causes_115,
  k_iload_n dX4_causes_116,
  k_iload_n dX4_causes_117,
  k_iload_n dX4_causes_118,
  k_callV (y2 := yX4_best) (C := RX4) (T0 := TX4) (ci := 2) dX4_causes_119 sndX4_best rfl q2123 q2125 qs99 q137 q2126 (by decide +kernel) ⟨by decide, by decide⟩ (by decide) (by decide),
  k_bipush dX4_causes_122,
  k_cmpeq (t := 129) dX4_causes_124 (by decide),
  k_iconst dX4_causes_127,
  k_iret dX4_causes_128,
  k_aload_n dX4_causes_129,
  k_iload_n dX4_causes_130,
  k_iload_n dX4_causes_131,
  k_iconst dX4_causes_132,
  k_callV (y2 := yX4_best) (C := RX4) (T0 := TX4) (ci := 2) dX4_causes_133 sndX4_best rfl q2123 q2125 qs99 q137 q2126 (by decide +kernel) ⟨by decide, by decide⟩ (by decide) (by decide),
  k_bipush dX4_causes_136,
  k_cmpeq (t := 145) dX4_causes_138 (by decide),
  k_iconst dX4_causes_141,
  k_goto (t := 146) dX4_causes_142 (by decide),
  k_iconst dX4_causes_145,
  k_iret dX4_causes_146, trivial⟩
theorem sndX4_causes : MSound 8 yX4_causes (ws_ yX4_causes cX4_causes 5 (some .int)) mX4_causes := msound_M (by decide) allX4_causes (fun _ _ => rfl)
