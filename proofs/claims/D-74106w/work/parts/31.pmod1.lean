/-! Z program: LinkTimesModel (written by gen/gen_prog.py) -/
set_option maxRecDepth 100000
/-! LinkTimesModel.isName()Z -/
noncomputable def kX4_isName : ZM := ([(0, zi_ld 1 0 1), (1, zi_getI 18 15 4), (4, zi_push (zvi 2) 5), (5, zi_cmp zc_ne 44 8), (8, zi_ld 1 0 9), (9, zi_push (zvr (some 1000000010)) 11), (11, zi_callV mX4_isWord 18 2 14), (14, zi_if (fun a => zc_ne a 0) 44 17), (17, zi_ld 1 0 18), (18, zi_push (zvr (some 1000000011)) 20), (20, zi_callV mX4_isWord 18 2 23), (23, zi_if (fun a => zc_ne a 0) 44 26), (26, zi_ld 1 0 27), (27, zi_push (zvr (some 1000000012)) 29), (29, zi_callV mX4_isWord 18 2 32), (32, zi_if (fun a => zc_ne a 0) 44 35), (35, zi_ld 1 0 36), (36, zi_push (zvr (some 1000000013)) 38), (38, zi_callV mX4_isWord 18 2 41), (41, zi_if (fun a => zc_eq a 0) 52 44), (44, zi_ld 1 0 45), (45, zi_push (zvi 1) 46), (46, zi_callV mX4_errs 18 2 49), (49, zi_if (fun a => zc_eq a 0) 56 52), (52, zi_push (zvi 1) 53), (53, zi_goto 57), (56, zi_push (zvi 0) 57), (57, zi_retz)], fun _ _ => none)
noncomputable def mX4_isName : ZF := zrunM kX4_isName 1
theorem enX4_isName (x0 : Option Nat) (h : PH) : mX4_isName [zvr x0] h = zev kX4_isName 0 [zvr x0] [] h := zrunM_eq rfl rfl
theorem rX4_isName : (∀ (a : Option Nat) (L st : List ZV) (h : PH), zev kX4_isName 0 (zvr a :: L) st h = zev kX4_isName 1 (zvr a :: L) (zvr a :: st) h) ∧
  (∀ (q : Nat) (L st : List ZV) (h : PH), zev kX4_isName 1 L (zvr (some q) :: st) h = if (ph_K h q).1 % 1000 = 18 then zev kX4_isName 4 L (zvi (ph_I h q 15) :: st) h else none) ∧
  (∀ (L st : List ZV) (h : PH), zev kX4_isName 4 L st h = zev kX4_isName 5 L (zvi 2 :: st) h) ∧
  (∀ (a b : Int) (L st : List ZV) (h : PH), zev kX4_isName 5 L (zvi b :: zvi a :: st) h = if a ≠ b then zev kX4_isName 44 L st h else zev kX4_isName 8 L st h) ∧
  (∀ (a : Option Nat) (L st : List ZV) (h : PH), zev kX4_isName 8 (zvr a :: L) st h = zev kX4_isName 9 (zvr a :: L) (zvr a :: st) h) ∧
  (∀ (L st : List ZV) (h : PH), zev kX4_isName 9 L st h = zev kX4_isName 11 L (zvr (some 1000000010) :: st) h) ∧
  (∀ (v0 : ZV) (q : Nat) (L st : List ZV) (h : PH), zev kX4_isName 11 L (v0 :: zvr (some q) :: st) h = if (ph_K h q).1 % 1000 = 18 ∧ zcat st ≤ 8 then zk kX4_isName 11 14 L st (mX4_isWord [zvr (some q), v0] h) else none) ∧
  (∀ (a : Int) (L st : List ZV) (h : PH), zev kX4_isName 14 L (zvi a :: st) h = if a ≠ 0 then zev kX4_isName 44 L st h else zev kX4_isName 17 L st h) ∧
  (∀ (a : Option Nat) (L st : List ZV) (h : PH), zev kX4_isName 17 (zvr a :: L) st h = zev kX4_isName 18 (zvr a :: L) (zvr a :: st) h) ∧
  (∀ (L st : List ZV) (h : PH), zev kX4_isName 18 L st h = zev kX4_isName 20 L (zvr (some 1000000011) :: st) h) ∧
  (∀ (v0 : ZV) (q : Nat) (L st : List ZV) (h : PH), zev kX4_isName 20 L (v0 :: zvr (some q) :: st) h = if (ph_K h q).1 % 1000 = 18 ∧ zcat st ≤ 8 then zk kX4_isName 20 23 L st (mX4_isWord [zvr (some q), v0] h) else none) ∧
  (∀ (a : Int) (L st : List ZV) (h : PH), zev kX4_isName 23 L (zvi a :: st) h = if a ≠ 0 then zev kX4_isName 44 L st h else zev kX4_isName 26 L st h) ∧
  (∀ (a : Option Nat) (L st : List ZV) (h : PH), zev kX4_isName 26 (zvr a :: L) st h = zev kX4_isName 27 (zvr a :: L) (zvr a :: st) h) ∧
  (∀ (L st : List ZV) (h : PH), zev kX4_isName 27 L st h = zev kX4_isName 29 L (zvr (some 1000000012) :: st) h) ∧
  (∀ (v0 : ZV) (q : Nat) (L st : List ZV) (h : PH), zev kX4_isName 29 L (v0 :: zvr (some q) :: st) h = if (ph_K h q).1 % 1000 = 18 ∧ zcat st ≤ 8 then zk kX4_isName 29 32 L st (mX4_isWord [zvr (some q), v0] h) else none) ∧
  (∀ (a : Int) (L st : List ZV) (h : PH), zev kX4_isName 32 L (zvi a :: st) h = if a ≠ 0 then zev kX4_isName 44 L st h else zev kX4_isName 35 L st h) ∧
  (∀ (a : Option Nat) (L st : List ZV) (h : PH), zev kX4_isName 35 (zvr a :: L) st h = zev kX4_isName 36 (zvr a :: L) (zvr a :: st) h) ∧
  (∀ (L st : List ZV) (h : PH), zev kX4_isName 36 L st h = zev kX4_isName 38 L (zvr (some 1000000013) :: st) h) ∧
  (∀ (v0 : ZV) (q : Nat) (L st : List ZV) (h : PH), zev kX4_isName 38 L (v0 :: zvr (some q) :: st) h = if (ph_K h q).1 % 1000 = 18 ∧ zcat st ≤ 8 then zk kX4_isName 38 41 L st (mX4_isWord [zvr (some q), v0] h) else none) ∧
  (∀ (a : Int) (L st : List ZV) (h : PH), zev kX4_isName 41 L (zvi a :: st) h = if a = 0 then zev kX4_isName 52 L st h else zev kX4_isName 44 L st h) ∧
  (∀ (a : Option Nat) (L st : List ZV) (h : PH), zev kX4_isName 44 (zvr a :: L) st h = zev kX4_isName 45 (zvr a :: L) (zvr a :: st) h) ∧
  (∀ (L st : List ZV) (h : PH), zev kX4_isName 45 L st h = zev kX4_isName 46 L (zvi 1 :: st) h) ∧
  (∀ (v0 : ZV) (q : Nat) (L st : List ZV) (h : PH), zev kX4_isName 46 L (v0 :: zvr (some q) :: st) h = if (ph_K h q).1 % 1000 = 18 ∧ zcat st ≤ 8 then zk kX4_isName 46 49 L st (mX4_errs [zvr (some q), v0] h) else none) ∧
  (∀ (a : Int) (L st : List ZV) (h : PH), zev kX4_isName 49 L (zvi a :: st) h = if a = 0 then zev kX4_isName 56 L st h else zev kX4_isName 52 L st h) ∧
  (∀ (L st : List ZV) (h : PH), zev kX4_isName 52 L st h = zev kX4_isName 53 L (zvi 1 :: st) h) ∧
  (∀ (L st : List ZV) (h : PH), zev kX4_isName 53 L st h = zev kX4_isName 57 L st h) ∧
  (∀ (L st : List ZV) (h : PH), zev kX4_isName 56 L st h = zev kX4_isName 57 L (zvi 0 :: st) h) ∧
  (∀ (a : Int) (L : List ZV) (h : PH), zev kX4_isName 57 L [zvi a] h = if a = 0 ∨ a = 1 then zrv (zvi a) h else none) :=
  ⟨fun a L st h => e_ld0R (n := 1) rfl,
  fun q L st h => e_getI (kd := 18) (k := 15) (n := 4) rfl,
  fun L st h => e_push (v := zvi 2) (n := 5) rfl,
  fun a b L st h => e_cmpne (t := 44) (n := 8) rfl,
  fun a L st h => e_ld0R (n := 9) rfl,
  fun L st h => e_push (v := zvr (some 1000000010)) (n := 11) rfl,
  fun v0 q L st h => e_callV2 (F := mX4_isWord) (kd := 18) (n := 14) rfl,
  fun a L st h => e_ifne (t := 44) (n := 17) rfl,
  fun a L st h => e_ld0R (n := 18) rfl,
  fun L st h => e_push (v := zvr (some 1000000011)) (n := 20) rfl,
  fun v0 q L st h => e_callV2 (F := mX4_isWord) (kd := 18) (n := 23) rfl,
  fun a L st h => e_ifne (t := 44) (n := 26) rfl,
  fun a L st h => e_ld0R (n := 27) rfl,
  fun L st h => e_push (v := zvr (some 1000000012)) (n := 29) rfl,
  fun v0 q L st h => e_callV2 (F := mX4_isWord) (kd := 18) (n := 32) rfl,
  fun a L st h => e_ifne (t := 44) (n := 35) rfl,
  fun a L st h => e_ld0R (n := 36) rfl,
  fun L st h => e_push (v := zvr (some 1000000013)) (n := 38) rfl,
  fun v0 q L st h => e_callV2 (F := mX4_isWord) (kd := 18) (n := 41) rfl,
  fun a L st h => e_ifeq (t := 52) (n := 44) rfl,
  fun a L st h => e_ld0R (n := 45) rfl,
  fun L st h => e_push (v := zvi 1) (n := 46) rfl,
  fun v0 q L st h => e_callV2 (F := mX4_errs) (kd := 18) (n := 49) rfl,
  fun a L st h => e_ifeq (t := 56) (n := 52) rfl,
  fun L st h => e_push (v := zvi 1) (n := 53) rfl,
  fun L st h => e_goto (t := 57) rfl,
  fun L st h => e_push (v := zvi 0) (n := 57) rfl,
  fun a L h => e_retz rfl⟩
theorem allX4_isName : zall yX4_isName cX4_isName 1 (some .boolean) 7 kX4_isName.1 :=
  ⟨k_aload_n dX4_isName_0,
  k_getI (C := RX4) (T := TX4) (N := 42) (ci := 2) (k := 15) (ref := "LinkTimesModel") dX4_isName_1 rfl in_X4 (by decide) q1814 (Or.inl rfl) (fun _ _ _ => rfl),
  k_iconst dX4_isName_4,
  k_cmpne (t := 44) dX4_isName_5 (by decide),
  k_aload_n dX4_isName_8,
  k_ldcS (tx := "desk") (i := 0) dX4_isName_9 (by decide +kernel) (by decide),
  k_callV (y2 := yX4_isWord) (C := RX4) (T0 := TX4) (ci := 2) dX4_isName_11 sndX4_isWord rfl q1967 q1969 qs75 q137 q1970 (by decide +kernel) ⟨by decide, by decide⟩ (by decide) (by decide),
  k_ifne (t := 44) dX4_isName_14 (by decide),
  k_aload_n dX4_isName_17,
  k_ldcS (tx := "spot") (i := 1) dX4_isName_18 (by decide +kernel) (by decide),
  k_callV (y2 := yX4_isWord) (C := RX4) (T0 := TX4) (ci := 2) dX4_isName_20 sndX4_isWord rfl q1967 q1969 qs75 q137 q1970 (by decide +kernel) ⟨by decide, by decide⟩ (by decide) (by decide),
  k_ifne (t := 44) dX4_isName_23 (by decide),
  k_aload_n dX4_isName_26,
  k_ldcS (tx := "line") (i := 2) dX4_isName_27 (by decide +kernel) (by decide),
  k_callV (y2 := yX4_isWord) (C := RX4) (T0 := TX4) (ci := 2) dX4_isName_29 sndX4_isWord rfl q1967 q1969 qs75 q137 q1970 (by decide +kernel) ⟨by decide, by decide⟩ (by decide) (by decide),
  k_ifne (t := 44) dX4_isName_32 (by decide),
  k_aload_n dX4_isName_35,
  k_ldcS (tx := "link") (i := 3) dX4_isName_36 (by decide +kernel) (by decide),
  k_callV (y2 := yX4_isWord) (C := RX4) (T0 := TX4) (ci := 2) dX4_isName_38 sndX4_isWord rfl q1967 q1969 qs75 q137 q1970 (by decide +kernel) ⟨by decide, by decide⟩ (by decide) (by decide),
  k_ifeq (t := 52) dX4_isName_41 (by decide),
  k_aload_n dX4_isName_44,
  k_iconst dX4_isName_45,
  k_callV (y2 := yX4_errs) (C := RX4) (T0 := TX4) (ci := 2) dX4_isName_46 sndX4_errs rfl q1977 q1979 qs77 q137 q1980 (by decide +kernel) ⟨by decide, by decide⟩ (by decide) (by decide),
  k_ifeq (t := 56) dX4_isName_49 (by decide),
  k_iconst dX4_isName_52,
  k_goto (t := 57) dX4_isName_53 (by decide),
  k_iconst dX4_isName_56,
  k_zret dX4_isName_57, trivial⟩
theorem sndX4_isName : MSound 7 yX4_isName (ws_ yX4_isName cX4_isName 1 (some .boolean)) mX4_isName := msound_M (by decide) allX4_isName (fun _ _ => rfl)
/-! LinkTimesModel.spelt()J -/
noncomputable def kX4_spelt : ZM := ([(0, zi_push (zvl 0) 1), (1, zi_stL 1 2), (2, zi_ld 1 0 3), (3, zi_getI 18 13 6), (6, zi_st 0 3 7), (7, zi_ld 0 3 8), (8, zi_ld 1 0 9), (9, zi_getI 18 14 12), (12, zi_cmp zc_ge 39 15), (15, zi_push (zvl 32) 18), (18, zi_ld 2 1 19), (19, zi_binL (fun a b => w64 (a * b)) 20), (20, zi_ld 1 0 21), (21, zi_getR 18 4 24), (24, zi_ld 0 3 25), (25, zi_ald 1 26), (26, zi_i2l 27), (27, zi_binL (fun a b => w64 (a + b)) 28), (28, zi_push (zvl 96) 31), (31, zi_binL (fun a b => w64 (a - b)) 32), (32, zi_stL 1 33), (33, zi_iinc 3 1 36), (36, zi_goto 7), (39, zi_ld 2 1 40), (40, zi_retv 2)], fun _ _ => none)
noncomputable def mX4_spelt : ZF := zrunM kX4_spelt 4
theorem enX4_spelt (x0 : Option Nat) (h : PH) : mX4_spelt [zvr x0] h = zev kX4_spelt 0 [zvr x0, zvu, zvu, zvu] [] h := zrunM_eq rfl rfl
theorem hdX4_spelt_7 (x0 x1 x2 : ZV) (a : Int) (L st : List ZV) (h : PH) : zev kX4_spelt 7 (x0 :: x1 :: x2 :: zvi a :: L) st h = zev kX4_spelt 8 (x0 :: x1 :: x2 :: zvi a :: L) (zvi a :: st) h := e_ld3I (n := 8) rfl
theorem rX4_spelt : (∀ (L st : List ZV) (h : PH), zev kX4_spelt 0 L st h = zev kX4_spelt 1 L (zvl 0 :: st) h) ∧
  (∀ (x0 x1 x2 : ZV) (a : Int) (L st : List ZV) (h : PH) (hx : zisL x0 = false) , zev kX4_spelt 1 (x0 :: x1 :: x2 :: L) (zvl a :: st) h = zev kX4_spelt 2 (x0 :: zvl a :: zvu :: L) st h) ∧
  (∀ (a : Option Nat) (L st : List ZV) (h : PH), zev kX4_spelt 2 (zvr a :: L) st h = zev kX4_spelt 3 (zvr a :: L) (zvr a :: st) h) ∧
  (∀ (q : Nat) (L st : List ZV) (h : PH), zev kX4_spelt 3 L (zvr (some q) :: st) h = if (ph_K h q).1 % 1000 = 18 then zev kX4_spelt 6 L (zvi (ph_I h q 13) :: st) h else none) ∧
  (∀ (x0 x1 x2 x3 : ZV) (a : Int) (L st : List ZV) (h : PH) (hx : zisL x2 = false) , zev kX4_spelt 6 (x0 :: x1 :: x2 :: x3 :: L) (zvi a :: st) h = zev kX4_spelt 7 (x0 :: x1 :: x2 :: zvi a :: L) st h) ∧
  (∀ (a : Option Nat) (L st : List ZV) (h : PH), zev kX4_spelt 8 (zvr a :: L) st h = zev kX4_spelt 9 (zvr a :: L) (zvr a :: st) h) ∧
  (∀ (q : Nat) (L st : List ZV) (h : PH), zev kX4_spelt 9 L (zvr (some q) :: st) h = if (ph_K h q).1 % 1000 = 18 then zev kX4_spelt 12 L (zvi (ph_I h q 14) :: st) h else none) ∧
  (∀ (a b : Int) (L st : List ZV) (h : PH), zev kX4_spelt 12 L (zvi b :: zvi a :: st) h = if a ≥ b then zev kX4_spelt 39 L st h else zev kX4_spelt 15 L st h) ∧
  (∀ (L st : List ZV) (h : PH), zev kX4_spelt 15 L st h = zev kX4_spelt 18 L (zvl 32 :: st) h) ∧
  (∀ (x0 : ZV) (a : Int) (L st : List ZV) (h : PH), zev kX4_spelt 18 (x0 :: zvl a :: L) st h = zev kX4_spelt 19 (x0 :: zvl a :: L) (zvl a :: st) h) ∧
  (∀ (a b : Int) (L st : List ZV) (h : PH), zev kX4_spelt 19 L (zvl b :: zvl a :: st) h = zev kX4_spelt 20 L (zvl (w64 (a * b)) :: st) h) ∧
  (∀ (a : Option Nat) (L st : List ZV) (h : PH), zev kX4_spelt 20 (zvr a :: L) st h = zev kX4_spelt 21 (zvr a :: L) (zvr a :: st) h) ∧
  (∀ (q : Nat) (L st : List ZV) (h : PH), zev kX4_spelt 21 L (zvr (some q) :: st) h = if (ph_K h q).1 % 1000 = 18 then zev kX4_spelt 24 L (zvr (ph_R h q 4) :: st) h else none) ∧
  (∀ (x0 x1 x2 : ZV) (a : Int) (L st : List ZV) (h : PH), zev kX4_spelt 24 (x0 :: x1 :: x2 :: zvi a :: L) st h = zev kX4_spelt 25 (x0 :: x1 :: x2 :: zvi a :: L) (zvi a :: st) h) ∧
  (∀ (j : Int) (q : Nat) (L st : List ZV) (h : PH), zev kX4_spelt 25 L (zvi j :: zvr (some q) :: st) h = if (ph_K h q).1 % 1000 = 1 ∧ 0 ≤ j ∧ j < (ph_K h q).2 then zev kX4_spelt 26 L (zvi (ph_I h q j) :: st) h else none) ∧
  (∀ (a : Int) (L st : List ZV) (h : PH), zev kX4_spelt 26 L (zvi a :: st) h = zev kX4_spelt 27 L (zvl a :: st) h) ∧
  (∀ (a b : Int) (L st : List ZV) (h : PH), zev kX4_spelt 27 L (zvl b :: zvl a :: st) h = zev kX4_spelt 28 L (zvl (w64 (a + b)) :: st) h) ∧
  (∀ (L st : List ZV) (h : PH), zev kX4_spelt 28 L st h = zev kX4_spelt 31 L (zvl 96 :: st) h) ∧
  (∀ (a b : Int) (L st : List ZV) (h : PH), zev kX4_spelt 31 L (zvl b :: zvl a :: st) h = zev kX4_spelt 32 L (zvl (w64 (a - b)) :: st) h) ∧
  (∀ (x0 x1 x2 : ZV) (a : Int) (L st : List ZV) (h : PH) (hx : zisL x0 = false) , zev kX4_spelt 32 (x0 :: x1 :: x2 :: L) (zvl a :: st) h = zev kX4_spelt 33 (x0 :: zvl a :: zvu :: L) st h) ∧
  (∀ (x0 x1 x2 : ZV) (a : Int) (L st : List ZV) (h : PH) (hx : zisL x2 = false) , zev kX4_spelt 33 (x0 :: x1 :: x2 :: zvi a :: L) st h = zev kX4_spelt 36 (x0 :: x1 :: x2 :: zvi (w32 (a + 1)) :: L) st h) ∧
  (∀ (L st : List ZV) (h : PH), zev kX4_spelt 36 L st h = zev kX4_spelt 7 L st h) ∧
  (∀ (x0 : ZV) (a : Int) (L st : List ZV) (h : PH), zev kX4_spelt 39 (x0 :: zvl a :: L) st h = zev kX4_spelt 40 (x0 :: zvl a :: L) (zvl a :: st) h) ∧
  (∀ (a : Int) (L : List ZV) (h : PH), zev kX4_spelt 40 L [zvl a] h = zrv (zvl a) h) :=
  ⟨fun L st h => e_push (v := zvl 0) (n := 1) rfl,
  fun x0 x1 x2 a L st h hx => e_stJ1 (n := 2) rfl hx,
  fun a L st h => e_ld0R (n := 3) rfl,
  fun q L st h => e_getI (kd := 18) (k := 13) (n := 6) rfl,
  fun x0 x1 x2 x3 a L st h hx => e_st3I (n := 7) rfl hx,
  fun a L st h => e_ld0R (n := 9) rfl,
  fun q L st h => e_getI (kd := 18) (k := 14) (n := 12) rfl,
  fun a b L st h => e_cmpge (t := 39) (n := 15) rfl,
  fun L st h => e_push (v := zvl 32) (n := 18) rfl,
  fun x0 a L st h => e_ld1J (n := 19) rfl,
  fun a b L st h => e_binL (f := (fun a b => w64 (a * b))) (n := 20) rfl,
  fun a L st h => e_ld0R (n := 21) rfl,
  fun q L st h => e_getR (kd := 18) (k := 4) (n := 24) rfl,
  fun x0 x1 x2 a L st h => e_ld3I (n := 25) rfl,
  fun j q L st h => e_ald (kd := 1) (n := 26) rfl,
  fun a L st h => e_i2l (n := 27) rfl,
  fun a b L st h => e_binL (f := (fun a b => w64 (a + b))) (n := 28) rfl,
  fun L st h => e_push (v := zvl 96) (n := 31) rfl,
  fun a b L st h => e_binL (f := (fun a b => w64 (a - b))) (n := 32) rfl,
  fun x0 x1 x2 a L st h hx => e_stJ1 (n := 33) rfl hx,
  fun x0 x1 x2 a L st h hx => e_iinc3 (d := 1) (n := 36) rfl hx,
  fun L st h => e_goto (t := 7) rfl,
  fun x0 a L st h => e_ld1J (n := 40) rfl,
  fun a L h => e_retJ rfl⟩
theorem allX4_spelt : zall yX4_spelt cX4_spelt 4 (some .long) 1 kX4_spelt.1 :=
  ⟨k_lconst dX4_spelt_0,
  k_lstore_n dX4_spelt_1,
  k_aload_n dX4_spelt_2,
  k_getI (C := RX4) (T := TX4) (N := 42) (ci := 2) (k := 13) (ref := "LinkTimesModel") dX4_spelt_3 rfl in_X4 (by decide) q1812 (Or.inl rfl) (fun _ _ _ => rfl),
  k_istore_n dX4_spelt_6,
  k_iload_n dX4_spelt_7,
  k_aload_n dX4_spelt_8,
  k_getI (C := RX4) (T := TX4) (N := 42) (ci := 2) (k := 14) (ref := "LinkTimesModel") dX4_spelt_9 rfl in_X4 (by decide) q1813 (Or.inl rfl) (fun _ _ _ => rfl),
  k_cmpge (t := 39) dX4_spelt_12 (by decide),
  k_ldc2 dX4_spelt_15 q2013,
  k_lload_n dX4_spelt_18,
  k_lmul dX4_spelt_19,
  k_aload_n dX4_spelt_20,
  k_getR (C := RX4) (T := TX4) (N := 42) (ci := 2) (k := 4) (ref := "LinkTimesModel") dX4_spelt_21 rfl in_X4 (by decide) q1803 (Or.inl rfl) (fun _ _ _ => rfl),
  k_iload_n dX4_spelt_24,
  k_iald dX4_spelt_25,
  k_i2l dX4_spelt_26,
  k_ladd dX4_spelt_27,
  k_ldc2 dX4_spelt_28 q2014,
  k_lsub dX4_spelt_31,
  k_lstore_n dX4_spelt_32,
  k_iinc dX4_spelt_33,
  k_goto (t := 7) dX4_spelt_36 (by decide),
  k_lload_n dX4_spelt_39,
  k_lret dX4_spelt_40, trivial⟩
theorem sndX4_spelt : MSound 1 yX4_spelt (ws_ yX4_spelt cX4_spelt 4 (some .long)) mX4_spelt := msound_M (by decide) allX4_spelt (fun _ _ => rfl)
/-! LinkTimesModel.placeOf([JIJ)I -/
noncomputable def kX4_placeOf : ZM := ([(0, zi_push (zvi 0) 1), (1, zi_st 0 4 3), (3, zi_ld 0 4 5), (5, zi_ld 0 1 6), (6, zi_cmp zc_ge 27 9), (9, zi_ld 1 0 10), (10, zi_ld 0 4 12), (12, zi_aldJ 13), (13, zi_ld 2 2 14), (14, zi_lcmp 15), (15, zi_if (fun a => zc_ne a 0) 21 18), (18, zi_ld 0 4 20), (20, zi_retv 0), (21, zi_iinc 4 1 24), (24, zi_goto 3), (27, zi_push (zvi (-1)) 28), (28, zi_retv 0)], fun _ _ => none)
noncomputable def mX4_placeOf : ZF := zrunM kX4_placeOf 5
theorem enX4_placeOf (x0 : Option Nat) (x1 : Int) (x2 : Int) (h : PH) : mX4_placeOf [zvr x0, zvi x1, zvl x2] h = zev kX4_placeOf 0 [zvr x0, zvi x1, zvl x2, zvu, zvu] [] h := zrunM_eq rfl rfl
theorem hdX4_placeOf_3 (x0 x1 x2 x3 : ZV) (a : Int) (L st : List ZV) (h : PH) : zev kX4_placeOf 3 (x0 :: x1 :: x2 :: x3 :: zvi a :: L) st h = zev kX4_placeOf 5 (x0 :: x1 :: x2 :: x3 :: zvi a :: L) (zvi a :: st) h := e_ld4I (n := 5) rfl
theorem rX4_placeOf : (∀ (L st : List ZV) (h : PH), zev kX4_placeOf 0 L st h = zev kX4_placeOf 1 L (zvi 0 :: st) h) ∧
  (∀ (x0 x1 x2 x3 x4 : ZV) (a : Int) (L st : List ZV) (h : PH) (hx : zisL x3 = false) , zev kX4_placeOf 1 (x0 :: x1 :: x2 :: x3 :: x4 :: L) (zvi a :: st) h = zev kX4_placeOf 3 (x0 :: x1 :: x2 :: x3 :: zvi a :: L) st h) ∧
  (∀ (x0 : ZV) (a : Int) (L st : List ZV) (h : PH), zev kX4_placeOf 5 (x0 :: zvi a :: L) st h = zev kX4_placeOf 6 (x0 :: zvi a :: L) (zvi a :: st) h) ∧
  (∀ (a b : Int) (L st : List ZV) (h : PH), zev kX4_placeOf 6 L (zvi b :: zvi a :: st) h = if a ≥ b then zev kX4_placeOf 27 L st h else zev kX4_placeOf 9 L st h) ∧
  (∀ (a : Option Nat) (L st : List ZV) (h : PH), zev kX4_placeOf 9 (zvr a :: L) st h = zev kX4_placeOf 10 (zvr a :: L) (zvr a :: st) h) ∧
  (∀ (x0 x1 x2 x3 : ZV) (a : Int) (L st : List ZV) (h : PH), zev kX4_placeOf 10 (x0 :: x1 :: x2 :: x3 :: zvi a :: L) st h = zev kX4_placeOf 12 (x0 :: x1 :: x2 :: x3 :: zvi a :: L) (zvi a :: st) h) ∧
  (∀ (j : Int) (q : Nat) (L st : List ZV) (h : PH), zev kX4_placeOf 12 L (zvi j :: zvr (some q) :: st) h = if (ph_K h q).1 % 1000 = 4 ∧ 0 ≤ j ∧ j < (ph_K h q).2 then zev kX4_placeOf 13 L (zvl (ph_J h q j) :: st) h else none) ∧
  (∀ (x0 x1 : ZV) (a : Int) (L st : List ZV) (h : PH), zev kX4_placeOf 13 (x0 :: x1 :: zvl a :: L) st h = zev kX4_placeOf 14 (x0 :: x1 :: zvl a :: L) (zvl a :: st) h) ∧
  (∀ (a b : Int) (L st : List ZV) (h : PH), zev kX4_placeOf 14 L (zvl b :: zvl a :: st) h = zev kX4_placeOf 15 L (zvi (zlcmp a b) :: st) h) ∧
  (∀ (a : Int) (L st : List ZV) (h : PH), zev kX4_placeOf 15 L (zvi a :: st) h = if a ≠ 0 then zev kX4_placeOf 21 L st h else zev kX4_placeOf 18 L st h) ∧
  (∀ (x0 x1 x2 x3 : ZV) (a : Int) (L st : List ZV) (h : PH), zev kX4_placeOf 18 (x0 :: x1 :: x2 :: x3 :: zvi a :: L) st h = zev kX4_placeOf 20 (x0 :: x1 :: x2 :: x3 :: zvi a :: L) (zvi a :: st) h) ∧
  (∀ (a : Int) (L : List ZV) (h : PH), zev kX4_placeOf 20 L [zvi a] h = zrv (zvi a) h) ∧
  (∀ (x0 x1 x2 x3 : ZV) (a : Int) (L st : List ZV) (h : PH) (hx : zisL x3 = false) , zev kX4_placeOf 21 (x0 :: x1 :: x2 :: x3 :: zvi a :: L) st h = zev kX4_placeOf 24 (x0 :: x1 :: x2 :: x3 :: zvi (w32 (a + 1)) :: L) st h) ∧
  (∀ (L st : List ZV) (h : PH), zev kX4_placeOf 24 L st h = zev kX4_placeOf 3 L st h) ∧
  (∀ (L st : List ZV) (h : PH), zev kX4_placeOf 27 L st h = zev kX4_placeOf 28 L (zvi (-1) :: st) h) ∧
  (∀ (a : Int) (L : List ZV) (h : PH), zev kX4_placeOf 28 L [zvi a] h = zrv (zvi a) h) :=
  ⟨fun L st h => e_push (v := zvi 0) (n := 1) rfl,
  fun x0 x1 x2 x3 x4 a L st h hx => e_st4I (n := 3) rfl hx,
  fun x0 a L st h => e_ld1I (n := 6) rfl,
  fun a b L st h => e_cmpge (t := 27) (n := 9) rfl,
  fun a L st h => e_ld0R (n := 10) rfl,
  fun x0 x1 x2 x3 a L st h => e_ld4I (n := 12) rfl,
  fun j q L st h => e_aldJ (n := 13) rfl,
  fun x0 x1 a L st h => e_ld2J (n := 14) rfl,
  fun a b L st h => e_lcmp (n := 15) rfl,
  fun a L st h => e_ifne (t := 21) (n := 18) rfl,
  fun x0 x1 x2 x3 a L st h => e_ld4I (n := 20) rfl,
  fun a L h => e_retI rfl,
  fun x0 x1 x2 x3 a L st h hx => e_iinc4 (d := 1) (n := 24) rfl hx,
  fun L st h => e_goto (t := 3) rfl,
  fun L st h => e_push (v := zvi (-1)) (n := 28) rfl,
  fun a L h => e_retI rfl⟩
theorem allX4_placeOf : zall yX4_placeOf cX4_placeOf 5 (some .int) 1 kX4_placeOf.1 :=
  ⟨k_iconst dX4_placeOf_0,
  k_istore dX4_placeOf_1,
  k_iload dX4_placeOf_3,
  k_iload_n dX4_placeOf_5,
  k_cmpge (t := 27) dX4_placeOf_6 (by decide),
  k_aload_n dX4_placeOf_9,
  k_iload dX4_placeOf_10,
  k_lald dX4_placeOf_12,
  k_lload_n dX4_placeOf_13,
  k_lcmp dX4_placeOf_14,
  k_ifne (t := 21) dX4_placeOf_15 (by decide),
  k_iload dX4_placeOf_18,
  k_iret dX4_placeOf_20,
  k_iinc dX4_placeOf_21,
  k_goto (t := 3) dX4_placeOf_24 (by decide),
  k_iconst dX4_placeOf_27,
  k_iret dX4_placeOf_28, trivial⟩
theorem sndX4_placeOf : MSound 1 yX4_placeOf (ws_ yX4_placeOf cX4_placeOf 5 (some .int)) mX4_placeOf := msound_M (by decide) allX4_placeOf (fun _ _ => rfl)
/-! LinkTimesModel.takesNew([JI)Z -/
noncomputable def kX4_takesNew : ZM := ([(0, zi_ld 1 0 1), (1, zi_callV mX4_isName 18 1 4), (4, zi_if (fun a => zc_ne a 0) 9 7), (7, zi_push (zvi 0) 8), (8, zi_retz), (9, zi_ld 1 0 10), (10, zi_getR 18 20 13), (13, zi_ld 1 0 14), (14, zi_getR 18 7 17), (17, zi_push (zvi 1) 18), (18, zi_ald 1 19), (19, zi_ld 1 0 20), (20, zi_callV mX4_spelt 18 1 23), (23, zi_callS mX4_placeOf 3 26), (26, zi_push (zvi (-1)) 27), (27, zi_cmp zc_ne 51 30), (30, zi_ld 1 0 31), (31, zi_getR 18 21 34), (34, zi_ld 1 0 35), (35, zi_getR 18 7 38), (38, zi_push (zvi 2) 39), (39, zi_ald 1 40), (40, zi_ld 1 0 41), (41, zi_callV mX4_spelt 18 1 44), (44, zi_callS mX4_placeOf 3 47), (47, zi_push (zvi (-1)) 48), (48, zi_cmp zc_eq 57 51), (51, zi_ld 1 0 52), (52, zi_push (zvi 3) 53), (53, zi_callV mX4_errs 18 2 56), (56, zi_retz), (57, zi_ld 1 1 58), (58, zi_ld 0 2 59), (59, zi_ld 1 0 60), (60, zi_callV mX4_spelt 18 1 63), (63, zi_astJ 64), (64, zi_ld 1 0 65), (65, zi_callV mX4_goesOn 18 1 68), (68, zi_push (zvi 1) 69), (69, zi_retz)], fun _ _ => none)
noncomputable def mX4_takesNew : ZF := zrunM kX4_takesNew 3
theorem enX4_takesNew (x0 : Option Nat) (x1 : Option Nat) (x2 : Int) (h : PH) : mX4_takesNew [zvr x0, zvr x1, zvi x2] h = zev kX4_takesNew 0 [zvr x0, zvr x1, zvi x2] [] h := zrunM_eq rfl rfl
theorem rX4_takesNew : (∀ (a : Option Nat) (L st : List ZV) (h : PH), zev kX4_takesNew 0 (zvr a :: L) st h = zev kX4_takesNew 1 (zvr a :: L) (zvr a :: st) h) ∧
  (∀ (q : Nat) (L st : List ZV) (h : PH), zev kX4_takesNew 1 L (zvr (some q) :: st) h = if (ph_K h q).1 % 1000 = 18 ∧ zcat st ≤ 8 then zk kX4_takesNew 1 4 L st (mX4_isName [zvr (some q)] h) else none) ∧
  (∀ (a : Int) (L st : List ZV) (h : PH), zev kX4_takesNew 4 L (zvi a :: st) h = if a ≠ 0 then zev kX4_takesNew 9 L st h else zev kX4_takesNew 7 L st h) ∧
  (∀ (L st : List ZV) (h : PH), zev kX4_takesNew 7 L st h = zev kX4_takesNew 8 L (zvi 0 :: st) h) ∧
  (∀ (a : Int) (L : List ZV) (h : PH), zev kX4_takesNew 8 L [zvi a] h = if a = 0 ∨ a = 1 then zrv (zvi a) h else none) ∧
  (∀ (a : Option Nat) (L st : List ZV) (h : PH), zev kX4_takesNew 9 (zvr a :: L) st h = zev kX4_takesNew 10 (zvr a :: L) (zvr a :: st) h) ∧
  (∀ (q : Nat) (L st : List ZV) (h : PH), zev kX4_takesNew 10 L (zvr (some q) :: st) h = if (ph_K h q).1 % 1000 = 18 then zev kX4_takesNew 13 L (zvr (ph_R h q 20) :: st) h else none) ∧
  (∀ (a : Option Nat) (L st : List ZV) (h : PH), zev kX4_takesNew 13 (zvr a :: L) st h = zev kX4_takesNew 14 (zvr a :: L) (zvr a :: st) h) ∧
  (∀ (q : Nat) (L st : List ZV) (h : PH), zev kX4_takesNew 14 L (zvr (some q) :: st) h = if (ph_K h q).1 % 1000 = 18 then zev kX4_takesNew 17 L (zvr (ph_R h q 7) :: st) h else none) ∧
  (∀ (L st : List ZV) (h : PH), zev kX4_takesNew 17 L st h = zev kX4_takesNew 18 L (zvi 1 :: st) h) ∧
  (∀ (j : Int) (q : Nat) (L st : List ZV) (h : PH), zev kX4_takesNew 18 L (zvi j :: zvr (some q) :: st) h = if (ph_K h q).1 % 1000 = 1 ∧ 0 ≤ j ∧ j < (ph_K h q).2 then zev kX4_takesNew 19 L (zvi (ph_I h q j) :: st) h else none) ∧
  (∀ (a : Option Nat) (L st : List ZV) (h : PH), zev kX4_takesNew 19 (zvr a :: L) st h = zev kX4_takesNew 20 (zvr a :: L) (zvr a :: st) h) ∧
  (∀ (q : Nat) (L st : List ZV) (h : PH), zev kX4_takesNew 20 L (zvr (some q) :: st) h = if (ph_K h q).1 % 1000 = 18 ∧ zcat st ≤ 8 then zk kX4_takesNew 20 23 L st (mX4_spelt [zvr (some q)] h) else none) ∧
  (∀ (v0 v1 v2 : ZV) (L st : List ZV) (h : PH), zev kX4_takesNew 23 L (v2 :: v1 :: v0 :: st) h = if zcat st ≤ 8 then zk kX4_takesNew 23 26 L st (mX4_placeOf [v0, v1, v2] h) else none) ∧
  (∀ (L st : List ZV) (h : PH), zev kX4_takesNew 26 L st h = zev kX4_takesNew 27 L (zvi (-1) :: st) h) ∧
  (∀ (a b : Int) (L st : List ZV) (h : PH), zev kX4_takesNew 27 L (zvi b :: zvi a :: st) h = if a ≠ b then zev kX4_takesNew 51 L st h else zev kX4_takesNew 30 L st h) ∧
  (∀ (a : Option Nat) (L st : List ZV) (h : PH), zev kX4_takesNew 30 (zvr a :: L) st h = zev kX4_takesNew 31 (zvr a :: L) (zvr a :: st) h) ∧
  (∀ (q : Nat) (L st : List ZV) (h : PH), zev kX4_takesNew 31 L (zvr (some q) :: st) h = if (ph_K h q).1 % 1000 = 18 then zev kX4_takesNew 34 L (zvr (ph_R h q 21) :: st) h else none) ∧
  (∀ (a : Option Nat) (L st : List ZV) (h : PH), zev kX4_takesNew 34 (zvr a :: L) st h = zev kX4_takesNew 35 (zvr a :: L) (zvr a :: st) h) ∧
  (∀ (q : Nat) (L st : List ZV) (h : PH), zev kX4_takesNew 35 L (zvr (some q) :: st) h = if (ph_K h q).1 % 1000 = 18 then zev kX4_takesNew 38 L (zvr (ph_R h q 7) :: st) h else none) ∧
  (∀ (L st : List ZV) (h : PH), zev kX4_takesNew 38 L st h = zev kX4_takesNew 39 L (zvi 2 :: st) h) ∧
  (∀ (j : Int) (q : Nat) (L st : List ZV) (h : PH), zev kX4_takesNew 39 L (zvi j :: zvr (some q) :: st) h = if (ph_K h q).1 % 1000 = 1 ∧ 0 ≤ j ∧ j < (ph_K h q).2 then zev kX4_takesNew 40 L (zvi (ph_I h q j) :: st) h else none) ∧
  (∀ (a : Option Nat) (L st : List ZV) (h : PH), zev kX4_takesNew 40 (zvr a :: L) st h = zev kX4_takesNew 41 (zvr a :: L) (zvr a :: st) h) ∧
  (∀ (q : Nat) (L st : List ZV) (h : PH), zev kX4_takesNew 41 L (zvr (some q) :: st) h = if (ph_K h q).1 % 1000 = 18 ∧ zcat st ≤ 8 then zk kX4_takesNew 41 44 L st (mX4_spelt [zvr (some q)] h) else none) ∧
  (∀ (v0 v1 v2 : ZV) (L st : List ZV) (h : PH), zev kX4_takesNew 44 L (v2 :: v1 :: v0 :: st) h = if zcat st ≤ 8 then zk kX4_takesNew 44 47 L st (mX4_placeOf [v0, v1, v2] h) else none) ∧
  (∀ (L st : List ZV) (h : PH), zev kX4_takesNew 47 L st h = zev kX4_takesNew 48 L (zvi (-1) :: st) h) ∧
  (∀ (a b : Int) (L st : List ZV) (h : PH), zev kX4_takesNew 48 L (zvi b :: zvi a :: st) h = if a = b then zev kX4_takesNew 57 L st h else zev kX4_takesNew 51 L st h) ∧
  (∀ (a : Option Nat) (L st : List ZV) (h : PH), zev kX4_takesNew 51 (zvr a :: L) st h = zev kX4_takesNew 52 (zvr a :: L) (zvr a :: st) h) ∧
  (∀ (L st : List ZV) (h : PH), zev kX4_takesNew 52 L st h = zev kX4_takesNew 53 L (zvi 3 :: st) h) ∧
  (∀ (v0 : ZV) (q : Nat) (L st : List ZV) (h : PH), zev kX4_takesNew 53 L (v0 :: zvr (some q) :: st) h = if (ph_K h q).1 % 1000 = 18 ∧ zcat st ≤ 8 then zk kX4_takesNew 53 56 L st (mX4_errs [zvr (some q), v0] h) else none) ∧
  (∀ (a : Int) (L : List ZV) (h : PH), zev kX4_takesNew 56 L [zvi a] h = if a = 0 ∨ a = 1 then zrv (zvi a) h else none) ∧
  (∀ (x0 : ZV) (a : Option Nat) (L st : List ZV) (h : PH), zev kX4_takesNew 57 (x0 :: zvr a :: L) st h = zev kX4_takesNew 58 (x0 :: zvr a :: L) (zvr a :: st) h) ∧
  (∀ (x0 x1 : ZV) (a : Int) (L st : List ZV) (h : PH), zev kX4_takesNew 58 (x0 :: x1 :: zvi a :: L) st h = zev kX4_takesNew 59 (x0 :: x1 :: zvi a :: L) (zvi a :: st) h) ∧
  (∀ (a : Option Nat) (L st : List ZV) (h : PH), zev kX4_takesNew 59 (zvr a :: L) st h = zev kX4_takesNew 60 (zvr a :: L) (zvr a :: st) h) ∧
  (∀ (q : Nat) (L st : List ZV) (h : PH), zev kX4_takesNew 60 L (zvr (some q) :: st) h = if (ph_K h q).1 % 1000 = 18 ∧ zcat st ≤ 8 then zk kX4_takesNew 60 63 L st (mX4_spelt [zvr (some q)] h) else none) ∧
  (∀ (x j : Int) (q : Nat) (L st : List ZV) (h : PH), zev kX4_takesNew 63 L (zvl x :: zvi j :: zvr (some q) :: st) h = if (ph_K h q).1 = 4 ∧ 0 ≤ j ∧ j < (ph_K h q).2 then zev kX4_takesNew 64 L st (st_J h q j x) else none) ∧
  (∀ (a : Option Nat) (L st : List ZV) (h : PH), zev kX4_takesNew 64 (zvr a :: L) st h = zev kX4_takesNew 65 (zvr a :: L) (zvr a :: st) h) ∧
  (∀ (q : Nat) (L st : List ZV) (h : PH), zev kX4_takesNew 65 L (zvr (some q) :: st) h = if (ph_K h q).1 % 1000 = 18 ∧ zcat st ≤ 8 then zk kX4_takesNew 65 68 L st (mX4_goesOn [zvr (some q)] h) else none) ∧
  (∀ (L st : List ZV) (h : PH), zev kX4_takesNew 68 L st h = zev kX4_takesNew 69 L (zvi 1 :: st) h) ∧
  (∀ (a : Int) (L : List ZV) (h : PH), zev kX4_takesNew 69 L [zvi a] h = if a = 0 ∨ a = 1 then zrv (zvi a) h else none) :=
  ⟨fun a L st h => e_ld0R (n := 1) rfl,
  fun q L st h => e_callV1 (F := mX4_isName) (kd := 18) (n := 4) rfl,
  fun a L st h => e_ifne (t := 9) (n := 7) rfl,
  fun L st h => e_push (v := zvi 0) (n := 8) rfl,
  fun a L h => e_retz rfl,
  fun a L st h => e_ld0R (n := 10) rfl,
  fun q L st h => e_getR (kd := 18) (k := 20) (n := 13) rfl,
  fun a L st h => e_ld0R (n := 14) rfl,
  fun q L st h => e_getR (kd := 18) (k := 7) (n := 17) rfl,
  fun L st h => e_push (v := zvi 1) (n := 18) rfl,
  fun j q L st h => e_ald (kd := 1) (n := 19) rfl,
  fun a L st h => e_ld0R (n := 20) rfl,
  fun q L st h => e_callV1 (F := mX4_spelt) (kd := 18) (n := 23) rfl,
  fun v0 v1 v2 L st h => e_callS3 (F := mX4_placeOf) (n := 26) rfl,
  fun L st h => e_push (v := zvi (-1)) (n := 27) rfl,
  fun a b L st h => e_cmpne (t := 51) (n := 30) rfl,
  fun a L st h => e_ld0R (n := 31) rfl,
  fun q L st h => e_getR (kd := 18) (k := 21) (n := 34) rfl,
  fun a L st h => e_ld0R (n := 35) rfl,
  fun q L st h => e_getR (kd := 18) (k := 7) (n := 38) rfl,
  fun L st h => e_push (v := zvi 2) (n := 39) rfl,
  fun j q L st h => e_ald (kd := 1) (n := 40) rfl,
  fun a L st h => e_ld0R (n := 41) rfl,
  fun q L st h => e_callV1 (F := mX4_spelt) (kd := 18) (n := 44) rfl,
  fun v0 v1 v2 L st h => e_callS3 (F := mX4_placeOf) (n := 47) rfl,
  fun L st h => e_push (v := zvi (-1)) (n := 48) rfl,
  fun a b L st h => e_cmpeq (t := 57) (n := 51) rfl,
  fun a L st h => e_ld0R (n := 52) rfl,
  fun L st h => e_push (v := zvi 3) (n := 53) rfl,
  fun v0 q L st h => e_callV2 (F := mX4_errs) (kd := 18) (n := 56) rfl,
  fun a L h => e_retz rfl,
  fun x0 a L st h => e_ld1R (n := 58) rfl,
  fun x0 x1 a L st h => e_ld2I (n := 59) rfl,
  fun a L st h => e_ld0R (n := 60) rfl,
  fun q L st h => e_callV1 (F := mX4_spelt) (kd := 18) (n := 63) rfl,
  fun x j q L st h => e_astJ (n := 64) rfl,
  fun a L st h => e_ld0R (n := 65) rfl,
  fun q L st h => e_callV1 (F := mX4_goesOn) (kd := 18) (n := 68) rfl,
  fun L st h => e_push (v := zvi 1) (n := 69) rfl,
  fun a L h => e_retz rfl⟩
theorem allX4_takesNew : zall yX4_takesNew cX4_takesNew 3 (some .boolean) 8 kX4_takesNew.1 :=
  ⟨k_aload_n dX4_takesNew_0,
  k_callV (y2 := yX4_isName) (C := RX4) (T0 := TX4) (ci := 2) dX4_takesNew_1 sndX4_isName rfl q2003 q2005 qs83 q137 q2006 (by decide +kernel) ⟨by decide, by decide⟩ (by decide) (by decide),
  k_ifne (t := 9) dX4_takesNew_4 (by decide),
  k_iconst dX4_takesNew_7,
  k_zret dX4_takesNew_8,
  k_aload_n dX4_takesNew_9,
  k_getR (C := RX4) (T := TX4) (N := 42) (ci := 2) (k := 20) (ref := "LinkTimesModel") dX4_takesNew_10 rfl in_X4 (by decide) q1819 (Or.inl rfl) (fun _ _ _ => rfl),
  k_aload_n dX4_takesNew_13,
  k_getR (C := RX4) (T := TX4) (N := 42) (ci := 2) (k := 7) (ref := "LinkTimesModel") dX4_takesNew_14 rfl in_X4 (by decide) q1806 (Or.inl rfl) (fun _ _ _ => rfl),
  k_iconst dX4_takesNew_17,
  k_iald dX4_takesNew_18,
  k_aload_n dX4_takesNew_19,
  k_callV (y2 := yX4_spelt) (C := RX4) (T0 := TX4) (ci := 2) dX4_takesNew_20 sndX4_spelt rfl q2009 q2011 qs84 q137 q2012 (by decide +kernel) ⟨by decide, by decide⟩ (by decide) (by decide),
  k_callS (y2 := yX4_placeOf) dX4_takesNew_23 sndX4_placeOf q2015 q2016 q137 q2017 (by decide +kernel) ⟨by decide, by decide⟩ (by decide) (by decide),
  k_iconst dX4_takesNew_26,
  k_cmpne (t := 51) dX4_takesNew_27 (by decide),
  k_aload_n dX4_takesNew_30,
  k_getR (C := RX4) (T := TX4) (N := 42) (ci := 2) (k := 21) (ref := "LinkTimesModel") dX4_takesNew_31 rfl in_X4 (by decide) q1820 (Or.inl rfl) (fun _ _ _ => rfl),
  k_aload_n dX4_takesNew_34,
  k_getR (C := RX4) (T := TX4) (N := 42) (ci := 2) (k := 7) (ref := "LinkTimesModel") dX4_takesNew_35 rfl in_X4 (by decide) q1806 (Or.inl rfl) (fun _ _ _ => rfl),
  k_iconst dX4_takesNew_38,
  k_iald dX4_takesNew_39,
  k_aload_n dX4_takesNew_40,
  k_callV (y2 := yX4_spelt) (C := RX4) (T0 := TX4) (ci := 2) dX4_takesNew_41 sndX4_spelt rfl q2009 q2011 qs84 q137 q2012 (by decide +kernel) ⟨by decide, by decide⟩ (by decide) (by decide),
  k_callS (y2 := yX4_placeOf) dX4_takesNew_44 sndX4_placeOf q2015 q2016 q137 q2017 (by decide +kernel) ⟨by decide, by decide⟩ (by decide) (by decide),
  k_iconst dX4_takesNew_47,
  k_cmpeq (t := 57) dX4_takesNew_48 (by decide),
  k_aload_n dX4_takesNew_51,
  k_iconst dX4_takesNew_52,
  k_callV (y2 := yX4_errs) (C := RX4) (T0 := TX4) (ci := 2) dX4_takesNew_53 sndX4_errs rfl q1977 q1979 qs77 q137 q1980 (by decide +kernel) ⟨by decide, by decide⟩ (by decide) (by decide),
  k_zret dX4_takesNew_56,
  k_aload_n dX4_takesNew_57,
  k_iload_n dX4_takesNew_58,
  k_aload_n dX4_takesNew_59,
  k_callV (y2 := yX4_spelt) (C := RX4) (T0 := TX4) (ci := 2) dX4_takesNew_60 sndX4_spelt rfl q2009 q2011 qs84 q137 q2012 (by decide +kernel) ⟨by decide, by decide⟩ (by decide) (by decide),
  k_last dX4_takesNew_63,
  k_aload_n dX4_takesNew_64,
  k_callV (y2 := yX4_goesOn) (C := RX4) (T0 := TX4) (ci := 2) dX4_takesNew_65 sndX4_goesOn rfl q1954 q1956 qs72 q137 q1957 (by decide +kernel) ⟨by decide, by decide⟩ (by decide) (by decide),
  k_iconst dX4_takesNew_68,
  k_zret dX4_takesNew_69, trivial⟩
theorem sndX4_takesNew : MSound 8 yX4_takesNew (ws_ yX4_takesNew cX4_takesNew 3 (some .boolean)) mX4_takesNew := msound_M (by decide) allX4_takesNew (fun _ _ => rfl)
/-! LinkTimesModel.readSpot()Z -/
noncomputable def kX4_readSpot : ZM := ([(0, zi_ld 1 0 1), (1, zi_getR 18 7 4), (4, zi_push (zvi 1) 5), (5, zi_ald 1 6), (6, zi_st 0 1 7), (7, zi_ld 1 0 8), (8, zi_ld 0 1 9), (9, zi_push (zvi 10) 11), (11, zi_cmp zc_ge 18 14), (14, zi_push (zvi 1) 15), (15, zi_goto 19), (18, zi_push (zvi 0) 19), (19, zi_callV mX4_begins 18 2 22), (22, zi_if (fun a => zc_eq a 0) 52 25), (25, zi_ld 1 0 26), (26, zi_ld 1 0 27), (27, zi_getR 18 20 30), (30, zi_ld 0 1 31), (31, zi_callV mX4_takesNew 18 3 34), (34, zi_if (fun a => zc_eq a 0) 52 37), (37, zi_ld 1 0 38), (38, zi_push (zvr (some 1000000015)) 40), (40, zi_push (zvi 5) 41), (41, zi_ld 0 1 42), (42, zi_bin (fun a b => w32 (a + b)) 43), (43, zi_push (zvi 0) 44), (44, zi_push (zvi 99) 46), (46, zi_callV mX4_after 18 5 49), (49, zi_if (fun a => zc_ne a 0) 54 52), (52, zi_push (zvi 0) 53), (53, zi_retz), (54, zi_ld 1 0 55), (55, zi_getR 18 7 58), (58, zi_push (zvi 15) 60), (60, zi_ld 0 1 61), (61, zi_bin (fun a b => w32 (a + b)) 62), (62, zi_push (zvi (-2)) 64), (64, zi_ast 65), (65, zi_ld 1 0 66), (66, zi_push (zvr (some 1000000016)) 68), (68, zi_callV mX4_isWord 18 2 71), (71, zi_if (fun a => zc_eq a 0) 93 74), (74, zi_ld 1 0 75), (75, zi_push (zvr (some 1000000016)) 77), (77, zi_push (zvi 15) 79), (79, zi_ld 0 1 80), (80, zi_bin (fun a b => w32 (a + b)) 81), (81, zi_push (zvi 0) 82), (82, zi_push (zvi 999) 85), (85, zi_callV mX4_after 18 5 88), (88, zi_if (fun a => zc_ne a 0) 93 91), (91, zi_push (zvi 0) 92), (92, zi_retz), (93, zi_ld 1 0 94), (94, zi_getR 18 7 97), (97, zi_push (zvi 1) 98), (98, zi_dup2 99), (99, zi_ald 1 100), (100, zi_push (zvi 1) 101), (101, zi_bin (fun a b => w32 (a + b)) 102), (102, zi_ast 103), (103, zi_push (zvi 1) 104), (104, zi_retz)], fun _ _ => none)
noncomputable def mX4_readSpot : ZF := zrunM kX4_readSpot 2
theorem enX4_readSpot (x0 : Option Nat) (h : PH) : mX4_readSpot [zvr x0] h = zev kX4_readSpot 0 [zvr x0, zvu] [] h := zrunM_eq rfl rfl
theorem rX4_readSpot : (∀ (a : Option Nat) (L st : List ZV) (h : PH), zev kX4_readSpot 0 (zvr a :: L) st h = zev kX4_readSpot 1 (zvr a :: L) (zvr a :: st) h) ∧
  (∀ (q : Nat) (L st : List ZV) (h : PH), zev kX4_readSpot 1 L (zvr (some q) :: st) h = if (ph_K h q).1 % 1000 = 18 then zev kX4_readSpot 4 L (zvr (ph_R h q 7) :: st) h else none) ∧
  (∀ (L st : List ZV) (h : PH), zev kX4_readSpot 4 L st h = zev kX4_readSpot 5 L (zvi 1 :: st) h) ∧
  (∀ (j : Int) (q : Nat) (L st : List ZV) (h : PH), zev kX4_readSpot 5 L (zvi j :: zvr (some q) :: st) h = if (ph_K h q).1 % 1000 = 1 ∧ 0 ≤ j ∧ j < (ph_K h q).2 then zev kX4_readSpot 6 L (zvi (ph_I h q j) :: st) h else none) ∧
  (∀ (x0 x1 : ZV) (a : Int) (L st : List ZV) (h : PH) (hx : zisL x0 = false) , zev kX4_readSpot 6 (x0 :: x1 :: L) (zvi a :: st) h = zev kX4_readSpot 7 (x0 :: zvi a :: L) st h) ∧
  (∀ (a : Option Nat) (L st : List ZV) (h : PH), zev kX4_readSpot 7 (zvr a :: L) st h = zev kX4_readSpot 8 (zvr a :: L) (zvr a :: st) h) ∧
  (∀ (x0 : ZV) (a : Int) (L st : List ZV) (h : PH), zev kX4_readSpot 8 (x0 :: zvi a :: L) st h = zev kX4_readSpot 9 (x0 :: zvi a :: L) (zvi a :: st) h) ∧
  (∀ (L st : List ZV) (h : PH), zev kX4_readSpot 9 L st h = zev kX4_readSpot 11 L (zvi 10 :: st) h) ∧
  (∀ (a b : Int) (L st : List ZV) (h : PH), zev kX4_readSpot 11 L (zvi b :: zvi a :: st) h = if a ≥ b then zev kX4_readSpot 18 L st h else zev kX4_readSpot 14 L st h) ∧
  (∀ (L st : List ZV) (h : PH), zev kX4_readSpot 14 L st h = zev kX4_readSpot 15 L (zvi 1 :: st) h) ∧
  (∀ (L st : List ZV) (h : PH), zev kX4_readSpot 15 L st h = zev kX4_readSpot 19 L st h) ∧
  (∀ (L st : List ZV) (h : PH), zev kX4_readSpot 18 L st h = zev kX4_readSpot 19 L (zvi 0 :: st) h) ∧
  (∀ (v0 : ZV) (q : Nat) (L st : List ZV) (h : PH), zev kX4_readSpot 19 L (v0 :: zvr (some q) :: st) h = if (ph_K h q).1 % 1000 = 18 ∧ zcat st ≤ 8 then zk kX4_readSpot 19 22 L st (mX4_begins [zvr (some q), v0] h) else none) ∧
  (∀ (a : Int) (L st : List ZV) (h : PH), zev kX4_readSpot 22 L (zvi a :: st) h = if a = 0 then zev kX4_readSpot 52 L st h else zev kX4_readSpot 25 L st h) ∧
  (∀ (a : Option Nat) (L st : List ZV) (h : PH), zev kX4_readSpot 25 (zvr a :: L) st h = zev kX4_readSpot 26 (zvr a :: L) (zvr a :: st) h) ∧
  (∀ (a : Option Nat) (L st : List ZV) (h : PH), zev kX4_readSpot 26 (zvr a :: L) st h = zev kX4_readSpot 27 (zvr a :: L) (zvr a :: st) h) ∧
  (∀ (q : Nat) (L st : List ZV) (h : PH), zev kX4_readSpot 27 L (zvr (some q) :: st) h = if (ph_K h q).1 % 1000 = 18 then zev kX4_readSpot 30 L (zvr (ph_R h q 20) :: st) h else none) ∧
  (∀ (x0 : ZV) (a : Int) (L st : List ZV) (h : PH), zev kX4_readSpot 30 (x0 :: zvi a :: L) st h = zev kX4_readSpot 31 (x0 :: zvi a :: L) (zvi a :: st) h) ∧
  (∀ (v0 v1 : ZV) (q : Nat) (L st : List ZV) (h : PH), zev kX4_readSpot 31 L (v1 :: v0 :: zvr (some q) :: st) h = if (ph_K h q).1 % 1000 = 18 ∧ zcat st ≤ 8 then zk kX4_readSpot 31 34 L st (mX4_takesNew [zvr (some q), v0, v1] h) else none) ∧
  (∀ (a : Int) (L st : List ZV) (h : PH), zev kX4_readSpot 34 L (zvi a :: st) h = if a = 0 then zev kX4_readSpot 52 L st h else zev kX4_readSpot 37 L st h) ∧
  (∀ (a : Option Nat) (L st : List ZV) (h : PH), zev kX4_readSpot 37 (zvr a :: L) st h = zev kX4_readSpot 38 (zvr a :: L) (zvr a :: st) h) ∧
  (∀ (L st : List ZV) (h : PH), zev kX4_readSpot 38 L st h = zev kX4_readSpot 40 L (zvr (some 1000000015) :: st) h) ∧
  (∀ (L st : List ZV) (h : PH), zev kX4_readSpot 40 L st h = zev kX4_readSpot 41 L (zvi 5 :: st) h) ∧
  (∀ (x0 : ZV) (a : Int) (L st : List ZV) (h : PH), zev kX4_readSpot 41 (x0 :: zvi a :: L) st h = zev kX4_readSpot 42 (x0 :: zvi a :: L) (zvi a :: st) h) ∧
  (∀ (a b : Int) (L st : List ZV) (h : PH), zev kX4_readSpot 42 L (zvi b :: zvi a :: st) h = zev kX4_readSpot 43 L (zvi (w32 (a + b)) :: st) h) ∧
  (∀ (L st : List ZV) (h : PH), zev kX4_readSpot 43 L st h = zev kX4_readSpot 44 L (zvi 0 :: st) h) ∧
  (∀ (L st : List ZV) (h : PH), zev kX4_readSpot 44 L st h = zev kX4_readSpot 46 L (zvi 99 :: st) h) ∧
  (∀ (v0 v1 v2 v3 : ZV) (q : Nat) (L st : List ZV) (h : PH), zev kX4_readSpot 46 L (v3 :: v2 :: v1 :: v0 :: zvr (some q) :: st) h = if (ph_K h q).1 % 1000 = 18 ∧ zcat st ≤ 8 then zk kX4_readSpot 46 49 L st (mX4_after [zvr (some q), v0, v1, v2, v3] h) else none) ∧
  (∀ (a : Int) (L st : List ZV) (h : PH), zev kX4_readSpot 49 L (zvi a :: st) h = if a ≠ 0 then zev kX4_readSpot 54 L st h else zev kX4_readSpot 52 L st h) ∧
  (∀ (L st : List ZV) (h : PH), zev kX4_readSpot 52 L st h = zev kX4_readSpot 53 L (zvi 0 :: st) h) ∧
  (∀ (a : Int) (L : List ZV) (h : PH), zev kX4_readSpot 53 L [zvi a] h = if a = 0 ∨ a = 1 then zrv (zvi a) h else none) ∧
  (∀ (a : Option Nat) (L st : List ZV) (h : PH), zev kX4_readSpot 54 (zvr a :: L) st h = zev kX4_readSpot 55 (zvr a :: L) (zvr a :: st) h) ∧
  (∀ (q : Nat) (L st : List ZV) (h : PH), zev kX4_readSpot 55 L (zvr (some q) :: st) h = if (ph_K h q).1 % 1000 = 18 then zev kX4_readSpot 58 L (zvr (ph_R h q 7) :: st) h else none) ∧
  (∀ (L st : List ZV) (h : PH), zev kX4_readSpot 58 L st h = zev kX4_readSpot 60 L (zvi 15 :: st) h) ∧
  (∀ (x0 : ZV) (a : Int) (L st : List ZV) (h : PH), zev kX4_readSpot 60 (x0 :: zvi a :: L) st h = zev kX4_readSpot 61 (x0 :: zvi a :: L) (zvi a :: st) h) ∧
  (∀ (a b : Int) (L st : List ZV) (h : PH), zev kX4_readSpot 61 L (zvi b :: zvi a :: st) h = zev kX4_readSpot 62 L (zvi (w32 (a + b)) :: st) h) ∧
  (∀ (L st : List ZV) (h : PH), zev kX4_readSpot 62 L st h = zev kX4_readSpot 64 L (zvi (-2) :: st) h) ∧
  (∀ (x j : Int) (q : Nat) (L st : List ZV) (h : PH), zev kX4_readSpot 64 L (zvi x :: zvi j :: zvr (some q) :: st) h = if (ph_K h q).1 = 1 ∧ 0 ≤ j ∧ j < (ph_K h q).2 then zev kX4_readSpot 65 L st (st_I h q j x) else none) ∧
  (∀ (a : Option Nat) (L st : List ZV) (h : PH), zev kX4_readSpot 65 (zvr a :: L) st h = zev kX4_readSpot 66 (zvr a :: L) (zvr a :: st) h) ∧
  (∀ (L st : List ZV) (h : PH), zev kX4_readSpot 66 L st h = zev kX4_readSpot 68 L (zvr (some 1000000016) :: st) h) ∧
  (∀ (v0 : ZV) (q : Nat) (L st : List ZV) (h : PH), zev kX4_readSpot 68 L (v0 :: zvr (some q) :: st) h = if (ph_K h q).1 % 1000 = 18 ∧ zcat st ≤ 8 then zk kX4_readSpot 68 71 L st (mX4_isWord [zvr (some q), v0] h) else none) ∧
  (∀ (a : Int) (L st : List ZV) (h : PH), zev kX4_readSpot 71 L (zvi a :: st) h = if a = 0 then zev kX4_readSpot 93 L st h else zev kX4_readSpot 74 L st h) ∧
  (∀ (a : Option Nat) (L st : List ZV) (h : PH), zev kX4_readSpot 74 (zvr a :: L) st h = zev kX4_readSpot 75 (zvr a :: L) (zvr a :: st) h) ∧
  (∀ (L st : List ZV) (h : PH), zev kX4_readSpot 75 L st h = zev kX4_readSpot 77 L (zvr (some 1000000016) :: st) h) ∧
  (∀ (L st : List ZV) (h : PH), zev kX4_readSpot 77 L st h = zev kX4_readSpot 79 L (zvi 15 :: st) h) ∧
  (∀ (x0 : ZV) (a : Int) (L st : List ZV) (h : PH), zev kX4_readSpot 79 (x0 :: zvi a :: L) st h = zev kX4_readSpot 80 (x0 :: zvi a :: L) (zvi a :: st) h) ∧
  (∀ (a b : Int) (L st : List ZV) (h : PH), zev kX4_readSpot 80 L (zvi b :: zvi a :: st) h = zev kX4_readSpot 81 L (zvi (w32 (a + b)) :: st) h) ∧
  (∀ (L st : List ZV) (h : PH), zev kX4_readSpot 81 L st h = zev kX4_readSpot 82 L (zvi 0 :: st) h) ∧
  (∀ (L st : List ZV) (h : PH), zev kX4_readSpot 82 L st h = zev kX4_readSpot 85 L (zvi 999 :: st) h) ∧
  (∀ (v0 v1 v2 v3 : ZV) (q : Nat) (L st : List ZV) (h : PH), zev kX4_readSpot 85 L (v3 :: v2 :: v1 :: v0 :: zvr (some q) :: st) h = if (ph_K h q).1 % 1000 = 18 ∧ zcat st ≤ 8 then zk kX4_readSpot 85 88 L st (mX4_after [zvr (some q), v0, v1, v2, v3] h) else none) ∧
  (∀ (a : Int) (L st : List ZV) (h : PH), zev kX4_readSpot 88 L (zvi a :: st) h = if a ≠ 0 then zev kX4_readSpot 93 L st h else zev kX4_readSpot 91 L st h) ∧
  (∀ (L st : List ZV) (h : PH), zev kX4_readSpot 91 L st h = zev kX4_readSpot 92 L (zvi 0 :: st) h) ∧
  (∀ (a : Int) (L : List ZV) (h : PH), zev kX4_readSpot 92 L [zvi a] h = if a = 0 ∨ a = 1 then zrv (zvi a) h else none) ∧
  (∀ (a : Option Nat) (L st : List ZV) (h : PH), zev kX4_readSpot 93 (zvr a :: L) st h = zev kX4_readSpot 94 (zvr a :: L) (zvr a :: st) h) ∧
  (∀ (q : Nat) (L st : List ZV) (h : PH), zev kX4_readSpot 94 L (zvr (some q) :: st) h = if (ph_K h q).1 % 1000 = 18 then zev kX4_readSpot 97 L (zvr (ph_R h q 7) :: st) h else none) ∧
  (∀ (L st : List ZV) (h : PH), zev kX4_readSpot 97 L st h = zev kX4_readSpot 98 L (zvi 1 :: st) h) ∧
  (∀ (a : Int) (b : Int) (L st : List ZV) (h : PH), zev kX4_readSpot 98 L (zvi a :: zvi b :: st) h = zev kX4_readSpot 99 L (zvi a :: zvi b :: zvi a :: zvi b :: st) h) ∧
  (∀ (a : Int) (b : Option Nat) (L st : List ZV) (h : PH), zev kX4_readSpot 98 L (zvi a :: zvr b :: st) h = zev kX4_readSpot 99 L (zvi a :: zvr b :: zvi a :: zvr b :: st) h) ∧
  (∀ (a : Option Nat) (b : Int) (L st : List ZV) (h : PH), zev kX4_readSpot 98 L (zvr a :: zvi b :: st) h = zev kX4_readSpot 99 L (zvr a :: zvi b :: zvr a :: zvi b :: st) h) ∧
  (∀ (a : Option Nat) (b : Option Nat) (L st : List ZV) (h : PH), zev kX4_readSpot 98 L (zvr a :: zvr b :: st) h = zev kX4_readSpot 99 L (zvr a :: zvr b :: zvr a :: zvr b :: st) h) ∧
  (∀ (j : Int) (q : Nat) (L st : List ZV) (h : PH), zev kX4_readSpot 99 L (zvi j :: zvr (some q) :: st) h = if (ph_K h q).1 % 1000 = 1 ∧ 0 ≤ j ∧ j < (ph_K h q).2 then zev kX4_readSpot 100 L (zvi (ph_I h q j) :: st) h else none) ∧
  (∀ (L st : List ZV) (h : PH), zev kX4_readSpot 100 L st h = zev kX4_readSpot 101 L (zvi 1 :: st) h) ∧
  (∀ (a b : Int) (L st : List ZV) (h : PH), zev kX4_readSpot 101 L (zvi b :: zvi a :: st) h = zev kX4_readSpot 102 L (zvi (w32 (a + b)) :: st) h) ∧
  (∀ (x j : Int) (q : Nat) (L st : List ZV) (h : PH), zev kX4_readSpot 102 L (zvi x :: zvi j :: zvr (some q) :: st) h = if (ph_K h q).1 = 1 ∧ 0 ≤ j ∧ j < (ph_K h q).2 then zev kX4_readSpot 103 L st (st_I h q j x) else none) ∧
  (∀ (L st : List ZV) (h : PH), zev kX4_readSpot 103 L st h = zev kX4_readSpot 104 L (zvi 1 :: st) h) ∧
  (∀ (a : Int) (L : List ZV) (h : PH), zev kX4_readSpot 104 L [zvi a] h = if a = 0 ∨ a = 1 then zrv (zvi a) h else none) :=
  ⟨fun a L st h => e_ld0R (n := 1) rfl,
  fun q L st h => e_getR (kd := 18) (k := 7) (n := 4) rfl,
  fun L st h => e_push (v := zvi 1) (n := 5) rfl,
  fun j q L st h => e_ald (kd := 1) (n := 6) rfl,
  fun x0 x1 a L st h hx => e_st1I (n := 7) rfl hx,
  fun a L st h => e_ld0R (n := 8) rfl,
  fun x0 a L st h => e_ld1I (n := 9) rfl,
  fun L st h => e_push (v := zvi 10) (n := 11) rfl,
  fun a b L st h => e_cmpge (t := 18) (n := 14) rfl,
  fun L st h => e_push (v := zvi 1) (n := 15) rfl,
  fun L st h => e_goto (t := 19) rfl,
  fun L st h => e_push (v := zvi 0) (n := 19) rfl,
  fun v0 q L st h => e_callV2 (F := mX4_begins) (kd := 18) (n := 22) rfl,
  fun a L st h => e_ifeq (t := 52) (n := 25) rfl,
  fun a L st h => e_ld0R (n := 26) rfl,
  fun a L st h => e_ld0R (n := 27) rfl,
  fun q L st h => e_getR (kd := 18) (k := 20) (n := 30) rfl,
  fun x0 a L st h => e_ld1I (n := 31) rfl,
  fun v0 v1 q L st h => e_callV3 (F := mX4_takesNew) (kd := 18) (n := 34) rfl,
  fun a L st h => e_ifeq (t := 52) (n := 37) rfl,
  fun a L st h => e_ld0R (n := 38) rfl,
  fun L st h => e_push (v := zvr (some 1000000015)) (n := 40) rfl,
  fun L st h => e_push (v := zvi 5) (n := 41) rfl,
  fun x0 a L st h => e_ld1I (n := 42) rfl,
  fun a b L st h => e_bin (f := (fun a b => w32 (a + b))) (n := 43) rfl,
  fun L st h => e_push (v := zvi 0) (n := 44) rfl,
  fun L st h => e_push (v := zvi 99) (n := 46) rfl,
  fun v0 v1 v2 v3 q L st h => e_callV5 (F := mX4_after) (kd := 18) (n := 49) rfl,
  fun a L st h => e_ifne (t := 54) (n := 52) rfl,
  fun L st h => e_push (v := zvi 0) (n := 53) rfl,
  fun a L h => e_retz rfl,
  fun a L st h => e_ld0R (n := 55) rfl,
  fun q L st h => e_getR (kd := 18) (k := 7) (n := 58) rfl,
  fun L st h => e_push (v := zvi 15) (n := 60) rfl,
  fun x0 a L st h => e_ld1I (n := 61) rfl,
  fun a b L st h => e_bin (f := (fun a b => w32 (a + b))) (n := 62) rfl,
  fun L st h => e_push (v := zvi (-2)) (n := 64) rfl,
  fun x j q L st h => e_ast (n := 65) rfl,
  fun a L st h => e_ld0R (n := 66) rfl,
  fun L st h => e_push (v := zvr (some 1000000016)) (n := 68) rfl,
  fun v0 q L st h => e_callV2 (F := mX4_isWord) (kd := 18) (n := 71) rfl,
  fun a L st h => e_ifeq (t := 93) (n := 74) rfl,
  fun a L st h => e_ld0R (n := 75) rfl,
  fun L st h => e_push (v := zvr (some 1000000016)) (n := 77) rfl,
  fun L st h => e_push (v := zvi 15) (n := 79) rfl,
  fun x0 a L st h => e_ld1I (n := 80) rfl,
  fun a b L st h => e_bin (f := (fun a b => w32 (a + b))) (n := 81) rfl,
  fun L st h => e_push (v := zvi 0) (n := 82) rfl,
  fun L st h => e_push (v := zvi 999) (n := 85) rfl,
  fun v0 v1 v2 v3 q L st h => e_callV5 (F := mX4_after) (kd := 18) (n := 88) rfl,
  fun a L st h => e_ifne (t := 93) (n := 91) rfl,
  fun L st h => e_push (v := zvi 0) (n := 92) rfl,
  fun a L h => e_retz rfl,
  fun a L st h => e_ld0R (n := 94) rfl,
  fun q L st h => e_getR (kd := 18) (k := 7) (n := 97) rfl,
  fun L st h => e_push (v := zvi 1) (n := 98) rfl,
  fun a b L st h => e_dup2II (n := 99) rfl,
  fun a b L st h => e_dup2IR (n := 99) rfl,
  fun a b L st h => e_dup2RI (n := 99) rfl,
  fun a b L st h => e_dup2RR (n := 99) rfl,
  fun j q L st h => e_ald (kd := 1) (n := 100) rfl,
  fun L st h => e_push (v := zvi 1) (n := 101) rfl,
  fun a b L st h => e_bin (f := (fun a b => w32 (a + b))) (n := 102) rfl,
  fun x j q L st h => e_ast (n := 103) rfl,
  fun L st h => e_push (v := zvi 1) (n := 104) rfl,
  fun a L h => e_retz rfl⟩
theorem allX4_readSpot : zall yX4_readSpot cX4_readSpot 2 (some .boolean) 9 kX4_readSpot.1 :=
  ⟨k_aload_n dX4_readSpot_0,
  k_getR (C := RX4) (T := TX4) (N := 42) (ci := 2) (k := 7) (ref := "LinkTimesModel") dX4_readSpot_1 rfl in_X4 (by decide) q1806 (Or.inl rfl) (fun _ _ _ => rfl),
  k_iconst dX4_readSpot_4,
  k_iald dX4_readSpot_5,
  k_istore_n dX4_readSpot_6,
  k_aload_n dX4_readSpot_7,
  k_iload_n dX4_readSpot_8,
  k_bipush dX4_readSpot_9,
  k_cmpge (t := 18) dX4_readSpot_11 (by decide),
  k_iconst dX4_readSpot_14,
  k_goto (t := 19) dX4_readSpot_15 (by decide),
  k_iconst dX4_readSpot_18,
  k_callV (y2 := yX4_begins) (C := RX4) (T0 := TX4) (ci := 2) dX4_readSpot_19 sndX4_begins rfl q1995 q1997 qs81 q137 q1998 (by decide +kernel) ⟨by decide, by decide⟩ (by decide) (by decide),
  k_ifeq (t := 52) dX4_readSpot_22 (by decide),
  k_aload_n dX4_readSpot_25,
  k_aload_n dX4_readSpot_26,
  k_getR (C := RX4) (T := TX4) (N := 42) (ci := 2) (k := 20) (ref := "LinkTimesModel") dX4_readSpot_27 rfl in_X4 (by decide) q1819 (Or.inl rfl) (fun _ _ _ => rfl),
  k_iload_n dX4_readSpot_30,
  k_callV (y2 := yX4_takesNew) (C := RX4) (T0 := TX4) (ci := 2) dX4_readSpot_31 sndX4_takesNew rfl q1999 q2001 qs82 q137 q2002 (by decide +kernel) ⟨by decide, by decide⟩ (by decide) (by decide),
  k_ifeq (t := 52) dX4_readSpot_34 (by decide),
  k_aload_n dX4_readSpot_37,
  k_ldcS (tx := "change") (i := 5) dX4_readSpot_38 (by decide +kernel) (by decide),
  k_iconst dX4_readSpot_40,
  k_iload_n dX4_readSpot_41,
  k_iadd dX4_readSpot_42,
  k_iconst dX4_readSpot_43,
  k_bipush dX4_readSpot_44,
  k_callV (y2 := yX4_after) (C := RX4) (T0 := TX4) (ci := 2) dX4_readSpot_46 sndX4_after rfl q1982 q1984 qs78 q137 q1985 (by decide +kernel) ⟨by decide, by decide⟩ (by decide) (by decide),
  k_ifne (t := 54) dX4_readSpot_49 (by decide),
  k_iconst dX4_readSpot_52,
  k_zret dX4_readSpot_53,
  k_aload_n dX4_readSpot_54,
  k_getR (C := RX4) (T := TX4) (N := 42) (ci := 2) (k := 7) (ref := "LinkTimesModel") dX4_readSpot_55 rfl in_X4 (by decide) q1806 (Or.inl rfl) (fun _ _ _ => rfl),
  k_bipush dX4_readSpot_58,
  k_iload_n dX4_readSpot_60,
  k_iadd dX4_readSpot_61,
  k_bipush dX4_readSpot_62,
  k_iast dX4_readSpot_64,
  k_aload_n dX4_readSpot_65,
  k_ldcS (tx := "wait") (i := 6) dX4_readSpot_66 (by decide +kernel) (by decide),
  k_callV (y2 := yX4_isWord) (C := RX4) (T0 := TX4) (ci := 2) dX4_readSpot_68 sndX4_isWord rfl q1967 q1969 qs75 q137 q1970 (by decide +kernel) ⟨by decide, by decide⟩ (by decide) (by decide),
  k_ifeq (t := 93) dX4_readSpot_71 (by decide),
  k_aload_n dX4_readSpot_74,
  k_ldcS (tx := "wait") (i := 6) dX4_readSpot_75 (by decide +kernel) (by decide),
  k_bipush dX4_readSpot_77,
  k_iload_n dX4_readSpot_79,
  k_iadd dX4_readSpot_80,
  k_iconst dX4_readSpot_81,
  k_sipush dX4_readSpot_82,
  k_callV (y2 := yX4_after) (C := RX4) (T0 := TX4) (ci := 2) dX4_readSpot_85 sndX4_after rfl q1982 q1984 qs78 q137 q1985 (by decide +kernel) ⟨by decide, by decide⟩ (by decide) (by decide),
  k_ifne (t := 93) dX4_readSpot_88 (by decide),
  k_iconst dX4_readSpot_91,
  k_zret dX4_readSpot_92,
  k_aload_n dX4_readSpot_93,
  k_getR (C := RX4) (T := TX4) (N := 42) (ci := 2) (k := 7) (ref := "LinkTimesModel") dX4_readSpot_94 rfl in_X4 (by decide) q1806 (Or.inl rfl) (fun _ _ _ => rfl),
  k_iconst dX4_readSpot_97,
  k_dup2 dX4_readSpot_98,
  k_iald dX4_readSpot_99,
  k_iconst dX4_readSpot_100,
  k_iadd dX4_readSpot_101,
  k_iast dX4_readSpot_102,
  k_iconst dX4_readSpot_103,
  k_zret dX4_readSpot_104, trivial⟩
theorem sndX4_readSpot : MSound 9 yX4_readSpot (ws_ yX4_readSpot cX4_readSpot 2 (some .boolean)) mX4_readSpot := msound_M (by decide) allX4_readSpot (fun _ _ => rfl)
/-! LinkTimesModel.readOneLine()Z -/
noncomputable def kX4_readOneLine : ZM := ([(0, zi_ld 1 0 1), (1, zi_ld 1 0 2), (2, zi_getR 18 7 5), (5, zi_push (zvi 2) 6), (6, zi_ald 1 7), (7, zi_push (zvi 8) 9), (9, zi_cmp zc_ge 16 12), (12, zi_push (zvi 1) 13), (13, zi_goto 17), (16, zi_push (zvi 0) 17), (17, zi_callV mX4_begins 18 2 20), (20, zi_if (fun a => zc_eq a 0) 40 23), (23, zi_ld 1 0 24), (24, zi_ld 1 0 25), (25, zi_getR 18 21 28), (28, zi_ld 1 0 29), (29, zi_getR 18 7 32), (32, zi_push (zvi 2) 33), (33, zi_ald 1 34), (34, zi_callV mX4_takesNew 18 3 37), (37, zi_if (fun a => zc_ne a 0) 42 40), (40, zi_push (zvi 0) 41), (41, zi_retz), (42, zi_ld 1 0 43), (43, zi_getR 18 7 46), (46, zi_push (zvi 2) 47), (47, zi_dup2 48), (48, zi_ald 1 49), (49, zi_push (zvi 1) 50), (50, zi_bin (fun a b => w32 (a + b)) 51), (51, zi_ast 52), (52, zi_push (zvi 1) 53), (53, zi_retz)], fun _ _ => none)
noncomputable def mX4_readOneLine : ZF := zrunM kX4_readOneLine 1
theorem enX4_readOneLine (x0 : Option Nat) (h : PH) : mX4_readOneLine [zvr x0] h = zev kX4_readOneLine 0 [zvr x0] [] h := zrunM_eq rfl rfl
theorem rX4_readOneLine : (∀ (a : Option Nat) (L st : List ZV) (h : PH), zev kX4_readOneLine 0 (zvr a :: L) st h = zev kX4_readOneLine 1 (zvr a :: L) (zvr a :: st) h) ∧
  (∀ (a : Option Nat) (L st : List ZV) (h : PH), zev kX4_readOneLine 1 (zvr a :: L) st h = zev kX4_readOneLine 2 (zvr a :: L) (zvr a :: st) h) ∧
  (∀ (q : Nat) (L st : List ZV) (h : PH), zev kX4_readOneLine 2 L (zvr (some q) :: st) h = if (ph_K h q).1 % 1000 = 18 then zev kX4_readOneLine 5 L (zvr (ph_R h q 7) :: st) h else none) ∧
  (∀ (L st : List ZV) (h : PH), zev kX4_readOneLine 5 L st h = zev kX4_readOneLine 6 L (zvi 2 :: st) h) ∧
  (∀ (j : Int) (q : Nat) (L st : List ZV) (h : PH), zev kX4_readOneLine 6 L (zvi j :: zvr (some q) :: st) h = if (ph_K h q).1 % 1000 = 1 ∧ 0 ≤ j ∧ j < (ph_K h q).2 then zev kX4_readOneLine 7 L (zvi (ph_I h q j) :: st) h else none) ∧
  (∀ (L st : List ZV) (h : PH), zev kX4_readOneLine 7 L st h = zev kX4_readOneLine 9 L (zvi 8 :: st) h) ∧
  (∀ (a b : Int) (L st : List ZV) (h : PH), zev kX4_readOneLine 9 L (zvi b :: zvi a :: st) h = if a ≥ b then zev kX4_readOneLine 16 L st h else zev kX4_readOneLine 12 L st h) ∧
  (∀ (L st : List ZV) (h : PH), zev kX4_readOneLine 12 L st h = zev kX4_readOneLine 13 L (zvi 1 :: st) h) ∧
  (∀ (L st : List ZV) (h : PH), zev kX4_readOneLine 13 L st h = zev kX4_readOneLine 17 L st h) ∧
  (∀ (L st : List ZV) (h : PH), zev kX4_readOneLine 16 L st h = zev kX4_readOneLine 17 L (zvi 0 :: st) h) ∧
  (∀ (v0 : ZV) (q : Nat) (L st : List ZV) (h : PH), zev kX4_readOneLine 17 L (v0 :: zvr (some q) :: st) h = if (ph_K h q).1 % 1000 = 18 ∧ zcat st ≤ 8 then zk kX4_readOneLine 17 20 L st (mX4_begins [zvr (some q), v0] h) else none) ∧
  (∀ (a : Int) (L st : List ZV) (h : PH), zev kX4_readOneLine 20 L (zvi a :: st) h = if a = 0 then zev kX4_readOneLine 40 L st h else zev kX4_readOneLine 23 L st h) ∧
  (∀ (a : Option Nat) (L st : List ZV) (h : PH), zev kX4_readOneLine 23 (zvr a :: L) st h = zev kX4_readOneLine 24 (zvr a :: L) (zvr a :: st) h) ∧
  (∀ (a : Option Nat) (L st : List ZV) (h : PH), zev kX4_readOneLine 24 (zvr a :: L) st h = zev kX4_readOneLine 25 (zvr a :: L) (zvr a :: st) h) ∧
  (∀ (q : Nat) (L st : List ZV) (h : PH), zev kX4_readOneLine 25 L (zvr (some q) :: st) h = if (ph_K h q).1 % 1000 = 18 then zev kX4_readOneLine 28 L (zvr (ph_R h q 21) :: st) h else none) ∧
  (∀ (a : Option Nat) (L st : List ZV) (h : PH), zev kX4_readOneLine 28 (zvr a :: L) st h = zev kX4_readOneLine 29 (zvr a :: L) (zvr a :: st) h) ∧
  (∀ (q : Nat) (L st : List ZV) (h : PH), zev kX4_readOneLine 29 L (zvr (some q) :: st) h = if (ph_K h q).1 % 1000 = 18 then zev kX4_readOneLine 32 L (zvr (ph_R h q 7) :: st) h else none) ∧
  (∀ (L st : List ZV) (h : PH), zev kX4_readOneLine 32 L st h = zev kX4_readOneLine 33 L (zvi 2 :: st) h) ∧
  (∀ (j : Int) (q : Nat) (L st : List ZV) (h : PH), zev kX4_readOneLine 33 L (zvi j :: zvr (some q) :: st) h = if (ph_K h q).1 % 1000 = 1 ∧ 0 ≤ j ∧ j < (ph_K h q).2 then zev kX4_readOneLine 34 L (zvi (ph_I h q j) :: st) h else none) ∧
  (∀ (v0 v1 : ZV) (q : Nat) (L st : List ZV) (h : PH), zev kX4_readOneLine 34 L (v1 :: v0 :: zvr (some q) :: st) h = if (ph_K h q).1 % 1000 = 18 ∧ zcat st ≤ 8 then zk kX4_readOneLine 34 37 L st (mX4_takesNew [zvr (some q), v0, v1] h) else none) ∧
  (∀ (a : Int) (L st : List ZV) (h : PH), zev kX4_readOneLine 37 L (zvi a :: st) h = if a ≠ 0 then zev kX4_readOneLine 42 L st h else zev kX4_readOneLine 40 L st h) ∧
  (∀ (L st : List ZV) (h : PH), zev kX4_readOneLine 40 L st h = zev kX4_readOneLine 41 L (zvi 0 :: st) h) ∧
  (∀ (a : Int) (L : List ZV) (h : PH), zev kX4_readOneLine 41 L [zvi a] h = if a = 0 ∨ a = 1 then zrv (zvi a) h else none) ∧
  (∀ (a : Option Nat) (L st : List ZV) (h : PH), zev kX4_readOneLine 42 (zvr a :: L) st h = zev kX4_readOneLine 43 (zvr a :: L) (zvr a :: st) h) ∧
  (∀ (q : Nat) (L st : List ZV) (h : PH), zev kX4_readOneLine 43 L (zvr (some q) :: st) h = if (ph_K h q).1 % 1000 = 18 then zev kX4_readOneLine 46 L (zvr (ph_R h q 7) :: st) h else none) ∧
  (∀ (L st : List ZV) (h : PH), zev kX4_readOneLine 46 L st h = zev kX4_readOneLine 47 L (zvi 2 :: st) h) ∧
  (∀ (a : Int) (b : Int) (L st : List ZV) (h : PH), zev kX4_readOneLine 47 L (zvi a :: zvi b :: st) h = zev kX4_readOneLine 48 L (zvi a :: zvi b :: zvi a :: zvi b :: st) h) ∧
  (∀ (a : Int) (b : Option Nat) (L st : List ZV) (h : PH), zev kX4_readOneLine 47 L (zvi a :: zvr b :: st) h = zev kX4_readOneLine 48 L (zvi a :: zvr b :: zvi a :: zvr b :: st) h) ∧
  (∀ (a : Option Nat) (b : Int) (L st : List ZV) (h : PH), zev kX4_readOneLine 47 L (zvr a :: zvi b :: st) h = zev kX4_readOneLine 48 L (zvr a :: zvi b :: zvr a :: zvi b :: st) h) ∧
  (∀ (a : Option Nat) (b : Option Nat) (L st : List ZV) (h : PH), zev kX4_readOneLine 47 L (zvr a :: zvr b :: st) h = zev kX4_readOneLine 48 L (zvr a :: zvr b :: zvr a :: zvr b :: st) h) ∧
  (∀ (j : Int) (q : Nat) (L st : List ZV) (h : PH), zev kX4_readOneLine 48 L (zvi j :: zvr (some q) :: st) h = if (ph_K h q).1 % 1000 = 1 ∧ 0 ≤ j ∧ j < (ph_K h q).2 then zev kX4_readOneLine 49 L (zvi (ph_I h q j) :: st) h else none) ∧
  (∀ (L st : List ZV) (h : PH), zev kX4_readOneLine 49 L st h = zev kX4_readOneLine 50 L (zvi 1 :: st) h) ∧
  (∀ (a b : Int) (L st : List ZV) (h : PH), zev kX4_readOneLine 50 L (zvi b :: zvi a :: st) h = zev kX4_readOneLine 51 L (zvi (w32 (a + b)) :: st) h) ∧
  (∀ (x j : Int) (q : Nat) (L st : List ZV) (h : PH), zev kX4_readOneLine 51 L (zvi x :: zvi j :: zvr (some q) :: st) h = if (ph_K h q).1 = 1 ∧ 0 ≤ j ∧ j < (ph_K h q).2 then zev kX4_readOneLine 52 L st (st_I h q j x) else none) ∧
  (∀ (L st : List ZV) (h : PH), zev kX4_readOneLine 52 L st h = zev kX4_readOneLine 53 L (zvi 1 :: st) h) ∧
  (∀ (a : Int) (L : List ZV) (h : PH), zev kX4_readOneLine 53 L [zvi a] h = if a = 0 ∨ a = 1 then zrv (zvi a) h else none) :=
  ⟨fun a L st h => e_ld0R (n := 1) rfl,
  fun a L st h => e_ld0R (n := 2) rfl,
  fun q L st h => e_getR (kd := 18) (k := 7) (n := 5) rfl,
  fun L st h => e_push (v := zvi 2) (n := 6) rfl,
  fun j q L st h => e_ald (kd := 1) (n := 7) rfl,
  fun L st h => e_push (v := zvi 8) (n := 9) rfl,
  fun a b L st h => e_cmpge (t := 16) (n := 12) rfl,
  fun L st h => e_push (v := zvi 1) (n := 13) rfl,
  fun L st h => e_goto (t := 17) rfl,
  fun L st h => e_push (v := zvi 0) (n := 17) rfl,
  fun v0 q L st h => e_callV2 (F := mX4_begins) (kd := 18) (n := 20) rfl,
  fun a L st h => e_ifeq (t := 40) (n := 23) rfl,
  fun a L st h => e_ld0R (n := 24) rfl,
  fun a L st h => e_ld0R (n := 25) rfl,
  fun q L st h => e_getR (kd := 18) (k := 21) (n := 28) rfl,
  fun a L st h => e_ld0R (n := 29) rfl,
  fun q L st h => e_getR (kd := 18) (k := 7) (n := 32) rfl,
  fun L st h => e_push (v := zvi 2) (n := 33) rfl,
  fun j q L st h => e_ald (kd := 1) (n := 34) rfl,
  fun v0 v1 q L st h => e_callV3 (F := mX4_takesNew) (kd := 18) (n := 37) rfl,
  fun a L st h => e_ifne (t := 42) (n := 40) rfl,
  fun L st h => e_push (v := zvi 0) (n := 41) rfl,
  fun a L h => e_retz rfl,
  fun a L st h => e_ld0R (n := 43) rfl,
  fun q L st h => e_getR (kd := 18) (k := 7) (n := 46) rfl,
  fun L st h => e_push (v := zvi 2) (n := 47) rfl,
  fun a b L st h => e_dup2II (n := 48) rfl,
  fun a b L st h => e_dup2IR (n := 48) rfl,
  fun a b L st h => e_dup2RI (n := 48) rfl,
  fun a b L st h => e_dup2RR (n := 48) rfl,
  fun j q L st h => e_ald (kd := 1) (n := 49) rfl,
  fun L st h => e_push (v := zvi 1) (n := 50) rfl,
  fun a b L st h => e_bin (f := (fun a b => w32 (a + b))) (n := 51) rfl,
  fun x j q L st h => e_ast (n := 52) rfl,
  fun L st h => e_push (v := zvi 1) (n := 53) rfl,
  fun a L h => e_retz rfl⟩
theorem allX4_readOneLine : zall yX4_readOneLine cX4_readOneLine 1 (some .boolean) 9 kX4_readOneLine.1 :=
  ⟨k_aload_n dX4_readOneLine_0,
  k_aload_n dX4_readOneLine_1,
  k_getR (C := RX4) (T := TX4) (N := 42) (ci := 2) (k := 7) (ref := "LinkTimesModel") dX4_readOneLine_2 rfl in_X4 (by decide) q1806 (Or.inl rfl) (fun _ _ _ => rfl),
  k_iconst dX4_readOneLine_5,
  k_iald dX4_readOneLine_6,
  k_bipush dX4_readOneLine_7,
  k_cmpge (t := 16) dX4_readOneLine_9 (by decide),
  k_iconst dX4_readOneLine_12,
  k_goto (t := 17) dX4_readOneLine_13 (by decide),
  k_iconst dX4_readOneLine_16,
  k_callV (y2 := yX4_begins) (C := RX4) (T0 := TX4) (ci := 2) dX4_readOneLine_17 sndX4_begins rfl q1995 q1997 qs81 q137 q1998 (by decide +kernel) ⟨by decide, by decide⟩ (by decide) (by decide),
  k_ifeq (t := 40) dX4_readOneLine_20 (by decide),
  k_aload_n dX4_readOneLine_23,
  k_aload_n dX4_readOneLine_24,
  k_getR (C := RX4) (T := TX4) (N := 42) (ci := 2) (k := 21) (ref := "LinkTimesModel") dX4_readOneLine_25 rfl in_X4 (by decide) q1820 (Or.inl rfl) (fun _ _ _ => rfl),
  k_aload_n dX4_readOneLine_28,
  k_getR (C := RX4) (T := TX4) (N := 42) (ci := 2) (k := 7) (ref := "LinkTimesModel") dX4_readOneLine_29 rfl in_X4 (by decide) q1806 (Or.inl rfl) (fun _ _ _ => rfl),
  k_iconst dX4_readOneLine_32,
  k_iald dX4_readOneLine_33,
  k_callV (y2 := yX4_takesNew) (C := RX4) (T0 := TX4) (ci := 2) dX4_readOneLine_34 sndX4_takesNew rfl q1999 q2001 qs82 q137 q2002 (by decide +kernel) ⟨by decide, by decide⟩ (by decide) (by decide),
  k_ifne (t := 42) dX4_readOneLine_37 (by decide),
  k_iconst dX4_readOneLine_40,
  k_zret dX4_readOneLine_41,
  k_aload_n dX4_readOneLine_42,
  k_getR (C := RX4) (T := TX4) (N := 42) (ci := 2) (k := 7) (ref := "LinkTimesModel") dX4_readOneLine_43 rfl in_X4 (by decide) q1806 (Or.inl rfl) (fun _ _ _ => rfl),
  k_iconst dX4_readOneLine_46,
  k_dup2 dX4_readOneLine_47,
  k_iald dX4_readOneLine_48,
  k_iconst dX4_readOneLine_49,
  k_iadd dX4_readOneLine_50,
  k_iast dX4_readOneLine_51,
  k_iconst dX4_readOneLine_52,
  k_zret dX4_readOneLine_53, trivial⟩
theorem sndX4_readOneLine : MSound 9 yX4_readOneLine (ws_ yX4_readOneLine cX4_readOneLine 1 (some .boolean)) mX4_readOneLine := msound_M (by decide) allX4_readOneLine (fun _ _ => rfl)
/-! LinkTimesModel.namesLink([JII)Z -/
noncomputable def kX4_namesLink : ZM := ([(0, zi_ld 1 0 1), (1, zi_callV mX4_isName 18 1 4), (4, zi_if (fun a => zc_ne a 0) 9 7), (7, zi_push (zvi 0) 8), (8, zi_retz), (9, zi_ld 1 0 10), (10, zi_getR 18 22 13), (13, zi_ld 0 3 14), (14, zi_ld 1 1 15), (15, zi_ld 0 2 16), (16, zi_ld 1 0 17), (17, zi_callV mX4_spelt 18 1 20), (20, zi_callS mX4_placeOf 3 23), (23, zi_ast 24), (24, zi_ld 1 0 25), (25, zi_getR 18 22 28), (28, zi_ld 0 3 29), (29, zi_ald 1 30), (30, zi_push (zvi (-1)) 31), (31, zi_cmp zc_ne 42 34), (34, zi_ld 1 0 35), (35, zi_push (zvi 2) 36), (36, zi_callV mX4_errs 18 2 39), (39, zi_if (fun a => zc_eq a 0) 46 42), (42, zi_push (zvi 1) 43), (43, zi_goto 47), (46, zi_push (zvi 0) 47), (47, zi_retz)], fun _ _ => none)
noncomputable def mX4_namesLink : ZF := zrunM kX4_namesLink 4
theorem enX4_namesLink (x0 : Option Nat) (x1 : Option Nat) (x2 : Int) (x3 : Int) (h : PH) : mX4_namesLink [zvr x0, zvr x1, zvi x2, zvi x3] h = zev kX4_namesLink 0 [zvr x0, zvr x1, zvi x2, zvi x3] [] h := zrunM_eq rfl rfl
theorem rX4_namesLink : (∀ (a : Option Nat) (L st : List ZV) (h : PH), zev kX4_namesLink 0 (zvr a :: L) st h = zev kX4_namesLink 1 (zvr a :: L) (zvr a :: st) h) ∧
  (∀ (q : Nat) (L st : List ZV) (h : PH), zev kX4_namesLink 1 L (zvr (some q) :: st) h = if (ph_K h q).1 % 1000 = 18 ∧ zcat st ≤ 8 then zk kX4_namesLink 1 4 L st (mX4_isName [zvr (some q)] h) else none) ∧
  (∀ (a : Int) (L st : List ZV) (h : PH), zev kX4_namesLink 4 L (zvi a :: st) h = if a ≠ 0 then zev kX4_namesLink 9 L st h else zev kX4_namesLink 7 L st h) ∧
  (∀ (L st : List ZV) (h : PH), zev kX4_namesLink 7 L st h = zev kX4_namesLink 8 L (zvi 0 :: st) h) ∧
  (∀ (a : Int) (L : List ZV) (h : PH), zev kX4_namesLink 8 L [zvi a] h = if a = 0 ∨ a = 1 then zrv (zvi a) h else none) ∧
  (∀ (a : Option Nat) (L st : List ZV) (h : PH), zev kX4_namesLink 9 (zvr a :: L) st h = zev kX4_namesLink 10 (zvr a :: L) (zvr a :: st) h) ∧
  (∀ (q : Nat) (L st : List ZV) (h : PH), zev kX4_namesLink 10 L (zvr (some q) :: st) h = if (ph_K h q).1 % 1000 = 18 then zev kX4_namesLink 13 L (zvr (ph_R h q 22) :: st) h else none) ∧
  (∀ (x0 x1 x2 : ZV) (a : Int) (L st : List ZV) (h : PH), zev kX4_namesLink 13 (x0 :: x1 :: x2 :: zvi a :: L) st h = zev kX4_namesLink 14 (x0 :: x1 :: x2 :: zvi a :: L) (zvi a :: st) h) ∧
  (∀ (x0 : ZV) (a : Option Nat) (L st : List ZV) (h : PH), zev kX4_namesLink 14 (x0 :: zvr a :: L) st h = zev kX4_namesLink 15 (x0 :: zvr a :: L) (zvr a :: st) h) ∧
  (∀ (x0 x1 : ZV) (a : Int) (L st : List ZV) (h : PH), zev kX4_namesLink 15 (x0 :: x1 :: zvi a :: L) st h = zev kX4_namesLink 16 (x0 :: x1 :: zvi a :: L) (zvi a :: st) h) ∧
  (∀ (a : Option Nat) (L st : List ZV) (h : PH), zev kX4_namesLink 16 (zvr a :: L) st h = zev kX4_namesLink 17 (zvr a :: L) (zvr a :: st) h) ∧
  (∀ (q : Nat) (L st : List ZV) (h : PH), zev kX4_namesLink 17 L (zvr (some q) :: st) h = if (ph_K h q).1 % 1000 = 18 ∧ zcat st ≤ 8 then zk kX4_namesLink 17 20 L st (mX4_spelt [zvr (some q)] h) else none) ∧
  (∀ (v0 v1 v2 : ZV) (L st : List ZV) (h : PH), zev kX4_namesLink 20 L (v2 :: v1 :: v0 :: st) h = if zcat st ≤ 8 then zk kX4_namesLink 20 23 L st (mX4_placeOf [v0, v1, v2] h) else none) ∧
  (∀ (x j : Int) (q : Nat) (L st : List ZV) (h : PH), zev kX4_namesLink 23 L (zvi x :: zvi j :: zvr (some q) :: st) h = if (ph_K h q).1 = 1 ∧ 0 ≤ j ∧ j < (ph_K h q).2 then zev kX4_namesLink 24 L st (st_I h q j x) else none) ∧
  (∀ (a : Option Nat) (L st : List ZV) (h : PH), zev kX4_namesLink 24 (zvr a :: L) st h = zev kX4_namesLink 25 (zvr a :: L) (zvr a :: st) h) ∧
  (∀ (q : Nat) (L st : List ZV) (h : PH), zev kX4_namesLink 25 L (zvr (some q) :: st) h = if (ph_K h q).1 % 1000 = 18 then zev kX4_namesLink 28 L (zvr (ph_R h q 22) :: st) h else none) ∧
  (∀ (x0 x1 x2 : ZV) (a : Int) (L st : List ZV) (h : PH), zev kX4_namesLink 28 (x0 :: x1 :: x2 :: zvi a :: L) st h = zev kX4_namesLink 29 (x0 :: x1 :: x2 :: zvi a :: L) (zvi a :: st) h) ∧
  (∀ (j : Int) (q : Nat) (L st : List ZV) (h : PH), zev kX4_namesLink 29 L (zvi j :: zvr (some q) :: st) h = if (ph_K h q).1 % 1000 = 1 ∧ 0 ≤ j ∧ j < (ph_K h q).2 then zev kX4_namesLink 30 L (zvi (ph_I h q j) :: st) h else none) ∧
  (∀ (L st : List ZV) (h : PH), zev kX4_namesLink 30 L st h = zev kX4_namesLink 31 L (zvi (-1) :: st) h) ∧
  (∀ (a b : Int) (L st : List ZV) (h : PH), zev kX4_namesLink 31 L (zvi b :: zvi a :: st) h = if a ≠ b then zev kX4_namesLink 42 L st h else zev kX4_namesLink 34 L st h) ∧
  (∀ (a : Option Nat) (L st : List ZV) (h : PH), zev kX4_namesLink 34 (zvr a :: L) st h = zev kX4_namesLink 35 (zvr a :: L) (zvr a :: st) h) ∧
  (∀ (L st : List ZV) (h : PH), zev kX4_namesLink 35 L st h = zev kX4_namesLink 36 L (zvi 2 :: st) h) ∧
  (∀ (v0 : ZV) (q : Nat) (L st : List ZV) (h : PH), zev kX4_namesLink 36 L (v0 :: zvr (some q) :: st) h = if (ph_K h q).1 % 1000 = 18 ∧ zcat st ≤ 8 then zk kX4_namesLink 36 39 L st (mX4_errs [zvr (some q), v0] h) else none) ∧
  (∀ (a : Int) (L st : List ZV) (h : PH), zev kX4_namesLink 39 L (zvi a :: st) h = if a = 0 then zev kX4_namesLink 46 L st h else zev kX4_namesLink 42 L st h) ∧
  (∀ (L st : List ZV) (h : PH), zev kX4_namesLink 42 L st h = zev kX4_namesLink 43 L (zvi 1 :: st) h) ∧
  (∀ (L st : List ZV) (h : PH), zev kX4_namesLink 43 L st h = zev kX4_namesLink 47 L st h) ∧
  (∀ (L st : List ZV) (h : PH), zev kX4_namesLink 46 L st h = zev kX4_namesLink 47 L (zvi 0 :: st) h) ∧
  (∀ (a : Int) (L : List ZV) (h : PH), zev kX4_namesLink 47 L [zvi a] h = if a = 0 ∨ a = 1 then zrv (zvi a) h else none) :=
  ⟨fun a L st h => e_ld0R (n := 1) rfl,
  fun q L st h => e_callV1 (F := mX4_isName) (kd := 18) (n := 4) rfl,
  fun a L st h => e_ifne (t := 9) (n := 7) rfl,
  fun L st h => e_push (v := zvi 0) (n := 8) rfl,
  fun a L h => e_retz rfl,
  fun a L st h => e_ld0R (n := 10) rfl,
  fun q L st h => e_getR (kd := 18) (k := 22) (n := 13) rfl,
  fun x0 x1 x2 a L st h => e_ld3I (n := 14) rfl,
  fun x0 a L st h => e_ld1R (n := 15) rfl,
  fun x0 x1 a L st h => e_ld2I (n := 16) rfl,
  fun a L st h => e_ld0R (n := 17) rfl,
  fun q L st h => e_callV1 (F := mX4_spelt) (kd := 18) (n := 20) rfl,
  fun v0 v1 v2 L st h => e_callS3 (F := mX4_placeOf) (n := 23) rfl,
  fun x j q L st h => e_ast (n := 24) rfl,
  fun a L st h => e_ld0R (n := 25) rfl,
  fun q L st h => e_getR (kd := 18) (k := 22) (n := 28) rfl,
  fun x0 x1 x2 a L st h => e_ld3I (n := 29) rfl,
  fun j q L st h => e_ald (kd := 1) (n := 30) rfl,
  fun L st h => e_push (v := zvi (-1)) (n := 31) rfl,
  fun a b L st h => e_cmpne (t := 42) (n := 34) rfl,
  fun a L st h => e_ld0R (n := 35) rfl,
  fun L st h => e_push (v := zvi 2) (n := 36) rfl,
  fun v0 q L st h => e_callV2 (F := mX4_errs) (kd := 18) (n := 39) rfl,
  fun a L st h => e_ifeq (t := 46) (n := 42) rfl,
  fun L st h => e_push (v := zvi 1) (n := 43) rfl,
  fun L st h => e_goto (t := 47) rfl,
  fun L st h => e_push (v := zvi 0) (n := 47) rfl,
  fun a L h => e_retz rfl⟩
theorem allX4_namesLink : zall yX4_namesLink cX4_namesLink 4 (some .boolean) 8 kX4_namesLink.1 :=
  ⟨k_aload_n dX4_namesLink_0,
  k_callV (y2 := yX4_isName) (C := RX4) (T0 := TX4) (ci := 2) dX4_namesLink_1 sndX4_isName rfl q2003 q2005 qs83 q137 q2006 (by decide +kernel) ⟨by decide, by decide⟩ (by decide) (by decide),
  k_ifne (t := 9) dX4_namesLink_4 (by decide),
  k_iconst dX4_namesLink_7,
  k_zret dX4_namesLink_8,
  k_aload_n dX4_namesLink_9,
  k_getR (C := RX4) (T := TX4) (N := 42) (ci := 2) (k := 22) (ref := "LinkTimesModel") dX4_namesLink_10 rfl in_X4 (by decide) q1821 (Or.inl rfl) (fun _ _ _ => rfl),
  k_iload_n dX4_namesLink_13,
  k_aload_n dX4_namesLink_14,
  k_iload_n dX4_namesLink_15,
  k_aload_n dX4_namesLink_16,
  k_callV (y2 := yX4_spelt) (C := RX4) (T0 := TX4) (ci := 2) dX4_namesLink_17 sndX4_spelt rfl q2009 q2011 qs84 q137 q2012 (by decide +kernel) ⟨by decide, by decide⟩ (by decide) (by decide),
  k_callS (y2 := yX4_placeOf) dX4_namesLink_20 sndX4_placeOf q2015 q2016 q137 q2017 (by decide +kernel) ⟨by decide, by decide⟩ (by decide) (by decide),
  k_iast dX4_namesLink_23,
  k_aload_n dX4_namesLink_24,
  k_getR (C := RX4) (T := TX4) (N := 42) (ci := 2) (k := 22) (ref := "LinkTimesModel") dX4_namesLink_25 rfl in_X4 (by decide) q1821 (Or.inl rfl) (fun _ _ _ => rfl),
  k_iload_n dX4_namesLink_28,
  k_iald dX4_namesLink_29,
  k_iconst dX4_namesLink_30,
  k_cmpne (t := 42) dX4_namesLink_31 (by decide),
  k_aload_n dX4_namesLink_34,
  k_iconst dX4_namesLink_35,
  k_callV (y2 := yX4_errs) (C := RX4) (T0 := TX4) (ci := 2) dX4_namesLink_36 sndX4_errs rfl q1977 q1979 qs77 q137 q1980 (by decide +kernel) ⟨by decide, by decide⟩ (by decide) (by decide),
  k_ifeq (t := 46) dX4_namesLink_39 (by decide),
  k_iconst dX4_namesLink_42,
  k_goto (t := 47) dX4_namesLink_43 (by decide),
  k_iconst dX4_namesLink_46,
  k_zret dX4_namesLink_47, trivial⟩
theorem sndX4_namesLink : MSound 8 yX4_namesLink (ws_ yX4_namesLink cX4_namesLink 4 (some .boolean)) mX4_namesLink := msound_M (by decide) allX4_namesLink (fun _ _ => rfl)
/-! LinkTimesModel.laysLink(III)Z -/
noncomputable def kX4_laysLink : ZM := ([(0, zi_ld 1 0 1), (1, zi_getI 18 15 4), (4, zi_push (zvi 3) 5), (5, zi_cmp zc_eq 14 8), (8, zi_ld 1 0 9), (9, zi_push (zvi 1) 10), (10, zi_callV mX4_errs 18 2 13), (13, zi_retz), (14, zi_ld 1 0 15), (15, zi_getI 18 16 18), (18, zi_ld 0 2 19), (19, zi_ld 0 3 20), (20, zi_callS mX4_in 3 23), (23, zi_if (fun a => zc_ne a 0) 32 26), (26, zi_ld 1 0 27), (27, zi_push (zvi 4) 28), (28, zi_callV mX4_errs 18 2 31), (31, zi_retz), (32, zi_ld 1 0 33), (33, zi_getR 18 22 36), (36, zi_ld 0 1 37), (37, zi_ld 1 0 38), (38, zi_getI 18 16 41), (41, zi_ast 42), (42, zi_push (zvi 1) 43), (43, zi_retz)], fun _ _ => none)
noncomputable def mX4_laysLink : ZF := zrunM kX4_laysLink 4
theorem enX4_laysLink (x0 : Option Nat) (x1 : Int) (x2 : Int) (x3 : Int) (h : PH) : mX4_laysLink [zvr x0, zvi x1, zvi x2, zvi x3] h = zev kX4_laysLink 0 [zvr x0, zvi x1, zvi x2, zvi x3] [] h := zrunM_eq rfl rfl
theorem rX4_laysLink : (∀ (a : Option Nat) (L st : List ZV) (h : PH), zev kX4_laysLink 0 (zvr a :: L) st h = zev kX4_laysLink 1 (zvr a :: L) (zvr a :: st) h) ∧
  (∀ (q : Nat) (L st : List ZV) (h : PH), zev kX4_laysLink 1 L (zvr (some q) :: st) h = if (ph_K h q).1 % 1000 = 18 then zev kX4_laysLink 4 L (zvi (ph_I h q 15) :: st) h else none) ∧
  (∀ (L st : List ZV) (h : PH), zev kX4_laysLink 4 L st h = zev kX4_laysLink 5 L (zvi 3 :: st) h) ∧
  (∀ (a b : Int) (L st : List ZV) (h : PH), zev kX4_laysLink 5 L (zvi b :: zvi a :: st) h = if a = b then zev kX4_laysLink 14 L st h else zev kX4_laysLink 8 L st h) ∧
  (∀ (a : Option Nat) (L st : List ZV) (h : PH), zev kX4_laysLink 8 (zvr a :: L) st h = zev kX4_laysLink 9 (zvr a :: L) (zvr a :: st) h) ∧
  (∀ (L st : List ZV) (h : PH), zev kX4_laysLink 9 L st h = zev kX4_laysLink 10 L (zvi 1 :: st) h) ∧
  (∀ (v0 : ZV) (q : Nat) (L st : List ZV) (h : PH), zev kX4_laysLink 10 L (v0 :: zvr (some q) :: st) h = if (ph_K h q).1 % 1000 = 18 ∧ zcat st ≤ 8 then zk kX4_laysLink 10 13 L st (mX4_errs [zvr (some q), v0] h) else none) ∧
  (∀ (a : Int) (L : List ZV) (h : PH), zev kX4_laysLink 13 L [zvi a] h = if a = 0 ∨ a = 1 then zrv (zvi a) h else none) ∧
  (∀ (a : Option Nat) (L st : List ZV) (h : PH), zev kX4_laysLink 14 (zvr a :: L) st h = zev kX4_laysLink 15 (zvr a :: L) (zvr a :: st) h) ∧
  (∀ (q : Nat) (L st : List ZV) (h : PH), zev kX4_laysLink 15 L (zvr (some q) :: st) h = if (ph_K h q).1 % 1000 = 18 then zev kX4_laysLink 18 L (zvi (ph_I h q 16) :: st) h else none) ∧
  (∀ (x0 x1 : ZV) (a : Int) (L st : List ZV) (h : PH), zev kX4_laysLink 18 (x0 :: x1 :: zvi a :: L) st h = zev kX4_laysLink 19 (x0 :: x1 :: zvi a :: L) (zvi a :: st) h) ∧
  (∀ (x0 x1 x2 : ZV) (a : Int) (L st : List ZV) (h : PH), zev kX4_laysLink 19 (x0 :: x1 :: x2 :: zvi a :: L) st h = zev kX4_laysLink 20 (x0 :: x1 :: x2 :: zvi a :: L) (zvi a :: st) h) ∧
  (∀ (v0 v1 v2 : ZV) (L st : List ZV) (h : PH), zev kX4_laysLink 20 L (v2 :: v1 :: v0 :: st) h = if zcat st ≤ 8 then zk kX4_laysLink 20 23 L st (mX4_in [v0, v1, v2] h) else none) ∧
  (∀ (a : Int) (L st : List ZV) (h : PH), zev kX4_laysLink 23 L (zvi a :: st) h = if a ≠ 0 then zev kX4_laysLink 32 L st h else zev kX4_laysLink 26 L st h) ∧
  (∀ (a : Option Nat) (L st : List ZV) (h : PH), zev kX4_laysLink 26 (zvr a :: L) st h = zev kX4_laysLink 27 (zvr a :: L) (zvr a :: st) h) ∧
  (∀ (L st : List ZV) (h : PH), zev kX4_laysLink 27 L st h = zev kX4_laysLink 28 L (zvi 4 :: st) h) ∧
  (∀ (v0 : ZV) (q : Nat) (L st : List ZV) (h : PH), zev kX4_laysLink 28 L (v0 :: zvr (some q) :: st) h = if (ph_K h q).1 % 1000 = 18 ∧ zcat st ≤ 8 then zk kX4_laysLink 28 31 L st (mX4_errs [zvr (some q), v0] h) else none) ∧
  (∀ (a : Int) (L : List ZV) (h : PH), zev kX4_laysLink 31 L [zvi a] h = if a = 0 ∨ a = 1 then zrv (zvi a) h else none) ∧
  (∀ (a : Option Nat) (L st : List ZV) (h : PH), zev kX4_laysLink 32 (zvr a :: L) st h = zev kX4_laysLink 33 (zvr a :: L) (zvr a :: st) h) ∧
  (∀ (q : Nat) (L st : List ZV) (h : PH), zev kX4_laysLink 33 L (zvr (some q) :: st) h = if (ph_K h q).1 % 1000 = 18 then zev kX4_laysLink 36 L (zvr (ph_R h q 22) :: st) h else none) ∧
  (∀ (x0 : ZV) (a : Int) (L st : List ZV) (h : PH), zev kX4_laysLink 36 (x0 :: zvi a :: L) st h = zev kX4_laysLink 37 (x0 :: zvi a :: L) (zvi a :: st) h) ∧
  (∀ (a : Option Nat) (L st : List ZV) (h : PH), zev kX4_laysLink 37 (zvr a :: L) st h = zev kX4_laysLink 38 (zvr a :: L) (zvr a :: st) h) ∧
  (∀ (q : Nat) (L st : List ZV) (h : PH), zev kX4_laysLink 38 L (zvr (some q) :: st) h = if (ph_K h q).1 % 1000 = 18 then zev kX4_laysLink 41 L (zvi (ph_I h q 16) :: st) h else none) ∧
  (∀ (x j : Int) (q : Nat) (L st : List ZV) (h : PH), zev kX4_laysLink 41 L (zvi x :: zvi j :: zvr (some q) :: st) h = if (ph_K h q).1 = 1 ∧ 0 ≤ j ∧ j < (ph_K h q).2 then zev kX4_laysLink 42 L st (st_I h q j x) else none) ∧
  (∀ (L st : List ZV) (h : PH), zev kX4_laysLink 42 L st h = zev kX4_laysLink 43 L (zvi 1 :: st) h) ∧
  (∀ (a : Int) (L : List ZV) (h : PH), zev kX4_laysLink 43 L [zvi a] h = if a = 0 ∨ a = 1 then zrv (zvi a) h else none) :=
  ⟨fun a L st h => e_ld0R (n := 1) rfl,
  fun q L st h => e_getI (kd := 18) (k := 15) (n := 4) rfl,
  fun L st h => e_push (v := zvi 3) (n := 5) rfl,
  fun a b L st h => e_cmpeq (t := 14) (n := 8) rfl,
  fun a L st h => e_ld0R (n := 9) rfl,
  fun L st h => e_push (v := zvi 1) (n := 10) rfl,
  fun v0 q L st h => e_callV2 (F := mX4_errs) (kd := 18) (n := 13) rfl,
  fun a L h => e_retz rfl,
  fun a L st h => e_ld0R (n := 15) rfl,
  fun q L st h => e_getI (kd := 18) (k := 16) (n := 18) rfl,
  fun x0 x1 a L st h => e_ld2I (n := 19) rfl,
  fun x0 x1 x2 a L st h => e_ld3I (n := 20) rfl,
  fun v0 v1 v2 L st h => e_callS3 (F := mX4_in) (n := 23) rfl,
  fun a L st h => e_ifne (t := 32) (n := 26) rfl,
  fun a L st h => e_ld0R (n := 27) rfl,
  fun L st h => e_push (v := zvi 4) (n := 28) rfl,
  fun v0 q L st h => e_callV2 (F := mX4_errs) (kd := 18) (n := 31) rfl,
  fun a L h => e_retz rfl,
  fun a L st h => e_ld0R (n := 33) rfl,
  fun q L st h => e_getR (kd := 18) (k := 22) (n := 36) rfl,
  fun x0 a L st h => e_ld1I (n := 37) rfl,
  fun a L st h => e_ld0R (n := 38) rfl,
  fun q L st h => e_getI (kd := 18) (k := 16) (n := 41) rfl,
  fun x j q L st h => e_ast (n := 42) rfl,
  fun L st h => e_push (v := zvi 1) (n := 43) rfl,
  fun a L h => e_retz rfl⟩
theorem allX4_laysLink : zall yX4_laysLink cX4_laysLink 4 (some .boolean) 2 kX4_laysLink.1 :=
  ⟨k_aload_n dX4_laysLink_0,
  k_getI (C := RX4) (T := TX4) (N := 42) (ci := 2) (k := 15) (ref := "LinkTimesModel") dX4_laysLink_1 rfl in_X4 (by decide) q1814 (Or.inl rfl) (fun _ _ _ => rfl),
  k_iconst dX4_laysLink_4,
  k_cmpeq (t := 14) dX4_laysLink_5 (by decide),
  k_aload_n dX4_laysLink_8,
  k_iconst dX4_laysLink_9,
  k_callV (y2 := yX4_errs) (C := RX4) (T0 := TX4) (ci := 2) dX4_laysLink_10 sndX4_errs rfl q1977 q1979 qs77 q137 q1980 (by decide +kernel) ⟨by decide, by decide⟩ (by decide) (by decide),
  k_zret dX4_laysLink_13,
  k_aload_n dX4_laysLink_14,
  k_getI (C := RX4) (T := TX4) (N := 42) (ci := 2) (k := 16) (ref := "LinkTimesModel") dX4_laysLink_15 rfl in_X4 (by decide) q1815 (Or.inl rfl) (fun _ _ _ => rfl),
  k_iload_n dX4_laysLink_18,
  k_iload_n dX4_laysLink_19,
  k_callS (y2 := yX4_in) dX4_laysLink_20 sndX4_in q1943 q1944 q137 q1945 (by decide +kernel) ⟨by decide, by decide⟩ (by decide) (by decide),
  k_ifne (t := 32) dX4_laysLink_23 (by decide),
  k_aload_n dX4_laysLink_26,
  k_iconst dX4_laysLink_27,
  k_callV (y2 := yX4_errs) (C := RX4) (T0 := TX4) (ci := 2) dX4_laysLink_28 sndX4_errs rfl q1977 q1979 qs77 q137 q1980 (by decide +kernel) ⟨by decide, by decide⟩ (by decide) (by decide),
  k_zret dX4_laysLink_31,
  k_aload_n dX4_laysLink_32,
  k_getR (C := RX4) (T := TX4) (N := 42) (ci := 2) (k := 22) (ref := "LinkTimesModel") dX4_laysLink_33 rfl in_X4 (by decide) q1821 (Or.inl rfl) (fun _ _ _ => rfl),
  k_iload_n dX4_laysLink_36,
  k_aload_n dX4_laysLink_37,
  k_getI (C := RX4) (T := TX4) (N := 42) (ci := 2) (k := 16) (ref := "LinkTimesModel") dX4_laysLink_38 rfl in_X4 (by decide) q1815 (Or.inl rfl) (fun _ _ _ => rfl),
  k_iast dX4_laysLink_41,
  k_iconst dX4_laysLink_42,
  k_zret dX4_laysLink_43, trivial⟩
theorem sndX4_laysLink : MSound 2 yX4_laysLink (ws_ yX4_laysLink cX4_laysLink 4 (some .boolean)) mX4_laysLink := msound_M (by decide) allX4_laysLink (fun _ _ => rfl)
/-! LinkTimesModel.afterLink(Ljava/lang/String;III)Z -/
noncomputable def kX4_afterLink : ZM := ([(0, zi_ld 1 0 1), (1, zi_ld 1 1 2), (2, zi_callV mX4_isWord 18 2 5), (5, zi_if (fun a => zc_ne a 0) 14 8), (8, zi_ld 1 0 9), (9, zi_push (zvi 1) 10), (10, zi_callV mX4_errs 18 2 13), (13, zi_retz), (14, zi_ld 1 0 15), (15, zi_callV mX4_goesOn 18 1 18), (18, zi_ld 1 0 19), (19, zi_ld 0 2 20), (20, zi_ld 0 3 21), (21, zi_ld 0 4 23), (23, zi_callV mX4_laysLink 18 4 26), (26, zi_retz)], fun _ _ => none)
noncomputable def mX4_afterLink : ZF := zrunM kX4_afterLink 5
theorem enX4_afterLink (x0 : Option Nat) (x1 : Option Nat) (x2 : Int) (x3 : Int) (x4 : Int) (h : PH) : mX4_afterLink [zvr x0, zvr x1, zvi x2, zvi x3, zvi x4] h = zev kX4_afterLink 0 [zvr x0, zvr x1, zvi x2, zvi x3, zvi x4] [] h := zrunM_eq rfl rfl
theorem rX4_afterLink : (∀ (a : Option Nat) (L st : List ZV) (h : PH), zev kX4_afterLink 0 (zvr a :: L) st h = zev kX4_afterLink 1 (zvr a :: L) (zvr a :: st) h) ∧
  (∀ (x0 : ZV) (a : Option Nat) (L st : List ZV) (h : PH), zev kX4_afterLink 1 (x0 :: zvr a :: L) st h = zev kX4_afterLink 2 (x0 :: zvr a :: L) (zvr a :: st) h) ∧
  (∀ (v0 : ZV) (q : Nat) (L st : List ZV) (h : PH), zev kX4_afterLink 2 L (v0 :: zvr (some q) :: st) h = if (ph_K h q).1 % 1000 = 18 ∧ zcat st ≤ 8 then zk kX4_afterLink 2 5 L st (mX4_isWord [zvr (some q), v0] h) else none) ∧
  (∀ (a : Int) (L st : List ZV) (h : PH), zev kX4_afterLink 5 L (zvi a :: st) h = if a ≠ 0 then zev kX4_afterLink 14 L st h else zev kX4_afterLink 8 L st h) ∧
  (∀ (a : Option Nat) (L st : List ZV) (h : PH), zev kX4_afterLink 8 (zvr a :: L) st h = zev kX4_afterLink 9 (zvr a :: L) (zvr a :: st) h) ∧
  (∀ (L st : List ZV) (h : PH), zev kX4_afterLink 9 L st h = zev kX4_afterLink 10 L (zvi 1 :: st) h) ∧
  (∀ (v0 : ZV) (q : Nat) (L st : List ZV) (h : PH), zev kX4_afterLink 10 L (v0 :: zvr (some q) :: st) h = if (ph_K h q).1 % 1000 = 18 ∧ zcat st ≤ 8 then zk kX4_afterLink 10 13 L st (mX4_errs [zvr (some q), v0] h) else none) ∧
  (∀ (a : Int) (L : List ZV) (h : PH), zev kX4_afterLink 13 L [zvi a] h = if a = 0 ∨ a = 1 then zrv (zvi a) h else none) ∧
  (∀ (a : Option Nat) (L st : List ZV) (h : PH), zev kX4_afterLink 14 (zvr a :: L) st h = zev kX4_afterLink 15 (zvr a :: L) (zvr a :: st) h) ∧
  (∀ (q : Nat) (L st : List ZV) (h : PH), zev kX4_afterLink 15 L (zvr (some q) :: st) h = if (ph_K h q).1 % 1000 = 18 ∧ zcat st ≤ 8 then zk kX4_afterLink 15 18 L st (mX4_goesOn [zvr (some q)] h) else none) ∧
  (∀ (a : Option Nat) (L st : List ZV) (h : PH), zev kX4_afterLink 18 (zvr a :: L) st h = zev kX4_afterLink 19 (zvr a :: L) (zvr a :: st) h) ∧
  (∀ (x0 x1 : ZV) (a : Int) (L st : List ZV) (h : PH), zev kX4_afterLink 19 (x0 :: x1 :: zvi a :: L) st h = zev kX4_afterLink 20 (x0 :: x1 :: zvi a :: L) (zvi a :: st) h) ∧
  (∀ (x0 x1 x2 : ZV) (a : Int) (L st : List ZV) (h : PH), zev kX4_afterLink 20 (x0 :: x1 :: x2 :: zvi a :: L) st h = zev kX4_afterLink 21 (x0 :: x1 :: x2 :: zvi a :: L) (zvi a :: st) h) ∧
  (∀ (x0 x1 x2 x3 : ZV) (a : Int) (L st : List ZV) (h : PH), zev kX4_afterLink 21 (x0 :: x1 :: x2 :: x3 :: zvi a :: L) st h = zev kX4_afterLink 23 (x0 :: x1 :: x2 :: x3 :: zvi a :: L) (zvi a :: st) h) ∧
  (∀ (v0 v1 v2 : ZV) (q : Nat) (L st : List ZV) (h : PH), zev kX4_afterLink 23 L (v2 :: v1 :: v0 :: zvr (some q) :: st) h = if (ph_K h q).1 % 1000 = 18 ∧ zcat st ≤ 8 then zk kX4_afterLink 23 26 L st (mX4_laysLink [zvr (some q), v0, v1, v2] h) else none) ∧
  (∀ (a : Int) (L : List ZV) (h : PH), zev kX4_afterLink 26 L [zvi a] h = if a = 0 ∨ a = 1 then zrv (zvi a) h else none) :=
  ⟨fun a L st h => e_ld0R (n := 1) rfl,
  fun x0 a L st h => e_ld1R (n := 2) rfl,
  fun v0 q L st h => e_callV2 (F := mX4_isWord) (kd := 18) (n := 5) rfl,
  fun a L st h => e_ifne (t := 14) (n := 8) rfl,
  fun a L st h => e_ld0R (n := 9) rfl,
  fun L st h => e_push (v := zvi 1) (n := 10) rfl,
  fun v0 q L st h => e_callV2 (F := mX4_errs) (kd := 18) (n := 13) rfl,
  fun a L h => e_retz rfl,
  fun a L st h => e_ld0R (n := 15) rfl,
  fun q L st h => e_callV1 (F := mX4_goesOn) (kd := 18) (n := 18) rfl,
  fun a L st h => e_ld0R (n := 19) rfl,
  fun x0 x1 a L st h => e_ld2I (n := 20) rfl,
  fun x0 x1 x2 a L st h => e_ld3I (n := 21) rfl,
  fun x0 x1 x2 x3 a L st h => e_ld4I (n := 23) rfl,
  fun v0 v1 v2 q L st h => e_callV4 (F := mX4_laysLink) (kd := 18) (n := 26) rfl,
  fun a L h => e_retz rfl⟩
theorem allX4_afterLink : zall yX4_afterLink cX4_afterLink 5 (some .boolean) 7 kX4_afterLink.1 :=
  ⟨k_aload_n dX4_afterLink_0,
  k_aload_n dX4_afterLink_1,
  k_callV (y2 := yX4_isWord) (C := RX4) (T0 := TX4) (ci := 2) dX4_afterLink_2 sndX4_isWord rfl q1967 q1969 qs75 q137 q1970 (by decide +kernel) ⟨by decide, by decide⟩ (by decide) (by decide),
  k_ifne (t := 14) dX4_afterLink_5 (by decide),
  k_aload_n dX4_afterLink_8,
  k_iconst dX4_afterLink_9,
  k_callV (y2 := yX4_errs) (C := RX4) (T0 := TX4) (ci := 2) dX4_afterLink_10 sndX4_errs rfl q1977 q1979 qs77 q137 q1980 (by decide +kernel) ⟨by decide, by decide⟩ (by decide) (by decide),
  k_zret dX4_afterLink_13,
  k_aload_n dX4_afterLink_14,
  k_callV (y2 := yX4_goesOn) (C := RX4) (T0 := TX4) (ci := 2) dX4_afterLink_15 sndX4_goesOn rfl q1954 q1956 qs72 q137 q1957 (by decide +kernel) ⟨by decide, by decide⟩ (by decide) (by decide),
  k_aload_n dX4_afterLink_18,
  k_iload_n dX4_afterLink_19,
  k_iload_n dX4_afterLink_20,
  k_iload dX4_afterLink_21,
  k_callV (y2 := yX4_laysLink) (C := RX4) (T0 := TX4) (ci := 2) dX4_afterLink_23 sndX4_laysLink rfl q2037 q2039 qs89 q137 q2040 (by decide +kernel) ⟨by decide, by decide⟩ (by decide) (by decide),
  k_zret dX4_afterLink_26, trivial⟩
theorem sndX4_afterLink : MSound 7 yX4_afterLink (ws_ yX4_afterLink cX4_afterLink 5 (some .boolean)) mX4_afterLink := msound_M (by decide) allX4_afterLink (fun _ _ => rfl)
/-! LinkTimesModel.at(II)I -/
noncomputable def kX4_at : ZM := ([(0, zi_push (zvi 25) 2), (2, zi_push (zvi 8) 4), (4, zi_ld 0 0 5), (5, zi_bin (fun a b => w32 (a * b)) 6), (6, zi_bin (fun a b => w32 (a + b)) 7), (7, zi_ld 0 1 8), (8, zi_bin (fun a b => w32 (a + b)) 9), (9, zi_retv 0)], fun _ _ => none)
noncomputable def mX4_at : ZF := zrunM kX4_at 2
theorem enX4_at (x0 : Int) (x1 : Int) (h : PH) : mX4_at [zvi x0, zvi x1] h = zev kX4_at 0 [zvi x0, zvi x1] [] h := zrunM_eq rfl rfl
theorem rX4_at : (∀ (L st : List ZV) (h : PH), zev kX4_at 0 L st h = zev kX4_at 2 L (zvi 25 :: st) h) ∧
  (∀ (L st : List ZV) (h : PH), zev kX4_at 2 L st h = zev kX4_at 4 L (zvi 8 :: st) h) ∧
  (∀ (a : Int) (L st : List ZV) (h : PH), zev kX4_at 4 (zvi a :: L) st h = zev kX4_at 5 (zvi a :: L) (zvi a :: st) h) ∧
  (∀ (a b : Int) (L st : List ZV) (h : PH), zev kX4_at 5 L (zvi b :: zvi a :: st) h = zev kX4_at 6 L (zvi (w32 (a * b)) :: st) h) ∧
  (∀ (a b : Int) (L st : List ZV) (h : PH), zev kX4_at 6 L (zvi b :: zvi a :: st) h = zev kX4_at 7 L (zvi (w32 (a + b)) :: st) h) ∧
  (∀ (x0 : ZV) (a : Int) (L st : List ZV) (h : PH), zev kX4_at 7 (x0 :: zvi a :: L) st h = zev kX4_at 8 (x0 :: zvi a :: L) (zvi a :: st) h) ∧
  (∀ (a b : Int) (L st : List ZV) (h : PH), zev kX4_at 8 L (zvi b :: zvi a :: st) h = zev kX4_at 9 L (zvi (w32 (a + b)) :: st) h) ∧
  (∀ (a : Int) (L : List ZV) (h : PH), zev kX4_at 9 L [zvi a] h = zrv (zvi a) h) :=
  ⟨fun L st h => e_push (v := zvi 25) (n := 2) rfl,
  fun L st h => e_push (v := zvi 8) (n := 4) rfl,
  fun a L st h => e_ld0I (n := 5) rfl,
  fun a b L st h => e_bin (f := (fun a b => w32 (a * b))) (n := 6) rfl,
  fun a b L st h => e_bin (f := (fun a b => w32 (a + b))) (n := 7) rfl,
  fun x0 a L st h => e_ld1I (n := 8) rfl,
  fun a b L st h => e_bin (f := (fun a b => w32 (a + b))) (n := 9) rfl,
  fun a L h => e_retI rfl⟩
theorem allX4_at : zall yX4_at cX4_at 2 (some .int) 1 kX4_at.1 :=
  ⟨k_bipush dX4_at_0,
  k_bipush dX4_at_2,
  k_iload_n dX4_at_4,
  k_imul dX4_at_5,
  k_iadd dX4_at_6,
  k_iload_n dX4_at_7,
  k_iadd dX4_at_8,
  k_iret dX4_at_9, trivial⟩
theorem sndX4_at : MSound 1 yX4_at (ws_ yX4_at cX4_at 2 (some .int)) mX4_at := msound_M (by decide) allX4_at (fun _ _ => rfl)
/-! LinkTimesModel.lays([IIIIIII)V -/
noncomputable def kX4_lays_2 : ZM := ([(0, zi_ld 1 0 1), (1, zi_push (zvi 4) 2), (2, zi_ald 1 3), (3, zi_st 0 7 5), (5, zi_ld 1 0 6), (6, zi_ld 0 7 8), (8, zi_push (zvi 0) 9), (9, zi_callS mX4_at 2 12), (12, zi_ld 0 1 13), (13, zi_ast 14), (14, zi_ld 1 0 15), (15, zi_ld 0 7 17), (17, zi_push (zvi 1) 18), (18, zi_callS mX4_at 2 21), (21, zi_ld 0 2 22), (22, zi_ast 23), (23, zi_ld 1 0 24), (24, zi_ld 0 7 26), (26, zi_push (zvi 2) 27), (27, zi_callS mX4_at 2 30), (30, zi_ld 0 3 31), (31, zi_ast 32), (32, zi_ld 1 0 33), (33, zi_ld 0 7 35), (35, zi_push (zvi 3) 36), (36, zi_callS mX4_at 2 39), (39, zi_ld 0 4 41), (41, zi_ast 42), (42, zi_ld 1 0 43), (43, zi_ld 0 7 45), (45, zi_push (zvi 4) 46), (46, zi_callS mX4_at 2 49), (49, zi_ld 0 5 51), (51, zi_ast 52), (52, zi_ld 1 0 53), (53, zi_ld 0 7 55), (55, zi_push (zvi 5) 56), (56, zi_callS mX4_at 2 59), (59, zi_push (zvi 0) 60), (60, zi_ast 61), (61, zi_ld 1 0 62), (62, zi_ld 0 7 64), (64, zi_push (zvi 6) 66), (66, zi_callS mX4_at 2 69), (69, zi_push (zvi 1) 70), (70, zi_ast 71), (71, zi_ld 1 0 72), (72, zi_ld 0 7 74), (74, zi_push (zvi 7) 76), (76, zi_callS mX4_at 2 79), (79, zi_ld 0 6 81), (81, zi_ast 82), (82, zi_ld 1 0 83), (83, zi_push (zvi 4) 84), (84, zi_dup2 85), (85, zi_ald 1 86), (86, zi_push (zvi 1) 87), (87, zi_bin (fun a b => w32 (a + b)) 88), (88, zi_ast 89), (89, zi_ret)], fun _ _ => none)
noncomputable def mX4_lays_2 : ZF := zrunM kX4_lays_2 8
theorem enX4_lays_2 (x0 : Option Nat) (x1 : Int) (x2 : Int) (x3 : Int) (x4 : Int) (x5 : Int) (x6 : Int) (h : PH) : mX4_lays_2 [zvr x0, zvi x1, zvi x2, zvi x3, zvi x4, zvi x5, zvi x6] h = zev kX4_lays_2 0 [zvr x0, zvi x1, zvi x2, zvi x3, zvi x4, zvi x5, zvi x6, zvu] [] h := zrunM_eq rfl rfl
theorem rX4_lays_2 : (∀ (a : Option Nat) (L st : List ZV) (h : PH), zev kX4_lays_2 0 (zvr a :: L) st h = zev kX4_lays_2 1 (zvr a :: L) (zvr a :: st) h) ∧
  (∀ (L st : List ZV) (h : PH), zev kX4_lays_2 1 L st h = zev kX4_lays_2 2 L (zvi 4 :: st) h) ∧
  (∀ (j : Int) (q : Nat) (L st : List ZV) (h : PH), zev kX4_lays_2 2 L (zvi j :: zvr (some q) :: st) h = if (ph_K h q).1 % 1000 = 1 ∧ 0 ≤ j ∧ j < (ph_K h q).2 then zev kX4_lays_2 3 L (zvi (ph_I h q j) :: st) h else none) ∧
  (∀ (x0 x1 x2 x3 x4 x5 x6 x7 : ZV) (a : Int) (L st : List ZV) (h : PH) (hx : zisL x6 = false) , zev kX4_lays_2 3 (x0 :: x1 :: x2 :: x3 :: x4 :: x5 :: x6 :: x7 :: L) (zvi a :: st) h = zev kX4_lays_2 5 (x0 :: x1 :: x2 :: x3 :: x4 :: x5 :: x6 :: zvi a :: L) st h) ∧
  (∀ (a : Option Nat) (L st : List ZV) (h : PH), zev kX4_lays_2 5 (zvr a :: L) st h = zev kX4_lays_2 6 (zvr a :: L) (zvr a :: st) h) ∧
  (∀ (x0 x1 x2 x3 x4 x5 x6 : ZV) (a : Int) (L st : List ZV) (h : PH), zev kX4_lays_2 6 (x0 :: x1 :: x2 :: x3 :: x4 :: x5 :: x6 :: zvi a :: L) st h = zev kX4_lays_2 8 (x0 :: x1 :: x2 :: x3 :: x4 :: x5 :: x6 :: zvi a :: L) (zvi a :: st) h) ∧
  (∀ (L st : List ZV) (h : PH), zev kX4_lays_2 8 L st h = zev kX4_lays_2 9 L (zvi 0 :: st) h) ∧
  (∀ (v0 v1 : ZV) (L st : List ZV) (h : PH), zev kX4_lays_2 9 L (v1 :: v0 :: st) h = if zcat st ≤ 8 then zk kX4_lays_2 9 12 L st (mX4_at [v0, v1] h) else none) ∧
  (∀ (x0 : ZV) (a : Int) (L st : List ZV) (h : PH), zev kX4_lays_2 12 (x0 :: zvi a :: L) st h = zev kX4_lays_2 13 (x0 :: zvi a :: L) (zvi a :: st) h) ∧
  (∀ (x j : Int) (q : Nat) (L st : List ZV) (h : PH), zev kX4_lays_2 13 L (zvi x :: zvi j :: zvr (some q) :: st) h = if (ph_K h q).1 = 1 ∧ 0 ≤ j ∧ j < (ph_K h q).2 then zev kX4_lays_2 14 L st (st_I h q j x) else none) ∧
  (∀ (a : Option Nat) (L st : List ZV) (h : PH), zev kX4_lays_2 14 (zvr a :: L) st h = zev kX4_lays_2 15 (zvr a :: L) (zvr a :: st) h) ∧
  (∀ (x0 x1 x2 x3 x4 x5 x6 : ZV) (a : Int) (L st : List ZV) (h : PH), zev kX4_lays_2 15 (x0 :: x1 :: x2 :: x3 :: x4 :: x5 :: x6 :: zvi a :: L) st h = zev kX4_lays_2 17 (x0 :: x1 :: x2 :: x3 :: x4 :: x5 :: x6 :: zvi a :: L) (zvi a :: st) h) ∧
  (∀ (L st : List ZV) (h : PH), zev kX4_lays_2 17 L st h = zev kX4_lays_2 18 L (zvi 1 :: st) h) ∧
  (∀ (v0 v1 : ZV) (L st : List ZV) (h : PH), zev kX4_lays_2 18 L (v1 :: v0 :: st) h = if zcat st ≤ 8 then zk kX4_lays_2 18 21 L st (mX4_at [v0, v1] h) else none) ∧
  (∀ (x0 x1 : ZV) (a : Int) (L st : List ZV) (h : PH), zev kX4_lays_2 21 (x0 :: x1 :: zvi a :: L) st h = zev kX4_lays_2 22 (x0 :: x1 :: zvi a :: L) (zvi a :: st) h) ∧
  (∀ (x j : Int) (q : Nat) (L st : List ZV) (h : PH), zev kX4_lays_2 22 L (zvi x :: zvi j :: zvr (some q) :: st) h = if (ph_K h q).1 = 1 ∧ 0 ≤ j ∧ j < (ph_K h q).2 then zev kX4_lays_2 23 L st (st_I h q j x) else none) ∧
  (∀ (a : Option Nat) (L st : List ZV) (h : PH), zev kX4_lays_2 23 (zvr a :: L) st h = zev kX4_lays_2 24 (zvr a :: L) (zvr a :: st) h) ∧
  (∀ (x0 x1 x2 x3 x4 x5 x6 : ZV) (a : Int) (L st : List ZV) (h : PH), zev kX4_lays_2 24 (x0 :: x1 :: x2 :: x3 :: x4 :: x5 :: x6 :: zvi a :: L) st h = zev kX4_lays_2 26 (x0 :: x1 :: x2 :: x3 :: x4 :: x5 :: x6 :: zvi a :: L) (zvi a :: st) h) ∧
  (∀ (L st : List ZV) (h : PH), zev kX4_lays_2 26 L st h = zev kX4_lays_2 27 L (zvi 2 :: st) h) ∧
  (∀ (v0 v1 : ZV) (L st : List ZV) (h : PH), zev kX4_lays_2 27 L (v1 :: v0 :: st) h = if zcat st ≤ 8 then zk kX4_lays_2 27 30 L st (mX4_at [v0, v1] h) else none) ∧
  (∀ (x0 x1 x2 : ZV) (a : Int) (L st : List ZV) (h : PH), zev kX4_lays_2 30 (x0 :: x1 :: x2 :: zvi a :: L) st h = zev kX4_lays_2 31 (x0 :: x1 :: x2 :: zvi a :: L) (zvi a :: st) h) ∧
  (∀ (x j : Int) (q : Nat) (L st : List ZV) (h : PH), zev kX4_lays_2 31 L (zvi x :: zvi j :: zvr (some q) :: st) h = if (ph_K h q).1 = 1 ∧ 0 ≤ j ∧ j < (ph_K h q).2 then zev kX4_lays_2 32 L st (st_I h q j x) else none) ∧
  (∀ (a : Option Nat) (L st : List ZV) (h : PH), zev kX4_lays_2 32 (zvr a :: L) st h = zev kX4_lays_2 33 (zvr a :: L) (zvr a :: st) h) ∧
  (∀ (x0 x1 x2 x3 x4 x5 x6 : ZV) (a : Int) (L st : List ZV) (h : PH), zev kX4_lays_2 33 (x0 :: x1 :: x2 :: x3 :: x4 :: x5 :: x6 :: zvi a :: L) st h = zev kX4_lays_2 35 (x0 :: x1 :: x2 :: x3 :: x4 :: x5 :: x6 :: zvi a :: L) (zvi a :: st) h) ∧
  (∀ (L st : List ZV) (h : PH), zev kX4_lays_2 35 L st h = zev kX4_lays_2 36 L (zvi 3 :: st) h) ∧
  (∀ (v0 v1 : ZV) (L st : List ZV) (h : PH), zev kX4_lays_2 36 L (v1 :: v0 :: st) h = if zcat st ≤ 8 then zk kX4_lays_2 36 39 L st (mX4_at [v0, v1] h) else none) ∧
  (∀ (x0 x1 x2 x3 : ZV) (a : Int) (L st : List ZV) (h : PH), zev kX4_lays_2 39 (x0 :: x1 :: x2 :: x3 :: zvi a :: L) st h = zev kX4_lays_2 41 (x0 :: x1 :: x2 :: x3 :: zvi a :: L) (zvi a :: st) h) ∧
  (∀ (x j : Int) (q : Nat) (L st : List ZV) (h : PH), zev kX4_lays_2 41 L (zvi x :: zvi j :: zvr (some q) :: st) h = if (ph_K h q).1 = 1 ∧ 0 ≤ j ∧ j < (ph_K h q).2 then zev kX4_lays_2 42 L st (st_I h q j x) else none) ∧
  (∀ (a : Option Nat) (L st : List ZV) (h : PH), zev kX4_lays_2 42 (zvr a :: L) st h = zev kX4_lays_2 43 (zvr a :: L) (zvr a :: st) h) ∧
  (∀ (x0 x1 x2 x3 x4 x5 x6 : ZV) (a : Int) (L st : List ZV) (h : PH), zev kX4_lays_2 43 (x0 :: x1 :: x2 :: x3 :: x4 :: x5 :: x6 :: zvi a :: L) st h = zev kX4_lays_2 45 (x0 :: x1 :: x2 :: x3 :: x4 :: x5 :: x6 :: zvi a :: L) (zvi a :: st) h) ∧
  (∀ (L st : List ZV) (h : PH), zev kX4_lays_2 45 L st h = zev kX4_lays_2 46 L (zvi 4 :: st) h) ∧
  (∀ (v0 v1 : ZV) (L st : List ZV) (h : PH), zev kX4_lays_2 46 L (v1 :: v0 :: st) h = if zcat st ≤ 8 then zk kX4_lays_2 46 49 L st (mX4_at [v0, v1] h) else none) ∧
  (∀ (x0 x1 x2 x3 x4 : ZV) (a : Int) (L st : List ZV) (h : PH), zev kX4_lays_2 49 (x0 :: x1 :: x2 :: x3 :: x4 :: zvi a :: L) st h = zev kX4_lays_2 51 (x0 :: x1 :: x2 :: x3 :: x4 :: zvi a :: L) (zvi a :: st) h) ∧
  (∀ (x j : Int) (q : Nat) (L st : List ZV) (h : PH), zev kX4_lays_2 51 L (zvi x :: zvi j :: zvr (some q) :: st) h = if (ph_K h q).1 = 1 ∧ 0 ≤ j ∧ j < (ph_K h q).2 then zev kX4_lays_2 52 L st (st_I h q j x) else none) ∧
  (∀ (a : Option Nat) (L st : List ZV) (h : PH), zev kX4_lays_2 52 (zvr a :: L) st h = zev kX4_lays_2 53 (zvr a :: L) (zvr a :: st) h) ∧
  (∀ (x0 x1 x2 x3 x4 x5 x6 : ZV) (a : Int) (L st : List ZV) (h : PH), zev kX4_lays_2 53 (x0 :: x1 :: x2 :: x3 :: x4 :: x5 :: x6 :: zvi a :: L) st h = zev kX4_lays_2 55 (x0 :: x1 :: x2 :: x3 :: x4 :: x5 :: x6 :: zvi a :: L) (zvi a :: st) h) ∧
  (∀ (L st : List ZV) (h : PH), zev kX4_lays_2 55 L st h = zev kX4_lays_2 56 L (zvi 5 :: st) h) ∧
  (∀ (v0 v1 : ZV) (L st : List ZV) (h : PH), zev kX4_lays_2 56 L (v1 :: v0 :: st) h = if zcat st ≤ 8 then zk kX4_lays_2 56 59 L st (mX4_at [v0, v1] h) else none) ∧
  (∀ (L st : List ZV) (h : PH), zev kX4_lays_2 59 L st h = zev kX4_lays_2 60 L (zvi 0 :: st) h) ∧
  (∀ (x j : Int) (q : Nat) (L st : List ZV) (h : PH), zev kX4_lays_2 60 L (zvi x :: zvi j :: zvr (some q) :: st) h = if (ph_K h q).1 = 1 ∧ 0 ≤ j ∧ j < (ph_K h q).2 then zev kX4_lays_2 61 L st (st_I h q j x) else none) ∧
  (∀ (a : Option Nat) (L st : List ZV) (h : PH), zev kX4_lays_2 61 (zvr a :: L) st h = zev kX4_lays_2 62 (zvr a :: L) (zvr a :: st) h) ∧
  (∀ (x0 x1 x2 x3 x4 x5 x6 : ZV) (a : Int) (L st : List ZV) (h : PH), zev kX4_lays_2 62 (x0 :: x1 :: x2 :: x3 :: x4 :: x5 :: x6 :: zvi a :: L) st h = zev kX4_lays_2 64 (x0 :: x1 :: x2 :: x3 :: x4 :: x5 :: x6 :: zvi a :: L) (zvi a :: st) h) ∧
  (∀ (L st : List ZV) (h : PH), zev kX4_lays_2 64 L st h = zev kX4_lays_2 66 L (zvi 6 :: st) h) ∧
  (∀ (v0 v1 : ZV) (L st : List ZV) (h : PH), zev kX4_lays_2 66 L (v1 :: v0 :: st) h = if zcat st ≤ 8 then zk kX4_lays_2 66 69 L st (mX4_at [v0, v1] h) else none) ∧
  (∀ (L st : List ZV) (h : PH), zev kX4_lays_2 69 L st h = zev kX4_lays_2 70 L (zvi 1 :: st) h) ∧
  (∀ (x j : Int) (q : Nat) (L st : List ZV) (h : PH), zev kX4_lays_2 70 L (zvi x :: zvi j :: zvr (some q) :: st) h = if (ph_K h q).1 = 1 ∧ 0 ≤ j ∧ j < (ph_K h q).2 then zev kX4_lays_2 71 L st (st_I h q j x) else none) ∧
  (∀ (a : Option Nat) (L st : List ZV) (h : PH), zev kX4_lays_2 71 (zvr a :: L) st h = zev kX4_lays_2 72 (zvr a :: L) (zvr a :: st) h) ∧
  (∀ (x0 x1 x2 x3 x4 x5 x6 : ZV) (a : Int) (L st : List ZV) (h : PH), zev kX4_lays_2 72 (x0 :: x1 :: x2 :: x3 :: x4 :: x5 :: x6 :: zvi a :: L) st h = zev kX4_lays_2 74 (x0 :: x1 :: x2 :: x3 :: x4 :: x5 :: x6 :: zvi a :: L) (zvi a :: st) h) ∧
  (∀ (L st : List ZV) (h : PH), zev kX4_lays_2 74 L st h = zev kX4_lays_2 76 L (zvi 7 :: st) h) ∧
  (∀ (v0 v1 : ZV) (L st : List ZV) (h : PH), zev kX4_lays_2 76 L (v1 :: v0 :: st) h = if zcat st ≤ 8 then zk kX4_lays_2 76 79 L st (mX4_at [v0, v1] h) else none) ∧
  (∀ (x0 x1 x2 x3 x4 x5 : ZV) (a : Int) (L st : List ZV) (h : PH), zev kX4_lays_2 79 (x0 :: x1 :: x2 :: x3 :: x4 :: x5 :: zvi a :: L) st h = zev kX4_lays_2 81 (x0 :: x1 :: x2 :: x3 :: x4 :: x5 :: zvi a :: L) (zvi a :: st) h) ∧
  (∀ (x j : Int) (q : Nat) (L st : List ZV) (h : PH), zev kX4_lays_2 81 L (zvi x :: zvi j :: zvr (some q) :: st) h = if (ph_K h q).1 = 1 ∧ 0 ≤ j ∧ j < (ph_K h q).2 then zev kX4_lays_2 82 L st (st_I h q j x) else none) ∧
  (∀ (a : Option Nat) (L st : List ZV) (h : PH), zev kX4_lays_2 82 (zvr a :: L) st h = zev kX4_lays_2 83 (zvr a :: L) (zvr a :: st) h) ∧
  (∀ (L st : List ZV) (h : PH), zev kX4_lays_2 83 L st h = zev kX4_lays_2 84 L (zvi 4 :: st) h) ∧
  (∀ (a : Int) (b : Int) (L st : List ZV) (h : PH), zev kX4_lays_2 84 L (zvi a :: zvi b :: st) h = zev kX4_lays_2 85 L (zvi a :: zvi b :: zvi a :: zvi b :: st) h) ∧
  (∀ (a : Int) (b : Option Nat) (L st : List ZV) (h : PH), zev kX4_lays_2 84 L (zvi a :: zvr b :: st) h = zev kX4_lays_2 85 L (zvi a :: zvr b :: zvi a :: zvr b :: st) h) ∧
  (∀ (a : Option Nat) (b : Int) (L st : List ZV) (h : PH), zev kX4_lays_2 84 L (zvr a :: zvi b :: st) h = zev kX4_lays_2 85 L (zvr a :: zvi b :: zvr a :: zvi b :: st) h) ∧
  (∀ (a : Option Nat) (b : Option Nat) (L st : List ZV) (h : PH), zev kX4_lays_2 84 L (zvr a :: zvr b :: st) h = zev kX4_lays_2 85 L (zvr a :: zvr b :: zvr a :: zvr b :: st) h) ∧
  (∀ (j : Int) (q : Nat) (L st : List ZV) (h : PH), zev kX4_lays_2 85 L (zvi j :: zvr (some q) :: st) h = if (ph_K h q).1 % 1000 = 1 ∧ 0 ≤ j ∧ j < (ph_K h q).2 then zev kX4_lays_2 86 L (zvi (ph_I h q j) :: st) h else none) ∧
  (∀ (L st : List ZV) (h : PH), zev kX4_lays_2 86 L st h = zev kX4_lays_2 87 L (zvi 1 :: st) h) ∧
  (∀ (a b : Int) (L st : List ZV) (h : PH), zev kX4_lays_2 87 L (zvi b :: zvi a :: st) h = zev kX4_lays_2 88 L (zvi (w32 (a + b)) :: st) h) ∧
  (∀ (x j : Int) (q : Nat) (L st : List ZV) (h : PH), zev kX4_lays_2 88 L (zvi x :: zvi j :: zvr (some q) :: st) h = if (ph_K h q).1 = 1 ∧ 0 ≤ j ∧ j < (ph_K h q).2 then zev kX4_lays_2 89 L st (st_I h q j x) else none) ∧
  (∀ (L : List ZV) (h : PH), zev kX4_lays_2 89 L [] h = zr0 h) :=
  ⟨fun a L st h => e_ld0R (n := 1) rfl,
  fun L st h => e_push (v := zvi 4) (n := 2) rfl,
  fun j q L st h => e_ald (kd := 1) (n := 3) rfl,
  fun x0 x1 x2 x3 x4 x5 x6 x7 a L st h hx => e_st7I (n := 5) rfl hx,
  fun a L st h => e_ld0R (n := 6) rfl,
  fun x0 x1 x2 x3 x4 x5 x6 a L st h => e_ld7I (n := 8) rfl,
  fun L st h => e_push (v := zvi 0) (n := 9) rfl,
  fun v0 v1 L st h => e_callS2 (F := mX4_at) (n := 12) rfl,
  fun x0 a L st h => e_ld1I (n := 13) rfl,
  fun x j q L st h => e_ast (n := 14) rfl,
  fun a L st h => e_ld0R (n := 15) rfl,
  fun x0 x1 x2 x3 x4 x5 x6 a L st h => e_ld7I (n := 17) rfl,
  fun L st h => e_push (v := zvi 1) (n := 18) rfl,
  fun v0 v1 L st h => e_callS2 (F := mX4_at) (n := 21) rfl,
  fun x0 x1 a L st h => e_ld2I (n := 22) rfl,
  fun x j q L st h => e_ast (n := 23) rfl,
  fun a L st h => e_ld0R (n := 24) rfl,
  fun x0 x1 x2 x3 x4 x5 x6 a L st h => e_ld7I (n := 26) rfl,
  fun L st h => e_push (v := zvi 2) (n := 27) rfl,
  fun v0 v1 L st h => e_callS2 (F := mX4_at) (n := 30) rfl,
  fun x0 x1 x2 a L st h => e_ld3I (n := 31) rfl,
  fun x j q L st h => e_ast (n := 32) rfl,
  fun a L st h => e_ld0R (n := 33) rfl,
  fun x0 x1 x2 x3 x4 x5 x6 a L st h => e_ld7I (n := 35) rfl,
  fun L st h => e_push (v := zvi 3) (n := 36) rfl,
  fun v0 v1 L st h => e_callS2 (F := mX4_at) (n := 39) rfl,
  fun x0 x1 x2 x3 a L st h => e_ld4I (n := 41) rfl,
  fun x j q L st h => e_ast (n := 42) rfl,
  fun a L st h => e_ld0R (n := 43) rfl,
  fun x0 x1 x2 x3 x4 x5 x6 a L st h => e_ld7I (n := 45) rfl,
  fun L st h => e_push (v := zvi 4) (n := 46) rfl,
  fun v0 v1 L st h => e_callS2 (F := mX4_at) (n := 49) rfl,
  fun x0 x1 x2 x3 x4 a L st h => e_ld5I (n := 51) rfl,
  fun x j q L st h => e_ast (n := 52) rfl,
  fun a L st h => e_ld0R (n := 53) rfl,
  fun x0 x1 x2 x3 x4 x5 x6 a L st h => e_ld7I (n := 55) rfl,
  fun L st h => e_push (v := zvi 5) (n := 56) rfl,
  fun v0 v1 L st h => e_callS2 (F := mX4_at) (n := 59) rfl,
  fun L st h => e_push (v := zvi 0) (n := 60) rfl,
  fun x j q L st h => e_ast (n := 61) rfl,
  fun a L st h => e_ld0R (n := 62) rfl,
  fun x0 x1 x2 x3 x4 x5 x6 a L st h => e_ld7I (n := 64) rfl,
  fun L st h => e_push (v := zvi 6) (n := 66) rfl,
  fun v0 v1 L st h => e_callS2 (F := mX4_at) (n := 69) rfl,
  fun L st h => e_push (v := zvi 1) (n := 70) rfl,
  fun x j q L st h => e_ast (n := 71) rfl,
  fun a L st h => e_ld0R (n := 72) rfl,
  fun x0 x1 x2 x3 x4 x5 x6 a L st h => e_ld7I (n := 74) rfl,
  fun L st h => e_push (v := zvi 7) (n := 76) rfl,
  fun v0 v1 L st h => e_callS2 (F := mX4_at) (n := 79) rfl,
  fun x0 x1 x2 x3 x4 x5 a L st h => e_ld6I (n := 81) rfl,
  fun x j q L st h => e_ast (n := 82) rfl,
  fun a L st h => e_ld0R (n := 83) rfl,
  fun L st h => e_push (v := zvi 4) (n := 84) rfl,
  fun a b L st h => e_dup2II (n := 85) rfl,
  fun a b L st h => e_dup2IR (n := 85) rfl,
  fun a b L st h => e_dup2RI (n := 85) rfl,
  fun a b L st h => e_dup2RR (n := 85) rfl,
  fun j q L st h => e_ald (kd := 1) (n := 86) rfl,
  fun L st h => e_push (v := zvi 1) (n := 87) rfl,
  fun a b L st h => e_bin (f := (fun a b => w32 (a + b))) (n := 88) rfl,
  fun x j q L st h => e_ast (n := 89) rfl,
  fun L h => e_ret rfl⟩
theorem allX4_lays_2 : zall yX4_lays_2 cX4_lays_2 8 none 2 kX4_lays_2.1 :=
  ⟨k_aload_n dX4_lays_2_0,
  k_iconst dX4_lays_2_1,
  k_iald dX4_lays_2_2,
  k_istore dX4_lays_2_3,
  k_aload_n dX4_lays_2_5,
  k_iload dX4_lays_2_6,
  k_iconst dX4_lays_2_8,
  k_callS (y2 := yX4_at) dX4_lays_2_9 sndX4_at q2047 q2048 q137 q2049 (by decide +kernel) ⟨by decide, by decide⟩ (by decide) (by decide),
  k_iload_n dX4_lays_2_12,
  k_iast dX4_lays_2_13,
  k_aload_n dX4_lays_2_14,
  k_iload dX4_lays_2_15,
  k_iconst dX4_lays_2_17,
  k_callS (y2 := yX4_at) dX4_lays_2_18 sndX4_at q2047 q2048 q137 q2049 (by decide +kernel) ⟨by decide, by decide⟩ (by decide) (by decide),
  k_iload_n dX4_lays_2_21,
  k_iast dX4_lays_2_22,
  k_aload_n dX4_lays_2_23,
  k_iload dX4_lays_2_24,
  k_iconst dX4_lays_2_26,
  k_callS (y2 := yX4_at) dX4_lays_2_27 sndX4_at q2047 q2048 q137 q2049 (by decide +kernel) ⟨by decide, by decide⟩ (by decide) (by decide),
  k_iload_n dX4_lays_2_30,
  k_iast dX4_lays_2_31,
  k_aload_n dX4_lays_2_32,
  k_iload dX4_lays_2_33,
  k_iconst dX4_lays_2_35,
  k_callS (y2 := yX4_at) dX4_lays_2_36 sndX4_at q2047 q2048 q137 q2049 (by decide +kernel) ⟨by decide, by decide⟩ (by decide) (by decide),
  k_iload dX4_lays_2_39,
  k_iast dX4_lays_2_41,
  k_aload_n dX4_lays_2_42,
  k_iload dX4_lays_2_43,
  k_iconst dX4_lays_2_45,
  k_callS (y2 := yX4_at) dX4_lays_2_46 sndX4_at q2047 q2048 q137 q2049 (by decide +kernel) ⟨by decide, by decide⟩ (by decide) (by decide),
  k_iload dX4_lays_2_49,
  k_iast dX4_lays_2_51,
  k_aload_n dX4_lays_2_52,
  k_iload dX4_lays_2_53,
  k_iconst dX4_lays_2_55,
  k_callS (y2 := yX4_at) dX4_lays_2_56 sndX4_at q2047 q2048 q137 q2049 (by decide +kernel) ⟨by decide, by decide⟩ (by decide) (by decide),
  k_iconst dX4_lays_2_59,
  k_iast dX4_lays_2_60,
  k_aload_n dX4_lays_2_61,
  k_iload dX4_lays_2_62,
  k_bipush dX4_lays_2_64,
  k_callS (y2 := yX4_at) dX4_lays_2_66 sndX4_at q2047 q2048 q137 q2049 (by decide +kernel) ⟨by decide, by decide⟩ (by decide) (by decide),
  k_iconst dX4_lays_2_69,
  k_iast dX4_lays_2_70,
  k_aload_n dX4_lays_2_71,
  k_iload dX4_lays_2_72,
  k_bipush dX4_lays_2_74,
  k_callS (y2 := yX4_at) dX4_lays_2_76 sndX4_at q2047 q2048 q137 q2049 (by decide +kernel) ⟨by decide, by decide⟩ (by decide) (by decide),
  k_iload dX4_lays_2_79,
  k_iast dX4_lays_2_81,
  k_aload_n dX4_lays_2_82,
  k_iconst dX4_lays_2_83,
  k_dup2 dX4_lays_2_84,
  k_iald dX4_lays_2_85,
  k_iconst dX4_lays_2_86,
  k_iadd dX4_lays_2_87,
  k_iast dX4_lays_2_88,
  k_ret dX4_lays_2_89, trivial⟩
theorem sndX4_lays_2 : MSound 2 yX4_lays_2 (ws_ yX4_lays_2 cX4_lays_2 8 none) mX4_lays_2 := msound_M (by decide) allX4_lays_2 (fun _ _ => rfl)
/-! LinkTimesModel.readLink()Z -/
noncomputable def kX4_readLink : ZM := ([(0, zi_ld 1 0 1), (1, zi_ld 1 0 2), (2, zi_getR 18 7 5), (5, zi_push (zvi 3) 6), (6, zi_ald 1 7), (7, zi_push (zvi 12) 9), (9, zi_cmp zc_ge 16 12), (12, zi_push (zvi 1) 13), (13, zi_goto 17), (16, zi_push (zvi 0) 17), (17, zi_callV mX4_begins 18 2 20), (20, zi_if (fun a => zc_eq a 0) 41 23), (23, zi_ld 1 0 24), (24, zi_ld 1 0 25), (25, zi_getR 18 21 28), (28, zi_ld 1 0 29), (29, zi_getR 18 7 32), (32, zi_push (zvi 2) 33), (33, zi_ald 1 34), (34, zi_push (zvi 0) 35), (35, zi_callV mX4_namesLink 18 4 38), (38, zi_if (fun a => zc_ne a 0) 43 41), (41, zi_push (zvi 0) 42), (42, zi_retz), (43, zi_ld 1 0 44), (44, zi_callV mX4_goesOn 18 1 47), (47, zi_ld 1 0 48), (48, zi_ld 1 0 49), (49, zi_getR 18 20 52), (52, zi_ld 1 0 53), (53, zi_getR 18 7 56), (56, zi_push (zvi 1) 57), (57, zi_ald 1 58), (58, zi_push (zvi 1) 59), (59, zi_callV mX4_namesLink 18 4 62), (62, zi_if (fun a => zc_ne a 0) 67 65), (65, zi_push (zvi 0) 66), (66, zi_retz), (67, zi_ld 1 0 68), (68, zi_callV mX4_goesOn 18 1 71), (71, zi_ld 1 0 72), (72, zi_ld 1 0 73), (73, zi_getR 18 20 76), (76, zi_ld 1 0 77), (77, zi_getR 18 7 80), (80, zi_push (zvi 1) 81), (81, zi_ald 1 82), (82, zi_push (zvi 2) 83), (83, zi_callV mX4_namesLink 18 4 86), (86, zi_if (fun a => zc_ne a 0) 91 89), (89, zi_push (zvi 0) 90), (90, zi_retz), (91, zi_ld 1 0 92), (92, zi_getR 18 22 95), (95, zi_push (zvi 1) 96), (96, zi_ald 1 97), (97, zi_ld 1 0 98), (98, zi_getR 18 22 101), (101, zi_push (zvi 2) 102), (102, zi_ald 1 103), (103, zi_cmp zc_ne 112 106), (106, zi_ld 1 0 107), (107, zi_push (zvi 3) 108), (108, zi_callV mX4_errs 18 2 111), (111, zi_retz), (112, zi_ld 1 0 113), (113, zi_callV mX4_goesOn 18 1 116), (116, zi_ld 1 0 117), (117, zi_push (zvr (some 1000000017)) 119), (119, zi_push (zvi 3) 120), (120, zi_push (zvi 0) 121), (121, zi_ld 1 0 122), (122, zi_getR 18 7 125), (125, zi_push (zvi 0) 126), (126, zi_ald 1 127), (127, zi_callV mX4_afterLink 18 5 130), (130, zi_if (fun a => zc_ne a 0) 135 133), (133, zi_push (zvi 0) 134), (134, zi_retz), (135, zi_ld 1 0 136), (136, zi_callV mX4_goesOn 18 1 139), (139, zi_ld 1 0 140), (140, zi_push (zvr (some 1000000018)) 142), (142, zi_push (zvi 4) 143), (143, zi_ld 1 0 144), (144, zi_getR 18 22 147), (147, zi_push (zvi 3) 148), (148, zi_ald 1 149), (149, zi_ld 1 0 150), (150, zi_getR 18 7 153), (153, zi_push (zvi 0) 154), (154, zi_ald 1 155), (155, zi_callV mX4_afterLink 18 5 158), (158, zi_if (fun a => zc_ne a 0) 163 161), (161, zi_push (zvi 0) 162), (162, zi_retz), (163, zi_ld 1 0 164), (164, zi_callV mX4_goesOn 18 1 167), (167, zi_ld 1 0 168), (168, zi_push (zvr (some 1000000019)) 170), (170, zi_push (zvi 5) 171), (171, zi_push (zvi 1) 172), (172, zi_push (zvi 999) 175), (175, zi_callV mX4_afterLink 18 5 178), (178, zi_if (fun a => zc_ne a 0) 183 181), (181, zi_push (zvi 0) 182), (182, zi_retz), (183, zi_ld 1 0 184), (184, zi_getR 18 7 187), (187, zi_push (zvi 4) 188), (188, zi_ald 1 189), (189, zi_ld 1 0 190), (190, zi_getR 18 22 193), (193, zi_push (zvi 4) 194), (194, zi_ald 1 195), (195, zi_ld 1 0 196), (196, zi_getR 18 22 199), (199, zi_push (zvi 3) 200), (200, zi_ald 1 201), (201, zi_bin (fun a b => w32 (a - b)) 202), (202, zi_ld 1 0 203), (203, zi_getR 18 22 206), (206, zi_push (zvi 5) 207), (207, zi_ald 1 208), (208, zi_div 209), (209, zi_bin (fun a b => w32 (a + b)) 210), (210, zi_push (zvi 1) 211), (211, zi_bin (fun a b => w32 (a + b)) 212), (212, zi_push (zvi 120) 214), (214, zi_cmp zc_le 223 217), (217, zi_ld 1 0 218), (218, zi_push (zvi 5) 219), (219, zi_callV mX4_errs 18 2 222), (222, zi_retz), (223, zi_ld 1 0 224), (224, zi_callV mX4_goesOn 18 1 227), (227, zi_ld 1 0 228), (228, zi_push (zvr (some 1000000020)) 230), (230, zi_push (zvi 6) 232), (232, zi_push (zvi 1) 233), (233, zi_push (zvi 99) 235), (235, zi_callV mX4_afterLink 18 5 238), (238, zi_if (fun a => zc_ne a 0) 243 241), (241, zi_push (zvi 0) 242), (242, zi_retz), (243, zi_ld 1 0 244), (244, zi_callV mX4_goesOn 18 1 247), (247, zi_ld 1 0 248), (248, zi_getR 18 22 251), (251, zi_push (zvi 3) 252), (252, zi_ald 1 253), (253, zi_st 0 1 254), (254, zi_ld 0 1 255), (255, zi_ld 1 0 256), (256, zi_getR 18 22 259), (259, zi_push (zvi 4) 260), (260, zi_ald 1 261), (261, zi_cmp zc_gt 315 264), (264, zi_ld 1 0 265), (265, zi_getR 18 7 268), (268, zi_ld 1 0 269), (269, zi_getR 18 22 272), (272, zi_push (zvi 0) 273), (273, zi_ald 1 274), (274, zi_ld 1 0 275), (275, zi_getR 18 22 278), (278, zi_push (zvi 1) 279), (279, zi_ald 1 280), (280, zi_ld 1 0 281), (281, zi_getR 18 22 284), (284, zi_push (zvi 2) 285), (285, zi_ald 1 286), (286, zi_ld 0 1 287), (287, zi_ld 1 0 288), (288, zi_getR 18 22 291), (291, zi_push (zvi 6) 293), (293, zi_ald 1 294), (294, zi_ld 1 0 295), (295, zi_getR 18 7 298), (298, zi_push (zvi 3) 299), (299, zi_ald 1 300), (300, zi_callS mX4_lays_2 7 303), (303, zi_ld 0 1 304), (304, zi_ld 1 0 305), (305, zi_getR 18 22 308), (308, zi_push (zvi 5) 309), (309, zi_ald 1 310), (310, zi_bin (fun a b => w32 (a + b)) 311), (311, zi_st 0 1 312), (312, zi_goto 254), (315, zi_ld 1 0 316), (316, zi_getR 18 7 319), (319, zi_push (zvi 3) 320), (320, zi_dup2 321), (321, zi_ald 1 322), (322, zi_push (zvi 1) 323), (323, zi_bin (fun a b => w32 (a + b)) 324), (324, zi_ast 325), (325, zi_push (zvi 1) 326), (326, zi_retz)], fun _ _ => none)
noncomputable def mX4_readLink : ZF := zrunM kX4_readLink 2
theorem enX4_readLink (x0 : Option Nat) (h : PH) : mX4_readLink [zvr x0] h = zev kX4_readLink 0 [zvr x0, zvu] [] h := zrunM_eq rfl rfl
theorem hdX4_readLink_254 (x0 : ZV) (a : Int) (L st : List ZV) (h : PH) : zev kX4_readLink 254 (x0 :: zvi a :: L) st h = zev kX4_readLink 255 (x0 :: zvi a :: L) (zvi a :: st) h := e_ld1I (n := 255) rfl
theorem rX4_readLink : (∀ (a : Option Nat) (L st : List ZV) (h : PH), zev kX4_readLink 0 (zvr a :: L) st h = zev kX4_readLink 1 (zvr a :: L) (zvr a :: st) h) ∧
  (∀ (a : Option Nat) (L st : List ZV) (h : PH), zev kX4_readLink 1 (zvr a :: L) st h = zev kX4_readLink 2 (zvr a :: L) (zvr a :: st) h) ∧
  (∀ (q : Nat) (L st : List ZV) (h : PH), zev kX4_readLink 2 L (zvr (some q) :: st) h = if (ph_K h q).1 % 1000 = 18 then zev kX4_readLink 5 L (zvr (ph_R h q 7) :: st) h else none) ∧
  (∀ (L st : List ZV) (h : PH), zev kX4_readLink 5 L st h = zev kX4_readLink 6 L (zvi 3 :: st) h) ∧
  (∀ (j : Int) (q : Nat) (L st : List ZV) (h : PH), zev kX4_readLink 6 L (zvi j :: zvr (some q) :: st) h = if (ph_K h q).1 % 1000 = 1 ∧ 0 ≤ j ∧ j < (ph_K h q).2 then zev kX4_readLink 7 L (zvi (ph_I h q j) :: st) h else none) ∧
  (∀ (L st : List ZV) (h : PH), zev kX4_readLink 7 L st h = zev kX4_readLink 9 L (zvi 12 :: st) h) ∧
  (∀ (a b : Int) (L st : List ZV) (h : PH), zev kX4_readLink 9 L (zvi b :: zvi a :: st) h = if a ≥ b then zev kX4_readLink 16 L st h else zev kX4_readLink 12 L st h) ∧
  (∀ (L st : List ZV) (h : PH), zev kX4_readLink 12 L st h = zev kX4_readLink 13 L (zvi 1 :: st) h) ∧
  (∀ (L st : List ZV) (h : PH), zev kX4_readLink 13 L st h = zev kX4_readLink 17 L st h) ∧
  (∀ (L st : List ZV) (h : PH), zev kX4_readLink 16 L st h = zev kX4_readLink 17 L (zvi 0 :: st) h) ∧
  (∀ (v0 : ZV) (q : Nat) (L st : List ZV) (h : PH), zev kX4_readLink 17 L (v0 :: zvr (some q) :: st) h = if (ph_K h q).1 % 1000 = 18 ∧ zcat st ≤ 8 then zk kX4_readLink 17 20 L st (mX4_begins [zvr (some q), v0] h) else none) ∧
  (∀ (a : Int) (L st : List ZV) (h : PH), zev kX4_readLink 20 L (zvi a :: st) h = if a = 0 then zev kX4_readLink 41 L st h else zev kX4_readLink 23 L st h) ∧
  (∀ (a : Option Nat) (L st : List ZV) (h : PH), zev kX4_readLink 23 (zvr a :: L) st h = zev kX4_readLink 24 (zvr a :: L) (zvr a :: st) h) ∧
  (∀ (a : Option Nat) (L st : List ZV) (h : PH), zev kX4_readLink 24 (zvr a :: L) st h = zev kX4_readLink 25 (zvr a :: L) (zvr a :: st) h) ∧
  (∀ (q : Nat) (L st : List ZV) (h : PH), zev kX4_readLink 25 L (zvr (some q) :: st) h = if (ph_K h q).1 % 1000 = 18 then zev kX4_readLink 28 L (zvr (ph_R h q 21) :: st) h else none) ∧
  (∀ (a : Option Nat) (L st : List ZV) (h : PH), zev kX4_readLink 28 (zvr a :: L) st h = zev kX4_readLink 29 (zvr a :: L) (zvr a :: st) h) ∧
  (∀ (q : Nat) (L st : List ZV) (h : PH), zev kX4_readLink 29 L (zvr (some q) :: st) h = if (ph_K h q).1 % 1000 = 18 then zev kX4_readLink 32 L (zvr (ph_R h q 7) :: st) h else none) ∧
  (∀ (L st : List ZV) (h : PH), zev kX4_readLink 32 L st h = zev kX4_readLink 33 L (zvi 2 :: st) h) ∧
  (∀ (j : Int) (q : Nat) (L st : List ZV) (h : PH), zev kX4_readLink 33 L (zvi j :: zvr (some q) :: st) h = if (ph_K h q).1 % 1000 = 1 ∧ 0 ≤ j ∧ j < (ph_K h q).2 then zev kX4_readLink 34 L (zvi (ph_I h q j) :: st) h else none) ∧
  (∀ (L st : List ZV) (h : PH), zev kX4_readLink 34 L st h = zev kX4_readLink 35 L (zvi 0 :: st) h) ∧
  (∀ (v0 v1 v2 : ZV) (q : Nat) (L st : List ZV) (h : PH), zev kX4_readLink 35 L (v2 :: v1 :: v0 :: zvr (some q) :: st) h = if (ph_K h q).1 % 1000 = 18 ∧ zcat st ≤ 8 then zk kX4_readLink 35 38 L st (mX4_namesLink [zvr (some q), v0, v1, v2] h) else none) ∧
  (∀ (a : Int) (L st : List ZV) (h : PH), zev kX4_readLink 38 L (zvi a :: st) h = if a ≠ 0 then zev kX4_readLink 43 L st h else zev kX4_readLink 41 L st h) ∧
  (∀ (L st : List ZV) (h : PH), zev kX4_readLink 41 L st h = zev kX4_readLink 42 L (zvi 0 :: st) h) ∧
  (∀ (a : Int) (L : List ZV) (h : PH), zev kX4_readLink 42 L [zvi a] h = if a = 0 ∨ a = 1 then zrv (zvi a) h else none) ∧
  (∀ (a : Option Nat) (L st : List ZV) (h : PH), zev kX4_readLink 43 (zvr a :: L) st h = zev kX4_readLink 44 (zvr a :: L) (zvr a :: st) h) ∧
  (∀ (q : Nat) (L st : List ZV) (h : PH), zev kX4_readLink 44 L (zvr (some q) :: st) h = if (ph_K h q).1 % 1000 = 18 ∧ zcat st ≤ 8 then zk kX4_readLink 44 47 L st (mX4_goesOn [zvr (some q)] h) else none) ∧
  (∀ (a : Option Nat) (L st : List ZV) (h : PH), zev kX4_readLink 47 (zvr a :: L) st h = zev kX4_readLink 48 (zvr a :: L) (zvr a :: st) h) ∧
  (∀ (a : Option Nat) (L st : List ZV) (h : PH), zev kX4_readLink 48 (zvr a :: L) st h = zev kX4_readLink 49 (zvr a :: L) (zvr a :: st) h) ∧
  (∀ (q : Nat) (L st : List ZV) (h : PH), zev kX4_readLink 49 L (zvr (some q) :: st) h = if (ph_K h q).1 % 1000 = 18 then zev kX4_readLink 52 L (zvr (ph_R h q 20) :: st) h else none) ∧
  (∀ (a : Option Nat) (L st : List ZV) (h : PH), zev kX4_readLink 52 (zvr a :: L) st h = zev kX4_readLink 53 (zvr a :: L) (zvr a :: st) h) ∧
  (∀ (q : Nat) (L st : List ZV) (h : PH), zev kX4_readLink 53 L (zvr (some q) :: st) h = if (ph_K h q).1 % 1000 = 18 then zev kX4_readLink 56 L (zvr (ph_R h q 7) :: st) h else none) ∧
  (∀ (L st : List ZV) (h : PH), zev kX4_readLink 56 L st h = zev kX4_readLink 57 L (zvi 1 :: st) h) ∧
  (∀ (j : Int) (q : Nat) (L st : List ZV) (h : PH), zev kX4_readLink 57 L (zvi j :: zvr (some q) :: st) h = if (ph_K h q).1 % 1000 = 1 ∧ 0 ≤ j ∧ j < (ph_K h q).2 then zev kX4_readLink 58 L (zvi (ph_I h q j) :: st) h else none) ∧
  (∀ (L st : List ZV) (h : PH), zev kX4_readLink 58 L st h = zev kX4_readLink 59 L (zvi 1 :: st) h) ∧
  (∀ (v0 v1 v2 : ZV) (q : Nat) (L st : List ZV) (h : PH), zev kX4_readLink 59 L (v2 :: v1 :: v0 :: zvr (some q) :: st) h = if (ph_K h q).1 % 1000 = 18 ∧ zcat st ≤ 8 then zk kX4_readLink 59 62 L st (mX4_namesLink [zvr (some q), v0, v1, v2] h) else none) ∧
  (∀ (a : Int) (L st : List ZV) (h : PH), zev kX4_readLink 62 L (zvi a :: st) h = if a ≠ 0 then zev kX4_readLink 67 L st h else zev kX4_readLink 65 L st h) ∧
  (∀ (L st : List ZV) (h : PH), zev kX4_readLink 65 L st h = zev kX4_readLink 66 L (zvi 0 :: st) h) ∧
  (∀ (a : Int) (L : List ZV) (h : PH), zev kX4_readLink 66 L [zvi a] h = if a = 0 ∨ a = 1 then zrv (zvi a) h else none) ∧
  (∀ (a : Option Nat) (L st : List ZV) (h : PH), zev kX4_readLink 67 (zvr a :: L) st h = zev kX4_readLink 68 (zvr a :: L) (zvr a :: st) h) ∧
  (∀ (q : Nat) (L st : List ZV) (h : PH), zev kX4_readLink 68 L (zvr (some q) :: st) h = if (ph_K h q).1 % 1000 = 18 ∧ zcat st ≤ 8 then zk kX4_readLink 68 71 L st (mX4_goesOn [zvr (some q)] h) else none) ∧
  (∀ (a : Option Nat) (L st : List ZV) (h : PH), zev kX4_readLink 71 (zvr a :: L) st h = zev kX4_readLink 72 (zvr a :: L) (zvr a :: st) h) ∧
  (∀ (a : Option Nat) (L st : List ZV) (h : PH), zev kX4_readLink 72 (zvr a :: L) st h = zev kX4_readLink 73 (zvr a :: L) (zvr a :: st) h) ∧
  (∀ (q : Nat) (L st : List ZV) (h : PH), zev kX4_readLink 73 L (zvr (some q) :: st) h = if (ph_K h q).1 % 1000 = 18 then zev kX4_readLink 76 L (zvr (ph_R h q 20) :: st) h else none) ∧
  (∀ (a : Option Nat) (L st : List ZV) (h : PH), zev kX4_readLink 76 (zvr a :: L) st h = zev kX4_readLink 77 (zvr a :: L) (zvr a :: st) h) ∧
  (∀ (q : Nat) (L st : List ZV) (h : PH), zev kX4_readLink 77 L (zvr (some q) :: st) h = if (ph_K h q).1 % 1000 = 18 then zev kX4_readLink 80 L (zvr (ph_R h q 7) :: st) h else none) ∧
  (∀ (L st : List ZV) (h : PH), zev kX4_readLink 80 L st h = zev kX4_readLink 81 L (zvi 1 :: st) h) ∧
  (∀ (j : Int) (q : Nat) (L st : List ZV) (h : PH), zev kX4_readLink 81 L (zvi j :: zvr (some q) :: st) h = if (ph_K h q).1 % 1000 = 1 ∧ 0 ≤ j ∧ j < (ph_K h q).2 then zev kX4_readLink 82 L (zvi (ph_I h q j) :: st) h else none) ∧
  (∀ (L st : List ZV) (h : PH), zev kX4_readLink 82 L st h = zev kX4_readLink 83 L (zvi 2 :: st) h) ∧
  (∀ (v0 v1 v2 : ZV) (q : Nat) (L st : List ZV) (h : PH), zev kX4_readLink 83 L (v2 :: v1 :: v0 :: zvr (some q) :: st) h = if (ph_K h q).1 % 1000 = 18 ∧ zcat st ≤ 8 then zk kX4_readLink 83 86 L st (mX4_namesLink [zvr (some q), v0, v1, v2] h) else none) ∧
  (∀ (a : Int) (L st : List ZV) (h : PH), zev kX4_readLink 86 L (zvi a :: st) h = if a ≠ 0 then zev kX4_readLink 91 L st h else zev kX4_readLink 89 L st h) ∧
  (∀ (L st : List ZV) (h : PH), zev kX4_readLink 89 L st h = zev kX4_readLink 90 L (zvi 0 :: st) h) ∧
  (∀ (a : Int) (L : List ZV) (h : PH), zev kX4_readLink 90 L [zvi a] h = if a = 0 ∨ a = 1 then zrv (zvi a) h else none) ∧
  (∀ (a : Option Nat) (L st : List ZV) (h : PH), zev kX4_readLink 91 (zvr a :: L) st h = zev kX4_readLink 92 (zvr a :: L) (zvr a :: st) h) ∧
  (∀ (q : Nat) (L st : List ZV) (h : PH), zev kX4_readLink 92 L (zvr (some q) :: st) h = if (ph_K h q).1 % 1000 = 18 then zev kX4_readLink 95 L (zvr (ph_R h q 22) :: st) h else none) ∧
  (∀ (L st : List ZV) (h : PH), zev kX4_readLink 95 L st h = zev kX4_readLink 96 L (zvi 1 :: st) h) ∧
  (∀ (j : Int) (q : Nat) (L st : List ZV) (h : PH), zev kX4_readLink 96 L (zvi j :: zvr (some q) :: st) h = if (ph_K h q).1 % 1000 = 1 ∧ 0 ≤ j ∧ j < (ph_K h q).2 then zev kX4_readLink 97 L (zvi (ph_I h q j) :: st) h else none) ∧
  (∀ (a : Option Nat) (L st : List ZV) (h : PH), zev kX4_readLink 97 (zvr a :: L) st h = zev kX4_readLink 98 (zvr a :: L) (zvr a :: st) h) ∧
  (∀ (q : Nat) (L st : List ZV) (h : PH), zev kX4_readLink 98 L (zvr (some q) :: st) h = if (ph_K h q).1 % 1000 = 18 then zev kX4_readLink 101 L (zvr (ph_R h q 22) :: st) h else none) ∧
  (∀ (L st : List ZV) (h : PH), zev kX4_readLink 101 L st h = zev kX4_readLink 102 L (zvi 2 :: st) h) ∧
  (∀ (j : Int) (q : Nat) (L st : List ZV) (h : PH), zev kX4_readLink 102 L (zvi j :: zvr (some q) :: st) h = if (ph_K h q).1 % 1000 = 1 ∧ 0 ≤ j ∧ j < (ph_K h q).2 then zev kX4_readLink 103 L (zvi (ph_I h q j) :: st) h else none) ∧
  (∀ (a b : Int) (L st : List ZV) (h : PH), zev kX4_readLink 103 L (zvi b :: zvi a :: st) h = if a ≠ b then zev kX4_readLink 112 L st h else zev kX4_readLink 106 L st h) ∧
  (∀ (a : Option Nat) (L st : List ZV) (h : PH), zev kX4_readLink 106 (zvr a :: L) st h = zev kX4_readLink 107 (zvr a :: L) (zvr a :: st) h) ∧
  (∀ (L st : List ZV) (h : PH), zev kX4_readLink 107 L st h = zev kX4_readLink 108 L (zvi 3 :: st) h) ∧
  (∀ (v0 : ZV) (q : Nat) (L st : List ZV) (h : PH), zev kX4_readLink 108 L (v0 :: zvr (some q) :: st) h = if (ph_K h q).1 % 1000 = 18 ∧ zcat st ≤ 8 then zk kX4_readLink 108 111 L st (mX4_errs [zvr (some q), v0] h) else none) ∧
  (∀ (a : Int) (L : List ZV) (h : PH), zev kX4_readLink 111 L [zvi a] h = if a = 0 ∨ a = 1 then zrv (zvi a) h else none) ∧
  (∀ (a : Option Nat) (L st : List ZV) (h : PH), zev kX4_readLink 112 (zvr a :: L) st h = zev kX4_readLink 113 (zvr a :: L) (zvr a :: st) h) ∧
  (∀ (q : Nat) (L st : List ZV) (h : PH), zev kX4_readLink 113 L (zvr (some q) :: st) h = if (ph_K h q).1 % 1000 = 18 ∧ zcat st ≤ 8 then zk kX4_readLink 113 116 L st (mX4_goesOn [zvr (some q)] h) else none) ∧
  (∀ (a : Option Nat) (L st : List ZV) (h : PH), zev kX4_readLink 116 (zvr a :: L) st h = zev kX4_readLink 117 (zvr a :: L) (zvr a :: st) h) ∧
  (∀ (L st : List ZV) (h : PH), zev kX4_readLink 117 L st h = zev kX4_readLink 119 L (zvr (some 1000000017) :: st) h) ∧
  (∀ (L st : List ZV) (h : PH), zev kX4_readLink 119 L st h = zev kX4_readLink 120 L (zvi 3 :: st) h) ∧
  (∀ (L st : List ZV) (h : PH), zev kX4_readLink 120 L st h = zev kX4_readLink 121 L (zvi 0 :: st) h) ∧
  (∀ (a : Option Nat) (L st : List ZV) (h : PH), zev kX4_readLink 121 (zvr a :: L) st h = zev kX4_readLink 122 (zvr a :: L) (zvr a :: st) h) ∧
  (∀ (q : Nat) (L st : List ZV) (h : PH), zev kX4_readLink 122 L (zvr (some q) :: st) h = if (ph_K h q).1 % 1000 = 18 then zev kX4_readLink 125 L (zvr (ph_R h q 7) :: st) h else none) ∧
  (∀ (L st : List ZV) (h : PH), zev kX4_readLink 125 L st h = zev kX4_readLink 126 L (zvi 0 :: st) h) ∧
  (∀ (j : Int) (q : Nat) (L st : List ZV) (h : PH), zev kX4_readLink 126 L (zvi j :: zvr (some q) :: st) h = if (ph_K h q).1 % 1000 = 1 ∧ 0 ≤ j ∧ j < (ph_K h q).2 then zev kX4_readLink 127 L (zvi (ph_I h q j) :: st) h else none) ∧
  (∀ (v0 v1 v2 v3 : ZV) (q : Nat) (L st : List ZV) (h : PH), zev kX4_readLink 127 L (v3 :: v2 :: v1 :: v0 :: zvr (some q) :: st) h = if (ph_K h q).1 % 1000 = 18 ∧ zcat st ≤ 8 then zk kX4_readLink 127 130 L st (mX4_afterLink [zvr (some q), v0, v1, v2, v3] h) else none) ∧
  (∀ (a : Int) (L st : List ZV) (h : PH), zev kX4_readLink 130 L (zvi a :: st) h = if a ≠ 0 then zev kX4_readLink 135 L st h else zev kX4_readLink 133 L st h) ∧
  (∀ (L st : List ZV) (h : PH), zev kX4_readLink 133 L st h = zev kX4_readLink 134 L (zvi 0 :: st) h) ∧
  (∀ (a : Int) (L : List ZV) (h : PH), zev kX4_readLink 134 L [zvi a] h = if a = 0 ∨ a = 1 then zrv (zvi a) h else none) ∧
  (∀ (a : Option Nat) (L st : List ZV) (h : PH), zev kX4_readLink 135 (zvr a :: L) st h = zev kX4_readLink 136 (zvr a :: L) (zvr a :: st) h) ∧
  (∀ (q : Nat) (L st : List ZV) (h : PH), zev kX4_readLink 136 L (zvr (some q) :: st) h = if (ph_K h q).1 % 1000 = 18 ∧ zcat st ≤ 8 then zk kX4_readLink 136 139 L st (mX4_goesOn [zvr (some q)] h) else none) ∧
  (∀ (a : Option Nat) (L st : List ZV) (h : PH), zev kX4_readLink 139 (zvr a :: L) st h = zev kX4_readLink 140 (zvr a :: L) (zvr a :: st) h) ∧
  (∀ (L st : List ZV) (h : PH), zev kX4_readLink 140 L st h = zev kX4_readLink 142 L (zvr (some 1000000018) :: st) h) ∧
  (∀ (L st : List ZV) (h : PH), zev kX4_readLink 142 L st h = zev kX4_readLink 143 L (zvi 4 :: st) h) ∧
  (∀ (a : Option Nat) (L st : List ZV) (h : PH), zev kX4_readLink 143 (zvr a :: L) st h = zev kX4_readLink 144 (zvr a :: L) (zvr a :: st) h) ∧
  (∀ (q : Nat) (L st : List ZV) (h : PH), zev kX4_readLink 144 L (zvr (some q) :: st) h = if (ph_K h q).1 % 1000 = 18 then zev kX4_readLink 147 L (zvr (ph_R h q 22) :: st) h else none) ∧
  (∀ (L st : List ZV) (h : PH), zev kX4_readLink 147 L st h = zev kX4_readLink 148 L (zvi 3 :: st) h) ∧
  (∀ (j : Int) (q : Nat) (L st : List ZV) (h : PH), zev kX4_readLink 148 L (zvi j :: zvr (some q) :: st) h = if (ph_K h q).1 % 1000 = 1 ∧ 0 ≤ j ∧ j < (ph_K h q).2 then zev kX4_readLink 149 L (zvi (ph_I h q j) :: st) h else none) ∧
  (∀ (a : Option Nat) (L st : List ZV) (h : PH), zev kX4_readLink 149 (zvr a :: L) st h = zev kX4_readLink 150 (zvr a :: L) (zvr a :: st) h) ∧
  (∀ (q : Nat) (L st : List ZV) (h : PH), zev kX4_readLink 150 L (zvr (some q) :: st) h = if (ph_K h q).1 % 1000 = 18 then zev kX4_readLink 153 L (zvr (ph_R h q 7) :: st) h else none) ∧
  (∀ (L st : List ZV) (h : PH), zev kX4_readLink 153 L st h = zev kX4_readLink 154 L (zvi 0 :: st) h) ∧
  (∀ (j : Int) (q : Nat) (L st : List ZV) (h : PH), zev kX4_readLink 154 L (zvi j :: zvr (some q) :: st) h = if (ph_K h q).1 % 1000 = 1 ∧ 0 ≤ j ∧ j < (ph_K h q).2 then zev kX4_readLink 155 L (zvi (ph_I h q j) :: st) h else none) ∧
  (∀ (v0 v1 v2 v3 : ZV) (q : Nat) (L st : List ZV) (h : PH), zev kX4_readLink 155 L (v3 :: v2 :: v1 :: v0 :: zvr (some q) :: st) h = if (ph_K h q).1 % 1000 = 18 ∧ zcat st ≤ 8 then zk kX4_readLink 155 158 L st (mX4_afterLink [zvr (some q), v0, v1, v2, v3] h) else none) ∧
  (∀ (a : Int) (L st : List ZV) (h : PH), zev kX4_readLink 158 L (zvi a :: st) h = if a ≠ 0 then zev kX4_readLink 163 L st h else zev kX4_readLink 161 L st h) ∧
  (∀ (L st : List ZV) (h : PH), zev kX4_readLink 161 L st h = zev kX4_readLink 162 L (zvi 0 :: st) h) ∧
  (∀ (a : Int) (L : List ZV) (h : PH), zev kX4_readLink 162 L [zvi a] h = if a = 0 ∨ a = 1 then zrv (zvi a) h else none) ∧
  (∀ (a : Option Nat) (L st : List ZV) (h : PH), zev kX4_readLink 163 (zvr a :: L) st h = zev kX4_readLink 164 (zvr a :: L) (zvr a :: st) h) ∧
  (∀ (q : Nat) (L st : List ZV) (h : PH), zev kX4_readLink 164 L (zvr (some q) :: st) h = if (ph_K h q).1 % 1000 = 18 ∧ zcat st ≤ 8 then zk kX4_readLink 164 167 L st (mX4_goesOn [zvr (some q)] h) else none) ∧
  (∀ (a : Option Nat) (L st : List ZV) (h : PH), zev kX4_readLink 167 (zvr a :: L) st h = zev kX4_readLink 168 (zvr a :: L) (zvr a :: st) h) ∧
  (∀ (L st : List ZV) (h : PH), zev kX4_readLink 168 L st h = zev kX4_readLink 170 L (zvr (some 1000000019) :: st) h) ∧
  (∀ (L st : List ZV) (h : PH), zev kX4_readLink 170 L st h = zev kX4_readLink 171 L (zvi 5 :: st) h) ∧
  (∀ (L st : List ZV) (h : PH), zev kX4_readLink 171 L st h = zev kX4_readLink 172 L (zvi 1 :: st) h) ∧
  (∀ (L st : List ZV) (h : PH), zev kX4_readLink 172 L st h = zev kX4_readLink 175 L (zvi 999 :: st) h) ∧
  (∀ (v0 v1 v2 v3 : ZV) (q : Nat) (L st : List ZV) (h : PH), zev kX4_readLink 175 L (v3 :: v2 :: v1 :: v0 :: zvr (some q) :: st) h = if (ph_K h q).1 % 1000 = 18 ∧ zcat st ≤ 8 then zk kX4_readLink 175 178 L st (mX4_afterLink [zvr (some q), v0, v1, v2, v3] h) else none) ∧
  (∀ (a : Int) (L st : List ZV) (h : PH), zev kX4_readLink 178 L (zvi a :: st) h = if a ≠ 0 then zev kX4_readLink 183 L st h else zev kX4_readLink 181 L st h) ∧
  (∀ (L st : List ZV) (h : PH), zev kX4_readLink 181 L st h = zev kX4_readLink 182 L (zvi 0 :: st) h) ∧
  (∀ (a : Int) (L : List ZV) (h : PH), zev kX4_readLink 182 L [zvi a] h = if a = 0 ∨ a = 1 then zrv (zvi a) h else none) ∧
  (∀ (a : Option Nat) (L st : List ZV) (h : PH), zev kX4_readLink 183 (zvr a :: L) st h = zev kX4_readLink 184 (zvr a :: L) (zvr a :: st) h) ∧
  (∀ (q : Nat) (L st : List ZV) (h : PH), zev kX4_readLink 184 L (zvr (some q) :: st) h = if (ph_K h q).1 % 1000 = 18 then zev kX4_readLink 187 L (zvr (ph_R h q 7) :: st) h else none) ∧
  (∀ (L st : List ZV) (h : PH), zev kX4_readLink 187 L st h = zev kX4_readLink 188 L (zvi 4 :: st) h) ∧
  (∀ (j : Int) (q : Nat) (L st : List ZV) (h : PH), zev kX4_readLink 188 L (zvi j :: zvr (some q) :: st) h = if (ph_K h q).1 % 1000 = 1 ∧ 0 ≤ j ∧ j < (ph_K h q).2 then zev kX4_readLink 189 L (zvi (ph_I h q j) :: st) h else none) ∧
  (∀ (a : Option Nat) (L st : List ZV) (h : PH), zev kX4_readLink 189 (zvr a :: L) st h = zev kX4_readLink 190 (zvr a :: L) (zvr a :: st) h) ∧
  (∀ (q : Nat) (L st : List ZV) (h : PH), zev kX4_readLink 190 L (zvr (some q) :: st) h = if (ph_K h q).1 % 1000 = 18 then zev kX4_readLink 193 L (zvr (ph_R h q 22) :: st) h else none) ∧
  (∀ (L st : List ZV) (h : PH), zev kX4_readLink 193 L st h = zev kX4_readLink 194 L (zvi 4 :: st) h) ∧
  (∀ (j : Int) (q : Nat) (L st : List ZV) (h : PH), zev kX4_readLink 194 L (zvi j :: zvr (some q) :: st) h = if (ph_K h q).1 % 1000 = 1 ∧ 0 ≤ j ∧ j < (ph_K h q).2 then zev kX4_readLink 195 L (zvi (ph_I h q j) :: st) h else none) ∧
  (∀ (a : Option Nat) (L st : List ZV) (h : PH), zev kX4_readLink 195 (zvr a :: L) st h = zev kX4_readLink 196 (zvr a :: L) (zvr a :: st) h) ∧
  (∀ (q : Nat) (L st : List ZV) (h : PH), zev kX4_readLink 196 L (zvr (some q) :: st) h = if (ph_K h q).1 % 1000 = 18 then zev kX4_readLink 199 L (zvr (ph_R h q 22) :: st) h else none) ∧
  (∀ (L st : List ZV) (h : PH), zev kX4_readLink 199 L st h = zev kX4_readLink 200 L (zvi 3 :: st) h) ∧
  (∀ (j : Int) (q : Nat) (L st : List ZV) (h : PH), zev kX4_readLink 200 L (zvi j :: zvr (some q) :: st) h = if (ph_K h q).1 % 1000 = 1 ∧ 0 ≤ j ∧ j < (ph_K h q).2 then zev kX4_readLink 201 L (zvi (ph_I h q j) :: st) h else none) ∧
  (∀ (a b : Int) (L st : List ZV) (h : PH), zev kX4_readLink 201 L (zvi b :: zvi a :: st) h = zev kX4_readLink 202 L (zvi (w32 (a - b)) :: st) h) ∧
  (∀ (a : Option Nat) (L st : List ZV) (h : PH), zev kX4_readLink 202 (zvr a :: L) st h = zev kX4_readLink 203 (zvr a :: L) (zvr a :: st) h) ∧
  (∀ (q : Nat) (L st : List ZV) (h : PH), zev kX4_readLink 203 L (zvr (some q) :: st) h = if (ph_K h q).1 % 1000 = 18 then zev kX4_readLink 206 L (zvr (ph_R h q 22) :: st) h else none) ∧
  (∀ (L st : List ZV) (h : PH), zev kX4_readLink 206 L st h = zev kX4_readLink 207 L (zvi 5 :: st) h) ∧
  (∀ (j : Int) (q : Nat) (L st : List ZV) (h : PH), zev kX4_readLink 207 L (zvi j :: zvr (some q) :: st) h = if (ph_K h q).1 % 1000 = 1 ∧ 0 ≤ j ∧ j < (ph_K h q).2 then zev kX4_readLink 208 L (zvi (ph_I h q j) :: st) h else none) ∧
  (∀ (a b : Int) (L st : List ZV) (h : PH), zev kX4_readLink 208 L (zvi b :: zvi a :: st) h = if b = 0 then none else zev kX4_readLink 209 L (zvi (w32 (Int.tdiv a b)) :: st) h) ∧
  (∀ (a b : Int) (L st : List ZV) (h : PH), zev kX4_readLink 209 L (zvi b :: zvi a :: st) h = zev kX4_readLink 210 L (zvi (w32 (a + b)) :: st) h) ∧
  (∀ (L st : List ZV) (h : PH), zev kX4_readLink 210 L st h = zev kX4_readLink 211 L (zvi 1 :: st) h) ∧
  (∀ (a b : Int) (L st : List ZV) (h : PH), zev kX4_readLink 211 L (zvi b :: zvi a :: st) h = zev kX4_readLink 212 L (zvi (w32 (a + b)) :: st) h) ∧
  (∀ (L st : List ZV) (h : PH), zev kX4_readLink 212 L st h = zev kX4_readLink 214 L (zvi 120 :: st) h) ∧
  (∀ (a b : Int) (L st : List ZV) (h : PH), zev kX4_readLink 214 L (zvi b :: zvi a :: st) h = if a ≤ b then zev kX4_readLink 223 L st h else zev kX4_readLink 217 L st h) ∧
  (∀ (a : Option Nat) (L st : List ZV) (h : PH), zev kX4_readLink 217 (zvr a :: L) st h = zev kX4_readLink 218 (zvr a :: L) (zvr a :: st) h) ∧
  (∀ (L st : List ZV) (h : PH), zev kX4_readLink 218 L st h = zev kX4_readLink 219 L (zvi 5 :: st) h) ∧
  (∀ (v0 : ZV) (q : Nat) (L st : List ZV) (h : PH), zev kX4_readLink 219 L (v0 :: zvr (some q) :: st) h = if (ph_K h q).1 % 1000 = 18 ∧ zcat st ≤ 8 then zk kX4_readLink 219 222 L st (mX4_errs [zvr (some q), v0] h) else none) ∧
  (∀ (a : Int) (L : List ZV) (h : PH), zev kX4_readLink 222 L [zvi a] h = if a = 0 ∨ a = 1 then zrv (zvi a) h else none) ∧
  (∀ (a : Option Nat) (L st : List ZV) (h : PH), zev kX4_readLink 223 (zvr a :: L) st h = zev kX4_readLink 224 (zvr a :: L) (zvr a :: st) h) ∧
  (∀ (q : Nat) (L st : List ZV) (h : PH), zev kX4_readLink 224 L (zvr (some q) :: st) h = if (ph_K h q).1 % 1000 = 18 ∧ zcat st ≤ 8 then zk kX4_readLink 224 227 L st (mX4_goesOn [zvr (some q)] h) else none) ∧
  (∀ (a : Option Nat) (L st : List ZV) (h : PH), zev kX4_readLink 227 (zvr a :: L) st h = zev kX4_readLink 228 (zvr a :: L) (zvr a :: st) h) ∧
  (∀ (L st : List ZV) (h : PH), zev kX4_readLink 228 L st h = zev kX4_readLink 230 L (zvr (some 1000000020) :: st) h) ∧
  (∀ (L st : List ZV) (h : PH), zev kX4_readLink 230 L st h = zev kX4_readLink 232 L (zvi 6 :: st) h) ∧
  (∀ (L st : List ZV) (h : PH), zev kX4_readLink 232 L st h = zev kX4_readLink 233 L (zvi 1 :: st) h) ∧
  (∀ (L st : List ZV) (h : PH), zev kX4_readLink 233 L st h = zev kX4_readLink 235 L (zvi 99 :: st) h) ∧
  (∀ (v0 v1 v2 v3 : ZV) (q : Nat) (L st : List ZV) (h : PH), zev kX4_readLink 235 L (v3 :: v2 :: v1 :: v0 :: zvr (some q) :: st) h = if (ph_K h q).1 % 1000 = 18 ∧ zcat st ≤ 8 then zk kX4_readLink 235 238 L st (mX4_afterLink [zvr (some q), v0, v1, v2, v3] h) else none) ∧
  (∀ (a : Int) (L st : List ZV) (h : PH), zev kX4_readLink 238 L (zvi a :: st) h = if a ≠ 0 then zev kX4_readLink 243 L st h else zev kX4_readLink 241 L st h) ∧
  (∀ (L st : List ZV) (h : PH), zev kX4_readLink 241 L st h = zev kX4_readLink 242 L (zvi 0 :: st) h) ∧
  (∀ (a : Int) (L : List ZV) (h : PH), zev kX4_readLink 242 L [zvi a] h = if a = 0 ∨ a = 1 then zrv (zvi a) h else none) ∧
  (∀ (a : Option Nat) (L st : List ZV) (h : PH), zev kX4_readLink 243 (zvr a :: L) st h = zev kX4_readLink 244 (zvr a :: L) (zvr a :: st) h) ∧
  (∀ (q : Nat) (L st : List ZV) (h : PH), zev kX4_readLink 244 L (zvr (some q) :: st) h = if (ph_K h q).1 % 1000 = 18 ∧ zcat st ≤ 8 then zk kX4_readLink 244 247 L st (mX4_goesOn [zvr (some q)] h) else none) ∧
  (∀ (a : Option Nat) (L st : List ZV) (h : PH), zev kX4_readLink 247 (zvr a :: L) st h = zev kX4_readLink 248 (zvr a :: L) (zvr a :: st) h) ∧
  (∀ (q : Nat) (L st : List ZV) (h : PH), zev kX4_readLink 248 L (zvr (some q) :: st) h = if (ph_K h q).1 % 1000 = 18 then zev kX4_readLink 251 L (zvr (ph_R h q 22) :: st) h else none) ∧
  (∀ (L st : List ZV) (h : PH), zev kX4_readLink 251 L st h = zev kX4_readLink 252 L (zvi 3 :: st) h) ∧
  (∀ (j : Int) (q : Nat) (L st : List ZV) (h : PH), zev kX4_readLink 252 L (zvi j :: zvr (some q) :: st) h = if (ph_K h q).1 % 1000 = 1 ∧ 0 ≤ j ∧ j < (ph_K h q).2 then zev kX4_readLink 253 L (zvi (ph_I h q j) :: st) h else none) ∧
  (∀ (x0 x1 : ZV) (a : Int) (L st : List ZV) (h : PH) (hx : zisL x0 = false) , zev kX4_readLink 253 (x0 :: x1 :: L) (zvi a :: st) h = zev kX4_readLink 254 (x0 :: zvi a :: L) st h) ∧
  (∀ (a : Option Nat) (L st : List ZV) (h : PH), zev kX4_readLink 255 (zvr a :: L) st h = zev kX4_readLink 256 (zvr a :: L) (zvr a :: st) h) ∧
  (∀ (q : Nat) (L st : List ZV) (h : PH), zev kX4_readLink 256 L (zvr (some q) :: st) h = if (ph_K h q).1 % 1000 = 18 then zev kX4_readLink 259 L (zvr (ph_R h q 22) :: st) h else none) ∧
  (∀ (L st : List ZV) (h : PH), zev kX4_readLink 259 L st h = zev kX4_readLink 260 L (zvi 4 :: st) h) ∧
  (∀ (j : Int) (q : Nat) (L st : List ZV) (h : PH), zev kX4_readLink 260 L (zvi j :: zvr (some q) :: st) h = if (ph_K h q).1 % 1000 = 1 ∧ 0 ≤ j ∧ j < (ph_K h q).2 then zev kX4_readLink 261 L (zvi (ph_I h q j) :: st) h else none) ∧
  (∀ (a b : Int) (L st : List ZV) (h : PH), zev kX4_readLink 261 L (zvi b :: zvi a :: st) h = if a > b then zev kX4_readLink 315 L st h else zev kX4_readLink 264 L st h) ∧
  (∀ (a : Option Nat) (L st : List ZV) (h : PH), zev kX4_readLink 264 (zvr a :: L) st h = zev kX4_readLink 265 (zvr a :: L) (zvr a :: st) h) ∧
  (∀ (q : Nat) (L st : List ZV) (h : PH), zev kX4_readLink 265 L (zvr (some q) :: st) h = if (ph_K h q).1 % 1000 = 18 then zev kX4_readLink 268 L (zvr (ph_R h q 7) :: st) h else none) ∧
  (∀ (a : Option Nat) (L st : List ZV) (h : PH), zev kX4_readLink 268 (zvr a :: L) st h = zev kX4_readLink 269 (zvr a :: L) (zvr a :: st) h) ∧
  (∀ (q : Nat) (L st : List ZV) (h : PH), zev kX4_readLink 269 L (zvr (some q) :: st) h = if (ph_K h q).1 % 1000 = 18 then zev kX4_readLink 272 L (zvr (ph_R h q 22) :: st) h else none) ∧
  (∀ (L st : List ZV) (h : PH), zev kX4_readLink 272 L st h = zev kX4_readLink 273 L (zvi 0 :: st) h) ∧
  (∀ (j : Int) (q : Nat) (L st : List ZV) (h : PH), zev kX4_readLink 273 L (zvi j :: zvr (some q) :: st) h = if (ph_K h q).1 % 1000 = 1 ∧ 0 ≤ j ∧ j < (ph_K h q).2 then zev kX4_readLink 274 L (zvi (ph_I h q j) :: st) h else none) ∧
  (∀ (a : Option Nat) (L st : List ZV) (h : PH), zev kX4_readLink 274 (zvr a :: L) st h = zev kX4_readLink 275 (zvr a :: L) (zvr a :: st) h) ∧
  (∀ (q : Nat) (L st : List ZV) (h : PH), zev kX4_readLink 275 L (zvr (some q) :: st) h = if (ph_K h q).1 % 1000 = 18 then zev kX4_readLink 278 L (zvr (ph_R h q 22) :: st) h else none) ∧
  (∀ (L st : List ZV) (h : PH), zev kX4_readLink 278 L st h = zev kX4_readLink 279 L (zvi 1 :: st) h) ∧
  (∀ (j : Int) (q : Nat) (L st : List ZV) (h : PH), zev kX4_readLink 279 L (zvi j :: zvr (some q) :: st) h = if (ph_K h q).1 % 1000 = 1 ∧ 0 ≤ j ∧ j < (ph_K h q).2 then zev kX4_readLink 280 L (zvi (ph_I h q j) :: st) h else none) ∧
  (∀ (a : Option Nat) (L st : List ZV) (h : PH), zev kX4_readLink 280 (zvr a :: L) st h = zev kX4_readLink 281 (zvr a :: L) (zvr a :: st) h) ∧
  (∀ (q : Nat) (L st : List ZV) (h : PH), zev kX4_readLink 281 L (zvr (some q) :: st) h = if (ph_K h q).1 % 1000 = 18 then zev kX4_readLink 284 L (zvr (ph_R h q 22) :: st) h else none) ∧
  (∀ (L st : List ZV) (h : PH), zev kX4_readLink 284 L st h = zev kX4_readLink 285 L (zvi 2 :: st) h) ∧
  (∀ (j : Int) (q : Nat) (L st : List ZV) (h : PH), zev kX4_readLink 285 L (zvi j :: zvr (some q) :: st) h = if (ph_K h q).1 % 1000 = 1 ∧ 0 ≤ j ∧ j < (ph_K h q).2 then zev kX4_readLink 286 L (zvi (ph_I h q j) :: st) h else none) ∧
  (∀ (x0 : ZV) (a : Int) (L st : List ZV) (h : PH), zev kX4_readLink 286 (x0 :: zvi a :: L) st h = zev kX4_readLink 287 (x0 :: zvi a :: L) (zvi a :: st) h) ∧
  (∀ (a : Option Nat) (L st : List ZV) (h : PH), zev kX4_readLink 287 (zvr a :: L) st h = zev kX4_readLink 288 (zvr a :: L) (zvr a :: st) h) ∧
  (∀ (q : Nat) (L st : List ZV) (h : PH), zev kX4_readLink 288 L (zvr (some q) :: st) h = if (ph_K h q).1 % 1000 = 18 then zev kX4_readLink 291 L (zvr (ph_R h q 22) :: st) h else none) ∧
  (∀ (L st : List ZV) (h : PH), zev kX4_readLink 291 L st h = zev kX4_readLink 293 L (zvi 6 :: st) h) ∧
  (∀ (j : Int) (q : Nat) (L st : List ZV) (h : PH), zev kX4_readLink 293 L (zvi j :: zvr (some q) :: st) h = if (ph_K h q).1 % 1000 = 1 ∧ 0 ≤ j ∧ j < (ph_K h q).2 then zev kX4_readLink 294 L (zvi (ph_I h q j) :: st) h else none) ∧
  (∀ (a : Option Nat) (L st : List ZV) (h : PH), zev kX4_readLink 294 (zvr a :: L) st h = zev kX4_readLink 295 (zvr a :: L) (zvr a :: st) h) ∧
  (∀ (q : Nat) (L st : List ZV) (h : PH), zev kX4_readLink 295 L (zvr (some q) :: st) h = if (ph_K h q).1 % 1000 = 18 then zev kX4_readLink 298 L (zvr (ph_R h q 7) :: st) h else none) ∧
  (∀ (L st : List ZV) (h : PH), zev kX4_readLink 298 L st h = zev kX4_readLink 299 L (zvi 3 :: st) h) ∧
  (∀ (j : Int) (q : Nat) (L st : List ZV) (h : PH), zev kX4_readLink 299 L (zvi j :: zvr (some q) :: st) h = if (ph_K h q).1 % 1000 = 1 ∧ 0 ≤ j ∧ j < (ph_K h q).2 then zev kX4_readLink 300 L (zvi (ph_I h q j) :: st) h else none) ∧
  (∀ (v0 v1 v2 v3 v4 v5 v6 : ZV) (L st : List ZV) (h : PH), zev kX4_readLink 300 L (v6 :: v5 :: v4 :: v3 :: v2 :: v1 :: v0 :: st) h = if zcat st ≤ 8 then zk kX4_readLink 300 303 L st (mX4_lays_2 [v0, v1, v2, v3, v4, v5, v6] h) else none) ∧
  (∀ (x0 : ZV) (a : Int) (L st : List ZV) (h : PH), zev kX4_readLink 303 (x0 :: zvi a :: L) st h = zev kX4_readLink 304 (x0 :: zvi a :: L) (zvi a :: st) h) ∧
  (∀ (a : Option Nat) (L st : List ZV) (h : PH), zev kX4_readLink 304 (zvr a :: L) st h = zev kX4_readLink 305 (zvr a :: L) (zvr a :: st) h) ∧
  (∀ (q : Nat) (L st : List ZV) (h : PH), zev kX4_readLink 305 L (zvr (some q) :: st) h = if (ph_K h q).1 % 1000 = 18 then zev kX4_readLink 308 L (zvr (ph_R h q 22) :: st) h else none) ∧
  (∀ (L st : List ZV) (h : PH), zev kX4_readLink 308 L st h = zev kX4_readLink 309 L (zvi 5 :: st) h) ∧
  (∀ (j : Int) (q : Nat) (L st : List ZV) (h : PH), zev kX4_readLink 309 L (zvi j :: zvr (some q) :: st) h = if (ph_K h q).1 % 1000 = 1 ∧ 0 ≤ j ∧ j < (ph_K h q).2 then zev kX4_readLink 310 L (zvi (ph_I h q j) :: st) h else none) ∧
  (∀ (a b : Int) (L st : List ZV) (h : PH), zev kX4_readLink 310 L (zvi b :: zvi a :: st) h = zev kX4_readLink 311 L (zvi (w32 (a + b)) :: st) h) ∧
  (∀ (x0 x1 : ZV) (a : Int) (L st : List ZV) (h : PH) (hx : zisL x0 = false) , zev kX4_readLink 311 (x0 :: x1 :: L) (zvi a :: st) h = zev kX4_readLink 312 (x0 :: zvi a :: L) st h) ∧
  (∀ (L st : List ZV) (h : PH), zev kX4_readLink 312 L st h = zev kX4_readLink 254 L st h) ∧
  (∀ (a : Option Nat) (L st : List ZV) (h : PH), zev kX4_readLink 315 (zvr a :: L) st h = zev kX4_readLink 316 (zvr a :: L) (zvr a :: st) h) ∧
  (∀ (q : Nat) (L st : List ZV) (h : PH), zev kX4_readLink 316 L (zvr (some q) :: st) h = if (ph_K h q).1 % 1000 = 18 then zev kX4_readLink 319 L (zvr (ph_R h q 7) :: st) h else none) ∧
  (∀ (L st : List ZV) (h : PH), zev kX4_readLink 319 L st h = zev kX4_readLink 320 L (zvi 3 :: st) h) ∧
  (∀ (a : Int) (b : Int) (L st : List ZV) (h : PH), zev kX4_readLink 320 L (zvi a :: zvi b :: st) h = zev kX4_readLink 321 L (zvi a :: zvi b :: zvi a :: zvi b :: st) h) ∧
  (∀ (a : Int) (b : Option Nat) (L st : List ZV) (h : PH), zev kX4_readLink 320 L (zvi a :: zvr b :: st) h = zev kX4_readLink 321 L (zvi a :: zvr b :: zvi a :: zvr b :: st) h) ∧
  (∀ (a : Option Nat) (b : Int) (L st : List ZV) (h : PH), zev kX4_readLink 320 L (zvr a :: zvi b :: st) h = zev kX4_readLink 321 L (zvr a :: zvi b :: zvr a :: zvi b :: st) h) ∧
  (∀ (a : Option Nat) (b : Option Nat) (L st : List ZV) (h : PH), zev kX4_readLink 320 L (zvr a :: zvr b :: st) h = zev kX4_readLink 321 L (zvr a :: zvr b :: zvr a :: zvr b :: st) h) ∧
  (∀ (j : Int) (q : Nat) (L st : List ZV) (h : PH), zev kX4_readLink 321 L (zvi j :: zvr (some q) :: st) h = if (ph_K h q).1 % 1000 = 1 ∧ 0 ≤ j ∧ j < (ph_K h q).2 then zev kX4_readLink 322 L (zvi (ph_I h q j) :: st) h else none) ∧
  (∀ (L st : List ZV) (h : PH), zev kX4_readLink 322 L st h = zev kX4_readLink 323 L (zvi 1 :: st) h) ∧
  (∀ (a b : Int) (L st : List ZV) (h : PH), zev kX4_readLink 323 L (zvi b :: zvi a :: st) h = zev kX4_readLink 324 L (zvi (w32 (a + b)) :: st) h) ∧
  (∀ (x j : Int) (q : Nat) (L st : List ZV) (h : PH), zev kX4_readLink 324 L (zvi x :: zvi j :: zvr (some q) :: st) h = if (ph_K h q).1 = 1 ∧ 0 ≤ j ∧ j < (ph_K h q).2 then zev kX4_readLink 325 L st (st_I h q j x) else none) ∧
  (∀ (L st : List ZV) (h : PH), zev kX4_readLink 325 L st h = zev kX4_readLink 326 L (zvi 1 :: st) h) ∧
  (∀ (a : Int) (L : List ZV) (h : PH), zev kX4_readLink 326 L [zvi a] h = if a = 0 ∨ a = 1 then zrv (zvi a) h else none) :=
  ⟨fun a L st h => e_ld0R (n := 1) rfl,
  fun a L st h => e_ld0R (n := 2) rfl,
  fun q L st h => e_getR (kd := 18) (k := 7) (n := 5) rfl,
  fun L st h => e_push (v := zvi 3) (n := 6) rfl,
  fun j q L st h => e_ald (kd := 1) (n := 7) rfl,
  fun L st h => e_push (v := zvi 12) (n := 9) rfl,
  fun a b L st h => e_cmpge (t := 16) (n := 12) rfl,
  fun L st h => e_push (v := zvi 1) (n := 13) rfl,
  fun L st h => e_goto (t := 17) rfl,
  fun L st h => e_push (v := zvi 0) (n := 17) rfl,
  fun v0 q L st h => e_callV2 (F := mX4_begins) (kd := 18) (n := 20) rfl,
  fun a L st h => e_ifeq (t := 41) (n := 23) rfl,
  fun a L st h => e_ld0R (n := 24) rfl,
  fun a L st h => e_ld0R (n := 25) rfl,
  fun q L st h => e_getR (kd := 18) (k := 21) (n := 28) rfl,
  fun a L st h => e_ld0R (n := 29) rfl,
  fun q L st h => e_getR (kd := 18) (k := 7) (n := 32) rfl,
  fun L st h => e_push (v := zvi 2) (n := 33) rfl,
  fun j q L st h => e_ald (kd := 1) (n := 34) rfl,
  fun L st h => e_push (v := zvi 0) (n := 35) rfl,
  fun v0 v1 v2 q L st h => e_callV4 (F := mX4_namesLink) (kd := 18) (n := 38) rfl,
  fun a L st h => e_ifne (t := 43) (n := 41) rfl,
  fun L st h => e_push (v := zvi 0) (n := 42) rfl,
  fun a L h => e_retz rfl,
  fun a L st h => e_ld0R (n := 44) rfl,
  fun q L st h => e_callV1 (F := mX4_goesOn) (kd := 18) (n := 47) rfl,
  fun a L st h => e_ld0R (n := 48) rfl,
  fun a L st h => e_ld0R (n := 49) rfl,
  fun q L st h => e_getR (kd := 18) (k := 20) (n := 52) rfl,
  fun a L st h => e_ld0R (n := 53) rfl,
  fun q L st h => e_getR (kd := 18) (k := 7) (n := 56) rfl,
  fun L st h => e_push (v := zvi 1) (n := 57) rfl,
  fun j q L st h => e_ald (kd := 1) (n := 58) rfl,
  fun L st h => e_push (v := zvi 1) (n := 59) rfl,
  fun v0 v1 v2 q L st h => e_callV4 (F := mX4_namesLink) (kd := 18) (n := 62) rfl,
  fun a L st h => e_ifne (t := 67) (n := 65) rfl,
  fun L st h => e_push (v := zvi 0) (n := 66) rfl,
  fun a L h => e_retz rfl,
  fun a L st h => e_ld0R (n := 68) rfl,
  fun q L st h => e_callV1 (F := mX4_goesOn) (kd := 18) (n := 71) rfl,
  fun a L st h => e_ld0R (n := 72) rfl,
  fun a L st h => e_ld0R (n := 73) rfl,
  fun q L st h => e_getR (kd := 18) (k := 20) (n := 76) rfl,
  fun a L st h => e_ld0R (n := 77) rfl,
  fun q L st h => e_getR (kd := 18) (k := 7) (n := 80) rfl,
  fun L st h => e_push (v := zvi 1) (n := 81) rfl,
  fun j q L st h => e_ald (kd := 1) (n := 82) rfl,
  fun L st h => e_push (v := zvi 2) (n := 83) rfl,
  fun v0 v1 v2 q L st h => e_callV4 (F := mX4_namesLink) (kd := 18) (n := 86) rfl,
  fun a L st h => e_ifne (t := 91) (n := 89) rfl,
  fun L st h => e_push (v := zvi 0) (n := 90) rfl,
  fun a L h => e_retz rfl,
  fun a L st h => e_ld0R (n := 92) rfl,
  fun q L st h => e_getR (kd := 18) (k := 22) (n := 95) rfl,
  fun L st h => e_push (v := zvi 1) (n := 96) rfl,
  fun j q L st h => e_ald (kd := 1) (n := 97) rfl,
  fun a L st h => e_ld0R (n := 98) rfl,
  fun q L st h => e_getR (kd := 18) (k := 22) (n := 101) rfl,
  fun L st h => e_push (v := zvi 2) (n := 102) rfl,
  fun j q L st h => e_ald (kd := 1) (n := 103) rfl,
  fun a b L st h => e_cmpne (t := 112) (n := 106) rfl,
  fun a L st h => e_ld0R (n := 107) rfl,
  fun L st h => e_push (v := zvi 3) (n := 108) rfl,
  fun v0 q L st h => e_callV2 (F := mX4_errs) (kd := 18) (n := 111) rfl,
  fun a L h => e_retz rfl,
  fun a L st h => e_ld0R (n := 113) rfl,
  fun q L st h => e_callV1 (F := mX4_goesOn) (kd := 18) (n := 116) rfl,
  fun a L st h => e_ld0R (n := 117) rfl,
  fun L st h => e_push (v := zvr (some 1000000017)) (n := 119) rfl,
  fun L st h => e_push (v := zvi 3) (n := 120) rfl,
  fun L st h => e_push (v := zvi 0) (n := 121) rfl,
  fun a L st h => e_ld0R (n := 122) rfl,
  fun q L st h => e_getR (kd := 18) (k := 7) (n := 125) rfl,
  fun L st h => e_push (v := zvi 0) (n := 126) rfl,
  fun j q L st h => e_ald (kd := 1) (n := 127) rfl,
  fun v0 v1 v2 v3 q L st h => e_callV5 (F := mX4_afterLink) (kd := 18) (n := 130) rfl,
  fun a L st h => e_ifne (t := 135) (n := 133) rfl,
  fun L st h => e_push (v := zvi 0) (n := 134) rfl,
  fun a L h => e_retz rfl,
  fun a L st h => e_ld0R (n := 136) rfl,
  fun q L st h => e_callV1 (F := mX4_goesOn) (kd := 18) (n := 139) rfl,
  fun a L st h => e_ld0R (n := 140) rfl,
  fun L st h => e_push (v := zvr (some 1000000018)) (n := 142) rfl,
  fun L st h => e_push (v := zvi 4) (n := 143) rfl,
  fun a L st h => e_ld0R (n := 144) rfl,
  fun q L st h => e_getR (kd := 18) (k := 22) (n := 147) rfl,
  fun L st h => e_push (v := zvi 3) (n := 148) rfl,
  fun j q L st h => e_ald (kd := 1) (n := 149) rfl,
  fun a L st h => e_ld0R (n := 150) rfl,
  fun q L st h => e_getR (kd := 18) (k := 7) (n := 153) rfl,
  fun L st h => e_push (v := zvi 0) (n := 154) rfl,
  fun j q L st h => e_ald (kd := 1) (n := 155) rfl,
  fun v0 v1 v2 v3 q L st h => e_callV5 (F := mX4_afterLink) (kd := 18) (n := 158) rfl,
  fun a L st h => e_ifne (t := 163) (n := 161) rfl,
  fun L st h => e_push (v := zvi 0) (n := 162) rfl,
  fun a L h => e_retz rfl,
  fun a L st h => e_ld0R (n := 164) rfl,
  fun q L st h => e_callV1 (F := mX4_goesOn) (kd := 18) (n := 167) rfl,
  fun a L st h => e_ld0R (n := 168) rfl,
  fun L st h => e_push (v := zvr (some 1000000019)) (n := 170) rfl,
  fun L st h => e_push (v := zvi 5) (n := 171) rfl,
  fun L st h => e_push (v := zvi 1) (n := 172) rfl,
  fun L st h => e_push (v := zvi 999) (n := 175) rfl,
  fun v0 v1 v2 v3 q L st h => e_callV5 (F := mX4_afterLink) (kd := 18) (n := 178) rfl,
  fun a L st h => e_ifne (t := 183) (n := 181) rfl,
  fun L st h => e_push (v := zvi 0) (n := 182) rfl,
  fun a L h => e_retz rfl,
  fun a L st h => e_ld0R (n := 184) rfl,
  fun q L st h => e_getR (kd := 18) (k := 7) (n := 187) rfl,
  fun L st h => e_push (v := zvi 4) (n := 188) rfl,
  fun j q L st h => e_ald (kd := 1) (n := 189) rfl,
  fun a L st h => e_ld0R (n := 190) rfl,
  fun q L st h => e_getR (kd := 18) (k := 22) (n := 193) rfl,
  fun L st h => e_push (v := zvi 4) (n := 194) rfl,
  fun j q L st h => e_ald (kd := 1) (n := 195) rfl,
  fun a L st h => e_ld0R (n := 196) rfl,
  fun q L st h => e_getR (kd := 18) (k := 22) (n := 199) rfl,
  fun L st h => e_push (v := zvi 3) (n := 200) rfl,
  fun j q L st h => e_ald (kd := 1) (n := 201) rfl,
  fun a b L st h => e_bin (f := (fun a b => w32 (a - b))) (n := 202) rfl,
  fun a L st h => e_ld0R (n := 203) rfl,
  fun q L st h => e_getR (kd := 18) (k := 22) (n := 206) rfl,
  fun L st h => e_push (v := zvi 5) (n := 207) rfl,
  fun j q L st h => e_ald (kd := 1) (n := 208) rfl,
  fun a b L st h => e_div (n := 209) rfl,
  fun a b L st h => e_bin (f := (fun a b => w32 (a + b))) (n := 210) rfl,
  fun L st h => e_push (v := zvi 1) (n := 211) rfl,
  fun a b L st h => e_bin (f := (fun a b => w32 (a + b))) (n := 212) rfl,
  fun L st h => e_push (v := zvi 120) (n := 214) rfl,
  fun a b L st h => e_cmple (t := 223) (n := 217) rfl,
  fun a L st h => e_ld0R (n := 218) rfl,
  fun L st h => e_push (v := zvi 5) (n := 219) rfl,
  fun v0 q L st h => e_callV2 (F := mX4_errs) (kd := 18) (n := 222) rfl,
  fun a L h => e_retz rfl,
  fun a L st h => e_ld0R (n := 224) rfl,
  fun q L st h => e_callV1 (F := mX4_goesOn) (kd := 18) (n := 227) rfl,
  fun a L st h => e_ld0R (n := 228) rfl,
  fun L st h => e_push (v := zvr (some 1000000020)) (n := 230) rfl,
  fun L st h => e_push (v := zvi 6) (n := 232) rfl,
  fun L st h => e_push (v := zvi 1) (n := 233) rfl,
  fun L st h => e_push (v := zvi 99) (n := 235) rfl,
  fun v0 v1 v2 v3 q L st h => e_callV5 (F := mX4_afterLink) (kd := 18) (n := 238) rfl,
  fun a L st h => e_ifne (t := 243) (n := 241) rfl,
  fun L st h => e_push (v := zvi 0) (n := 242) rfl,
  fun a L h => e_retz rfl,
  fun a L st h => e_ld0R (n := 244) rfl,
  fun q L st h => e_callV1 (F := mX4_goesOn) (kd := 18) (n := 247) rfl,
  fun a L st h => e_ld0R (n := 248) rfl,
  fun q L st h => e_getR (kd := 18) (k := 22) (n := 251) rfl,
  fun L st h => e_push (v := zvi 3) (n := 252) rfl,
  fun j q L st h => e_ald (kd := 1) (n := 253) rfl,
  fun x0 x1 a L st h hx => e_st1I (n := 254) rfl hx,
  fun a L st h => e_ld0R (n := 256) rfl,
  fun q L st h => e_getR (kd := 18) (k := 22) (n := 259) rfl,
  fun L st h => e_push (v := zvi 4) (n := 260) rfl,
  fun j q L st h => e_ald (kd := 1) (n := 261) rfl,
  fun a b L st h => e_cmpgt (t := 315) (n := 264) rfl,
  fun a L st h => e_ld0R (n := 265) rfl,
  fun q L st h => e_getR (kd := 18) (k := 7) (n := 268) rfl,
  fun a L st h => e_ld0R (n := 269) rfl,
  fun q L st h => e_getR (kd := 18) (k := 22) (n := 272) rfl,
  fun L st h => e_push (v := zvi 0) (n := 273) rfl,
  fun j q L st h => e_ald (kd := 1) (n := 274) rfl,
  fun a L st h => e_ld0R (n := 275) rfl,
  fun q L st h => e_getR (kd := 18) (k := 22) (n := 278) rfl,
  fun L st h => e_push (v := zvi 1) (n := 279) rfl,
  fun j q L st h => e_ald (kd := 1) (n := 280) rfl,
  fun a L st h => e_ld0R (n := 281) rfl,
  fun q L st h => e_getR (kd := 18) (k := 22) (n := 284) rfl,
  fun L st h => e_push (v := zvi 2) (n := 285) rfl,
  fun j q L st h => e_ald (kd := 1) (n := 286) rfl,
  fun x0 a L st h => e_ld1I (n := 287) rfl,
  fun a L st h => e_ld0R (n := 288) rfl,
  fun q L st h => e_getR (kd := 18) (k := 22) (n := 291) rfl,
  fun L st h => e_push (v := zvi 6) (n := 293) rfl,
  fun j q L st h => e_ald (kd := 1) (n := 294) rfl,
  fun a L st h => e_ld0R (n := 295) rfl,
  fun q L st h => e_getR (kd := 18) (k := 7) (n := 298) rfl,
  fun L st h => e_push (v := zvi 3) (n := 299) rfl,
  fun j q L st h => e_ald (kd := 1) (n := 300) rfl,
  fun v0 v1 v2 v3 v4 v5 v6 L st h => e_callS7 (F := mX4_lays_2) (n := 303) rfl,
  fun x0 a L st h => e_ld1I (n := 304) rfl,
  fun a L st h => e_ld0R (n := 305) rfl,
  fun q L st h => e_getR (kd := 18) (k := 22) (n := 308) rfl,
  fun L st h => e_push (v := zvi 5) (n := 309) rfl,
  fun j q L st h => e_ald (kd := 1) (n := 310) rfl,
  fun a b L st h => e_bin (f := (fun a b => w32 (a + b))) (n := 311) rfl,
  fun x0 x1 a L st h hx => e_st1I (n := 312) rfl hx,
  fun L st h => e_goto (t := 254) rfl,
  fun a L st h => e_ld0R (n := 316) rfl,
  fun q L st h => e_getR (kd := 18) (k := 7) (n := 319) rfl,
  fun L st h => e_push (v := zvi 3) (n := 320) rfl,
  fun a b L st h => e_dup2II (n := 321) rfl,
  fun a b L st h => e_dup2IR (n := 321) rfl,
  fun a b L st h => e_dup2RI (n := 321) rfl,
  fun a b L st h => e_dup2RR (n := 321) rfl,
  fun j q L st h => e_ald (kd := 1) (n := 322) rfl,
  fun L st h => e_push (v := zvi 1) (n := 323) rfl,
  fun a b L st h => e_bin (f := (fun a b => w32 (a + b))) (n := 324) rfl,
  fun x j q L st h => e_ast (n := 325) rfl,
  fun L st h => e_push (v := zvi 1) (n := 326) rfl,
  fun a L h => e_retz rfl⟩
theorem allX4_readLink : zall yX4_readLink cX4_readLink 2 (some .boolean) 9 kX4_readLink.1 :=
  ⟨k_aload_n dX4_readLink_0,
  k_aload_n dX4_readLink_1,
  k_getR (C := RX4) (T := TX4) (N := 42) (ci := 2) (k := 7) (ref := "LinkTimesModel") dX4_readLink_2 rfl in_X4 (by decide) q1806 (Or.inl rfl) (fun _ _ _ => rfl),
  k_iconst dX4_readLink_5,
  k_iald dX4_readLink_6,
  k_bipush dX4_readLink_7,
  k_cmpge (t := 16) dX4_readLink_9 (by decide),
  k_iconst dX4_readLink_12,
  k_goto (t := 17) dX4_readLink_13 (by decide),
  k_iconst dX4_readLink_16,
  k_callV (y2 := yX4_begins) (C := RX4) (T0 := TX4) (ci := 2) dX4_readLink_17 sndX4_begins rfl q1995 q1997 qs81 q137 q1998 (by decide +kernel) ⟨by decide, by decide⟩ (by decide) (by decide),
  k_ifeq (t := 41) dX4_readLink_20 (by decide),
  k_aload_n dX4_readLink_23,
  k_aload_n dX4_readLink_24,
  k_getR (C := RX4) (T := TX4) (N := 42) (ci := 2) (k := 21) (ref := "LinkTimesModel") dX4_readLink_25 rfl in_X4 (by decide) q1820 (Or.inl rfl) (fun _ _ _ => rfl),
  k_aload_n dX4_readLink_28,
  k_getR (C := RX4) (T := TX4) (N := 42) (ci := 2) (k := 7) (ref := "LinkTimesModel") dX4_readLink_29 rfl in_X4 (by decide) q1806 (Or.inl rfl) (fun _ _ _ => rfl),
  k_iconst dX4_readLink_32,
  k_iald dX4_readLink_33,
  k_iconst dX4_readLink_34,
  k_callV (y2 := yX4_namesLink) (C := RX4) (T0 := TX4) (ci := 2) dX4_readLink_35 sndX4_namesLink rfl q2028 q2030 qs87 q137 q2031 (by decide +kernel) ⟨by decide, by decide⟩ (by decide) (by decide),
  k_ifne (t := 43) dX4_readLink_38 (by decide),
  k_iconst dX4_readLink_41,
  k_zret dX4_readLink_42,
  k_aload_n dX4_readLink_43,
  k_callV (y2 := yX4_goesOn) (C := RX4) (T0 := TX4) (ci := 2) dX4_readLink_44 sndX4_goesOn rfl q1954 q1956 qs72 q137 q1957 (by decide +kernel) ⟨by decide, by decide⟩ (by decide) (by decide),
  k_aload_n dX4_readLink_47,
  k_aload_n dX4_readLink_48,
  k_getR (C := RX4) (T := TX4) (N := 42) (ci := 2) (k := 20) (ref := "LinkTimesModel") dX4_readLink_49 rfl in_X4 (by decide) q1819 (Or.inl rfl) (fun _ _ _ => rfl),
  k_aload_n dX4_readLink_52,
  k_getR (C := RX4) (T := TX4) (N := 42) (ci := 2) (k := 7) (ref := "LinkTimesModel") dX4_readLink_53 rfl in_X4 (by decide) q1806 (Or.inl rfl) (fun _ _ _ => rfl),
  k_iconst dX4_readLink_56,
  k_iald dX4_readLink_57,
  k_iconst dX4_readLink_58,
  k_callV (y2 := yX4_namesLink) (C := RX4) (T0 := TX4) (ci := 2) dX4_readLink_59 sndX4_namesLink rfl q2028 q2030 qs87 q137 q2031 (by decide +kernel) ⟨by decide, by decide⟩ (by decide) (by decide),
  k_ifne (t := 67) dX4_readLink_62 (by decide),
  k_iconst dX4_readLink_65,
  k_zret dX4_readLink_66,
  k_aload_n dX4_readLink_67,
  k_callV (y2 := yX4_goesOn) (C := RX4) (T0 := TX4) (ci := 2) dX4_readLink_68 sndX4_goesOn rfl q1954 q1956 qs72 q137 q1957 (by decide +kernel) ⟨by decide, by decide⟩ (by decide) (by decide),
  k_aload_n dX4_readLink_71,
  k_aload_n dX4_readLink_72,
  k_getR (C := RX4) (T := TX4) (N := 42) (ci := 2) (k := 20) (ref := "LinkTimesModel") dX4_readLink_73 rfl in_X4 (by decide) q1819 (Or.inl rfl) (fun _ _ _ => rfl),
  k_aload_n dX4_readLink_76,
  k_getR (C := RX4) (T := TX4) (N := 42) (ci := 2) (k := 7) (ref := "LinkTimesModel") dX4_readLink_77 rfl in_X4 (by decide) q1806 (Or.inl rfl) (fun _ _ _ => rfl),
  k_iconst dX4_readLink_80,
  k_iald dX4_readLink_81,
  k_iconst dX4_readLink_82,
  k_callV (y2 := yX4_namesLink) (C := RX4) (T0 := TX4) (ci := 2) dX4_readLink_83 sndX4_namesLink rfl q2028 q2030 qs87 q137 q2031 (by decide +kernel) ⟨by decide, by decide⟩ (by decide) (by decide),
  k_ifne (t := 91) dX4_readLink_86 (by decide),
  k_iconst dX4_readLink_89,
  k_zret dX4_readLink_90,
  k_aload_n dX4_readLink_91,
  k_getR (C := RX4) (T := TX4) (N := 42) (ci := 2) (k := 22) (ref := "LinkTimesModel") dX4_readLink_92 rfl in_X4 (by decide) q1821 (Or.inl rfl) (fun _ _ _ => rfl),
  k_iconst dX4_readLink_95,
  k_iald dX4_readLink_96,
  k_aload_n dX4_readLink_97,
  k_getR (C := RX4) (T := TX4) (N := 42) (ci := 2) (k := 22) (ref := "LinkTimesModel") dX4_readLink_98 rfl in_X4 (by decide) q1821 (Or.inl rfl) (fun _ _ _ => rfl),
  k_iconst dX4_readLink_101,
  k_iald dX4_readLink_102,
  k_cmpne (t := 112) dX4_readLink_103 (by decide),
  k_aload_n dX4_readLink_106,
  k_iconst dX4_readLink_107,
  k_callV (y2 := yX4_errs) (C := RX4) (T0 := TX4) (ci := 2) dX4_readLink_108 sndX4_errs rfl q1977 q1979 qs77 q137 q1980 (by decide +kernel) ⟨by decide, by decide⟩ (by decide) (by decide),
  k_zret dX4_readLink_111,
  k_aload_n dX4_readLink_112,
  k_callV (y2 := yX4_goesOn) (C := RX4) (T0 := TX4) (ci := 2) dX4_readLink_113 sndX4_goesOn rfl q1954 q1956 qs72 q137 q1957 (by decide +kernel) ⟨by decide, by decide⟩ (by decide) (by decide),
  k_aload_n dX4_readLink_116,
  k_ldcS (tx := "from") (i := 7) dX4_readLink_117 (by decide +kernel) (by decide),
  k_iconst dX4_readLink_119,
  k_iconst dX4_readLink_120,
  k_aload_n dX4_readLink_121,
  k_getR (C := RX4) (T := TX4) (N := 42) (ci := 2) (k := 7) (ref := "LinkTimesModel") dX4_readLink_122 rfl in_X4 (by decide) q1806 (Or.inl rfl) (fun _ _ _ => rfl),
  k_iconst dX4_readLink_125,
  k_iald dX4_readLink_126,
  k_callV (y2 := yX4_afterLink) (C := RX4) (T0 := TX4) (ci := 2) dX4_readLink_127 sndX4_afterLink rfl q2033 q2035 qs88 q137 q2036 (by decide +kernel) ⟨by decide, by decide⟩ (by decide) (by decide),
  k_ifne (t := 135) dX4_readLink_130 (by decide),
  k_iconst dX4_readLink_133,
  k_zret dX4_readLink_134,
  k_aload_n dX4_readLink_135,
  k_callV (y2 := yX4_goesOn) (C := RX4) (T0 := TX4) (ci := 2) dX4_readLink_136 sndX4_goesOn rfl q1954 q1956 qs72 q137 q1957 (by decide +kernel) ⟨by decide, by decide⟩ (by decide) (by decide),
  k_aload_n dX4_readLink_139,
  k_ldcS (tx := "till") (i := 8) dX4_readLink_140 (by decide +kernel) (by decide),
  k_iconst dX4_readLink_142,
  k_aload_n dX4_readLink_143,
  k_getR (C := RX4) (T := TX4) (N := 42) (ci := 2) (k := 22) (ref := "LinkTimesModel") dX4_readLink_144 rfl in_X4 (by decide) q1821 (Or.inl rfl) (fun _ _ _ => rfl),
  k_iconst dX4_readLink_147,
  k_iald dX4_readLink_148,
  k_aload_n dX4_readLink_149,
  k_getR (C := RX4) (T := TX4) (N := 42) (ci := 2) (k := 7) (ref := "LinkTimesModel") dX4_readLink_150 rfl in_X4 (by decide) q1806 (Or.inl rfl) (fun _ _ _ => rfl),
  k_iconst dX4_readLink_153,
  k_iald dX4_readLink_154,
  k_callV (y2 := yX4_afterLink) (C := RX4) (T0 := TX4) (ci := 2) dX4_readLink_155 sndX4_afterLink rfl q2033 q2035 qs88 q137 q2036 (by decide +kernel) ⟨by decide, by decide⟩ (by decide) (by decide),
  k_ifne (t := 163) dX4_readLink_158 (by decide),
  k_iconst dX4_readLink_161,
  k_zret dX4_readLink_162,
  k_aload_n dX4_readLink_163,
  k_callV (y2 := yX4_goesOn) (C := RX4) (T0 := TX4) (ci := 2) dX4_readLink_164 sndX4_goesOn rfl q1954 q1956 qs72 q137 q1957 (by decide +kernel) ⟨by decide, by decide⟩ (by decide) (by decide),
  k_aload_n dX4_readLink_167,
  k_ldcS (tx := "every") (i := 9) dX4_readLink_168 (by decide +kernel) (by decide),
  k_iconst dX4_readLink_170,
  k_iconst dX4_readLink_171,
  k_sipush dX4_readLink_172,
  k_callV (y2 := yX4_afterLink) (C := RX4) (T0 := TX4) (ci := 2) dX4_readLink_175 sndX4_afterLink rfl q2033 q2035 qs88 q137 q2036 (by decide +kernel) ⟨by decide, by decide⟩ (by decide) (by decide),
  k_ifne (t := 183) dX4_readLink_178 (by decide),
  k_iconst dX4_readLink_181,
  k_zret dX4_readLink_182,
  k_aload_n dX4_readLink_183,
  k_getR (C := RX4) (T := TX4) (N := 42) (ci := 2) (k := 7) (ref := "LinkTimesModel") dX4_readLink_184 rfl in_X4 (by decide) q1806 (Or.inl rfl) (fun _ _ _ => rfl),
  k_iconst dX4_readLink_187,
  k_iald dX4_readLink_188,
  k_aload_n dX4_readLink_189,
  k_getR (C := RX4) (T := TX4) (N := 42) (ci := 2) (k := 22) (ref := "LinkTimesModel") dX4_readLink_190 rfl in_X4 (by decide) q1821 (Or.inl rfl) (fun _ _ _ => rfl),
  k_iconst dX4_readLink_193,
  k_iald dX4_readLink_194,
  k_aload_n dX4_readLink_195,
  k_getR (C := RX4) (T := TX4) (N := 42) (ci := 2) (k := 22) (ref := "LinkTimesModel") dX4_readLink_196 rfl in_X4 (by decide) q1821 (Or.inl rfl) (fun _ _ _ => rfl),
  k_iconst dX4_readLink_199,
  k_iald dX4_readLink_200,
  k_isub dX4_readLink_201,
  k_aload_n dX4_readLink_202,
  k_getR (C := RX4) (T := TX4) (N := 42) (ci := 2) (k := 22) (ref := "LinkTimesModel") dX4_readLink_203 rfl in_X4 (by decide) q1821 (Or.inl rfl) (fun _ _ _ => rfl),
  k_iconst dX4_readLink_206,
  k_iald dX4_readLink_207,
  k_idiv dX4_readLink_208,
  k_iadd dX4_readLink_209,
  k_iconst dX4_readLink_210,
  k_iadd dX4_readLink_211,
  k_bipush dX4_readLink_212,
  k_cmple (t := 223) dX4_readLink_214 (by decide),
  k_aload_n dX4_readLink_217,
  k_iconst dX4_readLink_218,
  k_callV (y2 := yX4_errs) (C := RX4) (T0 := TX4) (ci := 2) dX4_readLink_219 sndX4_errs rfl q1977 q1979 qs77 q137 q1980 (by decide +kernel) ⟨by decide, by decide⟩ (by decide) (by decide),
  k_zret dX4_readLink_222,
  k_aload_n dX4_readLink_223,
  k_callV (y2 := yX4_goesOn) (C := RX4) (T0 := TX4) (ci := 2) dX4_readLink_224 sndX4_goesOn rfl q1954 q1956 qs72 q137 q1957 (by decide +kernel) ⟨by decide, by decide⟩ (by decide) (by decide),
  k_aload_n dX4_readLink_227,
  k_ldcS (tx := "takes") (i := 10) dX4_readLink_228 (by decide +kernel) (by decide),
  k_bipush dX4_readLink_230,
  k_iconst dX4_readLink_232,
  k_bipush dX4_readLink_233,
  k_callV (y2 := yX4_afterLink) (C := RX4) (T0 := TX4) (ci := 2) dX4_readLink_235 sndX4_afterLink rfl q2033 q2035 qs88 q137 q2036 (by decide +kernel) ⟨by decide, by decide⟩ (by decide) (by decide),
  k_ifne (t := 243) dX4_readLink_238 (by decide),
  k_iconst dX4_readLink_241,
  k_zret dX4_readLink_242,
  k_aload_n dX4_readLink_243,
  k_callV (y2 := yX4_goesOn) (C := RX4) (T0 := TX4) (ci := 2) dX4_readLink_244 sndX4_goesOn rfl q1954 q1956 qs72 q137 q1957 (by decide +kernel) ⟨by decide, by decide⟩ (by decide) (by decide),
  k_aload_n dX4_readLink_247,
  k_getR (C := RX4) (T := TX4) (N := 42) (ci := 2) (k := 22) (ref := "LinkTimesModel") dX4_readLink_248 rfl in_X4 (by decide) q1821 (Or.inl rfl) (fun _ _ _ => rfl),
  k_iconst dX4_readLink_251,
  k_iald dX4_readLink_252,
  k_istore_n dX4_readLink_253,
  k_iload_n dX4_readLink_254,
  k_aload_n dX4_readLink_255,
  k_getR (C := RX4) (T := TX4) (N := 42) (ci := 2) (k := 22) (ref := "LinkTimesModel") dX4_readLink_256 rfl in_X4 (by decide) q1821 (Or.inl rfl) (fun _ _ _ => rfl),
  k_iconst dX4_readLink_259,
  k_iald dX4_readLink_260,
  k_cmpgt (t := 315) dX4_readLink_261 (by decide),
  k_aload_n dX4_readLink_264,
  k_getR (C := RX4) (T := TX4) (N := 42) (ci := 2) (k := 7) (ref := "LinkTimesModel") dX4_readLink_265 rfl in_X4 (by decide) q1806 (Or.inl rfl) (fun _ _ _ => rfl),
  k_aload_n dX4_readLink_268,
  k_getR (C := RX4) (T := TX4) (N := 42) (ci := 2) (k := 22) (ref := "LinkTimesModel") dX4_readLink_269 rfl in_X4 (by decide) q1821 (Or.inl rfl) (fun _ _ _ => rfl),
  k_iconst dX4_readLink_272,
  k_iald dX4_readLink_273,
  k_aload_n dX4_readLink_274,
  k_getR (C := RX4) (T := TX4) (N := 42) (ci := 2) (k := 22) (ref := "LinkTimesModel") dX4_readLink_275 rfl in_X4 (by decide) q1821 (Or.inl rfl) (fun _ _ _ => rfl),
  k_iconst dX4_readLink_278,
  k_iald dX4_readLink_279,
  k_aload_n dX4_readLink_280,
  k_getR (C := RX4) (T := TX4) (N := 42) (ci := 2) (k := 22) (ref := "LinkTimesModel") dX4_readLink_281 rfl in_X4 (by decide) q1821 (Or.inl rfl) (fun _ _ _ => rfl),
  k_iconst dX4_readLink_284,
  k_iald dX4_readLink_285,
  k_iload_n dX4_readLink_286,
  k_aload_n dX4_readLink_287,
  k_getR (C := RX4) (T := TX4) (N := 42) (ci := 2) (k := 22) (ref := "LinkTimesModel") dX4_readLink_288 rfl in_X4 (by decide) q1821 (Or.inl rfl) (fun _ _ _ => rfl),
  k_bipush dX4_readLink_291,
  k_iald dX4_readLink_293,
  k_aload_n dX4_readLink_294,
  k_getR (C := RX4) (T := TX4) (N := 42) (ci := 2) (k := 7) (ref := "LinkTimesModel") dX4_readLink_295 rfl in_X4 (by decide) q1806 (Or.inl rfl) (fun _ _ _ => rfl),
  k_iconst dX4_readLink_298,
  k_iald dX4_readLink_299,
  k_callS (y2 := yX4_lays_2) dX4_readLink_300 sndX4_lays_2 q2044 q2045 q137 q2046 (by decide +kernel) ⟨by decide, by decide⟩ (by decide) (by decide),
  k_iload_n dX4_readLink_303,
  k_aload_n dX4_readLink_304,
  k_getR (C := RX4) (T := TX4) (N := 42) (ci := 2) (k := 22) (ref := "LinkTimesModel") dX4_readLink_305 rfl in_X4 (by decide) q1821 (Or.inl rfl) (fun _ _ _ => rfl),
  k_iconst dX4_readLink_308,
  k_iald dX4_readLink_309,
  k_iadd dX4_readLink_310,
  k_istore_n dX4_readLink_311,
  k_goto (t := 254) dX4_readLink_312 (by decide),
  k_aload_n dX4_readLink_315,
  k_getR (C := RX4) (T := TX4) (N := 42) (ci := 2) (k := 7) (ref := "LinkTimesModel") dX4_readLink_316 rfl in_X4 (by decide) q1806 (Or.inl rfl) (fun _ _ _ => rfl),
  k_iconst dX4_readLink_319,
  k_dup2 dX4_readLink_320,
  k_iald dX4_readLink_321,
  k_iconst dX4_readLink_322,
  k_iadd dX4_readLink_323,
  k_iast dX4_readLink_324,
  k_iconst dX4_readLink_325,
  k_zret dX4_readLink_326, trivial⟩
theorem sndX4_readLink : MSound 9 yX4_readLink (ws_ yX4_readLink cX4_readLink 2 (some .boolean)) mX4_readLink := msound_M (by decide) allX4_readLink (fun _ _ => rfl)
/-! LinkTimesModel.readLine()Z -/
noncomputable def kX4_readLine : ZM := ([(0, zi_ld 1 0 1), (1, zi_push (zvr (some 1000000010)) 3), (3, zi_callV mX4_isWord 18 2 6), (6, zi_if (fun a => zc_eq a 0) 14 9), (9, zi_ld 1 0 10), (10, zi_callV mX4_readDesk 18 1 13), (13, zi_retz), (14, zi_ld 1 0 15), (15, zi_push (zvr (some 1000000011)) 17), (17, zi_callV mX4_isWord 18 2 20), (20, zi_if (fun a => zc_eq a 0) 28 23), (23, zi_ld 1 0 24), (24, zi_callV mX4_readSpot 18 1 27), (27, zi_retz), (28, zi_ld 1 0 29), (29, zi_push (zvr (some 1000000012)) 31), (31, zi_callV mX4_isWord 18 2 34), (34, zi_if (fun a => zc_eq a 0) 42 37), (37, zi_ld 1 0 38), (38, zi_callV mX4_readOneLine 18 1 41), (41, zi_retz), (42, zi_ld 1 0 43), (43, zi_push (zvr (some 1000000013)) 45), (45, zi_callV mX4_isWord 18 2 48), (48, zi_if (fun a => zc_eq a 0) 58 51), (51, zi_ld 1 0 52), (52, zi_callV mX4_readLink 18 1 55), (55, zi_goto 63), (58, zi_ld 1 0 59), (59, zi_push (zvi 1) 60), (60, zi_callV mX4_errs 18 2 63), (63, zi_retz)], fun _ _ => none)
noncomputable def mX4_readLine : ZF := zrunM kX4_readLine 1
theorem enX4_readLine (x0 : Option Nat) (h : PH) : mX4_readLine [zvr x0] h = zev kX4_readLine 0 [zvr x0] [] h := zrunM_eq rfl rfl
theorem rX4_readLine : (∀ (a : Option Nat) (L st : List ZV) (h : PH), zev kX4_readLine 0 (zvr a :: L) st h = zev kX4_readLine 1 (zvr a :: L) (zvr a :: st) h) ∧
  (∀ (L st : List ZV) (h : PH), zev kX4_readLine 1 L st h = zev kX4_readLine 3 L (zvr (some 1000000010) :: st) h) ∧
  (∀ (v0 : ZV) (q : Nat) (L st : List ZV) (h : PH), zev kX4_readLine 3 L (v0 :: zvr (some q) :: st) h = if (ph_K h q).1 % 1000 = 18 ∧ zcat st ≤ 8 then zk kX4_readLine 3 6 L st (mX4_isWord [zvr (some q), v0] h) else none) ∧
  (∀ (a : Int) (L st : List ZV) (h : PH), zev kX4_readLine 6 L (zvi a :: st) h = if a = 0 then zev kX4_readLine 14 L st h else zev kX4_readLine 9 L st h) ∧
  (∀ (a : Option Nat) (L st : List ZV) (h : PH), zev kX4_readLine 9 (zvr a :: L) st h = zev kX4_readLine 10 (zvr a :: L) (zvr a :: st) h) ∧
  (∀ (q : Nat) (L st : List ZV) (h : PH), zev kX4_readLine 10 L (zvr (some q) :: st) h = if (ph_K h q).1 % 1000 = 18 ∧ zcat st ≤ 8 then zk kX4_readLine 10 13 L st (mX4_readDesk [zvr (some q)] h) else none) ∧
  (∀ (a : Int) (L : List ZV) (h : PH), zev kX4_readLine 13 L [zvi a] h = if a = 0 ∨ a = 1 then zrv (zvi a) h else none) ∧
  (∀ (a : Option Nat) (L st : List ZV) (h : PH), zev kX4_readLine 14 (zvr a :: L) st h = zev kX4_readLine 15 (zvr a :: L) (zvr a :: st) h) ∧
  (∀ (L st : List ZV) (h : PH), zev kX4_readLine 15 L st h = zev kX4_readLine 17 L (zvr (some 1000000011) :: st) h) ∧
  (∀ (v0 : ZV) (q : Nat) (L st : List ZV) (h : PH), zev kX4_readLine 17 L (v0 :: zvr (some q) :: st) h = if (ph_K h q).1 % 1000 = 18 ∧ zcat st ≤ 8 then zk kX4_readLine 17 20 L st (mX4_isWord [zvr (some q), v0] h) else none) ∧
  (∀ (a : Int) (L st : List ZV) (h : PH), zev kX4_readLine 20 L (zvi a :: st) h = if a = 0 then zev kX4_readLine 28 L st h else zev kX4_readLine 23 L st h) ∧
  (∀ (a : Option Nat) (L st : List ZV) (h : PH), zev kX4_readLine 23 (zvr a :: L) st h = zev kX4_readLine 24 (zvr a :: L) (zvr a :: st) h) ∧
  (∀ (q : Nat) (L st : List ZV) (h : PH), zev kX4_readLine 24 L (zvr (some q) :: st) h = if (ph_K h q).1 % 1000 = 18 ∧ zcat st ≤ 8 then zk kX4_readLine 24 27 L st (mX4_readSpot [zvr (some q)] h) else none) ∧
  (∀ (a : Int) (L : List ZV) (h : PH), zev kX4_readLine 27 L [zvi a] h = if a = 0 ∨ a = 1 then zrv (zvi a) h else none) ∧
  (∀ (a : Option Nat) (L st : List ZV) (h : PH), zev kX4_readLine 28 (zvr a :: L) st h = zev kX4_readLine 29 (zvr a :: L) (zvr a :: st) h) ∧
  (∀ (L st : List ZV) (h : PH), zev kX4_readLine 29 L st h = zev kX4_readLine 31 L (zvr (some 1000000012) :: st) h) ∧
  (∀ (v0 : ZV) (q : Nat) (L st : List ZV) (h : PH), zev kX4_readLine 31 L (v0 :: zvr (some q) :: st) h = if (ph_K h q).1 % 1000 = 18 ∧ zcat st ≤ 8 then zk kX4_readLine 31 34 L st (mX4_isWord [zvr (some q), v0] h) else none) ∧
  (∀ (a : Int) (L st : List ZV) (h : PH), zev kX4_readLine 34 L (zvi a :: st) h = if a = 0 then zev kX4_readLine 42 L st h else zev kX4_readLine 37 L st h) ∧
  (∀ (a : Option Nat) (L st : List ZV) (h : PH), zev kX4_readLine 37 (zvr a :: L) st h = zev kX4_readLine 38 (zvr a :: L) (zvr a :: st) h) ∧
  (∀ (q : Nat) (L st : List ZV) (h : PH), zev kX4_readLine 38 L (zvr (some q) :: st) h = if (ph_K h q).1 % 1000 = 18 ∧ zcat st ≤ 8 then zk kX4_readLine 38 41 L st (mX4_readOneLine [zvr (some q)] h) else none) ∧
  (∀ (a : Int) (L : List ZV) (h : PH), zev kX4_readLine 41 L [zvi a] h = if a = 0 ∨ a = 1 then zrv (zvi a) h else none) ∧
  (∀ (a : Option Nat) (L st : List ZV) (h : PH), zev kX4_readLine 42 (zvr a :: L) st h = zev kX4_readLine 43 (zvr a :: L) (zvr a :: st) h) ∧
  (∀ (L st : List ZV) (h : PH), zev kX4_readLine 43 L st h = zev kX4_readLine 45 L (zvr (some 1000000013) :: st) h) ∧
  (∀ (v0 : ZV) (q : Nat) (L st : List ZV) (h : PH), zev kX4_readLine 45 L (v0 :: zvr (some q) :: st) h = if (ph_K h q).1 % 1000 = 18 ∧ zcat st ≤ 8 then zk kX4_readLine 45 48 L st (mX4_isWord [zvr (some q), v0] h) else none) ∧
  (∀ (a : Int) (L st : List ZV) (h : PH), zev kX4_readLine 48 L (zvi a :: st) h = if a = 0 then zev kX4_readLine 58 L st h else zev kX4_readLine 51 L st h) ∧
  (∀ (a : Option Nat) (L st : List ZV) (h : PH), zev kX4_readLine 51 (zvr a :: L) st h = zev kX4_readLine 52 (zvr a :: L) (zvr a :: st) h) ∧
  (∀ (q : Nat) (L st : List ZV) (h : PH), zev kX4_readLine 52 L (zvr (some q) :: st) h = if (ph_K h q).1 % 1000 = 18 ∧ zcat st ≤ 8 then zk kX4_readLine 52 55 L st (mX4_readLink [zvr (some q)] h) else none) ∧
  (∀ (L st : List ZV) (h : PH), zev kX4_readLine 55 L st h = zev kX4_readLine 63 L st h) ∧
  (∀ (a : Option Nat) (L st : List ZV) (h : PH), zev kX4_readLine 58 (zvr a :: L) st h = zev kX4_readLine 59 (zvr a :: L) (zvr a :: st) h) ∧
  (∀ (L st : List ZV) (h : PH), zev kX4_readLine 59 L st h = zev kX4_readLine 60 L (zvi 1 :: st) h) ∧
  (∀ (v0 : ZV) (q : Nat) (L st : List ZV) (h : PH), zev kX4_readLine 60 L (v0 :: zvr (some q) :: st) h = if (ph_K h q).1 % 1000 = 18 ∧ zcat st ≤ 8 then zk kX4_readLine 60 63 L st (mX4_errs [zvr (some q), v0] h) else none) ∧
  (∀ (a : Int) (L : List ZV) (h : PH), zev kX4_readLine 63 L [zvi a] h = if a = 0 ∨ a = 1 then zrv (zvi a) h else none) :=
  ⟨fun a L st h => e_ld0R (n := 1) rfl,
  fun L st h => e_push (v := zvr (some 1000000010)) (n := 3) rfl,
  fun v0 q L st h => e_callV2 (F := mX4_isWord) (kd := 18) (n := 6) rfl,
  fun a L st h => e_ifeq (t := 14) (n := 9) rfl,
  fun a L st h => e_ld0R (n := 10) rfl,
  fun q L st h => e_callV1 (F := mX4_readDesk) (kd := 18) (n := 13) rfl,
  fun a L h => e_retz rfl,
  fun a L st h => e_ld0R (n := 15) rfl,
  fun L st h => e_push (v := zvr (some 1000000011)) (n := 17) rfl,
  fun v0 q L st h => e_callV2 (F := mX4_isWord) (kd := 18) (n := 20) rfl,
  fun a L st h => e_ifeq (t := 28) (n := 23) rfl,
  fun a L st h => e_ld0R (n := 24) rfl,
  fun q L st h => e_callV1 (F := mX4_readSpot) (kd := 18) (n := 27) rfl,
  fun a L h => e_retz rfl,
  fun a L st h => e_ld0R (n := 29) rfl,
  fun L st h => e_push (v := zvr (some 1000000012)) (n := 31) rfl,
  fun v0 q L st h => e_callV2 (F := mX4_isWord) (kd := 18) (n := 34) rfl,
  fun a L st h => e_ifeq (t := 42) (n := 37) rfl,
  fun a L st h => e_ld0R (n := 38) rfl,
  fun q L st h => e_callV1 (F := mX4_readOneLine) (kd := 18) (n := 41) rfl,
  fun a L h => e_retz rfl,
  fun a L st h => e_ld0R (n := 43) rfl,
  fun L st h => e_push (v := zvr (some 1000000013)) (n := 45) rfl,
  fun v0 q L st h => e_callV2 (F := mX4_isWord) (kd := 18) (n := 48) rfl,
  fun a L st h => e_ifeq (t := 58) (n := 51) rfl,
  fun a L st h => e_ld0R (n := 52) rfl,
  fun q L st h => e_callV1 (F := mX4_readLink) (kd := 18) (n := 55) rfl,
  fun L st h => e_goto (t := 63) rfl,
  fun a L st h => e_ld0R (n := 59) rfl,
  fun L st h => e_push (v := zvi 1) (n := 60) rfl,
  fun v0 q L st h => e_callV2 (F := mX4_errs) (kd := 18) (n := 63) rfl,
  fun a L h => e_retz rfl⟩
theorem allX4_readLine : zall yX4_readLine cX4_readLine 1 (some .boolean) 10 kX4_readLine.1 :=
  ⟨k_aload_n dX4_readLine_0,
  k_ldcS (tx := "desk") (i := 0) dX4_readLine_1 (by decide +kernel) (by decide),
  k_callV (y2 := yX4_isWord) (C := RX4) (T0 := TX4) (ci := 2) dX4_readLine_3 sndX4_isWord rfl q1967 q1969 qs75 q137 q1970 (by decide +kernel) ⟨by decide, by decide⟩ (by decide) (by decide),
  k_ifeq (t := 14) dX4_readLine_6 (by decide),
  k_aload_n dX4_readLine_9,
  k_callV (y2 := yX4_readDesk) (C := RX4) (T0 := TX4) (ci := 2) dX4_readLine_10 sndX4_readDesk rfl q1973 q1975 qs76 q137 q1976 (by decide +kernel) ⟨by decide, by decide⟩ (by decide) (by decide),
  k_zret dX4_readLine_13,
  k_aload_n dX4_readLine_14,
  k_ldcS (tx := "spot") (i := 1) dX4_readLine_15 (by decide +kernel) (by decide),
  k_callV (y2 := yX4_isWord) (C := RX4) (T0 := TX4) (ci := 2) dX4_readLine_17 sndX4_isWord rfl q1967 q1969 qs75 q137 q1970 (by decide +kernel) ⟨by decide, by decide⟩ (by decide) (by decide),
  k_ifeq (t := 28) dX4_readLine_20 (by decide),
  k_aload_n dX4_readLine_23,
  k_callV (y2 := yX4_readSpot) (C := RX4) (T0 := TX4) (ci := 2) dX4_readLine_24 sndX4_readSpot rfl q1991 q1993 qs80 q137 q1994 (by decide +kernel) ⟨by decide, by decide⟩ (by decide) (by decide),
  k_zret dX4_readLine_27,
  k_aload_n dX4_readLine_28,
  k_ldcS (tx := "line") (i := 2) dX4_readLine_29 (by decide +kernel) (by decide),
  k_callV (y2 := yX4_isWord) (C := RX4) (T0 := TX4) (ci := 2) dX4_readLine_31 sndX4_isWord rfl q1967 q1969 qs75 q137 q1970 (by decide +kernel) ⟨by decide, by decide⟩ (by decide) (by decide),
  k_ifeq (t := 42) dX4_readLine_34 (by decide),
  k_aload_n dX4_readLine_37,
  k_callV (y2 := yX4_readOneLine) (C := RX4) (T0 := TX4) (ci := 2) dX4_readLine_38 sndX4_readOneLine rfl q2020 q2022 qs85 q137 q2023 (by decide +kernel) ⟨by decide, by decide⟩ (by decide) (by decide),
  k_zret dX4_readLine_41,
  k_aload_n dX4_readLine_42,
  k_ldcS (tx := "link") (i := 3) dX4_readLine_43 (by decide +kernel) (by decide),
  k_callV (y2 := yX4_isWord) (C := RX4) (T0 := TX4) (ci := 2) dX4_readLine_45 sndX4_isWord rfl q1967 q1969 qs75 q137 q1970 (by decide +kernel) ⟨by decide, by decide⟩ (by decide) (by decide),
  k_ifeq (t := 58) dX4_readLine_48 (by decide),
  k_aload_n dX4_readLine_51,
  k_callV (y2 := yX4_readLink) (C := RX4) (T0 := TX4) (ci := 2) dX4_readLine_52 sndX4_readLink rfl q2024 q2026 qs86 q137 q2027 (by decide +kernel) ⟨by decide, by decide⟩ (by decide) (by decide),
  k_goto (t := 63) dX4_readLine_55 (by decide),
  k_aload_n dX4_readLine_58,
  k_iconst dX4_readLine_59,
  k_callV (y2 := yX4_errs) (C := RX4) (T0 := TX4) (ci := 2) dX4_readLine_60 sndX4_errs rfl q1977 q1979 qs77 q137 q1980 (by decide +kernel) ⟨by decide, by decide⟩ (by decide) (by decide),
  k_zret dX4_readLine_63, trivial⟩
theorem sndX4_readLine : MSound 10 yX4_readLine (ws_ yX4_readLine cX4_readLine 1 (some .boolean)) mX4_readLine := msound_M (by decide) allX4_readLine (fun _ _ => rfl)
/-! LinkTimesModel.readAll(I)Z -/
noncomputable def kX4_readAll : ZM := ([(0, zi_ld 1 0 1), (1, zi_ld 0 1 2), (2, zi_putI 18 12 5), (5, zi_ld 1 0 6), (6, zi_push (zvi 0) 7), (7, zi_putI 18 14 10), (10, zi_ld 1 0 11), (11, zi_push (zvi 0) 12), (12, zi_putZ 18 19 15), (15, zi_push (zvi 1) 16), (16, zi_st 0 2 17), (17, zi_ld 0 2 18), (18, zi_push (zvi 4) 19), (19, zi_cmp zc_gt 35 22), (22, zi_ld 1 0 23), (23, zi_getR 18 7 26), (26, zi_ld 0 2 27), (27, zi_push (zvi 0) 28), (28, zi_ast 29), (29, zi_iinc 2 1 32), (32, zi_goto 17), (35, zi_ld 1 0 36), (36, zi_callV mX4_goesOn 18 1 39), (39, zi_ld 1 0 40), (40, zi_callV mX4_readLine 18 1 43), (43, zi_if (fun a => zc_ne a 0) 48 46), (46, zi_push (zvi 0) 47), (47, zi_retz), (48, zi_ld 1 0 49), (49, zi_getI 18 15 52), (52, zi_push (zvi 59) 54), (54, zi_cmp zc_ne 70 57), (57, zi_ld 1 0 58), (58, zi_callV mX4_goesOn 18 1 61), (61, zi_ld 1 0 62), (62, zi_callV mX4_readLine 18 1 65), (65, zi_if (fun a => zc_ne a 0) 48 68), (68, zi_push (zvi 0) 69), (69, zi_retz), (70, zi_ld 1 0 71), (71, zi_getI 18 15 74), (74, zi_if (fun a => zc_eq a 0) 83 77), (77, zi_ld 1 0 78), (78, zi_push (zvi 1) 79), (79, zi_callV mX4_errs 18 2 82), (82, zi_retz), (83, zi_ld 1 0 84), (84, zi_getR 18 7 87), (87, zi_push (zvi 1) 88), (88, zi_ald 1 89), (89, zi_if (fun a => zc_gt a 0) 101 92), (92, zi_ld 1 0 93), (93, zi_push (zvi 6) 95), (95, zi_callV mX4_errs 18 2 98), (98, zi_if (fun a => zc_eq a 0) 105 101), (101, zi_push (zvi 1) 102), (102, zi_goto 106), (105, zi_push (zvi 0) 106), (106, zi_retz)], fun _ _ => none)
noncomputable def mX4_readAll : ZF := zrunM kX4_readAll 3
theorem enX4_readAll (x0 : Option Nat) (x1 : Int) (h : PH) : mX4_readAll [zvr x0, zvi x1] h = zev kX4_readAll 0 [zvr x0, zvi x1, zvu] [] h := zrunM_eq rfl rfl
theorem hdX4_readAll_17 (x0 x1 : ZV) (a : Int) (L st : List ZV) (h : PH) : zev kX4_readAll 17 (x0 :: x1 :: zvi a :: L) st h = zev kX4_readAll 18 (x0 :: x1 :: zvi a :: L) (zvi a :: st) h := e_ld2I (n := 18) rfl
theorem hdX4_readAll_48 (a : Option Nat) (L st : List ZV) (h : PH) : zev kX4_readAll 48 (zvr a :: L) st h = zev kX4_readAll 49 (zvr a :: L) (zvr a :: st) h := e_ld0R (n := 49) rfl
theorem rX4_readAll : (∀ (a : Option Nat) (L st : List ZV) (h : PH), zev kX4_readAll 0 (zvr a :: L) st h = zev kX4_readAll 1 (zvr a :: L) (zvr a :: st) h) ∧
  (∀ (x0 : ZV) (a : Int) (L st : List ZV) (h : PH), zev kX4_readAll 1 (x0 :: zvi a :: L) st h = zev kX4_readAll 2 (x0 :: zvi a :: L) (zvi a :: st) h) ∧
  (∀ (a : Int) (q : Nat) (L st : List ZV) (h : PH), zev kX4_readAll 2 L (zvi a :: zvr (some q) :: st) h = if (ph_K h q).1 = 18 then zev kX4_readAll 5 L st (st_I h q 12 a) else none) ∧
  (∀ (a : Option Nat) (L st : List ZV) (h : PH), zev kX4_readAll 5 (zvr a :: L) st h = zev kX4_readAll 6 (zvr a :: L) (zvr a :: st) h) ∧
  (∀ (L st : List ZV) (h : PH), zev kX4_readAll 6 L st h = zev kX4_readAll 7 L (zvi 0 :: st) h) ∧
  (∀ (a : Int) (q : Nat) (L st : List ZV) (h : PH), zev kX4_readAll 7 L (zvi a :: zvr (some q) :: st) h = if (ph_K h q).1 = 18 then zev kX4_readAll 10 L st (st_I h q 14 a) else none) ∧
  (∀ (a : Option Nat) (L st : List ZV) (h : PH), zev kX4_readAll 10 (zvr a :: L) st h = zev kX4_readAll 11 (zvr a :: L) (zvr a :: st) h) ∧
  (∀ (L st : List ZV) (h : PH), zev kX4_readAll 11 L st h = zev kX4_readAll 12 L (zvi 0 :: st) h) ∧
  (∀ (a : Int) (q : Nat) (L st : List ZV) (h : PH), zev kX4_readAll 12 L (zvi a :: zvr (some q) :: st) h = if (ph_K h q).1 = 18 ∧ (a = 0 ∨ a = 1) then zev kX4_readAll 15 L st (st_I h q 19 a) else none) ∧
  (∀ (L st : List ZV) (h : PH), zev kX4_readAll 15 L st h = zev kX4_readAll 16 L (zvi 1 :: st) h) ∧
  (∀ (x0 x1 x2 : ZV) (a : Int) (L st : List ZV) (h : PH) (hx : zisL x1 = false) , zev kX4_readAll 16 (x0 :: x1 :: x2 :: L) (zvi a :: st) h = zev kX4_readAll 17 (x0 :: x1 :: zvi a :: L) st h) ∧
  (∀ (L st : List ZV) (h : PH), zev kX4_readAll 18 L st h = zev kX4_readAll 19 L (zvi 4 :: st) h) ∧
  (∀ (a b : Int) (L st : List ZV) (h : PH), zev kX4_readAll 19 L (zvi b :: zvi a :: st) h = if a > b then zev kX4_readAll 35 L st h else zev kX4_readAll 22 L st h) ∧
  (∀ (a : Option Nat) (L st : List ZV) (h : PH), zev kX4_readAll 22 (zvr a :: L) st h = zev kX4_readAll 23 (zvr a :: L) (zvr a :: st) h) ∧
  (∀ (q : Nat) (L st : List ZV) (h : PH), zev kX4_readAll 23 L (zvr (some q) :: st) h = if (ph_K h q).1 % 1000 = 18 then zev kX4_readAll 26 L (zvr (ph_R h q 7) :: st) h else none) ∧
  (∀ (x0 x1 : ZV) (a : Int) (L st : List ZV) (h : PH), zev kX4_readAll 26 (x0 :: x1 :: zvi a :: L) st h = zev kX4_readAll 27 (x0 :: x1 :: zvi a :: L) (zvi a :: st) h) ∧
  (∀ (L st : List ZV) (h : PH), zev kX4_readAll 27 L st h = zev kX4_readAll 28 L (zvi 0 :: st) h) ∧
  (∀ (x j : Int) (q : Nat) (L st : List ZV) (h : PH), zev kX4_readAll 28 L (zvi x :: zvi j :: zvr (some q) :: st) h = if (ph_K h q).1 = 1 ∧ 0 ≤ j ∧ j < (ph_K h q).2 then zev kX4_readAll 29 L st (st_I h q j x) else none) ∧
  (∀ (x0 x1 : ZV) (a : Int) (L st : List ZV) (h : PH) (hx : zisL x1 = false) , zev kX4_readAll 29 (x0 :: x1 :: zvi a :: L) st h = zev kX4_readAll 32 (x0 :: x1 :: zvi (w32 (a + 1)) :: L) st h) ∧
  (∀ (L st : List ZV) (h : PH), zev kX4_readAll 32 L st h = zev kX4_readAll 17 L st h) ∧
  (∀ (a : Option Nat) (L st : List ZV) (h : PH), zev kX4_readAll 35 (zvr a :: L) st h = zev kX4_readAll 36 (zvr a :: L) (zvr a :: st) h) ∧
  (∀ (q : Nat) (L st : List ZV) (h : PH), zev kX4_readAll 36 L (zvr (some q) :: st) h = if (ph_K h q).1 % 1000 = 18 ∧ zcat st ≤ 8 then zk kX4_readAll 36 39 L st (mX4_goesOn [zvr (some q)] h) else none) ∧
  (∀ (a : Option Nat) (L st : List ZV) (h : PH), zev kX4_readAll 39 (zvr a :: L) st h = zev kX4_readAll 40 (zvr a :: L) (zvr a :: st) h) ∧
  (∀ (q : Nat) (L st : List ZV) (h : PH), zev kX4_readAll 40 L (zvr (some q) :: st) h = if (ph_K h q).1 % 1000 = 18 ∧ zcat st ≤ 8 then zk kX4_readAll 40 43 L st (mX4_readLine [zvr (some q)] h) else none) ∧
  (∀ (a : Int) (L st : List ZV) (h : PH), zev kX4_readAll 43 L (zvi a :: st) h = if a ≠ 0 then zev kX4_readAll 48 L st h else zev kX4_readAll 46 L st h) ∧
  (∀ (L st : List ZV) (h : PH), zev kX4_readAll 46 L st h = zev kX4_readAll 47 L (zvi 0 :: st) h) ∧
  (∀ (a : Int) (L : List ZV) (h : PH), zev kX4_readAll 47 L [zvi a] h = if a = 0 ∨ a = 1 then zrv (zvi a) h else none) ∧
  (∀ (q : Nat) (L st : List ZV) (h : PH), zev kX4_readAll 49 L (zvr (some q) :: st) h = if (ph_K h q).1 % 1000 = 18 then zev kX4_readAll 52 L (zvi (ph_I h q 15) :: st) h else none) ∧
  (∀ (L st : List ZV) (h : PH), zev kX4_readAll 52 L st h = zev kX4_readAll 54 L (zvi 59 :: st) h) ∧
  (∀ (a b : Int) (L st : List ZV) (h : PH), zev kX4_readAll 54 L (zvi b :: zvi a :: st) h = if a ≠ b then zev kX4_readAll 70 L st h else zev kX4_readAll 57 L st h) ∧
  (∀ (a : Option Nat) (L st : List ZV) (h : PH), zev kX4_readAll 57 (zvr a :: L) st h = zev kX4_readAll 58 (zvr a :: L) (zvr a :: st) h) ∧
  (∀ (q : Nat) (L st : List ZV) (h : PH), zev kX4_readAll 58 L (zvr (some q) :: st) h = if (ph_K h q).1 % 1000 = 18 ∧ zcat st ≤ 8 then zk kX4_readAll 58 61 L st (mX4_goesOn [zvr (some q)] h) else none) ∧
  (∀ (a : Option Nat) (L st : List ZV) (h : PH), zev kX4_readAll 61 (zvr a :: L) st h = zev kX4_readAll 62 (zvr a :: L) (zvr a :: st) h) ∧
  (∀ (q : Nat) (L st : List ZV) (h : PH), zev kX4_readAll 62 L (zvr (some q) :: st) h = if (ph_K h q).1 % 1000 = 18 ∧ zcat st ≤ 8 then zk kX4_readAll 62 65 L st (mX4_readLine [zvr (some q)] h) else none) ∧
  (∀ (a : Int) (L st : List ZV) (h : PH), zev kX4_readAll 65 L (zvi a :: st) h = if a ≠ 0 then zev kX4_readAll 48 L st h else zev kX4_readAll 68 L st h) ∧
  (∀ (L st : List ZV) (h : PH), zev kX4_readAll 68 L st h = zev kX4_readAll 69 L (zvi 0 :: st) h) ∧
  (∀ (a : Int) (L : List ZV) (h : PH), zev kX4_readAll 69 L [zvi a] h = if a = 0 ∨ a = 1 then zrv (zvi a) h else none) ∧
  (∀ (a : Option Nat) (L st : List ZV) (h : PH), zev kX4_readAll 70 (zvr a :: L) st h = zev kX4_readAll 71 (zvr a :: L) (zvr a :: st) h) ∧
  (∀ (q : Nat) (L st : List ZV) (h : PH), zev kX4_readAll 71 L (zvr (some q) :: st) h = if (ph_K h q).1 % 1000 = 18 then zev kX4_readAll 74 L (zvi (ph_I h q 15) :: st) h else none) ∧
  (∀ (a : Int) (L st : List ZV) (h : PH), zev kX4_readAll 74 L (zvi a :: st) h = if a = 0 then zev kX4_readAll 83 L st h else zev kX4_readAll 77 L st h) ∧
  (∀ (a : Option Nat) (L st : List ZV) (h : PH), zev kX4_readAll 77 (zvr a :: L) st h = zev kX4_readAll 78 (zvr a :: L) (zvr a :: st) h) ∧
  (∀ (L st : List ZV) (h : PH), zev kX4_readAll 78 L st h = zev kX4_readAll 79 L (zvi 1 :: st) h) ∧
  (∀ (v0 : ZV) (q : Nat) (L st : List ZV) (h : PH), zev kX4_readAll 79 L (v0 :: zvr (some q) :: st) h = if (ph_K h q).1 % 1000 = 18 ∧ zcat st ≤ 8 then zk kX4_readAll 79 82 L st (mX4_errs [zvr (some q), v0] h) else none) ∧
  (∀ (a : Int) (L : List ZV) (h : PH), zev kX4_readAll 82 L [zvi a] h = if a = 0 ∨ a = 1 then zrv (zvi a) h else none) ∧
  (∀ (a : Option Nat) (L st : List ZV) (h : PH), zev kX4_readAll 83 (zvr a :: L) st h = zev kX4_readAll 84 (zvr a :: L) (zvr a :: st) h) ∧
  (∀ (q : Nat) (L st : List ZV) (h : PH), zev kX4_readAll 84 L (zvr (some q) :: st) h = if (ph_K h q).1 % 1000 = 18 then zev kX4_readAll 87 L (zvr (ph_R h q 7) :: st) h else none) ∧
  (∀ (L st : List ZV) (h : PH), zev kX4_readAll 87 L st h = zev kX4_readAll 88 L (zvi 1 :: st) h) ∧
  (∀ (j : Int) (q : Nat) (L st : List ZV) (h : PH), zev kX4_readAll 88 L (zvi j :: zvr (some q) :: st) h = if (ph_K h q).1 % 1000 = 1 ∧ 0 ≤ j ∧ j < (ph_K h q).2 then zev kX4_readAll 89 L (zvi (ph_I h q j) :: st) h else none) ∧
  (∀ (a : Int) (L st : List ZV) (h : PH), zev kX4_readAll 89 L (zvi a :: st) h = if a > 0 then zev kX4_readAll 101 L st h else zev kX4_readAll 92 L st h) ∧
  (∀ (a : Option Nat) (L st : List ZV) (h : PH), zev kX4_readAll 92 (zvr a :: L) st h = zev kX4_readAll 93 (zvr a :: L) (zvr a :: st) h) ∧
  (∀ (L st : List ZV) (h : PH), zev kX4_readAll 93 L st h = zev kX4_readAll 95 L (zvi 6 :: st) h) ∧
  (∀ (v0 : ZV) (q : Nat) (L st : List ZV) (h : PH), zev kX4_readAll 95 L (v0 :: zvr (some q) :: st) h = if (ph_K h q).1 % 1000 = 18 ∧ zcat st ≤ 8 then zk kX4_readAll 95 98 L st (mX4_errs [zvr (some q), v0] h) else none) ∧
  (∀ (a : Int) (L st : List ZV) (h : PH), zev kX4_readAll 98 L (zvi a :: st) h = if a = 0 then zev kX4_readAll 105 L st h else zev kX4_readAll 101 L st h) ∧
  (∀ (L st : List ZV) (h : PH), zev kX4_readAll 101 L st h = zev kX4_readAll 102 L (zvi 1 :: st) h) ∧
  (∀ (L st : List ZV) (h : PH), zev kX4_readAll 102 L st h = zev kX4_readAll 106 L st h) ∧
  (∀ (L st : List ZV) (h : PH), zev kX4_readAll 105 L st h = zev kX4_readAll 106 L (zvi 0 :: st) h) ∧
  (∀ (a : Int) (L : List ZV) (h : PH), zev kX4_readAll 106 L [zvi a] h = if a = 0 ∨ a = 1 then zrv (zvi a) h else none) :=
  ⟨fun a L st h => e_ld0R (n := 1) rfl,
  fun x0 a L st h => e_ld1I (n := 2) rfl,
  fun a q L st h => e_putI (kd := 18) (k := 12) (n := 5) rfl,
  fun a L st h => e_ld0R (n := 6) rfl,
  fun L st h => e_push (v := zvi 0) (n := 7) rfl,
  fun a q L st h => e_putI (kd := 18) (k := 14) (n := 10) rfl,
  fun a L st h => e_ld0R (n := 11) rfl,
  fun L st h => e_push (v := zvi 0) (n := 12) rfl,
  fun a q L st h => e_putZ (kd := 18) (k := 19) (n := 15) rfl,
  fun L st h => e_push (v := zvi 1) (n := 16) rfl,
  fun x0 x1 x2 a L st h hx => e_st2I (n := 17) rfl hx,
  fun L st h => e_push (v := zvi 4) (n := 19) rfl,
  fun a b L st h => e_cmpgt (t := 35) (n := 22) rfl,
  fun a L st h => e_ld0R (n := 23) rfl,
  fun q L st h => e_getR (kd := 18) (k := 7) (n := 26) rfl,
  fun x0 x1 a L st h => e_ld2I (n := 27) rfl,
  fun L st h => e_push (v := zvi 0) (n := 28) rfl,
  fun x j q L st h => e_ast (n := 29) rfl,
  fun x0 x1 a L st h hx => e_iinc2 (d := 1) (n := 32) rfl hx,
  fun L st h => e_goto (t := 17) rfl,
  fun a L st h => e_ld0R (n := 36) rfl,
  fun q L st h => e_callV1 (F := mX4_goesOn) (kd := 18) (n := 39) rfl,
  fun a L st h => e_ld0R (n := 40) rfl,
  fun q L st h => e_callV1 (F := mX4_readLine) (kd := 18) (n := 43) rfl,
  fun a L st h => e_ifne (t := 48) (n := 46) rfl,
  fun L st h => e_push (v := zvi 0) (n := 47) rfl,
  fun a L h => e_retz rfl,
  fun q L st h => e_getI (kd := 18) (k := 15) (n := 52) rfl,
  fun L st h => e_push (v := zvi 59) (n := 54) rfl,
  fun a b L st h => e_cmpne (t := 70) (n := 57) rfl,
  fun a L st h => e_ld0R (n := 58) rfl,
  fun q L st h => e_callV1 (F := mX4_goesOn) (kd := 18) (n := 61) rfl,
  fun a L st h => e_ld0R (n := 62) rfl,
  fun q L st h => e_callV1 (F := mX4_readLine) (kd := 18) (n := 65) rfl,
  fun a L st h => e_ifne (t := 48) (n := 68) rfl,
  fun L st h => e_push (v := zvi 0) (n := 69) rfl,
  fun a L h => e_retz rfl,
  fun a L st h => e_ld0R (n := 71) rfl,
  fun q L st h => e_getI (kd := 18) (k := 15) (n := 74) rfl,
  fun a L st h => e_ifeq (t := 83) (n := 77) rfl,
  fun a L st h => e_ld0R (n := 78) rfl,
  fun L st h => e_push (v := zvi 1) (n := 79) rfl,
  fun v0 q L st h => e_callV2 (F := mX4_errs) (kd := 18) (n := 82) rfl,
  fun a L h => e_retz rfl,
  fun a L st h => e_ld0R (n := 84) rfl,
  fun q L st h => e_getR (kd := 18) (k := 7) (n := 87) rfl,
  fun L st h => e_push (v := zvi 1) (n := 88) rfl,
  fun j q L st h => e_ald (kd := 1) (n := 89) rfl,
  fun a L st h => e_ifgt (t := 101) (n := 92) rfl,
  fun a L st h => e_ld0R (n := 93) rfl,
  fun L st h => e_push (v := zvi 6) (n := 95) rfl,
  fun v0 q L st h => e_callV2 (F := mX4_errs) (kd := 18) (n := 98) rfl,
  fun a L st h => e_ifeq (t := 105) (n := 101) rfl,
  fun L st h => e_push (v := zvi 1) (n := 102) rfl,
  fun L st h => e_goto (t := 106) rfl,
  fun L st h => e_push (v := zvi 0) (n := 106) rfl,
  fun a L h => e_retz rfl⟩
theorem allX4_readAll : zall yX4_readAll cX4_readAll 3 (some .boolean) 11 kX4_readAll.1 :=
  ⟨k_aload_n dX4_readAll_0,
  k_iload_n dX4_readAll_1,
  k_putI (C := RX4) (T := TX4) (N := 42) (ci := 2) (k := 12) (ref := "LinkTimesModel") dX4_readAll_2 rfl in_X4 tyX4 tyX4_ok nmX4 (by decide) (Or.inl q1811) (Or.inl rfl) (Or.inl rfl) (tyX4_ok 12 (by decide)) (fun _ _ _ => rfl),
  k_aload_n dX4_readAll_5,
  k_iconst dX4_readAll_6,
  k_putI (C := RX4) (T := TX4) (N := 42) (ci := 2) (k := 14) (ref := "LinkTimesModel") dX4_readAll_7 rfl in_X4 tyX4 tyX4_ok nmX4 (by decide) (Or.inl q1813) (Or.inl rfl) (Or.inl rfl) (tyX4_ok 14 (by decide)) (fun _ _ _ => rfl),
  k_aload_n dX4_readAll_10,
  k_iconst dX4_readAll_11,
  k_putZ (C := RX4) (T := TX4) (N := 42) (ci := 2) (k := 19) (ref := "LinkTimesModel") dX4_readAll_12 rfl in_X4 tyX4 tyX4_ok nmX4 (by decide) (Or.inl q1818) (Or.inl rfl) (Or.inl rfl) (tyX4_ok 19 (by decide)) (fun _ _ _ => rfl),
  k_iconst dX4_readAll_15,
  k_istore_n dX4_readAll_16,
  k_iload_n dX4_readAll_17,
  k_iconst dX4_readAll_18,
  k_cmpgt (t := 35) dX4_readAll_19 (by decide),
  k_aload_n dX4_readAll_22,
  k_getR (C := RX4) (T := TX4) (N := 42) (ci := 2) (k := 7) (ref := "LinkTimesModel") dX4_readAll_23 rfl in_X4 (by decide) q1806 (Or.inl rfl) (fun _ _ _ => rfl),
  k_iload_n dX4_readAll_26,
  k_iconst dX4_readAll_27,
  k_iast dX4_readAll_28,
  k_iinc dX4_readAll_29,
  k_goto (t := 17) dX4_readAll_32 (by decide),
  k_aload_n dX4_readAll_35,
  k_callV (y2 := yX4_goesOn) (C := RX4) (T0 := TX4) (ci := 2) dX4_readAll_36 sndX4_goesOn rfl q1954 q1956 qs72 q137 q1957 (by decide +kernel) ⟨by decide, by decide⟩ (by decide) (by decide),
  k_aload_n dX4_readAll_39,
  k_callV (y2 := yX4_readLine) (C := RX4) (T0 := TX4) (ci := 2) dX4_readAll_40 sndX4_readLine rfl q1962 q1964 qs74 q137 q1965 (by decide +kernel) ⟨by decide, by decide⟩ (by decide) (by decide),
  k_ifne (t := 48) dX4_readAll_43 (by decide),
  k_iconst dX4_readAll_46,
  k_zret dX4_readAll_47,
  k_aload_n dX4_readAll_48,
  k_getI (C := RX4) (T := TX4) (N := 42) (ci := 2) (k := 15) (ref := "LinkTimesModel") dX4_readAll_49 rfl in_X4 (by decide) q1814 (Or.inl rfl) (fun _ _ _ => rfl),
  k_bipush dX4_readAll_52,
  k_cmpne (t := 70) dX4_readAll_54 (by decide),
  k_aload_n dX4_readAll_57,
  k_callV (y2 := yX4_goesOn) (C := RX4) (T0 := TX4) (ci := 2) dX4_readAll_58 sndX4_goesOn rfl q1954 q1956 qs72 q137 q1957 (by decide +kernel) ⟨by decide, by decide⟩ (by decide) (by decide),
  k_aload_n dX4_readAll_61,
  k_callV (y2 := yX4_readLine) (C := RX4) (T0 := TX4) (ci := 2) dX4_readAll_62 sndX4_readLine rfl q1962 q1964 qs74 q137 q1965 (by decide +kernel) ⟨by decide, by decide⟩ (by decide) (by decide),
  k_ifne (t := 48) dX4_readAll_65 (by decide),
  k_iconst dX4_readAll_68,
  k_zret dX4_readAll_69,
  k_aload_n dX4_readAll_70,
  k_getI (C := RX4) (T := TX4) (N := 42) (ci := 2) (k := 15) (ref := "LinkTimesModel") dX4_readAll_71 rfl in_X4 (by decide) q1814 (Or.inl rfl) (fun _ _ _ => rfl),
  k_ifeq (t := 83) dX4_readAll_74 (by decide),
  k_aload_n dX4_readAll_77,
  k_iconst dX4_readAll_78,
  k_callV (y2 := yX4_errs) (C := RX4) (T0 := TX4) (ci := 2) dX4_readAll_79 sndX4_errs rfl q1977 q1979 qs77 q137 q1980 (by decide +kernel) ⟨by decide, by decide⟩ (by decide) (by decide),
  k_zret dX4_readAll_82,
  k_aload_n dX4_readAll_83,
  k_getR (C := RX4) (T := TX4) (N := 42) (ci := 2) (k := 7) (ref := "LinkTimesModel") dX4_readAll_84 rfl in_X4 (by decide) q1806 (Or.inl rfl) (fun _ _ _ => rfl),
  k_iconst dX4_readAll_87,
  k_iald dX4_readAll_88,
  k_ifgt (t := 101) dX4_readAll_89 (by decide),
  k_aload_n dX4_readAll_92,
  k_bipush dX4_readAll_93,
  k_callV (y2 := yX4_errs) (C := RX4) (T0 := TX4) (ci := 2) dX4_readAll_95 sndX4_errs rfl q1977 q1979 qs77 q137 q1980 (by decide +kernel) ⟨by decide, by decide⟩ (by decide) (by decide),
  k_ifeq (t := 105) dX4_readAll_98 (by decide),
  k_iconst dX4_readAll_101,
  k_goto (t := 106) dX4_readAll_102 (by decide),
  k_iconst dX4_readAll_105,
  k_zret dX4_readAll_106, trivial⟩
theorem sndX4_readAll : MSound 11 yX4_readAll (ws_ yX4_readAll cX4_readAll 3 (some .boolean)) mX4_readAll := msound_M (by decide) allX4_readAll (fun _ _ => rfl)
