set_option maxRecDepth 100000
/-! Z program: LinkTimes (written by gen/gen_prog.py) -/
set_option maxRecDepth 100000
/-! LinkTimes.isIn(III)Z -/
noncomputable def kX1_isIn : ZM := ([(0, zi_ld 0 0 1), (1, zi_ld 0 1 2), (2, zi_cmp zc_lt 14 5), (5, zi_ld 0 0 6), (6, zi_ld 0 2 7), (7, zi_cmp zc_gt 14 10), (10, zi_push (zvi 1) 11), (11, zi_goto 15), (14, zi_push (zvi 0) 15), (15, zi_retz)], fun _ _ => none)
noncomputable def mX1_isIn : ZF := zrunM kX1_isIn 3
theorem enX1_isIn (x0 : Int) (x1 : Int) (x2 : Int) (h : PH) : mX1_isIn [zvi x0, zvi x1, zvi x2] h = zev kX1_isIn 0 [zvi x0, zvi x1, zvi x2] [] h := zrunM_eq rfl rfl
theorem rX1_isIn : (∀ (a : Int) (L st : List ZV) (h : PH), zev kX1_isIn 0 (zvi a :: L) st h = zev kX1_isIn 1 (zvi a :: L) (zvi a :: st) h) ∧
  (∀ (x0 : ZV) (a : Int) (L st : List ZV) (h : PH), zev kX1_isIn 1 (x0 :: zvi a :: L) st h = zev kX1_isIn 2 (x0 :: zvi a :: L) (zvi a :: st) h) ∧
  (∀ (a b : Int) (L st : List ZV) (h : PH), zev kX1_isIn 2 L (zvi b :: zvi a :: st) h = if a < b then zev kX1_isIn 14 L st h else zev kX1_isIn 5 L st h) ∧
  (∀ (a : Int) (L st : List ZV) (h : PH), zev kX1_isIn 5 (zvi a :: L) st h = zev kX1_isIn 6 (zvi a :: L) (zvi a :: st) h) ∧
  (∀ (x0 x1 : ZV) (a : Int) (L st : List ZV) (h : PH), zev kX1_isIn 6 (x0 :: x1 :: zvi a :: L) st h = zev kX1_isIn 7 (x0 :: x1 :: zvi a :: L) (zvi a :: st) h) ∧
  (∀ (a b : Int) (L st : List ZV) (h : PH), zev kX1_isIn 7 L (zvi b :: zvi a :: st) h = if a > b then zev kX1_isIn 14 L st h else zev kX1_isIn 10 L st h) ∧
  (∀ (L st : List ZV) (h : PH), zev kX1_isIn 10 L st h = zev kX1_isIn 11 L (zvi 1 :: st) h) ∧
  (∀ (L st : List ZV) (h : PH), zev kX1_isIn 11 L st h = zev kX1_isIn 15 L st h) ∧
  (∀ (L st : List ZV) (h : PH), zev kX1_isIn 14 L st h = zev kX1_isIn 15 L (zvi 0 :: st) h) ∧
  (∀ (a : Int) (L : List ZV) (h : PH), zev kX1_isIn 15 L [zvi a] h = if a = 0 ∨ a = 1 then zrv (zvi a) h else none) :=
  ⟨fun a L st h => e_ld0I (n := 1) rfl,
  fun x0 a L st h => e_ld1I (n := 2) rfl,
  fun a b L st h => e_cmplt (t := 14) (n := 5) rfl,
  fun a L st h => e_ld0I (n := 6) rfl,
  fun x0 x1 a L st h => e_ld2I (n := 7) rfl,
  fun a b L st h => e_cmpgt (t := 14) (n := 10) rfl,
  fun L st h => e_push (v := zvi 1) (n := 11) rfl,
  fun L st h => e_goto (t := 15) rfl,
  fun L st h => e_push (v := zvi 0) (n := 15) rfl,
  fun a L h => e_retz rfl⟩
theorem allX1_isIn : zall yX1_isIn cX1_isIn 3 (some .boolean) 1 kX1_isIn.1 :=
  ⟨k_iload_n dX1_isIn_0,
  k_iload_n dX1_isIn_1,
  k_cmplt (t := 14) dX1_isIn_2 (by decide),
  k_iload_n dX1_isIn_5,
  k_iload_n dX1_isIn_6,
  k_cmpgt (t := 14) dX1_isIn_7 (by decide),
  k_iconst dX1_isIn_10,
  k_goto (t := 15) dX1_isIn_11 (by decide),
  k_iconst dX1_isIn_14,
  k_zret dX1_isIn_15, trivial⟩
theorem sndX1_isIn : MSound 1 yX1_isIn (ws_ yX1_isIn cX1_isIn 3 (some .boolean)) mX1_isIn := msound_M (by decide) allX1_isIn (fun _ _ => rfl)
/-! Z program: LinkTimes$Reader (written by gen/gen_prog.py) -/
set_option maxRecDepth 100000
/-! LinkTimes$Reader.<init>(LLinkTimes;I)V -/
noncomputable def kX5_init : ZM := ([(0, zi_ld 1 0 1), (1, zi_ld 1 1 2), (2, zi_putR 19 7 5), (5, zi_ld 1 0 6), (6, zi_objI 19 9), (9, zi_ld 1 0 10), (10, zi_new 20 5 13), (13, zi_dup 14), (14, zi_callV mX6_init 20 1 17), (17, zi_putR 19 1 20), (20, zi_ld 1 0 21), (21, zi_ld 0 2 22), (22, zi_putI 19 0 25), (25, zi_ret)], fun _ _ => none)
noncomputable def mX5_init : ZF := zrunM kX5_init 3
theorem enX5_init (x0 : Option Nat) (x1 : Option Nat) (x2 : Int) (h : PH) : mX5_init [zvr x0, zvr x1, zvi x2] h = zev kX5_init 0 [zvr x0, zvr x1, zvi x2] [] h := zrunM_eq rfl rfl
theorem rX5_init : (∀ (a : Option Nat) (L st : List ZV) (h : PH), zev kX5_init 0 (zvr a :: L) st h = zev kX5_init 1 (zvr a :: L) (zvr a :: st) h) ∧
  (∀ (x0 : ZV) (a : Option Nat) (L st : List ZV) (h : PH), zev kX5_init 1 (x0 :: zvr a :: L) st h = zev kX5_init 2 (x0 :: zvr a :: L) (zvr a :: st) h) ∧
  (∀ (a : Option Nat) (q : Nat) (L st : List ZV) (h : PH), zev kX5_init 2 L (zvr a :: zvr (some q) :: st) h = if (ph_K h q).1 = 19 then zev kX5_init 5 L st (st_R h q 7 a) else none) ∧
  (∀ (a : Option Nat) (L st : List ZV) (h : PH), zev kX5_init 5 (zvr a :: L) st h = zev kX5_init 6 (zvr a :: L) (zvr a :: st) h) ∧
  (∀ (q : Nat) (L st : List ZV) (h : PH), zev kX5_init 6 L (zvr (some q) :: st) h = if (ph_K h q).1 % 1000 = 19 ∧ zcat st ≤ 8 then zev kX5_init 9 L st h else none) ∧
  (∀ (a : Option Nat) (L st : List ZV) (h : PH), zev kX5_init 9 (zvr a :: L) st h = zev kX5_init 10 (zvr a :: L) (zvr a :: st) h) ∧
  (∀ (L st : List ZV) (h : PH), zev kX5_init 10 L st h = zev kX5_init 13 L (zvr (some (ph_N h)) :: st) (al_ h 20 0 5)) ∧
  (∀ (a : Int) (L st : List ZV) (h : PH), zev kX5_init 13 L (zvi a :: st) h = zev kX5_init 14 L (zvi a :: zvi a :: st) h) ∧
  (∀ (a : Option Nat) (L st : List ZV) (h : PH), zev kX5_init 13 L (zvr a :: st) h = zev kX5_init 14 L (zvr a :: zvr a :: st) h) ∧
  (∀ (q : Nat) (L st : List ZV) (h : PH), zev kX5_init 14 L (zvr (some q) :: st) h = if (ph_K h q).1 % 1000 = 20 ∧ zcat st ≤ 8 then zk kX5_init 14 17 L st (mX6_init [zvr (some q)] h) else none) ∧
  (∀ (a : Option Nat) (q : Nat) (L st : List ZV) (h : PH), zev kX5_init 17 L (zvr a :: zvr (some q) :: st) h = if (ph_K h q).1 = 19 then zev kX5_init 20 L st (st_R h q 1 a) else none) ∧
  (∀ (a : Option Nat) (L st : List ZV) (h : PH), zev kX5_init 20 (zvr a :: L) st h = zev kX5_init 21 (zvr a :: L) (zvr a :: st) h) ∧
  (∀ (x0 x1 : ZV) (a : Int) (L st : List ZV) (h : PH), zev kX5_init 21 (x0 :: x1 :: zvi a :: L) st h = zev kX5_init 22 (x0 :: x1 :: zvi a :: L) (zvi a :: st) h) ∧
  (∀ (a : Int) (q : Nat) (L st : List ZV) (h : PH), zev kX5_init 22 L (zvi a :: zvr (some q) :: st) h = if (ph_K h q).1 = 19 then zev kX5_init 25 L st (st_I h q 0 a) else none) ∧
  (∀ (L : List ZV) (h : PH), zev kX5_init 25 L [] h = zr0 h) :=
  ⟨fun a L st h => e_ld0R (n := 1) rfl,
  fun x0 a L st h => e_ld1R (n := 2) rfl,
  fun a q L st h => e_putR (kd := 19) (k := 7) (n := 5) rfl,
  fun a L st h => e_ld0R (n := 6) rfl,
  fun q L st h => e_objI (kd := 19) (n := 9) rfl,
  fun a L st h => e_ld0R (n := 10) rfl,
  fun L st h => e_new (kd := 20) (sl := 5) (n := 13) rfl,
  fun a L st h => e_dupI (n := 14) rfl,
  fun a L st h => e_dupR (n := 14) rfl,
  fun q L st h => e_callV1 (F := mX6_init) (kd := 20) (n := 17) rfl,
  fun a q L st h => e_putR (kd := 19) (k := 1) (n := 20) rfl,
  fun a L st h => e_ld0R (n := 21) rfl,
  fun x0 x1 a L st h => e_ld2I (n := 22) rfl,
  fun a q L st h => e_putI (kd := 19) (k := 0) (n := 25) rfl,
  fun L h => e_ret rfl⟩
theorem allX5_init : zall yX5_init cX5_init 3 none 6 kX5_init.1 :=
  ⟨k_aload_n dX5_init_0,
  k_aload_n dX5_init_1,
  k_putR (C := RX5) (T := TX5) (N := 8) (ci := 3) (k := 7) (ref := "LinkTimes$Reader") dX5_init_2 rfl in_X5 tyX5 tyX5_ok nmX5 (by decide) (Or.inl q450) (Or.inl rfl) (Or.inr ⟨rfl, rfl, rfl, q450⟩) (tyX5_ok 7 (by decide)) (Or.inl ⟨_, rfl⟩) (fun _ _ _ => rfl),
  k_aload_n dX5_init_5,
  k_objI (C := RX5) (T0 := TX5) (ci := 3) dX5_init_6 rfl q387 q177 q178 (by decide),
  k_aload_n dX5_init_9,
  k_new (C := RX6) (T := TX6) (N := 5) (ci := 4) dX5_init_10 rfl in_X6 tyX6 tyX6_ok rfl (by decide) q388 q389 q139,
  k_dup dX5_init_13,
  k_callIN (y2 := yX6_init) (C := RX6) (T0 := TX6) (ci := 4) dX5_init_14 sndX6_init rfl q390 q391 q139 q392 rfl (by decide +kernel) ⟨by decide, by decide⟩ (by decide) (by decide),
  k_putR (C := RX5) (T := TX5) (N := 8) (ci := 3) (k := 1) (ref := "LinkTimes$Reader") dX5_init_17 rfl in_X5 tyX5 tyX5_ok nmX5 (by decide) (Or.inl q444) (Or.inl rfl) (Or.inr ⟨rfl, rfl, rfl, q444⟩) (tyX5_ok 1 (by decide)) (Or.inl ⟨_, rfl⟩) (fun _ _ _ => rfl),
  k_aload_n dX5_init_20,
  k_iload_n dX5_init_21,
  k_putI (C := RX5) (T := TX5) (N := 8) (ci := 3) (k := 0) (ref := "LinkTimes$Reader") dX5_init_22 rfl in_X5 tyX5 tyX5_ok nmX5 (by decide) (Or.inl q443) (Or.inl rfl) (Or.inr ⟨rfl, rfl, rfl, q443⟩) (tyX5_ok 0 (by decide)) (fun _ _ _ => rfl),
  k_ret dX5_init_25, trivial⟩
theorem sndX5_init : MSound 6 yX5_init (ws_ yX5_init cX5_init 3 none) mX5_init := msound_M (by decide) allX5_init (fun _ _ => rfl)
/-! LinkTimes$Reader.byteAt(I)I -/
noncomputable def kX5_byteAt : ZM := ([(0, zi_ld 0 1 1), (1, zi_ld 1 0 2), (2, zi_getI 19 0 5), (5, zi_cmp zc_ge 24 8), (8, zi_ld 1 0 9), (9, zi_getR 19 7 12), (12, zi_getR 16 2 15), (15, zi_ld 0 1 16), (16, zi_ald 2 17), (17, zi_push (zvi 255) 20), (20, zi_bin zand 21), (21, zi_goto 25), (24, zi_push (zvi 0) 25), (25, zi_retv 0)], fun _ _ => none)
noncomputable def mX5_byteAt : ZF := zrunM kX5_byteAt 2
theorem enX5_byteAt (x0 : Option Nat) (x1 : Int) (h : PH) : mX5_byteAt [zvr x0, zvi x1] h = zev kX5_byteAt 0 [zvr x0, zvi x1] [] h := zrunM_eq rfl rfl
theorem rX5_byteAt : (∀ (x0 : ZV) (a : Int) (L st : List ZV) (h : PH), zev kX5_byteAt 0 (x0 :: zvi a :: L) st h = zev kX5_byteAt 1 (x0 :: zvi a :: L) (zvi a :: st) h) ∧
  (∀ (a : Option Nat) (L st : List ZV) (h : PH), zev kX5_byteAt 1 (zvr a :: L) st h = zev kX5_byteAt 2 (zvr a :: L) (zvr a :: st) h) ∧
  (∀ (q : Nat) (L st : List ZV) (h : PH), zev kX5_byteAt 2 L (zvr (some q) :: st) h = if (ph_K h q).1 % 1000 = 19 then zev kX5_byteAt 5 L (zvi (ph_I h q 0) :: st) h else none) ∧
  (∀ (a b : Int) (L st : List ZV) (h : PH), zev kX5_byteAt 5 L (zvi b :: zvi a :: st) h = if a ≥ b then zev kX5_byteAt 24 L st h else zev kX5_byteAt 8 L st h) ∧
  (∀ (a : Option Nat) (L st : List ZV) (h : PH), zev kX5_byteAt 8 (zvr a :: L) st h = zev kX5_byteAt 9 (zvr a :: L) (zvr a :: st) h) ∧
  (∀ (q : Nat) (L st : List ZV) (h : PH), zev kX5_byteAt 9 L (zvr (some q) :: st) h = if (ph_K h q).1 % 1000 = 19 then zev kX5_byteAt 12 L (zvr (ph_R h q 7) :: st) h else none) ∧
  (∀ (q : Nat) (L st : List ZV) (h : PH), zev kX5_byteAt 12 L (zvr (some q) :: st) h = if (ph_K h q).1 % 1000 = 16 then zev kX5_byteAt 15 L (zvr (ph_R h q 2) :: st) h else none) ∧
  (∀ (x0 : ZV) (a : Int) (L st : List ZV) (h : PH), zev kX5_byteAt 15 (x0 :: zvi a :: L) st h = zev kX5_byteAt 16 (x0 :: zvi a :: L) (zvi a :: st) h) ∧
  (∀ (j : Int) (q : Nat) (L st : List ZV) (h : PH), zev kX5_byteAt 16 L (zvi j :: zvr (some q) :: st) h = if (ph_K h q).1 % 1000 = 2 ∧ 0 ≤ j ∧ j < (ph_K h q).2 then zev kX5_byteAt 17 L (zvi (ph_I h q j) :: st) h else none) ∧
  (∀ (L st : List ZV) (h : PH), zev kX5_byteAt 17 L st h = zev kX5_byteAt 20 L (zvi 255 :: st) h) ∧
  (∀ (a b : Int) (L st : List ZV) (h : PH), zev kX5_byteAt 20 L (zvi b :: zvi a :: st) h = zev kX5_byteAt 21 L (zvi (zand a b) :: st) h) ∧
  (∀ (L st : List ZV) (h : PH), zev kX5_byteAt 21 L st h = zev kX5_byteAt 25 L st h) ∧
  (∀ (L st : List ZV) (h : PH), zev kX5_byteAt 24 L st h = zev kX5_byteAt 25 L (zvi 0 :: st) h) ∧
  (∀ (a : Int) (L : List ZV) (h : PH), zev kX5_byteAt 25 L [zvi a] h = zrv (zvi a) h) :=
  ⟨fun x0 a L st h => e_ld1I (n := 1) rfl,
  fun a L st h => e_ld0R (n := 2) rfl,
  fun q L st h => e_getI (kd := 19) (k := 0) (n := 5) rfl,
  fun a b L st h => e_cmpge (t := 24) (n := 8) rfl,
  fun a L st h => e_ld0R (n := 9) rfl,
  fun q L st h => e_getR (kd := 19) (k := 7) (n := 12) rfl,
  fun q L st h => e_getR (kd := 16) (k := 2) (n := 15) rfl,
  fun x0 a L st h => e_ld1I (n := 16) rfl,
  fun j q L st h => e_ald (kd := 2) (n := 17) rfl,
  fun L st h => e_push (v := zvi 255) (n := 20) rfl,
  fun a b L st h => e_bin (f := zand) (n := 21) rfl,
  fun L st h => e_goto (t := 25) rfl,
  fun L st h => e_push (v := zvi 0) (n := 25) rfl,
  fun a L h => e_retI rfl⟩
theorem allX5_byteAt : zall yX5_byteAt cX5_byteAt 2 (some .int) 1 kX5_byteAt.1 :=
  ⟨k_iload_n dX5_byteAt_0,
  k_aload_n dX5_byteAt_1,
  k_getI (C := RX5) (T := TX5) (N := 8) (ci := 3) (k := 0) (ref := "LinkTimes$Reader") dX5_byteAt_2 rfl in_X5 (by decide) q443 (Or.inl rfl) (fun _ _ _ => rfl),
  k_cmpge (t := 24) dX5_byteAt_5 (by decide),
  k_aload_n dX5_byteAt_8,
  k_getR (C := RX5) (T := TX5) (N := 8) (ci := 3) (k := 7) (ref := "LinkTimes$Reader") dX5_byteAt_9 rfl in_X5 (by decide) q450 (Or.inl rfl) (fun _ _ _ => rfl),
  k_getRN (C := RX1) (T := TX1) (N := 19) (ci := 0) (k := 2) (ref := "LinkTimes") dX5_byteAt_12 rfl in_X1 (by decide) q303 (Or.inl rfl) (fun _ _ _ => rfl),
  k_iload_n dX5_byteAt_15,
  k_bald dX5_byteAt_16,
  k_sipush dX5_byteAt_17,
  k_iand dX5_byteAt_20,
  k_goto (t := 25) dX5_byteAt_21 (by decide),
  k_iconst dX5_byteAt_24,
  k_iret dX5_byteAt_25, trivial⟩
theorem sndX5_byteAt : MSound 1 yX5_byteAt (ws_ yX5_byteAt cX5_byteAt 2 (some .int)) mX5_byteAt := msound_M (by decide) allX5_byteAt (fun _ _ => rfl)
/-! LinkTimes$Reader.isLetter(I)Z -/
noncomputable def kX5_isLetter : ZM := ([(0, zi_ld 1 0 1), (1, zi_ld 0 1 2), (2, zi_callV mX5_byteAt 19 2 5), (5, zi_push (zvi 97) 7), (7, zi_push (zvi 122) 9), (9, zi_callS mX1_isIn 3 12), (12, zi_retz)], fun _ _ => none)
noncomputable def mX5_isLetter : ZF := zrunM kX5_isLetter 2
theorem enX5_isLetter (x0 : Option Nat) (x1 : Int) (h : PH) : mX5_isLetter [zvr x0, zvi x1] h = zev kX5_isLetter 0 [zvr x0, zvi x1] [] h := zrunM_eq rfl rfl
theorem rX5_isLetter : (∀ (a : Option Nat) (L st : List ZV) (h : PH), zev kX5_isLetter 0 (zvr a :: L) st h = zev kX5_isLetter 1 (zvr a :: L) (zvr a :: st) h) ∧
  (∀ (x0 : ZV) (a : Int) (L st : List ZV) (h : PH), zev kX5_isLetter 1 (x0 :: zvi a :: L) st h = zev kX5_isLetter 2 (x0 :: zvi a :: L) (zvi a :: st) h) ∧
  (∀ (v0 : ZV) (q : Nat) (L st : List ZV) (h : PH), zev kX5_isLetter 2 L (v0 :: zvr (some q) :: st) h = if (ph_K h q).1 % 1000 = 19 ∧ zcat st ≤ 8 then zk kX5_isLetter 2 5 L st (mX5_byteAt [zvr (some q), v0] h) else none) ∧
  (∀ (L st : List ZV) (h : PH), zev kX5_isLetter 5 L st h = zev kX5_isLetter 7 L (zvi 97 :: st) h) ∧
  (∀ (L st : List ZV) (h : PH), zev kX5_isLetter 7 L st h = zev kX5_isLetter 9 L (zvi 122 :: st) h) ∧
  (∀ (v0 v1 v2 : ZV) (L st : List ZV) (h : PH), zev kX5_isLetter 9 L (v2 :: v1 :: v0 :: st) h = if zcat st ≤ 8 then zk kX5_isLetter 9 12 L st (mX1_isIn [v0, v1, v2] h) else none) ∧
  (∀ (a : Int) (L : List ZV) (h : PH), zev kX5_isLetter 12 L [zvi a] h = if a = 0 ∨ a = 1 then zrv (zvi a) h else none) :=
  ⟨fun a L st h => e_ld0R (n := 1) rfl,
  fun x0 a L st h => e_ld1I (n := 2) rfl,
  fun v0 q L st h => e_callV2 (F := mX5_byteAt) (kd := 19) (n := 5) rfl,
  fun L st h => e_push (v := zvi 97) (n := 7) rfl,
  fun L st h => e_push (v := zvi 122) (n := 9) rfl,
  fun v0 v1 v2 L st h => e_callS3 (F := mX1_isIn) (n := 12) rfl,
  fun a L h => e_retz rfl⟩
theorem allX5_isLetter : zall yX5_isLetter cX5_isLetter 2 (some .boolean) 2 kX5_isLetter.1 :=
  ⟨k_aload_n dX5_isLetter_0,
  k_iload_n dX5_isLetter_1,
  k_callV (y2 := yX5_byteAt) (C := RX5) (T0 := TX5) (ci := 3) dX5_isLetter_2 sndX5_byteAt rfl q477 q479 qs3 q138 q480 (by decide +kernel) ⟨by decide, by decide⟩ (by decide) (by decide),
  k_bipush dX5_isLetter_5,
  k_bipush dX5_isLetter_7,
  k_callSN (y2 := yX1_isIn) dX5_isLetter_9 sndX1_isIn q485 q376 q128 q377 (by decide +kernel) ⟨by decide, by decide⟩ (by decide) (by decide),
  k_zret dX5_isLetter_12, trivial⟩
theorem sndX5_isLetter : MSound 2 yX5_isLetter (ws_ yX5_isLetter cX5_isLetter 2 (some .boolean)) mX5_isLetter := msound_M (by decide) allX5_isLetter (fun _ _ => rfl)
/-! LinkTimes$Reader.goWord()V -/
noncomputable def kX5_goWord : ZM := ([(0, zi_ld 1 0 1), (1, zi_push (zvl 0) 2), (2, zi_putJ 19 6 5), (5, zi_ld 1 0 6), (6, zi_ld 1 0 7), (7, zi_getI 19 2 10), (10, zi_callV mX5_isLetter 19 2 13), (13, zi_if (fun a => zc_eq a 0) 64 16), (16, zi_ld 1 0 17), (17, zi_getI 19 2 20), (20, zi_ld 1 0 21), (21, zi_getI 19 3 24), (24, zi_bin (fun a b => w32 (a - b)) 25), (25, zi_push (zvi 6) 27), (27, zi_cmp zc_ge 51 30), (30, zi_ld 1 0 31), (31, zi_ld 1 0 32), (32, zi_getJ 19 6 35), (35, zi_push (zvi 8) 37), (37, zi_shL zlshl 38), (38, zi_ld 1 0 39), (39, zi_ld 1 0 40), (40, zi_getI 19 2 43), (43, zi_callV mX5_byteAt 19 2 46), (46, zi_i2l 47), (47, zi_binL zlor 48), (48, zi_putJ 19 6 51), (51, zi_ld 1 0 52), (52, zi_dup 53), (53, zi_getI 19 2 56), (56, zi_push (zvi 1) 57), (57, zi_bin (fun a b => w32 (a + b)) 58), (58, zi_putI 19 2 61), (61, zi_goto 5), (64, zi_ld 1 0 65), (65, zi_ld 1 0 66), (66, zi_getI 19 2 69), (69, zi_ld 1 0 70), (70, zi_getI 19 3 73), (73, zi_bin (fun a b => w32 (a - b)) 74), (74, zi_push (zvi 6) 76), (76, zi_cmp zc_le 83 79), (79, zi_push (zvi 0) 80), (80, zi_goto 84), (83, zi_push (zvi 2) 84), (84, zi_putI 19 4 87), (87, zi_ret)], fun _ _ => none)
noncomputable def mX5_goWord : ZF := zrunM kX5_goWord 1
theorem enX5_goWord (x0 : Option Nat) (h : PH) : mX5_goWord [zvr x0] h = zev kX5_goWord 0 [zvr x0] [] h := zrunM_eq rfl rfl
theorem hdX5_goWord_5 (a : Option Nat) (L st : List ZV) (h : PH) : zev kX5_goWord 5 (zvr a :: L) st h = zev kX5_goWord 6 (zvr a :: L) (zvr a :: st) h := e_ld0R (n := 6) rfl
theorem rX5_goWord : (∀ (a : Option Nat) (L st : List ZV) (h : PH), zev kX5_goWord 0 (zvr a :: L) st h = zev kX5_goWord 1 (zvr a :: L) (zvr a :: st) h) ∧
  (∀ (L st : List ZV) (h : PH), zev kX5_goWord 1 L st h = zev kX5_goWord 2 L (zvl 0 :: st) h) ∧
  (∀ (a : Int) (q : Nat) (L st : List ZV) (h : PH), zev kX5_goWord 2 L (zvl a :: zvr (some q) :: st) h = if (ph_K h q).1 = 19 then zev kX5_goWord 5 L st (st_J h q 6 a) else none) ∧
  (∀ (a : Option Nat) (L st : List ZV) (h : PH), zev kX5_goWord 6 (zvr a :: L) st h = zev kX5_goWord 7 (zvr a :: L) (zvr a :: st) h) ∧
  (∀ (q : Nat) (L st : List ZV) (h : PH), zev kX5_goWord 7 L (zvr (some q) :: st) h = if (ph_K h q).1 % 1000 = 19 then zev kX5_goWord 10 L (zvi (ph_I h q 2) :: st) h else none) ∧
  (∀ (v0 : ZV) (q : Nat) (L st : List ZV) (h : PH), zev kX5_goWord 10 L (v0 :: zvr (some q) :: st) h = if (ph_K h q).1 % 1000 = 19 ∧ zcat st ≤ 8 then zk kX5_goWord 10 13 L st (mX5_isLetter [zvr (some q), v0] h) else none) ∧
  (∀ (a : Int) (L st : List ZV) (h : PH), zev kX5_goWord 13 L (zvi a :: st) h = if a = 0 then zev kX5_goWord 64 L st h else zev kX5_goWord 16 L st h) ∧
  (∀ (a : Option Nat) (L st : List ZV) (h : PH), zev kX5_goWord 16 (zvr a :: L) st h = zev kX5_goWord 17 (zvr a :: L) (zvr a :: st) h) ∧
  (∀ (q : Nat) (L st : List ZV) (h : PH), zev kX5_goWord 17 L (zvr (some q) :: st) h = if (ph_K h q).1 % 1000 = 19 then zev kX5_goWord 20 L (zvi (ph_I h q 2) :: st) h else none) ∧
  (∀ (a : Option Nat) (L st : List ZV) (h : PH), zev kX5_goWord 20 (zvr a :: L) st h = zev kX5_goWord 21 (zvr a :: L) (zvr a :: st) h) ∧
  (∀ (q : Nat) (L st : List ZV) (h : PH), zev kX5_goWord 21 L (zvr (some q) :: st) h = if (ph_K h q).1 % 1000 = 19 then zev kX5_goWord 24 L (zvi (ph_I h q 3) :: st) h else none) ∧
  (∀ (a b : Int) (L st : List ZV) (h : PH), zev kX5_goWord 24 L (zvi b :: zvi a :: st) h = zev kX5_goWord 25 L (zvi (w32 (a - b)) :: st) h) ∧
  (∀ (L st : List ZV) (h : PH), zev kX5_goWord 25 L st h = zev kX5_goWord 27 L (zvi 6 :: st) h) ∧
  (∀ (a b : Int) (L st : List ZV) (h : PH), zev kX5_goWord 27 L (zvi b :: zvi a :: st) h = if a ≥ b then zev kX5_goWord 51 L st h else zev kX5_goWord 30 L st h) ∧
  (∀ (a : Option Nat) (L st : List ZV) (h : PH), zev kX5_goWord 30 (zvr a :: L) st h = zev kX5_goWord 31 (zvr a :: L) (zvr a :: st) h) ∧
  (∀ (a : Option Nat) (L st : List ZV) (h : PH), zev kX5_goWord 31 (zvr a :: L) st h = zev kX5_goWord 32 (zvr a :: L) (zvr a :: st) h) ∧
  (∀ (q : Nat) (L st : List ZV) (h : PH), zev kX5_goWord 32 L (zvr (some q) :: st) h = if (ph_K h q).1 % 1000 = 19 then zev kX5_goWord 35 L (zvl (ph_J h q 6) :: st) h else none) ∧
  (∀ (L st : List ZV) (h : PH), zev kX5_goWord 35 L st h = zev kX5_goWord 37 L (zvi 8 :: st) h) ∧
  (∀ (a b : Int) (L st : List ZV) (h : PH), zev kX5_goWord 37 L (zvi b :: zvl a :: st) h = zev kX5_goWord 38 L (zvl (zlshl a b) :: st) h) ∧
  (∀ (a : Option Nat) (L st : List ZV) (h : PH), zev kX5_goWord 38 (zvr a :: L) st h = zev kX5_goWord 39 (zvr a :: L) (zvr a :: st) h) ∧
  (∀ (a : Option Nat) (L st : List ZV) (h : PH), zev kX5_goWord 39 (zvr a :: L) st h = zev kX5_goWord 40 (zvr a :: L) (zvr a :: st) h) ∧
  (∀ (q : Nat) (L st : List ZV) (h : PH), zev kX5_goWord 40 L (zvr (some q) :: st) h = if (ph_K h q).1 % 1000 = 19 then zev kX5_goWord 43 L (zvi (ph_I h q 2) :: st) h else none) ∧
  (∀ (v0 : ZV) (q : Nat) (L st : List ZV) (h : PH), zev kX5_goWord 43 L (v0 :: zvr (some q) :: st) h = if (ph_K h q).1 % 1000 = 19 ∧ zcat st ≤ 8 then zk kX5_goWord 43 46 L st (mX5_byteAt [zvr (some q), v0] h) else none) ∧
  (∀ (a : Int) (L st : List ZV) (h : PH), zev kX5_goWord 46 L (zvi a :: st) h = zev kX5_goWord 47 L (zvl a :: st) h) ∧
  (∀ (a b : Int) (L st : List ZV) (h : PH), zev kX5_goWord 47 L (zvl b :: zvl a :: st) h = zev kX5_goWord 48 L (zvl (zlor a b) :: st) h) ∧
  (∀ (a : Int) (q : Nat) (L st : List ZV) (h : PH), zev kX5_goWord 48 L (zvl a :: zvr (some q) :: st) h = if (ph_K h q).1 = 19 then zev kX5_goWord 51 L st (st_J h q 6 a) else none) ∧
  (∀ (a : Option Nat) (L st : List ZV) (h : PH), zev kX5_goWord 51 (zvr a :: L) st h = zev kX5_goWord 52 (zvr a :: L) (zvr a :: st) h) ∧
  (∀ (a : Int) (L st : List ZV) (h : PH), zev kX5_goWord 52 L (zvi a :: st) h = zev kX5_goWord 53 L (zvi a :: zvi a :: st) h) ∧
  (∀ (a : Option Nat) (L st : List ZV) (h : PH), zev kX5_goWord 52 L (zvr a :: st) h = zev kX5_goWord 53 L (zvr a :: zvr a :: st) h) ∧
  (∀ (q : Nat) (L st : List ZV) (h : PH), zev kX5_goWord 53 L (zvr (some q) :: st) h = if (ph_K h q).1 % 1000 = 19 then zev kX5_goWord 56 L (zvi (ph_I h q 2) :: st) h else none) ∧
  (∀ (L st : List ZV) (h : PH), zev kX5_goWord 56 L st h = zev kX5_goWord 57 L (zvi 1 :: st) h) ∧
  (∀ (a b : Int) (L st : List ZV) (h : PH), zev kX5_goWord 57 L (zvi b :: zvi a :: st) h = zev kX5_goWord 58 L (zvi (w32 (a + b)) :: st) h) ∧
  (∀ (a : Int) (q : Nat) (L st : List ZV) (h : PH), zev kX5_goWord 58 L (zvi a :: zvr (some q) :: st) h = if (ph_K h q).1 = 19 then zev kX5_goWord 61 L st (st_I h q 2 a) else none) ∧
  (∀ (L st : List ZV) (h : PH), zev kX5_goWord 61 L st h = zev kX5_goWord 5 L st h) ∧
  (∀ (a : Option Nat) (L st : List ZV) (h : PH), zev kX5_goWord 64 (zvr a :: L) st h = zev kX5_goWord 65 (zvr a :: L) (zvr a :: st) h) ∧
  (∀ (a : Option Nat) (L st : List ZV) (h : PH), zev kX5_goWord 65 (zvr a :: L) st h = zev kX5_goWord 66 (zvr a :: L) (zvr a :: st) h) ∧
  (∀ (q : Nat) (L st : List ZV) (h : PH), zev kX5_goWord 66 L (zvr (some q) :: st) h = if (ph_K h q).1 % 1000 = 19 then zev kX5_goWord 69 L (zvi (ph_I h q 2) :: st) h else none) ∧
  (∀ (a : Option Nat) (L st : List ZV) (h : PH), zev kX5_goWord 69 (zvr a :: L) st h = zev kX5_goWord 70 (zvr a :: L) (zvr a :: st) h) ∧
  (∀ (q : Nat) (L st : List ZV) (h : PH), zev kX5_goWord 70 L (zvr (some q) :: st) h = if (ph_K h q).1 % 1000 = 19 then zev kX5_goWord 73 L (zvi (ph_I h q 3) :: st) h else none) ∧
  (∀ (a b : Int) (L st : List ZV) (h : PH), zev kX5_goWord 73 L (zvi b :: zvi a :: st) h = zev kX5_goWord 74 L (zvi (w32 (a - b)) :: st) h) ∧
  (∀ (L st : List ZV) (h : PH), zev kX5_goWord 74 L st h = zev kX5_goWord 76 L (zvi 6 :: st) h) ∧
  (∀ (a b : Int) (L st : List ZV) (h : PH), zev kX5_goWord 76 L (zvi b :: zvi a :: st) h = if a ≤ b then zev kX5_goWord 83 L st h else zev kX5_goWord 79 L st h) ∧
  (∀ (L st : List ZV) (h : PH), zev kX5_goWord 79 L st h = zev kX5_goWord 80 L (zvi 0 :: st) h) ∧
  (∀ (L st : List ZV) (h : PH), zev kX5_goWord 80 L st h = zev kX5_goWord 84 L st h) ∧
  (∀ (L st : List ZV) (h : PH), zev kX5_goWord 83 L st h = zev kX5_goWord 84 L (zvi 2 :: st) h) ∧
  (∀ (a : Int) (q : Nat) (L st : List ZV) (h : PH), zev kX5_goWord 84 L (zvi a :: zvr (some q) :: st) h = if (ph_K h q).1 = 19 then zev kX5_goWord 87 L st (st_I h q 4 a) else none) ∧
  (∀ (L : List ZV) (h : PH), zev kX5_goWord 87 L [] h = zr0 h) :=
  ⟨fun a L st h => e_ld0R (n := 1) rfl,
  fun L st h => e_push (v := zvl 0) (n := 2) rfl,
  fun a q L st h => e_putJ (kd := 19) (k := 6) (n := 5) rfl,
  fun a L st h => e_ld0R (n := 7) rfl,
  fun q L st h => e_getI (kd := 19) (k := 2) (n := 10) rfl,
  fun v0 q L st h => e_callV2 (F := mX5_isLetter) (kd := 19) (n := 13) rfl,
  fun a L st h => e_ifeq (t := 64) (n := 16) rfl,
  fun a L st h => e_ld0R (n := 17) rfl,
  fun q L st h => e_getI (kd := 19) (k := 2) (n := 20) rfl,
  fun a L st h => e_ld0R (n := 21) rfl,
  fun q L st h => e_getI (kd := 19) (k := 3) (n := 24) rfl,
  fun a b L st h => e_bin (f := (fun a b => w32 (a - b))) (n := 25) rfl,
  fun L st h => e_push (v := zvi 6) (n := 27) rfl,
  fun a b L st h => e_cmpge (t := 51) (n := 30) rfl,
  fun a L st h => e_ld0R (n := 31) rfl,
  fun a L st h => e_ld0R (n := 32) rfl,
  fun q L st h => e_getJ (kd := 19) (k := 6) (n := 35) rfl,
  fun L st h => e_push (v := zvi 8) (n := 37) rfl,
  fun a b L st h => e_shL (f := zlshl) (n := 38) rfl,
  fun a L st h => e_ld0R (n := 39) rfl,
  fun a L st h => e_ld0R (n := 40) rfl,
  fun q L st h => e_getI (kd := 19) (k := 2) (n := 43) rfl,
  fun v0 q L st h => e_callV2 (F := mX5_byteAt) (kd := 19) (n := 46) rfl,
  fun a L st h => e_i2l (n := 47) rfl,
  fun a b L st h => e_binL (f := zlor) (n := 48) rfl,
  fun a q L st h => e_putJ (kd := 19) (k := 6) (n := 51) rfl,
  fun a L st h => e_ld0R (n := 52) rfl,
  fun a L st h => e_dupI (n := 53) rfl,
  fun a L st h => e_dupR (n := 53) rfl,
  fun q L st h => e_getI (kd := 19) (k := 2) (n := 56) rfl,
  fun L st h => e_push (v := zvi 1) (n := 57) rfl,
  fun a b L st h => e_bin (f := (fun a b => w32 (a + b))) (n := 58) rfl,
  fun a q L st h => e_putI (kd := 19) (k := 2) (n := 61) rfl,
  fun L st h => e_goto (t := 5) rfl,
  fun a L st h => e_ld0R (n := 65) rfl,
  fun a L st h => e_ld0R (n := 66) rfl,
  fun q L st h => e_getI (kd := 19) (k := 2) (n := 69) rfl,
  fun a L st h => e_ld0R (n := 70) rfl,
  fun q L st h => e_getI (kd := 19) (k := 3) (n := 73) rfl,
  fun a b L st h => e_bin (f := (fun a b => w32 (a - b))) (n := 74) rfl,
  fun L st h => e_push (v := zvi 6) (n := 76) rfl,
  fun a b L st h => e_cmple (t := 83) (n := 79) rfl,
  fun L st h => e_push (v := zvi 0) (n := 80) rfl,
  fun L st h => e_goto (t := 84) rfl,
  fun L st h => e_push (v := zvi 2) (n := 84) rfl,
  fun a q L st h => e_putI (kd := 19) (k := 4) (n := 87) rfl,
  fun L h => e_ret rfl⟩
theorem allX5_goWord : zall yX5_goWord cX5_goWord 1 none 3 kX5_goWord.1 :=
  ⟨k_aload_n dX5_goWord_0,
  k_lconst dX5_goWord_1,
  k_putJ (C := RX5) (T := TX5) (N := 8) (ci := 3) (k := 6) (ref := "LinkTimes$Reader") dX5_goWord_2 rfl in_X5 tyX5 tyX5_ok nmX5 (by decide) (Or.inl q449) (Or.inl rfl) (Or.inl rfl) (tyX5_ok 6 (by decide)) (fun _ _ _ => rfl),
  k_aload_n dX5_goWord_5,
  k_aload_n dX5_goWord_6,
  k_getI (C := RX5) (T := TX5) (N := 8) (ci := 3) (k := 2) (ref := "LinkTimes$Reader") dX5_goWord_7 rfl in_X5 (by decide) q445 (Or.inl rfl) (fun _ _ _ => rfl),
  k_callV (y2 := yX5_isLetter) (C := RX5) (T0 := TX5) (ci := 3) dX5_goWord_10 sndX5_isLetter rfl q481 q483 qs4 q138 q484 (by decide +kernel) ⟨by decide, by decide⟩ (by decide) (by decide),
  k_ifeq (t := 64) dX5_goWord_13 (by decide),
  k_aload_n dX5_goWord_16,
  k_getI (C := RX5) (T := TX5) (N := 8) (ci := 3) (k := 2) (ref := "LinkTimes$Reader") dX5_goWord_17 rfl in_X5 (by decide) q445 (Or.inl rfl) (fun _ _ _ => rfl),
  k_aload_n dX5_goWord_20,
  k_getI (C := RX5) (T := TX5) (N := 8) (ci := 3) (k := 3) (ref := "LinkTimes$Reader") dX5_goWord_21 rfl in_X5 (by decide) q446 (Or.inl rfl) (fun _ _ _ => rfl),
  k_isub dX5_goWord_24,
  k_bipush dX5_goWord_25,
  k_cmpge (t := 51) dX5_goWord_27 (by decide),
  k_aload_n dX5_goWord_30,
  k_aload_n dX5_goWord_31,
  k_getJ (C := RX5) (T := TX5) (N := 8) (ci := 3) (k := 6) (ref := "LinkTimes$Reader") dX5_goWord_32 rfl in_X5 (by decide) q449 (Or.inl rfl) (fun _ _ _ => rfl),
  k_bipush dX5_goWord_35,
  k_lshl dX5_goWord_37,
  k_aload_n dX5_goWord_38,
  k_aload_n dX5_goWord_39,
  k_getI (C := RX5) (T := TX5) (N := 8) (ci := 3) (k := 2) (ref := "LinkTimes$Reader") dX5_goWord_40 rfl in_X5 (by decide) q445 (Or.inl rfl) (fun _ _ _ => rfl),
  k_callV (y2 := yX5_byteAt) (C := RX5) (T0 := TX5) (ci := 3) dX5_goWord_43 sndX5_byteAt rfl q477 q479 qs3 q138 q480 (by decide +kernel) ⟨by decide, by decide⟩ (by decide) (by decide),
  k_i2l dX5_goWord_46,
  k_lor dX5_goWord_47,
  k_putJ (C := RX5) (T := TX5) (N := 8) (ci := 3) (k := 6) (ref := "LinkTimes$Reader") dX5_goWord_48 rfl in_X5 tyX5 tyX5_ok nmX5 (by decide) (Or.inl q449) (Or.inl rfl) (Or.inl rfl) (tyX5_ok 6 (by decide)) (fun _ _ _ => rfl),
  k_aload_n dX5_goWord_51,
  k_dup dX5_goWord_52,
  k_getI (C := RX5) (T := TX5) (N := 8) (ci := 3) (k := 2) (ref := "LinkTimes$Reader") dX5_goWord_53 rfl in_X5 (by decide) q445 (Or.inl rfl) (fun _ _ _ => rfl),
  k_iconst dX5_goWord_56,
  k_iadd dX5_goWord_57,
  k_putI (C := RX5) (T := TX5) (N := 8) (ci := 3) (k := 2) (ref := "LinkTimes$Reader") dX5_goWord_58 rfl in_X5 tyX5 tyX5_ok nmX5 (by decide) (Or.inl q445) (Or.inl rfl) (Or.inl rfl) (tyX5_ok 2 (by decide)) (fun _ _ _ => rfl),
  k_goto (t := 5) dX5_goWord_61 (by decide),
  k_aload_n dX5_goWord_64,
  k_aload_n dX5_goWord_65,
  k_getI (C := RX5) (T := TX5) (N := 8) (ci := 3) (k := 2) (ref := "LinkTimes$Reader") dX5_goWord_66 rfl in_X5 (by decide) q445 (Or.inl rfl) (fun _ _ _ => rfl),
  k_aload_n dX5_goWord_69,
  k_getI (C := RX5) (T := TX5) (N := 8) (ci := 3) (k := 3) (ref := "LinkTimes$Reader") dX5_goWord_70 rfl in_X5 (by decide) q446 (Or.inl rfl) (fun _ _ _ => rfl),
  k_isub dX5_goWord_73,
  k_bipush dX5_goWord_74,
  k_cmple (t := 83) dX5_goWord_76 (by decide),
  k_iconst dX5_goWord_79,
  k_goto (t := 84) dX5_goWord_80 (by decide),
  k_iconst dX5_goWord_83,
  k_putI (C := RX5) (T := TX5) (N := 8) (ci := 3) (k := 4) (ref := "LinkTimes$Reader") dX5_goWord_84 rfl in_X5 tyX5 tyX5_ok nmX5 (by decide) (Or.inl q447) (Or.inl rfl) (Or.inl rfl) (tyX5_ok 4 (by decide)) (fun _ _ _ => rfl),
  k_ret dX5_goWord_87, trivial⟩
theorem sndX5_goWord : MSound 3 yX5_goWord (ws_ yX5_goWord cX5_goWord 1 none) mX5_goWord := msound_M (by decide) allX5_goWord (fun _ _ => rfl)
/-! LinkTimes$Reader.isDigit(I)Z -/
noncomputable def kX5_isDigit : ZM := ([(0, zi_ld 1 0 1), (1, zi_ld 0 1 2), (2, zi_callV mX5_byteAt 19 2 5), (5, zi_push (zvi 48) 7), (7, zi_push (zvi 57) 9), (9, zi_callS mX1_isIn 3 12), (12, zi_retz)], fun _ _ => none)
noncomputable def mX5_isDigit : ZF := zrunM kX5_isDigit 2
theorem enX5_isDigit (x0 : Option Nat) (x1 : Int) (h : PH) : mX5_isDigit [zvr x0, zvi x1] h = zev kX5_isDigit 0 [zvr x0, zvi x1] [] h := zrunM_eq rfl rfl
theorem rX5_isDigit : (∀ (a : Option Nat) (L st : List ZV) (h : PH), zev kX5_isDigit 0 (zvr a :: L) st h = zev kX5_isDigit 1 (zvr a :: L) (zvr a :: st) h) ∧
  (∀ (x0 : ZV) (a : Int) (L st : List ZV) (h : PH), zev kX5_isDigit 1 (x0 :: zvi a :: L) st h = zev kX5_isDigit 2 (x0 :: zvi a :: L) (zvi a :: st) h) ∧
  (∀ (v0 : ZV) (q : Nat) (L st : List ZV) (h : PH), zev kX5_isDigit 2 L (v0 :: zvr (some q) :: st) h = if (ph_K h q).1 % 1000 = 19 ∧ zcat st ≤ 8 then zk kX5_isDigit 2 5 L st (mX5_byteAt [zvr (some q), v0] h) else none) ∧
  (∀ (L st : List ZV) (h : PH), zev kX5_isDigit 5 L st h = zev kX5_isDigit 7 L (zvi 48 :: st) h) ∧
  (∀ (L st : List ZV) (h : PH), zev kX5_isDigit 7 L st h = zev kX5_isDigit 9 L (zvi 57 :: st) h) ∧
  (∀ (v0 v1 v2 : ZV) (L st : List ZV) (h : PH), zev kX5_isDigit 9 L (v2 :: v1 :: v0 :: st) h = if zcat st ≤ 8 then zk kX5_isDigit 9 12 L st (mX1_isIn [v0, v1, v2] h) else none) ∧
  (∀ (a : Int) (L : List ZV) (h : PH), zev kX5_isDigit 12 L [zvi a] h = if a = 0 ∨ a = 1 then zrv (zvi a) h else none) :=
  ⟨fun a L st h => e_ld0R (n := 1) rfl,
  fun x0 a L st h => e_ld1I (n := 2) rfl,
  fun v0 q L st h => e_callV2 (F := mX5_byteAt) (kd := 19) (n := 5) rfl,
  fun L st h => e_push (v := zvi 48) (n := 7) rfl,
  fun L st h => e_push (v := zvi 57) (n := 9) rfl,
  fun v0 v1 v2 L st h => e_callS3 (F := mX1_isIn) (n := 12) rfl,
  fun a L h => e_retz rfl⟩
theorem allX5_isDigit : zall yX5_isDigit cX5_isDigit 2 (some .boolean) 2 kX5_isDigit.1 :=
  ⟨k_aload_n dX5_isDigit_0,
  k_iload_n dX5_isDigit_1,
  k_callV (y2 := yX5_byteAt) (C := RX5) (T0 := TX5) (ci := 3) dX5_isDigit_2 sndX5_byteAt rfl q477 q479 qs3 q138 q480 (by decide +kernel) ⟨by decide, by decide⟩ (by decide) (by decide),
  k_bipush dX5_isDigit_5,
  k_bipush dX5_isDigit_7,
  k_callSN (y2 := yX1_isIn) dX5_isDigit_9 sndX1_isIn q485 q376 q128 q377 (by decide +kernel) ⟨by decide, by decide⟩ (by decide) (by decide),
  k_zret dX5_isDigit_12, trivial⟩
theorem sndX5_isDigit : MSound 2 yX5_isDigit (ws_ yX5_isDigit cX5_isDigit 2 (some .boolean)) mX5_isDigit := msound_M (by decide) allX5_isDigit (fun _ _ => rfl)
/-! LinkTimes$Reader.goWhole()V -/
noncomputable def kX5_goWhole : ZM := ([(0, zi_ld 1 0 1), (1, zi_push (zvi 0) 2), (2, zi_putI 19 5 5), (5, zi_ld 1 0 6), (6, zi_ld 1 0 7), (7, zi_getI 19 2 10), (10, zi_callV mX5_isDigit 19 2 13), (13, zi_if (fun a => zc_eq a 0) 65 16), (16, zi_ld 1 0 17), (17, zi_getI 19 2 20), (20, zi_ld 1 0 21), (21, zi_getI 19 3 24), (24, zi_bin (fun a b => w32 (a - b)) 25), (25, zi_push (zvi 4) 26), (26, zi_cmp zc_ge 52 29), (29, zi_ld 1 0 30), (30, zi_push (zvi 10) 32), (32, zi_ld 1 0 33), (33, zi_getI 19 5 36), (36, zi_bin (fun a b => w32 (a * b)) 37), (37, zi_ld 1 0 38), (38, zi_ld 1 0 39), (39, zi_getI 19 2 42), (42, zi_callV mX5_byteAt 19 2 45), (45, zi_bin (fun a b => w32 (a + b)) 46), (46, zi_push (zvi 48) 48), (48, zi_bin (fun a b => w32 (a - b)) 49), (49, zi_putI 19 5 52), (52, zi_ld 1 0 53), (53, zi_dup 54), (54, zi_getI 19 2 57), (57, zi_push (zvi 1) 58), (58, zi_bin (fun a b => w32 (a + b)) 59), (59, zi_putI 19 2 62), (62, zi_goto 5), (65, zi_ld 1 0 66), (66, zi_ld 1 0 67), (67, zi_getI 19 2 70), (70, zi_ld 1 0 71), (71, zi_getI 19 3 74), (74, zi_bin (fun a b => w32 (a - b)) 75), (75, zi_push (zvi 4) 76), (76, zi_cmp zc_le 83 79), (79, zi_push (zvi 0) 80), (80, zi_goto 84), (83, zi_push (zvi 3) 84), (84, zi_putI 19 4 87), (87, zi_ret)], fun _ _ => none)
noncomputable def mX5_goWhole : ZF := zrunM kX5_goWhole 1
theorem enX5_goWhole (x0 : Option Nat) (h : PH) : mX5_goWhole [zvr x0] h = zev kX5_goWhole 0 [zvr x0] [] h := zrunM_eq rfl rfl
theorem hdX5_goWhole_5 (a : Option Nat) (L st : List ZV) (h : PH) : zev kX5_goWhole 5 (zvr a :: L) st h = zev kX5_goWhole 6 (zvr a :: L) (zvr a :: st) h := e_ld0R (n := 6) rfl
theorem rX5_goWhole : (∀ (a : Option Nat) (L st : List ZV) (h : PH), zev kX5_goWhole 0 (zvr a :: L) st h = zev kX5_goWhole 1 (zvr a :: L) (zvr a :: st) h) ∧
  (∀ (L st : List ZV) (h : PH), zev kX5_goWhole 1 L st h = zev kX5_goWhole 2 L (zvi 0 :: st) h) ∧
  (∀ (a : Int) (q : Nat) (L st : List ZV) (h : PH), zev kX5_goWhole 2 L (zvi a :: zvr (some q) :: st) h = if (ph_K h q).1 = 19 then zev kX5_goWhole 5 L st (st_I h q 5 a) else none) ∧
  (∀ (a : Option Nat) (L st : List ZV) (h : PH), zev kX5_goWhole 6 (zvr a :: L) st h = zev kX5_goWhole 7 (zvr a :: L) (zvr a :: st) h) ∧
  (∀ (q : Nat) (L st : List ZV) (h : PH), zev kX5_goWhole 7 L (zvr (some q) :: st) h = if (ph_K h q).1 % 1000 = 19 then zev kX5_goWhole 10 L (zvi (ph_I h q 2) :: st) h else none) ∧
  (∀ (v0 : ZV) (q : Nat) (L st : List ZV) (h : PH), zev kX5_goWhole 10 L (v0 :: zvr (some q) :: st) h = if (ph_K h q).1 % 1000 = 19 ∧ zcat st ≤ 8 then zk kX5_goWhole 10 13 L st (mX5_isDigit [zvr (some q), v0] h) else none) ∧
  (∀ (a : Int) (L st : List ZV) (h : PH), zev kX5_goWhole 13 L (zvi a :: st) h = if a = 0 then zev kX5_goWhole 65 L st h else zev kX5_goWhole 16 L st h) ∧
  (∀ (a : Option Nat) (L st : List ZV) (h : PH), zev kX5_goWhole 16 (zvr a :: L) st h = zev kX5_goWhole 17 (zvr a :: L) (zvr a :: st) h) ∧
  (∀ (q : Nat) (L st : List ZV) (h : PH), zev kX5_goWhole 17 L (zvr (some q) :: st) h = if (ph_K h q).1 % 1000 = 19 then zev kX5_goWhole 20 L (zvi (ph_I h q 2) :: st) h else none) ∧
  (∀ (a : Option Nat) (L st : List ZV) (h : PH), zev kX5_goWhole 20 (zvr a :: L) st h = zev kX5_goWhole 21 (zvr a :: L) (zvr a :: st) h) ∧
  (∀ (q : Nat) (L st : List ZV) (h : PH), zev kX5_goWhole 21 L (zvr (some q) :: st) h = if (ph_K h q).1 % 1000 = 19 then zev kX5_goWhole 24 L (zvi (ph_I h q 3) :: st) h else none) ∧
  (∀ (a b : Int) (L st : List ZV) (h : PH), zev kX5_goWhole 24 L (zvi b :: zvi a :: st) h = zev kX5_goWhole 25 L (zvi (w32 (a - b)) :: st) h) ∧
  (∀ (L st : List ZV) (h : PH), zev kX5_goWhole 25 L st h = zev kX5_goWhole 26 L (zvi 4 :: st) h) ∧
  (∀ (a b : Int) (L st : List ZV) (h : PH), zev kX5_goWhole 26 L (zvi b :: zvi a :: st) h = if a ≥ b then zev kX5_goWhole 52 L st h else zev kX5_goWhole 29 L st h) ∧
  (∀ (a : Option Nat) (L st : List ZV) (h : PH), zev kX5_goWhole 29 (zvr a :: L) st h = zev kX5_goWhole 30 (zvr a :: L) (zvr a :: st) h) ∧
  (∀ (L st : List ZV) (h : PH), zev kX5_goWhole 30 L st h = zev kX5_goWhole 32 L (zvi 10 :: st) h) ∧
  (∀ (a : Option Nat) (L st : List ZV) (h : PH), zev kX5_goWhole 32 (zvr a :: L) st h = zev kX5_goWhole 33 (zvr a :: L) (zvr a :: st) h) ∧
  (∀ (q : Nat) (L st : List ZV) (h : PH), zev kX5_goWhole 33 L (zvr (some q) :: st) h = if (ph_K h q).1 % 1000 = 19 then zev kX5_goWhole 36 L (zvi (ph_I h q 5) :: st) h else none) ∧
  (∀ (a b : Int) (L st : List ZV) (h : PH), zev kX5_goWhole 36 L (zvi b :: zvi a :: st) h = zev kX5_goWhole 37 L (zvi (w32 (a * b)) :: st) h) ∧
  (∀ (a : Option Nat) (L st : List ZV) (h : PH), zev kX5_goWhole 37 (zvr a :: L) st h = zev kX5_goWhole 38 (zvr a :: L) (zvr a :: st) h) ∧
  (∀ (a : Option Nat) (L st : List ZV) (h : PH), zev kX5_goWhole 38 (zvr a :: L) st h = zev kX5_goWhole 39 (zvr a :: L) (zvr a :: st) h) ∧
  (∀ (q : Nat) (L st : List ZV) (h : PH), zev kX5_goWhole 39 L (zvr (some q) :: st) h = if (ph_K h q).1 % 1000 = 19 then zev kX5_goWhole 42 L (zvi (ph_I h q 2) :: st) h else none) ∧
  (∀ (v0 : ZV) (q : Nat) (L st : List ZV) (h : PH), zev kX5_goWhole 42 L (v0 :: zvr (some q) :: st) h = if (ph_K h q).1 % 1000 = 19 ∧ zcat st ≤ 8 then zk kX5_goWhole 42 45 L st (mX5_byteAt [zvr (some q), v0] h) else none) ∧
  (∀ (a b : Int) (L st : List ZV) (h : PH), zev kX5_goWhole 45 L (zvi b :: zvi a :: st) h = zev kX5_goWhole 46 L (zvi (w32 (a + b)) :: st) h) ∧
  (∀ (L st : List ZV) (h : PH), zev kX5_goWhole 46 L st h = zev kX5_goWhole 48 L (zvi 48 :: st) h) ∧
  (∀ (a b : Int) (L st : List ZV) (h : PH), zev kX5_goWhole 48 L (zvi b :: zvi a :: st) h = zev kX5_goWhole 49 L (zvi (w32 (a - b)) :: st) h) ∧
  (∀ (a : Int) (q : Nat) (L st : List ZV) (h : PH), zev kX5_goWhole 49 L (zvi a :: zvr (some q) :: st) h = if (ph_K h q).1 = 19 then zev kX5_goWhole 52 L st (st_I h q 5 a) else none) ∧
  (∀ (a : Option Nat) (L st : List ZV) (h : PH), zev kX5_goWhole 52 (zvr a :: L) st h = zev kX5_goWhole 53 (zvr a :: L) (zvr a :: st) h) ∧
  (∀ (a : Int) (L st : List ZV) (h : PH), zev kX5_goWhole 53 L (zvi a :: st) h = zev kX5_goWhole 54 L (zvi a :: zvi a :: st) h) ∧
  (∀ (a : Option Nat) (L st : List ZV) (h : PH), zev kX5_goWhole 53 L (zvr a :: st) h = zev kX5_goWhole 54 L (zvr a :: zvr a :: st) h) ∧
  (∀ (q : Nat) (L st : List ZV) (h : PH), zev kX5_goWhole 54 L (zvr (some q) :: st) h = if (ph_K h q).1 % 1000 = 19 then zev kX5_goWhole 57 L (zvi (ph_I h q 2) :: st) h else none) ∧
  (∀ (L st : List ZV) (h : PH), zev kX5_goWhole 57 L st h = zev kX5_goWhole 58 L (zvi 1 :: st) h) ∧
  (∀ (a b : Int) (L st : List ZV) (h : PH), zev kX5_goWhole 58 L (zvi b :: zvi a :: st) h = zev kX5_goWhole 59 L (zvi (w32 (a + b)) :: st) h) ∧
  (∀ (a : Int) (q : Nat) (L st : List ZV) (h : PH), zev kX5_goWhole 59 L (zvi a :: zvr (some q) :: st) h = if (ph_K h q).1 = 19 then zev kX5_goWhole 62 L st (st_I h q 2 a) else none) ∧
  (∀ (L st : List ZV) (h : PH), zev kX5_goWhole 62 L st h = zev kX5_goWhole 5 L st h) ∧
  (∀ (a : Option Nat) (L st : List ZV) (h : PH), zev kX5_goWhole 65 (zvr a :: L) st h = zev kX5_goWhole 66 (zvr a :: L) (zvr a :: st) h) ∧
  (∀ (a : Option Nat) (L st : List ZV) (h : PH), zev kX5_goWhole 66 (zvr a :: L) st h = zev kX5_goWhole 67 (zvr a :: L) (zvr a :: st) h) ∧
  (∀ (q : Nat) (L st : List ZV) (h : PH), zev kX5_goWhole 67 L (zvr (some q) :: st) h = if (ph_K h q).1 % 1000 = 19 then zev kX5_goWhole 70 L (zvi (ph_I h q 2) :: st) h else none) ∧
  (∀ (a : Option Nat) (L st : List ZV) (h : PH), zev kX5_goWhole 70 (zvr a :: L) st h = zev kX5_goWhole 71 (zvr a :: L) (zvr a :: st) h) ∧
  (∀ (q : Nat) (L st : List ZV) (h : PH), zev kX5_goWhole 71 L (zvr (some q) :: st) h = if (ph_K h q).1 % 1000 = 19 then zev kX5_goWhole 74 L (zvi (ph_I h q 3) :: st) h else none) ∧
  (∀ (a b : Int) (L st : List ZV) (h : PH), zev kX5_goWhole 74 L (zvi b :: zvi a :: st) h = zev kX5_goWhole 75 L (zvi (w32 (a - b)) :: st) h) ∧
  (∀ (L st : List ZV) (h : PH), zev kX5_goWhole 75 L st h = zev kX5_goWhole 76 L (zvi 4 :: st) h) ∧
  (∀ (a b : Int) (L st : List ZV) (h : PH), zev kX5_goWhole 76 L (zvi b :: zvi a :: st) h = if a ≤ b then zev kX5_goWhole 83 L st h else zev kX5_goWhole 79 L st h) ∧
  (∀ (L st : List ZV) (h : PH), zev kX5_goWhole 79 L st h = zev kX5_goWhole 80 L (zvi 0 :: st) h) ∧
  (∀ (L st : List ZV) (h : PH), zev kX5_goWhole 80 L st h = zev kX5_goWhole 84 L st h) ∧
  (∀ (L st : List ZV) (h : PH), zev kX5_goWhole 83 L st h = zev kX5_goWhole 84 L (zvi 3 :: st) h) ∧
  (∀ (a : Int) (q : Nat) (L st : List ZV) (h : PH), zev kX5_goWhole 84 L (zvi a :: zvr (some q) :: st) h = if (ph_K h q).1 = 19 then zev kX5_goWhole 87 L st (st_I h q 4 a) else none) ∧
  (∀ (L : List ZV) (h : PH), zev kX5_goWhole 87 L [] h = zr0 h) :=
  ⟨fun a L st h => e_ld0R (n := 1) rfl,
  fun L st h => e_push (v := zvi 0) (n := 2) rfl,
  fun a q L st h => e_putI (kd := 19) (k := 5) (n := 5) rfl,
  fun a L st h => e_ld0R (n := 7) rfl,
  fun q L st h => e_getI (kd := 19) (k := 2) (n := 10) rfl,
  fun v0 q L st h => e_callV2 (F := mX5_isDigit) (kd := 19) (n := 13) rfl,
  fun a L st h => e_ifeq (t := 65) (n := 16) rfl,
  fun a L st h => e_ld0R (n := 17) rfl,
  fun q L st h => e_getI (kd := 19) (k := 2) (n := 20) rfl,
  fun a L st h => e_ld0R (n := 21) rfl,
  fun q L st h => e_getI (kd := 19) (k := 3) (n := 24) rfl,
  fun a b L st h => e_bin (f := (fun a b => w32 (a - b))) (n := 25) rfl,
  fun L st h => e_push (v := zvi 4) (n := 26) rfl,
  fun a b L st h => e_cmpge (t := 52) (n := 29) rfl,
  fun a L st h => e_ld0R (n := 30) rfl,
  fun L st h => e_push (v := zvi 10) (n := 32) rfl,
  fun a L st h => e_ld0R (n := 33) rfl,
  fun q L st h => e_getI (kd := 19) (k := 5) (n := 36) rfl,
  fun a b L st h => e_bin (f := (fun a b => w32 (a * b))) (n := 37) rfl,
  fun a L st h => e_ld0R (n := 38) rfl,
  fun a L st h => e_ld0R (n := 39) rfl,
  fun q L st h => e_getI (kd := 19) (k := 2) (n := 42) rfl,
  fun v0 q L st h => e_callV2 (F := mX5_byteAt) (kd := 19) (n := 45) rfl,
  fun a b L st h => e_bin (f := (fun a b => w32 (a + b))) (n := 46) rfl,
  fun L st h => e_push (v := zvi 48) (n := 48) rfl,
  fun a b L st h => e_bin (f := (fun a b => w32 (a - b))) (n := 49) rfl,
  fun a q L st h => e_putI (kd := 19) (k := 5) (n := 52) rfl,
  fun a L st h => e_ld0R (n := 53) rfl,
  fun a L st h => e_dupI (n := 54) rfl,
  fun a L st h => e_dupR (n := 54) rfl,
  fun q L st h => e_getI (kd := 19) (k := 2) (n := 57) rfl,
  fun L st h => e_push (v := zvi 1) (n := 58) rfl,
  fun a b L st h => e_bin (f := (fun a b => w32 (a + b))) (n := 59) rfl,
  fun a q L st h => e_putI (kd := 19) (k := 2) (n := 62) rfl,
  fun L st h => e_goto (t := 5) rfl,
  fun a L st h => e_ld0R (n := 66) rfl,
  fun a L st h => e_ld0R (n := 67) rfl,
  fun q L st h => e_getI (kd := 19) (k := 2) (n := 70) rfl,
  fun a L st h => e_ld0R (n := 71) rfl,
  fun q L st h => e_getI (kd := 19) (k := 3) (n := 74) rfl,
  fun a b L st h => e_bin (f := (fun a b => w32 (a - b))) (n := 75) rfl,
  fun L st h => e_push (v := zvi 4) (n := 76) rfl,
  fun a b L st h => e_cmple (t := 83) (n := 79) rfl,
  fun L st h => e_push (v := zvi 0) (n := 80) rfl,
  fun L st h => e_goto (t := 84) rfl,
  fun L st h => e_push (v := zvi 3) (n := 84) rfl,
  fun a q L st h => e_putI (kd := 19) (k := 4) (n := 87) rfl,
  fun L h => e_ret rfl⟩
theorem allX5_goWhole : zall yX5_goWhole cX5_goWhole 1 none 3 kX5_goWhole.1 :=
  ⟨k_aload_n dX5_goWhole_0,
  k_iconst dX5_goWhole_1,
  k_putI (C := RX5) (T := TX5) (N := 8) (ci := 3) (k := 5) (ref := "LinkTimes$Reader") dX5_goWhole_2 rfl in_X5 tyX5 tyX5_ok nmX5 (by decide) (Or.inl q448) (Or.inl rfl) (Or.inl rfl) (tyX5_ok 5 (by decide)) (fun _ _ _ => rfl),
  k_aload_n dX5_goWhole_5,
  k_aload_n dX5_goWhole_6,
  k_getI (C := RX5) (T := TX5) (N := 8) (ci := 3) (k := 2) (ref := "LinkTimes$Reader") dX5_goWhole_7 rfl in_X5 (by decide) q445 (Or.inl rfl) (fun _ _ _ => rfl),
  k_callV (y2 := yX5_isDigit) (C := RX5) (T0 := TX5) (ci := 3) dX5_goWhole_10 sndX5_isDigit rfl q490 q492 qs6 q138 q493 (by decide +kernel) ⟨by decide, by decide⟩ (by decide) (by decide),
  k_ifeq (t := 65) dX5_goWhole_13 (by decide),
  k_aload_n dX5_goWhole_16,
  k_getI (C := RX5) (T := TX5) (N := 8) (ci := 3) (k := 2) (ref := "LinkTimes$Reader") dX5_goWhole_17 rfl in_X5 (by decide) q445 (Or.inl rfl) (fun _ _ _ => rfl),
  k_aload_n dX5_goWhole_20,
  k_getI (C := RX5) (T := TX5) (N := 8) (ci := 3) (k := 3) (ref := "LinkTimes$Reader") dX5_goWhole_21 rfl in_X5 (by decide) q446 (Or.inl rfl) (fun _ _ _ => rfl),
  k_isub dX5_goWhole_24,
  k_iconst dX5_goWhole_25,
  k_cmpge (t := 52) dX5_goWhole_26 (by decide),
  k_aload_n dX5_goWhole_29,
  k_bipush dX5_goWhole_30,
  k_aload_n dX5_goWhole_32,
  k_getI (C := RX5) (T := TX5) (N := 8) (ci := 3) (k := 5) (ref := "LinkTimes$Reader") dX5_goWhole_33 rfl in_X5 (by decide) q448 (Or.inl rfl) (fun _ _ _ => rfl),
  k_imul dX5_goWhole_36,
  k_aload_n dX5_goWhole_37,
  k_aload_n dX5_goWhole_38,
  k_getI (C := RX5) (T := TX5) (N := 8) (ci := 3) (k := 2) (ref := "LinkTimes$Reader") dX5_goWhole_39 rfl in_X5 (by decide) q445 (Or.inl rfl) (fun _ _ _ => rfl),
  k_callV (y2 := yX5_byteAt) (C := RX5) (T0 := TX5) (ci := 3) dX5_goWhole_42 sndX5_byteAt rfl q477 q479 qs3 q138 q480 (by decide +kernel) ⟨by decide, by decide⟩ (by decide) (by decide),
  k_iadd dX5_goWhole_45,
  k_bipush dX5_goWhole_46,
  k_isub dX5_goWhole_48,
  k_putI (C := RX5) (T := TX5) (N := 8) (ci := 3) (k := 5) (ref := "LinkTimes$Reader") dX5_goWhole_49 rfl in_X5 tyX5 tyX5_ok nmX5 (by decide) (Or.inl q448) (Or.inl rfl) (Or.inl rfl) (tyX5_ok 5 (by decide)) (fun _ _ _ => rfl),
  k_aload_n dX5_goWhole_52,
  k_dup dX5_goWhole_53,
  k_getI (C := RX5) (T := TX5) (N := 8) (ci := 3) (k := 2) (ref := "LinkTimes$Reader") dX5_goWhole_54 rfl in_X5 (by decide) q445 (Or.inl rfl) (fun _ _ _ => rfl),
  k_iconst dX5_goWhole_57,
  k_iadd dX5_goWhole_58,
  k_putI (C := RX5) (T := TX5) (N := 8) (ci := 3) (k := 2) (ref := "LinkTimes$Reader") dX5_goWhole_59 rfl in_X5 tyX5 tyX5_ok nmX5 (by decide) (Or.inl q445) (Or.inl rfl) (Or.inl rfl) (tyX5_ok 2 (by decide)) (fun _ _ _ => rfl),
  k_goto (t := 5) dX5_goWhole_62 (by decide),
  k_aload_n dX5_goWhole_65,
  k_aload_n dX5_goWhole_66,
  k_getI (C := RX5) (T := TX5) (N := 8) (ci := 3) (k := 2) (ref := "LinkTimes$Reader") dX5_goWhole_67 rfl in_X5 (by decide) q445 (Or.inl rfl) (fun _ _ _ => rfl),
  k_aload_n dX5_goWhole_70,
  k_getI (C := RX5) (T := TX5) (N := 8) (ci := 3) (k := 3) (ref := "LinkTimes$Reader") dX5_goWhole_71 rfl in_X5 (by decide) q446 (Or.inl rfl) (fun _ _ _ => rfl),
  k_isub dX5_goWhole_74,
  k_iconst dX5_goWhole_75,
  k_cmple (t := 83) dX5_goWhole_76 (by decide),
  k_iconst dX5_goWhole_79,
  k_goto (t := 84) dX5_goWhole_80 (by decide),
  k_iconst dX5_goWhole_83,
  k_putI (C := RX5) (T := TX5) (N := 8) (ci := 3) (k := 4) (ref := "LinkTimes$Reader") dX5_goWhole_84 rfl in_X5 tyX5 tyX5_ok nmX5 (by decide) (Or.inl q447) (Or.inl rfl) (Or.inl rfl) (tyX5_ok 4 (by decide)) (fun _ _ _ => rfl),
  k_ret dX5_goWhole_87, trivial⟩
theorem sndX5_goWhole : MSound 3 yX5_goWhole (ws_ yX5_goWhole cX5_goWhole 1 none) mX5_goWhole := msound_M (by decide) allX5_goWhole (fun _ _ => rfl)
/-! LinkTimes$Reader.go()V -/
noncomputable def kX5_go : ZM := ([(0, zi_ld 1 0 1), (1, zi_getI 19 2 4), (4, zi_ld 1 0 5), (5, zi_getI 19 0 8), (8, zi_cmp zc_ge 37 11), (11, zi_ld 1 0 12), (12, zi_ld 1 0 13), (13, zi_getI 19 2 16), (16, zi_callV mX5_byteAt 19 2 19), (19, zi_push (zvi 32) 21), (21, zi_cmp zc_ne 37 24), (24, zi_ld 1 0 25), (25, zi_dup 26), (26, zi_getI 19 2 29), (29, zi_push (zvi 1) 30), (30, zi_bin (fun a b => w32 (a + b)) 31), (31, zi_putI 19 2 34), (34, zi_goto 0), (37, zi_ld 1 0 38), (38, zi_ld 1 0 39), (39, zi_getI 19 2 42), (42, zi_putI 19 3 45), (45, zi_ld 1 0 46), (46, zi_getI 19 2 49), (49, zi_ld 1 0 50), (50, zi_getI 19 0 53), (53, zi_cmp zc_lt 64 56), (56, zi_ld 1 0 57), (57, zi_push (zvi 1) 58), (58, zi_putI 19 4 61), (61, zi_goto 132), (64, zi_ld 1 0 65), (65, zi_ld 1 0 66), (66, zi_getI 19 2 69), (69, zi_callV mX5_isLetter 19 2 72), (72, zi_if (fun a => zc_eq a 0) 82 75), (75, zi_ld 1 0 76), (76, zi_callV mX5_goWord 19 1 79), (79, zi_goto 132), (82, zi_ld 1 0 83), (83, zi_ld 1 0 84), (84, zi_getI 19 2 87), (87, zi_callV mX5_isDigit 19 2 90), (90, zi_if (fun a => zc_eq a 0) 100 93), (93, zi_ld 1 0 94), (94, zi_callV mX5_goWhole 19 1 97), (97, zi_goto 132), (100, zi_ld 1 0 101), (101, zi_ld 1 0 102), (102, zi_ld 1 0 103), (103, zi_getI 19 2 106), (106, zi_callV mX5_byteAt 19 2 109), (109, zi_push (zvi 59) 111), (111, zi_cmp zc_ne 118 114), (114, zi_push (zvi 4) 115), (115, zi_goto 119), (118, zi_push (zvi 0) 119), (119, zi_putI 19 4 122), (122, zi_ld 1 0 123), (123, zi_dup 124), (124, zi_getI 19 2 127), (127, zi_push (zvi 1) 128), (128, zi_bin (fun a b => w32 (a + b)) 129), (129, zi_putI 19 2 132), (132, zi_ret)], fun _ _ => none)
noncomputable def mX5_go : ZF := zrunM kX5_go 1
theorem enX5_go (x0 : Option Nat) (h : PH) : mX5_go [zvr x0] h = zev kX5_go 0 [zvr x0] [] h := zrunM_eq rfl rfl
theorem hdX5_go_0 (a : Option Nat) (L st : List ZV) (h : PH) : zev kX5_go 0 (zvr a :: L) st h = zev kX5_go 1 (zvr a :: L) (zvr a :: st) h := e_ld0R (n := 1) rfl
theorem rX5_go : (∀ (q : Nat) (L st : List ZV) (h : PH), zev kX5_go 1 L (zvr (some q) :: st) h = if (ph_K h q).1 % 1000 = 19 then zev kX5_go 4 L (zvi (ph_I h q 2) :: st) h else none) ∧
  (∀ (a : Option Nat) (L st : List ZV) (h : PH), zev kX5_go 4 (zvr a :: L) st h = zev kX5_go 5 (zvr a :: L) (zvr a :: st) h) ∧
  (∀ (q : Nat) (L st : List ZV) (h : PH), zev kX5_go 5 L (zvr (some q) :: st) h = if (ph_K h q).1 % 1000 = 19 then zev kX5_go 8 L (zvi (ph_I h q 0) :: st) h else none) ∧
  (∀ (a b : Int) (L st : List ZV) (h : PH), zev kX5_go 8 L (zvi b :: zvi a :: st) h = if a ≥ b then zev kX5_go 37 L st h else zev kX5_go 11 L st h) ∧
  (∀ (a : Option Nat) (L st : List ZV) (h : PH), zev kX5_go 11 (zvr a :: L) st h = zev kX5_go 12 (zvr a :: L) (zvr a :: st) h) ∧
  (∀ (a : Option Nat) (L st : List ZV) (h : PH), zev kX5_go 12 (zvr a :: L) st h = zev kX5_go 13 (zvr a :: L) (zvr a :: st) h) ∧
  (∀ (q : Nat) (L st : List ZV) (h : PH), zev kX5_go 13 L (zvr (some q) :: st) h = if (ph_K h q).1 % 1000 = 19 then zev kX5_go 16 L (zvi (ph_I h q 2) :: st) h else none) ∧
  (∀ (v0 : ZV) (q : Nat) (L st : List ZV) (h : PH), zev kX5_go 16 L (v0 :: zvr (some q) :: st) h = if (ph_K h q).1 % 1000 = 19 ∧ zcat st ≤ 8 then zk kX5_go 16 19 L st (mX5_byteAt [zvr (some q), v0] h) else none) ∧
  (∀ (L st : List ZV) (h : PH), zev kX5_go 19 L st h = zev kX5_go 21 L (zvi 32 :: st) h) ∧
  (∀ (a b : Int) (L st : List ZV) (h : PH), zev kX5_go 21 L (zvi b :: zvi a :: st) h = if a ≠ b then zev kX5_go 37 L st h else zev kX5_go 24 L st h) ∧
  (∀ (a : Option Nat) (L st : List ZV) (h : PH), zev kX5_go 24 (zvr a :: L) st h = zev kX5_go 25 (zvr a :: L) (zvr a :: st) h) ∧
  (∀ (a : Int) (L st : List ZV) (h : PH), zev kX5_go 25 L (zvi a :: st) h = zev kX5_go 26 L (zvi a :: zvi a :: st) h) ∧
  (∀ (a : Option Nat) (L st : List ZV) (h : PH), zev kX5_go 25 L (zvr a :: st) h = zev kX5_go 26 L (zvr a :: zvr a :: st) h) ∧
  (∀ (q : Nat) (L st : List ZV) (h : PH), zev kX5_go 26 L (zvr (some q) :: st) h = if (ph_K h q).1 % 1000 = 19 then zev kX5_go 29 L (zvi (ph_I h q 2) :: st) h else none) ∧
  (∀ (L st : List ZV) (h : PH), zev kX5_go 29 L st h = zev kX5_go 30 L (zvi 1 :: st) h) ∧
  (∀ (a b : Int) (L st : List ZV) (h : PH), zev kX5_go 30 L (zvi b :: zvi a :: st) h = zev kX5_go 31 L (zvi (w32 (a + b)) :: st) h) ∧
  (∀ (a : Int) (q : Nat) (L st : List ZV) (h : PH), zev kX5_go 31 L (zvi a :: zvr (some q) :: st) h = if (ph_K h q).1 = 19 then zev kX5_go 34 L st (st_I h q 2 a) else none) ∧
  (∀ (L st : List ZV) (h : PH), zev kX5_go 34 L st h = zev kX5_go 0 L st h) ∧
  (∀ (a : Option Nat) (L st : List ZV) (h : PH), zev kX5_go 37 (zvr a :: L) st h = zev kX5_go 38 (zvr a :: L) (zvr a :: st) h) ∧
  (∀ (a : Option Nat) (L st : List ZV) (h : PH), zev kX5_go 38 (zvr a :: L) st h = zev kX5_go 39 (zvr a :: L) (zvr a :: st) h) ∧
  (∀ (q : Nat) (L st : List ZV) (h : PH), zev kX5_go 39 L (zvr (some q) :: st) h = if (ph_K h q).1 % 1000 = 19 then zev kX5_go 42 L (zvi (ph_I h q 2) :: st) h else none) ∧
  (∀ (a : Int) (q : Nat) (L st : List ZV) (h : PH), zev kX5_go 42 L (zvi a :: zvr (some q) :: st) h = if (ph_K h q).1 = 19 then zev kX5_go 45 L st (st_I h q 3 a) else none) ∧
  (∀ (a : Option Nat) (L st : List ZV) (h : PH), zev kX5_go 45 (zvr a :: L) st h = zev kX5_go 46 (zvr a :: L) (zvr a :: st) h) ∧
  (∀ (q : Nat) (L st : List ZV) (h : PH), zev kX5_go 46 L (zvr (some q) :: st) h = if (ph_K h q).1 % 1000 = 19 then zev kX5_go 49 L (zvi (ph_I h q 2) :: st) h else none) ∧
  (∀ (a : Option Nat) (L st : List ZV) (h : PH), zev kX5_go 49 (zvr a :: L) st h = zev kX5_go 50 (zvr a :: L) (zvr a :: st) h) ∧
  (∀ (q : Nat) (L st : List ZV) (h : PH), zev kX5_go 50 L (zvr (some q) :: st) h = if (ph_K h q).1 % 1000 = 19 then zev kX5_go 53 L (zvi (ph_I h q 0) :: st) h else none) ∧
  (∀ (a b : Int) (L st : List ZV) (h : PH), zev kX5_go 53 L (zvi b :: zvi a :: st) h = if a < b then zev kX5_go 64 L st h else zev kX5_go 56 L st h) ∧
  (∀ (a : Option Nat) (L st : List ZV) (h : PH), zev kX5_go 56 (zvr a :: L) st h = zev kX5_go 57 (zvr a :: L) (zvr a :: st) h) ∧
  (∀ (L st : List ZV) (h : PH), zev kX5_go 57 L st h = zev kX5_go 58 L (zvi 1 :: st) h) ∧
  (∀ (a : Int) (q : Nat) (L st : List ZV) (h : PH), zev kX5_go 58 L (zvi a :: zvr (some q) :: st) h = if (ph_K h q).1 = 19 then zev kX5_go 61 L st (st_I h q 4 a) else none) ∧
  (∀ (L st : List ZV) (h : PH), zev kX5_go 61 L st h = zev kX5_go 132 L st h) ∧
  (∀ (a : Option Nat) (L st : List ZV) (h : PH), zev kX5_go 64 (zvr a :: L) st h = zev kX5_go 65 (zvr a :: L) (zvr a :: st) h) ∧
  (∀ (a : Option Nat) (L st : List ZV) (h : PH), zev kX5_go 65 (zvr a :: L) st h = zev kX5_go 66 (zvr a :: L) (zvr a :: st) h) ∧
  (∀ (q : Nat) (L st : List ZV) (h : PH), zev kX5_go 66 L (zvr (some q) :: st) h = if (ph_K h q).1 % 1000 = 19 then zev kX5_go 69 L (zvi (ph_I h q 2) :: st) h else none) ∧
  (∀ (v0 : ZV) (q : Nat) (L st : List ZV) (h : PH), zev kX5_go 69 L (v0 :: zvr (some q) :: st) h = if (ph_K h q).1 % 1000 = 19 ∧ zcat st ≤ 8 then zk kX5_go 69 72 L st (mX5_isLetter [zvr (some q), v0] h) else none) ∧
  (∀ (a : Int) (L st : List ZV) (h : PH), zev kX5_go 72 L (zvi a :: st) h = if a = 0 then zev kX5_go 82 L st h else zev kX5_go 75 L st h) ∧
  (∀ (a : Option Nat) (L st : List ZV) (h : PH), zev kX5_go 75 (zvr a :: L) st h = zev kX5_go 76 (zvr a :: L) (zvr a :: st) h) ∧
  (∀ (q : Nat) (L st : List ZV) (h : PH), zev kX5_go 76 L (zvr (some q) :: st) h = if (ph_K h q).1 % 1000 = 19 ∧ zcat st ≤ 8 then zk kX5_go 76 79 L st (mX5_goWord [zvr (some q)] h) else none) ∧
  (∀ (L st : List ZV) (h : PH), zev kX5_go 79 L st h = zev kX5_go 132 L st h) ∧
  (∀ (a : Option Nat) (L st : List ZV) (h : PH), zev kX5_go 82 (zvr a :: L) st h = zev kX5_go 83 (zvr a :: L) (zvr a :: st) h) ∧
  (∀ (a : Option Nat) (L st : List ZV) (h : PH), zev kX5_go 83 (zvr a :: L) st h = zev kX5_go 84 (zvr a :: L) (zvr a :: st) h) ∧
  (∀ (q : Nat) (L st : List ZV) (h : PH), zev kX5_go 84 L (zvr (some q) :: st) h = if (ph_K h q).1 % 1000 = 19 then zev kX5_go 87 L (zvi (ph_I h q 2) :: st) h else none) ∧
  (∀ (v0 : ZV) (q : Nat) (L st : List ZV) (h : PH), zev kX5_go 87 L (v0 :: zvr (some q) :: st) h = if (ph_K h q).1 % 1000 = 19 ∧ zcat st ≤ 8 then zk kX5_go 87 90 L st (mX5_isDigit [zvr (some q), v0] h) else none) ∧
  (∀ (a : Int) (L st : List ZV) (h : PH), zev kX5_go 90 L (zvi a :: st) h = if a = 0 then zev kX5_go 100 L st h else zev kX5_go 93 L st h) ∧
  (∀ (a : Option Nat) (L st : List ZV) (h : PH), zev kX5_go 93 (zvr a :: L) st h = zev kX5_go 94 (zvr a :: L) (zvr a :: st) h) ∧
  (∀ (q : Nat) (L st : List ZV) (h : PH), zev kX5_go 94 L (zvr (some q) :: st) h = if (ph_K h q).1 % 1000 = 19 ∧ zcat st ≤ 8 then zk kX5_go 94 97 L st (mX5_goWhole [zvr (some q)] h) else none) ∧
  (∀ (L st : List ZV) (h : PH), zev kX5_go 97 L st h = zev kX5_go 132 L st h) ∧
  (∀ (a : Option Nat) (L st : List ZV) (h : PH), zev kX5_go 100 (zvr a :: L) st h = zev kX5_go 101 (zvr a :: L) (zvr a :: st) h) ∧
  (∀ (a : Option Nat) (L st : List ZV) (h : PH), zev kX5_go 101 (zvr a :: L) st h = zev kX5_go 102 (zvr a :: L) (zvr a :: st) h) ∧
  (∀ (a : Option Nat) (L st : List ZV) (h : PH), zev kX5_go 102 (zvr a :: L) st h = zev kX5_go 103 (zvr a :: L) (zvr a :: st) h) ∧
  (∀ (q : Nat) (L st : List ZV) (h : PH), zev kX5_go 103 L (zvr (some q) :: st) h = if (ph_K h q).1 % 1000 = 19 then zev kX5_go 106 L (zvi (ph_I h q 2) :: st) h else none) ∧
  (∀ (v0 : ZV) (q : Nat) (L st : List ZV) (h : PH), zev kX5_go 106 L (v0 :: zvr (some q) :: st) h = if (ph_K h q).1 % 1000 = 19 ∧ zcat st ≤ 8 then zk kX5_go 106 109 L st (mX5_byteAt [zvr (some q), v0] h) else none) ∧
  (∀ (L st : List ZV) (h : PH), zev kX5_go 109 L st h = zev kX5_go 111 L (zvi 59 :: st) h) ∧
  (∀ (a b : Int) (L st : List ZV) (h : PH), zev kX5_go 111 L (zvi b :: zvi a :: st) h = if a ≠ b then zev kX5_go 118 L st h else zev kX5_go 114 L st h) ∧
  (∀ (L st : List ZV) (h : PH), zev kX5_go 114 L st h = zev kX5_go 115 L (zvi 4 :: st) h) ∧
  (∀ (L st : List ZV) (h : PH), zev kX5_go 115 L st h = zev kX5_go 119 L st h) ∧
  (∀ (L st : List ZV) (h : PH), zev kX5_go 118 L st h = zev kX5_go 119 L (zvi 0 :: st) h) ∧
  (∀ (a : Int) (q : Nat) (L st : List ZV) (h : PH), zev kX5_go 119 L (zvi a :: zvr (some q) :: st) h = if (ph_K h q).1 = 19 then zev kX5_go 122 L st (st_I h q 4 a) else none) ∧
  (∀ (a : Option Nat) (L st : List ZV) (h : PH), zev kX5_go 122 (zvr a :: L) st h = zev kX5_go 123 (zvr a :: L) (zvr a :: st) h) ∧
  (∀ (a : Int) (L st : List ZV) (h : PH), zev kX5_go 123 L (zvi a :: st) h = zev kX5_go 124 L (zvi a :: zvi a :: st) h) ∧
  (∀ (a : Option Nat) (L st : List ZV) (h : PH), zev kX5_go 123 L (zvr a :: st) h = zev kX5_go 124 L (zvr a :: zvr a :: st) h) ∧
  (∀ (q : Nat) (L st : List ZV) (h : PH), zev kX5_go 124 L (zvr (some q) :: st) h = if (ph_K h q).1 % 1000 = 19 then zev kX5_go 127 L (zvi (ph_I h q 2) :: st) h else none) ∧
  (∀ (L st : List ZV) (h : PH), zev kX5_go 127 L st h = zev kX5_go 128 L (zvi 1 :: st) h) ∧
  (∀ (a b : Int) (L st : List ZV) (h : PH), zev kX5_go 128 L (zvi b :: zvi a :: st) h = zev kX5_go 129 L (zvi (w32 (a + b)) :: st) h) ∧
  (∀ (a : Int) (q : Nat) (L st : List ZV) (h : PH), zev kX5_go 129 L (zvi a :: zvr (some q) :: st) h = if (ph_K h q).1 = 19 then zev kX5_go 132 L st (st_I h q 2 a) else none) ∧
  (∀ (L : List ZV) (h : PH), zev kX5_go 132 L [] h = zr0 h) :=
  ⟨fun q L st h => e_getI (kd := 19) (k := 2) (n := 4) rfl,
  fun a L st h => e_ld0R (n := 5) rfl,
  fun q L st h => e_getI (kd := 19) (k := 0) (n := 8) rfl,
  fun a b L st h => e_cmpge (t := 37) (n := 11) rfl,
  fun a L st h => e_ld0R (n := 12) rfl,
  fun a L st h => e_ld0R (n := 13) rfl,
  fun q L st h => e_getI (kd := 19) (k := 2) (n := 16) rfl,
  fun v0 q L st h => e_callV2 (F := mX5_byteAt) (kd := 19) (n := 19) rfl,
  fun L st h => e_push (v := zvi 32) (n := 21) rfl,
  fun a b L st h => e_cmpne (t := 37) (n := 24) rfl,
  fun a L st h => e_ld0R (n := 25) rfl,
  fun a L st h => e_dupI (n := 26) rfl,
  fun a L st h => e_dupR (n := 26) rfl,
  fun q L st h => e_getI (kd := 19) (k := 2) (n := 29) rfl,
  fun L st h => e_push (v := zvi 1) (n := 30) rfl,
  fun a b L st h => e_bin (f := (fun a b => w32 (a + b))) (n := 31) rfl,
  fun a q L st h => e_putI (kd := 19) (k := 2) (n := 34) rfl,
  fun L st h => e_goto (t := 0) rfl,
  fun a L st h => e_ld0R (n := 38) rfl,
  fun a L st h => e_ld0R (n := 39) rfl,
  fun q L st h => e_getI (kd := 19) (k := 2) (n := 42) rfl,
  fun a q L st h => e_putI (kd := 19) (k := 3) (n := 45) rfl,
  fun a L st h => e_ld0R (n := 46) rfl,
  fun q L st h => e_getI (kd := 19) (k := 2) (n := 49) rfl,
  fun a L st h => e_ld0R (n := 50) rfl,
  fun q L st h => e_getI (kd := 19) (k := 0) (n := 53) rfl,
  fun a b L st h => e_cmplt (t := 64) (n := 56) rfl,
  fun a L st h => e_ld0R (n := 57) rfl,
  fun L st h => e_push (v := zvi 1) (n := 58) rfl,
  fun a q L st h => e_putI (kd := 19) (k := 4) (n := 61) rfl,
  fun L st h => e_goto (t := 132) rfl,
  fun a L st h => e_ld0R (n := 65) rfl,
  fun a L st h => e_ld0R (n := 66) rfl,
  fun q L st h => e_getI (kd := 19) (k := 2) (n := 69) rfl,
  fun v0 q L st h => e_callV2 (F := mX5_isLetter) (kd := 19) (n := 72) rfl,
  fun a L st h => e_ifeq (t := 82) (n := 75) rfl,
  fun a L st h => e_ld0R (n := 76) rfl,
  fun q L st h => e_callV1 (F := mX5_goWord) (kd := 19) (n := 79) rfl,
  fun L st h => e_goto (t := 132) rfl,
  fun a L st h => e_ld0R (n := 83) rfl,
  fun a L st h => e_ld0R (n := 84) rfl,
  fun q L st h => e_getI (kd := 19) (k := 2) (n := 87) rfl,
  fun v0 q L st h => e_callV2 (F := mX5_isDigit) (kd := 19) (n := 90) rfl,
  fun a L st h => e_ifeq (t := 100) (n := 93) rfl,
  fun a L st h => e_ld0R (n := 94) rfl,
  fun q L st h => e_callV1 (F := mX5_goWhole) (kd := 19) (n := 97) rfl,
  fun L st h => e_goto (t := 132) rfl,
  fun a L st h => e_ld0R (n := 101) rfl,
  fun a L st h => e_ld0R (n := 102) rfl,
  fun a L st h => e_ld0R (n := 103) rfl,
  fun q L st h => e_getI (kd := 19) (k := 2) (n := 106) rfl,
  fun v0 q L st h => e_callV2 (F := mX5_byteAt) (kd := 19) (n := 109) rfl,
  fun L st h => e_push (v := zvi 59) (n := 111) rfl,
  fun a b L st h => e_cmpne (t := 118) (n := 114) rfl,
  fun L st h => e_push (v := zvi 4) (n := 115) rfl,
  fun L st h => e_goto (t := 119) rfl,
  fun L st h => e_push (v := zvi 0) (n := 119) rfl,
  fun a q L st h => e_putI (kd := 19) (k := 4) (n := 122) rfl,
  fun a L st h => e_ld0R (n := 123) rfl,
  fun a L st h => e_dupI (n := 124) rfl,
  fun a L st h => e_dupR (n := 124) rfl,
  fun q L st h => e_getI (kd := 19) (k := 2) (n := 127) rfl,
  fun L st h => e_push (v := zvi 1) (n := 128) rfl,
  fun a b L st h => e_bin (f := (fun a b => w32 (a + b))) (n := 129) rfl,
  fun a q L st h => e_putI (kd := 19) (k := 2) (n := 132) rfl,
  fun L h => e_ret rfl⟩
theorem allX5_go : zall yX5_go cX5_go 1 none 4 kX5_go.1 :=
  ⟨k_aload_n dX5_go_0,
  k_getI (C := RX5) (T := TX5) (N := 8) (ci := 3) (k := 2) (ref := "LinkTimes$Reader") dX5_go_1 rfl in_X5 (by decide) q445 (Or.inl rfl) (fun _ _ _ => rfl),
  k_aload_n dX5_go_4,
  k_getI (C := RX5) (T := TX5) (N := 8) (ci := 3) (k := 0) (ref := "LinkTimes$Reader") dX5_go_5 rfl in_X5 (by decide) q443 (Or.inl rfl) (fun _ _ _ => rfl),
  k_cmpge (t := 37) dX5_go_8 (by decide),
  k_aload_n dX5_go_11,
  k_aload_n dX5_go_12,
  k_getI (C := RX5) (T := TX5) (N := 8) (ci := 3) (k := 2) (ref := "LinkTimes$Reader") dX5_go_13 rfl in_X5 (by decide) q445 (Or.inl rfl) (fun _ _ _ => rfl),
  k_callV (y2 := yX5_byteAt) (C := RX5) (T0 := TX5) (ci := 3) dX5_go_16 sndX5_byteAt rfl q477 q479 qs3 q138 q480 (by decide +kernel) ⟨by decide, by decide⟩ (by decide) (by decide),
  k_bipush dX5_go_19,
  k_cmpne (t := 37) dX5_go_21 (by decide),
  k_aload_n dX5_go_24,
  k_dup dX5_go_25,
  k_getI (C := RX5) (T := TX5) (N := 8) (ci := 3) (k := 2) (ref := "LinkTimes$Reader") dX5_go_26 rfl in_X5 (by decide) q445 (Or.inl rfl) (fun _ _ _ => rfl),
  k_iconst dX5_go_29,
  k_iadd dX5_go_30,
  k_putI (C := RX5) (T := TX5) (N := 8) (ci := 3) (k := 2) (ref := "LinkTimes$Reader") dX5_go_31 rfl in_X5 tyX5 tyX5_ok nmX5 (by decide) (Or.inl q445) (Or.inl rfl) (Or.inl rfl) (tyX5_ok 2 (by decide)) (fun _ _ _ => rfl),
  k_goto (t := 0) dX5_go_34 (by decide),
  k_aload_n dX5_go_37,
  k_aload_n dX5_go_38,
  k_getI (C := RX5) (T := TX5) (N := 8) (ci := 3) (k := 2) (ref := "LinkTimes$Reader") dX5_go_39 rfl in_X5 (by decide) q445 (Or.inl rfl) (fun _ _ _ => rfl),
  k_putI (C := RX5) (T := TX5) (N := 8) (ci := 3) (k := 3) (ref := "LinkTimes$Reader") dX5_go_42 rfl in_X5 tyX5 tyX5_ok nmX5 (by decide) (Or.inl q446) (Or.inl rfl) (Or.inl rfl) (tyX5_ok 3 (by decide)) (fun _ _ _ => rfl),
  k_aload_n dX5_go_45,
  k_getI (C := RX5) (T := TX5) (N := 8) (ci := 3) (k := 2) (ref := "LinkTimes$Reader") dX5_go_46 rfl in_X5 (by decide) q445 (Or.inl rfl) (fun _ _ _ => rfl),
  k_aload_n dX5_go_49,
  k_getI (C := RX5) (T := TX5) (N := 8) (ci := 3) (k := 0) (ref := "LinkTimes$Reader") dX5_go_50 rfl in_X5 (by decide) q443 (Or.inl rfl) (fun _ _ _ => rfl),
  k_cmplt (t := 64) dX5_go_53 (by decide),
  k_aload_n dX5_go_56,
  k_iconst dX5_go_57,
  k_putI (C := RX5) (T := TX5) (N := 8) (ci := 3) (k := 4) (ref := "LinkTimes$Reader") dX5_go_58 rfl in_X5 tyX5 tyX5_ok nmX5 (by decide) (Or.inl q447) (Or.inl rfl) (Or.inl rfl) (tyX5_ok 4 (by decide)) (fun _ _ _ => rfl),
  k_goto (t := 132) dX5_go_61 (by decide),
  k_aload_n dX5_go_64,
  k_aload_n dX5_go_65,
  k_getI (C := RX5) (T := TX5) (N := 8) (ci := 3) (k := 2) (ref := "LinkTimes$Reader") dX5_go_66 rfl in_X5 (by decide) q445 (Or.inl rfl) (fun _ _ _ => rfl),
  k_callV (y2 := yX5_isLetter) (C := RX5) (T0 := TX5) (ci := 3) dX5_go_69 sndX5_isLetter rfl q481 q483 qs4 q138 q484 (by decide +kernel) ⟨by decide, by decide⟩ (by decide) (by decide),
  k_ifeq (t := 82) dX5_go_72 (by decide),
  k_aload_n dX5_go_75,
  k_callV (y2 := yX5_goWord) (C := RX5) (T0 := TX5) (ci := 3) dX5_go_76 sndX5_goWord rfl q486 q488 qs5 q138 q489 (by decide +kernel) ⟨by decide, by decide⟩ (by decide) (by decide),
  k_goto (t := 132) dX5_go_79 (by decide),
  k_aload_n dX5_go_82,
  k_aload_n dX5_go_83,
  k_getI (C := RX5) (T := TX5) (N := 8) (ci := 3) (k := 2) (ref := "LinkTimes$Reader") dX5_go_84 rfl in_X5 (by decide) q445 (Or.inl rfl) (fun _ _ _ => rfl),
  k_callV (y2 := yX5_isDigit) (C := RX5) (T0 := TX5) (ci := 3) dX5_go_87 sndX5_isDigit rfl q490 q492 qs6 q138 q493 (by decide +kernel) ⟨by decide, by decide⟩ (by decide) (by decide),
  k_ifeq (t := 100) dX5_go_90 (by decide),
  k_aload_n dX5_go_93,
  k_callV (y2 := yX5_goWhole) (C := RX5) (T0 := TX5) (ci := 3) dX5_go_94 sndX5_goWhole rfl q494 q496 qs7 q138 q497 (by decide +kernel) ⟨by decide, by decide⟩ (by decide) (by decide),
  k_goto (t := 132) dX5_go_97 (by decide),
  k_aload_n dX5_go_100,
  k_aload_n dX5_go_101,
  k_aload_n dX5_go_102,
  k_getI (C := RX5) (T := TX5) (N := 8) (ci := 3) (k := 2) (ref := "LinkTimes$Reader") dX5_go_103 rfl in_X5 (by decide) q445 (Or.inl rfl) (fun _ _ _ => rfl),
  k_callV (y2 := yX5_byteAt) (C := RX5) (T0 := TX5) (ci := 3) dX5_go_106 sndX5_byteAt rfl q477 q479 qs3 q138 q480 (by decide +kernel) ⟨by decide, by decide⟩ (by decide) (by decide),
  k_bipush dX5_go_109,
  k_cmpne (t := 118) dX5_go_111 (by decide),
  k_iconst dX5_go_114,
  k_goto (t := 119) dX5_go_115 (by decide),
  k_iconst dX5_go_118,
  k_putI (C := RX5) (T := TX5) (N := 8) (ci := 3) (k := 4) (ref := "LinkTimes$Reader") dX5_go_119 rfl in_X5 tyX5 tyX5_ok nmX5 (by decide) (Or.inl q447) (Or.inl rfl) (Or.inl rfl) (tyX5_ok 4 (by decide)) (fun _ _ _ => rfl),
  k_aload_n dX5_go_122,
  k_dup dX5_go_123,
  k_getI (C := RX5) (T := TX5) (N := 8) (ci := 3) (k := 2) (ref := "LinkTimes$Reader") dX5_go_124 rfl in_X5 (by decide) q445 (Or.inl rfl) (fun _ _ _ => rfl),
  k_iconst dX5_go_127,
  k_iadd dX5_go_128,
  k_putI (C := RX5) (T := TX5) (N := 8) (ci := 3) (k := 2) (ref := "LinkTimes$Reader") dX5_go_129 rfl in_X5 tyX5 tyX5_ok nmX5 (by decide) (Or.inl q445) (Or.inl rfl) (Or.inl rfl) (tyX5_ok 2 (by decide)) (fun _ _ _ => rfl),
  k_ret dX5_go_132, trivial⟩
theorem sndX5_go : MSound 4 yX5_go (ws_ yX5_go cX5_go 1 none) mX5_go := msound_M (by decide) allX5_go (fun _ _ => rfl)
/-! LinkTimes$Reader.is(Ljava/lang/String;)Z -/
noncomputable def kX5_is : ZM := ([(0, zi_ld 1 0 1), (1, zi_getI 19 4 4), (4, zi_push (zvi 2) 5), (5, zi_cmp zc_eq 10 8), (8, zi_push (zvi 0) 9), (9, zi_retz), (10, zi_push (zvl 0) 11), (11, zi_stL 2 12), (12, zi_push (zvi 0) 13), (13, zi_st 0 4 15), (15, zi_ld 0 4 17), (17, zi_ld 1 1 18), (18, zi_callVS mJ8_length 1 21), (21, zi_cmp zc_ge 43 24), (24, zi_ld 2 2 25), (25, zi_push (zvi 8) 27), (27, zi_shL zlshl 28), (28, zi_ld 1 1 29), (29, zi_ld 0 4 31), (31, zi_callVS mJ8_charAt 2 34), (34, zi_i2l 35), (35, zi_binL zlor 36), (36, zi_stL 2 37), (37, zi_iinc 4 1 40), (40, zi_goto 15), (43, zi_ld 1 0 44), (44, zi_getJ 19 6 47), (47, zi_ld 2 2 48), (48, zi_lcmp 49), (49, zi_if (fun a => zc_ne a 0) 56 52), (52, zi_push (zvi 1) 53), (53, zi_goto 57), (56, zi_push (zvi 0) 57), (57, zi_retz)], fun _ _ => none)
noncomputable def mX5_is : ZF := zrunM kX5_is 5
theorem enX5_is (x0 : Option Nat) (x1 : Option Nat) (h : PH) : mX5_is [zvr x0, zvr x1] h = zev kX5_is 0 [zvr x0, zvr x1, zvu, zvu, zvu] [] h := zrunM_eq rfl rfl
theorem hdX5_is_15 (x0 x1 x2 x3 : ZV) (a : Int) (L st : List ZV) (h : PH) : zev kX5_is 15 (x0 :: x1 :: x2 :: x3 :: zvi a :: L) st h = zev kX5_is 17 (x0 :: x1 :: x2 :: x3 :: zvi a :: L) (zvi a :: st) h := e_ld4I (n := 17) rfl
theorem rX5_is : (∀ (a : Option Nat) (L st : List ZV) (h : PH), zev kX5_is 0 (zvr a :: L) st h = zev kX5_is 1 (zvr a :: L) (zvr a :: st) h) ∧
  (∀ (q : Nat) (L st : List ZV) (h : PH), zev kX5_is 1 L (zvr (some q) :: st) h = if (ph_K h q).1 % 1000 = 19 then zev kX5_is 4 L (zvi (ph_I h q 4) :: st) h else none) ∧
  (∀ (L st : List ZV) (h : PH), zev kX5_is 4 L st h = zev kX5_is 5 L (zvi 2 :: st) h) ∧
  (∀ (a b : Int) (L st : List ZV) (h : PH), zev kX5_is 5 L (zvi b :: zvi a :: st) h = if a = b then zev kX5_is 10 L st h else zev kX5_is 8 L st h) ∧
  (∀ (L st : List ZV) (h : PH), zev kX5_is 8 L st h = zev kX5_is 9 L (zvi 0 :: st) h) ∧
  (∀ (a : Int) (L : List ZV) (h : PH), zev kX5_is 9 L [zvi a] h = if a = 0 ∨ a = 1 then zrv (zvi a) h else none) ∧
  (∀ (L st : List ZV) (h : PH), zev kX5_is 10 L st h = zev kX5_is 11 L (zvl 0 :: st) h) ∧
  (∀ (x0 x1 x2 x3 : ZV) (a : Int) (L st : List ZV) (h : PH) (hx : zisL x1 = false) , zev kX5_is 11 (x0 :: x1 :: x2 :: x3 :: L) (zvl a :: st) h = zev kX5_is 12 (x0 :: x1 :: zvl a :: zvu :: L) st h) ∧
  (∀ (L st : List ZV) (h : PH), zev kX5_is 12 L st h = zev kX5_is 13 L (zvi 0 :: st) h) ∧
  (∀ (x0 x1 x2 x3 x4 : ZV) (a : Int) (L st : List ZV) (h : PH) (hx : zisL x3 = false) , zev kX5_is 13 (x0 :: x1 :: x2 :: x3 :: x4 :: L) (zvi a :: st) h = zev kX5_is 15 (x0 :: x1 :: x2 :: x3 :: zvi a :: L) st h) ∧
  (∀ (x0 : ZV) (a : Option Nat) (L st : List ZV) (h : PH), zev kX5_is 17 (x0 :: zvr a :: L) st h = zev kX5_is 18 (x0 :: zvr a :: L) (zvr a :: st) h) ∧
  (∀ (q : Nat) (L st : List ZV) (h : PH), zev kX5_is 18 L (zvr (some q) :: st) h = if (1000000010 ≤ q ∧ q < 1000000021) ∧ zcat st ≤ 8 then zk kX5_is 18 21 L st (mJ8_length [zvr (some q)] h) else none) ∧
  (∀ (a b : Int) (L st : List ZV) (h : PH), zev kX5_is 21 L (zvi b :: zvi a :: st) h = if a ≥ b then zev kX5_is 43 L st h else zev kX5_is 24 L st h) ∧
  (∀ (x0 x1 : ZV) (a : Int) (L st : List ZV) (h : PH), zev kX5_is 24 (x0 :: x1 :: zvl a :: L) st h = zev kX5_is 25 (x0 :: x1 :: zvl a :: L) (zvl a :: st) h) ∧
  (∀ (L st : List ZV) (h : PH), zev kX5_is 25 L st h = zev kX5_is 27 L (zvi 8 :: st) h) ∧
  (∀ (a b : Int) (L st : List ZV) (h : PH), zev kX5_is 27 L (zvi b :: zvl a :: st) h = zev kX5_is 28 L (zvl (zlshl a b) :: st) h) ∧
  (∀ (x0 : ZV) (a : Option Nat) (L st : List ZV) (h : PH), zev kX5_is 28 (x0 :: zvr a :: L) st h = zev kX5_is 29 (x0 :: zvr a :: L) (zvr a :: st) h) ∧
  (∀ (x0 x1 x2 x3 : ZV) (a : Int) (L st : List ZV) (h : PH), zev kX5_is 29 (x0 :: x1 :: x2 :: x3 :: zvi a :: L) st h = zev kX5_is 31 (x0 :: x1 :: x2 :: x3 :: zvi a :: L) (zvi a :: st) h) ∧
  (∀ (v0 : ZV) (q : Nat) (L st : List ZV) (h : PH), zev kX5_is 31 L (v0 :: zvr (some q) :: st) h = if (1000000010 ≤ q ∧ q < 1000000021) ∧ zcat st ≤ 8 then zk kX5_is 31 34 L st (mJ8_charAt [zvr (some q), v0] h) else none) ∧
  (∀ (a : Int) (L st : List ZV) (h : PH), zev kX5_is 34 L (zvi a :: st) h = zev kX5_is 35 L (zvl a :: st) h) ∧
  (∀ (a b : Int) (L st : List ZV) (h : PH), zev kX5_is 35 L (zvl b :: zvl a :: st) h = zev kX5_is 36 L (zvl (zlor a b) :: st) h) ∧
  (∀ (x0 x1 x2 x3 : ZV) (a : Int) (L st : List ZV) (h : PH) (hx : zisL x1 = false) , zev kX5_is 36 (x0 :: x1 :: x2 :: x3 :: L) (zvl a :: st) h = zev kX5_is 37 (x0 :: x1 :: zvl a :: zvu :: L) st h) ∧
  (∀ (x0 x1 x2 x3 : ZV) (a : Int) (L st : List ZV) (h : PH) (hx : zisL x3 = false) , zev kX5_is 37 (x0 :: x1 :: x2 :: x3 :: zvi a :: L) st h = zev kX5_is 40 (x0 :: x1 :: x2 :: x3 :: zvi (w32 (a + 1)) :: L) st h) ∧
  (∀ (L st : List ZV) (h : PH), zev kX5_is 40 L st h = zev kX5_is 15 L st h) ∧
  (∀ (a : Option Nat) (L st : List ZV) (h : PH), zev kX5_is 43 (zvr a :: L) st h = zev kX5_is 44 (zvr a :: L) (zvr a :: st) h) ∧
  (∀ (q : Nat) (L st : List ZV) (h : PH), zev kX5_is 44 L (zvr (some q) :: st) h = if (ph_K h q).1 % 1000 = 19 then zev kX5_is 47 L (zvl (ph_J h q 6) :: st) h else none) ∧
  (∀ (x0 x1 : ZV) (a : Int) (L st : List ZV) (h : PH), zev kX5_is 47 (x0 :: x1 :: zvl a :: L) st h = zev kX5_is 48 (x0 :: x1 :: zvl a :: L) (zvl a :: st) h) ∧
  (∀ (a b : Int) (L st : List ZV) (h : PH), zev kX5_is 48 L (zvl b :: zvl a :: st) h = zev kX5_is 49 L (zvi (zlcmp a b) :: st) h) ∧
  (∀ (a : Int) (L st : List ZV) (h : PH), zev kX5_is 49 L (zvi a :: st) h = if a ≠ 0 then zev kX5_is 56 L st h else zev kX5_is 52 L st h) ∧
  (∀ (L st : List ZV) (h : PH), zev kX5_is 52 L st h = zev kX5_is 53 L (zvi 1 :: st) h) ∧
  (∀ (L st : List ZV) (h : PH), zev kX5_is 53 L st h = zev kX5_is 57 L st h) ∧
  (∀ (L st : List ZV) (h : PH), zev kX5_is 56 L st h = zev kX5_is 57 L (zvi 0 :: st) h) ∧
  (∀ (a : Int) (L : List ZV) (h : PH), zev kX5_is 57 L [zvi a] h = if a = 0 ∨ a = 1 then zrv (zvi a) h else none) :=
  ⟨fun a L st h => e_ld0R (n := 1) rfl,
  fun q L st h => e_getI (kd := 19) (k := 4) (n := 4) rfl,
  fun L st h => e_push (v := zvi 2) (n := 5) rfl,
  fun a b L st h => e_cmpeq (t := 10) (n := 8) rfl,
  fun L st h => e_push (v := zvi 0) (n := 9) rfl,
  fun a L h => e_retz rfl,
  fun L st h => e_push (v := zvl 0) (n := 11) rfl,
  fun x0 x1 x2 x3 a L st h hx => e_stJ2 (n := 12) rfl hx,
  fun L st h => e_push (v := zvi 0) (n := 13) rfl,
  fun x0 x1 x2 x3 x4 a L st h hx => e_st4I (n := 15) rfl hx,
  fun x0 a L st h => e_ld1R (n := 18) rfl,
  fun q L st h => e_callVS1 (F := mJ8_length) (n := 21) rfl,
  fun a b L st h => e_cmpge (t := 43) (n := 24) rfl,
  fun x0 x1 a L st h => e_ld2J (n := 25) rfl,
  fun L st h => e_push (v := zvi 8) (n := 27) rfl,
  fun a b L st h => e_shL (f := zlshl) (n := 28) rfl,
  fun x0 a L st h => e_ld1R (n := 29) rfl,
  fun x0 x1 x2 x3 a L st h => e_ld4I (n := 31) rfl,
  fun v0 q L st h => e_callVS2 (F := mJ8_charAt) (n := 34) rfl,
  fun a L st h => e_i2l (n := 35) rfl,
  fun a b L st h => e_binL (f := zlor) (n := 36) rfl,
  fun x0 x1 x2 x3 a L st h hx => e_stJ2 (n := 37) rfl hx,
  fun x0 x1 x2 x3 a L st h hx => e_iinc4 (d := 1) (n := 40) rfl hx,
  fun L st h => e_goto (t := 15) rfl,
  fun a L st h => e_ld0R (n := 44) rfl,
  fun q L st h => e_getJ (kd := 19) (k := 6) (n := 47) rfl,
  fun x0 x1 a L st h => e_ld2J (n := 48) rfl,
  fun a b L st h => e_lcmp (n := 49) rfl,
  fun a L st h => e_ifne (t := 56) (n := 52) rfl,
  fun L st h => e_push (v := zvi 1) (n := 53) rfl,
  fun L st h => e_goto (t := 57) rfl,
  fun L st h => e_push (v := zvi 0) (n := 57) rfl,
  fun a L h => e_retz rfl⟩
theorem allX5_is : zall yX5_is cX5_is 5 (some .boolean) 6 kX5_is.1 :=
  ⟨k_aload_n dX5_is_0,
  k_getI (C := RX5) (T := TX5) (N := 8) (ci := 3) (k := 4) (ref := "LinkTimes$Reader") dX5_is_1 rfl in_X5 (by decide) q447 (Or.inl rfl) (fun _ _ _ => rfl),
  k_iconst dX5_is_4,
  k_cmpeq (t := 10) dX5_is_5 (by decide),
  k_iconst dX5_is_8,
  k_zret dX5_is_9,
  k_lconst dX5_is_10,
  k_lstore_n dX5_is_11,
  k_iconst dX5_is_12,
  k_istore dX5_is_13,
  k_iload dX5_is_15,
  k_aload_n dX5_is_17,
  k_callVS (y2 := yJ8_length) dX5_is_18 sndJ8_length q508 q509 q510 q142 q511 (by decide +kernel) ⟨by decide, by decide⟩ (by decide) (by decide),
  k_cmpge (t := 43) dX5_is_21 (by decide),
  k_lload_n dX5_is_24,
  k_bipush dX5_is_25,
  k_lshl dX5_is_27,
  k_aload_n dX5_is_28,
  k_iload dX5_is_29,
  k_callVS (y2 := yJ8_charAt) dX5_is_31 sndJ8_charAt q518 q519 q520 q142 q521 (by decide +kernel) ⟨by decide, by decide⟩ (by decide) (by decide),
  k_i2l dX5_is_34,
  k_lor dX5_is_35,
  k_lstore_n dX5_is_36,
  k_iinc dX5_is_37,
  k_goto (t := 15) dX5_is_40 (by decide),
  k_aload_n dX5_is_43,
  k_getJ (C := RX5) (T := TX5) (N := 8) (ci := 3) (k := 6) (ref := "LinkTimes$Reader") dX5_is_44 rfl in_X5 (by decide) q449 (Or.inl rfl) (fun _ _ _ => rfl),
  k_lload_n dX5_is_47,
  k_lcmp dX5_is_48,
  k_ifne (t := 56) dX5_is_49 (by decide),
  k_iconst dX5_is_52,
  k_goto (t := 57) dX5_is_53 (by decide),
  k_iconst dX5_is_56,
  k_zret dX5_is_57, trivial⟩
theorem sndX5_is : MSound 6 yX5_is (ws_ yX5_is cX5_is 5 (some .boolean)) mX5_is := msound_M (by decide) allX5_is (fun _ _ => rfl)
/-! LinkTimes$Reader.need(ZI)V -/
noncomputable def kX5_need : ZM := ([(0, zi_ld 0 1 1), (1, zi_if (fun a => zc_ne a 0) 17 4), (4, zi_new 24 8 7), (7, zi_dup 8), (8, zi_ld 0 2 9), (9, zi_ld 1 0 10), (10, zi_getI 19 3 13), (13, zi_callV mX8_init 24 3 16), (16, zi_throw), (17, zi_ret)], fun _ _ => none)
noncomputable def mX5_need : ZF := zrunM kX5_need 3
theorem enX5_need (x0 : Option Nat) (x1 : Int) (x2 : Int) (h : PH) : mX5_need [zvr x0, zvi x1, zvi x2] h = zev kX5_need 0 [zvr x0, zvi x1, zvi x2] [] h := zrunM_eq rfl rfl
theorem rX5_need : (∀ (x0 : ZV) (a : Int) (L st : List ZV) (h : PH), zev kX5_need 0 (x0 :: zvi a :: L) st h = zev kX5_need 1 (x0 :: zvi a :: L) (zvi a :: st) h) ∧
  (∀ (a : Int) (L st : List ZV) (h : PH), zev kX5_need 1 L (zvi a :: st) h = if a ≠ 0 then zev kX5_need 17 L st h else zev kX5_need 4 L st h) ∧
  (∀ (L st : List ZV) (h : PH), zev kX5_need 4 L st h = zev kX5_need 7 L (zvr (some (ph_N h)) :: st) (al_ h 24 0 8)) ∧
  (∀ (a : Int) (L st : List ZV) (h : PH), zev kX5_need 7 L (zvi a :: st) h = zev kX5_need 8 L (zvi a :: zvi a :: st) h) ∧
  (∀ (a : Option Nat) (L st : List ZV) (h : PH), zev kX5_need 7 L (zvr a :: st) h = zev kX5_need 8 L (zvr a :: zvr a :: st) h) ∧
  (∀ (x0 x1 : ZV) (a : Int) (L st : List ZV) (h : PH), zev kX5_need 8 (x0 :: x1 :: zvi a :: L) st h = zev kX5_need 9 (x0 :: x1 :: zvi a :: L) (zvi a :: st) h) ∧
  (∀ (a : Option Nat) (L st : List ZV) (h : PH), zev kX5_need 9 (zvr a :: L) st h = zev kX5_need 10 (zvr a :: L) (zvr a :: st) h) ∧
  (∀ (q : Nat) (L st : List ZV) (h : PH), zev kX5_need 10 L (zvr (some q) :: st) h = if (ph_K h q).1 % 1000 = 19 then zev kX5_need 13 L (zvi (ph_I h q 3) :: st) h else none) ∧
  (∀ (v0 v1 : ZV) (q : Nat) (L st : List ZV) (h : PH), zev kX5_need 13 L (v1 :: v0 :: zvr (some q) :: st) h = if (ph_K h q).1 % 1000 = 24 ∧ zcat st ≤ 8 then zk kX5_need 13 16 L st (mX8_init [zvr (some q), v0, v1] h) else none) ∧
  (∀ (q : Nat) (L st : List ZV) (h : PH), zev kX5_need 16 L (zvr (some q) :: st) h = if (ph_K h q).1 ≠ 0 then zk kX5_need 16 0 L [] (zrx q h) else none) ∧
  (∀ (L : List ZV) (h : PH), zev kX5_need 17 L [] h = zr0 h) :=
  ⟨fun x0 a L st h => e_ld1I (n := 1) rfl,
  fun a L st h => e_ifne (t := 17) (n := 4) rfl,
  fun L st h => e_new (kd := 24) (sl := 8) (n := 7) rfl,
  fun a L st h => e_dupI (n := 8) rfl,
  fun a L st h => e_dupR (n := 8) rfl,
  fun x0 x1 a L st h => e_ld2I (n := 9) rfl,
  fun a L st h => e_ld0R (n := 10) rfl,
  fun q L st h => e_getI (kd := 19) (k := 3) (n := 13) rfl,
  fun v0 v1 q L st h => e_callV3 (F := mX8_init) (kd := 24) (n := 16) rfl,
  fun q L st h => e_throw (n := 0) rfl,
  fun L h => e_ret rfl⟩
theorem allX5_need : zall yX5_need cX5_need 3 none 6 kX5_need.1 :=
  ⟨k_iload_n dX5_need_0,
  k_ifne (t := 17) dX5_need_1 (by decide),
  k_new (C := RX8) (T := TX8) (N := 8) (ci := 8) dX5_need_4 rfl in_X8 tyX8 tyX8_ok rfl (by decide) q472 q564 q149,
  k_dup dX5_need_7,
  k_iload_n dX5_need_8,
  k_aload_n dX5_need_9,
  k_getI (C := RX5) (T := TX5) (N := 8) (ci := 3) (k := 3) (ref := "LinkTimes$Reader") dX5_need_10 rfl in_X5 (by decide) q446 (Or.inl rfl) (fun _ _ _ => rfl),
  k_callI (y2 := yX8_init) (C := RX8) (T0 := TX8) (ci := 8) dX5_need_13 sndX8_init rfl q604 q605 q149 q606 rfl (by decide +kernel) ⟨by decide, by decide⟩ (by decide) (by decide),
  k_throw dX5_need_16,
  k_ret dX5_need_17, trivial⟩
theorem sndX5_need : MSound 6 yX5_need (ws_ yX5_need cX5_need 3 none) mX5_need := msound_M (by decide) allX5_need (fun _ _ => rfl)
/-! LinkTimes$Reader.at(II)I -/
noncomputable def kX5_at : ZM := ([(0, zi_ld 1 0 1), (1, zi_ld 1 0 2), (2, zi_getI 19 4 5), (5, zi_push (zvi 3) 6), (6, zi_cmp zc_ne 13 9), (9, zi_push (zvi 1) 10), (10, zi_goto 14), (13, zi_push (zvi 0) 14), (14, zi_push (zvi 1) 15), (15, zi_callV mX5_need 19 3 18), (18, zi_ld 1 0 19), (19, zi_ld 1 0 20), (20, zi_getI 19 5 23), (23, zi_ld 0 1 24), (24, zi_ld 0 2 25), (25, zi_callS mX1_isIn 3 28), (28, zi_push (zvi 4) 29), (29, zi_callV mX5_need 19 3 32), (32, zi_ld 1 0 33), (33, zi_getI 19 5 36), (36, zi_retv 0)], fun _ _ => none)
noncomputable def mX5_at : ZF := zrunM kX5_at 3
theorem enX5_at (x0 : Option Nat) (x1 : Int) (x2 : Int) (h : PH) : mX5_at [zvr x0, zvi x1, zvi x2] h = zev kX5_at 0 [zvr x0, zvi x1, zvi x2] [] h := zrunM_eq rfl rfl
theorem rX5_at : (∀ (a : Option Nat) (L st : List ZV) (h : PH), zev kX5_at 0 (zvr a :: L) st h = zev kX5_at 1 (zvr a :: L) (zvr a :: st) h) ∧
  (∀ (a : Option Nat) (L st : List ZV) (h : PH), zev kX5_at 1 (zvr a :: L) st h = zev kX5_at 2 (zvr a :: L) (zvr a :: st) h) ∧
  (∀ (q : Nat) (L st : List ZV) (h : PH), zev kX5_at 2 L (zvr (some q) :: st) h = if (ph_K h q).1 % 1000 = 19 then zev kX5_at 5 L (zvi (ph_I h q 4) :: st) h else none) ∧
  (∀ (L st : List ZV) (h : PH), zev kX5_at 5 L st h = zev kX5_at 6 L (zvi 3 :: st) h) ∧
  (∀ (a b : Int) (L st : List ZV) (h : PH), zev kX5_at 6 L (zvi b :: zvi a :: st) h = if a ≠ b then zev kX5_at 13 L st h else zev kX5_at 9 L st h) ∧
  (∀ (L st : List ZV) (h : PH), zev kX5_at 9 L st h = zev kX5_at 10 L (zvi 1 :: st) h) ∧
  (∀ (L st : List ZV) (h : PH), zev kX5_at 10 L st h = zev kX5_at 14 L st h) ∧
  (∀ (L st : List ZV) (h : PH), zev kX5_at 13 L st h = zev kX5_at 14 L (zvi 0 :: st) h) ∧
  (∀ (L st : List ZV) (h : PH), zev kX5_at 14 L st h = zev kX5_at 15 L (zvi 1 :: st) h) ∧
  (∀ (v0 v1 : ZV) (q : Nat) (L st : List ZV) (h : PH), zev kX5_at 15 L (v1 :: v0 :: zvr (some q) :: st) h = if (ph_K h q).1 % 1000 = 19 ∧ zcat st ≤ 8 then zk kX5_at 15 18 L st (mX5_need [zvr (some q), v0, v1] h) else none) ∧
  (∀ (a : Option Nat) (L st : List ZV) (h : PH), zev kX5_at 18 (zvr a :: L) st h = zev kX5_at 19 (zvr a :: L) (zvr a :: st) h) ∧
  (∀ (a : Option Nat) (L st : List ZV) (h : PH), zev kX5_at 19 (zvr a :: L) st h = zev kX5_at 20 (zvr a :: L) (zvr a :: st) h) ∧
  (∀ (q : Nat) (L st : List ZV) (h : PH), zev kX5_at 20 L (zvr (some q) :: st) h = if (ph_K h q).1 % 1000 = 19 then zev kX5_at 23 L (zvi (ph_I h q 5) :: st) h else none) ∧
  (∀ (x0 : ZV) (a : Int) (L st : List ZV) (h : PH), zev kX5_at 23 (x0 :: zvi a :: L) st h = zev kX5_at 24 (x0 :: zvi a :: L) (zvi a :: st) h) ∧
  (∀ (x0 x1 : ZV) (a : Int) (L st : List ZV) (h : PH), zev kX5_at 24 (x0 :: x1 :: zvi a :: L) st h = zev kX5_at 25 (x0 :: x1 :: zvi a :: L) (zvi a :: st) h) ∧
  (∀ (v0 v1 v2 : ZV) (L st : List ZV) (h : PH), zev kX5_at 25 L (v2 :: v1 :: v0 :: st) h = if zcat st ≤ 8 then zk kX5_at 25 28 L st (mX1_isIn [v0, v1, v2] h) else none) ∧
  (∀ (L st : List ZV) (h : PH), zev kX5_at 28 L st h = zev kX5_at 29 L (zvi 4 :: st) h) ∧
  (∀ (v0 v1 : ZV) (q : Nat) (L st : List ZV) (h : PH), zev kX5_at 29 L (v1 :: v0 :: zvr (some q) :: st) h = if (ph_K h q).1 % 1000 = 19 ∧ zcat st ≤ 8 then zk kX5_at 29 32 L st (mX5_need [zvr (some q), v0, v1] h) else none) ∧
  (∀ (a : Option Nat) (L st : List ZV) (h : PH), zev kX5_at 32 (zvr a :: L) st h = zev kX5_at 33 (zvr a :: L) (zvr a :: st) h) ∧
  (∀ (q : Nat) (L st : List ZV) (h : PH), zev kX5_at 33 L (zvr (some q) :: st) h = if (ph_K h q).1 % 1000 = 19 then zev kX5_at 36 L (zvi (ph_I h q 5) :: st) h else none) ∧
  (∀ (a : Int) (L : List ZV) (h : PH), zev kX5_at 36 L [zvi a] h = zrv (zvi a) h) :=
  ⟨fun a L st h => e_ld0R (n := 1) rfl,
  fun a L st h => e_ld0R (n := 2) rfl,
  fun q L st h => e_getI (kd := 19) (k := 4) (n := 5) rfl,
  fun L st h => e_push (v := zvi 3) (n := 6) rfl,
  fun a b L st h => e_cmpne (t := 13) (n := 9) rfl,
  fun L st h => e_push (v := zvi 1) (n := 10) rfl,
  fun L st h => e_goto (t := 14) rfl,
  fun L st h => e_push (v := zvi 0) (n := 14) rfl,
  fun L st h => e_push (v := zvi 1) (n := 15) rfl,
  fun v0 v1 q L st h => e_callV3 (F := mX5_need) (kd := 19) (n := 18) rfl,
  fun a L st h => e_ld0R (n := 19) rfl,
  fun a L st h => e_ld0R (n := 20) rfl,
  fun q L st h => e_getI (kd := 19) (k := 5) (n := 23) rfl,
  fun x0 a L st h => e_ld1I (n := 24) rfl,
  fun x0 x1 a L st h => e_ld2I (n := 25) rfl,
  fun v0 v1 v2 L st h => e_callS3 (F := mX1_isIn) (n := 28) rfl,
  fun L st h => e_push (v := zvi 4) (n := 29) rfl,
  fun v0 v1 q L st h => e_callV3 (F := mX5_need) (kd := 19) (n := 32) rfl,
  fun a L st h => e_ld0R (n := 33) rfl,
  fun q L st h => e_getI (kd := 19) (k := 5) (n := 36) rfl,
  fun a L h => e_retI rfl⟩
theorem allX5_at : zall yX5_at cX5_at 3 (some .int) 7 kX5_at.1 :=
  ⟨k_aload_n dX5_at_0,
  k_aload_n dX5_at_1,
  k_getI (C := RX5) (T := TX5) (N := 8) (ci := 3) (k := 4) (ref := "LinkTimes$Reader") dX5_at_2 rfl in_X5 (by decide) q447 (Or.inl rfl) (fun _ _ _ => rfl),
  k_iconst dX5_at_5,
  k_cmpne (t := 13) dX5_at_6 (by decide),
  k_iconst dX5_at_9,
  k_goto (t := 14) dX5_at_10 (by decide),
  k_iconst dX5_at_13,
  k_iconst dX5_at_14,
  k_callV (y2 := yX5_need) (C := RX5) (T0 := TX5) (ci := 3) dX5_at_15 sndX5_need rfl q560 q562 qs11 q138 q563 (by decide +kernel) ⟨by decide, by decide⟩ (by decide) (by decide),
  k_aload_n dX5_at_18,
  k_aload_n dX5_at_19,
  k_getI (C := RX5) (T := TX5) (N := 8) (ci := 3) (k := 5) (ref := "LinkTimes$Reader") dX5_at_20 rfl in_X5 (by decide) q448 (Or.inl rfl) (fun _ _ _ => rfl),
  k_iload_n dX5_at_23,
  k_iload_n dX5_at_24,
  k_callSN (y2 := yX1_isIn) dX5_at_25 sndX1_isIn q485 q376 q128 q377 (by decide +kernel) ⟨by decide, by decide⟩ (by decide) (by decide),
  k_iconst dX5_at_28,
  k_callV (y2 := yX5_need) (C := RX5) (T0 := TX5) (ci := 3) dX5_at_29 sndX5_need rfl q560 q562 qs11 q138 q563 (by decide +kernel) ⟨by decide, by decide⟩ (by decide) (by decide),
  k_aload_n dX5_at_32,
  k_getI (C := RX5) (T := TX5) (N := 8) (ci := 3) (k := 5) (ref := "LinkTimes$Reader") dX5_at_33 rfl in_X5 (by decide) q448 (Or.inl rfl) (fun _ _ _ => rfl),
  k_iret dX5_at_36, trivial⟩
theorem sndX5_at : MSound 7 yX5_at (ws_ yX5_at cX5_at 3 (some .int)) mX5_at := msound_M (by decide) allX5_at (fun _ _ => rfl)
/-! LinkTimes$Reader.part(Ljava/lang/String;II)I -/
noncomputable def kX5_part : ZM := ([(0, zi_ld 1 0 1), (1, zi_ld 1 0 2), (2, zi_ld 1 1 3), (3, zi_callV mX5_is 19 2 6), (6, zi_push (zvi 1) 7), (7, zi_callV mX5_need 19 3 10), (10, zi_ld 1 0 11), (11, zi_callV mX5_go 19 1 14), (14, zi_ld 1 0 15), (15, zi_ld 0 2 16), (16, zi_ld 0 3 17), (17, zi_callV mX5_at 19 3 20), (20, zi_st 0 4 22), (22, zi_ld 1 0 23), (23, zi_callV mX5_go 19 1 26), (26, zi_ld 0 4 28), (28, zi_retv 0)], fun _ _ => none)
noncomputable def mX5_part : ZF := zrunM kX5_part 5
theorem enX5_part (x0 : Option Nat) (x1 : Option Nat) (x2 : Int) (x3 : Int) (h : PH) : mX5_part [zvr x0, zvr x1, zvi x2, zvi x3] h = zev kX5_part 0 [zvr x0, zvr x1, zvi x2, zvi x3, zvu] [] h := zrunM_eq rfl rfl
theorem rX5_part : (∀ (a : Option Nat) (L st : List ZV) (h : PH), zev kX5_part 0 (zvr a :: L) st h = zev kX5_part 1 (zvr a :: L) (zvr a :: st) h) ∧
  (∀ (a : Option Nat) (L st : List ZV) (h : PH), zev kX5_part 1 (zvr a :: L) st h = zev kX5_part 2 (zvr a :: L) (zvr a :: st) h) ∧
  (∀ (x0 : ZV) (a : Option Nat) (L st : List ZV) (h : PH), zev kX5_part 2 (x0 :: zvr a :: L) st h = zev kX5_part 3 (x0 :: zvr a :: L) (zvr a :: st) h) ∧
  (∀ (v0 : ZV) (q : Nat) (L st : List ZV) (h : PH), zev kX5_part 3 L (v0 :: zvr (some q) :: st) h = if (ph_K h q).1 % 1000 = 19 ∧ zcat st ≤ 8 then zk kX5_part 3 6 L st (mX5_is [zvr (some q), v0] h) else none) ∧
  (∀ (L st : List ZV) (h : PH), zev kX5_part 6 L st h = zev kX5_part 7 L (zvi 1 :: st) h) ∧
  (∀ (v0 v1 : ZV) (q : Nat) (L st : List ZV) (h : PH), zev kX5_part 7 L (v1 :: v0 :: zvr (some q) :: st) h = if (ph_K h q).1 % 1000 = 19 ∧ zcat st ≤ 8 then zk kX5_part 7 10 L st (mX5_need [zvr (some q), v0, v1] h) else none) ∧
  (∀ (a : Option Nat) (L st : List ZV) (h : PH), zev kX5_part 10 (zvr a :: L) st h = zev kX5_part 11 (zvr a :: L) (zvr a :: st) h) ∧
  (∀ (q : Nat) (L st : List ZV) (h : PH), zev kX5_part 11 L (zvr (some q) :: st) h = if (ph_K h q).1 % 1000 = 19 ∧ zcat st ≤ 8 then zk kX5_part 11 14 L st (mX5_go [zvr (some q)] h) else none) ∧
  (∀ (a : Option Nat) (L st : List ZV) (h : PH), zev kX5_part 14 (zvr a :: L) st h = zev kX5_part 15 (zvr a :: L) (zvr a :: st) h) ∧
  (∀ (x0 x1 : ZV) (a : Int) (L st : List ZV) (h : PH), zev kX5_part 15 (x0 :: x1 :: zvi a :: L) st h = zev kX5_part 16 (x0 :: x1 :: zvi a :: L) (zvi a :: st) h) ∧
  (∀ (x0 x1 x2 : ZV) (a : Int) (L st : List ZV) (h : PH), zev kX5_part 16 (x0 :: x1 :: x2 :: zvi a :: L) st h = zev kX5_part 17 (x0 :: x1 :: x2 :: zvi a :: L) (zvi a :: st) h) ∧
  (∀ (v0 v1 : ZV) (q : Nat) (L st : List ZV) (h : PH), zev kX5_part 17 L (v1 :: v0 :: zvr (some q) :: st) h = if (ph_K h q).1 % 1000 = 19 ∧ zcat st ≤ 8 then zk kX5_part 17 20 L st (mX5_at [zvr (some q), v0, v1] h) else none) ∧
  (∀ (x0 x1 x2 x3 x4 : ZV) (a : Int) (L st : List ZV) (h : PH) (hx : zisL x3 = false) , zev kX5_part 20 (x0 :: x1 :: x2 :: x3 :: x4 :: L) (zvi a :: st) h = zev kX5_part 22 (x0 :: x1 :: x2 :: x3 :: zvi a :: L) st h) ∧
  (∀ (a : Option Nat) (L st : List ZV) (h : PH), zev kX5_part 22 (zvr a :: L) st h = zev kX5_part 23 (zvr a :: L) (zvr a :: st) h) ∧
  (∀ (q : Nat) (L st : List ZV) (h : PH), zev kX5_part 23 L (zvr (some q) :: st) h = if (ph_K h q).1 % 1000 = 19 ∧ zcat st ≤ 8 then zk kX5_part 23 26 L st (mX5_go [zvr (some q)] h) else none) ∧
  (∀ (x0 x1 x2 x3 : ZV) (a : Int) (L st : List ZV) (h : PH), zev kX5_part 26 (x0 :: x1 :: x2 :: x3 :: zvi a :: L) st h = zev kX5_part 28 (x0 :: x1 :: x2 :: x3 :: zvi a :: L) (zvi a :: st) h) ∧
  (∀ (a : Int) (L : List ZV) (h : PH), zev kX5_part 28 L [zvi a] h = zrv (zvi a) h) :=
  ⟨fun a L st h => e_ld0R (n := 1) rfl,
  fun a L st h => e_ld0R (n := 2) rfl,
  fun x0 a L st h => e_ld1R (n := 3) rfl,
  fun v0 q L st h => e_callV2 (F := mX5_is) (kd := 19) (n := 6) rfl,
  fun L st h => e_push (v := zvi 1) (n := 7) rfl,
  fun v0 v1 q L st h => e_callV3 (F := mX5_need) (kd := 19) (n := 10) rfl,
  fun a L st h => e_ld0R (n := 11) rfl,
  fun q L st h => e_callV1 (F := mX5_go) (kd := 19) (n := 14) rfl,
  fun a L st h => e_ld0R (n := 15) rfl,
  fun x0 x1 a L st h => e_ld2I (n := 16) rfl,
  fun x0 x1 x2 a L st h => e_ld3I (n := 17) rfl,
  fun v0 v1 q L st h => e_callV3 (F := mX5_at) (kd := 19) (n := 20) rfl,
  fun x0 x1 x2 x3 x4 a L st h hx => e_st4I (n := 22) rfl hx,
  fun a L st h => e_ld0R (n := 23) rfl,
  fun q L st h => e_callV1 (F := mX5_go) (kd := 19) (n := 26) rfl,
  fun x0 x1 x2 x3 a L st h => e_ld4I (n := 28) rfl,
  fun a L h => e_retI rfl⟩
theorem allX5_part : zall yX5_part cX5_part 5 (some .int) 8 kX5_part.1 :=
  ⟨k_aload_n dX5_part_0,
  k_aload_n dX5_part_1,
  k_aload_n dX5_part_2,
  k_callV (y2 := yX5_is) (C := RX5) (T0 := TX5) (ci := 3) dX5_part_3 sndX5_is rfl q504 q506 qs9 q138 q507 (by decide +kernel) ⟨by decide, by decide⟩ (by decide) (by decide),
  k_iconst dX5_part_6,
  k_callV (y2 := yX5_need) (C := RX5) (T0 := TX5) (ci := 3) dX5_part_7 sndX5_need rfl q560 q562 qs11 q138 q563 (by decide +kernel) ⟨by decide, by decide⟩ (by decide) (by decide),
  k_aload_n dX5_part_10,
  k_callV (y2 := yX5_go) (C := RX5) (T0 := TX5) (ci := 3) dX5_part_11 sndX5_go rfl q473 q475 qs2 q138 q476 (by decide +kernel) ⟨by decide, by decide⟩ (by decide) (by decide),
  k_aload_n dX5_part_14,
  k_iload_n dX5_part_15,
  k_iload_n dX5_part_16,
  k_callV (y2 := yX5_at) (C := RX5) (T0 := TX5) (ci := 3) dX5_part_17 sndX5_at rfl q642 q644 qs14 q138 q645 (by decide +kernel) ⟨by decide, by decide⟩ (by decide) (by decide),
  k_istore dX5_part_20,
  k_aload_n dX5_part_22,
  k_callV (y2 := yX5_go) (C := RX5) (T0 := TX5) (ci := 3) dX5_part_23 sndX5_go rfl q473 q475 qs2 q138 q476 (by decide +kernel) ⟨by decide, by decide⟩ (by decide) (by decide),
  k_iload dX5_part_26,
  k_iret dX5_part_28, trivial⟩
theorem sndX5_part : MSound 8 yX5_part (ws_ yX5_part cX5_part 5 (some .int)) mX5_part := msound_M (by decide) allX5_part (fun _ _ => rfl)
/-! LinkTimes$Reader.desk()V -/
noncomputable def kX5_desk : ZM := ([(0, zi_ld 1 0 1), (1, zi_ld 1 0 2), (2, zi_getR 19 1 5), (5, zi_getI 20 0 8), (8, zi_if (fun a => zc_ne a 0) 15 11), (11, zi_push (zvi 1) 12), (12, zi_goto 16), (15, zi_push (zvi 0) 16), (16, zi_push (zvi 3) 17), (17, zi_callV mX5_need 19 3 20), (20, zi_ld 1 0 21), (21, zi_callV mX5_go 19 1 24), (24, zi_ld 1 0 25), (25, zi_getR 19 1 28), (28, zi_ld 1 0 29), (29, zi_push (zvr (some 1000000014)) 31), (31, zi_push (zvi 1) 32), (32, zi_push (zvi 999) 35), (35, zi_callV mX5_part 19 4 38), (38, zi_putI 20 0 41), (41, zi_ret)], fun _ _ => none)
noncomputable def mX5_desk : ZF := zrunM kX5_desk 1
theorem enX5_desk (x0 : Option Nat) (h : PH) : mX5_desk [zvr x0] h = zev kX5_desk 0 [zvr x0] [] h := zrunM_eq rfl rfl
theorem rX5_desk : (∀ (a : Option Nat) (L st : List ZV) (h : PH), zev kX5_desk 0 (zvr a :: L) st h = zev kX5_desk 1 (zvr a :: L) (zvr a :: st) h) ∧
  (∀ (a : Option Nat) (L st : List ZV) (h : PH), zev kX5_desk 1 (zvr a :: L) st h = zev kX5_desk 2 (zvr a :: L) (zvr a :: st) h) ∧
  (∀ (q : Nat) (L st : List ZV) (h : PH), zev kX5_desk 2 L (zvr (some q) :: st) h = if (ph_K h q).1 % 1000 = 19 then zev kX5_desk 5 L (zvr (ph_R h q 1) :: st) h else none) ∧
  (∀ (q : Nat) (L st : List ZV) (h : PH), zev kX5_desk 5 L (zvr (some q) :: st) h = if (ph_K h q).1 % 1000 = 20 then zev kX5_desk 8 L (zvi (ph_I h q 0) :: st) h else none) ∧
  (∀ (a : Int) (L st : List ZV) (h : PH), zev kX5_desk 8 L (zvi a :: st) h = if a ≠ 0 then zev kX5_desk 15 L st h else zev kX5_desk 11 L st h) ∧
  (∀ (L st : List ZV) (h : PH), zev kX5_desk 11 L st h = zev kX5_desk 12 L (zvi 1 :: st) h) ∧
  (∀ (L st : List ZV) (h : PH), zev kX5_desk 12 L st h = zev kX5_desk 16 L st h) ∧
  (∀ (L st : List ZV) (h : PH), zev kX5_desk 15 L st h = zev kX5_desk 16 L (zvi 0 :: st) h) ∧
  (∀ (L st : List ZV) (h : PH), zev kX5_desk 16 L st h = zev kX5_desk 17 L (zvi 3 :: st) h) ∧
  (∀ (v0 v1 : ZV) (q : Nat) (L st : List ZV) (h : PH), zev kX5_desk 17 L (v1 :: v0 :: zvr (some q) :: st) h = if (ph_K h q).1 % 1000 = 19 ∧ zcat st ≤ 8 then zk kX5_desk 17 20 L st (mX5_need [zvr (some q), v0, v1] h) else none) ∧
  (∀ (a : Option Nat) (L st : List ZV) (h : PH), zev kX5_desk 20 (zvr a :: L) st h = zev kX5_desk 21 (zvr a :: L) (zvr a :: st) h) ∧
  (∀ (q : Nat) (L st : List ZV) (h : PH), zev kX5_desk 21 L (zvr (some q) :: st) h = if (ph_K h q).1 % 1000 = 19 ∧ zcat st ≤ 8 then zk kX5_desk 21 24 L st (mX5_go [zvr (some q)] h) else none) ∧
  (∀ (a : Option Nat) (L st : List ZV) (h : PH), zev kX5_desk 24 (zvr a :: L) st h = zev kX5_desk 25 (zvr a :: L) (zvr a :: st) h) ∧
  (∀ (q : Nat) (L st : List ZV) (h : PH), zev kX5_desk 25 L (zvr (some q) :: st) h = if (ph_K h q).1 % 1000 = 19 then zev kX5_desk 28 L (zvr (ph_R h q 1) :: st) h else none) ∧
  (∀ (a : Option Nat) (L st : List ZV) (h : PH), zev kX5_desk 28 (zvr a :: L) st h = zev kX5_desk 29 (zvr a :: L) (zvr a :: st) h) ∧
  (∀ (L st : List ZV) (h : PH), zev kX5_desk 29 L st h = zev kX5_desk 31 L (zvr (some 1000000014) :: st) h) ∧
  (∀ (L st : List ZV) (h : PH), zev kX5_desk 31 L st h = zev kX5_desk 32 L (zvi 1 :: st) h) ∧
  (∀ (L st : List ZV) (h : PH), zev kX5_desk 32 L st h = zev kX5_desk 35 L (zvi 999 :: st) h) ∧
  (∀ (v0 v1 v2 : ZV) (q : Nat) (L st : List ZV) (h : PH), zev kX5_desk 35 L (v2 :: v1 :: v0 :: zvr (some q) :: st) h = if (ph_K h q).1 % 1000 = 19 ∧ zcat st ≤ 8 then zk kX5_desk 35 38 L st (mX5_part [zvr (some q), v0, v1, v2] h) else none) ∧
  (∀ (a : Int) (q : Nat) (L st : List ZV) (h : PH), zev kX5_desk 38 L (zvi a :: zvr (some q) :: st) h = if (ph_K h q).1 = 20 then zev kX5_desk 41 L st (st_I h q 0 a) else none) ∧
  (∀ (L : List ZV) (h : PH), zev kX5_desk 41 L [] h = zr0 h) :=
  ⟨fun a L st h => e_ld0R (n := 1) rfl,
  fun a L st h => e_ld0R (n := 2) rfl,
  fun q L st h => e_getR (kd := 19) (k := 1) (n := 5) rfl,
  fun q L st h => e_getI (kd := 20) (k := 0) (n := 8) rfl,
  fun a L st h => e_ifne (t := 15) (n := 11) rfl,
  fun L st h => e_push (v := zvi 1) (n := 12) rfl,
  fun L st h => e_goto (t := 16) rfl,
  fun L st h => e_push (v := zvi 0) (n := 16) rfl,
  fun L st h => e_push (v := zvi 3) (n := 17) rfl,
  fun v0 v1 q L st h => e_callV3 (F := mX5_need) (kd := 19) (n := 20) rfl,
  fun a L st h => e_ld0R (n := 21) rfl,
  fun q L st h => e_callV1 (F := mX5_go) (kd := 19) (n := 24) rfl,
  fun a L st h => e_ld0R (n := 25) rfl,
  fun q L st h => e_getR (kd := 19) (k := 1) (n := 28) rfl,
  fun a L st h => e_ld0R (n := 29) rfl,
  fun L st h => e_push (v := zvr (some 1000000014)) (n := 31) rfl,
  fun L st h => e_push (v := zvi 1) (n := 32) rfl,
  fun L st h => e_push (v := zvi 999) (n := 35) rfl,
  fun v0 v1 v2 q L st h => e_callV4 (F := mX5_part) (kd := 19) (n := 38) rfl,
  fun a q L st h => e_putI (kd := 20) (k := 0) (n := 41) rfl,
  fun L h => e_ret rfl⟩
theorem allX5_desk : zall yX5_desk cX5_desk 1 none 9 kX5_desk.1 :=
  ⟨k_aload_n dX5_desk_0,
  k_aload_n dX5_desk_1,
  k_getR (C := RX5) (T := TX5) (N := 8) (ci := 3) (k := 1) (ref := "LinkTimes$Reader") dX5_desk_2 rfl in_X5 (by decide) q444 (Or.inl rfl) (fun _ _ _ => rfl),
  k_getIN (C := RX6) (T := TX6) (N := 5) (ci := 4) (k := 0) (ref := "LinkTimes$Desk") dX5_desk_5 rfl in_X6 (by decide) q418 (Or.inl rfl) (fun _ _ _ => rfl),
  k_ifne (t := 15) dX5_desk_8 (by decide),
  k_iconst dX5_desk_11,
  k_goto (t := 16) dX5_desk_12 (by decide),
  k_iconst dX5_desk_15,
  k_iconst dX5_desk_16,
  k_callV (y2 := yX5_need) (C := RX5) (T0 := TX5) (ci := 3) dX5_desk_17 sndX5_need rfl q560 q562 qs11 q138 q563 (by decide +kernel) ⟨by decide, by decide⟩ (by decide) (by decide),
  k_aload_n dX5_desk_20,
  k_callV (y2 := yX5_go) (C := RX5) (T0 := TX5) (ci := 3) dX5_desk_21 sndX5_go rfl q473 q475 qs2 q138 q476 (by decide +kernel) ⟨by decide, by decide⟩ (by decide) (by decide),
  k_aload_n dX5_desk_24,
  k_getR (C := RX5) (T := TX5) (N := 8) (ci := 3) (k := 1) (ref := "LinkTimes$Reader") dX5_desk_25 rfl in_X5 (by decide) q444 (Or.inl rfl) (fun _ _ _ => rfl),
  k_aload_n dX5_desk_28,
  k_ldcS (tx := "span") (i := 4) dX5_desk_29 (by decide +kernel) (by decide),
  k_iconst dX5_desk_31,
  k_sipush dX5_desk_32,
  k_callV (y2 := yX5_part) (C := RX5) (T0 := TX5) (ci := 3) dX5_desk_35 sndX5_part rfl q638 q640 qs13 q138 q641 (by decide +kernel) ⟨by decide, by decide⟩ (by decide) (by decide),
  k_putI (C := RX6) (T := TX6) (N := 5) (ci := 4) (k := 0) (ref := "LinkTimes$Desk") dX5_desk_38 rfl in_X6 tyX6 tyX6_ok nmX6 (by decide) (Or.inr ⟨"LinkTimes", q418⟩) (Or.inl rfl) (Or.inl rfl) (tyX6_ok 0 (by decide)) (fun _ _ _ => rfl),
  k_ret dX5_desk_41, trivial⟩
theorem sndX5_desk : MSound 9 yX5_desk (ws_ yX5_desk cX5_desk 1 none) mX5_desk := msound_M (by decide) allX5_desk (fun _ _ => rfl)
/-! LinkTimes$Reader.needRoom(Z)V -/
noncomputable def kX5_needRoom : ZM := ([(0, zi_ld 0 1 1), (1, zi_if (fun a => zc_ne a 0) 16 4), (4, zi_new 25 8 7), (7, zi_dup 8), (8, zi_ld 1 0 9), (9, zi_getI 19 3 12), (12, zi_callV mX9_init 25 2 15), (15, zi_throw), (16, zi_ret)], fun _ _ => none)
noncomputable def mX5_needRoom : ZF := zrunM kX5_needRoom 2
theorem enX5_needRoom (x0 : Option Nat) (x1 : Int) (h : PH) : mX5_needRoom [zvr x0, zvi x1] h = zev kX5_needRoom 0 [zvr x0, zvi x1] [] h := zrunM_eq rfl rfl
theorem rX5_needRoom : (∀ (x0 : ZV) (a : Int) (L st : List ZV) (h : PH), zev kX5_needRoom 0 (x0 :: zvi a :: L) st h = zev kX5_needRoom 1 (x0 :: zvi a :: L) (zvi a :: st) h) ∧
  (∀ (a : Int) (L st : List ZV) (h : PH), zev kX5_needRoom 1 L (zvi a :: st) h = if a ≠ 0 then zev kX5_needRoom 16 L st h else zev kX5_needRoom 4 L st h) ∧
  (∀ (L st : List ZV) (h : PH), zev kX5_needRoom 4 L st h = zev kX5_needRoom 7 L (zvr (some (ph_N h)) :: st) (al_ h 25 0 8)) ∧
  (∀ (a : Int) (L st : List ZV) (h : PH), zev kX5_needRoom 7 L (zvi a :: st) h = zev kX5_needRoom 8 L (zvi a :: zvi a :: st) h) ∧
  (∀ (a : Option Nat) (L st : List ZV) (h : PH), zev kX5_needRoom 7 L (zvr a :: st) h = zev kX5_needRoom 8 L (zvr a :: zvr a :: st) h) ∧
  (∀ (a : Option Nat) (L st : List ZV) (h : PH), zev kX5_needRoom 8 (zvr a :: L) st h = zev kX5_needRoom 9 (zvr a :: L) (zvr a :: st) h) ∧
  (∀ (q : Nat) (L st : List ZV) (h : PH), zev kX5_needRoom 9 L (zvr (some q) :: st) h = if (ph_K h q).1 % 1000 = 19 then zev kX5_needRoom 12 L (zvi (ph_I h q 3) :: st) h else none) ∧
  (∀ (v0 : ZV) (q : Nat) (L st : List ZV) (h : PH), zev kX5_needRoom 12 L (v0 :: zvr (some q) :: st) h = if (ph_K h q).1 % 1000 = 25 ∧ zcat st ≤ 8 then zk kX5_needRoom 12 15 L st (mX9_init [zvr (some q), v0] h) else none) ∧
  (∀ (q : Nat) (L st : List ZV) (h : PH), zev kX5_needRoom 15 L (zvr (some q) :: st) h = if (ph_K h q).1 ≠ 0 then zk kX5_needRoom 15 0 L [] (zrx q h) else none) ∧
  (∀ (L : List ZV) (h : PH), zev kX5_needRoom 16 L [] h = zr0 h) :=
  ⟨fun x0 a L st h => e_ld1I (n := 1) rfl,
  fun a L st h => e_ifne (t := 16) (n := 4) rfl,
  fun L st h => e_new (kd := 25) (sl := 8) (n := 7) rfl,
  fun a L st h => e_dupI (n := 8) rfl,
  fun a L st h => e_dupR (n := 8) rfl,
  fun a L st h => e_ld0R (n := 9) rfl,
  fun q L st h => e_getI (kd := 19) (k := 3) (n := 12) rfl,
  fun v0 q L st h => e_callV2 (F := mX9_init) (kd := 25) (n := 15) rfl,
  fun q L st h => e_throw (n := 0) rfl,
  fun L h => e_ret rfl⟩
theorem allX5_needRoom : zall yX5_needRoom cX5_needRoom 2 none 6 kX5_needRoom.1 :=
  ⟨k_iload_n dX5_needRoom_0,
  k_ifne (t := 16) dX5_needRoom_1 (by decide),
  k_new (C := RX9) (T := TX9) (N := 8) (ci := 9) dX5_needRoom_4 rfl in_X9 tyX9 tyX9_ok rfl (by decide) q502 q663 q150,
  k_dup dX5_needRoom_7,
  k_aload_n dX5_needRoom_8,
  k_getI (C := RX5) (T := TX5) (N := 8) (ci := 3) (k := 3) (ref := "LinkTimes$Reader") dX5_needRoom_9 rfl in_X5 (by decide) q446 (Or.inl rfl) (fun _ _ _ => rfl),
  k_callI (y2 := yX9_init) (C := RX9) (T0 := TX9) (ci := 9) dX5_needRoom_12 sndX9_init rfl q671 q672 q150 q673 rfl (by decide +kernel) ⟨by decide, by decide⟩ (by decide) (by decide),
  k_throw dX5_needRoom_15,
  k_ret dX5_needRoom_16, trivial⟩
theorem sndX5_needRoom : MSound 6 yX5_needRoom (ws_ yX5_needRoom cX5_needRoom 2 none) mX5_needRoom := msound_M (by decide) allX5_needRoom (fun _ _ => rfl)
/-! LinkTimes$Reader.begins(II)V -/
noncomputable def kX5_begins : ZM := ([(0, zi_ld 1 0 1), (1, zi_ld 0 1 2), (2, zi_ld 0 2 3), (3, zi_cmp zc_ge 10 6), (6, zi_push (zvi 1) 7), (7, zi_goto 11), (10, zi_push (zvi 0) 11), (11, zi_callV mX5_needRoom 19 2 14), (14, zi_ld 1 0 15), (15, zi_ld 1 0 16), (16, zi_getR 19 1 19), (19, zi_getI 20 0 22), (22, zi_if (fun a => zc_le a 0) 29 25), (25, zi_push (zvi 1) 26), (26, zi_goto 30), (29, zi_push (zvi 0) 30), (30, zi_push (zvi 6) 32), (32, zi_callV mX5_need 19 3 35), (35, zi_ld 1 0 36), (36, zi_callV mX5_go 19 1 39), (39, zi_ret)], fun _ _ => none)
noncomputable def mX5_begins : ZF := zrunM kX5_begins 3
theorem enX5_begins (x0 : Option Nat) (x1 : Int) (x2 : Int) (h : PH) : mX5_begins [zvr x0, zvi x1, zvi x2] h = zev kX5_begins 0 [zvr x0, zvi x1, zvi x2] [] h := zrunM_eq rfl rfl
theorem rX5_begins : (∀ (a : Option Nat) (L st : List ZV) (h : PH), zev kX5_begins 0 (zvr a :: L) st h = zev kX5_begins 1 (zvr a :: L) (zvr a :: st) h) ∧
  (∀ (x0 : ZV) (a : Int) (L st : List ZV) (h : PH), zev kX5_begins 1 (x0 :: zvi a :: L) st h = zev kX5_begins 2 (x0 :: zvi a :: L) (zvi a :: st) h) ∧
  (∀ (x0 x1 : ZV) (a : Int) (L st : List ZV) (h : PH), zev kX5_begins 2 (x0 :: x1 :: zvi a :: L) st h = zev kX5_begins 3 (x0 :: x1 :: zvi a :: L) (zvi a :: st) h) ∧
  (∀ (a b : Int) (L st : List ZV) (h : PH), zev kX5_begins 3 L (zvi b :: zvi a :: st) h = if a ≥ b then zev kX5_begins 10 L st h else zev kX5_begins 6 L st h) ∧
  (∀ (L st : List ZV) (h : PH), zev kX5_begins 6 L st h = zev kX5_begins 7 L (zvi 1 :: st) h) ∧
  (∀ (L st : List ZV) (h : PH), zev kX5_begins 7 L st h = zev kX5_begins 11 L st h) ∧
  (∀ (L st : List ZV) (h : PH), zev kX5_begins 10 L st h = zev kX5_begins 11 L (zvi 0 :: st) h) ∧
  (∀ (v0 : ZV) (q : Nat) (L st : List ZV) (h : PH), zev kX5_begins 11 L (v0 :: zvr (some q) :: st) h = if (ph_K h q).1 % 1000 = 19 ∧ zcat st ≤ 8 then zk kX5_begins 11 14 L st (mX5_needRoom [zvr (some q), v0] h) else none) ∧
  (∀ (a : Option Nat) (L st : List ZV) (h : PH), zev kX5_begins 14 (zvr a :: L) st h = zev kX5_begins 15 (zvr a :: L) (zvr a :: st) h) ∧
  (∀ (a : Option Nat) (L st : List ZV) (h : PH), zev kX5_begins 15 (zvr a :: L) st h = zev kX5_begins 16 (zvr a :: L) (zvr a :: st) h) ∧
  (∀ (q : Nat) (L st : List ZV) (h : PH), zev kX5_begins 16 L (zvr (some q) :: st) h = if (ph_K h q).1 % 1000 = 19 then zev kX5_begins 19 L (zvr (ph_R h q 1) :: st) h else none) ∧
  (∀ (q : Nat) (L st : List ZV) (h : PH), zev kX5_begins 19 L (zvr (some q) :: st) h = if (ph_K h q).1 % 1000 = 20 then zev kX5_begins 22 L (zvi (ph_I h q 0) :: st) h else none) ∧
  (∀ (a : Int) (L st : List ZV) (h : PH), zev kX5_begins 22 L (zvi a :: st) h = if a ≤ 0 then zev kX5_begins 29 L st h else zev kX5_begins 25 L st h) ∧
  (∀ (L st : List ZV) (h : PH), zev kX5_begins 25 L st h = zev kX5_begins 26 L (zvi 1 :: st) h) ∧
  (∀ (L st : List ZV) (h : PH), zev kX5_begins 26 L st h = zev kX5_begins 30 L st h) ∧
  (∀ (L st : List ZV) (h : PH), zev kX5_begins 29 L st h = zev kX5_begins 30 L (zvi 0 :: st) h) ∧
  (∀ (L st : List ZV) (h : PH), zev kX5_begins 30 L st h = zev kX5_begins 32 L (zvi 6 :: st) h) ∧
  (∀ (v0 v1 : ZV) (q : Nat) (L st : List ZV) (h : PH), zev kX5_begins 32 L (v1 :: v0 :: zvr (some q) :: st) h = if (ph_K h q).1 % 1000 = 19 ∧ zcat st ≤ 8 then zk kX5_begins 32 35 L st (mX5_need [zvr (some q), v0, v1] h) else none) ∧
  (∀ (a : Option Nat) (L st : List ZV) (h : PH), zev kX5_begins 35 (zvr a :: L) st h = zev kX5_begins 36 (zvr a :: L) (zvr a :: st) h) ∧
  (∀ (q : Nat) (L st : List ZV) (h : PH), zev kX5_begins 36 L (zvr (some q) :: st) h = if (ph_K h q).1 % 1000 = 19 ∧ zcat st ≤ 8 then zk kX5_begins 36 39 L st (mX5_go [zvr (some q)] h) else none) ∧
  (∀ (L : List ZV) (h : PH), zev kX5_begins 39 L [] h = zr0 h) :=
  ⟨fun a L st h => e_ld0R (n := 1) rfl,
  fun x0 a L st h => e_ld1I (n := 2) rfl,
  fun x0 x1 a L st h => e_ld2I (n := 3) rfl,
  fun a b L st h => e_cmpge (t := 10) (n := 6) rfl,
  fun L st h => e_push (v := zvi 1) (n := 7) rfl,
  fun L st h => e_goto (t := 11) rfl,
  fun L st h => e_push (v := zvi 0) (n := 11) rfl,
  fun v0 q L st h => e_callV2 (F := mX5_needRoom) (kd := 19) (n := 14) rfl,
  fun a L st h => e_ld0R (n := 15) rfl,
  fun a L st h => e_ld0R (n := 16) rfl,
  fun q L st h => e_getR (kd := 19) (k := 1) (n := 19) rfl,
  fun q L st h => e_getI (kd := 20) (k := 0) (n := 22) rfl,
  fun a L st h => e_ifle (t := 29) (n := 25) rfl,
  fun L st h => e_push (v := zvi 1) (n := 26) rfl,
  fun L st h => e_goto (t := 30) rfl,
  fun L st h => e_push (v := zvi 0) (n := 30) rfl,
  fun L st h => e_push (v := zvi 6) (n := 32) rfl,
  fun v0 v1 q L st h => e_callV3 (F := mX5_need) (kd := 19) (n := 35) rfl,
  fun a L st h => e_ld0R (n := 36) rfl,
  fun q L st h => e_callV1 (F := mX5_go) (kd := 19) (n := 39) rfl,
  fun L h => e_ret rfl⟩
theorem allX5_begins : zall yX5_begins cX5_begins 3 none 7 kX5_begins.1 :=
  ⟨k_aload_n dX5_begins_0,
  k_iload_n dX5_begins_1,
  k_iload_n dX5_begins_2,
  k_cmpge (t := 10) dX5_begins_3 (by decide),
  k_iconst dX5_begins_6,
  k_goto (t := 11) dX5_begins_7 (by decide),
  k_iconst dX5_begins_10,
  k_callV (y2 := yX5_needRoom) (C := RX5) (T0 := TX5) (ci := 3) dX5_begins_11 sndX5_needRoom rfl q659 q661 qs17 q138 q662 (by decide +kernel) ⟨by decide, by decide⟩ (by decide) (by decide),
  k_aload_n dX5_begins_14,
  k_aload_n dX5_begins_15,
  k_getR (C := RX5) (T := TX5) (N := 8) (ci := 3) (k := 1) (ref := "LinkTimes$Reader") dX5_begins_16 rfl in_X5 (by decide) q444 (Or.inl rfl) (fun _ _ _ => rfl),
  k_getIN (C := RX6) (T := TX6) (N := 5) (ci := 4) (k := 0) (ref := "LinkTimes$Desk") dX5_begins_19 rfl in_X6 (by decide) q418 (Or.inl rfl) (fun _ _ _ => rfl),
  k_ifle (t := 29) dX5_begins_22 (by decide),
  k_iconst dX5_begins_25,
  k_goto (t := 30) dX5_begins_26 (by decide),
  k_iconst dX5_begins_29,
  k_bipush dX5_begins_30,
  k_callV (y2 := yX5_need) (C := RX5) (T0 := TX5) (ci := 3) dX5_begins_32 sndX5_need rfl q560 q562 qs11 q138 q563 (by decide +kernel) ⟨by decide, by decide⟩ (by decide) (by decide),
  k_aload_n dX5_begins_35,
  k_callV (y2 := yX5_go) (C := RX5) (T0 := TX5) (ci := 3) dX5_begins_36 sndX5_go rfl q473 q475 qs2 q138 q476 (by decide +kernel) ⟨by decide, by decide⟩ (by decide) (by decide),
  k_ret dX5_begins_39, trivial⟩
theorem sndX5_begins : MSound 7 yX5_begins (ws_ yX5_begins cX5_begins 3 none) mX5_begins := msound_M (by decide) allX5_begins (fun _ _ => rfl)
/-! LinkTimes$Reader.needName()V -/
noncomputable def kX5_needName : ZM := ([(0, zi_ld 1 0 1), (1, zi_ld 1 0 2), (2, zi_getI 19 4 5), (5, zi_push (zvi 2) 6), (6, zi_cmp zc_ne 49 9), (9, zi_ld 1 0 10), (10, zi_push (zvr (some 1000000010)) 12), (12, zi_callV mX5_is 19 2 15), (15, zi_if (fun a => zc_ne a 0) 49 18), (18, zi_ld 1 0 19), (19, zi_push (zvr (some 1000000011)) 21), (21, zi_callV mX5_is 19 2 24), (24, zi_if (fun a => zc_ne a 0) 49 27), (27, zi_ld 1 0 28), (28, zi_push (zvr (some 1000000012)) 30), (30, zi_callV mX5_is 19 2 33), (33, zi_if (fun a => zc_ne a 0) 49 36), (36, zi_ld 1 0 37), (37, zi_push (zvr (some 1000000013)) 39), (39, zi_callV mX5_is 19 2 42), (42, zi_if (fun a => zc_ne a 0) 49 45), (45, zi_push (zvi 1) 46), (46, zi_goto 50), (49, zi_push (zvi 0) 50), (50, zi_push (zvi 1) 51), (51, zi_callV mX5_need 19 3 54), (54, zi_ret)], fun _ _ => none)
noncomputable def mX5_needName : ZF := zrunM kX5_needName 1
theorem enX5_needName (x0 : Option Nat) (h : PH) : mX5_needName [zvr x0] h = zev kX5_needName 0 [zvr x0] [] h := zrunM_eq rfl rfl
theorem rX5_needName : (∀ (a : Option Nat) (L st : List ZV) (h : PH), zev kX5_needName 0 (zvr a :: L) st h = zev kX5_needName 1 (zvr a :: L) (zvr a :: st) h) ∧
  (∀ (a : Option Nat) (L st : List ZV) (h : PH), zev kX5_needName 1 (zvr a :: L) st h = zev kX5_needName 2 (zvr a :: L) (zvr a :: st) h) ∧
  (∀ (q : Nat) (L st : List ZV) (h : PH), zev kX5_needName 2 L (zvr (some q) :: st) h = if (ph_K h q).1 % 1000 = 19 then zev kX5_needName 5 L (zvi (ph_I h q 4) :: st) h else none) ∧
  (∀ (L st : List ZV) (h : PH), zev kX5_needName 5 L st h = zev kX5_needName 6 L (zvi 2 :: st) h) ∧
  (∀ (a b : Int) (L st : List ZV) (h : PH), zev kX5_needName 6 L (zvi b :: zvi a :: st) h = if a ≠ b then zev kX5_needName 49 L st h else zev kX5_needName 9 L st h) ∧
  (∀ (a : Option Nat) (L st : List ZV) (h : PH), zev kX5_needName 9 (zvr a :: L) st h = zev kX5_needName 10 (zvr a :: L) (zvr a :: st) h) ∧
  (∀ (L st : List ZV) (h : PH), zev kX5_needName 10 L st h = zev kX5_needName 12 L (zvr (some 1000000010) :: st) h) ∧
  (∀ (v0 : ZV) (q : Nat) (L st : List ZV) (h : PH), zev kX5_needName 12 L (v0 :: zvr (some q) :: st) h = if (ph_K h q).1 % 1000 = 19 ∧ zcat st ≤ 8 then zk kX5_needName 12 15 L st (mX5_is [zvr (some q), v0] h) else none) ∧
  (∀ (a : Int) (L st : List ZV) (h : PH), zev kX5_needName 15 L (zvi a :: st) h = if a ≠ 0 then zev kX5_needName 49 L st h else zev kX5_needName 18 L st h) ∧
  (∀ (a : Option Nat) (L st : List ZV) (h : PH), zev kX5_needName 18 (zvr a :: L) st h = zev kX5_needName 19 (zvr a :: L) (zvr a :: st) h) ∧
  (∀ (L st : List ZV) (h : PH), zev kX5_needName 19 L st h = zev kX5_needName 21 L (zvr (some 1000000011) :: st) h) ∧
  (∀ (v0 : ZV) (q : Nat) (L st : List ZV) (h : PH), zev kX5_needName 21 L (v0 :: zvr (some q) :: st) h = if (ph_K h q).1 % 1000 = 19 ∧ zcat st ≤ 8 then zk kX5_needName 21 24 L st (mX5_is [zvr (some q), v0] h) else none) ∧
  (∀ (a : Int) (L st : List ZV) (h : PH), zev kX5_needName 24 L (zvi a :: st) h = if a ≠ 0 then zev kX5_needName 49 L st h else zev kX5_needName 27 L st h) ∧
  (∀ (a : Option Nat) (L st : List ZV) (h : PH), zev kX5_needName 27 (zvr a :: L) st h = zev kX5_needName 28 (zvr a :: L) (zvr a :: st) h) ∧
  (∀ (L st : List ZV) (h : PH), zev kX5_needName 28 L st h = zev kX5_needName 30 L (zvr (some 1000000012) :: st) h) ∧
  (∀ (v0 : ZV) (q : Nat) (L st : List ZV) (h : PH), zev kX5_needName 30 L (v0 :: zvr (some q) :: st) h = if (ph_K h q).1 % 1000 = 19 ∧ zcat st ≤ 8 then zk kX5_needName 30 33 L st (mX5_is [zvr (some q), v0] h) else none) ∧
  (∀ (a : Int) (L st : List ZV) (h : PH), zev kX5_needName 33 L (zvi a :: st) h = if a ≠ 0 then zev kX5_needName 49 L st h else zev kX5_needName 36 L st h) ∧
  (∀ (a : Option Nat) (L st : List ZV) (h : PH), zev kX5_needName 36 (zvr a :: L) st h = zev kX5_needName 37 (zvr a :: L) (zvr a :: st) h) ∧
  (∀ (L st : List ZV) (h : PH), zev kX5_needName 37 L st h = zev kX5_needName 39 L (zvr (some 1000000013) :: st) h) ∧
  (∀ (v0 : ZV) (q : Nat) (L st : List ZV) (h : PH), zev kX5_needName 39 L (v0 :: zvr (some q) :: st) h = if (ph_K h q).1 % 1000 = 19 ∧ zcat st ≤ 8 then zk kX5_needName 39 42 L st (mX5_is [zvr (some q), v0] h) else none) ∧
  (∀ (a : Int) (L st : List ZV) (h : PH), zev kX5_needName 42 L (zvi a :: st) h = if a ≠ 0 then zev kX5_needName 49 L st h else zev kX5_needName 45 L st h) ∧
  (∀ (L st : List ZV) (h : PH), zev kX5_needName 45 L st h = zev kX5_needName 46 L (zvi 1 :: st) h) ∧
  (∀ (L st : List ZV) (h : PH), zev kX5_needName 46 L st h = zev kX5_needName 50 L st h) ∧
  (∀ (L st : List ZV) (h : PH), zev kX5_needName 49 L st h = zev kX5_needName 50 L (zvi 0 :: st) h) ∧
  (∀ (L st : List ZV) (h : PH), zev kX5_needName 50 L st h = zev kX5_needName 51 L (zvi 1 :: st) h) ∧
  (∀ (v0 v1 : ZV) (q : Nat) (L st : List ZV) (h : PH), zev kX5_needName 51 L (v1 :: v0 :: zvr (some q) :: st) h = if (ph_K h q).1 % 1000 = 19 ∧ zcat st ≤ 8 then zk kX5_needName 51 54 L st (mX5_need [zvr (some q), v0, v1] h) else none) ∧
  (∀ (L : List ZV) (h : PH), zev kX5_needName 54 L [] h = zr0 h) :=
  ⟨fun a L st h => e_ld0R (n := 1) rfl,
  fun a L st h => e_ld0R (n := 2) rfl,
  fun q L st h => e_getI (kd := 19) (k := 4) (n := 5) rfl,
  fun L st h => e_push (v := zvi 2) (n := 6) rfl,
  fun a b L st h => e_cmpne (t := 49) (n := 9) rfl,
  fun a L st h => e_ld0R (n := 10) rfl,
  fun L st h => e_push (v := zvr (some 1000000010)) (n := 12) rfl,
  fun v0 q L st h => e_callV2 (F := mX5_is) (kd := 19) (n := 15) rfl,
  fun a L st h => e_ifne (t := 49) (n := 18) rfl,
  fun a L st h => e_ld0R (n := 19) rfl,
  fun L st h => e_push (v := zvr (some 1000000011)) (n := 21) rfl,
  fun v0 q L st h => e_callV2 (F := mX5_is) (kd := 19) (n := 24) rfl,
  fun a L st h => e_ifne (t := 49) (n := 27) rfl,
  fun a L st h => e_ld0R (n := 28) rfl,
  fun L st h => e_push (v := zvr (some 1000000012)) (n := 30) rfl,
  fun v0 q L st h => e_callV2 (F := mX5_is) (kd := 19) (n := 33) rfl,
  fun a L st h => e_ifne (t := 49) (n := 36) rfl,
  fun a L st h => e_ld0R (n := 37) rfl,
  fun L st h => e_push (v := zvr (some 1000000013)) (n := 39) rfl,
  fun v0 q L st h => e_callV2 (F := mX5_is) (kd := 19) (n := 42) rfl,
  fun a L st h => e_ifne (t := 49) (n := 45) rfl,
  fun L st h => e_push (v := zvi 1) (n := 46) rfl,
  fun L st h => e_goto (t := 50) rfl,
  fun L st h => e_push (v := zvi 0) (n := 50) rfl,
  fun L st h => e_push (v := zvi 1) (n := 51) rfl,
  fun v0 v1 q L st h => e_callV3 (F := mX5_need) (kd := 19) (n := 54) rfl,
  fun L h => e_ret rfl⟩
theorem allX5_needName : zall yX5_needName cX5_needName 1 none 7 kX5_needName.1 :=
  ⟨k_aload_n dX5_needName_0,
  k_aload_n dX5_needName_1,
  k_getI (C := RX5) (T := TX5) (N := 8) (ci := 3) (k := 4) (ref := "LinkTimes$Reader") dX5_needName_2 rfl in_X5 (by decide) q447 (Or.inl rfl) (fun _ _ _ => rfl),
  k_iconst dX5_needName_5,
  k_cmpne (t := 49) dX5_needName_6 (by decide),
  k_aload_n dX5_needName_9,
  k_ldcS (tx := "desk") (i := 0) dX5_needName_10 (by decide +kernel) (by decide),
  k_callV (y2 := yX5_is) (C := RX5) (T0 := TX5) (ci := 3) dX5_needName_12 sndX5_is rfl q504 q506 qs9 q138 q507 (by decide +kernel) ⟨by decide, by decide⟩ (by decide) (by decide),
  k_ifne (t := 49) dX5_needName_15 (by decide),
  k_aload_n dX5_needName_18,
  k_ldcS (tx := "spot") (i := 1) dX5_needName_19 (by decide +kernel) (by decide),
  k_callV (y2 := yX5_is) (C := RX5) (T0 := TX5) (ci := 3) dX5_needName_21 sndX5_is rfl q504 q506 qs9 q138 q507 (by decide +kernel) ⟨by decide, by decide⟩ (by decide) (by decide),
  k_ifne (t := 49) dX5_needName_24 (by decide),
  k_aload_n dX5_needName_27,
  k_ldcS (tx := "line") (i := 2) dX5_needName_28 (by decide +kernel) (by decide),
  k_callV (y2 := yX5_is) (C := RX5) (T0 := TX5) (ci := 3) dX5_needName_30 sndX5_is rfl q504 q506 qs9 q138 q507 (by decide +kernel) ⟨by decide, by decide⟩ (by decide) (by decide),
  k_ifne (t := 49) dX5_needName_33 (by decide),
  k_aload_n dX5_needName_36,
  k_ldcS (tx := "link") (i := 3) dX5_needName_37 (by decide +kernel) (by decide),
  k_callV (y2 := yX5_is) (C := RX5) (T0 := TX5) (ci := 3) dX5_needName_39 sndX5_is rfl q504 q506 qs9 q138 q507 (by decide +kernel) ⟨by decide, by decide⟩ (by decide) (by decide),
  k_ifne (t := 49) dX5_needName_42 (by decide),
  k_iconst dX5_needName_45,
  k_goto (t := 50) dX5_needName_46 (by decide),
  k_iconst dX5_needName_49,
  k_iconst dX5_needName_50,
  k_callV (y2 := yX5_need) (C := RX5) (T0 := TX5) (ci := 3) dX5_needName_51 sndX5_need rfl q560 q562 qs11 q138 q563 (by decide +kernel) ⟨by decide, by decide⟩ (by decide) (by decide),
  k_ret dX5_needName_54, trivial⟩
theorem sndX5_needName : MSound 7 yX5_needName (ws_ yX5_needName cX5_needName 1 none) mX5_needName := msound_M (by decide) allX5_needName (fun _ _ => rfl)
/-! LinkTimes$Reader.fresh()J -/
noncomputable def kX5_fresh : ZM := ([(0, zi_ld 1 0 1), (1, zi_callV mX5_needName 19 1 4), (4, zi_ld 1 0 5), (5, zi_ld 1 0 6), (6, zi_getR 19 1 9), (9, zi_ld 1 0 10), (10, zi_getJ 19 6 13), (13, zi_callV mX6_findSpot 20 2 16), (16, zi_push (zvi (-1)) 17), (17, zi_cmp zc_ne 39 20), (20, zi_ld 1 0 21), (21, zi_getR 19 1 24), (24, zi_ld 1 0 25), (25, zi_getJ 19 6 28), (28, zi_callV mX6_findLine 20 2 31), (31, zi_push (zvi (-1)) 32), (32, zi_cmp zc_ne 39 35), (35, zi_push (zvi 1) 36), (36, zi_goto 40), (39, zi_push (zvi 0) 40), (40, zi_push (zvi 3) 41), (41, zi_callV mX5_need 19 3 44), (44, zi_ld 1 0 45), (45, zi_getJ 19 6 48), (48, zi_stL 1 49), (49, zi_ld 1 0 50), (50, zi_callV mX5_go 19 1 53), (53, zi_ld 2 1 54), (54, zi_retv 2)], fun _ _ => none)
noncomputable def mX5_fresh : ZF := zrunM kX5_fresh 3
theorem enX5_fresh (x0 : Option Nat) (h : PH) : mX5_fresh [zvr x0] h = zev kX5_fresh 0 [zvr x0, zvu, zvu] [] h := zrunM_eq rfl rfl
theorem rX5_fresh : (∀ (a : Option Nat) (L st : List ZV) (h : PH), zev kX5_fresh 0 (zvr a :: L) st h = zev kX5_fresh 1 (zvr a :: L) (zvr a :: st) h) ∧
  (∀ (q : Nat) (L st : List ZV) (h : PH), zev kX5_fresh 1 L (zvr (some q) :: st) h = if (ph_K h q).1 % 1000 = 19 ∧ zcat st ≤ 8 then zk kX5_fresh 1 4 L st (mX5_needName [zvr (some q)] h) else none) ∧
  (∀ (a : Option Nat) (L st : List ZV) (h : PH), zev kX5_fresh 4 (zvr a :: L) st h = zev kX5_fresh 5 (zvr a :: L) (zvr a :: st) h) ∧
  (∀ (a : Option Nat) (L st : List ZV) (h : PH), zev kX5_fresh 5 (zvr a :: L) st h = zev kX5_fresh 6 (zvr a :: L) (zvr a :: st) h) ∧
  (∀ (q : Nat) (L st : List ZV) (h : PH), zev kX5_fresh 6 L (zvr (some q) :: st) h = if (ph_K h q).1 % 1000 = 19 then zev kX5_fresh 9 L (zvr (ph_R h q 1) :: st) h else none) ∧
  (∀ (a : Option Nat) (L st : List ZV) (h : PH), zev kX5_fresh 9 (zvr a :: L) st h = zev kX5_fresh 10 (zvr a :: L) (zvr a :: st) h) ∧
  (∀ (q : Nat) (L st : List ZV) (h : PH), zev kX5_fresh 10 L (zvr (some q) :: st) h = if (ph_K h q).1 % 1000 = 19 then zev kX5_fresh 13 L (zvl (ph_J h q 6) :: st) h else none) ∧
  (∀ (v0 : ZV) (q : Nat) (L st : List ZV) (h : PH), zev kX5_fresh 13 L (v0 :: zvr (some q) :: st) h = if (ph_K h q).1 % 1000 = 20 ∧ zcat st ≤ 8 then zk kX5_fresh 13 16 L st (mX6_findSpot [zvr (some q), v0] h) else none) ∧
  (∀ (L st : List ZV) (h : PH), zev kX5_fresh 16 L st h = zev kX5_fresh 17 L (zvi (-1) :: st) h) ∧
  (∀ (a b : Int) (L st : List ZV) (h : PH), zev kX5_fresh 17 L (zvi b :: zvi a :: st) h = if a ≠ b then zev kX5_fresh 39 L st h else zev kX5_fresh 20 L st h) ∧
  (∀ (a : Option Nat) (L st : List ZV) (h : PH), zev kX5_fresh 20 (zvr a :: L) st h = zev kX5_fresh 21 (zvr a :: L) (zvr a :: st) h) ∧
  (∀ (q : Nat) (L st : List ZV) (h : PH), zev kX5_fresh 21 L (zvr (some q) :: st) h = if (ph_K h q).1 % 1000 = 19 then zev kX5_fresh 24 L (zvr (ph_R h q 1) :: st) h else none) ∧
  (∀ (a : Option Nat) (L st : List ZV) (h : PH), zev kX5_fresh 24 (zvr a :: L) st h = zev kX5_fresh 25 (zvr a :: L) (zvr a :: st) h) ∧
  (∀ (q : Nat) (L st : List ZV) (h : PH), zev kX5_fresh 25 L (zvr (some q) :: st) h = if (ph_K h q).1 % 1000 = 19 then zev kX5_fresh 28 L (zvl (ph_J h q 6) :: st) h else none) ∧
  (∀ (v0 : ZV) (q : Nat) (L st : List ZV) (h : PH), zev kX5_fresh 28 L (v0 :: zvr (some q) :: st) h = if (ph_K h q).1 % 1000 = 20 ∧ zcat st ≤ 8 then zk kX5_fresh 28 31 L st (mX6_findLine [zvr (some q), v0] h) else none) ∧
  (∀ (L st : List ZV) (h : PH), zev kX5_fresh 31 L st h = zev kX5_fresh 32 L (zvi (-1) :: st) h) ∧
  (∀ (a b : Int) (L st : List ZV) (h : PH), zev kX5_fresh 32 L (zvi b :: zvi a :: st) h = if a ≠ b then zev kX5_fresh 39 L st h else zev kX5_fresh 35 L st h) ∧
  (∀ (L st : List ZV) (h : PH), zev kX5_fresh 35 L st h = zev kX5_fresh 36 L (zvi 1 :: st) h) ∧
  (∀ (L st : List ZV) (h : PH), zev kX5_fresh 36 L st h = zev kX5_fresh 40 L st h) ∧
  (∀ (L st : List ZV) (h : PH), zev kX5_fresh 39 L st h = zev kX5_fresh 40 L (zvi 0 :: st) h) ∧
  (∀ (L st : List ZV) (h : PH), zev kX5_fresh 40 L st h = zev kX5_fresh 41 L (zvi 3 :: st) h) ∧
  (∀ (v0 v1 : ZV) (q : Nat) (L st : List ZV) (h : PH), zev kX5_fresh 41 L (v1 :: v0 :: zvr (some q) :: st) h = if (ph_K h q).1 % 1000 = 19 ∧ zcat st ≤ 8 then zk kX5_fresh 41 44 L st (mX5_need [zvr (some q), v0, v1] h) else none) ∧
  (∀ (a : Option Nat) (L st : List ZV) (h : PH), zev kX5_fresh 44 (zvr a :: L) st h = zev kX5_fresh 45 (zvr a :: L) (zvr a :: st) h) ∧
  (∀ (q : Nat) (L st : List ZV) (h : PH), zev kX5_fresh 45 L (zvr (some q) :: st) h = if (ph_K h q).1 % 1000 = 19 then zev kX5_fresh 48 L (zvl (ph_J h q 6) :: st) h else none) ∧
  (∀ (x0 x1 x2 : ZV) (a : Int) (L st : List ZV) (h : PH) (hx : zisL x0 = false) , zev kX5_fresh 48 (x0 :: x1 :: x2 :: L) (zvl a :: st) h = zev kX5_fresh 49 (x0 :: zvl a :: zvu :: L) st h) ∧
  (∀ (a : Option Nat) (L st : List ZV) (h : PH), zev kX5_fresh 49 (zvr a :: L) st h = zev kX5_fresh 50 (zvr a :: L) (zvr a :: st) h) ∧
  (∀ (q : Nat) (L st : List ZV) (h : PH), zev kX5_fresh 50 L (zvr (some q) :: st) h = if (ph_K h q).1 % 1000 = 19 ∧ zcat st ≤ 8 then zk kX5_fresh 50 53 L st (mX5_go [zvr (some q)] h) else none) ∧
  (∀ (x0 : ZV) (a : Int) (L st : List ZV) (h : PH), zev kX5_fresh 53 (x0 :: zvl a :: L) st h = zev kX5_fresh 54 (x0 :: zvl a :: L) (zvl a :: st) h) ∧
  (∀ (a : Int) (L : List ZV) (h : PH), zev kX5_fresh 54 L [zvl a] h = zrv (zvl a) h) :=
  ⟨fun a L st h => e_ld0R (n := 1) rfl,
  fun q L st h => e_callV1 (F := mX5_needName) (kd := 19) (n := 4) rfl,
  fun a L st h => e_ld0R (n := 5) rfl,
  fun a L st h => e_ld0R (n := 6) rfl,
  fun q L st h => e_getR (kd := 19) (k := 1) (n := 9) rfl,
  fun a L st h => e_ld0R (n := 10) rfl,
  fun q L st h => e_getJ (kd := 19) (k := 6) (n := 13) rfl,
  fun v0 q L st h => e_callV2 (F := mX6_findSpot) (kd := 20) (n := 16) rfl,
  fun L st h => e_push (v := zvi (-1)) (n := 17) rfl,
  fun a b L st h => e_cmpne (t := 39) (n := 20) rfl,
  fun a L st h => e_ld0R (n := 21) rfl,
  fun q L st h => e_getR (kd := 19) (k := 1) (n := 24) rfl,
  fun a L st h => e_ld0R (n := 25) rfl,
  fun q L st h => e_getJ (kd := 19) (k := 6) (n := 28) rfl,
  fun v0 q L st h => e_callV2 (F := mX6_findLine) (kd := 20) (n := 31) rfl,
  fun L st h => e_push (v := zvi (-1)) (n := 32) rfl,
  fun a b L st h => e_cmpne (t := 39) (n := 35) rfl,
  fun L st h => e_push (v := zvi 1) (n := 36) rfl,
  fun L st h => e_goto (t := 40) rfl,
  fun L st h => e_push (v := zvi 0) (n := 40) rfl,
  fun L st h => e_push (v := zvi 3) (n := 41) rfl,
  fun v0 v1 q L st h => e_callV3 (F := mX5_need) (kd := 19) (n := 44) rfl,
  fun a L st h => e_ld0R (n := 45) rfl,
  fun q L st h => e_getJ (kd := 19) (k := 6) (n := 48) rfl,
  fun x0 x1 x2 a L st h hx => e_stJ1 (n := 49) rfl hx,
  fun a L st h => e_ld0R (n := 50) rfl,
  fun q L st h => e_callV1 (F := mX5_go) (kd := 19) (n := 53) rfl,
  fun x0 a L st h => e_ld1J (n := 54) rfl,
  fun a L h => e_retJ rfl⟩
theorem allX5_fresh : zall yX5_fresh cX5_fresh 3 (some .long) 8 kX5_fresh.1 :=
  ⟨k_aload_n dX5_fresh_0,
  k_callV (y2 := yX5_needName) (C := RX5) (T0 := TX5) (ci := 3) dX5_fresh_1 sndX5_needName rfl q683 q685 qs19 q138 q686 (by decide +kernel) ⟨by decide, by decide⟩ (by decide) (by decide),
  k_aload_n dX5_fresh_4,
  k_aload_n dX5_fresh_5,
  k_getR (C := RX5) (T := TX5) (N := 8) (ci := 3) (k := 1) (ref := "LinkTimes$Reader") dX5_fresh_6 rfl in_X5 (by decide) q444 (Or.inl rfl) (fun _ _ _ => rfl),
  k_aload_n dX5_fresh_9,
  k_getJ (C := RX5) (T := TX5) (N := 8) (ci := 3) (k := 6) (ref := "LinkTimes$Reader") dX5_fresh_10 rfl in_X5 (by decide) q449 (Or.inl rfl) (fun _ _ _ => rfl),
  k_callV (y2 := yX6_findSpot) (C := RX6) (T0 := TX6) (ci := 4) dX5_fresh_13 sndX6_findSpot rfl q689 q690 q691 q139 q692 (by decide +kernel) ⟨by decide, by decide⟩ (by decide) (by decide),
  k_iconst dX5_fresh_16,
  k_cmpne (t := 39) dX5_fresh_17 (by decide),
  k_aload_n dX5_fresh_20,
  k_getR (C := RX5) (T := TX5) (N := 8) (ci := 3) (k := 1) (ref := "LinkTimes$Reader") dX5_fresh_21 rfl in_X5 (by decide) q444 (Or.inl rfl) (fun _ _ _ => rfl),
  k_aload_n dX5_fresh_24,
  k_getJ (C := RX5) (T := TX5) (N := 8) (ci := 3) (k := 6) (ref := "LinkTimes$Reader") dX5_fresh_25 rfl in_X5 (by decide) q449 (Or.inl rfl) (fun _ _ _ => rfl),
  k_callV (y2 := yX6_findLine) (C := RX6) (T0 := TX6) (ci := 4) dX5_fresh_28 sndX6_findLine rfl q707 q708 q709 q139 q710 (by decide +kernel) ⟨by decide, by decide⟩ (by decide) (by decide),
  k_iconst dX5_fresh_31,
  k_cmpne (t := 39) dX5_fresh_32 (by decide),
  k_iconst dX5_fresh_35,
  k_goto (t := 40) dX5_fresh_36 (by decide),
  k_iconst dX5_fresh_39,
  k_iconst dX5_fresh_40,
  k_callV (y2 := yX5_need) (C := RX5) (T0 := TX5) (ci := 3) dX5_fresh_41 sndX5_need rfl q560 q562 qs11 q138 q563 (by decide +kernel) ⟨by decide, by decide⟩ (by decide) (by decide),
  k_aload_n dX5_fresh_44,
  k_getJ (C := RX5) (T := TX5) (N := 8) (ci := 3) (k := 6) (ref := "LinkTimes$Reader") dX5_fresh_45 rfl in_X5 (by decide) q449 (Or.inl rfl) (fun _ _ _ => rfl),
  k_lstore_n dX5_fresh_48,
  k_aload_n dX5_fresh_49,
  k_callV (y2 := yX5_go) (C := RX5) (T0 := TX5) (ci := 3) dX5_fresh_50 sndX5_go rfl q473 q475 qs2 q138 q476 (by decide +kernel) ⟨by decide, by decide⟩ (by decide) (by decide),
  k_lload_n dX5_fresh_53,
  k_lret dX5_fresh_54, trivial⟩
theorem sndX5_fresh : MSound 8 yX5_fresh (ws_ yX5_fresh cX5_fresh 3 (some .long)) mX5_fresh := msound_M (by decide) allX5_fresh (fun _ _ => rfl)
/-! LinkTimes$Reader.spot()V -/
noncomputable def kX5_spot : ZM := ([(0, zi_ld 1 0 1), (1, zi_ld 1 0 2), (2, zi_getR 19 1 5), (5, zi_getR 20 2 8), (8, zi_callV mJ7_size 29 1 11), (11, zi_push (zvi 10) 13), (13, zi_callV mX5_begins 19 3 16), (16, zi_ld 1 0 17), (17, zi_callV mX5_fresh 19 1 20), (20, zi_stL 1 21), (21, zi_ld 1 0 22), (22, zi_push (zvr (some 1000000015)) 24), (24, zi_push (zvi 0) 25), (25, zi_push (zvi 99) 27), (27, zi_callV mX5_part 19 4 30), (30, zi_st 0 3 31), (31, zi_ld 1 0 32), (32, zi_getR 19 1 35), (35, zi_getR 20 2 38), (38, zi_new 21 3 41), (41, zi_dup 42), (42, zi_ld 2 1 43), (43, zi_ld 0 3 44), (44, zi_ld 1 0 45), (45, zi_push (zvr (some 1000000016)) 47), (47, zi_callV mX5_is 19 2 50), (50, zi_if (fun a => zc_eq a 0) 66 53), (53, zi_ld 1 0 54), (54, zi_push (zvr (some 1000000016)) 56), (56, zi_push (zvi 0) 57), (57, zi_push (zvi 999) 60), (60, zi_callV mX5_part 19 4 63), (63, zi_goto 68), (66, zi_push (zvi (-2)) 68), (68, zi_callV mX10_init 21 4 71), (71, zi_callV mJ7_add 29 2 74), (74, zi_pop 75), (75, zi_ret)], fun _ _ => none)
noncomputable def mX5_spot : ZF := zrunM kX5_spot 4
theorem enX5_spot (x0 : Option Nat) (h : PH) : mX5_spot [zvr x0] h = zev kX5_spot 0 [zvr x0, zvu, zvu, zvu] [] h := zrunM_eq rfl rfl
theorem rX5_spot : (∀ (a : Option Nat) (L st : List ZV) (h : PH), zev kX5_spot 0 (zvr a :: L) st h = zev kX5_spot 1 (zvr a :: L) (zvr a :: st) h) ∧
  (∀ (a : Option Nat) (L st : List ZV) (h : PH), zev kX5_spot 1 (zvr a :: L) st h = zev kX5_spot 2 (zvr a :: L) (zvr a :: st) h) ∧
  (∀ (q : Nat) (L st : List ZV) (h : PH), zev kX5_spot 2 L (zvr (some q) :: st) h = if (ph_K h q).1 % 1000 = 19 then zev kX5_spot 5 L (zvr (ph_R h q 1) :: st) h else none) ∧
  (∀ (q : Nat) (L st : List ZV) (h : PH), zev kX5_spot 5 L (zvr (some q) :: st) h = if (ph_K h q).1 % 1000 = 20 then zev kX5_spot 8 L (zvr (ph_R h q 2) :: st) h else none) ∧
  (∀ (q : Nat) (L st : List ZV) (h : PH), zev kX5_spot 8 L (zvr (some q) :: st) h = if (ph_K h q).1 % 1000 = 29 ∧ zcat st ≤ 8 then zk kX5_spot 8 11 L st (mJ7_size [zvr (some q)] h) else none) ∧
  (∀ (L st : List ZV) (h : PH), zev kX5_spot 11 L st h = zev kX5_spot 13 L (zvi 10 :: st) h) ∧
  (∀ (v0 v1 : ZV) (q : Nat) (L st : List ZV) (h : PH), zev kX5_spot 13 L (v1 :: v0 :: zvr (some q) :: st) h = if (ph_K h q).1 % 1000 = 19 ∧ zcat st ≤ 8 then zk kX5_spot 13 16 L st (mX5_begins [zvr (some q), v0, v1] h) else none) ∧
  (∀ (a : Option Nat) (L st : List ZV) (h : PH), zev kX5_spot 16 (zvr a :: L) st h = zev kX5_spot 17 (zvr a :: L) (zvr a :: st) h) ∧
  (∀ (q : Nat) (L st : List ZV) (h : PH), zev kX5_spot 17 L (zvr (some q) :: st) h = if (ph_K h q).1 % 1000 = 19 ∧ zcat st ≤ 8 then zk kX5_spot 17 20 L st (mX5_fresh [zvr (some q)] h) else none) ∧
  (∀ (x0 x1 x2 : ZV) (a : Int) (L st : List ZV) (h : PH) (hx : zisL x0 = false) , zev kX5_spot 20 (x0 :: x1 :: x2 :: L) (zvl a :: st) h = zev kX5_spot 21 (x0 :: zvl a :: zvu :: L) st h) ∧
  (∀ (a : Option Nat) (L st : List ZV) (h : PH), zev kX5_spot 21 (zvr a :: L) st h = zev kX5_spot 22 (zvr a :: L) (zvr a :: st) h) ∧
  (∀ (L st : List ZV) (h : PH), zev kX5_spot 22 L st h = zev kX5_spot 24 L (zvr (some 1000000015) :: st) h) ∧
  (∀ (L st : List ZV) (h : PH), zev kX5_spot 24 L st h = zev kX5_spot 25 L (zvi 0 :: st) h) ∧
  (∀ (L st : List ZV) (h : PH), zev kX5_spot 25 L st h = zev kX5_spot 27 L (zvi 99 :: st) h) ∧
  (∀ (v0 v1 v2 : ZV) (q : Nat) (L st : List ZV) (h : PH), zev kX5_spot 27 L (v2 :: v1 :: v0 :: zvr (some q) :: st) h = if (ph_K h q).1 % 1000 = 19 ∧ zcat st ≤ 8 then zk kX5_spot 27 30 L st (mX5_part [zvr (some q), v0, v1, v2] h) else none) ∧
  (∀ (x0 x1 x2 x3 : ZV) (a : Int) (L st : List ZV) (h : PH) (hx : zisL x2 = false) , zev kX5_spot 30 (x0 :: x1 :: x2 :: x3 :: L) (zvi a :: st) h = zev kX5_spot 31 (x0 :: x1 :: x2 :: zvi a :: L) st h) ∧
  (∀ (a : Option Nat) (L st : List ZV) (h : PH), zev kX5_spot 31 (zvr a :: L) st h = zev kX5_spot 32 (zvr a :: L) (zvr a :: st) h) ∧
  (∀ (q : Nat) (L st : List ZV) (h : PH), zev kX5_spot 32 L (zvr (some q) :: st) h = if (ph_K h q).1 % 1000 = 19 then zev kX5_spot 35 L (zvr (ph_R h q 1) :: st) h else none) ∧
  (∀ (q : Nat) (L st : List ZV) (h : PH), zev kX5_spot 35 L (zvr (some q) :: st) h = if (ph_K h q).1 % 1000 = 20 then zev kX5_spot 38 L (zvr (ph_R h q 2) :: st) h else none) ∧
  (∀ (L st : List ZV) (h : PH), zev kX5_spot 38 L st h = zev kX5_spot 41 L (zvr (some (ph_N h)) :: st) (al_ h 21 0 3)) ∧
  (∀ (a : Int) (L st : List ZV) (h : PH), zev kX5_spot 41 L (zvi a :: st) h = zev kX5_spot 42 L (zvi a :: zvi a :: st) h) ∧
  (∀ (a : Option Nat) (L st : List ZV) (h : PH), zev kX5_spot 41 L (zvr a :: st) h = zev kX5_spot 42 L (zvr a :: zvr a :: st) h) ∧
  (∀ (x0 : ZV) (a : Int) (L st : List ZV) (h : PH), zev kX5_spot 42 (x0 :: zvl a :: L) st h = zev kX5_spot 43 (x0 :: zvl a :: L) (zvl a :: st) h) ∧
  (∀ (x0 x1 x2 : ZV) (a : Int) (L st : List ZV) (h : PH), zev kX5_spot 43 (x0 :: x1 :: x2 :: zvi a :: L) st h = zev kX5_spot 44 (x0 :: x1 :: x2 :: zvi a :: L) (zvi a :: st) h) ∧
  (∀ (a : Option Nat) (L st : List ZV) (h : PH), zev kX5_spot 44 (zvr a :: L) st h = zev kX5_spot 45 (zvr a :: L) (zvr a :: st) h) ∧
  (∀ (L st : List ZV) (h : PH), zev kX5_spot 45 L st h = zev kX5_spot 47 L (zvr (some 1000000016) :: st) h) ∧
  (∀ (v0 : ZV) (q : Nat) (L st : List ZV) (h : PH), zev kX5_spot 47 L (v0 :: zvr (some q) :: st) h = if (ph_K h q).1 % 1000 = 19 ∧ zcat st ≤ 8 then zk kX5_spot 47 50 L st (mX5_is [zvr (some q), v0] h) else none) ∧
  (∀ (a : Int) (L st : List ZV) (h : PH), zev kX5_spot 50 L (zvi a :: st) h = if a = 0 then zev kX5_spot 66 L st h else zev kX5_spot 53 L st h) ∧
  (∀ (a : Option Nat) (L st : List ZV) (h : PH), zev kX5_spot 53 (zvr a :: L) st h = zev kX5_spot 54 (zvr a :: L) (zvr a :: st) h) ∧
  (∀ (L st : List ZV) (h : PH), zev kX5_spot 54 L st h = zev kX5_spot 56 L (zvr (some 1000000016) :: st) h) ∧
  (∀ (L st : List ZV) (h : PH), zev kX5_spot 56 L st h = zev kX5_spot 57 L (zvi 0 :: st) h) ∧
  (∀ (L st : List ZV) (h : PH), zev kX5_spot 57 L st h = zev kX5_spot 60 L (zvi 999 :: st) h) ∧
  (∀ (v0 v1 v2 : ZV) (q : Nat) (L st : List ZV) (h : PH), zev kX5_spot 60 L (v2 :: v1 :: v0 :: zvr (some q) :: st) h = if (ph_K h q).1 % 1000 = 19 ∧ zcat st ≤ 8 then zk kX5_spot 60 63 L st (mX5_part [zvr (some q), v0, v1, v2] h) else none) ∧
  (∀ (L st : List ZV) (h : PH), zev kX5_spot 63 L st h = zev kX5_spot 68 L st h) ∧
  (∀ (L st : List ZV) (h : PH), zev kX5_spot 66 L st h = zev kX5_spot 68 L (zvi (-2) :: st) h) ∧
  (∀ (v0 v1 v2 : ZV) (q : Nat) (L st : List ZV) (h : PH), zev kX5_spot 68 L (v2 :: v1 :: v0 :: zvr (some q) :: st) h = if (ph_K h q).1 % 1000 = 21 ∧ zcat st ≤ 8 then zk kX5_spot 68 71 L st (mX10_init [zvr (some q), v0, v1, v2] h) else none) ∧
  (∀ (v0 : ZV) (q : Nat) (L st : List ZV) (h : PH), zev kX5_spot 71 L (v0 :: zvr (some q) :: st) h = if (ph_K h q).1 % 1000 = 29 ∧ zcat st ≤ 8 then zk kX5_spot 71 74 L st (mJ7_add [zvr (some q), v0] h) else none) ∧
  (∀ (a : Int) (L st : List ZV) (h : PH), zev kX5_spot 74 L (zvi a :: st) h = zev kX5_spot 75 L st h) ∧
  (∀ (a : Option Nat) (L st : List ZV) (h : PH), zev kX5_spot 74 L (zvr a :: st) h = zev kX5_spot 75 L st h) ∧
  (∀ (L : List ZV) (h : PH), zev kX5_spot 75 L [] h = zr0 h) :=
  ⟨fun a L st h => e_ld0R (n := 1) rfl,
  fun a L st h => e_ld0R (n := 2) rfl,
  fun q L st h => e_getR (kd := 19) (k := 1) (n := 5) rfl,
  fun q L st h => e_getR (kd := 20) (k := 2) (n := 8) rfl,
  fun q L st h => e_callV1 (F := mJ7_size) (kd := 29) (n := 11) rfl,
  fun L st h => e_push (v := zvi 10) (n := 13) rfl,
  fun v0 v1 q L st h => e_callV3 (F := mX5_begins) (kd := 19) (n := 16) rfl,
  fun a L st h => e_ld0R (n := 17) rfl,
  fun q L st h => e_callV1 (F := mX5_fresh) (kd := 19) (n := 20) rfl,
  fun x0 x1 x2 a L st h hx => e_stJ1 (n := 21) rfl hx,
  fun a L st h => e_ld0R (n := 22) rfl,
  fun L st h => e_push (v := zvr (some 1000000015)) (n := 24) rfl,
  fun L st h => e_push (v := zvi 0) (n := 25) rfl,
  fun L st h => e_push (v := zvi 99) (n := 27) rfl,
  fun v0 v1 v2 q L st h => e_callV4 (F := mX5_part) (kd := 19) (n := 30) rfl,
  fun x0 x1 x2 x3 a L st h hx => e_st3I (n := 31) rfl hx,
  fun a L st h => e_ld0R (n := 32) rfl,
  fun q L st h => e_getR (kd := 19) (k := 1) (n := 35) rfl,
  fun q L st h => e_getR (kd := 20) (k := 2) (n := 38) rfl,
  fun L st h => e_new (kd := 21) (sl := 3) (n := 41) rfl,
  fun a L st h => e_dupI (n := 42) rfl,
  fun a L st h => e_dupR (n := 42) rfl,
  fun x0 a L st h => e_ld1J (n := 43) rfl,
  fun x0 x1 x2 a L st h => e_ld3I (n := 44) rfl,
  fun a L st h => e_ld0R (n := 45) rfl,
  fun L st h => e_push (v := zvr (some 1000000016)) (n := 47) rfl,
  fun v0 q L st h => e_callV2 (F := mX5_is) (kd := 19) (n := 50) rfl,
  fun a L st h => e_ifeq (t := 66) (n := 53) rfl,
  fun a L st h => e_ld0R (n := 54) rfl,
  fun L st h => e_push (v := zvr (some 1000000016)) (n := 56) rfl,
  fun L st h => e_push (v := zvi 0) (n := 57) rfl,
  fun L st h => e_push (v := zvi 999) (n := 60) rfl,
  fun v0 v1 v2 q L st h => e_callV4 (F := mX5_part) (kd := 19) (n := 63) rfl,
  fun L st h => e_goto (t := 68) rfl,
  fun L st h => e_push (v := zvi (-2)) (n := 68) rfl,
  fun v0 v1 v2 q L st h => e_callV4 (F := mX10_init) (kd := 21) (n := 71) rfl,
  fun v0 q L st h => e_callV2 (F := mJ7_add) (kd := 29) (n := 74) rfl,
  fun a L st h => e_popI (n := 75) rfl,
  fun a L st h => e_popR (n := 75) rfl,
  fun L h => e_ret rfl⟩
theorem allX5_spot : zall yX5_spot cX5_spot 4 none 9 kX5_spot.1 :=
  ⟨k_aload_n dX5_spot_0,
  k_aload_n dX5_spot_1,
  k_getR (C := RX5) (T := TX5) (N := 8) (ci := 3) (k := 1) (ref := "LinkTimes$Reader") dX5_spot_2 rfl in_X5 (by decide) q444 (Or.inl rfl) (fun _ _ _ => rfl),
  k_getRN (C := RX6) (T := TX6) (N := 5) (ci := 4) (k := 2) (ref := "LinkTimes$Desk") dX5_spot_5 rfl in_X6 (by decide) q424 (Or.inl rfl) (fun _ _ _ => rfl),
  k_callV (y2 := yJ7_size) (C := RJ7) (T0 := TJ7) (ci := 13) dX5_spot_8 sndJ7_size rfl q651 q652 q653 q141 q654 (by decide +kernel) ⟨by decide, by decide⟩ (by decide) (by decide),
  k_bipush dX5_spot_11,
  k_callV (y2 := yX5_begins) (C := RX5) (T0 := TX5) (ci := 3) dX5_spot_13 sndX5_begins rfl q655 q657 qs16 q138 q658 (by decide +kernel) ⟨by decide, by decide⟩ (by decide) (by decide),
  k_aload_n dX5_spot_16,
  k_callV (y2 := yX5_fresh) (C := RX5) (T0 := TX5) (ci := 3) dX5_spot_17 sndX5_fresh rfl q679 q681 qs18 q138 q682 (by decide +kernel) ⟨by decide, by decide⟩ (by decide) (by decide),
  k_lstore_n dX5_spot_20,
  k_aload_n dX5_spot_21,
  k_ldcS (tx := "change") (i := 5) dX5_spot_22 (by decide +kernel) (by decide),
  k_iconst dX5_spot_24,
  k_bipush dX5_spot_25,
  k_callV (y2 := yX5_part) (C := RX5) (T0 := TX5) (ci := 3) dX5_spot_27 sndX5_part rfl q638 q640 qs13 q138 q641 (by decide +kernel) ⟨by decide, by decide⟩ (by decide) (by decide),
  k_istore_n dX5_spot_30,
  k_aload_n dX5_spot_31,
  k_getR (C := RX5) (T := TX5) (N := 8) (ci := 3) (k := 1) (ref := "LinkTimes$Reader") dX5_spot_32 rfl in_X5 (by decide) q444 (Or.inl rfl) (fun _ _ _ => rfl),
  k_getRN (C := RX6) (T := TX6) (N := 5) (ci := 4) (k := 2) (ref := "LinkTimes$Desk") dX5_spot_35 rfl in_X6 (by decide) q424 (Or.inl rfl) (fun _ _ _ => rfl),
  k_new (C := RX10) (T := TX10) (N := 3) (ci := 5) dX5_spot_38 rfl in_X10 tyX10 tyX10_ok rfl (by decide) q717 q718 q152,
  k_dup dX5_spot_41,
  k_lload_n dX5_spot_42,
  k_iload_n dX5_spot_43,
  k_aload_n dX5_spot_44,
  k_ldcS (tx := "wait") (i := 6) dX5_spot_45 (by decide +kernel) (by decide),
  k_callV (y2 := yX5_is) (C := RX5) (T0 := TX5) (ci := 3) dX5_spot_47 sndX5_is rfl q504 q506 qs9 q138 q507 (by decide +kernel) ⟨by decide, by decide⟩ (by decide) (by decide),
  k_ifeq (t := 66) dX5_spot_50 (by decide),
  k_aload_n dX5_spot_53,
  k_ldcS (tx := "wait") (i := 6) dX5_spot_54 (by decide +kernel) (by decide),
  k_iconst dX5_spot_56,
  k_sipush dX5_spot_57,
  k_callV (y2 := yX5_part) (C := RX5) (T0 := TX5) (ci := 3) dX5_spot_60 sndX5_part rfl q638 q640 qs13 q138 q641 (by decide +kernel) ⟨by decide, by decide⟩ (by decide) (by decide),
  k_goto (t := 68) dX5_spot_63 (by decide),
  k_bipush dX5_spot_66,
  k_callI (y2 := yX10_init) (C := RX10) (T0 := TX10) (ci := 5) dX5_spot_68 sndX10_init rfl q720 q721 q152 q722 rfl (by decide +kernel) ⟨by decide, by decide⟩ (by decide) (by decide),
  k_callV (y2 := yJ7_add) (C := RJ7) (T0 := TJ7) (ci := 13) dX5_spot_71 sndJ7_add rfl q739 q740 q741 q141 q742 (by decide +kernel) ⟨by decide, by decide⟩ (by decide) (by decide),
  k_pop dX5_spot_74,
  k_ret dX5_spot_75, trivial⟩
theorem sndX5_spot : MSound 9 yX5_spot (ws_ yX5_spot cX5_spot 4 none) mX5_spot := msound_M (by decide) allX5_spot (fun _ _ => rfl)
/-! LinkTimes$Reader.lineOf()V -/
noncomputable def kX5_lineOf : ZM := ([(0, zi_ld 1 0 1), (1, zi_ld 1 0 2), (2, zi_getR 19 1 5), (5, zi_getR 20 3 8), (8, zi_callV mJ7_size 29 1 11), (11, zi_push (zvi 8) 13), (13, zi_callV mX5_begins 19 3 16), (16, zi_ld 1 0 17), (17, zi_getR 19 1 20), (20, zi_getR 20 3 23), (23, zi_ld 1 0 24), (24, zi_callV mX5_fresh 19 1 27), (27, zi_callS mJ19_valueOf 1 30), (30, zi_callV mJ7_add 29 2 33), (33, zi_pop 34), (34, zi_ret)], fun _ _ => none)
noncomputable def mX5_lineOf : ZF := zrunM kX5_lineOf 1
theorem enX5_lineOf (x0 : Option Nat) (h : PH) : mX5_lineOf [zvr x0] h = zev kX5_lineOf 0 [zvr x0] [] h := zrunM_eq rfl rfl
theorem rX5_lineOf : (∀ (a : Option Nat) (L st : List ZV) (h : PH), zev kX5_lineOf 0 (zvr a :: L) st h = zev kX5_lineOf 1 (zvr a :: L) (zvr a :: st) h) ∧
  (∀ (a : Option Nat) (L st : List ZV) (h : PH), zev kX5_lineOf 1 (zvr a :: L) st h = zev kX5_lineOf 2 (zvr a :: L) (zvr a :: st) h) ∧
  (∀ (q : Nat) (L st : List ZV) (h : PH), zev kX5_lineOf 2 L (zvr (some q) :: st) h = if (ph_K h q).1 % 1000 = 19 then zev kX5_lineOf 5 L (zvr (ph_R h q 1) :: st) h else none) ∧
  (∀ (q : Nat) (L st : List ZV) (h : PH), zev kX5_lineOf 5 L (zvr (some q) :: st) h = if (ph_K h q).1 % 1000 = 20 then zev kX5_lineOf 8 L (zvr (ph_R h q 3) :: st) h else none) ∧
  (∀ (q : Nat) (L st : List ZV) (h : PH), zev kX5_lineOf 8 L (zvr (some q) :: st) h = if (ph_K h q).1 % 1000 = 29 ∧ zcat st ≤ 8 then zk kX5_lineOf 8 11 L st (mJ7_size [zvr (some q)] h) else none) ∧
  (∀ (L st : List ZV) (h : PH), zev kX5_lineOf 11 L st h = zev kX5_lineOf 13 L (zvi 8 :: st) h) ∧
  (∀ (v0 v1 : ZV) (q : Nat) (L st : List ZV) (h : PH), zev kX5_lineOf 13 L (v1 :: v0 :: zvr (some q) :: st) h = if (ph_K h q).1 % 1000 = 19 ∧ zcat st ≤ 8 then zk kX5_lineOf 13 16 L st (mX5_begins [zvr (some q), v0, v1] h) else none) ∧
  (∀ (a : Option Nat) (L st : List ZV) (h : PH), zev kX5_lineOf 16 (zvr a :: L) st h = zev kX5_lineOf 17 (zvr a :: L) (zvr a :: st) h) ∧
  (∀ (q : Nat) (L st : List ZV) (h : PH), zev kX5_lineOf 17 L (zvr (some q) :: st) h = if (ph_K h q).1 % 1000 = 19 then zev kX5_lineOf 20 L (zvr (ph_R h q 1) :: st) h else none) ∧
  (∀ (q : Nat) (L st : List ZV) (h : PH), zev kX5_lineOf 20 L (zvr (some q) :: st) h = if (ph_K h q).1 % 1000 = 20 then zev kX5_lineOf 23 L (zvr (ph_R h q 3) :: st) h else none) ∧
  (∀ (a : Option Nat) (L st : List ZV) (h : PH), zev kX5_lineOf 23 (zvr a :: L) st h = zev kX5_lineOf 24 (zvr a :: L) (zvr a :: st) h) ∧
  (∀ (q : Nat) (L st : List ZV) (h : PH), zev kX5_lineOf 24 L (zvr (some q) :: st) h = if (ph_K h q).1 % 1000 = 19 ∧ zcat st ≤ 8 then zk kX5_lineOf 24 27 L st (mX5_fresh [zvr (some q)] h) else none) ∧
  (∀ (v0 : ZV) (L st : List ZV) (h : PH), zev kX5_lineOf 27 L (v0 :: st) h = if zcat st ≤ 8 then zk kX5_lineOf 27 30 L st (mJ19_valueOf [v0] h) else none) ∧
  (∀ (v0 : ZV) (q : Nat) (L st : List ZV) (h : PH), zev kX5_lineOf 30 L (v0 :: zvr (some q) :: st) h = if (ph_K h q).1 % 1000 = 29 ∧ zcat st ≤ 8 then zk kX5_lineOf 30 33 L st (mJ7_add [zvr (some q), v0] h) else none) ∧
  (∀ (a : Int) (L st : List ZV) (h : PH), zev kX5_lineOf 33 L (zvi a :: st) h = zev kX5_lineOf 34 L st h) ∧
  (∀ (a : Option Nat) (L st : List ZV) (h : PH), zev kX5_lineOf 33 L (zvr a :: st) h = zev kX5_lineOf 34 L st h) ∧
  (∀ (L : List ZV) (h : PH), zev kX5_lineOf 34 L [] h = zr0 h) :=
  ⟨fun a L st h => e_ld0R (n := 1) rfl,
  fun a L st h => e_ld0R (n := 2) rfl,
  fun q L st h => e_getR (kd := 19) (k := 1) (n := 5) rfl,
  fun q L st h => e_getR (kd := 20) (k := 3) (n := 8) rfl,
  fun q L st h => e_callV1 (F := mJ7_size) (kd := 29) (n := 11) rfl,
  fun L st h => e_push (v := zvi 8) (n := 13) rfl,
  fun v0 v1 q L st h => e_callV3 (F := mX5_begins) (kd := 19) (n := 16) rfl,
  fun a L st h => e_ld0R (n := 17) rfl,
  fun q L st h => e_getR (kd := 19) (k := 1) (n := 20) rfl,
  fun q L st h => e_getR (kd := 20) (k := 3) (n := 23) rfl,
  fun a L st h => e_ld0R (n := 24) rfl,
  fun q L st h => e_callV1 (F := mX5_fresh) (kd := 19) (n := 27) rfl,
  fun v0 L st h => e_callS1 (F := mJ19_valueOf) (n := 30) rfl,
  fun v0 q L st h => e_callV2 (F := mJ7_add) (kd := 29) (n := 33) rfl,
  fun a L st h => e_popI (n := 34) rfl,
  fun a L st h => e_popR (n := 34) rfl,
  fun L h => e_ret rfl⟩
theorem allX5_lineOf : zall yX5_lineOf cX5_lineOf 1 none 9 kX5_lineOf.1 :=
  ⟨k_aload_n dX5_lineOf_0,
  k_aload_n dX5_lineOf_1,
  k_getR (C := RX5) (T := TX5) (N := 8) (ci := 3) (k := 1) (ref := "LinkTimes$Reader") dX5_lineOf_2 rfl in_X5 (by decide) q444 (Or.inl rfl) (fun _ _ _ => rfl),
  k_getRN (C := RX6) (T := TX6) (N := 5) (ci := 4) (k := 3) (ref := "LinkTimes$Desk") dX5_lineOf_5 rfl in_X6 (by decide) q427 (Or.inl rfl) (fun _ _ _ => rfl),
  k_callV (y2 := yJ7_size) (C := RJ7) (T0 := TJ7) (ci := 13) dX5_lineOf_8 sndJ7_size rfl q651 q652 q653 q141 q654 (by decide +kernel) ⟨by decide, by decide⟩ (by decide) (by decide),
  k_bipush dX5_lineOf_11,
  k_callV (y2 := yX5_begins) (C := RX5) (T0 := TX5) (ci := 3) dX5_lineOf_13 sndX5_begins rfl q655 q657 qs16 q138 q658 (by decide +kernel) ⟨by decide, by decide⟩ (by decide) (by decide),
  k_aload_n dX5_lineOf_16,
  k_getR (C := RX5) (T := TX5) (N := 8) (ci := 3) (k := 1) (ref := "LinkTimes$Reader") dX5_lineOf_17 rfl in_X5 (by decide) q444 (Or.inl rfl) (fun _ _ _ => rfl),
  k_getRN (C := RX6) (T := TX6) (N := 5) (ci := 4) (k := 3) (ref := "LinkTimes$Desk") dX5_lineOf_20 rfl in_X6 (by decide) q427 (Or.inl rfl) (fun _ _ _ => rfl),
  k_aload_n dX5_lineOf_23,
  k_callV (y2 := yX5_fresh) (C := RX5) (T0 := TX5) (ci := 3) dX5_lineOf_24 sndX5_fresh rfl q679 q681 qs18 q138 q682 (by decide +kernel) ⟨by decide, by decide⟩ (by decide) (by decide),
  k_callS (y2 := yJ19_valueOf) dX5_lineOf_27 sndJ19_valueOf q810 q811 q158 q812 (by decide +kernel) ⟨by decide, by decide⟩ (by decide) (by decide),
  k_callV (y2 := yJ7_add) (C := RJ7) (T0 := TJ7) (ci := 13) dX5_lineOf_30 sndJ7_add rfl q739 q740 q741 q141 q742 (by decide +kernel) ⟨by decide, by decide⟩ (by decide) (by decide),
  k_pop dX5_lineOf_33,
  k_ret dX5_lineOf_34, trivial⟩
theorem sndX5_lineOf : MSound 9 yX5_lineOf (ws_ yX5_lineOf cX5_lineOf 1 none) mX5_lineOf := msound_M (by decide) allX5_lineOf (fun _ _ => rfl)
/-! LinkTimes$Reader.spotHere()I -/
noncomputable def kX5_spotHere : ZM := ([(0, zi_ld 1 0 1), (1, zi_callV mX5_needName 19 1 4), (4, zi_ld 1 0 5), (5, zi_getR 19 1 8), (8, zi_ld 1 0 9), (9, zi_getJ 19 6 12), (12, zi_callV mX6_findSpot 20 2 15), (15, zi_st 0 1 16), (16, zi_ld 1 0 17), (17, zi_ld 0 1 18), (18, zi_push (zvi (-1)) 19), (19, zi_cmp zc_eq 26 22), (22, zi_push (zvi 1) 23), (23, zi_goto 27), (26, zi_push (zvi 0) 27), (27, zi_push (zvi 2) 28), (28, zi_callV mX5_need 19 3 31), (31, zi_ld 0 1 32), (32, zi_retv 0)], fun _ _ => none)
noncomputable def mX5_spotHere : ZF := zrunM kX5_spotHere 2
theorem enX5_spotHere (x0 : Option Nat) (h : PH) : mX5_spotHere [zvr x0] h = zev kX5_spotHere 0 [zvr x0, zvu] [] h := zrunM_eq rfl rfl
theorem rX5_spotHere : (∀ (a : Option Nat) (L st : List ZV) (h : PH), zev kX5_spotHere 0 (zvr a :: L) st h = zev kX5_spotHere 1 (zvr a :: L) (zvr a :: st) h) ∧
  (∀ (q : Nat) (L st : List ZV) (h : PH), zev kX5_spotHere 1 L (zvr (some q) :: st) h = if (ph_K h q).1 % 1000 = 19 ∧ zcat st ≤ 8 then zk kX5_spotHere 1 4 L st (mX5_needName [zvr (some q)] h) else none) ∧
  (∀ (a : Option Nat) (L st : List ZV) (h : PH), zev kX5_spotHere 4 (zvr a :: L) st h = zev kX5_spotHere 5 (zvr a :: L) (zvr a :: st) h) ∧
  (∀ (q : Nat) (L st : List ZV) (h : PH), zev kX5_spotHere 5 L (zvr (some q) :: st) h = if (ph_K h q).1 % 1000 = 19 then zev kX5_spotHere 8 L (zvr (ph_R h q 1) :: st) h else none) ∧
  (∀ (a : Option Nat) (L st : List ZV) (h : PH), zev kX5_spotHere 8 (zvr a :: L) st h = zev kX5_spotHere 9 (zvr a :: L) (zvr a :: st) h) ∧
  (∀ (q : Nat) (L st : List ZV) (h : PH), zev kX5_spotHere 9 L (zvr (some q) :: st) h = if (ph_K h q).1 % 1000 = 19 then zev kX5_spotHere 12 L (zvl (ph_J h q 6) :: st) h else none) ∧
  (∀ (v0 : ZV) (q : Nat) (L st : List ZV) (h : PH), zev kX5_spotHere 12 L (v0 :: zvr (some q) :: st) h = if (ph_K h q).1 % 1000 = 20 ∧ zcat st ≤ 8 then zk kX5_spotHere 12 15 L st (mX6_findSpot [zvr (some q), v0] h) else none) ∧
  (∀ (x0 x1 : ZV) (a : Int) (L st : List ZV) (h : PH) (hx : zisL x0 = false) , zev kX5_spotHere 15 (x0 :: x1 :: L) (zvi a :: st) h = zev kX5_spotHere 16 (x0 :: zvi a :: L) st h) ∧
  (∀ (a : Option Nat) (L st : List ZV) (h : PH), zev kX5_spotHere 16 (zvr a :: L) st h = zev kX5_spotHere 17 (zvr a :: L) (zvr a :: st) h) ∧
  (∀ (x0 : ZV) (a : Int) (L st : List ZV) (h : PH), zev kX5_spotHere 17 (x0 :: zvi a :: L) st h = zev kX5_spotHere 18 (x0 :: zvi a :: L) (zvi a :: st) h) ∧
  (∀ (L st : List ZV) (h : PH), zev kX5_spotHere 18 L st h = zev kX5_spotHere 19 L (zvi (-1) :: st) h) ∧
  (∀ (a b : Int) (L st : List ZV) (h : PH), zev kX5_spotHere 19 L (zvi b :: zvi a :: st) h = if a = b then zev kX5_spotHere 26 L st h else zev kX5_spotHere 22 L st h) ∧
  (∀ (L st : List ZV) (h : PH), zev kX5_spotHere 22 L st h = zev kX5_spotHere 23 L (zvi 1 :: st) h) ∧
  (∀ (L st : List ZV) (h : PH), zev kX5_spotHere 23 L st h = zev kX5_spotHere 27 L st h) ∧
  (∀ (L st : List ZV) (h : PH), zev kX5_spotHere 26 L st h = zev kX5_spotHere 27 L (zvi 0 :: st) h) ∧
  (∀ (L st : List ZV) (h : PH), zev kX5_spotHere 27 L st h = zev kX5_spotHere 28 L (zvi 2 :: st) h) ∧
  (∀ (v0 v1 : ZV) (q : Nat) (L st : List ZV) (h : PH), zev kX5_spotHere 28 L (v1 :: v0 :: zvr (some q) :: st) h = if (ph_K h q).1 % 1000 = 19 ∧ zcat st ≤ 8 then zk kX5_spotHere 28 31 L st (mX5_need [zvr (some q), v0, v1] h) else none) ∧
  (∀ (x0 : ZV) (a : Int) (L st : List ZV) (h : PH), zev kX5_spotHere 31 (x0 :: zvi a :: L) st h = zev kX5_spotHere 32 (x0 :: zvi a :: L) (zvi a :: st) h) ∧
  (∀ (a : Int) (L : List ZV) (h : PH), zev kX5_spotHere 32 L [zvi a] h = zrv (zvi a) h) :=
  ⟨fun a L st h => e_ld0R (n := 1) rfl,
  fun q L st h => e_callV1 (F := mX5_needName) (kd := 19) (n := 4) rfl,
  fun a L st h => e_ld0R (n := 5) rfl,
  fun q L st h => e_getR (kd := 19) (k := 1) (n := 8) rfl,
  fun a L st h => e_ld0R (n := 9) rfl,
  fun q L st h => e_getJ (kd := 19) (k := 6) (n := 12) rfl,
  fun v0 q L st h => e_callV2 (F := mX6_findSpot) (kd := 20) (n := 15) rfl,
  fun x0 x1 a L st h hx => e_st1I (n := 16) rfl hx,
  fun a L st h => e_ld0R (n := 17) rfl,
  fun x0 a L st h => e_ld1I (n := 18) rfl,
  fun L st h => e_push (v := zvi (-1)) (n := 19) rfl,
  fun a b L st h => e_cmpeq (t := 26) (n := 22) rfl,
  fun L st h => e_push (v := zvi 1) (n := 23) rfl,
  fun L st h => e_goto (t := 27) rfl,
  fun L st h => e_push (v := zvi 0) (n := 27) rfl,
  fun L st h => e_push (v := zvi 2) (n := 28) rfl,
  fun v0 v1 q L st h => e_callV3 (F := mX5_need) (kd := 19) (n := 31) rfl,
  fun x0 a L st h => e_ld1I (n := 32) rfl,
  fun a L h => e_retI rfl⟩
theorem allX5_spotHere : zall yX5_spotHere cX5_spotHere 2 (some .int) 8 kX5_spotHere.1 :=
  ⟨k_aload_n dX5_spotHere_0,
  k_callV (y2 := yX5_needName) (C := RX5) (T0 := TX5) (ci := 3) dX5_spotHere_1 sndX5_needName rfl q683 q685 qs19 q138 q686 (by decide +kernel) ⟨by decide, by decide⟩ (by decide) (by decide),
  k_aload_n dX5_spotHere_4,
  k_getR (C := RX5) (T := TX5) (N := 8) (ci := 3) (k := 1) (ref := "LinkTimes$Reader") dX5_spotHere_5 rfl in_X5 (by decide) q444 (Or.inl rfl) (fun _ _ _ => rfl),
  k_aload_n dX5_spotHere_8,
  k_getJ (C := RX5) (T := TX5) (N := 8) (ci := 3) (k := 6) (ref := "LinkTimes$Reader") dX5_spotHere_9 rfl in_X5 (by decide) q449 (Or.inl rfl) (fun _ _ _ => rfl),
  k_callV (y2 := yX6_findSpot) (C := RX6) (T0 := TX6) (ci := 4) dX5_spotHere_12 sndX6_findSpot rfl q689 q690 q691 q139 q692 (by decide +kernel) ⟨by decide, by decide⟩ (by decide) (by decide),
  k_istore_n dX5_spotHere_15,
  k_aload_n dX5_spotHere_16,
  k_iload_n dX5_spotHere_17,
  k_iconst dX5_spotHere_18,
  k_cmpeq (t := 26) dX5_spotHere_19 (by decide),
  k_iconst dX5_spotHere_22,
  k_goto (t := 27) dX5_spotHere_23 (by decide),
  k_iconst dX5_spotHere_26,
  k_iconst dX5_spotHere_27,
  k_callV (y2 := yX5_need) (C := RX5) (T0 := TX5) (ci := 3) dX5_spotHere_28 sndX5_need rfl q560 q562 qs11 q138 q563 (by decide +kernel) ⟨by decide, by decide⟩ (by decide) (by decide),
  k_iload_n dX5_spotHere_31,
  k_iret dX5_spotHere_32, trivial⟩
theorem sndX5_spotHere : MSound 8 yX5_spotHere (ws_ yX5_spotHere cX5_spotHere 2 (some .int)) mX5_spotHere := msound_M (by decide) allX5_spotHere (fun _ _ => rfl)
/-! LinkTimes$Reader.link()V -/
noncomputable def kX5_link : ZM := ([(0, zi_ld 1 0 1), (1, zi_ld 1 0 2), (2, zi_getR 19 1 5), (5, zi_getI 20 1 8), (8, zi_push (zvi 12) 10), (10, zi_callV mX5_begins 19 3 13), (13, zi_ld 1 0 14), (14, zi_callV mX5_needName 19 1 17), (17, zi_ld 1 0 18), (18, zi_getR 19 1 21), (21, zi_ld 1 0 22), (22, zi_getJ 19 6 25), (25, zi_callV mX6_findLine 20 2 28), (28, zi_st 0 1 29), (29, zi_ld 1 0 30), (30, zi_ld 0 1 31), (31, zi_push (zvi (-1)) 32), (32, zi_cmp zc_eq 39 35), (35, zi_push (zvi 1) 36), (36, zi_goto 40), (39, zi_push (zvi 0) 40), (40, zi_push (zvi 2) 41), (41, zi_callV mX5_need 19 3 44), (44, zi_ld 1 0 45), (45, zi_callV mX5_go 19 1 48), (48, zi_ld 1 0 49), (49, zi_callV mX5_spotHere 19 1 52), (52, zi_st 0 2 53), (53, zi_ld 1 0 54), (54, zi_callV mX5_go 19 1 57), (57, zi_ld 1 0 58), (58, zi_callV mX5_spotHere 19 1 61), (61, zi_st 0 3 62), (62, zi_ld 1 0 63), (63, zi_ld 0 2 64), (64, zi_ld 0 3 65), (65, zi_cmp zc_eq 72 68), (68, zi_push (zvi 1) 69), (69, zi_goto 73), (72, zi_push (zvi 0) 73), (73, zi_push (zvi 3) 74), (74, zi_callV mX5_need 19 3 77), (77, zi_ld 1 0 78), (78, zi_callV mX5_go 19 1 81), (81, zi_ld 1 0 82), (82, zi_push (zvr (some 1000000017)) 84), (84, zi_push (zvi 0) 85), (85, zi_ld 1 0 86), (86, zi_getR 19 1 89), (89, zi_getI 20 0 92), (92, zi_callV mX5_part 19 4 95), (95, zi_st 0 4 97), (97, zi_ld 1 0 98), (98, zi_push (zvr (some 1000000018)) 100), (100, zi_ld 0 4 102), (102, zi_ld 1 0 103), (103, zi_getR 19 1 106), (106, zi_getI 20 0 109), (109, zi_callV mX5_part 19 4 112), (112, zi_st 0 5 114), (114, zi_ld 1 0 115), (115, zi_ld 1 0 116), (116, zi_push (zvr (some 1000000019)) 118), (118, zi_callV mX5_is 19 2 121), (121, zi_push (zvi 1) 122), (122, zi_callV mX5_need 19 3 125), (125, zi_ld 1 0 126), (126, zi_callV mX5_go 19 1 129), (129, zi_ld 1 0 130), (130, zi_push (zvi 1) 131), (131, zi_push (zvi 999) 134), (134, zi_callV mX5_at 19 3 137), (137, zi_st 0 6 139), (139, zi_ld 1 0 140), (140, zi_ld 1 0 141), (141, zi_getR 19 1 144), (144, zi_getR 20 4 147), (147, zi_callV mJ7_size 29 1 150), (150, zi_ld 0 5 152), (152, zi_ld 0 4 154), (154, zi_bin (fun a b => w32 (a - b)) 155), (155, zi_ld 0 6 157), (157, zi_div 158), (158, zi_bin (fun a b => w32 (a + b)) 159), (159, zi_push (zvi 1) 160), (160, zi_bin (fun a b => w32 (a + b)) 161), (161, zi_push (zvi 120) 163), (163, zi_cmp zc_gt 170 166), (166, zi_push (zvi 1) 167), (167, zi_goto 171), (170, zi_push (zvi 0) 171), (171, zi_callV mX5_needRoom 19 2 174), (174, zi_ld 1 0 175), (175, zi_callV mX5_go 19 1 178), (178, zi_ld 1 0 179), (179, zi_push (zvr (some 1000000020)) 181), (181, zi_push (zvi 1) 182), (182, zi_push (zvi 99) 184), (184, zi_callV mX5_part 19 4 187), (187, zi_st 0 7 189), (189, zi_ld 0 4 191), (191, zi_st 0 8 193), (193, zi_ld 0 8 195), (195, zi_ld 0 5 197), (197, zi_cmp zc_gt 252 200), (200, zi_ld 1 0 201), (201, zi_getR 19 1 204), (204, zi_getR 20 4 207), (207, zi_new 22 9 210), (210, zi_dup 211), (211, zi_ld 1 0 212), (212, zi_getR 19 1 215), (215, zi_getR 20 4 218), (218, zi_callV mJ7_size 29 1 221), (221, zi_ld 1 0 222), (222, zi_getR 19 1 225), (225, zi_getI 20 1 228), (228, zi_ld 0 1 229), (229, zi_ld 0 2 230), (230, zi_ld 0 3 231), (231, zi_ld 0 8 233), (233, zi_ld 0 7 235), (235, zi_callV mX11_init 22 8 238), (238, zi_callV mJ7_add 29 2 241), (241, zi_pop 242), (242, zi_ld 0 8 244), (244, zi_ld 0 6 246), (246, zi_bin (fun a b => w32 (a + b)) 247), (247, zi_st 0 8 249), (249, zi_goto 193), (252, zi_ld 1 0 253), (253, zi_getR 19 1 256), (256, zi_dup 257), (257, zi_getI 20 1 260), (260, zi_push (zvi 1) 261), (261, zi_bin (fun a b => w32 (a + b)) 262), (262, zi_putI 20 1 265), (265, zi_ret)], fun _ _ => none)
noncomputable def mX5_link : ZF := zrunM kX5_link 9
theorem enX5_link (x0 : Option Nat) (h : PH) : mX5_link [zvr x0] h = zev kX5_link 0 [zvr x0, zvu, zvu, zvu, zvu, zvu, zvu, zvu, zvu] [] h := zrunM_eq rfl rfl
theorem hdX5_link_193 (x0 x1 x2 x3 x4 x5 x6 x7 : ZV) (a : Int) (L st : List ZV) (h : PH) : zev kX5_link 193 (x0 :: x1 :: x2 :: x3 :: x4 :: x5 :: x6 :: x7 :: zvi a :: L) st h = zev kX5_link 195 (x0 :: x1 :: x2 :: x3 :: x4 :: x5 :: x6 :: x7 :: zvi a :: L) (zvi a :: st) h := e_ld8I (n := 195) rfl
theorem rX5_link : (∀ (a : Option Nat) (L st : List ZV) (h : PH), zev kX5_link 0 (zvr a :: L) st h = zev kX5_link 1 (zvr a :: L) (zvr a :: st) h) ∧
  (∀ (a : Option Nat) (L st : List ZV) (h : PH), zev kX5_link 1 (zvr a :: L) st h = zev kX5_link 2 (zvr a :: L) (zvr a :: st) h) ∧
  (∀ (q : Nat) (L st : List ZV) (h : PH), zev kX5_link 2 L (zvr (some q) :: st) h = if (ph_K h q).1 % 1000 = 19 then zev kX5_link 5 L (zvr (ph_R h q 1) :: st) h else none) ∧
  (∀ (q : Nat) (L st : List ZV) (h : PH), zev kX5_link 5 L (zvr (some q) :: st) h = if (ph_K h q).1 % 1000 = 20 then zev kX5_link 8 L (zvi (ph_I h q 1) :: st) h else none) ∧
  (∀ (L st : List ZV) (h : PH), zev kX5_link 8 L st h = zev kX5_link 10 L (zvi 12 :: st) h) ∧
  (∀ (v0 v1 : ZV) (q : Nat) (L st : List ZV) (h : PH), zev kX5_link 10 L (v1 :: v0 :: zvr (some q) :: st) h = if (ph_K h q).1 % 1000 = 19 ∧ zcat st ≤ 8 then zk kX5_link 10 13 L st (mX5_begins [zvr (some q), v0, v1] h) else none) ∧
  (∀ (a : Option Nat) (L st : List ZV) (h : PH), zev kX5_link 13 (zvr a :: L) st h = zev kX5_link 14 (zvr a :: L) (zvr a :: st) h) ∧
  (∀ (q : Nat) (L st : List ZV) (h : PH), zev kX5_link 14 L (zvr (some q) :: st) h = if (ph_K h q).1 % 1000 = 19 ∧ zcat st ≤ 8 then zk kX5_link 14 17 L st (mX5_needName [zvr (some q)] h) else none) ∧
  (∀ (a : Option Nat) (L st : List ZV) (h : PH), zev kX5_link 17 (zvr a :: L) st h = zev kX5_link 18 (zvr a :: L) (zvr a :: st) h) ∧
  (∀ (q : Nat) (L st : List ZV) (h : PH), zev kX5_link 18 L (zvr (some q) :: st) h = if (ph_K h q).1 % 1000 = 19 then zev kX5_link 21 L (zvr (ph_R h q 1) :: st) h else none) ∧
  (∀ (a : Option Nat) (L st : List ZV) (h : PH), zev kX5_link 21 (zvr a :: L) st h = zev kX5_link 22 (zvr a :: L) (zvr a :: st) h) ∧
  (∀ (q : Nat) (L st : List ZV) (h : PH), zev kX5_link 22 L (zvr (some q) :: st) h = if (ph_K h q).1 % 1000 = 19 then zev kX5_link 25 L (zvl (ph_J h q 6) :: st) h else none) ∧
  (∀ (v0 : ZV) (q : Nat) (L st : List ZV) (h : PH), zev kX5_link 25 L (v0 :: zvr (some q) :: st) h = if (ph_K h q).1 % 1000 = 20 ∧ zcat st ≤ 8 then zk kX5_link 25 28 L st (mX6_findLine [zvr (some q), v0] h) else none) ∧
  (∀ (x0 x1 : ZV) (a : Int) (L st : List ZV) (h : PH) (hx : zisL x0 = false) , zev kX5_link 28 (x0 :: x1 :: L) (zvi a :: st) h = zev kX5_link 29 (x0 :: zvi a :: L) st h) ∧
  (∀ (a : Option Nat) (L st : List ZV) (h : PH), zev kX5_link 29 (zvr a :: L) st h = zev kX5_link 30 (zvr a :: L) (zvr a :: st) h) ∧
  (∀ (x0 : ZV) (a : Int) (L st : List ZV) (h : PH), zev kX5_link 30 (x0 :: zvi a :: L) st h = zev kX5_link 31 (x0 :: zvi a :: L) (zvi a :: st) h) ∧
  (∀ (L st : List ZV) (h : PH), zev kX5_link 31 L st h = zev kX5_link 32 L (zvi (-1) :: st) h) ∧
  (∀ (a b : Int) (L st : List ZV) (h : PH), zev kX5_link 32 L (zvi b :: zvi a :: st) h = if a = b then zev kX5_link 39 L st h else zev kX5_link 35 L st h) ∧
  (∀ (L st : List ZV) (h : PH), zev kX5_link 35 L st h = zev kX5_link 36 L (zvi 1 :: st) h) ∧
  (∀ (L st : List ZV) (h : PH), zev kX5_link 36 L st h = zev kX5_link 40 L st h) ∧
  (∀ (L st : List ZV) (h : PH), zev kX5_link 39 L st h = zev kX5_link 40 L (zvi 0 :: st) h) ∧
  (∀ (L st : List ZV) (h : PH), zev kX5_link 40 L st h = zev kX5_link 41 L (zvi 2 :: st) h) ∧
  (∀ (v0 v1 : ZV) (q : Nat) (L st : List ZV) (h : PH), zev kX5_link 41 L (v1 :: v0 :: zvr (some q) :: st) h = if (ph_K h q).1 % 1000 = 19 ∧ zcat st ≤ 8 then zk kX5_link 41 44 L st (mX5_need [zvr (some q), v0, v1] h) else none) ∧
  (∀ (a : Option Nat) (L st : List ZV) (h : PH), zev kX5_link 44 (zvr a :: L) st h = zev kX5_link 45 (zvr a :: L) (zvr a :: st) h) ∧
  (∀ (q : Nat) (L st : List ZV) (h : PH), zev kX5_link 45 L (zvr (some q) :: st) h = if (ph_K h q).1 % 1000 = 19 ∧ zcat st ≤ 8 then zk kX5_link 45 48 L st (mX5_go [zvr (some q)] h) else none) ∧
  (∀ (a : Option Nat) (L st : List ZV) (h : PH), zev kX5_link 48 (zvr a :: L) st h = zev kX5_link 49 (zvr a :: L) (zvr a :: st) h) ∧
  (∀ (q : Nat) (L st : List ZV) (h : PH), zev kX5_link 49 L (zvr (some q) :: st) h = if (ph_K h q).1 % 1000 = 19 ∧ zcat st ≤ 8 then zk kX5_link 49 52 L st (mX5_spotHere [zvr (some q)] h) else none) ∧
  (∀ (x0 x1 x2 : ZV) (a : Int) (L st : List ZV) (h : PH) (hx : zisL x1 = false) , zev kX5_link 52 (x0 :: x1 :: x2 :: L) (zvi a :: st) h = zev kX5_link 53 (x0 :: x1 :: zvi a :: L) st h) ∧
  (∀ (a : Option Nat) (L st : List ZV) (h : PH), zev kX5_link 53 (zvr a :: L) st h = zev kX5_link 54 (zvr a :: L) (zvr a :: st) h) ∧
  (∀ (q : Nat) (L st : List ZV) (h : PH), zev kX5_link 54 L (zvr (some q) :: st) h = if (ph_K h q).1 % 1000 = 19 ∧ zcat st ≤ 8 then zk kX5_link 54 57 L st (mX5_go [zvr (some q)] h) else none) ∧
  (∀ (a : Option Nat) (L st : List ZV) (h : PH), zev kX5_link 57 (zvr a :: L) st h = zev kX5_link 58 (zvr a :: L) (zvr a :: st) h) ∧
  (∀ (q : Nat) (L st : List ZV) (h : PH), zev kX5_link 58 L (zvr (some q) :: st) h = if (ph_K h q).1 % 1000 = 19 ∧ zcat st ≤ 8 then zk kX5_link 58 61 L st (mX5_spotHere [zvr (some q)] h) else none) ∧
  (∀ (x0 x1 x2 x3 : ZV) (a : Int) (L st : List ZV) (h : PH) (hx : zisL x2 = false) , zev kX5_link 61 (x0 :: x1 :: x2 :: x3 :: L) (zvi a :: st) h = zev kX5_link 62 (x0 :: x1 :: x2 :: zvi a :: L) st h) ∧
  (∀ (a : Option Nat) (L st : List ZV) (h : PH), zev kX5_link 62 (zvr a :: L) st h = zev kX5_link 63 (zvr a :: L) (zvr a :: st) h) ∧
  (∀ (x0 x1 : ZV) (a : Int) (L st : List ZV) (h : PH), zev kX5_link 63 (x0 :: x1 :: zvi a :: L) st h = zev kX5_link 64 (x0 :: x1 :: zvi a :: L) (zvi a :: st) h) ∧
  (∀ (x0 x1 x2 : ZV) (a : Int) (L st : List ZV) (h : PH), zev kX5_link 64 (x0 :: x1 :: x2 :: zvi a :: L) st h = zev kX5_link 65 (x0 :: x1 :: x2 :: zvi a :: L) (zvi a :: st) h) ∧
  (∀ (a b : Int) (L st : List ZV) (h : PH), zev kX5_link 65 L (zvi b :: zvi a :: st) h = if a = b then zev kX5_link 72 L st h else zev kX5_link 68 L st h) ∧
  (∀ (L st : List ZV) (h : PH), zev kX5_link 68 L st h = zev kX5_link 69 L (zvi 1 :: st) h) ∧
  (∀ (L st : List ZV) (h : PH), zev kX5_link 69 L st h = zev kX5_link 73 L st h) ∧
  (∀ (L st : List ZV) (h : PH), zev kX5_link 72 L st h = zev kX5_link 73 L (zvi 0 :: st) h) ∧
  (∀ (L st : List ZV) (h : PH), zev kX5_link 73 L st h = zev kX5_link 74 L (zvi 3 :: st) h) ∧
  (∀ (v0 v1 : ZV) (q : Nat) (L st : List ZV) (h : PH), zev kX5_link 74 L (v1 :: v0 :: zvr (some q) :: st) h = if (ph_K h q).1 % 1000 = 19 ∧ zcat st ≤ 8 then zk kX5_link 74 77 L st (mX5_need [zvr (some q), v0, v1] h) else none) ∧
  (∀ (a : Option Nat) (L st : List ZV) (h : PH), zev kX5_link 77 (zvr a :: L) st h = zev kX5_link 78 (zvr a :: L) (zvr a :: st) h) ∧
  (∀ (q : Nat) (L st : List ZV) (h : PH), zev kX5_link 78 L (zvr (some q) :: st) h = if (ph_K h q).1 % 1000 = 19 ∧ zcat st ≤ 8 then zk kX5_link 78 81 L st (mX5_go [zvr (some q)] h) else none) ∧
  (∀ (a : Option Nat) (L st : List ZV) (h : PH), zev kX5_link 81 (zvr a :: L) st h = zev kX5_link 82 (zvr a :: L) (zvr a :: st) h) ∧
  (∀ (L st : List ZV) (h : PH), zev kX5_link 82 L st h = zev kX5_link 84 L (zvr (some 1000000017) :: st) h) ∧
  (∀ (L st : List ZV) (h : PH), zev kX5_link 84 L st h = zev kX5_link 85 L (zvi 0 :: st) h) ∧
  (∀ (a : Option Nat) (L st : List ZV) (h : PH), zev kX5_link 85 (zvr a :: L) st h = zev kX5_link 86 (zvr a :: L) (zvr a :: st) h) ∧
  (∀ (q : Nat) (L st : List ZV) (h : PH), zev kX5_link 86 L (zvr (some q) :: st) h = if (ph_K h q).1 % 1000 = 19 then zev kX5_link 89 L (zvr (ph_R h q 1) :: st) h else none) ∧
  (∀ (q : Nat) (L st : List ZV) (h : PH), zev kX5_link 89 L (zvr (some q) :: st) h = if (ph_K h q).1 % 1000 = 20 then zev kX5_link 92 L (zvi (ph_I h q 0) :: st) h else none) ∧
  (∀ (v0 v1 v2 : ZV) (q : Nat) (L st : List ZV) (h : PH), zev kX5_link 92 L (v2 :: v1 :: v0 :: zvr (some q) :: st) h = if (ph_K h q).1 % 1000 = 19 ∧ zcat st ≤ 8 then zk kX5_link 92 95 L st (mX5_part [zvr (some q), v0, v1, v2] h) else none) ∧
  (∀ (x0 x1 x2 x3 x4 : ZV) (a : Int) (L st : List ZV) (h : PH) (hx : zisL x3 = false) , zev kX5_link 95 (x0 :: x1 :: x2 :: x3 :: x4 :: L) (zvi a :: st) h = zev kX5_link 97 (x0 :: x1 :: x2 :: x3 :: zvi a :: L) st h) ∧
  (∀ (a : Option Nat) (L st : List ZV) (h : PH), zev kX5_link 97 (zvr a :: L) st h = zev kX5_link 98 (zvr a :: L) (zvr a :: st) h) ∧
  (∀ (L st : List ZV) (h : PH), zev kX5_link 98 L st h = zev kX5_link 100 L (zvr (some 1000000018) :: st) h) ∧
  (∀ (x0 x1 x2 x3 : ZV) (a : Int) (L st : List ZV) (h : PH), zev kX5_link 100 (x0 :: x1 :: x2 :: x3 :: zvi a :: L) st h = zev kX5_link 102 (x0 :: x1 :: x2 :: x3 :: zvi a :: L) (zvi a :: st) h) ∧
  (∀ (a : Option Nat) (L st : List ZV) (h : PH), zev kX5_link 102 (zvr a :: L) st h = zev kX5_link 103 (zvr a :: L) (zvr a :: st) h) ∧
  (∀ (q : Nat) (L st : List ZV) (h : PH), zev kX5_link 103 L (zvr (some q) :: st) h = if (ph_K h q).1 % 1000 = 19 then zev kX5_link 106 L (zvr (ph_R h q 1) :: st) h else none) ∧
  (∀ (q : Nat) (L st : List ZV) (h : PH), zev kX5_link 106 L (zvr (some q) :: st) h = if (ph_K h q).1 % 1000 = 20 then zev kX5_link 109 L (zvi (ph_I h q 0) :: st) h else none) ∧
  (∀ (v0 v1 v2 : ZV) (q : Nat) (L st : List ZV) (h : PH), zev kX5_link 109 L (v2 :: v1 :: v0 :: zvr (some q) :: st) h = if (ph_K h q).1 % 1000 = 19 ∧ zcat st ≤ 8 then zk kX5_link 109 112 L st (mX5_part [zvr (some q), v0, v1, v2] h) else none) ∧
  (∀ (x0 x1 x2 x3 x4 x5 : ZV) (a : Int) (L st : List ZV) (h : PH) (hx : zisL x4 = false) , zev kX5_link 112 (x0 :: x1 :: x2 :: x3 :: x4 :: x5 :: L) (zvi a :: st) h = zev kX5_link 114 (x0 :: x1 :: x2 :: x3 :: x4 :: zvi a :: L) st h) ∧
  (∀ (a : Option Nat) (L st : List ZV) (h : PH), zev kX5_link 114 (zvr a :: L) st h = zev kX5_link 115 (zvr a :: L) (zvr a :: st) h) ∧
  (∀ (a : Option Nat) (L st : List ZV) (h : PH), zev kX5_link 115 (zvr a :: L) st h = zev kX5_link 116 (zvr a :: L) (zvr a :: st) h) ∧
  (∀ (L st : List ZV) (h : PH), zev kX5_link 116 L st h = zev kX5_link 118 L (zvr (some 1000000019) :: st) h) ∧
  (∀ (v0 : ZV) (q : Nat) (L st : List ZV) (h : PH), zev kX5_link 118 L (v0 :: zvr (some q) :: st) h = if (ph_K h q).1 % 1000 = 19 ∧ zcat st ≤ 8 then zk kX5_link 118 121 L st (mX5_is [zvr (some q), v0] h) else none) ∧
  (∀ (L st : List ZV) (h : PH), zev kX5_link 121 L st h = zev kX5_link 122 L (zvi 1 :: st) h) ∧
  (∀ (v0 v1 : ZV) (q : Nat) (L st : List ZV) (h : PH), zev kX5_link 122 L (v1 :: v0 :: zvr (some q) :: st) h = if (ph_K h q).1 % 1000 = 19 ∧ zcat st ≤ 8 then zk kX5_link 122 125 L st (mX5_need [zvr (some q), v0, v1] h) else none) ∧
  (∀ (a : Option Nat) (L st : List ZV) (h : PH), zev kX5_link 125 (zvr a :: L) st h = zev kX5_link 126 (zvr a :: L) (zvr a :: st) h) ∧
  (∀ (q : Nat) (L st : List ZV) (h : PH), zev kX5_link 126 L (zvr (some q) :: st) h = if (ph_K h q).1 % 1000 = 19 ∧ zcat st ≤ 8 then zk kX5_link 126 129 L st (mX5_go [zvr (some q)] h) else none) ∧
  (∀ (a : Option Nat) (L st : List ZV) (h : PH), zev kX5_link 129 (zvr a :: L) st h = zev kX5_link 130 (zvr a :: L) (zvr a :: st) h) ∧
  (∀ (L st : List ZV) (h : PH), zev kX5_link 130 L st h = zev kX5_link 131 L (zvi 1 :: st) h) ∧
  (∀ (L st : List ZV) (h : PH), zev kX5_link 131 L st h = zev kX5_link 134 L (zvi 999 :: st) h) ∧
  (∀ (v0 v1 : ZV) (q : Nat) (L st : List ZV) (h : PH), zev kX5_link 134 L (v1 :: v0 :: zvr (some q) :: st) h = if (ph_K h q).1 % 1000 = 19 ∧ zcat st ≤ 8 then zk kX5_link 134 137 L st (mX5_at [zvr (some q), v0, v1] h) else none) ∧
  (∀ (x0 x1 x2 x3 x4 x5 x6 : ZV) (a : Int) (L st : List ZV) (h : PH) (hx : zisL x5 = false) , zev kX5_link 137 (x0 :: x1 :: x2 :: x3 :: x4 :: x5 :: x6 :: L) (zvi a :: st) h = zev kX5_link 139 (x0 :: x1 :: x2 :: x3 :: x4 :: x5 :: zvi a :: L) st h) ∧
  (∀ (a : Option Nat) (L st : List ZV) (h : PH), zev kX5_link 139 (zvr a :: L) st h = zev kX5_link 140 (zvr a :: L) (zvr a :: st) h) ∧
  (∀ (a : Option Nat) (L st : List ZV) (h : PH), zev kX5_link 140 (zvr a :: L) st h = zev kX5_link 141 (zvr a :: L) (zvr a :: st) h) ∧
  (∀ (q : Nat) (L st : List ZV) (h : PH), zev kX5_link 141 L (zvr (some q) :: st) h = if (ph_K h q).1 % 1000 = 19 then zev kX5_link 144 L (zvr (ph_R h q 1) :: st) h else none) ∧
  (∀ (q : Nat) (L st : List ZV) (h : PH), zev kX5_link 144 L (zvr (some q) :: st) h = if (ph_K h q).1 % 1000 = 20 then zev kX5_link 147 L (zvr (ph_R h q 4) :: st) h else none) ∧
  (∀ (q : Nat) (L st : List ZV) (h : PH), zev kX5_link 147 L (zvr (some q) :: st) h = if (ph_K h q).1 % 1000 = 29 ∧ zcat st ≤ 8 then zk kX5_link 147 150 L st (mJ7_size [zvr (some q)] h) else none) ∧
  (∀ (x0 x1 x2 x3 x4 : ZV) (a : Int) (L st : List ZV) (h : PH), zev kX5_link 150 (x0 :: x1 :: x2 :: x3 :: x4 :: zvi a :: L) st h = zev kX5_link 152 (x0 :: x1 :: x2 :: x3 :: x4 :: zvi a :: L) (zvi a :: st) h) ∧
  (∀ (x0 x1 x2 x3 : ZV) (a : Int) (L st : List ZV) (h : PH), zev kX5_link 152 (x0 :: x1 :: x2 :: x3 :: zvi a :: L) st h = zev kX5_link 154 (x0 :: x1 :: x2 :: x3 :: zvi a :: L) (zvi a :: st) h) ∧
  (∀ (a b : Int) (L st : List ZV) (h : PH), zev kX5_link 154 L (zvi b :: zvi a :: st) h = zev kX5_link 155 L (zvi (w32 (a - b)) :: st) h) ∧
  (∀ (x0 x1 x2 x3 x4 x5 : ZV) (a : Int) (L st : List ZV) (h : PH), zev kX5_link 155 (x0 :: x1 :: x2 :: x3 :: x4 :: x5 :: zvi a :: L) st h = zev kX5_link 157 (x0 :: x1 :: x2 :: x3 :: x4 :: x5 :: zvi a :: L) (zvi a :: st) h) ∧
  (∀ (a b : Int) (L st : List ZV) (h : PH), zev kX5_link 157 L (zvi b :: zvi a :: st) h = if b = 0 then none else zev kX5_link 158 L (zvi (w32 (Int.tdiv a b)) :: st) h) ∧
  (∀ (a b : Int) (L st : List ZV) (h : PH), zev kX5_link 158 L (zvi b :: zvi a :: st) h = zev kX5_link 159 L (zvi (w32 (a + b)) :: st) h) ∧
  (∀ (L st : List ZV) (h : PH), zev kX5_link 159 L st h = zev kX5_link 160 L (zvi 1 :: st) h) ∧
  (∀ (a b : Int) (L st : List ZV) (h : PH), zev kX5_link 160 L (zvi b :: zvi a :: st) h = zev kX5_link 161 L (zvi (w32 (a + b)) :: st) h) ∧
  (∀ (L st : List ZV) (h : PH), zev kX5_link 161 L st h = zev kX5_link 163 L (zvi 120 :: st) h) ∧
  (∀ (a b : Int) (L st : List ZV) (h : PH), zev kX5_link 163 L (zvi b :: zvi a :: st) h = if a > b then zev kX5_link 170 L st h else zev kX5_link 166 L st h) ∧
  (∀ (L st : List ZV) (h : PH), zev kX5_link 166 L st h = zev kX5_link 167 L (zvi 1 :: st) h) ∧
  (∀ (L st : List ZV) (h : PH), zev kX5_link 167 L st h = zev kX5_link 171 L st h) ∧
  (∀ (L st : List ZV) (h : PH), zev kX5_link 170 L st h = zev kX5_link 171 L (zvi 0 :: st) h) ∧
  (∀ (v0 : ZV) (q : Nat) (L st : List ZV) (h : PH), zev kX5_link 171 L (v0 :: zvr (some q) :: st) h = if (ph_K h q).1 % 1000 = 19 ∧ zcat st ≤ 8 then zk kX5_link 171 174 L st (mX5_needRoom [zvr (some q), v0] h) else none) ∧
  (∀ (a : Option Nat) (L st : List ZV) (h : PH), zev kX5_link 174 (zvr a :: L) st h = zev kX5_link 175 (zvr a :: L) (zvr a :: st) h) ∧
  (∀ (q : Nat) (L st : List ZV) (h : PH), zev kX5_link 175 L (zvr (some q) :: st) h = if (ph_K h q).1 % 1000 = 19 ∧ zcat st ≤ 8 then zk kX5_link 175 178 L st (mX5_go [zvr (some q)] h) else none) ∧
  (∀ (a : Option Nat) (L st : List ZV) (h : PH), zev kX5_link 178 (zvr a :: L) st h = zev kX5_link 179 (zvr a :: L) (zvr a :: st) h) ∧
  (∀ (L st : List ZV) (h : PH), zev kX5_link 179 L st h = zev kX5_link 181 L (zvr (some 1000000020) :: st) h) ∧
  (∀ (L st : List ZV) (h : PH), zev kX5_link 181 L st h = zev kX5_link 182 L (zvi 1 :: st) h) ∧
  (∀ (L st : List ZV) (h : PH), zev kX5_link 182 L st h = zev kX5_link 184 L (zvi 99 :: st) h) ∧
  (∀ (v0 v1 v2 : ZV) (q : Nat) (L st : List ZV) (h : PH), zev kX5_link 184 L (v2 :: v1 :: v0 :: zvr (some q) :: st) h = if (ph_K h q).1 % 1000 = 19 ∧ zcat st ≤ 8 then zk kX5_link 184 187 L st (mX5_part [zvr (some q), v0, v1, v2] h) else none) ∧
  (∀ (x0 x1 x2 x3 x4 x5 x6 x7 : ZV) (a : Int) (L st : List ZV) (h : PH) (hx : zisL x6 = false) , zev kX5_link 187 (x0 :: x1 :: x2 :: x3 :: x4 :: x5 :: x6 :: x7 :: L) (zvi a :: st) h = zev kX5_link 189 (x0 :: x1 :: x2 :: x3 :: x4 :: x5 :: x6 :: zvi a :: L) st h) ∧
  (∀ (x0 x1 x2 x3 : ZV) (a : Int) (L st : List ZV) (h : PH), zev kX5_link 189 (x0 :: x1 :: x2 :: x3 :: zvi a :: L) st h = zev kX5_link 191 (x0 :: x1 :: x2 :: x3 :: zvi a :: L) (zvi a :: st) h) ∧
  (∀ (x0 x1 x2 x3 x4 x5 x6 x7 x8 : ZV) (a : Int) (L st : List ZV) (h : PH) (hx : zisL x7 = false) , zev kX5_link 191 (x0 :: x1 :: x2 :: x3 :: x4 :: x5 :: x6 :: x7 :: x8 :: L) (zvi a :: st) h = zev kX5_link 193 (x0 :: x1 :: x2 :: x3 :: x4 :: x5 :: x6 :: x7 :: zvi a :: L) st h) ∧
  (∀ (x0 x1 x2 x3 x4 : ZV) (a : Int) (L st : List ZV) (h : PH), zev kX5_link 195 (x0 :: x1 :: x2 :: x3 :: x4 :: zvi a :: L) st h = zev kX5_link 197 (x0 :: x1 :: x2 :: x3 :: x4 :: zvi a :: L) (zvi a :: st) h) ∧
  (∀ (a b : Int) (L st : List ZV) (h : PH), zev kX5_link 197 L (zvi b :: zvi a :: st) h = if a > b then zev kX5_link 252 L st h else zev kX5_link 200 L st h) ∧
  (∀ (a : Option Nat) (L st : List ZV) (h : PH), zev kX5_link 200 (zvr a :: L) st h = zev kX5_link 201 (zvr a :: L) (zvr a :: st) h) ∧
  (∀ (q : Nat) (L st : List ZV) (h : PH), zev kX5_link 201 L (zvr (some q) :: st) h = if (ph_K h q).1 % 1000 = 19 then zev kX5_link 204 L (zvr (ph_R h q 1) :: st) h else none) ∧
  (∀ (q : Nat) (L st : List ZV) (h : PH), zev kX5_link 204 L (zvr (some q) :: st) h = if (ph_K h q).1 % 1000 = 20 then zev kX5_link 207 L (zvr (ph_R h q 4) :: st) h else none) ∧
  (∀ (L st : List ZV) (h : PH), zev kX5_link 207 L st h = zev kX5_link 210 L (zvr (some (ph_N h)) :: st) (al_ h 22 0 9)) ∧
  (∀ (a : Int) (L st : List ZV) (h : PH), zev kX5_link 210 L (zvi a :: st) h = zev kX5_link 211 L (zvi a :: zvi a :: st) h) ∧
  (∀ (a : Option Nat) (L st : List ZV) (h : PH), zev kX5_link 210 L (zvr a :: st) h = zev kX5_link 211 L (zvr a :: zvr a :: st) h) ∧
  (∀ (a : Option Nat) (L st : List ZV) (h : PH), zev kX5_link 211 (zvr a :: L) st h = zev kX5_link 212 (zvr a :: L) (zvr a :: st) h) ∧
  (∀ (q : Nat) (L st : List ZV) (h : PH), zev kX5_link 212 L (zvr (some q) :: st) h = if (ph_K h q).1 % 1000 = 19 then zev kX5_link 215 L (zvr (ph_R h q 1) :: st) h else none) ∧
  (∀ (q : Nat) (L st : List ZV) (h : PH), zev kX5_link 215 L (zvr (some q) :: st) h = if (ph_K h q).1 % 1000 = 20 then zev kX5_link 218 L (zvr (ph_R h q 4) :: st) h else none) ∧
  (∀ (q : Nat) (L st : List ZV) (h : PH), zev kX5_link 218 L (zvr (some q) :: st) h = if (ph_K h q).1 % 1000 = 29 ∧ zcat st ≤ 8 then zk kX5_link 218 221 L st (mJ7_size [zvr (some q)] h) else none) ∧
  (∀ (a : Option Nat) (L st : List ZV) (h : PH), zev kX5_link 221 (zvr a :: L) st h = zev kX5_link 222 (zvr a :: L) (zvr a :: st) h) ∧
  (∀ (q : Nat) (L st : List ZV) (h : PH), zev kX5_link 222 L (zvr (some q) :: st) h = if (ph_K h q).1 % 1000 = 19 then zev kX5_link 225 L (zvr (ph_R h q 1) :: st) h else none) ∧
  (∀ (q : Nat) (L st : List ZV) (h : PH), zev kX5_link 225 L (zvr (some q) :: st) h = if (ph_K h q).1 % 1000 = 20 then zev kX5_link 228 L (zvi (ph_I h q 1) :: st) h else none) ∧
  (∀ (x0 : ZV) (a : Int) (L st : List ZV) (h : PH), zev kX5_link 228 (x0 :: zvi a :: L) st h = zev kX5_link 229 (x0 :: zvi a :: L) (zvi a :: st) h) ∧
  (∀ (x0 x1 : ZV) (a : Int) (L st : List ZV) (h : PH), zev kX5_link 229 (x0 :: x1 :: zvi a :: L) st h = zev kX5_link 230 (x0 :: x1 :: zvi a :: L) (zvi a :: st) h) ∧
  (∀ (x0 x1 x2 : ZV) (a : Int) (L st : List ZV) (h : PH), zev kX5_link 230 (x0 :: x1 :: x2 :: zvi a :: L) st h = zev kX5_link 231 (x0 :: x1 :: x2 :: zvi a :: L) (zvi a :: st) h) ∧
  (∀ (x0 x1 x2 x3 x4 x5 x6 x7 : ZV) (a : Int) (L st : List ZV) (h : PH), zev kX5_link 231 (x0 :: x1 :: x2 :: x3 :: x4 :: x5 :: x6 :: x7 :: zvi a :: L) st h = zev kX5_link 233 (x0 :: x1 :: x2 :: x3 :: x4 :: x5 :: x6 :: x7 :: zvi a :: L) (zvi a :: st) h) ∧
  (∀ (x0 x1 x2 x3 x4 x5 x6 : ZV) (a : Int) (L st : List ZV) (h : PH), zev kX5_link 233 (x0 :: x1 :: x2 :: x3 :: x4 :: x5 :: x6 :: zvi a :: L) st h = zev kX5_link 235 (x0 :: x1 :: x2 :: x3 :: x4 :: x5 :: x6 :: zvi a :: L) (zvi a :: st) h) ∧
  (∀ (v0 v1 v2 v3 v4 v5 v6 : ZV) (q : Nat) (L st : List ZV) (h : PH), zev kX5_link 235 L (v6 :: v5 :: v4 :: v3 :: v2 :: v1 :: v0 :: zvr (some q) :: st) h = if (ph_K h q).1 % 1000 = 22 ∧ zcat st ≤ 8 then zk kX5_link 235 238 L st (mX11_init [zvr (some q), v0, v1, v2, v3, v4, v5, v6] h) else none) ∧
  (∀ (v0 : ZV) (q : Nat) (L st : List ZV) (h : PH), zev kX5_link 238 L (v0 :: zvr (some q) :: st) h = if (ph_K h q).1 % 1000 = 29 ∧ zcat st ≤ 8 then zk kX5_link 238 241 L st (mJ7_add [zvr (some q), v0] h) else none) ∧
  (∀ (a : Int) (L st : List ZV) (h : PH), zev kX5_link 241 L (zvi a :: st) h = zev kX5_link 242 L st h) ∧
  (∀ (a : Option Nat) (L st : List ZV) (h : PH), zev kX5_link 241 L (zvr a :: st) h = zev kX5_link 242 L st h) ∧
  (∀ (x0 x1 x2 x3 x4 x5 x6 x7 : ZV) (a : Int) (L st : List ZV) (h : PH), zev kX5_link 242 (x0 :: x1 :: x2 :: x3 :: x4 :: x5 :: x6 :: x7 :: zvi a :: L) st h = zev kX5_link 244 (x0 :: x1 :: x2 :: x3 :: x4 :: x5 :: x6 :: x7 :: zvi a :: L) (zvi a :: st) h) ∧
  (∀ (x0 x1 x2 x3 x4 x5 : ZV) (a : Int) (L st : List ZV) (h : PH), zev kX5_link 244 (x0 :: x1 :: x2 :: x3 :: x4 :: x5 :: zvi a :: L) st h = zev kX5_link 246 (x0 :: x1 :: x2 :: x3 :: x4 :: x5 :: zvi a :: L) (zvi a :: st) h) ∧
  (∀ (a b : Int) (L st : List ZV) (h : PH), zev kX5_link 246 L (zvi b :: zvi a :: st) h = zev kX5_link 247 L (zvi (w32 (a + b)) :: st) h) ∧
  (∀ (x0 x1 x2 x3 x4 x5 x6 x7 x8 : ZV) (a : Int) (L st : List ZV) (h : PH) (hx : zisL x7 = false) , zev kX5_link 247 (x0 :: x1 :: x2 :: x3 :: x4 :: x5 :: x6 :: x7 :: x8 :: L) (zvi a :: st) h = zev kX5_link 249 (x0 :: x1 :: x2 :: x3 :: x4 :: x5 :: x6 :: x7 :: zvi a :: L) st h) ∧
  (∀ (L st : List ZV) (h : PH), zev kX5_link 249 L st h = zev kX5_link 193 L st h) ∧
  (∀ (a : Option Nat) (L st : List ZV) (h : PH), zev kX5_link 252 (zvr a :: L) st h = zev kX5_link 253 (zvr a :: L) (zvr a :: st) h) ∧
  (∀ (q : Nat) (L st : List ZV) (h : PH), zev kX5_link 253 L (zvr (some q) :: st) h = if (ph_K h q).1 % 1000 = 19 then zev kX5_link 256 L (zvr (ph_R h q 1) :: st) h else none) ∧
  (∀ (a : Int) (L st : List ZV) (h : PH), zev kX5_link 256 L (zvi a :: st) h = zev kX5_link 257 L (zvi a :: zvi a :: st) h) ∧
  (∀ (a : Option Nat) (L st : List ZV) (h : PH), zev kX5_link 256 L (zvr a :: st) h = zev kX5_link 257 L (zvr a :: zvr a :: st) h) ∧
  (∀ (q : Nat) (L st : List ZV) (h : PH), zev kX5_link 257 L (zvr (some q) :: st) h = if (ph_K h q).1 % 1000 = 20 then zev kX5_link 260 L (zvi (ph_I h q 1) :: st) h else none) ∧
  (∀ (L st : List ZV) (h : PH), zev kX5_link 260 L st h = zev kX5_link 261 L (zvi 1 :: st) h) ∧
  (∀ (a b : Int) (L st : List ZV) (h : PH), zev kX5_link 261 L (zvi b :: zvi a :: st) h = zev kX5_link 262 L (zvi (w32 (a + b)) :: st) h) ∧
  (∀ (a : Int) (q : Nat) (L st : List ZV) (h : PH), zev kX5_link 262 L (zvi a :: zvr (some q) :: st) h = if (ph_K h q).1 = 20 then zev kX5_link 265 L st (st_I h q 1 a) else none) ∧
  (∀ (L : List ZV) (h : PH), zev kX5_link 265 L [] h = zr0 h) :=
  ⟨fun a L st h => e_ld0R (n := 1) rfl,
  fun a L st h => e_ld0R (n := 2) rfl,
  fun q L st h => e_getR (kd := 19) (k := 1) (n := 5) rfl,
  fun q L st h => e_getI (kd := 20) (k := 1) (n := 8) rfl,
  fun L st h => e_push (v := zvi 12) (n := 10) rfl,
  fun v0 v1 q L st h => e_callV3 (F := mX5_begins) (kd := 19) (n := 13) rfl,
  fun a L st h => e_ld0R (n := 14) rfl,
  fun q L st h => e_callV1 (F := mX5_needName) (kd := 19) (n := 17) rfl,
  fun a L st h => e_ld0R (n := 18) rfl,
  fun q L st h => e_getR (kd := 19) (k := 1) (n := 21) rfl,
  fun a L st h => e_ld0R (n := 22) rfl,
  fun q L st h => e_getJ (kd := 19) (k := 6) (n := 25) rfl,
  fun v0 q L st h => e_callV2 (F := mX6_findLine) (kd := 20) (n := 28) rfl,
  fun x0 x1 a L st h hx => e_st1I (n := 29) rfl hx,
  fun a L st h => e_ld0R (n := 30) rfl,
  fun x0 a L st h => e_ld1I (n := 31) rfl,
  fun L st h => e_push (v := zvi (-1)) (n := 32) rfl,
  fun a b L st h => e_cmpeq (t := 39) (n := 35) rfl,
  fun L st h => e_push (v := zvi 1) (n := 36) rfl,
  fun L st h => e_goto (t := 40) rfl,
  fun L st h => e_push (v := zvi 0) (n := 40) rfl,
  fun L st h => e_push (v := zvi 2) (n := 41) rfl,
  fun v0 v1 q L st h => e_callV3 (F := mX5_need) (kd := 19) (n := 44) rfl,
  fun a L st h => e_ld0R (n := 45) rfl,
  fun q L st h => e_callV1 (F := mX5_go) (kd := 19) (n := 48) rfl,
  fun a L st h => e_ld0R (n := 49) rfl,
  fun q L st h => e_callV1 (F := mX5_spotHere) (kd := 19) (n := 52) rfl,
  fun x0 x1 x2 a L st h hx => e_st2I (n := 53) rfl hx,
  fun a L st h => e_ld0R (n := 54) rfl,
  fun q L st h => e_callV1 (F := mX5_go) (kd := 19) (n := 57) rfl,
  fun a L st h => e_ld0R (n := 58) rfl,
  fun q L st h => e_callV1 (F := mX5_spotHere) (kd := 19) (n := 61) rfl,
  fun x0 x1 x2 x3 a L st h hx => e_st3I (n := 62) rfl hx,
  fun a L st h => e_ld0R (n := 63) rfl,
  fun x0 x1 a L st h => e_ld2I (n := 64) rfl,
  fun x0 x1 x2 a L st h => e_ld3I (n := 65) rfl,
  fun a b L st h => e_cmpeq (t := 72) (n := 68) rfl,
  fun L st h => e_push (v := zvi 1) (n := 69) rfl,
  fun L st h => e_goto (t := 73) rfl,
  fun L st h => e_push (v := zvi 0) (n := 73) rfl,
  fun L st h => e_push (v := zvi 3) (n := 74) rfl,
  fun v0 v1 q L st h => e_callV3 (F := mX5_need) (kd := 19) (n := 77) rfl,
  fun a L st h => e_ld0R (n := 78) rfl,
  fun q L st h => e_callV1 (F := mX5_go) (kd := 19) (n := 81) rfl,
  fun a L st h => e_ld0R (n := 82) rfl,
  fun L st h => e_push (v := zvr (some 1000000017)) (n := 84) rfl,
  fun L st h => e_push (v := zvi 0) (n := 85) rfl,
  fun a L st h => e_ld0R (n := 86) rfl,
  fun q L st h => e_getR (kd := 19) (k := 1) (n := 89) rfl,
  fun q L st h => e_getI (kd := 20) (k := 0) (n := 92) rfl,
  fun v0 v1 v2 q L st h => e_callV4 (F := mX5_part) (kd := 19) (n := 95) rfl,
  fun x0 x1 x2 x3 x4 a L st h hx => e_st4I (n := 97) rfl hx,
  fun a L st h => e_ld0R (n := 98) rfl,
  fun L st h => e_push (v := zvr (some 1000000018)) (n := 100) rfl,
  fun x0 x1 x2 x3 a L st h => e_ld4I (n := 102) rfl,
  fun a L st h => e_ld0R (n := 103) rfl,
  fun q L st h => e_getR (kd := 19) (k := 1) (n := 106) rfl,
  fun q L st h => e_getI (kd := 20) (k := 0) (n := 109) rfl,
  fun v0 v1 v2 q L st h => e_callV4 (F := mX5_part) (kd := 19) (n := 112) rfl,
  fun x0 x1 x2 x3 x4 x5 a L st h hx => e_st5I (n := 114) rfl hx,
  fun a L st h => e_ld0R (n := 115) rfl,
  fun a L st h => e_ld0R (n := 116) rfl,
  fun L st h => e_push (v := zvr (some 1000000019)) (n := 118) rfl,
  fun v0 q L st h => e_callV2 (F := mX5_is) (kd := 19) (n := 121) rfl,
  fun L st h => e_push (v := zvi 1) (n := 122) rfl,
  fun v0 v1 q L st h => e_callV3 (F := mX5_need) (kd := 19) (n := 125) rfl,
  fun a L st h => e_ld0R (n := 126) rfl,
  fun q L st h => e_callV1 (F := mX5_go) (kd := 19) (n := 129) rfl,
  fun a L st h => e_ld0R (n := 130) rfl,
  fun L st h => e_push (v := zvi 1) (n := 131) rfl,
  fun L st h => e_push (v := zvi 999) (n := 134) rfl,
  fun v0 v1 q L st h => e_callV3 (F := mX5_at) (kd := 19) (n := 137) rfl,
  fun x0 x1 x2 x3 x4 x5 x6 a L st h hx => e_st6I (n := 139) rfl hx,
  fun a L st h => e_ld0R (n := 140) rfl,
  fun a L st h => e_ld0R (n := 141) rfl,
  fun q L st h => e_getR (kd := 19) (k := 1) (n := 144) rfl,
  fun q L st h => e_getR (kd := 20) (k := 4) (n := 147) rfl,
  fun q L st h => e_callV1 (F := mJ7_size) (kd := 29) (n := 150) rfl,
  fun x0 x1 x2 x3 x4 a L st h => e_ld5I (n := 152) rfl,
  fun x0 x1 x2 x3 a L st h => e_ld4I (n := 154) rfl,
  fun a b L st h => e_bin (f := (fun a b => w32 (a - b))) (n := 155) rfl,
  fun x0 x1 x2 x3 x4 x5 a L st h => e_ld6I (n := 157) rfl,
  fun a b L st h => e_div (n := 158) rfl,
  fun a b L st h => e_bin (f := (fun a b => w32 (a + b))) (n := 159) rfl,
  fun L st h => e_push (v := zvi 1) (n := 160) rfl,
  fun a b L st h => e_bin (f := (fun a b => w32 (a + b))) (n := 161) rfl,
  fun L st h => e_push (v := zvi 120) (n := 163) rfl,
  fun a b L st h => e_cmpgt (t := 170) (n := 166) rfl,
  fun L st h => e_push (v := zvi 1) (n := 167) rfl,
  fun L st h => e_goto (t := 171) rfl,
  fun L st h => e_push (v := zvi 0) (n := 171) rfl,
  fun v0 q L st h => e_callV2 (F := mX5_needRoom) (kd := 19) (n := 174) rfl,
  fun a L st h => e_ld0R (n := 175) rfl,
  fun q L st h => e_callV1 (F := mX5_go) (kd := 19) (n := 178) rfl,
  fun a L st h => e_ld0R (n := 179) rfl,
  fun L st h => e_push (v := zvr (some 1000000020)) (n := 181) rfl,
  fun L st h => e_push (v := zvi 1) (n := 182) rfl,
  fun L st h => e_push (v := zvi 99) (n := 184) rfl,
  fun v0 v1 v2 q L st h => e_callV4 (F := mX5_part) (kd := 19) (n := 187) rfl,
  fun x0 x1 x2 x3 x4 x5 x6 x7 a L st h hx => e_st7I (n := 189) rfl hx,
  fun x0 x1 x2 x3 a L st h => e_ld4I (n := 191) rfl,
  fun x0 x1 x2 x3 x4 x5 x6 x7 x8 a L st h hx => e_st8I (n := 193) rfl hx,
  fun x0 x1 x2 x3 x4 a L st h => e_ld5I (n := 197) rfl,
  fun a b L st h => e_cmpgt (t := 252) (n := 200) rfl,
  fun a L st h => e_ld0R (n := 201) rfl,
  fun q L st h => e_getR (kd := 19) (k := 1) (n := 204) rfl,
  fun q L st h => e_getR (kd := 20) (k := 4) (n := 207) rfl,
  fun L st h => e_new (kd := 22) (sl := 9) (n := 210) rfl,
  fun a L st h => e_dupI (n := 211) rfl,
  fun a L st h => e_dupR (n := 211) rfl,
  fun a L st h => e_ld0R (n := 212) rfl,
  fun q L st h => e_getR (kd := 19) (k := 1) (n := 215) rfl,
  fun q L st h => e_getR (kd := 20) (k := 4) (n := 218) rfl,
  fun q L st h => e_callV1 (F := mJ7_size) (kd := 29) (n := 221) rfl,
  fun a L st h => e_ld0R (n := 222) rfl,
  fun q L st h => e_getR (kd := 19) (k := 1) (n := 225) rfl,
  fun q L st h => e_getI (kd := 20) (k := 1) (n := 228) rfl,
  fun x0 a L st h => e_ld1I (n := 229) rfl,
  fun x0 x1 a L st h => e_ld2I (n := 230) rfl,
  fun x0 x1 x2 a L st h => e_ld3I (n := 231) rfl,
  fun x0 x1 x2 x3 x4 x5 x6 x7 a L st h => e_ld8I (n := 233) rfl,
  fun x0 x1 x2 x3 x4 x5 x6 a L st h => e_ld7I (n := 235) rfl,
  fun v0 v1 v2 v3 v4 v5 v6 q L st h => e_callV8 (F := mX11_init) (kd := 22) (n := 238) rfl,
  fun v0 q L st h => e_callV2 (F := mJ7_add) (kd := 29) (n := 241) rfl,
  fun a L st h => e_popI (n := 242) rfl,
  fun a L st h => e_popR (n := 242) rfl,
  fun x0 x1 x2 x3 x4 x5 x6 x7 a L st h => e_ld8I (n := 244) rfl,
  fun x0 x1 x2 x3 x4 x5 a L st h => e_ld6I (n := 246) rfl,
  fun a b L st h => e_bin (f := (fun a b => w32 (a + b))) (n := 247) rfl,
  fun x0 x1 x2 x3 x4 x5 x6 x7 x8 a L st h hx => e_st8I (n := 249) rfl hx,
  fun L st h => e_goto (t := 193) rfl,
  fun a L st h => e_ld0R (n := 253) rfl,
  fun q L st h => e_getR (kd := 19) (k := 1) (n := 256) rfl,
  fun a L st h => e_dupI (n := 257) rfl,
  fun a L st h => e_dupR (n := 257) rfl,
  fun q L st h => e_getI (kd := 20) (k := 1) (n := 260) rfl,
  fun L st h => e_push (v := zvi 1) (n := 261) rfl,
  fun a b L st h => e_bin (f := (fun a b => w32 (a + b))) (n := 262) rfl,
  fun a q L st h => e_putI (kd := 20) (k := 1) (n := 265) rfl,
  fun L h => e_ret rfl⟩
theorem allX5_link : zall yX5_link cX5_link 9 none 9 kX5_link.1 :=
  ⟨k_aload_n dX5_link_0,
  k_aload_n dX5_link_1,
  k_getR (C := RX5) (T := TX5) (N := 8) (ci := 3) (k := 1) (ref := "LinkTimes$Reader") dX5_link_2 rfl in_X5 (by decide) q444 (Or.inl rfl) (fun _ _ _ => rfl),
  k_getIN (C := RX6) (T := TX6) (N := 5) (ci := 4) (k := 1) (ref := "LinkTimes$Desk") dX5_link_5 rfl in_X6 (by decide) q420 (Or.inl rfl) (fun _ _ _ => rfl),
  k_bipush dX5_link_8,
  k_callV (y2 := yX5_begins) (C := RX5) (T0 := TX5) (ci := 3) dX5_link_10 sndX5_begins rfl q655 q657 qs16 q138 q658 (by decide +kernel) ⟨by decide, by decide⟩ (by decide) (by decide),
  k_aload_n dX5_link_13,
  k_callV (y2 := yX5_needName) (C := RX5) (T0 := TX5) (ci := 3) dX5_link_14 sndX5_needName rfl q683 q685 qs19 q138 q686 (by decide +kernel) ⟨by decide, by decide⟩ (by decide) (by decide),
  k_aload_n dX5_link_17,
  k_getR (C := RX5) (T := TX5) (N := 8) (ci := 3) (k := 1) (ref := "LinkTimes$Reader") dX5_link_18 rfl in_X5 (by decide) q444 (Or.inl rfl) (fun _ _ _ => rfl),
  k_aload_n dX5_link_21,
  k_getJ (C := RX5) (T := TX5) (N := 8) (ci := 3) (k := 6) (ref := "LinkTimes$Reader") dX5_link_22 rfl in_X5 (by decide) q449 (Or.inl rfl) (fun _ _ _ => rfl),
  k_callV (y2 := yX6_findLine) (C := RX6) (T0 := TX6) (ci := 4) dX5_link_25 sndX6_findLine rfl q707 q708 q709 q139 q710 (by decide +kernel) ⟨by decide, by decide⟩ (by decide) (by decide),
  k_istore_n dX5_link_28,
  k_aload_n dX5_link_29,
  k_iload_n dX5_link_30,
  k_iconst dX5_link_31,
  k_cmpeq (t := 39) dX5_link_32 (by decide),
  k_iconst dX5_link_35,
  k_goto (t := 40) dX5_link_36 (by decide),
  k_iconst dX5_link_39,
  k_iconst dX5_link_40,
  k_callV (y2 := yX5_need) (C := RX5) (T0 := TX5) (ci := 3) dX5_link_41 sndX5_need rfl q560 q562 qs11 q138 q563 (by decide +kernel) ⟨by decide, by decide⟩ (by decide) (by decide),
  k_aload_n dX5_link_44,
  k_callV (y2 := yX5_go) (C := RX5) (T0 := TX5) (ci := 3) dX5_link_45 sndX5_go rfl q473 q475 qs2 q138 q476 (by decide +kernel) ⟨by decide, by decide⟩ (by decide) (by decide),
  k_aload_n dX5_link_48,
  k_callV (y2 := yX5_spotHere) (C := RX5) (T0 := TX5) (ci := 3) dX5_link_49 sndX5_spotHere rfl q834 q836 qs25 q138 q837 (by decide +kernel) ⟨by decide, by decide⟩ (by decide) (by decide),
  k_istore_n dX5_link_52,
  k_aload_n dX5_link_53,
  k_callV (y2 := yX5_go) (C := RX5) (T0 := TX5) (ci := 3) dX5_link_54 sndX5_go rfl q473 q475 qs2 q138 q476 (by decide +kernel) ⟨by decide, by decide⟩ (by decide) (by decide),
  k_aload_n dX5_link_57,
  k_callV (y2 := yX5_spotHere) (C := RX5) (T0 := TX5) (ci := 3) dX5_link_58 sndX5_spotHere rfl q834 q836 qs25 q138 q837 (by decide +kernel) ⟨by decide, by decide⟩ (by decide) (by decide),
  k_istore_n dX5_link_61,
  k_aload_n dX5_link_62,
  k_iload_n dX5_link_63,
  k_iload_n dX5_link_64,
  k_cmpeq (t := 72) dX5_link_65 (by decide),
  k_iconst dX5_link_68,
  k_goto (t := 73) dX5_link_69 (by decide),
  k_iconst dX5_link_72,
  k_iconst dX5_link_73,
  k_callV (y2 := yX5_need) (C := RX5) (T0 := TX5) (ci := 3) dX5_link_74 sndX5_need rfl q560 q562 qs11 q138 q563 (by decide +kernel) ⟨by decide, by decide⟩ (by decide) (by decide),
  k_aload_n dX5_link_77,
  k_callV (y2 := yX5_go) (C := RX5) (T0 := TX5) (ci := 3) dX5_link_78 sndX5_go rfl q473 q475 qs2 q138 q476 (by decide +kernel) ⟨by decide, by decide⟩ (by decide) (by decide),
  k_aload_n dX5_link_81,
  k_ldcS (tx := "from") (i := 7) dX5_link_82 (by decide +kernel) (by decide),
  k_iconst dX5_link_84,
  k_aload_n dX5_link_85,
  k_getR (C := RX5) (T := TX5) (N := 8) (ci := 3) (k := 1) (ref := "LinkTimes$Reader") dX5_link_86 rfl in_X5 (by decide) q444 (Or.inl rfl) (fun _ _ _ => rfl),
  k_getIN (C := RX6) (T := TX6) (N := 5) (ci := 4) (k := 0) (ref := "LinkTimes$Desk") dX5_link_89 rfl in_X6 (by decide) q418 (Or.inl rfl) (fun _ _ _ => rfl),
  k_callV (y2 := yX5_part) (C := RX5) (T0 := TX5) (ci := 3) dX5_link_92 sndX5_part rfl q638 q640 qs13 q138 q641 (by decide +kernel) ⟨by decide, by decide⟩ (by decide) (by decide),
  k_istore dX5_link_95,
  k_aload_n dX5_link_97,
  k_ldcS (tx := "till") (i := 8) dX5_link_98 (by decide +kernel) (by decide),
  k_iload dX5_link_100,
  k_aload_n dX5_link_102,
  k_getR (C := RX5) (T := TX5) (N := 8) (ci := 3) (k := 1) (ref := "LinkTimes$Reader") dX5_link_103 rfl in_X5 (by decide) q444 (Or.inl rfl) (fun _ _ _ => rfl),
  k_getIN (C := RX6) (T := TX6) (N := 5) (ci := 4) (k := 0) (ref := "LinkTimes$Desk") dX5_link_106 rfl in_X6 (by decide) q418 (Or.inl rfl) (fun _ _ _ => rfl),
  k_callV (y2 := yX5_part) (C := RX5) (T0 := TX5) (ci := 3) dX5_link_109 sndX5_part rfl q638 q640 qs13 q138 q641 (by decide +kernel) ⟨by decide, by decide⟩ (by decide) (by decide),
  k_istore dX5_link_112,
  k_aload_n dX5_link_114,
  k_aload_n dX5_link_115,
  k_ldcS (tx := "every") (i := 9) dX5_link_116 (by decide +kernel) (by decide),
  k_callV (y2 := yX5_is) (C := RX5) (T0 := TX5) (ci := 3) dX5_link_118 sndX5_is rfl q504 q506 qs9 q138 q507 (by decide +kernel) ⟨by decide, by decide⟩ (by decide) (by decide),
  k_iconst dX5_link_121,
  k_callV (y2 := yX5_need) (C := RX5) (T0 := TX5) (ci := 3) dX5_link_122 sndX5_need rfl q560 q562 qs11 q138 q563 (by decide +kernel) ⟨by decide, by decide⟩ (by decide) (by decide),
  k_aload_n dX5_link_125,
  k_callV (y2 := yX5_go) (C := RX5) (T0 := TX5) (ci := 3) dX5_link_126 sndX5_go rfl q473 q475 qs2 q138 q476 (by decide +kernel) ⟨by decide, by decide⟩ (by decide) (by decide),
  k_aload_n dX5_link_129,
  k_iconst dX5_link_130,
  k_sipush dX5_link_131,
  k_callV (y2 := yX5_at) (C := RX5) (T0 := TX5) (ci := 3) dX5_link_134 sndX5_at rfl q642 q644 qs14 q138 q645 (by decide +kernel) ⟨by decide, by decide⟩ (by decide) (by decide),
  k_istore dX5_link_137,
  k_aload_n dX5_link_139,
  k_aload_n dX5_link_140,
  k_getR (C := RX5) (T := TX5) (N := 8) (ci := 3) (k := 1) (ref := "LinkTimes$Reader") dX5_link_141 rfl in_X5 (by decide) q444 (Or.inl rfl) (fun _ _ _ => rfl),
  k_getRN (C := RX6) (T := TX6) (N := 5) (ci := 4) (k := 4) (ref := "LinkTimes$Desk") dX5_link_144 rfl in_X6 (by decide) q431 (Or.inl rfl) (fun _ _ _ => rfl),
  k_callV (y2 := yJ7_size) (C := RJ7) (T0 := TJ7) (ci := 13) dX5_link_147 sndJ7_size rfl q651 q652 q653 q141 q654 (by decide +kernel) ⟨by decide, by decide⟩ (by decide) (by decide),
  k_iload dX5_link_150,
  k_iload dX5_link_152,
  k_isub dX5_link_154,
  k_iload dX5_link_155,
  k_idiv dX5_link_157,
  k_iadd dX5_link_158,
  k_iconst dX5_link_159,
  k_iadd dX5_link_160,
  k_bipush dX5_link_161,
  k_cmpgt (t := 170) dX5_link_163 (by decide),
  k_iconst dX5_link_166,
  k_goto (t := 171) dX5_link_167 (by decide),
  k_iconst dX5_link_170,
  k_callV (y2 := yX5_needRoom) (C := RX5) (T0 := TX5) (ci := 3) dX5_link_171 sndX5_needRoom rfl q659 q661 qs17 q138 q662 (by decide +kernel) ⟨by decide, by decide⟩ (by decide) (by decide),
  k_aload_n dX5_link_174,
  k_callV (y2 := yX5_go) (C := RX5) (T0 := TX5) (ci := 3) dX5_link_175 sndX5_go rfl q473 q475 qs2 q138 q476 (by decide +kernel) ⟨by decide, by decide⟩ (by decide) (by decide),
  k_aload_n dX5_link_178,
  k_ldcS (tx := "takes") (i := 10) dX5_link_179 (by decide +kernel) (by decide),
  k_iconst dX5_link_181,
  k_bipush dX5_link_182,
  k_callV (y2 := yX5_part) (C := RX5) (T0 := TX5) (ci := 3) dX5_link_184 sndX5_part rfl q638 q640 qs13 q138 q641 (by decide +kernel) ⟨by decide, by decide⟩ (by decide) (by decide),
  k_istore dX5_link_187,
  k_iload dX5_link_189,
  k_istore dX5_link_191,
  k_iload dX5_link_193,
  k_iload dX5_link_195,
  k_cmpgt (t := 252) dX5_link_197 (by decide),
  k_aload_n dX5_link_200,
  k_getR (C := RX5) (T := TX5) (N := 8) (ci := 3) (k := 1) (ref := "LinkTimes$Reader") dX5_link_201 rfl in_X5 (by decide) q444 (Or.inl rfl) (fun _ _ _ => rfl),
  k_getRN (C := RX6) (T := TX6) (N := 5) (ci := 4) (k := 4) (ref := "LinkTimes$Desk") dX5_link_204 rfl in_X6 (by decide) q431 (Or.inl rfl) (fun _ _ _ => rfl),
  k_new (C := RX11) (T := TX11) (N := 9) (ci := 6) dX5_link_207 rfl in_X11 tyX11 tyX11_ok rfl (by decide) q842 q843 q160,
  k_dup dX5_link_210,
  k_aload_n dX5_link_211,
  k_getR (C := RX5) (T := TX5) (N := 8) (ci := 3) (k := 1) (ref := "LinkTimes$Reader") dX5_link_212 rfl in_X5 (by decide) q444 (Or.inl rfl) (fun _ _ _ => rfl),
  k_getRN (C := RX6) (T := TX6) (N := 5) (ci := 4) (k := 4) (ref := "LinkTimes$Desk") dX5_link_215 rfl in_X6 (by decide) q431 (Or.inl rfl) (fun _ _ _ => rfl),
  k_callV (y2 := yJ7_size) (C := RJ7) (T0 := TJ7) (ci := 13) dX5_link_218 sndJ7_size rfl q651 q652 q653 q141 q654 (by decide +kernel) ⟨by decide, by decide⟩ (by decide) (by decide),
  k_aload_n dX5_link_221,
  k_getR (C := RX5) (T := TX5) (N := 8) (ci := 3) (k := 1) (ref := "LinkTimes$Reader") dX5_link_222 rfl in_X5 (by decide) q444 (Or.inl rfl) (fun _ _ _ => rfl),
  k_getIN (C := RX6) (T := TX6) (N := 5) (ci := 4) (k := 1) (ref := "LinkTimes$Desk") dX5_link_225 rfl in_X6 (by decide) q420 (Or.inl rfl) (fun _ _ _ => rfl),
  k_iload_n dX5_link_228,
  k_iload_n dX5_link_229,
  k_iload_n dX5_link_230,
  k_iload dX5_link_231,
  k_iload dX5_link_233,
  k_callI (y2 := yX11_init) (C := RX11) (T0 := TX11) (ci := 6) dX5_link_235 sndX11_init rfl q844 q845 q160 q846 rfl (by decide +kernel) ⟨by decide, by decide⟩ (by decide) (by decide),
  k_callV (y2 := yJ7_add) (C := RJ7) (T0 := TJ7) (ci := 13) dX5_link_238 sndJ7_add rfl q739 q740 q741 q141 q742 (by decide +kernel) ⟨by decide, by decide⟩ (by decide) (by decide),
  k_pop dX5_link_241,
  k_iload dX5_link_242,
  k_iload dX5_link_244,
  k_iadd dX5_link_246,
  k_istore dX5_link_247,
  k_goto (t := 193) dX5_link_249 (by decide),
  k_aload_n dX5_link_252,
  k_getR (C := RX5) (T := TX5) (N := 8) (ci := 3) (k := 1) (ref := "LinkTimes$Reader") dX5_link_253 rfl in_X5 (by decide) q444 (Or.inl rfl) (fun _ _ _ => rfl),
  k_dup dX5_link_256,
  k_getIN (C := RX6) (T := TX6) (N := 5) (ci := 4) (k := 1) (ref := "LinkTimes$Desk") dX5_link_257 rfl in_X6 (by decide) q420 (Or.inl rfl) (fun _ _ _ => rfl),
  k_iconst dX5_link_260,
  k_iadd dX5_link_261,
  k_putI (C := RX6) (T := TX6) (N := 5) (ci := 4) (k := 1) (ref := "LinkTimes$Desk") dX5_link_262 rfl in_X6 tyX6 tyX6_ok nmX6 (by decide) (Or.inr ⟨"LinkTimes", q420⟩) (Or.inl rfl) (Or.inl rfl) (tyX6_ok 1 (by decide)) (fun _ _ _ => rfl),
  k_ret dX5_link_265, trivial⟩
theorem sndX5_link : MSound 9 yX5_link (ws_ yX5_link cX5_link 9 none) mX5_link := msound_M (by decide) allX5_link (fun _ _ => rfl)
/-! LinkTimes$Reader.line()V -/
noncomputable def kX5_line : ZM := ([(0, zi_ld 1 0 1), (1, zi_push (zvr (some 1000000010)) 3), (3, zi_callV mX5_is 19 2 6), (6, zi_if (fun a => zc_eq a 0) 16 9), (9, zi_ld 1 0 10), (10, zi_callV mX5_desk 19 1 13), (13, zi_goto 70), (16, zi_ld 1 0 17), (17, zi_push (zvr (some 1000000011)) 19), (19, zi_callV mX5_is 19 2 22), (22, zi_if (fun a => zc_eq a 0) 32 25), (25, zi_ld 1 0 26), (26, zi_callV mX5_spot 19 1 29), (29, zi_goto 70), (32, zi_ld 1 0 33), (33, zi_push (zvr (some 1000000012)) 35), (35, zi_callV mX5_is 19 2 38), (38, zi_if (fun a => zc_eq a 0) 48 41), (41, zi_ld 1 0 42), (42, zi_callV mX5_lineOf 19 1 45), (45, zi_goto 70), (48, zi_ld 1 0 49), (49, zi_push (zvr (some 1000000013)) 51), (51, zi_callV mX5_is 19 2 54), (54, zi_if (fun a => zc_eq a 0) 64 57), (57, zi_ld 1 0 58), (58, zi_callV mX5_link 19 1 61), (61, zi_goto 70), (64, zi_ld 1 0 65), (65, zi_push (zvi 0) 66), (66, zi_push (zvi 1) 67), (67, zi_callV mX5_need 19 3 70), (70, zi_goto 83), (73, zi_st 1 1 74), (74, zi_new 26 6 77), (77, zi_dup 78), (78, zi_ld 1 1 79), (79, zi_callV mX12_init 26 2 82), (82, zi_throw), (83, zi_ret)], fun pc kd => if 0 ≤ pc ∧ pc < 70 then if kd = 24 then some 73 else if kd = 25 then some 73 else some 9999 else none)
noncomputable def mX5_line : ZF := zrunM kX5_line 2
theorem enX5_line (x0 : Option Nat) (h : PH) : mX5_line [zvr x0] h = zev kX5_line 0 [zvr x0, zvu] [] h := zrunM_eq rfl rfl
theorem rX5_line : (∀ (a : Option Nat) (L st : List ZV) (h : PH), zev kX5_line 0 (zvr a :: L) st h = zev kX5_line 1 (zvr a :: L) (zvr a :: st) h) ∧
  (∀ (L st : List ZV) (h : PH), zev kX5_line 1 L st h = zev kX5_line 3 L (zvr (some 1000000010) :: st) h) ∧
  (∀ (v0 : ZV) (q : Nat) (L st : List ZV) (h : PH), zev kX5_line 3 L (v0 :: zvr (some q) :: st) h = if (ph_K h q).1 % 1000 = 19 ∧ zcat st ≤ 8 then zk kX5_line 3 6 L st (mX5_is [zvr (some q), v0] h) else none) ∧
  (∀ (a : Int) (L st : List ZV) (h : PH), zev kX5_line 6 L (zvi a :: st) h = if a = 0 then zev kX5_line 16 L st h else zev kX5_line 9 L st h) ∧
  (∀ (a : Option Nat) (L st : List ZV) (h : PH), zev kX5_line 9 (zvr a :: L) st h = zev kX5_line 10 (zvr a :: L) (zvr a :: st) h) ∧
  (∀ (q : Nat) (L st : List ZV) (h : PH), zev kX5_line 10 L (zvr (some q) :: st) h = if (ph_K h q).1 % 1000 = 19 ∧ zcat st ≤ 8 then zk kX5_line 10 13 L st (mX5_desk [zvr (some q)] h) else none) ∧
  (∀ (L st : List ZV) (h : PH), zev kX5_line 13 L st h = zev kX5_line 70 L st h) ∧
  (∀ (a : Option Nat) (L st : List ZV) (h : PH), zev kX5_line 16 (zvr a :: L) st h = zev kX5_line 17 (zvr a :: L) (zvr a :: st) h) ∧
  (∀ (L st : List ZV) (h : PH), zev kX5_line 17 L st h = zev kX5_line 19 L (zvr (some 1000000011) :: st) h) ∧
  (∀ (v0 : ZV) (q : Nat) (L st : List ZV) (h : PH), zev kX5_line 19 L (v0 :: zvr (some q) :: st) h = if (ph_K h q).1 % 1000 = 19 ∧ zcat st ≤ 8 then zk kX5_line 19 22 L st (mX5_is [zvr (some q), v0] h) else none) ∧
  (∀ (a : Int) (L st : List ZV) (h : PH), zev kX5_line 22 L (zvi a :: st) h = if a = 0 then zev kX5_line 32 L st h else zev kX5_line 25 L st h) ∧
  (∀ (a : Option Nat) (L st : List ZV) (h : PH), zev kX5_line 25 (zvr a :: L) st h = zev kX5_line 26 (zvr a :: L) (zvr a :: st) h) ∧
  (∀ (q : Nat) (L st : List ZV) (h : PH), zev kX5_line 26 L (zvr (some q) :: st) h = if (ph_K h q).1 % 1000 = 19 ∧ zcat st ≤ 8 then zk kX5_line 26 29 L st (mX5_spot [zvr (some q)] h) else none) ∧
  (∀ (L st : List ZV) (h : PH), zev kX5_line 29 L st h = zev kX5_line 70 L st h) ∧
  (∀ (a : Option Nat) (L st : List ZV) (h : PH), zev kX5_line 32 (zvr a :: L) st h = zev kX5_line 33 (zvr a :: L) (zvr a :: st) h) ∧
  (∀ (L st : List ZV) (h : PH), zev kX5_line 33 L st h = zev kX5_line 35 L (zvr (some 1000000012) :: st) h) ∧
  (∀ (v0 : ZV) (q : Nat) (L st : List ZV) (h : PH), zev kX5_line 35 L (v0 :: zvr (some q) :: st) h = if (ph_K h q).1 % 1000 = 19 ∧ zcat st ≤ 8 then zk kX5_line 35 38 L st (mX5_is [zvr (some q), v0] h) else none) ∧
  (∀ (a : Int) (L st : List ZV) (h : PH), zev kX5_line 38 L (zvi a :: st) h = if a = 0 then zev kX5_line 48 L st h else zev kX5_line 41 L st h) ∧
  (∀ (a : Option Nat) (L st : List ZV) (h : PH), zev kX5_line 41 (zvr a :: L) st h = zev kX5_line 42 (zvr a :: L) (zvr a :: st) h) ∧
  (∀ (q : Nat) (L st : List ZV) (h : PH), zev kX5_line 42 L (zvr (some q) :: st) h = if (ph_K h q).1 % 1000 = 19 ∧ zcat st ≤ 8 then zk kX5_line 42 45 L st (mX5_lineOf [zvr (some q)] h) else none) ∧
  (∀ (L st : List ZV) (h : PH), zev kX5_line 45 L st h = zev kX5_line 70 L st h) ∧
  (∀ (a : Option Nat) (L st : List ZV) (h : PH), zev kX5_line 48 (zvr a :: L) st h = zev kX5_line 49 (zvr a :: L) (zvr a :: st) h) ∧
  (∀ (L st : List ZV) (h : PH), zev kX5_line 49 L st h = zev kX5_line 51 L (zvr (some 1000000013) :: st) h) ∧
  (∀ (v0 : ZV) (q : Nat) (L st : List ZV) (h : PH), zev kX5_line 51 L (v0 :: zvr (some q) :: st) h = if (ph_K h q).1 % 1000 = 19 ∧ zcat st ≤ 8 then zk kX5_line 51 54 L st (mX5_is [zvr (some q), v0] h) else none) ∧
  (∀ (a : Int) (L st : List ZV) (h : PH), zev kX5_line 54 L (zvi a :: st) h = if a = 0 then zev kX5_line 64 L st h else zev kX5_line 57 L st h) ∧
  (∀ (a : Option Nat) (L st : List ZV) (h : PH), zev kX5_line 57 (zvr a :: L) st h = zev kX5_line 58 (zvr a :: L) (zvr a :: st) h) ∧
  (∀ (q : Nat) (L st : List ZV) (h : PH), zev kX5_line 58 L (zvr (some q) :: st) h = if (ph_K h q).1 % 1000 = 19 ∧ zcat st ≤ 8 then zk kX5_line 58 61 L st (mX5_link [zvr (some q)] h) else none) ∧
  (∀ (L st : List ZV) (h : PH), zev kX5_line 61 L st h = zev kX5_line 70 L st h) ∧
  (∀ (a : Option Nat) (L st : List ZV) (h : PH), zev kX5_line 64 (zvr a :: L) st h = zev kX5_line 65 (zvr a :: L) (zvr a :: st) h) ∧
  (∀ (L st : List ZV) (h : PH), zev kX5_line 65 L st h = zev kX5_line 66 L (zvi 0 :: st) h) ∧
  (∀ (L st : List ZV) (h : PH), zev kX5_line 66 L st h = zev kX5_line 67 L (zvi 1 :: st) h) ∧
  (∀ (v0 v1 : ZV) (q : Nat) (L st : List ZV) (h : PH), zev kX5_line 67 L (v1 :: v0 :: zvr (some q) :: st) h = if (ph_K h q).1 % 1000 = 19 ∧ zcat st ≤ 8 then zk kX5_line 67 70 L st (mX5_need [zvr (some q), v0, v1] h) else none) ∧
  (∀ (L st : List ZV) (h : PH), zev kX5_line 70 L st h = zev kX5_line 83 L st h) ∧
  (∀ (x0 x1 : ZV) (a : Option Nat) (L st : List ZV) (h : PH) (hx : zisL x0 = false) , zev kX5_line 73 (x0 :: x1 :: L) (zvr a :: st) h = zev kX5_line 74 (x0 :: zvr a :: L) st h) ∧
  (∀ (L st : List ZV) (h : PH), zev kX5_line 74 L st h = zev kX5_line 77 L (zvr (some (ph_N h)) :: st) (al_ h 26 0 6)) ∧
  (∀ (a : Int) (L st : List ZV) (h : PH), zev kX5_line 77 L (zvi a :: st) h = zev kX5_line 78 L (zvi a :: zvi a :: st) h) ∧
  (∀ (a : Option Nat) (L st : List ZV) (h : PH), zev kX5_line 77 L (zvr a :: st) h = zev kX5_line 78 L (zvr a :: zvr a :: st) h) ∧
  (∀ (x0 : ZV) (a : Option Nat) (L st : List ZV) (h : PH), zev kX5_line 78 (x0 :: zvr a :: L) st h = zev kX5_line 79 (x0 :: zvr a :: L) (zvr a :: st) h) ∧
  (∀ (v0 : ZV) (q : Nat) (L st : List ZV) (h : PH), zev kX5_line 79 L (v0 :: zvr (some q) :: st) h = if (ph_K h q).1 % 1000 = 26 ∧ zcat st ≤ 8 then zk kX5_line 79 82 L st (mX12_init [zvr (some q), v0] h) else none) ∧
  (∀ (q : Nat) (L st : List ZV) (h : PH), zev kX5_line 82 L (zvr (some q) :: st) h = if (ph_K h q).1 ≠ 0 then zk kX5_line 82 0 L [] (zrx q h) else none) ∧
  (∀ (L : List ZV) (h : PH), zev kX5_line 83 L [] h = zr0 h) :=
  ⟨fun a L st h => e_ld0R (n := 1) rfl,
  fun L st h => e_push (v := zvr (some 1000000010)) (n := 3) rfl,
  fun v0 q L st h => e_callV2 (F := mX5_is) (kd := 19) (n := 6) rfl,
  fun a L st h => e_ifeq (t := 16) (n := 9) rfl,
  fun a L st h => e_ld0R (n := 10) rfl,
  fun q L st h => e_callV1 (F := mX5_desk) (kd := 19) (n := 13) rfl,
  fun L st h => e_goto (t := 70) rfl,
  fun a L st h => e_ld0R (n := 17) rfl,
  fun L st h => e_push (v := zvr (some 1000000011)) (n := 19) rfl,
  fun v0 q L st h => e_callV2 (F := mX5_is) (kd := 19) (n := 22) rfl,
  fun a L st h => e_ifeq (t := 32) (n := 25) rfl,
  fun a L st h => e_ld0R (n := 26) rfl,
  fun q L st h => e_callV1 (F := mX5_spot) (kd := 19) (n := 29) rfl,
  fun L st h => e_goto (t := 70) rfl,
  fun a L st h => e_ld0R (n := 33) rfl,
  fun L st h => e_push (v := zvr (some 1000000012)) (n := 35) rfl,
  fun v0 q L st h => e_callV2 (F := mX5_is) (kd := 19) (n := 38) rfl,
  fun a L st h => e_ifeq (t := 48) (n := 41) rfl,
  fun a L st h => e_ld0R (n := 42) rfl,
  fun q L st h => e_callV1 (F := mX5_lineOf) (kd := 19) (n := 45) rfl,
  fun L st h => e_goto (t := 70) rfl,
  fun a L st h => e_ld0R (n := 49) rfl,
  fun L st h => e_push (v := zvr (some 1000000013)) (n := 51) rfl,
  fun v0 q L st h => e_callV2 (F := mX5_is) (kd := 19) (n := 54) rfl,
  fun a L st h => e_ifeq (t := 64) (n := 57) rfl,
  fun a L st h => e_ld0R (n := 58) rfl,
  fun q L st h => e_callV1 (F := mX5_link) (kd := 19) (n := 61) rfl,
  fun L st h => e_goto (t := 70) rfl,
  fun a L st h => e_ld0R (n := 65) rfl,
  fun L st h => e_push (v := zvi 0) (n := 66) rfl,
  fun L st h => e_push (v := zvi 1) (n := 67) rfl,
  fun v0 v1 q L st h => e_callV3 (F := mX5_need) (kd := 19) (n := 70) rfl,
  fun L st h => e_goto (t := 83) rfl,
  fun x0 x1 a L st h hx => e_st1R (n := 74) rfl hx,
  fun L st h => e_new (kd := 26) (sl := 6) (n := 77) rfl,
  fun a L st h => e_dupI (n := 78) rfl,
  fun a L st h => e_dupR (n := 78) rfl,
  fun x0 a L st h => e_ld1R (n := 79) rfl,
  fun v0 q L st h => e_callV2 (F := mX12_init) (kd := 26) (n := 82) rfl,
  fun q L st h => e_throw (n := 0) rfl,
  fun L h => e_ret rfl⟩
theorem allX5_line : zall yX5_line cX5_line 2 none 10 kX5_line.1 :=
  ⟨k_aload_n dX5_line_0,
  k_ldcS (tx := "desk") (i := 0) dX5_line_1 (by decide +kernel) (by decide),
  k_callV (y2 := yX5_is) (C := RX5) (T0 := TX5) (ci := 3) dX5_line_3 sndX5_is rfl q504 q506 qs9 q138 q507 (by decide +kernel) ⟨by decide, by decide⟩ (by decide) (by decide),
  k_ifeq (t := 16) dX5_line_6 (by decide),
  k_aload_n dX5_line_9,
  k_callV (y2 := yX5_desk) (C := RX5) (T0 := TX5) (ci := 3) dX5_line_10 sndX5_desk rfl q556 q558 qs10 q138 q559 (by decide +kernel) ⟨by decide, by decide⟩ (by decide) (by decide),
  k_goto (t := 70) dX5_line_13 (by decide),
  k_aload_n dX5_line_16,
  k_ldcS (tx := "spot") (i := 1) dX5_line_17 (by decide +kernel) (by decide),
  k_callV (y2 := yX5_is) (C := RX5) (T0 := TX5) (ci := 3) dX5_line_19 sndX5_is rfl q504 q506 qs9 q138 q507 (by decide +kernel) ⟨by decide, by decide⟩ (by decide) (by decide),
  k_ifeq (t := 32) dX5_line_22 (by decide),
  k_aload_n dX5_line_25,
  k_callV (y2 := yX5_spot) (C := RX5) (T0 := TX5) (ci := 3) dX5_line_26 sndX5_spot rfl q647 q649 qs15 q138 q650 (by decide +kernel) ⟨by decide, by decide⟩ (by decide) (by decide),
  k_goto (t := 70) dX5_line_29 (by decide),
  k_aload_n dX5_line_32,
  k_ldcS (tx := "line") (i := 2) dX5_line_33 (by decide +kernel) (by decide),
  k_callV (y2 := yX5_is) (C := RX5) (T0 := TX5) (ci := 3) dX5_line_35 sndX5_is rfl q504 q506 qs9 q138 q507 (by decide +kernel) ⟨by decide, by decide⟩ (by decide) (by decide),
  k_ifeq (t := 48) dX5_line_38 (by decide),
  k_aload_n dX5_line_41,
  k_callV (y2 := yX5_lineOf) (C := RX5) (T0 := TX5) (ci := 3) dX5_line_42 sndX5_lineOf rfl q806 q808 qs23 q138 q809 (by decide +kernel) ⟨by decide, by decide⟩ (by decide) (by decide),
  k_goto (t := 70) dX5_line_45 (by decide),
  k_aload_n dX5_line_48,
  k_ldcS (tx := "link") (i := 3) dX5_line_49 (by decide +kernel) (by decide),
  k_callV (y2 := yX5_is) (C := RX5) (T0 := TX5) (ci := 3) dX5_line_51 sndX5_is rfl q504 q506 qs9 q138 q507 (by decide +kernel) ⟨by decide, by decide⟩ (by decide) (by decide),
  k_ifeq (t := 64) dX5_line_54 (by decide),
  k_aload_n dX5_line_57,
  k_callV (y2 := yX5_link) (C := RX5) (T0 := TX5) (ci := 3) dX5_line_58 sndX5_link rfl q830 q832 qs24 q138 q833 (by decide +kernel) ⟨by decide, by decide⟩ (by decide) (by decide),
  k_goto (t := 70) dX5_line_61 (by decide),
  k_aload_n dX5_line_64,
  k_iconst dX5_line_65,
  k_iconst dX5_line_66,
  k_callV (y2 := yX5_need) (C := RX5) (T0 := TX5) (ci := 3) dX5_line_67 sndX5_need rfl q560 q562 qs11 q138 q563 (by decide +kernel) ⟨by decide, by decide⟩ (by decide) (by decide),
  k_goto (t := 83) dX5_line_70 (by decide),
  k_astore_n dX5_line_73,
  k_new (C := RX12) (T := TX12) (N := 6) (ci := 10) dX5_line_74 rfl in_X12 tyX12 tyX12_ok rfl (by decide) q891 q892 q161,
  k_dup dX5_line_77,
  k_aload_n dX5_line_78,
  k_callI (y2 := yX12_init) (C := RX12) (T0 := TX12) (ci := 10) dX5_line_79 sndX12_init rfl q900 q901 q161 q902 rfl (by decide +kernel) ⟨by decide, by decide⟩ (by decide) (by decide),
  k_throw dX5_line_82,
  k_ret dX5_line_83, trivial⟩
theorem sndX5_line : MSound 10 yX5_line (wsW_ yX5_line cX5_line 2 none [(0, 70, 73, 67), (0, 70, 73, 72)]) mX5_line := msound_H (by decide) allX5_line
  (fun pc kd t h1 h2 => by
    have h1 : (if 0 ≤ pc ∧ pc < 70 then if kd = 24 then some 73 else if kd = 25 then some 73 else some 9999 else none) = some t := h1
    by_cases hp : 0 ≤ pc ∧ pc < 70
    · rw [if_pos hp] at h1
      by_cases hk : kd = 24
      · rw [if_pos hk] at h1
        obtain rfl := Option.some.inj h1
        subst hk
        exact ⟨[], ⟨0, 70, 73, 67⟩, [⟨0, 70, 73, 72⟩], 8, RX8, TX8, 8, "LinkTimes$Flaw", rfl, by simp [covers]; omega, by decide, rfl, ⟨rfl, by decide⟩, rfl, q472, q565, fun z hz => by cases hz⟩
      rw [if_neg hk] at h1
      by_cases hk : kd = 25
      · rw [if_pos hk] at h1
        obtain rfl := Option.some.inj h1
        subst hk
        exact ⟨[⟨0, 70, 73, 67⟩], ⟨0, 70, 73, 72⟩, [], 9, RX9, TX9, 8, "LinkTimes$Full", rfl, by simp [covers]; omega, by decide, rfl, ⟨rfl, by decide⟩, rfl, q502, q664, fun z hz => by rw [List.mem_singleton.mp hz]; exact Or.inr ⟨by decide, "LinkTimes$Flaw", q472, by decide +kernel⟩⟩
      rw [if_neg hk] at h1
      obtain rfl := Option.some.inj h1
      cases h2
    · rw [if_neg hp] at h1; cases h1)
  (fun pc kd h1 x hx => by
    have h1 : (if 0 ≤ pc ∧ pc < 70 then if kd = 24 then some 73 else if kd = 25 then some 73 else some 9999 else none) = none := h1
    by_cases hp : 0 ≤ pc ∧ pc < 70
    · rw [if_pos hp] at h1
      by_cases hk : kd = 24
      · rw [if_pos hk] at h1; cases h1
      rw [if_neg hk] at h1
      by_cases hk : kd = 25
      · rw [if_pos hk] at h1; cases h1
      rw [if_neg hk] at h1
      cases h1
    · have hx : x ∈ [(⟨0, 70, 73, 67⟩ : ExceptionTableEntry), (⟨0, 70, 73, 72⟩ : ExceptionTableEntry)] := hx
      simp only [List.mem_cons, List.not_mem_nil, or_false] at hx
      rcases hx with rfl | rfl <;> (simp [covers]; omega))
/-! LinkTimes$Reader.read()LLinkTimes$Desk; -/
noncomputable def kX5_read : ZM := ([(0, zi_ld 1 0 1), (1, zi_callV mX5_go 19 1 4), (4, zi_ld 1 0 5), (5, zi_callV mX5_line 19 1 8), (8, zi_ld 1 0 9), (9, zi_getI 19 4 12), (12, zi_push (zvi 4) 13), (13, zi_cmp zc_ne 27 16), (16, zi_ld 1 0 17), (17, zi_callV mX5_go 19 1 20), (20, zi_ld 1 0 21), (21, zi_callV mX5_line 19 1 24), (24, zi_goto 8), (27, zi_ld 1 0 28), (28, zi_ld 1 0 29), (29, zi_getI 19 4 32), (32, zi_push (zvi 1) 33), (33, zi_cmp zc_ne 40 36), (36, zi_push (zvi 1) 37), (37, zi_goto 41), (40, zi_push (zvi 0) 41), (41, zi_push (zvi 1) 42), (42, zi_callV mX5_need 19 3 45), (45, zi_ld 1 0 46), (46, zi_ld 1 0 47), (47, zi_getR 19 1 50), (50, zi_getR 20 2 53), (53, zi_callV mJ7_isEmpty 29 1 56), (56, zi_if (fun a => zc_ne a 0) 63 59), (59, zi_push (zvi 1) 60), (60, zi_goto 64), (63, zi_push (zvi 0) 64), (64, zi_push (zvi 6) 66), (66, zi_callV mX5_need 19 3 69), (69, zi_goto 82), (72, zi_st 1 1 73), (73, zi_new 26 6 76), (76, zi_dup 77), (77, zi_ld 1 1 78), (78, zi_callV mX12_init 26 2 81), (81, zi_throw), (82, zi_ld 1 0 83), (83, zi_getR 19 1 86), (86, zi_retv 1)], fun pc kd => if 27 ≤ pc ∧ pc < 69 then if kd = 24 then some 72 else some 9999 else none)
noncomputable def mX5_read : ZF := zrunM kX5_read 2
theorem enX5_read (x0 : Option Nat) (h : PH) : mX5_read [zvr x0] h = zev kX5_read 0 [zvr x0, zvu] [] h := zrunM_eq rfl rfl
theorem hdX5_read_8 (a : Option Nat) (L st : List ZV) (h : PH) : zev kX5_read 8 (zvr a :: L) st h = zev kX5_read 9 (zvr a :: L) (zvr a :: st) h := e_ld0R (n := 9) rfl
theorem rX5_read : (∀ (a : Option Nat) (L st : List ZV) (h : PH), zev kX5_read 0 (zvr a :: L) st h = zev kX5_read 1 (zvr a :: L) (zvr a :: st) h) ∧
  (∀ (q : Nat) (L st : List ZV) (h : PH), zev kX5_read 1 L (zvr (some q) :: st) h = if (ph_K h q).1 % 1000 = 19 ∧ zcat st ≤ 8 then zk kX5_read 1 4 L st (mX5_go [zvr (some q)] h) else none) ∧
  (∀ (a : Option Nat) (L st : List ZV) (h : PH), zev kX5_read 4 (zvr a :: L) st h = zev kX5_read 5 (zvr a :: L) (zvr a :: st) h) ∧
  (∀ (q : Nat) (L st : List ZV) (h : PH), zev kX5_read 5 L (zvr (some q) :: st) h = if (ph_K h q).1 % 1000 = 19 ∧ zcat st ≤ 8 then zk kX5_read 5 8 L st (mX5_line [zvr (some q)] h) else none) ∧
  (∀ (q : Nat) (L st : List ZV) (h : PH), zev kX5_read 9 L (zvr (some q) :: st) h = if (ph_K h q).1 % 1000 = 19 then zev kX5_read 12 L (zvi (ph_I h q 4) :: st) h else none) ∧
  (∀ (L st : List ZV) (h : PH), zev kX5_read 12 L st h = zev kX5_read 13 L (zvi 4 :: st) h) ∧
  (∀ (a b : Int) (L st : List ZV) (h : PH), zev kX5_read 13 L (zvi b :: zvi a :: st) h = if a ≠ b then zev kX5_read 27 L st h else zev kX5_read 16 L st h) ∧
  (∀ (a : Option Nat) (L st : List ZV) (h : PH), zev kX5_read 16 (zvr a :: L) st h = zev kX5_read 17 (zvr a :: L) (zvr a :: st) h) ∧
  (∀ (q : Nat) (L st : List ZV) (h : PH), zev kX5_read 17 L (zvr (some q) :: st) h = if (ph_K h q).1 % 1000 = 19 ∧ zcat st ≤ 8 then zk kX5_read 17 20 L st (mX5_go [zvr (some q)] h) else none) ∧
  (∀ (a : Option Nat) (L st : List ZV) (h : PH), zev kX5_read 20 (zvr a :: L) st h = zev kX5_read 21 (zvr a :: L) (zvr a :: st) h) ∧
  (∀ (q : Nat) (L st : List ZV) (h : PH), zev kX5_read 21 L (zvr (some q) :: st) h = if (ph_K h q).1 % 1000 = 19 ∧ zcat st ≤ 8 then zk kX5_read 21 24 L st (mX5_line [zvr (some q)] h) else none) ∧
  (∀ (L st : List ZV) (h : PH), zev kX5_read 24 L st h = zev kX5_read 8 L st h) ∧
  (∀ (a : Option Nat) (L st : List ZV) (h : PH), zev kX5_read 27 (zvr a :: L) st h = zev kX5_read 28 (zvr a :: L) (zvr a :: st) h) ∧
  (∀ (a : Option Nat) (L st : List ZV) (h : PH), zev kX5_read 28 (zvr a :: L) st h = zev kX5_read 29 (zvr a :: L) (zvr a :: st) h) ∧
  (∀ (q : Nat) (L st : List ZV) (h : PH), zev kX5_read 29 L (zvr (some q) :: st) h = if (ph_K h q).1 % 1000 = 19 then zev kX5_read 32 L (zvi (ph_I h q 4) :: st) h else none) ∧
  (∀ (L st : List ZV) (h : PH), zev kX5_read 32 L st h = zev kX5_read 33 L (zvi 1 :: st) h) ∧
  (∀ (a b : Int) (L st : List ZV) (h : PH), zev kX5_read 33 L (zvi b :: zvi a :: st) h = if a ≠ b then zev kX5_read 40 L st h else zev kX5_read 36 L st h) ∧
  (∀ (L st : List ZV) (h : PH), zev kX5_read 36 L st h = zev kX5_read 37 L (zvi 1 :: st) h) ∧
  (∀ (L st : List ZV) (h : PH), zev kX5_read 37 L st h = zev kX5_read 41 L st h) ∧
  (∀ (L st : List ZV) (h : PH), zev kX5_read 40 L st h = zev kX5_read 41 L (zvi 0 :: st) h) ∧
  (∀ (L st : List ZV) (h : PH), zev kX5_read 41 L st h = zev kX5_read 42 L (zvi 1 :: st) h) ∧
  (∀ (v0 v1 : ZV) (q : Nat) (L st : List ZV) (h : PH), zev kX5_read 42 L (v1 :: v0 :: zvr (some q) :: st) h = if (ph_K h q).1 % 1000 = 19 ∧ zcat st ≤ 8 then zk kX5_read 42 45 L st (mX5_need [zvr (some q), v0, v1] h) else none) ∧
  (∀ (a : Option Nat) (L st : List ZV) (h : PH), zev kX5_read 45 (zvr a :: L) st h = zev kX5_read 46 (zvr a :: L) (zvr a :: st) h) ∧
  (∀ (a : Option Nat) (L st : List ZV) (h : PH), zev kX5_read 46 (zvr a :: L) st h = zev kX5_read 47 (zvr a :: L) (zvr a :: st) h) ∧
  (∀ (q : Nat) (L st : List ZV) (h : PH), zev kX5_read 47 L (zvr (some q) :: st) h = if (ph_K h q).1 % 1000 = 19 then zev kX5_read 50 L (zvr (ph_R h q 1) :: st) h else none) ∧
  (∀ (q : Nat) (L st : List ZV) (h : PH), zev kX5_read 50 L (zvr (some q) :: st) h = if (ph_K h q).1 % 1000 = 20 then zev kX5_read 53 L (zvr (ph_R h q 2) :: st) h else none) ∧
  (∀ (q : Nat) (L st : List ZV) (h : PH), zev kX5_read 53 L (zvr (some q) :: st) h = if (ph_K h q).1 % 1000 = 29 ∧ zcat st ≤ 8 then zk kX5_read 53 56 L st (mJ7_isEmpty [zvr (some q)] h) else none) ∧
  (∀ (a : Int) (L st : List ZV) (h : PH), zev kX5_read 56 L (zvi a :: st) h = if a ≠ 0 then zev kX5_read 63 L st h else zev kX5_read 59 L st h) ∧
  (∀ (L st : List ZV) (h : PH), zev kX5_read 59 L st h = zev kX5_read 60 L (zvi 1 :: st) h) ∧
  (∀ (L st : List ZV) (h : PH), zev kX5_read 60 L st h = zev kX5_read 64 L st h) ∧
  (∀ (L st : List ZV) (h : PH), zev kX5_read 63 L st h = zev kX5_read 64 L (zvi 0 :: st) h) ∧
  (∀ (L st : List ZV) (h : PH), zev kX5_read 64 L st h = zev kX5_read 66 L (zvi 6 :: st) h) ∧
  (∀ (v0 v1 : ZV) (q : Nat) (L st : List ZV) (h : PH), zev kX5_read 66 L (v1 :: v0 :: zvr (some q) :: st) h = if (ph_K h q).1 % 1000 = 19 ∧ zcat st ≤ 8 then zk kX5_read 66 69 L st (mX5_need [zvr (some q), v0, v1] h) else none) ∧
  (∀ (L st : List ZV) (h : PH), zev kX5_read 69 L st h = zev kX5_read 82 L st h) ∧
  (∀ (x0 x1 : ZV) (a : Option Nat) (L st : List ZV) (h : PH) (hx : zisL x0 = false) , zev kX5_read 72 (x0 :: x1 :: L) (zvr a :: st) h = zev kX5_read 73 (x0 :: zvr a :: L) st h) ∧
  (∀ (L st : List ZV) (h : PH), zev kX5_read 73 L st h = zev kX5_read 76 L (zvr (some (ph_N h)) :: st) (al_ h 26 0 6)) ∧
  (∀ (a : Int) (L st : List ZV) (h : PH), zev kX5_read 76 L (zvi a :: st) h = zev kX5_read 77 L (zvi a :: zvi a :: st) h) ∧
  (∀ (a : Option Nat) (L st : List ZV) (h : PH), zev kX5_read 76 L (zvr a :: st) h = zev kX5_read 77 L (zvr a :: zvr a :: st) h) ∧
  (∀ (x0 : ZV) (a : Option Nat) (L st : List ZV) (h : PH), zev kX5_read 77 (x0 :: zvr a :: L) st h = zev kX5_read 78 (x0 :: zvr a :: L) (zvr a :: st) h) ∧
  (∀ (v0 : ZV) (q : Nat) (L st : List ZV) (h : PH), zev kX5_read 78 L (v0 :: zvr (some q) :: st) h = if (ph_K h q).1 % 1000 = 26 ∧ zcat st ≤ 8 then zk kX5_read 78 81 L st (mX12_init [zvr (some q), v0] h) else none) ∧
  (∀ (q : Nat) (L st : List ZV) (h : PH), zev kX5_read 81 L (zvr (some q) :: st) h = if (ph_K h q).1 ≠ 0 then zk kX5_read 81 0 L [] (zrx q h) else none) ∧
  (∀ (a : Option Nat) (L st : List ZV) (h : PH), zev kX5_read 82 (zvr a :: L) st h = zev kX5_read 83 (zvr a :: L) (zvr a :: st) h) ∧
  (∀ (q : Nat) (L st : List ZV) (h : PH), zev kX5_read 83 L (zvr (some q) :: st) h = if (ph_K h q).1 % 1000 = 19 then zev kX5_read 86 L (zvr (ph_R h q 1) :: st) h else none) ∧
  (∀ (a : Option Nat) (L : List ZV) (h : PH), zev kX5_read 86 L [zvr a] h = zrv (zvr a) h) :=
  ⟨fun a L st h => e_ld0R (n := 1) rfl,
  fun q L st h => e_callV1 (F := mX5_go) (kd := 19) (n := 4) rfl,
  fun a L st h => e_ld0R (n := 5) rfl,
  fun q L st h => e_callV1 (F := mX5_line) (kd := 19) (n := 8) rfl,
  fun q L st h => e_getI (kd := 19) (k := 4) (n := 12) rfl,
  fun L st h => e_push (v := zvi 4) (n := 13) rfl,
  fun a b L st h => e_cmpne (t := 27) (n := 16) rfl,
  fun a L st h => e_ld0R (n := 17) rfl,
  fun q L st h => e_callV1 (F := mX5_go) (kd := 19) (n := 20) rfl,
  fun a L st h => e_ld0R (n := 21) rfl,
  fun q L st h => e_callV1 (F := mX5_line) (kd := 19) (n := 24) rfl,
  fun L st h => e_goto (t := 8) rfl,
  fun a L st h => e_ld0R (n := 28) rfl,
  fun a L st h => e_ld0R (n := 29) rfl,
  fun q L st h => e_getI (kd := 19) (k := 4) (n := 32) rfl,
  fun L st h => e_push (v := zvi 1) (n := 33) rfl,
  fun a b L st h => e_cmpne (t := 40) (n := 36) rfl,
  fun L st h => e_push (v := zvi 1) (n := 37) rfl,
  fun L st h => e_goto (t := 41) rfl,
  fun L st h => e_push (v := zvi 0) (n := 41) rfl,
  fun L st h => e_push (v := zvi 1) (n := 42) rfl,
  fun v0 v1 q L st h => e_callV3 (F := mX5_need) (kd := 19) (n := 45) rfl,
  fun a L st h => e_ld0R (n := 46) rfl,
  fun a L st h => e_ld0R (n := 47) rfl,
  fun q L st h => e_getR (kd := 19) (k := 1) (n := 50) rfl,
  fun q L st h => e_getR (kd := 20) (k := 2) (n := 53) rfl,
  fun q L st h => e_callV1 (F := mJ7_isEmpty) (kd := 29) (n := 56) rfl,
  fun a L st h => e_ifne (t := 63) (n := 59) rfl,
  fun L st h => e_push (v := zvi 1) (n := 60) rfl,
  fun L st h => e_goto (t := 64) rfl,
  fun L st h => e_push (v := zvi 0) (n := 64) rfl,
  fun L st h => e_push (v := zvi 6) (n := 66) rfl,
  fun v0 v1 q L st h => e_callV3 (F := mX5_need) (kd := 19) (n := 69) rfl,
  fun L st h => e_goto (t := 82) rfl,
  fun x0 x1 a L st h hx => e_st1R (n := 73) rfl hx,
  fun L st h => e_new (kd := 26) (sl := 6) (n := 76) rfl,
  fun a L st h => e_dupI (n := 77) rfl,
  fun a L st h => e_dupR (n := 77) rfl,
  fun x0 a L st h => e_ld1R (n := 78) rfl,
  fun v0 q L st h => e_callV2 (F := mX12_init) (kd := 26) (n := 81) rfl,
  fun q L st h => e_throw (n := 0) rfl,
  fun a L st h => e_ld0R (n := 83) rfl,
  fun q L st h => e_getR (kd := 19) (k := 1) (n := 86) rfl,
  fun a L h => e_retR rfl⟩
theorem allX5_read : zall yX5_read cX5_read 2 (some (.object "LinkTimes$Desk")) 11 kX5_read.1 :=
  ⟨k_aload_n dX5_read_0,
  k_callV (y2 := yX5_go) (C := RX5) (T0 := TX5) (ci := 3) dX5_read_1 sndX5_go rfl q473 q475 qs2 q138 q476 (by decide +kernel) ⟨by decide, by decide⟩ (by decide) (by decide),
  k_aload_n dX5_read_4,
  k_callVX (y2 := yX5_line) (C := RX5) (T0 := TX5) (ci := 3) dX5_read_5 sndX5_line rfl q498 q500 qs8 q138 q501 (by decide +kernel) ⟨by decide, by decide⟩ (by decide) (by decide),
  k_aload_n dX5_read_8,
  k_getI (C := RX5) (T := TX5) (N := 8) (ci := 3) (k := 4) (ref := "LinkTimes$Reader") dX5_read_9 rfl in_X5 (by decide) q447 (Or.inl rfl) (fun _ _ _ => rfl),
  k_iconst dX5_read_12,
  k_cmpne (t := 27) dX5_read_13 (by decide),
  k_aload_n dX5_read_16,
  k_callV (y2 := yX5_go) (C := RX5) (T0 := TX5) (ci := 3) dX5_read_17 sndX5_go rfl q473 q475 qs2 q138 q476 (by decide +kernel) ⟨by decide, by decide⟩ (by decide) (by decide),
  k_aload_n dX5_read_20,
  k_callVX (y2 := yX5_line) (C := RX5) (T0 := TX5) (ci := 3) dX5_read_21 sndX5_line rfl q498 q500 qs8 q138 q501 (by decide +kernel) ⟨by decide, by decide⟩ (by decide) (by decide),
  k_goto (t := 8) dX5_read_24 (by decide),
  k_aload_n dX5_read_27,
  k_aload_n dX5_read_28,
  k_getI (C := RX5) (T := TX5) (N := 8) (ci := 3) (k := 4) (ref := "LinkTimes$Reader") dX5_read_29 rfl in_X5 (by decide) q447 (Or.inl rfl) (fun _ _ _ => rfl),
  k_iconst dX5_read_32,
  k_cmpne (t := 40) dX5_read_33 (by decide),
  k_iconst dX5_read_36,
  k_goto (t := 41) dX5_read_37 (by decide),
  k_iconst dX5_read_40,
  k_iconst dX5_read_41,
  k_callV (y2 := yX5_need) (C := RX5) (T0 := TX5) (ci := 3) dX5_read_42 sndX5_need rfl q560 q562 qs11 q138 q563 (by decide +kernel) ⟨by decide, by decide⟩ (by decide) (by decide),
  k_aload_n dX5_read_45,
  k_aload_n dX5_read_46,
  k_getR (C := RX5) (T := TX5) (N := 8) (ci := 3) (k := 1) (ref := "LinkTimes$Reader") dX5_read_47 rfl in_X5 (by decide) q444 (Or.inl rfl) (fun _ _ _ => rfl),
  k_getRN (C := RX6) (T := TX6) (N := 5) (ci := 4) (k := 2) (ref := "LinkTimes$Desk") dX5_read_50 rfl in_X6 (by decide) q424 (Or.inl rfl) (fun _ _ _ => rfl),
  k_callV (y2 := yJ7_isEmpty) (C := RJ7) (T0 := TJ7) (ci := 13) dX5_read_53 sndJ7_isEmpty rfl q906 q907 q908 q141 q909 (by decide +kernel) ⟨by decide, by decide⟩ (by decide) (by decide),
  k_ifne (t := 63) dX5_read_56 (by decide),
  k_iconst dX5_read_59,
  k_goto (t := 64) dX5_read_60 (by decide),
  k_iconst dX5_read_63,
  k_bipush dX5_read_64,
  k_callV (y2 := yX5_need) (C := RX5) (T0 := TX5) (ci := 3) dX5_read_66 sndX5_need rfl q560 q562 qs11 q138 q563 (by decide +kernel) ⟨by decide, by decide⟩ (by decide) (by decide),
  k_goto (t := 82) dX5_read_69 (by decide),
  k_astore_n dX5_read_72,
  k_new (C := RX12) (T := TX12) (N := 6) (ci := 10) dX5_read_73 rfl in_X12 tyX12 tyX12_ok rfl (by decide) q891 q892 q161,
  k_dup dX5_read_76,
  k_aload_n dX5_read_77,
  k_callI (y2 := yX12_init) (C := RX12) (T0 := TX12) (ci := 10) dX5_read_78 sndX12_init rfl q900 q901 q161 q902 rfl (by decide +kernel) ⟨by decide, by decide⟩ (by decide) (by decide),
  k_throw dX5_read_81,
  k_aload_n dX5_read_82,
  k_getR (C := RX5) (T := TX5) (N := 8) (ci := 3) (k := 1) (ref := "LinkTimes$Reader") dX5_read_83 rfl in_X5 (by decide) q444 (Or.inl rfl) (fun _ _ _ => rfl),
  k_aret dX5_read_86 rfl (Or.inl ⟨_, rfl⟩), trivial⟩
theorem sndX5_read : MSound 11 yX5_read (wsW_ yX5_read cX5_read 2 (some (.object "LinkTimes$Desk")) [(27, 69, 72, 67)]) mX5_read := msound_H (by decide) allX5_read
  (fun pc kd t h1 h2 => by
    have h1 : (if 27 ≤ pc ∧ pc < 69 then if kd = 24 then some 72 else some 9999 else none) = some t := h1
    by_cases hp : 27 ≤ pc ∧ pc < 69
    · rw [if_pos hp] at h1
      by_cases hk : kd = 24
      · rw [if_pos hk] at h1
        obtain rfl := Option.some.inj h1
        subst hk
        exact ⟨[], ⟨27, 69, 72, 67⟩, [], 8, RX8, TX8, 8, "LinkTimes$Flaw", rfl, by simp [covers]; omega, by decide, rfl, ⟨rfl, by decide⟩, rfl, q472, q565, fun z hz => by cases hz⟩
      rw [if_neg hk] at h1
      obtain rfl := Option.some.inj h1
      cases h2
    · rw [if_neg hp] at h1; cases h1)
  (fun pc kd h1 x hx => by
    have h1 : (if 27 ≤ pc ∧ pc < 69 then if kd = 24 then some 72 else some 9999 else none) = none := h1
    by_cases hp : 27 ≤ pc ∧ pc < 69
    · rw [if_pos hp] at h1
      by_cases hk : kd = 24
      · rw [if_pos hk] at h1; cases h1
      rw [if_neg hk] at h1
      cases h1
    · have hx : x ∈ [(⟨27, 69, 72, 67⟩ : ExceptionTableEntry)] := hx
      simp only [List.mem_cons, List.not_mem_nil, or_false] at hx
      rcases hx with rfl <;> (simp [covers]; omega))
