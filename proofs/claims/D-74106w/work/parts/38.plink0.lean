/-! Z program: LinkTimes (written by gen/gen_prog.py) -/
set_option maxRecDepth 100000
/-! LinkTimes.<init>()V -/
noncomputable def kX1_init : ZM := ([(0, zi_ld 1 0 1), (1, zi_objI 16 4), (4, zi_ld 1 0 5), (5, zi_push (zvi (-1)) 6), (6, zi_putI 16 1 9), (9, zi_ld 1 0 10), (10, zi_push (zvi 900) 13), (13, zi_newa 2 15), (15, zi_putR 16 2 18), (18, zi_ld 1 0 19), (19, zi_new 31 1 22), (22, zi_dup 23), (23, zi_new 28 0 26), (26, zi_dup 27), (27, zi_callV mX2_init 28 1 30), (30, zi_callV mJ2_init 31 2 33), (33, zi_putR 16 6 36), (36, zi_ld 1 0 37), (37, zi_new 30 3 40), (40, zi_dup 41), (41, zi_push (zvi 10) 43), (43, zi_callV mJ5_init 30 2 46), (46, zi_putR 16 7 49), (49, zi_ld 1 0 50), (50, zi_new 17 9 53), (53, zi_dup 54), (54, zi_ld 1 0 55), (55, zi_callV mX3_init 17 2 58), (58, zi_putR 16 8 61), (61, zi_ld 1 0 62), (62, zi_push (zvi 121) 64), (64, zi_newa 1 66), (66, zi_putR 16 9 69), (69, zi_ld 1 0 70), (70, zi_push (zvi 121) 72), (72, zi_newa 1 74), (74, zi_putR 16 10 77), (77, zi_ld 1 0 78), (78, zi_push (zvi 120) 80), (80, zi_newa 1 82), (82, zi_putR 16 11 85), (85, zi_ld 1 0 86), (86, zi_push (zvi 120) 88), (88, zi_newa 1 90), (90, zi_putR 16 12 93), (93, zi_ld 1 0 94), (94, zi_push (zvi 120) 96), (96, zi_newa 1 98), (98, zi_putR 16 14 101), (101, zi_ld 1 0 102), (102, zi_push (zvi 10) 104), (104, zi_newa 1 106), (106, zi_putR 16 15 109), (109, zi_ld 1 0 110), (110, zi_push (zvi 120) 112), (112, zi_newa 3 114), (114, zi_putR 16 16 117), (117, zi_ret)], fun _ _ => none)
noncomputable def mX1_init : ZF := zrunM kX1_init 1
theorem enX1_init (x0 : Option Nat) (h : PH) : mX1_init [zvr x0] h = zev kX1_init 0 [zvr x0] [] h := zrunM_eq rfl rfl
theorem rX1_init : (∀ (a : Option Nat) (L st : List ZV) (h : PH), zev kX1_init 0 (zvr a :: L) st h = zev kX1_init 1 (zvr a :: L) (zvr a :: st) h) ∧
  (∀ (q : Nat) (L st : List ZV) (h : PH), zev kX1_init 1 L (zvr (some q) :: st) h = if (ph_K h q).1 % 1000 = 16 ∧ zcat st ≤ 8 then zev kX1_init 4 L st h else none) ∧
  (∀ (a : Option Nat) (L st : List ZV) (h : PH), zev kX1_init 4 (zvr a :: L) st h = zev kX1_init 5 (zvr a :: L) (zvr a :: st) h) ∧
  (∀ (L st : List ZV) (h : PH), zev kX1_init 5 L st h = zev kX1_init 6 L (zvi (-1) :: st) h) ∧
  (∀ (a : Int) (q : Nat) (L st : List ZV) (h : PH), zev kX1_init 6 L (zvi a :: zvr (some q) :: st) h = if (ph_K h q).1 = 16 then zev kX1_init 9 L st (st_I h q 1 a) else none) ∧
  (∀ (a : Option Nat) (L st : List ZV) (h : PH), zev kX1_init 9 (zvr a :: L) st h = zev kX1_init 10 (zvr a :: L) (zvr a :: st) h) ∧
  (∀ (L st : List ZV) (h : PH), zev kX1_init 10 L st h = zev kX1_init 13 L (zvi 900 :: st) h) ∧
  (∀ (a : Int) (L st : List ZV) (h : PH), zev kX1_init 13 L (zvi a :: st) h = if 0 ≤ a ∧ a ≤ 100000 then zev kX1_init 15 L (zvr (some (ph_N h)) :: st) (al_ h 2 a.toNat a.toNat) else none) ∧
  (∀ (a : Option Nat) (q : Nat) (L st : List ZV) (h : PH), zev kX1_init 15 L (zvr a :: zvr (some q) :: st) h = if (ph_K h q).1 = 16 then zev kX1_init 18 L st (st_R h q 2 a) else none) ∧
  (∀ (a : Option Nat) (L st : List ZV) (h : PH), zev kX1_init 18 (zvr a :: L) st h = zev kX1_init 19 (zvr a :: L) (zvr a :: st) h) ∧
  (∀ (L st : List ZV) (h : PH), zev kX1_init 19 L st h = zev kX1_init 22 L (zvr (some (ph_N h)) :: st) (al_ h 31 0 1)) ∧
  (∀ (a : Int) (L st : List ZV) (h : PH), zev kX1_init 22 L (zvi a :: st) h = zev kX1_init 23 L (zvi a :: zvi a :: st) h) ∧
  (∀ (a : Option Nat) (L st : List ZV) (h : PH), zev kX1_init 22 L (zvr a :: st) h = zev kX1_init 23 L (zvr a :: zvr a :: st) h) ∧
  (∀ (L st : List ZV) (h : PH), zev kX1_init 23 L st h = zev kX1_init 26 L (zvr (some (ph_N h)) :: st) (al_ h 28 0 0)) ∧
  (∀ (a : Int) (L st : List ZV) (h : PH), zev kX1_init 26 L (zvi a :: st) h = zev kX1_init 27 L (zvi a :: zvi a :: st) h) ∧
  (∀ (a : Option Nat) (L st : List ZV) (h : PH), zev kX1_init 26 L (zvr a :: st) h = zev kX1_init 27 L (zvr a :: zvr a :: st) h) ∧
  (∀ (q : Nat) (L st : List ZV) (h : PH), zev kX1_init 27 L (zvr (some q) :: st) h = if (ph_K h q).1 % 1000 = 28 ∧ zcat st ≤ 8 then zk kX1_init 27 30 L st (mX2_init [zvr (some q)] h) else none) ∧
  (∀ (v0 : ZV) (q : Nat) (L st : List ZV) (h : PH), zev kX1_init 30 L (v0 :: zvr (some q) :: st) h = if (ph_K h q).1 % 1000 = 31 ∧ zcat st ≤ 8 then zk kX1_init 30 33 L st (mJ2_init [zvr (some q), v0] h) else none) ∧
  (∀ (a : Option Nat) (q : Nat) (L st : List ZV) (h : PH), zev kX1_init 33 L (zvr a :: zvr (some q) :: st) h = if (ph_K h q).1 = 16 then zev kX1_init 36 L st (st_R h q 6 a) else none) ∧
  (∀ (a : Option Nat) (L st : List ZV) (h : PH), zev kX1_init 36 (zvr a :: L) st h = zev kX1_init 37 (zvr a :: L) (zvr a :: st) h) ∧
  (∀ (L st : List ZV) (h : PH), zev kX1_init 37 L st h = zev kX1_init 40 L (zvr (some (ph_N h)) :: st) (al_ h 30 0 3)) ∧
  (∀ (a : Int) (L st : List ZV) (h : PH), zev kX1_init 40 L (zvi a :: st) h = zev kX1_init 41 L (zvi a :: zvi a :: st) h) ∧
  (∀ (a : Option Nat) (L st : List ZV) (h : PH), zev kX1_init 40 L (zvr a :: st) h = zev kX1_init 41 L (zvr a :: zvr a :: st) h) ∧
  (∀ (L st : List ZV) (h : PH), zev kX1_init 41 L st h = zev kX1_init 43 L (zvi 10 :: st) h) ∧
  (∀ (v0 : ZV) (q : Nat) (L st : List ZV) (h : PH), zev kX1_init 43 L (v0 :: zvr (some q) :: st) h = if (ph_K h q).1 % 1000 = 30 ∧ zcat st ≤ 8 then zk kX1_init 43 46 L st (mJ5_init [zvr (some q), v0] h) else none) ∧
  (∀ (a : Option Nat) (q : Nat) (L st : List ZV) (h : PH), zev kX1_init 46 L (zvr a :: zvr (some q) :: st) h = if (ph_K h q).1 = 16 then zev kX1_init 49 L st (st_R h q 7 a) else none) ∧
  (∀ (a : Option Nat) (L st : List ZV) (h : PH), zev kX1_init 49 (zvr a :: L) st h = zev kX1_init 50 (zvr a :: L) (zvr a :: st) h) ∧
  (∀ (L st : List ZV) (h : PH), zev kX1_init 50 L st h = zev kX1_init 53 L (zvr (some (ph_N h)) :: st) (al_ h 17 0 9)) ∧
  (∀ (a : Int) (L st : List ZV) (h : PH), zev kX1_init 53 L (zvi a :: st) h = zev kX1_init 54 L (zvi a :: zvi a :: st) h) ∧
  (∀ (a : Option Nat) (L st : List ZV) (h : PH), zev kX1_init 53 L (zvr a :: st) h = zev kX1_init 54 L (zvr a :: zvr a :: st) h) ∧
  (∀ (a : Option Nat) (L st : List ZV) (h : PH), zev kX1_init 54 (zvr a :: L) st h = zev kX1_init 55 (zvr a :: L) (zvr a :: st) h) ∧
  (∀ (v0 : ZV) (q : Nat) (L st : List ZV) (h : PH), zev kX1_init 55 L (v0 :: zvr (some q) :: st) h = if (ph_K h q).1 % 1000 = 17 ∧ zcat st ≤ 8 then zk kX1_init 55 58 L st (mX3_init [zvr (some q), v0] h) else none) ∧
  (∀ (a : Option Nat) (q : Nat) (L st : List ZV) (h : PH), zev kX1_init 58 L (zvr a :: zvr (some q) :: st) h = if (ph_K h q).1 = 16 then zev kX1_init 61 L st (st_R h q 8 a) else none) ∧
  (∀ (a : Option Nat) (L st : List ZV) (h : PH), zev kX1_init 61 (zvr a :: L) st h = zev kX1_init 62 (zvr a :: L) (zvr a :: st) h) ∧
  (∀ (L st : List ZV) (h : PH), zev kX1_init 62 L st h = zev kX1_init 64 L (zvi 121 :: st) h) ∧
  (∀ (a : Int) (L st : List ZV) (h : PH), zev kX1_init 64 L (zvi a :: st) h = if 0 ≤ a ∧ a ≤ 100000 then zev kX1_init 66 L (zvr (some (ph_N h)) :: st) (al_ h 1 a.toNat a.toNat) else none) ∧
  (∀ (a : Option Nat) (q : Nat) (L st : List ZV) (h : PH), zev kX1_init 66 L (zvr a :: zvr (some q) :: st) h = if (ph_K h q).1 = 16 then zev kX1_init 69 L st (st_R h q 9 a) else none) ∧
  (∀ (a : Option Nat) (L st : List ZV) (h : PH), zev kX1_init 69 (zvr a :: L) st h = zev kX1_init 70 (zvr a :: L) (zvr a :: st) h) ∧
  (∀ (L st : List ZV) (h : PH), zev kX1_init 70 L st h = zev kX1_init 72 L (zvi 121 :: st) h) ∧
  (∀ (a : Int) (L st : List ZV) (h : PH), zev kX1_init 72 L (zvi a :: st) h = if 0 ≤ a ∧ a ≤ 100000 then zev kX1_init 74 L (zvr (some (ph_N h)) :: st) (al_ h 1 a.toNat a.toNat) else none) ∧
  (∀ (a : Option Nat) (q : Nat) (L st : List ZV) (h : PH), zev kX1_init 74 L (zvr a :: zvr (some q) :: st) h = if (ph_K h q).1 = 16 then zev kX1_init 77 L st (st_R h q 10 a) else none) ∧
  (∀ (a : Option Nat) (L st : List ZV) (h : PH), zev kX1_init 77 (zvr a :: L) st h = zev kX1_init 78 (zvr a :: L) (zvr a :: st) h) ∧
  (∀ (L st : List ZV) (h : PH), zev kX1_init 78 L st h = zev kX1_init 80 L (zvi 120 :: st) h) ∧
  (∀ (a : Int) (L st : List ZV) (h : PH), zev kX1_init 80 L (zvi a :: st) h = if 0 ≤ a ∧ a ≤ 100000 then zev kX1_init 82 L (zvr (some (ph_N h)) :: st) (al_ h 1 a.toNat a.toNat) else none) ∧
  (∀ (a : Option Nat) (q : Nat) (L st : List ZV) (h : PH), zev kX1_init 82 L (zvr a :: zvr (some q) :: st) h = if (ph_K h q).1 = 16 then zev kX1_init 85 L st (st_R h q 11 a) else none) ∧
  (∀ (a : Option Nat) (L st : List ZV) (h : PH), zev kX1_init 85 (zvr a :: L) st h = zev kX1_init 86 (zvr a :: L) (zvr a :: st) h) ∧
  (∀ (L st : List ZV) (h : PH), zev kX1_init 86 L st h = zev kX1_init 88 L (zvi 120 :: st) h) ∧
  (∀ (a : Int) (L st : List ZV) (h : PH), zev kX1_init 88 L (zvi a :: st) h = if 0 ≤ a ∧ a ≤ 100000 then zev kX1_init 90 L (zvr (some (ph_N h)) :: st) (al_ h 1 a.toNat a.toNat) else none) ∧
  (∀ (a : Option Nat) (q : Nat) (L st : List ZV) (h : PH), zev kX1_init 90 L (zvr a :: zvr (some q) :: st) h = if (ph_K h q).1 = 16 then zev kX1_init 93 L st (st_R h q 12 a) else none) ∧
  (∀ (a : Option Nat) (L st : List ZV) (h : PH), zev kX1_init 93 (zvr a :: L) st h = zev kX1_init 94 (zvr a :: L) (zvr a :: st) h) ∧
  (∀ (L st : List ZV) (h : PH), zev kX1_init 94 L st h = zev kX1_init 96 L (zvi 120 :: st) h) ∧
  (∀ (a : Int) (L st : List ZV) (h : PH), zev kX1_init 96 L (zvi a :: st) h = if 0 ≤ a ∧ a ≤ 100000 then zev kX1_init 98 L (zvr (some (ph_N h)) :: st) (al_ h 1 a.toNat a.toNat) else none) ∧
  (∀ (a : Option Nat) (q : Nat) (L st : List ZV) (h : PH), zev kX1_init 98 L (zvr a :: zvr (some q) :: st) h = if (ph_K h q).1 = 16 then zev kX1_init 101 L st (st_R h q 14 a) else none) ∧
  (∀ (a : Option Nat) (L st : List ZV) (h : PH), zev kX1_init 101 (zvr a :: L) st h = zev kX1_init 102 (zvr a :: L) (zvr a :: st) h) ∧
  (∀ (L st : List ZV) (h : PH), zev kX1_init 102 L st h = zev kX1_init 104 L (zvi 10 :: st) h) ∧
  (∀ (a : Int) (L st : List ZV) (h : PH), zev kX1_init 104 L (zvi a :: st) h = if 0 ≤ a ∧ a ≤ 100000 then zev kX1_init 106 L (zvr (some (ph_N h)) :: st) (al_ h 1 a.toNat a.toNat) else none) ∧
  (∀ (a : Option Nat) (q : Nat) (L st : List ZV) (h : PH), zev kX1_init 106 L (zvr a :: zvr (some q) :: st) h = if (ph_K h q).1 = 16 then zev kX1_init 109 L st (st_R h q 15 a) else none) ∧
  (∀ (a : Option Nat) (L st : List ZV) (h : PH), zev kX1_init 109 (zvr a :: L) st h = zev kX1_init 110 (zvr a :: L) (zvr a :: st) h) ∧
  (∀ (L st : List ZV) (h : PH), zev kX1_init 110 L st h = zev kX1_init 112 L (zvi 120 :: st) h) ∧
  (∀ (a : Int) (L st : List ZV) (h : PH), zev kX1_init 112 L (zvi a :: st) h = if 0 ≤ a ∧ a ≤ 100000 then zev kX1_init 114 L (zvr (some (ph_N h)) :: st) (al_ h 3 a.toNat a.toNat) else none) ∧
  (∀ (a : Option Nat) (q : Nat) (L st : List ZV) (h : PH), zev kX1_init 114 L (zvr a :: zvr (some q) :: st) h = if (ph_K h q).1 = 16 then zev kX1_init 117 L st (st_R h q 16 a) else none) ∧
  (∀ (L : List ZV) (h : PH), zev kX1_init 117 L [] h = zr0 h) :=
  ⟨fun a L st h => e_ld0R (n := 1) rfl,
  fun q L st h => e_objI (kd := 16) (n := 4) rfl,
  fun a L st h => e_ld0R (n := 5) rfl,
  fun L st h => e_push (v := zvi (-1)) (n := 6) rfl,
  fun a q L st h => e_putI (kd := 16) (k := 1) (n := 9) rfl,
  fun a L st h => e_ld0R (n := 10) rfl,
  fun L st h => e_push (v := zvi 900) (n := 13) rfl,
  fun a L st h => e_newa (kd := 2) (n := 15) rfl,
  fun a q L st h => e_putR (kd := 16) (k := 2) (n := 18) rfl,
  fun a L st h => e_ld0R (n := 19) rfl,
  fun L st h => e_new (kd := 31) (sl := 1) (n := 22) rfl,
  fun a L st h => e_dupI (n := 23) rfl,
  fun a L st h => e_dupR (n := 23) rfl,
  fun L st h => e_new (kd := 28) (sl := 0) (n := 26) rfl,
  fun a L st h => e_dupI (n := 27) rfl,
  fun a L st h => e_dupR (n := 27) rfl,
  fun q L st h => e_callV1 (F := mX2_init) (kd := 28) (n := 30) rfl,
  fun v0 q L st h => e_callV2 (F := mJ2_init) (kd := 31) (n := 33) rfl,
  fun a q L st h => e_putR (kd := 16) (k := 6) (n := 36) rfl,
  fun a L st h => e_ld0R (n := 37) rfl,
  fun L st h => e_new (kd := 30) (sl := 3) (n := 40) rfl,
  fun a L st h => e_dupI (n := 41) rfl,
  fun a L st h => e_dupR (n := 41) rfl,
  fun L st h => e_push (v := zvi 10) (n := 43) rfl,
  fun v0 q L st h => e_callV2 (F := mJ5_init) (kd := 30) (n := 46) rfl,
  fun a q L st h => e_putR (kd := 16) (k := 7) (n := 49) rfl,
  fun a L st h => e_ld0R (n := 50) rfl,
  fun L st h => e_new (kd := 17) (sl := 9) (n := 53) rfl,
  fun a L st h => e_dupI (n := 54) rfl,
  fun a L st h => e_dupR (n := 54) rfl,
  fun a L st h => e_ld0R (n := 55) rfl,
  fun v0 q L st h => e_callV2 (F := mX3_init) (kd := 17) (n := 58) rfl,
  fun a q L st h => e_putR (kd := 16) (k := 8) (n := 61) rfl,
  fun a L st h => e_ld0R (n := 62) rfl,
  fun L st h => e_push (v := zvi 121) (n := 64) rfl,
  fun a L st h => e_newa (kd := 1) (n := 66) rfl,
  fun a q L st h => e_putR (kd := 16) (k := 9) (n := 69) rfl,
  fun a L st h => e_ld0R (n := 70) rfl,
  fun L st h => e_push (v := zvi 121) (n := 72) rfl,
  fun a L st h => e_newa (kd := 1) (n := 74) rfl,
  fun a q L st h => e_putR (kd := 16) (k := 10) (n := 77) rfl,
  fun a L st h => e_ld0R (n := 78) rfl,
  fun L st h => e_push (v := zvi 120) (n := 80) rfl,
  fun a L st h => e_newa (kd := 1) (n := 82) rfl,
  fun a q L st h => e_putR (kd := 16) (k := 11) (n := 85) rfl,
  fun a L st h => e_ld0R (n := 86) rfl,
  fun L st h => e_push (v := zvi 120) (n := 88) rfl,
  fun a L st h => e_newa (kd := 1) (n := 90) rfl,
  fun a q L st h => e_putR (kd := 16) (k := 12) (n := 93) rfl,
  fun a L st h => e_ld0R (n := 94) rfl,
  fun L st h => e_push (v := zvi 120) (n := 96) rfl,
  fun a L st h => e_newa (kd := 1) (n := 98) rfl,
  fun a q L st h => e_putR (kd := 16) (k := 14) (n := 101) rfl,
  fun a L st h => e_ld0R (n := 102) rfl,
  fun L st h => e_push (v := zvi 10) (n := 104) rfl,
  fun a L st h => e_newa (kd := 1) (n := 106) rfl,
  fun a q L st h => e_putR (kd := 16) (k := 15) (n := 109) rfl,
  fun a L st h => e_ld0R (n := 110) rfl,
  fun L st h => e_push (v := zvi 120) (n := 112) rfl,
  fun a L st h => e_newa (kd := 3) (n := 114) rfl,
  fun a q L st h => e_putR (kd := 16) (k := 16) (n := 117) rfl,
  fun L h => e_ret rfl⟩
theorem allX1_init : zall yX1_init cX1_init 1 none 6 kX1_init.1 :=
  ⟨k_aload_n dX1_init_0,
  k_objI (C := RX1) (T0 := TX1) (ci := 0) dX1_init_1 rfl q176 q177 q178 (by decide),
  k_aload_n dX1_init_4,
  k_iconst dX1_init_5,
  k_putI (C := RX1) (T := TX1) (N := 19) (ci := 0) (k := 1) (ref := "LinkTimes") dX1_init_6 rfl in_X1 tyX1 tyX1_ok nmX1 (by decide) (Or.inl q302) (Or.inl rfl) (Or.inl rfl) (tyX1_ok 1 (by decide)) (fun _ _ _ => rfl),
  k_aload_n dX1_init_9,
  k_sipush dX1_init_10,
  k_newa (kd := 2) dX1_init_13 (by decide) rfl q188,
  k_putR (C := RX1) (T := TX1) (N := 19) (ci := 0) (k := 2) (ref := "LinkTimes") dX1_init_15 rfl in_X1 tyX1 tyX1_ok nmX1 (by decide) (Or.inl q304) (Or.inl rfl) (Or.inr ⟨rfl, rfl, rfl, q304⟩) (tyX1_ok 2 (by decide)) (Or.inr ⟨_, rfl⟩) (fun _ _ _ => rfl),
  k_aload_n dX1_init_18,
  k_new (C := RJ2) (T := TJ2) (N := 1) (ci := 15) dX1_init_19 rfl in_J2 tyJ2 tyJ2_ok rfl (by decide) q179 q180 q131,
  k_dup dX1_init_22,
  k_new (C := RX2) (T := TX2) (N := 0) (ci := 12) dX1_init_23 rfl in_X2 tyX2 tyX2_ok rfl (by decide) q181 q182 q132,
  k_dup dX1_init_26,
  k_callIN (y2 := yX2_init) (C := RX2) (T0 := TX2) (ci := 12) dX1_init_27 sndX2_init rfl q183 q184 q132 q185 rfl (by decide +kernel) ⟨by decide, by decide⟩ (by decide) (by decide),
  k_callI (y2 := yJ2_init) (C := RJ2) (T0 := TJ2) (ci := 15) dX1_init_30 sndJ2_init rfl q189 q190 q131 q191 rfl (by decide +kernel) ⟨by decide, by decide⟩ (by decide) (by decide),
  k_putR (C := RX1) (T := TX1) (N := 19) (ci := 0) (k := 6) (ref := "LinkTimes") dX1_init_33 rfl in_X1 tyX1 tyX1_ok nmX1 (by decide) (Or.inl q309) (Or.inl rfl) (Or.inr ⟨rfl, rfl, rfl, q309⟩) (tyX1_ok 6 (by decide)) (Or.inl ⟨_, rfl⟩) (fun _ _ _ => rfl),
  k_aload_n dX1_init_36,
  k_new (C := RJ5) (T := TJ5) (N := 3) (ci := 14) dX1_init_37 rfl in_J5 tyJ5 tyJ5_ok rfl (by decide) q238 q239 q135,
  k_dup dX1_init_40,
  k_bipush dX1_init_41,
  k_callI (y2 := yJ5_init) (C := RJ5) (T0 := TJ5) (ci := 14) dX1_init_43 sndJ5_init rfl q240 q241 q135 q242 rfl (by decide +kernel) ⟨by decide, by decide⟩ (by decide) (by decide),
  k_putR (C := RX1) (T := TX1) (N := 19) (ci := 0) (k := 7) (ref := "LinkTimes") dX1_init_46 rfl in_X1 tyX1 tyX1_ok nmX1 (by decide) (Or.inl q310) (Or.inl rfl) (Or.inr ⟨rfl, rfl, rfl, q310⟩) (tyX1_ok 7 (by decide)) (Or.inl ⟨_, rfl⟩) (fun _ _ _ => rfl),
  k_aload_n dX1_init_49,
  k_new (C := RX3) (T := TX3) (N := 9) (ci := 1) dX1_init_50 rfl in_X3 tyX3 tyX3_ok rfl (by decide) q257 q258 q136,
  k_dup dX1_init_53,
  k_aload_n dX1_init_54,
  k_callIN (y2 := yX3_init) (C := RX3) (T0 := TX3) (ci := 1) dX1_init_55 sndX3_init rfl q259 q260 q136 q261 rfl (by decide +kernel) ⟨by decide, by decide⟩ (by decide) (by decide),
  k_putR (C := RX1) (T := TX1) (N := 19) (ci := 0) (k := 8) (ref := "LinkTimes") dX1_init_58 rfl in_X1 tyX1 tyX1_ok nmX1 (by decide) (Or.inl q311) (Or.inl rfl) (Or.inr ⟨rfl, rfl, rfl, q311⟩) (tyX1_ok 8 (by decide)) (Or.inl ⟨_, rfl⟩) (fun _ _ _ => rfl),
  k_aload_n dX1_init_61,
  k_bipush dX1_init_62,
  k_newa (kd := 1) dX1_init_64 (by decide) rfl q300,
  k_putR (C := RX1) (T := TX1) (N := 19) (ci := 0) (k := 9) (ref := "LinkTimes") dX1_init_66 rfl in_X1 tyX1 tyX1_ok nmX1 (by decide) (Or.inl q312) (Or.inl rfl) (Or.inr ⟨rfl, rfl, rfl, q312⟩) (tyX1_ok 9 (by decide)) (Or.inr ⟨_, rfl⟩) (fun _ _ _ => rfl),
  k_aload_n dX1_init_69,
  k_bipush dX1_init_70,
  k_newa (kd := 1) dX1_init_72 (by decide) rfl q300,
  k_putR (C := RX1) (T := TX1) (N := 19) (ci := 0) (k := 10) (ref := "LinkTimes") dX1_init_74 rfl in_X1 tyX1 tyX1_ok nmX1 (by decide) (Or.inl q313) (Or.inl rfl) (Or.inr ⟨rfl, rfl, rfl, q313⟩) (tyX1_ok 10 (by decide)) (Or.inr ⟨_, rfl⟩) (fun _ _ _ => rfl),
  k_aload_n dX1_init_77,
  k_bipush dX1_init_78,
  k_newa (kd := 1) dX1_init_80 (by decide) rfl q300,
  k_putR (C := RX1) (T := TX1) (N := 19) (ci := 0) (k := 11) (ref := "LinkTimes") dX1_init_82 rfl in_X1 tyX1 tyX1_ok nmX1 (by decide) (Or.inl q314) (Or.inl rfl) (Or.inr ⟨rfl, rfl, rfl, q314⟩) (tyX1_ok 11 (by decide)) (Or.inr ⟨_, rfl⟩) (fun _ _ _ => rfl),
  k_aload_n dX1_init_85,
  k_bipush dX1_init_86,
  k_newa (kd := 1) dX1_init_88 (by decide) rfl q300,
  k_putR (C := RX1) (T := TX1) (N := 19) (ci := 0) (k := 12) (ref := "LinkTimes") dX1_init_90 rfl in_X1 tyX1 tyX1_ok nmX1 (by decide) (Or.inl q315) (Or.inl rfl) (Or.inr ⟨rfl, rfl, rfl, q315⟩) (tyX1_ok 12 (by decide)) (Or.inr ⟨_, rfl⟩) (fun _ _ _ => rfl),
  k_aload_n dX1_init_93,
  k_bipush dX1_init_94,
  k_newa (kd := 1) dX1_init_96 (by decide) rfl q300,
  k_putR (C := RX1) (T := TX1) (N := 19) (ci := 0) (k := 14) (ref := "LinkTimes") dX1_init_98 rfl in_X1 tyX1 tyX1_ok nmX1 (by decide) (Or.inl q317) (Or.inl rfl) (Or.inr ⟨rfl, rfl, rfl, q317⟩) (tyX1_ok 14 (by decide)) (Or.inr ⟨_, rfl⟩) (fun _ _ _ => rfl),
  k_aload_n dX1_init_101,
  k_bipush dX1_init_102,
  k_newa (kd := 1) dX1_init_104 (by decide) rfl q300,
  k_putR (C := RX1) (T := TX1) (N := 19) (ci := 0) (k := 15) (ref := "LinkTimes") dX1_init_106 rfl in_X1 tyX1 tyX1_ok nmX1 (by decide) (Or.inl q318) (Or.inl rfl) (Or.inr ⟨rfl, rfl, rfl, q318⟩) (tyX1_ok 15 (by decide)) (Or.inr ⟨_, rfl⟩) (fun _ _ _ => rfl),
  k_aload_n dX1_init_109,
  k_bipush dX1_init_110,
  k_newa (kd := 3) dX1_init_112 (by decide) rfl q361,
  k_putR (C := RX1) (T := TX1) (N := 19) (ci := 0) (k := 16) (ref := "LinkTimes") dX1_init_114 rfl in_X1 tyX1 tyX1_ok nmX1 (by decide) (Or.inl q319) (Or.inl rfl) (Or.inr ⟨rfl, rfl, rfl, q319⟩) (tyX1_ok 16 (by decide)) (Or.inr ⟨_, rfl⟩) (fun _ _ _ => rfl),
  k_ret dX1_init_117, trivial⟩
theorem sndX1_init : MSound 6 yX1_init (ws_ yX1_init cX1_init 1 none) mX1_init := msound_M (by decide) allX1_init (fun _ _ => rfl)
/-! LinkTimes.feedOne(I)V -/
noncomputable def kX1_feedOne : ZM := ([(0, zi_push (zvi 24) 2), (2, zi_st 0 2 3), (3, zi_ld 0 2 4), (4, zi_if (fun a => zc_lt a 0) 36 7), (7, zi_ld 1 0 8), (8, zi_getR 16 2 11), (11, zi_ld 1 0 12), (12, zi_getI 16 3 15), (15, zi_ld 0 1 16), (16, zi_ld 0 2 17), (17, zi_bin zshr 18), (18, zi_un zi2b 19), (19, zi_astB 20), (20, zi_ld 1 0 21), (21, zi_dup 22), (22, zi_getI 16 3 25), (25, zi_push (zvi 1) 26), (26, zi_bin (fun a b => w32 (a + b)) 27), (27, zi_putI 16 3 30), (30, zi_iinc 2 (-8) 33), (33, zi_goto 3), (36, zi_ret)], fun _ _ => none)
noncomputable def mX1_feedOne : ZF := zrunM kX1_feedOne 3
theorem enX1_feedOne (x0 : Option Nat) (x1 : Int) (h : PH) : mX1_feedOne [zvr x0, zvi x1] h = zev kX1_feedOne 0 [zvr x0, zvi x1, zvu] [] h := zrunM_eq rfl rfl
theorem hdX1_feedOne_3 (x0 x1 : ZV) (a : Int) (L st : List ZV) (h : PH) : zev kX1_feedOne 3 (x0 :: x1 :: zvi a :: L) st h = zev kX1_feedOne 4 (x0 :: x1 :: zvi a :: L) (zvi a :: st) h := e_ld2I (n := 4) rfl
theorem rX1_feedOne : (∀ (L st : List ZV) (h : PH), zev kX1_feedOne 0 L st h = zev kX1_feedOne 2 L (zvi 24 :: st) h) ∧
  (∀ (x0 x1 x2 : ZV) (a : Int) (L st : List ZV) (h : PH) (hx : zisL x1 = false) , zev kX1_feedOne 2 (x0 :: x1 :: x2 :: L) (zvi a :: st) h = zev kX1_feedOne 3 (x0 :: x1 :: zvi a :: L) st h) ∧
  (∀ (a : Int) (L st : List ZV) (h : PH), zev kX1_feedOne 4 L (zvi a :: st) h = if a < 0 then zev kX1_feedOne 36 L st h else zev kX1_feedOne 7 L st h) ∧
  (∀ (a : Option Nat) (L st : List ZV) (h : PH), zev kX1_feedOne 7 (zvr a :: L) st h = zev kX1_feedOne 8 (zvr a :: L) (zvr a :: st) h) ∧
  (∀ (q : Nat) (L st : List ZV) (h : PH), zev kX1_feedOne 8 L (zvr (some q) :: st) h = if (ph_K h q).1 % 1000 = 16 then zev kX1_feedOne 11 L (zvr (ph_R h q 2) :: st) h else none) ∧
  (∀ (a : Option Nat) (L st : List ZV) (h : PH), zev kX1_feedOne 11 (zvr a :: L) st h = zev kX1_feedOne 12 (zvr a :: L) (zvr a :: st) h) ∧
  (∀ (q : Nat) (L st : List ZV) (h : PH), zev kX1_feedOne 12 L (zvr (some q) :: st) h = if (ph_K h q).1 % 1000 = 16 then zev kX1_feedOne 15 L (zvi (ph_I h q 3) :: st) h else none) ∧
  (∀ (x0 : ZV) (a : Int) (L st : List ZV) (h : PH), zev kX1_feedOne 15 (x0 :: zvi a :: L) st h = zev kX1_feedOne 16 (x0 :: zvi a :: L) (zvi a :: st) h) ∧
  (∀ (x0 x1 : ZV) (a : Int) (L st : List ZV) (h : PH), zev kX1_feedOne 16 (x0 :: x1 :: zvi a :: L) st h = zev kX1_feedOne 17 (x0 :: x1 :: zvi a :: L) (zvi a :: st) h) ∧
  (∀ (a b : Int) (L st : List ZV) (h : PH), zev kX1_feedOne 17 L (zvi b :: zvi a :: st) h = zev kX1_feedOne 18 L (zvi (zshr a b) :: st) h) ∧
  (∀ (a : Int) (L st : List ZV) (h : PH), zev kX1_feedOne 18 L (zvi a :: st) h = zev kX1_feedOne 19 L (zvi (zi2b a) :: st) h) ∧
  (∀ (x j : Int) (q : Nat) (L st : List ZV) (h : PH), zev kX1_feedOne 19 L (zvi x :: zvi j :: zvr (some q) :: st) h = if (ph_K h q).1 = 2 ∧ 0 ≤ j ∧ j < (ph_K h q).2 then zev kX1_feedOne 20 L st (st_I h q j (zi2b x)) else none) ∧
  (∀ (a : Option Nat) (L st : List ZV) (h : PH), zev kX1_feedOne 20 (zvr a :: L) st h = zev kX1_feedOne 21 (zvr a :: L) (zvr a :: st) h) ∧
  (∀ (a : Int) (L st : List ZV) (h : PH), zev kX1_feedOne 21 L (zvi a :: st) h = zev kX1_feedOne 22 L (zvi a :: zvi a :: st) h) ∧
  (∀ (a : Option Nat) (L st : List ZV) (h : PH), zev kX1_feedOne 21 L (zvr a :: st) h = zev kX1_feedOne 22 L (zvr a :: zvr a :: st) h) ∧
  (∀ (q : Nat) (L st : List ZV) (h : PH), zev kX1_feedOne 22 L (zvr (some q) :: st) h = if (ph_K h q).1 % 1000 = 16 then zev kX1_feedOne 25 L (zvi (ph_I h q 3) :: st) h else none) ∧
  (∀ (L st : List ZV) (h : PH), zev kX1_feedOne 25 L st h = zev kX1_feedOne 26 L (zvi 1 :: st) h) ∧
  (∀ (a b : Int) (L st : List ZV) (h : PH), zev kX1_feedOne 26 L (zvi b :: zvi a :: st) h = zev kX1_feedOne 27 L (zvi (w32 (a + b)) :: st) h) ∧
  (∀ (a : Int) (q : Nat) (L st : List ZV) (h : PH), zev kX1_feedOne 27 L (zvi a :: zvr (some q) :: st) h = if (ph_K h q).1 = 16 then zev kX1_feedOne 30 L st (st_I h q 3 a) else none) ∧
  (∀ (x0 x1 : ZV) (a : Int) (L st : List ZV) (h : PH) (hx : zisL x1 = false) , zev kX1_feedOne 30 (x0 :: x1 :: zvi a :: L) st h = zev kX1_feedOne 33 (x0 :: x1 :: zvi (w32 (a + (-8))) :: L) st h) ∧
  (∀ (L st : List ZV) (h : PH), zev kX1_feedOne 33 L st h = zev kX1_feedOne 3 L st h) ∧
  (∀ (L : List ZV) (h : PH), zev kX1_feedOne 36 L [] h = zr0 h) :=
  ⟨fun L st h => e_push (v := zvi 24) (n := 2) rfl,
  fun x0 x1 x2 a L st h hx => e_st2I (n := 3) rfl hx,
  fun a L st h => e_iflt (t := 36) (n := 7) rfl,
  fun a L st h => e_ld0R (n := 8) rfl,
  fun q L st h => e_getR (kd := 16) (k := 2) (n := 11) rfl,
  fun a L st h => e_ld0R (n := 12) rfl,
  fun q L st h => e_getI (kd := 16) (k := 3) (n := 15) rfl,
  fun x0 a L st h => e_ld1I (n := 16) rfl,
  fun x0 x1 a L st h => e_ld2I (n := 17) rfl,
  fun a b L st h => e_bin (f := zshr) (n := 18) rfl,
  fun a L st h => e_un (g := zi2b) (n := 19) rfl,
  fun x j q L st h => e_astB (n := 20) rfl,
  fun a L st h => e_ld0R (n := 21) rfl,
  fun a L st h => e_dupI (n := 22) rfl,
  fun a L st h => e_dupR (n := 22) rfl,
  fun q L st h => e_getI (kd := 16) (k := 3) (n := 25) rfl,
  fun L st h => e_push (v := zvi 1) (n := 26) rfl,
  fun a b L st h => e_bin (f := (fun a b => w32 (a + b))) (n := 27) rfl,
  fun a q L st h => e_putI (kd := 16) (k := 3) (n := 30) rfl,
  fun x0 x1 a L st h hx => e_iinc2 (d := (-8)) (n := 33) rfl hx,
  fun L st h => e_goto (t := 3) rfl,
  fun L h => e_ret rfl⟩
theorem allX1_feedOne : zall yX1_feedOne cX1_feedOne 3 none 1 kX1_feedOne.1 :=
  ⟨k_bipush dX1_feedOne_0,
  k_istore_n dX1_feedOne_2,
  k_iload_n dX1_feedOne_3,
  k_iflt (t := 36) dX1_feedOne_4 (by decide),
  k_aload_n dX1_feedOne_7,
  k_getR (C := RX1) (T := TX1) (N := 19) (ci := 0) (k := 2) (ref := "LinkTimes") dX1_feedOne_8 rfl in_X1 (by decide) q304 (Or.inl rfl) (fun _ _ _ => rfl),
  k_aload_n dX1_feedOne_11,
  k_getI (C := RX1) (T := TX1) (N := 19) (ci := 0) (k := 3) (ref := "LinkTimes") dX1_feedOne_12 rfl in_X1 (by decide) q305 (Or.inl rfl) (fun _ _ _ => rfl),
  k_iload_n dX1_feedOne_15,
  k_iload_n dX1_feedOne_16,
  k_ishr dX1_feedOne_17,
  k_i2b dX1_feedOne_18,
  k_bast dX1_feedOne_19,
  k_aload_n dX1_feedOne_20,
  k_dup dX1_feedOne_21,
  k_getI (C := RX1) (T := TX1) (N := 19) (ci := 0) (k := 3) (ref := "LinkTimes") dX1_feedOne_22 rfl in_X1 (by decide) q305 (Or.inl rfl) (fun _ _ _ => rfl),
  k_iconst dX1_feedOne_25,
  k_iadd dX1_feedOne_26,
  k_putI (C := RX1) (T := TX1) (N := 19) (ci := 0) (k := 3) (ref := "LinkTimes") dX1_feedOne_27 rfl in_X1 tyX1 tyX1_ok nmX1 (by decide) (Or.inl q305) (Or.inl rfl) (Or.inl rfl) (tyX1_ok 3 (by decide)) (fun _ _ _ => rfl),
  k_iinc dX1_feedOne_30,
  k_goto (t := 3) dX1_feedOne_33 (by decide),
  k_ret dX1_feedOne_36, trivial⟩
theorem sndX1_feedOne : MSound 1 yX1_feedOne (ws_ yX1_feedOne cX1_feedOne 3 none) mX1_feedOne := msound_M (by decide) allX1_feedOne (fun _ _ => rfl)
/-! LinkTimes.feed(IIIII)I -/
noncomputable def kX1_feed : ZM := ([(0, zi_ld 1 0 1), (1, zi_getI 16 3 4), (4, zi_push (zvi 20) 6), (6, zi_bin (fun a b => w32 (a + b)) 7), (7, zi_push (zvi 900) 10), (10, zi_cmp zc_le 15 13), (13, zi_push (zvi (-1)) 14), (14, zi_retv 0), (15, zi_ld 1 0 16), (16, zi_ld 0 1 17), (17, zi_callV mX1_feedOne 16 2 20), (20, zi_ld 1 0 21), (21, zi_ld 0 2 22), (22, zi_callV mX1_feedOne 16 2 25), (25, zi_ld 1 0 26), (26, zi_ld 0 3 27), (27, zi_callV mX1_feedOne 16 2 30), (30, zi_ld 1 0 31), (31, zi_ld 0 4 33), (33, zi_callV mX1_feedOne 16 2 36), (36, zi_ld 1 0 37), (37, zi_ld 0 5 39), (39, zi_callV mX1_feedOne 16 2 42), (42, zi_ld 1 0 43), (43, zi_getI 16 3 46), (46, zi_retv 0)], fun _ _ => none)
noncomputable def mX1_feed : ZF := zrunM kX1_feed 6
theorem enX1_feed (x0 : Option Nat) (x1 : Int) (x2 : Int) (x3 : Int) (x4 : Int) (x5 : Int) (h : PH) : mX1_feed [zvr x0, zvi x1, zvi x2, zvi x3, zvi x4, zvi x5] h = zev kX1_feed 0 [zvr x0, zvi x1, zvi x2, zvi x3, zvi x4, zvi x5] [] h := zrunM_eq rfl rfl
theorem rX1_feed : (∀ (a : Option Nat) (L st : List ZV) (h : PH), zev kX1_feed 0 (zvr a :: L) st h = zev kX1_feed 1 (zvr a :: L) (zvr a :: st) h) ∧
  (∀ (q : Nat) (L st : List ZV) (h : PH), zev kX1_feed 1 L (zvr (some q) :: st) h = if (ph_K h q).1 % 1000 = 16 then zev kX1_feed 4 L (zvi (ph_I h q 3) :: st) h else none) ∧
  (∀ (L st : List ZV) (h : PH), zev kX1_feed 4 L st h = zev kX1_feed 6 L (zvi 20 :: st) h) ∧
  (∀ (a b : Int) (L st : List ZV) (h : PH), zev kX1_feed 6 L (zvi b :: zvi a :: st) h = zev kX1_feed 7 L (zvi (w32 (a + b)) :: st) h) ∧
  (∀ (L st : List ZV) (h : PH), zev kX1_feed 7 L st h = zev kX1_feed 10 L (zvi 900 :: st) h) ∧
  (∀ (a b : Int) (L st : List ZV) (h : PH), zev kX1_feed 10 L (zvi b :: zvi a :: st) h = if a ≤ b then zev kX1_feed 15 L st h else zev kX1_feed 13 L st h) ∧
  (∀ (L st : List ZV) (h : PH), zev kX1_feed 13 L st h = zev kX1_feed 14 L (zvi (-1) :: st) h) ∧
  (∀ (a : Int) (L : List ZV) (h : PH), zev kX1_feed 14 L [zvi a] h = zrv (zvi a) h) ∧
  (∀ (a : Option Nat) (L st : List ZV) (h : PH), zev kX1_feed 15 (zvr a :: L) st h = zev kX1_feed 16 (zvr a :: L) (zvr a :: st) h) ∧
  (∀ (x0 : ZV) (a : Int) (L st : List ZV) (h : PH), zev kX1_feed 16 (x0 :: zvi a :: L) st h = zev kX1_feed 17 (x0 :: zvi a :: L) (zvi a :: st) h) ∧
  (∀ (v0 : ZV) (q : Nat) (L st : List ZV) (h : PH), zev kX1_feed 17 L (v0 :: zvr (some q) :: st) h = if (ph_K h q).1 % 1000 = 16 ∧ zcat st ≤ 8 then zk kX1_feed 17 20 L st (mX1_feedOne [zvr (some q), v0] h) else none) ∧
  (∀ (a : Option Nat) (L st : List ZV) (h : PH), zev kX1_feed 20 (zvr a :: L) st h = zev kX1_feed 21 (zvr a :: L) (zvr a :: st) h) ∧
  (∀ (x0 x1 : ZV) (a : Int) (L st : List ZV) (h : PH), zev kX1_feed 21 (x0 :: x1 :: zvi a :: L) st h = zev kX1_feed 22 (x0 :: x1 :: zvi a :: L) (zvi a :: st) h) ∧
  (∀ (v0 : ZV) (q : Nat) (L st : List ZV) (h : PH), zev kX1_feed 22 L (v0 :: zvr (some q) :: st) h = if (ph_K h q).1 % 1000 = 16 ∧ zcat st ≤ 8 then zk kX1_feed 22 25 L st (mX1_feedOne [zvr (some q), v0] h) else none) ∧
  (∀ (a : Option Nat) (L st : List ZV) (h : PH), zev kX1_feed 25 (zvr a :: L) st h = zev kX1_feed 26 (zvr a :: L) (zvr a :: st) h) ∧
  (∀ (x0 x1 x2 : ZV) (a : Int) (L st : List ZV) (h : PH), zev kX1_feed 26 (x0 :: x1 :: x2 :: zvi a :: L) st h = zev kX1_feed 27 (x0 :: x1 :: x2 :: zvi a :: L) (zvi a :: st) h) ∧
  (∀ (v0 : ZV) (q : Nat) (L st : List ZV) (h : PH), zev kX1_feed 27 L (v0 :: zvr (some q) :: st) h = if (ph_K h q).1 % 1000 = 16 ∧ zcat st ≤ 8 then zk kX1_feed 27 30 L st (mX1_feedOne [zvr (some q), v0] h) else none) ∧
  (∀ (a : Option Nat) (L st : List ZV) (h : PH), zev kX1_feed 30 (zvr a :: L) st h = zev kX1_feed 31 (zvr a :: L) (zvr a :: st) h) ∧
  (∀ (x0 x1 x2 x3 : ZV) (a : Int) (L st : List ZV) (h : PH), zev kX1_feed 31 (x0 :: x1 :: x2 :: x3 :: zvi a :: L) st h = zev kX1_feed 33 (x0 :: x1 :: x2 :: x3 :: zvi a :: L) (zvi a :: st) h) ∧
  (∀ (v0 : ZV) (q : Nat) (L st : List ZV) (h : PH), zev kX1_feed 33 L (v0 :: zvr (some q) :: st) h = if (ph_K h q).1 % 1000 = 16 ∧ zcat st ≤ 8 then zk kX1_feed 33 36 L st (mX1_feedOne [zvr (some q), v0] h) else none) ∧
  (∀ (a : Option Nat) (L st : List ZV) (h : PH), zev kX1_feed 36 (zvr a :: L) st h = zev kX1_feed 37 (zvr a :: L) (zvr a :: st) h) ∧
  (∀ (x0 x1 x2 x3 x4 : ZV) (a : Int) (L st : List ZV) (h : PH), zev kX1_feed 37 (x0 :: x1 :: x2 :: x3 :: x4 :: zvi a :: L) st h = zev kX1_feed 39 (x0 :: x1 :: x2 :: x3 :: x4 :: zvi a :: L) (zvi a :: st) h) ∧
  (∀ (v0 : ZV) (q : Nat) (L st : List ZV) (h : PH), zev kX1_feed 39 L (v0 :: zvr (some q) :: st) h = if (ph_K h q).1 % 1000 = 16 ∧ zcat st ≤ 8 then zk kX1_feed 39 42 L st (mX1_feedOne [zvr (some q), v0] h) else none) ∧
  (∀ (a : Option Nat) (L st : List ZV) (h : PH), zev kX1_feed 42 (zvr a :: L) st h = zev kX1_feed 43 (zvr a :: L) (zvr a :: st) h) ∧
  (∀ (q : Nat) (L st : List ZV) (h : PH), zev kX1_feed 43 L (zvr (some q) :: st) h = if (ph_K h q).1 % 1000 = 16 then zev kX1_feed 46 L (zvi (ph_I h q 3) :: st) h else none) ∧
  (∀ (a : Int) (L : List ZV) (h : PH), zev kX1_feed 46 L [zvi a] h = zrv (zvi a) h) :=
  ⟨fun a L st h => e_ld0R (n := 1) rfl,
  fun q L st h => e_getI (kd := 16) (k := 3) (n := 4) rfl,
  fun L st h => e_push (v := zvi 20) (n := 6) rfl,
  fun a b L st h => e_bin (f := (fun a b => w32 (a + b))) (n := 7) rfl,
  fun L st h => e_push (v := zvi 900) (n := 10) rfl,
  fun a b L st h => e_cmple (t := 15) (n := 13) rfl,
  fun L st h => e_push (v := zvi (-1)) (n := 14) rfl,
  fun a L h => e_retI rfl,
  fun a L st h => e_ld0R (n := 16) rfl,
  fun x0 a L st h => e_ld1I (n := 17) rfl,
  fun v0 q L st h => e_callV2 (F := mX1_feedOne) (kd := 16) (n := 20) rfl,
  fun a L st h => e_ld0R (n := 21) rfl,
  fun x0 x1 a L st h => e_ld2I (n := 22) rfl,
  fun v0 q L st h => e_callV2 (F := mX1_feedOne) (kd := 16) (n := 25) rfl,
  fun a L st h => e_ld0R (n := 26) rfl,
  fun x0 x1 x2 a L st h => e_ld3I (n := 27) rfl,
  fun v0 q L st h => e_callV2 (F := mX1_feedOne) (kd := 16) (n := 30) rfl,
  fun a L st h => e_ld0R (n := 31) rfl,
  fun x0 x1 x2 x3 a L st h => e_ld4I (n := 33) rfl,
  fun v0 q L st h => e_callV2 (F := mX1_feedOne) (kd := 16) (n := 36) rfl,
  fun a L st h => e_ld0R (n := 37) rfl,
  fun x0 x1 x2 x3 x4 a L st h => e_ld5I (n := 39) rfl,
  fun v0 q L st h => e_callV2 (F := mX1_feedOne) (kd := 16) (n := 42) rfl,
  fun a L st h => e_ld0R (n := 43) rfl,
  fun q L st h => e_getI (kd := 16) (k := 3) (n := 46) rfl,
  fun a L h => e_retI rfl⟩
theorem allX1_feed : zall yX1_feed cX1_feed 6 (some .int) 2 kX1_feed.1 :=
  ⟨k_aload_n dX1_feed_0,
  k_getI (C := RX1) (T := TX1) (N := 19) (ci := 0) (k := 3) (ref := "LinkTimes") dX1_feed_1 rfl in_X1 (by decide) q305 (Or.inl rfl) (fun _ _ _ => rfl),
  k_bipush dX1_feed_4,
  k_iadd dX1_feed_6,
  k_sipush dX1_feed_7,
  k_cmple (t := 15) dX1_feed_10 (by decide),
  k_iconst dX1_feed_13,
  k_iret dX1_feed_14,
  k_aload_n dX1_feed_15,
  k_iload_n dX1_feed_16,
  k_callV (y2 := yX1_feedOne) (C := RX1) (T0 := TX1) (ci := 0) dX1_feed_17 sndX1_feedOne rfl q366 q368 qs0 q128 q369 (by decide +kernel) ⟨by decide, by decide⟩ (by decide) (by decide),
  k_aload_n dX1_feed_20,
  k_iload_n dX1_feed_21,
  k_callV (y2 := yX1_feedOne) (C := RX1) (T0 := TX1) (ci := 0) dX1_feed_22 sndX1_feedOne rfl q366 q368 qs0 q128 q369 (by decide +kernel) ⟨by decide, by decide⟩ (by decide) (by decide),
  k_aload_n dX1_feed_25,
  k_iload_n dX1_feed_26,
  k_callV (y2 := yX1_feedOne) (C := RX1) (T0 := TX1) (ci := 0) dX1_feed_27 sndX1_feedOne rfl q366 q368 qs0 q128 q369 (by decide +kernel) ⟨by decide, by decide⟩ (by decide) (by decide),
  k_aload_n dX1_feed_30,
  k_iload dX1_feed_31,
  k_callV (y2 := yX1_feedOne) (C := RX1) (T0 := TX1) (ci := 0) dX1_feed_33 sndX1_feedOne rfl q366 q368 qs0 q128 q369 (by decide +kernel) ⟨by decide, by decide⟩ (by decide) (by decide),
  k_aload_n dX1_feed_36,
  k_iload dX1_feed_37,
  k_callV (y2 := yX1_feedOne) (C := RX1) (T0 := TX1) (ci := 0) dX1_feed_39 sndX1_feedOne rfl q366 q368 qs0 q128 q369 (by decide +kernel) ⟨by decide, by decide⟩ (by decide) (by decide),
  k_aload_n dX1_feed_42,
  k_getI (C := RX1) (T := TX1) (N := 19) (ci := 0) (k := 3) (ref := "LinkTimes") dX1_feed_43 rfl in_X1 (by decide) q305 (Or.inl rfl) (fun _ _ _ => rfl),
  k_iret dX1_feed_46, trivial⟩
theorem sndX1_feed : MSound 2 yX1_feed (ws_ yX1_feed cX1_feed 6 (some .int)) mX1_feed := msound_M (by decide) allX1_feed (fun _ _ => rfl)
/-! LinkTimes.refused(I)I -/
noncomputable def kX1_refused : ZM := ([(0, zi_ld 1 0 1), (1, zi_ld 0 1 2), (2, zi_putI 16 0 5), (5, zi_ld 1 0 6), (6, zi_push (zvi (-1)) 7), (7, zi_putI 16 1 10), (10, zi_push (zvi (-1)) 11), (11, zi_retv 0)], fun _ _ => none)
noncomputable def mX1_refused : ZF := zrunM kX1_refused 2
theorem enX1_refused (x0 : Option Nat) (x1 : Int) (h : PH) : mX1_refused [zvr x0, zvi x1] h = zev kX1_refused 0 [zvr x0, zvi x1] [] h := zrunM_eq rfl rfl
theorem rX1_refused : (∀ (a : Option Nat) (L st : List ZV) (h : PH), zev kX1_refused 0 (zvr a :: L) st h = zev kX1_refused 1 (zvr a :: L) (zvr a :: st) h) ∧
  (∀ (x0 : ZV) (a : Int) (L st : List ZV) (h : PH), zev kX1_refused 1 (x0 :: zvi a :: L) st h = zev kX1_refused 2 (x0 :: zvi a :: L) (zvi a :: st) h) ∧
  (∀ (a : Int) (q : Nat) (L st : List ZV) (h : PH), zev kX1_refused 2 L (zvi a :: zvr (some q) :: st) h = if (ph_K h q).1 = 16 then zev kX1_refused 5 L st (st_I h q 0 a) else none) ∧
  (∀ (a : Option Nat) (L st : List ZV) (h : PH), zev kX1_refused 5 (zvr a :: L) st h = zev kX1_refused 6 (zvr a :: L) (zvr a :: st) h) ∧
  (∀ (L st : List ZV) (h : PH), zev kX1_refused 6 L st h = zev kX1_refused 7 L (zvi (-1) :: st) h) ∧
  (∀ (a : Int) (q : Nat) (L st : List ZV) (h : PH), zev kX1_refused 7 L (zvi a :: zvr (some q) :: st) h = if (ph_K h q).1 = 16 then zev kX1_refused 10 L st (st_I h q 1 a) else none) ∧
  (∀ (L st : List ZV) (h : PH), zev kX1_refused 10 L st h = zev kX1_refused 11 L (zvi (-1) :: st) h) ∧
  (∀ (a : Int) (L : List ZV) (h : PH), zev kX1_refused 11 L [zvi a] h = zrv (zvi a) h) :=
  ⟨fun a L st h => e_ld0R (n := 1) rfl,
  fun x0 a L st h => e_ld1I (n := 2) rfl,
  fun a q L st h => e_putI (kd := 16) (k := 0) (n := 5) rfl,
  fun a L st h => e_ld0R (n := 6) rfl,
  fun L st h => e_push (v := zvi (-1)) (n := 7) rfl,
  fun a q L st h => e_putI (kd := 16) (k := 1) (n := 10) rfl,
  fun L st h => e_push (v := zvi (-1)) (n := 11) rfl,
  fun a L h => e_retI rfl⟩
theorem allX1_refused : zall yX1_refused cX1_refused 2 (some .int) 1 kX1_refused.1 :=
  ⟨k_aload_n dX1_refused_0,
  k_iload_n dX1_refused_1,
  k_putI (C := RX1) (T := TX1) (N := 19) (ci := 0) (k := 0) (ref := "LinkTimes") dX1_refused_2 rfl in_X1 tyX1 tyX1_ok nmX1 (by decide) (Or.inl q301) (Or.inl rfl) (Or.inl rfl) (tyX1_ok 0 (by decide)) (fun _ _ _ => rfl),
  k_aload_n dX1_refused_5,
  k_iconst dX1_refused_6,
  k_putI (C := RX1) (T := TX1) (N := 19) (ci := 0) (k := 1) (ref := "LinkTimes") dX1_refused_7 rfl in_X1 tyX1 tyX1_ok nmX1 (by decide) (Or.inl q302) (Or.inl rfl) (Or.inl rfl) (tyX1_ok 1 (by decide)) (fun _ _ _ => rfl),
  k_iconst dX1_refused_10,
  k_iret dX1_refused_11, trivial⟩
theorem sndX1_refused : MSound 1 yX1_refused (ws_ yX1_refused cX1_refused 2 (some .int)) mX1_refused := msound_M (by decide) allX1_refused (fun _ _ => rfl)
/-! LinkTimes.fine(I)I -/
noncomputable def kX1_fine : ZM := ([(0, zi_ld 1 0 1), (1, zi_push (zvi 0) 2), (2, zi_putI 16 0 5), (5, zi_ld 1 0 6), (6, zi_push (zvi (-1)) 7), (7, zi_putI 16 1 10), (10, zi_ld 0 1 11), (11, zi_retv 0)], fun _ _ => none)
noncomputable def mX1_fine : ZF := zrunM kX1_fine 2
theorem enX1_fine (x0 : Option Nat) (x1 : Int) (h : PH) : mX1_fine [zvr x0, zvi x1] h = zev kX1_fine 0 [zvr x0, zvi x1] [] h := zrunM_eq rfl rfl
theorem rX1_fine : (∀ (a : Option Nat) (L st : List ZV) (h : PH), zev kX1_fine 0 (zvr a :: L) st h = zev kX1_fine 1 (zvr a :: L) (zvr a :: st) h) ∧
  (∀ (L st : List ZV) (h : PH), zev kX1_fine 1 L st h = zev kX1_fine 2 L (zvi 0 :: st) h) ∧
  (∀ (a : Int) (q : Nat) (L st : List ZV) (h : PH), zev kX1_fine 2 L (zvi a :: zvr (some q) :: st) h = if (ph_K h q).1 = 16 then zev kX1_fine 5 L st (st_I h q 0 a) else none) ∧
  (∀ (a : Option Nat) (L st : List ZV) (h : PH), zev kX1_fine 5 (zvr a :: L) st h = zev kX1_fine 6 (zvr a :: L) (zvr a :: st) h) ∧
  (∀ (L st : List ZV) (h : PH), zev kX1_fine 6 L st h = zev kX1_fine 7 L (zvi (-1) :: st) h) ∧
  (∀ (a : Int) (q : Nat) (L st : List ZV) (h : PH), zev kX1_fine 7 L (zvi a :: zvr (some q) :: st) h = if (ph_K h q).1 = 16 then zev kX1_fine 10 L st (st_I h q 1 a) else none) ∧
  (∀ (x0 : ZV) (a : Int) (L st : List ZV) (h : PH), zev kX1_fine 10 (x0 :: zvi a :: L) st h = zev kX1_fine 11 (x0 :: zvi a :: L) (zvi a :: st) h) ∧
  (∀ (a : Int) (L : List ZV) (h : PH), zev kX1_fine 11 L [zvi a] h = zrv (zvi a) h) :=
  ⟨fun a L st h => e_ld0R (n := 1) rfl,
  fun L st h => e_push (v := zvi 0) (n := 2) rfl,
  fun a q L st h => e_putI (kd := 16) (k := 0) (n := 5) rfl,
  fun a L st h => e_ld0R (n := 6) rfl,
  fun L st h => e_push (v := zvi (-1)) (n := 7) rfl,
  fun a q L st h => e_putI (kd := 16) (k := 1) (n := 10) rfl,
  fun x0 a L st h => e_ld1I (n := 11) rfl,
  fun a L h => e_retI rfl⟩
theorem allX1_fine : zall yX1_fine cX1_fine 2 (some .int) 1 kX1_fine.1 :=
  ⟨k_aload_n dX1_fine_0,
  k_iconst dX1_fine_1,
  k_putI (C := RX1) (T := TX1) (N := 19) (ci := 0) (k := 0) (ref := "LinkTimes") dX1_fine_2 rfl in_X1 tyX1 tyX1_ok nmX1 (by decide) (Or.inl q301) (Or.inl rfl) (Or.inl rfl) (tyX1_ok 0 (by decide)) (fun _ _ _ => rfl),
  k_aload_n dX1_fine_5,
  k_iconst dX1_fine_6,
  k_putI (C := RX1) (T := TX1) (N := 19) (ci := 0) (k := 1) (ref := "LinkTimes") dX1_fine_7 rfl in_X1 tyX1 tyX1_ok nmX1 (by decide) (Or.inl q302) (Or.inl rfl) (Or.inl rfl) (tyX1_ok 1 (by decide)) (fun _ _ _ => rfl),
  k_iload_n dX1_fine_10,
  k_iret dX1_fine_11, trivial⟩
theorem sndX1_fine : MSound 1 yX1_fine (ws_ yX1_fine cX1_fine 2 (some .int)) mX1_fine := msound_M (by decide) allX1_fine (fun _ _ => rfl)
/-! LinkTimes.desk(I)I -/
noncomputable def kX1_desk : ZM := ([(0, zi_ld 0 1 1), (1, zi_push (zvi 0) 2), (2, zi_ld 1 0 3), (3, zi_getI 16 3 6), (6, zi_callS mX1_isIn 3 9), (9, zi_if (fun a => zc_ne a 0) 18 12), (12, zi_ld 1 0 13), (13, zi_push (zvi 2) 14), (14, zi_callV mX1_refused 16 2 17), (17, zi_retv 0), (18, zi_ld 1 0 19), (19, zi_push (zvi 0) 20), (20, zi_putI 16 4 23), (23, zi_ld 1 0 24), (24, zi_push (zvi 0) 25), (25, zi_putI 16 3 28), (28, zi_ld 1 0 29), (29, zi_new 19 8 32), (32, zi_dup 33), (33, zi_ld 1 0 34), (34, zi_ld 0 1 35), (35, zi_callV mX5_init 19 3 38), (38, zi_callV mX5_read 19 1 41), (41, zi_putR 16 5 44), (44, zi_goto 80), (47, zi_st 1 2 48), (48, zi_ld 1 2 49), (49, zi_callV mGC 26 1 52), (52, zi_cast zokTrb 55), (55, zi_st 1 3 56), (56, zi_ld 1 0 57), (57, zi_ld 1 3 58), (58, zi_getI2 0 61), (61, zi_putI 16 4 64), (64, zi_ld 1 0 65), (65, zi_push (zvi 4) 66), (66, zi_callV mX1_refused 16 2 69), (69, zi_pop 70), (70, zi_ld 1 0 71), (71, zi_ld 1 3 72), (72, zi_getI2 1 75), (75, zi_putI 16 1 78), (78, zi_push (zvi (-1)) 79), (79, zi_retv 0), (80, zi_ld 1 0 81), (81, zi_getR 16 7 84), (84, zi_callV mJ5_clear 30 1 87), (87, zi_ld 1 0 88), (88, zi_getR 16 6 91), (91, zi_callV mJ2_clear 31 1 94), (94, zi_push (zvi 0) 95), (95, zi_st 0 2 96), (96, zi_ld 0 2 97), (97, zi_ld 1 0 98), (98, zi_getR 16 5 101), (101, zi_getR 20 4 104), (104, zi_callV mJ7_size 29 1 107), (107, zi_cmp zc_ge 138 110), (110, zi_ld 1 0 111), (111, zi_getR 16 6 114), (114, zi_ld 1 0 115), (115, zi_getR 16 5 118), (118, zi_getR 20 4 121), (121, zi_ld 0 2 122), (122, zi_callV mJ7_get 29 2 125), (125, zi_cast zokDep 128), (128, zi_callV mJ2_add 31 2 131), (131, zi_pop 132), (132, zi_iinc 2 1 135), (135, zi_goto 96), (138, zi_ld 1 0 139), (139, zi_ld 1 0 140), (140, zi_getR 16 5 143), (143, zi_getR 20 4 146), (146, zi_callV mJ7_size 29 1 149), (149, zi_callV mX1_fine 16 2 152), (152, zi_retv 0)], fun pc kd => if 28 ≤ pc ∧ pc < 44 then if kd = 26 then some 47 else some 9999 else none)
noncomputable def mX1_desk : ZF := zrunM kX1_desk 4
theorem enX1_desk (x0 : Option Nat) (x1 : Int) (h : PH) : mX1_desk [zvr x0, zvi x1] h = zev kX1_desk 0 [zvr x0, zvi x1, zvu, zvu] [] h := zrunM_eq rfl rfl
theorem hdX1_desk_96 (x0 x1 : ZV) (a : Int) (L st : List ZV) (h : PH) : zev kX1_desk 96 (x0 :: x1 :: zvi a :: L) st h = zev kX1_desk 97 (x0 :: x1 :: zvi a :: L) (zvi a :: st) h := e_ld2I (n := 97) rfl
theorem rX1_desk : (∀ (x0 : ZV) (a : Int) (L st : List ZV) (h : PH), zev kX1_desk 0 (x0 :: zvi a :: L) st h = zev kX1_desk 1 (x0 :: zvi a :: L) (zvi a :: st) h) ∧
  (∀ (L st : List ZV) (h : PH), zev kX1_desk 1 L st h = zev kX1_desk 2 L (zvi 0 :: st) h) ∧
  (∀ (a : Option Nat) (L st : List ZV) (h : PH), zev kX1_desk 2 (zvr a :: L) st h = zev kX1_desk 3 (zvr a :: L) (zvr a :: st) h) ∧
  (∀ (q : Nat) (L st : List ZV) (h : PH), zev kX1_desk 3 L (zvr (some q) :: st) h = if (ph_K h q).1 % 1000 = 16 then zev kX1_desk 6 L (zvi (ph_I h q 3) :: st) h else none) ∧
  (∀ (v0 v1 v2 : ZV) (L st : List ZV) (h : PH), zev kX1_desk 6 L (v2 :: v1 :: v0 :: st) h = if zcat st ≤ 8 then zk kX1_desk 6 9 L st (mX1_isIn [v0, v1, v2] h) else none) ∧
  (∀ (a : Int) (L st : List ZV) (h : PH), zev kX1_desk 9 L (zvi a :: st) h = if a ≠ 0 then zev kX1_desk 18 L st h else zev kX1_desk 12 L st h) ∧
  (∀ (a : Option Nat) (L st : List ZV) (h : PH), zev kX1_desk 12 (zvr a :: L) st h = zev kX1_desk 13 (zvr a :: L) (zvr a :: st) h) ∧
  (∀ (L st : List ZV) (h : PH), zev kX1_desk 13 L st h = zev kX1_desk 14 L (zvi 2 :: st) h) ∧
  (∀ (v0 : ZV) (q : Nat) (L st : List ZV) (h : PH), zev kX1_desk 14 L (v0 :: zvr (some q) :: st) h = if (ph_K h q).1 % 1000 = 16 ∧ zcat st ≤ 8 then zk kX1_desk 14 17 L st (mX1_refused [zvr (some q), v0] h) else none) ∧
  (∀ (a : Int) (L : List ZV) (h : PH), zev kX1_desk 17 L [zvi a] h = zrv (zvi a) h) ∧
  (∀ (a : Option Nat) (L st : List ZV) (h : PH), zev kX1_desk 18 (zvr a :: L) st h = zev kX1_desk 19 (zvr a :: L) (zvr a :: st) h) ∧
  (∀ (L st : List ZV) (h : PH), zev kX1_desk 19 L st h = zev kX1_desk 20 L (zvi 0 :: st) h) ∧
  (∀ (a : Int) (q : Nat) (L st : List ZV) (h : PH), zev kX1_desk 20 L (zvi a :: zvr (some q) :: st) h = if (ph_K h q).1 = 16 then zev kX1_desk 23 L st (st_I h q 4 a) else none) ∧
  (∀ (a : Option Nat) (L st : List ZV) (h : PH), zev kX1_desk 23 (zvr a :: L) st h = zev kX1_desk 24 (zvr a :: L) (zvr a :: st) h) ∧
  (∀ (L st : List ZV) (h : PH), zev kX1_desk 24 L st h = zev kX1_desk 25 L (zvi 0 :: st) h) ∧
  (∀ (a : Int) (q : Nat) (L st : List ZV) (h : PH), zev kX1_desk 25 L (zvi a :: zvr (some q) :: st) h = if (ph_K h q).1 = 16 then zev kX1_desk 28 L st (st_I h q 3 a) else none) ∧
  (∀ (a : Option Nat) (L st : List ZV) (h : PH), zev kX1_desk 28 (zvr a :: L) st h = zev kX1_desk 29 (zvr a :: L) (zvr a :: st) h) ∧
  (∀ (L st : List ZV) (h : PH), zev kX1_desk 29 L st h = zev kX1_desk 32 L (zvr (some (ph_N h)) :: st) (al_ h 19 0 8)) ∧
  (∀ (a : Int) (L st : List ZV) (h : PH), zev kX1_desk 32 L (zvi a :: st) h = zev kX1_desk 33 L (zvi a :: zvi a :: st) h) ∧
  (∀ (a : Option Nat) (L st : List ZV) (h : PH), zev kX1_desk 32 L (zvr a :: st) h = zev kX1_desk 33 L (zvr a :: zvr a :: st) h) ∧
  (∀ (a : Option Nat) (L st : List ZV) (h : PH), zev kX1_desk 33 (zvr a :: L) st h = zev kX1_desk 34 (zvr a :: L) (zvr a :: st) h) ∧
  (∀ (x0 : ZV) (a : Int) (L st : List ZV) (h : PH), zev kX1_desk 34 (x0 :: zvi a :: L) st h = zev kX1_desk 35 (x0 :: zvi a :: L) (zvi a :: st) h) ∧
  (∀ (v0 v1 : ZV) (q : Nat) (L st : List ZV) (h : PH), zev kX1_desk 35 L (v1 :: v0 :: zvr (some q) :: st) h = if (ph_K h q).1 % 1000 = 19 ∧ zcat st ≤ 8 then zk kX1_desk 35 38 L st (mX5_init [zvr (some q), v0, v1] h) else none) ∧
  (∀ (q : Nat) (L st : List ZV) (h : PH), zev kX1_desk 38 L (zvr (some q) :: st) h = if (ph_K h q).1 % 1000 = 19 ∧ zcat st ≤ 8 then zk kX1_desk 38 41 L st (mX5_read [zvr (some q)] h) else none) ∧
  (∀ (a : Option Nat) (q : Nat) (L st : List ZV) (h : PH), zev kX1_desk 41 L (zvr a :: zvr (some q) :: st) h = if (ph_K h q).1 = 16 then zev kX1_desk 44 L st (st_R h q 5 a) else none) ∧
  (∀ (L st : List ZV) (h : PH), zev kX1_desk 44 L st h = zev kX1_desk 80 L st h) ∧
  (∀ (x0 x1 x2 : ZV) (a : Option Nat) (L st : List ZV) (h : PH) (hx : zisL x1 = false) , zev kX1_desk 47 (x0 :: x1 :: x2 :: L) (zvr a :: st) h = zev kX1_desk 48 (x0 :: x1 :: zvr a :: L) st h) ∧
  (∀ (x0 x1 : ZV) (a : Option Nat) (L st : List ZV) (h : PH), zev kX1_desk 48 (x0 :: x1 :: zvr a :: L) st h = zev kX1_desk 49 (x0 :: x1 :: zvr a :: L) (zvr a :: st) h) ∧
  (∀ (q : Nat) (L st : List ZV) (h : PH), zev kX1_desk 49 L (zvr (some q) :: st) h = if (ph_K h q).1 % 1000 = 26 ∧ zcat st ≤ 8 then zk kX1_desk 49 52 L st (mGC [zvr (some q)] h) else none) ∧
  (∀ (L st : List ZV) (h : PH), zev kX1_desk 52 L (zvr none :: st) h = zev kX1_desk 55 L (zvr none :: st) h) ∧
  (∀ (q : Nat) (L st : List ZV) (h : PH), zev kX1_desk 52 L (zvr (some q) :: st) h = if zokTrb (ph_K h q).1 = true then zev kX1_desk 55 L (zvr (some q) :: st) h else none) ∧
  (∀ (x0 x1 x2 x3 : ZV) (a : Option Nat) (L st : List ZV) (h : PH) (hx : zisL x2 = false) , zev kX1_desk 55 (x0 :: x1 :: x2 :: x3 :: L) (zvr a :: st) h = zev kX1_desk 56 (x0 :: x1 :: x2 :: zvr a :: L) st h) ∧
  (∀ (a : Option Nat) (L st : List ZV) (h : PH), zev kX1_desk 56 (zvr a :: L) st h = zev kX1_desk 57 (zvr a :: L) (zvr a :: st) h) ∧
  (∀ (x0 x1 x2 : ZV) (a : Option Nat) (L st : List ZV) (h : PH), zev kX1_desk 57 (x0 :: x1 :: x2 :: zvr a :: L) st h = zev kX1_desk 58 (x0 :: x1 :: x2 :: zvr a :: L) (zvr a :: st) h) ∧
  (∀ (q : Nat) (L st : List ZV) (h : PH), zev kX1_desk 58 L (zvr (some q) :: st) h = if (ph_K h q).1 = 24 ∨ (ph_K h q).1 = 25 then zev kX1_desk 61 L (zvi (ph_I h q 0) :: st) h else none) ∧
  (∀ (a : Int) (q : Nat) (L st : List ZV) (h : PH), zev kX1_desk 61 L (zvi a :: zvr (some q) :: st) h = if (ph_K h q).1 = 16 then zev kX1_desk 64 L st (st_I h q 4 a) else none) ∧
  (∀ (a : Option Nat) (L st : List ZV) (h : PH), zev kX1_desk 64 (zvr a :: L) st h = zev kX1_desk 65 (zvr a :: L) (zvr a :: st) h) ∧
  (∀ (L st : List ZV) (h : PH), zev kX1_desk 65 L st h = zev kX1_desk 66 L (zvi 4 :: st) h) ∧
  (∀ (v0 : ZV) (q : Nat) (L st : List ZV) (h : PH), zev kX1_desk 66 L (v0 :: zvr (some q) :: st) h = if (ph_K h q).1 % 1000 = 16 ∧ zcat st ≤ 8 then zk kX1_desk 66 69 L st (mX1_refused [zvr (some q), v0] h) else none) ∧
  (∀ (a : Int) (L st : List ZV) (h : PH), zev kX1_desk 69 L (zvi a :: st) h = zev kX1_desk 70 L st h) ∧
  (∀ (a : Option Nat) (L st : List ZV) (h : PH), zev kX1_desk 69 L (zvr a :: st) h = zev kX1_desk 70 L st h) ∧
  (∀ (a : Option Nat) (L st : List ZV) (h : PH), zev kX1_desk 70 (zvr a :: L) st h = zev kX1_desk 71 (zvr a :: L) (zvr a :: st) h) ∧
  (∀ (x0 x1 x2 : ZV) (a : Option Nat) (L st : List ZV) (h : PH), zev kX1_desk 71 (x0 :: x1 :: x2 :: zvr a :: L) st h = zev kX1_desk 72 (x0 :: x1 :: x2 :: zvr a :: L) (zvr a :: st) h) ∧
  (∀ (q : Nat) (L st : List ZV) (h : PH), zev kX1_desk 72 L (zvr (some q) :: st) h = if (ph_K h q).1 = 24 ∨ (ph_K h q).1 = 25 then zev kX1_desk 75 L (zvi (ph_I h q 1) :: st) h else none) ∧
  (∀ (a : Int) (q : Nat) (L st : List ZV) (h : PH), zev kX1_desk 75 L (zvi a :: zvr (some q) :: st) h = if (ph_K h q).1 = 16 then zev kX1_desk 78 L st (st_I h q 1 a) else none) ∧
  (∀ (L st : List ZV) (h : PH), zev kX1_desk 78 L st h = zev kX1_desk 79 L (zvi (-1) :: st) h) ∧
  (∀ (a : Int) (L : List ZV) (h : PH), zev kX1_desk 79 L [zvi a] h = zrv (zvi a) h) ∧
  (∀ (a : Option Nat) (L st : List ZV) (h : PH), zev kX1_desk 80 (zvr a :: L) st h = zev kX1_desk 81 (zvr a :: L) (zvr a :: st) h) ∧
  (∀ (q : Nat) (L st : List ZV) (h : PH), zev kX1_desk 81 L (zvr (some q) :: st) h = if (ph_K h q).1 % 1000 = 16 then zev kX1_desk 84 L (zvr (ph_R h q 7) :: st) h else none) ∧
  (∀ (q : Nat) (L st : List ZV) (h : PH), zev kX1_desk 84 L (zvr (some q) :: st) h = if (ph_K h q).1 % 1000 = 30 ∧ zcat st ≤ 8 then zk kX1_desk 84 87 L st (mJ5_clear [zvr (some q)] h) else none) ∧
  (∀ (a : Option Nat) (L st : List ZV) (h : PH), zev kX1_desk 87 (zvr a :: L) st h = zev kX1_desk 88 (zvr a :: L) (zvr a :: st) h) ∧
  (∀ (q : Nat) (L st : List ZV) (h : PH), zev kX1_desk 88 L (zvr (some q) :: st) h = if (ph_K h q).1 % 1000 = 16 then zev kX1_desk 91 L (zvr (ph_R h q 6) :: st) h else none) ∧
  (∀ (q : Nat) (L st : List ZV) (h : PH), zev kX1_desk 91 L (zvr (some q) :: st) h = if (ph_K h q).1 % 1000 = 31 ∧ zcat st ≤ 8 then zk kX1_desk 91 94 L st (mJ2_clear [zvr (some q)] h) else none) ∧
  (∀ (L st : List ZV) (h : PH), zev kX1_desk 94 L st h = zev kX1_desk 95 L (zvi 0 :: st) h) ∧
  (∀ (x0 x1 x2 : ZV) (a : Int) (L st : List ZV) (h : PH) (hx : zisL x1 = false) , zev kX1_desk 95 (x0 :: x1 :: x2 :: L) (zvi a :: st) h = zev kX1_desk 96 (x0 :: x1 :: zvi a :: L) st h) ∧
  (∀ (a : Option Nat) (L st : List ZV) (h : PH), zev kX1_desk 97 (zvr a :: L) st h = zev kX1_desk 98 (zvr a :: L) (zvr a :: st) h) ∧
  (∀ (q : Nat) (L st : List ZV) (h : PH), zev kX1_desk 98 L (zvr (some q) :: st) h = if (ph_K h q).1 % 1000 = 16 then zev kX1_desk 101 L (zvr (ph_R h q 5) :: st) h else none) ∧
  (∀ (q : Nat) (L st : List ZV) (h : PH), zev kX1_desk 101 L (zvr (some q) :: st) h = if (ph_K h q).1 % 1000 = 20 then zev kX1_desk 104 L (zvr (ph_R h q 4) :: st) h else none) ∧
  (∀ (q : Nat) (L st : List ZV) (h : PH), zev kX1_desk 104 L (zvr (some q) :: st) h = if (ph_K h q).1 % 1000 = 29 ∧ zcat st ≤ 8 then zk kX1_desk 104 107 L st (mJ7_size [zvr (some q)] h) else none) ∧
  (∀ (a b : Int) (L st : List ZV) (h : PH), zev kX1_desk 107 L (zvi b :: zvi a :: st) h = if a ≥ b then zev kX1_desk 138 L st h else zev kX1_desk 110 L st h) ∧
  (∀ (a : Option Nat) (L st : List ZV) (h : PH), zev kX1_desk 110 (zvr a :: L) st h = zev kX1_desk 111 (zvr a :: L) (zvr a :: st) h) ∧
  (∀ (q : Nat) (L st : List ZV) (h : PH), zev kX1_desk 111 L (zvr (some q) :: st) h = if (ph_K h q).1 % 1000 = 16 then zev kX1_desk 114 L (zvr (ph_R h q 6) :: st) h else none) ∧
  (∀ (a : Option Nat) (L st : List ZV) (h : PH), zev kX1_desk 114 (zvr a :: L) st h = zev kX1_desk 115 (zvr a :: L) (zvr a :: st) h) ∧
  (∀ (q : Nat) (L st : List ZV) (h : PH), zev kX1_desk 115 L (zvr (some q) :: st) h = if (ph_K h q).1 % 1000 = 16 then zev kX1_desk 118 L (zvr (ph_R h q 5) :: st) h else none) ∧
  (∀ (q : Nat) (L st : List ZV) (h : PH), zev kX1_desk 118 L (zvr (some q) :: st) h = if (ph_K h q).1 % 1000 = 20 then zev kX1_desk 121 L (zvr (ph_R h q 4) :: st) h else none) ∧
  (∀ (x0 x1 : ZV) (a : Int) (L st : List ZV) (h : PH), zev kX1_desk 121 (x0 :: x1 :: zvi a :: L) st h = zev kX1_desk 122 (x0 :: x1 :: zvi a :: L) (zvi a :: st) h) ∧
  (∀ (v0 : ZV) (q : Nat) (L st : List ZV) (h : PH), zev kX1_desk 122 L (v0 :: zvr (some q) :: st) h = if (ph_K h q).1 % 1000 = 29 ∧ zcat st ≤ 8 then zk kX1_desk 122 125 L st (mJ7_get [zvr (some q), v0] h) else none) ∧
  (∀ (L st : List ZV) (h : PH), zev kX1_desk 125 L (zvr none :: st) h = zev kX1_desk 128 L (zvr none :: st) h) ∧
  (∀ (q : Nat) (L st : List ZV) (h : PH), zev kX1_desk 125 L (zvr (some q) :: st) h = if zokDep (ph_K h q).1 = true then zev kX1_desk 128 L (zvr (some q) :: st) h else none) ∧
  (∀ (v0 : ZV) (q : Nat) (L st : List ZV) (h : PH), zev kX1_desk 128 L (v0 :: zvr (some q) :: st) h = if (ph_K h q).1 % 1000 = 31 ∧ zcat st ≤ 8 then zk kX1_desk 128 131 L st (mJ2_add [zvr (some q), v0] h) else none) ∧
  (∀ (a : Int) (L st : List ZV) (h : PH), zev kX1_desk 131 L (zvi a :: st) h = zev kX1_desk 132 L st h) ∧
  (∀ (a : Option Nat) (L st : List ZV) (h : PH), zev kX1_desk 131 L (zvr a :: st) h = zev kX1_desk 132 L st h) ∧
  (∀ (x0 x1 : ZV) (a : Int) (L st : List ZV) (h : PH) (hx : zisL x1 = false) , zev kX1_desk 132 (x0 :: x1 :: zvi a :: L) st h = zev kX1_desk 135 (x0 :: x1 :: zvi (w32 (a + 1)) :: L) st h) ∧
  (∀ (L st : List ZV) (h : PH), zev kX1_desk 135 L st h = zev kX1_desk 96 L st h) ∧
  (∀ (a : Option Nat) (L st : List ZV) (h : PH), zev kX1_desk 138 (zvr a :: L) st h = zev kX1_desk 139 (zvr a :: L) (zvr a :: st) h) ∧
  (∀ (a : Option Nat) (L st : List ZV) (h : PH), zev kX1_desk 139 (zvr a :: L) st h = zev kX1_desk 140 (zvr a :: L) (zvr a :: st) h) ∧
  (∀ (q : Nat) (L st : List ZV) (h : PH), zev kX1_desk 140 L (zvr (some q) :: st) h = if (ph_K h q).1 % 1000 = 16 then zev kX1_desk 143 L (zvr (ph_R h q 5) :: st) h else none) ∧
  (∀ (q : Nat) (L st : List ZV) (h : PH), zev kX1_desk 143 L (zvr (some q) :: st) h = if (ph_K h q).1 % 1000 = 20 then zev kX1_desk 146 L (zvr (ph_R h q 4) :: st) h else none) ∧
  (∀ (q : Nat) (L st : List ZV) (h : PH), zev kX1_desk 146 L (zvr (some q) :: st) h = if (ph_K h q).1 % 1000 = 29 ∧ zcat st ≤ 8 then zk kX1_desk 146 149 L st (mJ7_size [zvr (some q)] h) else none) ∧
  (∀ (v0 : ZV) (q : Nat) (L st : List ZV) (h : PH), zev kX1_desk 149 L (v0 :: zvr (some q) :: st) h = if (ph_K h q).1 % 1000 = 16 ∧ zcat st ≤ 8 then zk kX1_desk 149 152 L st (mX1_fine [zvr (some q), v0] h) else none) ∧
  (∀ (a : Int) (L : List ZV) (h : PH), zev kX1_desk 152 L [zvi a] h = zrv (zvi a) h) :=
  ⟨fun x0 a L st h => e_ld1I (n := 1) rfl,
  fun L st h => e_push (v := zvi 0) (n := 2) rfl,
  fun a L st h => e_ld0R (n := 3) rfl,
  fun q L st h => e_getI (kd := 16) (k := 3) (n := 6) rfl,
  fun v0 v1 v2 L st h => e_callS3 (F := mX1_isIn) (n := 9) rfl,
  fun a L st h => e_ifne (t := 18) (n := 12) rfl,
  fun a L st h => e_ld0R (n := 13) rfl,
  fun L st h => e_push (v := zvi 2) (n := 14) rfl,
  fun v0 q L st h => e_callV2 (F := mX1_refused) (kd := 16) (n := 17) rfl,
  fun a L h => e_retI rfl,
  fun a L st h => e_ld0R (n := 19) rfl,
  fun L st h => e_push (v := zvi 0) (n := 20) rfl,
  fun a q L st h => e_putI (kd := 16) (k := 4) (n := 23) rfl,
  fun a L st h => e_ld0R (n := 24) rfl,
  fun L st h => e_push (v := zvi 0) (n := 25) rfl,
  fun a q L st h => e_putI (kd := 16) (k := 3) (n := 28) rfl,
  fun a L st h => e_ld0R (n := 29) rfl,
  fun L st h => e_new (kd := 19) (sl := 8) (n := 32) rfl,
  fun a L st h => e_dupI (n := 33) rfl,
  fun a L st h => e_dupR (n := 33) rfl,
  fun a L st h => e_ld0R (n := 34) rfl,
  fun x0 a L st h => e_ld1I (n := 35) rfl,
  fun v0 v1 q L st h => e_callV3 (F := mX5_init) (kd := 19) (n := 38) rfl,
  fun q L st h => e_callV1 (F := mX5_read) (kd := 19) (n := 41) rfl,
  fun a q L st h => e_putR (kd := 16) (k := 5) (n := 44) rfl,
  fun L st h => e_goto (t := 80) rfl,
  fun x0 x1 x2 a L st h hx => e_st2R (n := 48) rfl hx,
  fun x0 x1 a L st h => e_ld2R (n := 49) rfl,
  fun q L st h => e_callV1 (F := mGC) (kd := 26) (n := 52) rfl,
  fun L st h => e_cast0 (ok := zokTrb) (n := 55) rfl,
  fun q L st h => e_cast1 (ok := zokTrb) (n := 55) rfl,
  fun x0 x1 x2 x3 a L st h hx => e_st3R (n := 56) rfl hx,
  fun a L st h => e_ld0R (n := 57) rfl,
  fun x0 x1 x2 a L st h => e_ld3R (n := 58) rfl,
  fun q L st h => e_getI2 (k := 0) (n := 61) rfl,
  fun a q L st h => e_putI (kd := 16) (k := 4) (n := 64) rfl,
  fun a L st h => e_ld0R (n := 65) rfl,
  fun L st h => e_push (v := zvi 4) (n := 66) rfl,
  fun v0 q L st h => e_callV2 (F := mX1_refused) (kd := 16) (n := 69) rfl,
  fun a L st h => e_popI (n := 70) rfl,
  fun a L st h => e_popR (n := 70) rfl,
  fun a L st h => e_ld0R (n := 71) rfl,
  fun x0 x1 x2 a L st h => e_ld3R (n := 72) rfl,
  fun q L st h => e_getI2 (k := 1) (n := 75) rfl,
  fun a q L st h => e_putI (kd := 16) (k := 1) (n := 78) rfl,
  fun L st h => e_push (v := zvi (-1)) (n := 79) rfl,
  fun a L h => e_retI rfl,
  fun a L st h => e_ld0R (n := 81) rfl,
  fun q L st h => e_getR (kd := 16) (k := 7) (n := 84) rfl,
  fun q L st h => e_callV1 (F := mJ5_clear) (kd := 30) (n := 87) rfl,
  fun a L st h => e_ld0R (n := 88) rfl,
  fun q L st h => e_getR (kd := 16) (k := 6) (n := 91) rfl,
  fun q L st h => e_callV1 (F := mJ2_clear) (kd := 31) (n := 94) rfl,
  fun L st h => e_push (v := zvi 0) (n := 95) rfl,
  fun x0 x1 x2 a L st h hx => e_st2I (n := 96) rfl hx,
  fun a L st h => e_ld0R (n := 98) rfl,
  fun q L st h => e_getR (kd := 16) (k := 5) (n := 101) rfl,
  fun q L st h => e_getR (kd := 20) (k := 4) (n := 104) rfl,
  fun q L st h => e_callV1 (F := mJ7_size) (kd := 29) (n := 107) rfl,
  fun a b L st h => e_cmpge (t := 138) (n := 110) rfl,
  fun a L st h => e_ld0R (n := 111) rfl,
  fun q L st h => e_getR (kd := 16) (k := 6) (n := 114) rfl,
  fun a L st h => e_ld0R (n := 115) rfl,
  fun q L st h => e_getR (kd := 16) (k := 5) (n := 118) rfl,
  fun q L st h => e_getR (kd := 20) (k := 4) (n := 121) rfl,
  fun x0 x1 a L st h => e_ld2I (n := 122) rfl,
  fun v0 q L st h => e_callV2 (F := mJ7_get) (kd := 29) (n := 125) rfl,
  fun L st h => e_cast0 (ok := zokDep) (n := 128) rfl,
  fun q L st h => e_cast1 (ok := zokDep) (n := 128) rfl,
  fun v0 q L st h => e_callV2 (F := mJ2_add) (kd := 31) (n := 131) rfl,
  fun a L st h => e_popI (n := 132) rfl,
  fun a L st h => e_popR (n := 132) rfl,
  fun x0 x1 a L st h hx => e_iinc2 (d := 1) (n := 135) rfl hx,
  fun L st h => e_goto (t := 96) rfl,
  fun a L st h => e_ld0R (n := 139) rfl,
  fun a L st h => e_ld0R (n := 140) rfl,
  fun q L st h => e_getR (kd := 16) (k := 5) (n := 143) rfl,
  fun q L st h => e_getR (kd := 20) (k := 4) (n := 146) rfl,
  fun q L st h => e_callV1 (F := mJ7_size) (kd := 29) (n := 149) rfl,
  fun v0 q L st h => e_callV2 (F := mX1_fine) (kd := 16) (n := 152) rfl,
  fun a L h => e_retI rfl⟩
theorem allX1_desk : zall yX1_desk cX1_desk 4 (some .int) 12 kX1_desk.1 :=
  ⟨k_iload_n dX1_desk_0,
  k_iconst dX1_desk_1,
  k_aload_n dX1_desk_2,
  k_getI (C := RX1) (T := TX1) (N := 19) (ci := 0) (k := 3) (ref := "LinkTimes") dX1_desk_3 rfl in_X1 (by decide) q305 (Or.inl rfl) (fun _ _ _ => rfl),
  k_callS (y2 := yX1_isIn) dX1_desk_6 sndX1_isIn q375 q376 q128 q377 (by decide +kernel) ⟨by decide, by decide⟩ (by decide) (by decide),
  k_ifne (t := 18) dX1_desk_9 (by decide),
  k_aload_n dX1_desk_12,
  k_iconst dX1_desk_13,
  k_callV (y2 := yX1_refused) (C := RX1) (T0 := TX1) (ci := 0) dX1_desk_14 sndX1_refused rfl q378 q380 qs1 q128 q381 (by decide +kernel) ⟨by decide, by decide⟩ (by decide) (by decide),
  k_iret dX1_desk_17,
  k_aload_n dX1_desk_18,
  k_iconst dX1_desk_19,
  k_putI (C := RX1) (T := TX1) (N := 19) (ci := 0) (k := 4) (ref := "LinkTimes") dX1_desk_20 rfl in_X1 tyX1 tyX1_ok nmX1 (by decide) (Or.inl q306) (Or.inl rfl) (Or.inl rfl) (tyX1_ok 4 (by decide)) (fun _ _ _ => rfl),
  k_aload_n dX1_desk_23,
  k_iconst dX1_desk_24,
  k_putI (C := RX1) (T := TX1) (N := 19) (ci := 0) (k := 3) (ref := "LinkTimes") dX1_desk_25 rfl in_X1 tyX1 tyX1_ok nmX1 (by decide) (Or.inl q305) (Or.inl rfl) (Or.inl rfl) (tyX1_ok 3 (by decide)) (fun _ _ _ => rfl),
  k_aload_n dX1_desk_28,
  k_new (C := RX5) (T := TX5) (N := 8) (ci := 3) dX1_desk_29 rfl in_X5 tyX5 tyX5_ok rfl (by decide) q382 q383 q138,
  k_dup dX1_desk_32,
  k_aload_n dX1_desk_33,
  k_iload_n dX1_desk_34,
  k_callI (y2 := yX5_init) (C := RX5) (T0 := TX5) (ci := 3) dX1_desk_35 sndX5_init rfl q384 q385 q138 q386 rfl (by decide +kernel) ⟨by decide, by decide⟩ (by decide) (by decide),
  k_callVX (y2 := yX5_read) (C := RX5) (T0 := TX5) (ci := 3) dX1_desk_38 sndX5_read rfl q468 q469 q470 q138 q471 (by decide +kernel) ⟨by decide, by decide⟩ (by decide) (by decide),
  k_putR (C := RX1) (T := TX1) (N := 19) (ci := 0) (k := 5) (ref := "LinkTimes") dX1_desk_41 rfl in_X1 tyX1 tyX1_ok nmX1 (by decide) (Or.inl q308) (Or.inl rfl) (Or.inl rfl) (tyX1_ok 5 (by decide)) (Or.inl ⟨_, rfl⟩) (fun _ _ _ => rfl),
  k_goto (t := 80) dX1_desk_44 (by decide),
  k_astore_n dX1_desk_47,
  k_aload_n dX1_desk_48,
  k_callGC (C := RX12) (T0 := TX12) (ci := 10) (x2 := ⟨"LinkTimes$BadLine", "getCause", "()Ljava/lang/Throwable;"⟩) dX1_desk_49 rfl q910 q911 q913 rfl rfl (by decide),
  k_cast (nm := "LinkTimes$Trouble") dX1_desk_52 q916 zokTrb_can,
  k_astore_n dX1_desk_55,
  k_aload_n dX1_desk_56,
  k_aload_n dX1_desk_57,
  k_getTrb (k := 0) (host := "LinkTimes") (nm := "kind") dX1_desk_58 (by decide) ⟨rfl, rfl⟩ q617,
  k_putI (C := RX1) (T := TX1) (N := 19) (ci := 0) (k := 4) (ref := "LinkTimes") dX1_desk_61 rfl in_X1 tyX1 tyX1_ok nmX1 (by decide) (Or.inl q306) (Or.inl rfl) (Or.inl rfl) (tyX1_ok 4 (by decide)) (fun _ _ _ => rfl),
  k_aload_n dX1_desk_64,
  k_iconst dX1_desk_65,
  k_callV (y2 := yX1_refused) (C := RX1) (T0 := TX1) (ci := 0) dX1_desk_66 sndX1_refused rfl q378 q380 qs1 q128 q381 (by decide +kernel) ⟨by decide, by decide⟩ (by decide) (by decide),
  k_pop dX1_desk_69,
  k_aload_n dX1_desk_70,
  k_aload_n dX1_desk_71,
  k_getTrb (k := 1) (host := "LinkTimes") (nm := "place") dX1_desk_72 (by decide) ⟨rfl, rfl⟩ q619,
  k_putI (C := RX1) (T := TX1) (N := 19) (ci := 0) (k := 1) (ref := "LinkTimes") dX1_desk_75 rfl in_X1 tyX1 tyX1_ok nmX1 (by decide) (Or.inl q302) (Or.inl rfl) (Or.inl rfl) (tyX1_ok 1 (by decide)) (fun _ _ _ => rfl),
  k_iconst dX1_desk_78,
  k_iret dX1_desk_79,
  k_aload_n dX1_desk_80,
  k_getR (C := RX1) (T := TX1) (N := 19) (ci := 0) (k := 7) (ref := "LinkTimes") dX1_desk_81 rfl in_X1 (by decide) q310 (Or.inl rfl) (fun _ _ _ => rfl),
  k_callV (y2 := yJ5_clear) (C := RJ5) (T0 := TJ5) (ci := 14) dX1_desk_84 sndJ5_clear rfl q917 q918 q919 q135 q920 (by decide +kernel) ⟨by decide, by decide⟩ (by decide) (by decide),
  k_aload_n dX1_desk_87,
  k_getR (C := RX1) (T := TX1) (N := 19) (ci := 0) (k := 6) (ref := "LinkTimes") dX1_desk_88 rfl in_X1 (by decide) q309 (Or.inl rfl) (fun _ _ _ => rfl),
  k_callV (y2 := yJ2_clear) (C := RJ2) (T0 := TJ2) (ci := 15) dX1_desk_91 sndJ2_clear rfl q924 q925 q926 q131 q927 (by decide +kernel) ⟨by decide, by decide⟩ (by decide) (by decide),
  k_iconst dX1_desk_94,
  k_istore_n dX1_desk_95,
  k_iload_n dX1_desk_96,
  k_aload_n dX1_desk_97,
  k_getR (C := RX1) (T := TX1) (N := 19) (ci := 0) (k := 5) (ref := "LinkTimes") dX1_desk_98 rfl in_X1 (by decide) q308 (Or.inl rfl) (fun _ _ _ => rfl),
  k_getRN (C := RX6) (T := TX6) (N := 5) (ci := 4) (k := 4) (ref := "LinkTimes$Desk") dX1_desk_101 rfl in_X6 (by decide) q430 (Or.inl rfl) (fun _ _ _ => rfl),
  k_callV (y2 := yJ7_size) (C := RJ7) (T0 := TJ7) (ci := 13) dX1_desk_104 sndJ7_size rfl q936 q652 q653 q141 q654 (by decide +kernel) ⟨by decide, by decide⟩ (by decide) (by decide),
  k_cmpge (t := 138) dX1_desk_107 (by decide),
  k_aload_n dX1_desk_110,
  k_getR (C := RX1) (T := TX1) (N := 19) (ci := 0) (k := 6) (ref := "LinkTimes") dX1_desk_111 rfl in_X1 (by decide) q309 (Or.inl rfl) (fun _ _ _ => rfl),
  k_aload_n dX1_desk_114,
  k_getR (C := RX1) (T := TX1) (N := 19) (ci := 0) (k := 5) (ref := "LinkTimes") dX1_desk_115 rfl in_X1 (by decide) q308 (Or.inl rfl) (fun _ _ _ => rfl),
  k_getRN (C := RX6) (T := TX6) (N := 5) (ci := 4) (k := 4) (ref := "LinkTimes$Desk") dX1_desk_118 rfl in_X6 (by decide) q430 (Or.inl rfl) (fun _ _ _ => rfl),
  k_iload_n dX1_desk_121,
  k_callV (y2 := yJ7_get) (C := RJ7) (T0 := TJ7) (ci := 13) dX1_desk_122 sndJ7_get rfl q937 q695 q696 q141 q697 (by decide +kernel) ⟨by decide, by decide⟩ (by decide) (by decide),
  k_cast (nm := "LinkTimes$Departure") dX1_desk_125 q938 zokDep_can,
  k_callV (y2 := yJ2_add) (C := RJ2) (T0 := TJ2) (ci := 15) dX1_desk_128 sndJ2_add rfl q939 q940 q941 q131 q942 (by decide +kernel) ⟨by decide, by decide⟩ (by decide) (by decide),
  k_pop dX1_desk_131,
  k_iinc dX1_desk_132,
  k_goto (t := 96) dX1_desk_135 (by decide),
  k_aload_n dX1_desk_138,
  k_aload_n dX1_desk_139,
  k_getR (C := RX1) (T := TX1) (N := 19) (ci := 0) (k := 5) (ref := "LinkTimes") dX1_desk_140 rfl in_X1 (by decide) q308 (Or.inl rfl) (fun _ _ _ => rfl),
  k_getRN (C := RX6) (T := TX6) (N := 5) (ci := 4) (k := 4) (ref := "LinkTimes$Desk") dX1_desk_143 rfl in_X6 (by decide) q430 (Or.inl rfl) (fun _ _ _ => rfl),
  k_callV (y2 := yJ7_size) (C := RJ7) (T0 := TJ7) (ci := 13) dX1_desk_146 sndJ7_size rfl q936 q652 q653 q141 q654 (by decide +kernel) ⟨by decide, by decide⟩ (by decide) (by decide),
  k_callV (y2 := yX1_fine) (C := RX1) (T0 := TX1) (ci := 0) dX1_desk_149 sndX1_fine rfl q1211 q1213 qs32 q128 q1214 (by decide +kernel) ⟨by decide, by decide⟩ (by decide) (by decide),
  k_iret dX1_desk_152, trivial⟩
theorem sndX1_desk : MSound 12 yX1_desk (wsW_ yX1_desk cX1_desk 4 (some .int) [(28, 44, 47, 103)]) mX1_desk := msound_H (by decide) allX1_desk
  (fun pc kd t h1 h2 => by
    have h1 : (if 28 ≤ pc ∧ pc < 44 then if kd = 26 then some 47 else some 9999 else none) = some t := h1
    by_cases hp : 28 ≤ pc ∧ pc < 44
    · rw [if_pos hp] at h1
      by_cases hk : kd = 26
      · rw [if_pos hk] at h1
        obtain rfl := Option.some.inj h1
        subst hk
        exact ⟨[], ⟨28, 44, 47, 103⟩, [], 10, RX12, TX12, 6, "LinkTimes$BadLine", rfl, by simp [covers]; omega, by decide, rfl, ⟨rfl, by decide⟩, rfl, q374, q893, fun z hz => by cases hz⟩
      rw [if_neg hk] at h1
      obtain rfl := Option.some.inj h1
      cases h2
    · rw [if_neg hp] at h1; cases h1)
  (fun pc kd h1 x hx => by
    have h1 : (if 28 ≤ pc ∧ pc < 44 then if kd = 26 then some 47 else some 9999 else none) = none := h1
    by_cases hp : 28 ≤ pc ∧ pc < 44
    · rw [if_pos hp] at h1
      by_cases hk : kd = 26
      · rw [if_pos hk] at h1; cases h1
      rw [if_neg hk] at h1
      cases h1
    · have hx : x ∈ [(⟨28, 44, 47, 103⟩ : ExceptionTableEntry)] := hx
      simp only [List.mem_cons, List.not_mem_nil, or_false] at hx
      rcases hx with rfl <;> (simp [covers]; omega))
/-! LinkTimes.fault()I -/
noncomputable def kX1_fault : ZM := ([(0, zi_ld 1 0 1), (1, zi_getI 16 4 4), (4, zi_retv 0)], fun _ _ => none)
noncomputable def mX1_fault : ZF := zrunM kX1_fault 1
theorem enX1_fault (x0 : Option Nat) (h : PH) : mX1_fault [zvr x0] h = zev kX1_fault 0 [zvr x0] [] h := zrunM_eq rfl rfl
theorem rX1_fault : (∀ (a : Option Nat) (L st : List ZV) (h : PH), zev kX1_fault 0 (zvr a :: L) st h = zev kX1_fault 1 (zvr a :: L) (zvr a :: st) h) ∧
  (∀ (q : Nat) (L st : List ZV) (h : PH), zev kX1_fault 1 L (zvr (some q) :: st) h = if (ph_K h q).1 % 1000 = 16 then zev kX1_fault 4 L (zvi (ph_I h q 4) :: st) h else none) ∧
  (∀ (a : Int) (L : List ZV) (h : PH), zev kX1_fault 4 L [zvi a] h = zrv (zvi a) h) :=
  ⟨fun a L st h => e_ld0R (n := 1) rfl,
  fun q L st h => e_getI (kd := 16) (k := 4) (n := 4) rfl,
  fun a L h => e_retI rfl⟩
theorem allX1_fault : zall yX1_fault cX1_fault 1 (some .int) 1 kX1_fault.1 :=
  ⟨k_aload_n dX1_fault_0,
  k_getI (C := RX1) (T := TX1) (N := 19) (ci := 0) (k := 4) (ref := "LinkTimes") dX1_fault_1 rfl in_X1 (by decide) q306 (Or.inl rfl) (fun _ _ _ => rfl),
  k_iret dX1_fault_4, trivial⟩
theorem sndX1_fault : MSound 1 yX1_fault (ws_ yX1_fault cX1_fault 1 (some .int)) mX1_fault := msound_M (by decide) allX1_fault (fun _ _ => rfl)
/-! LinkTimes.where()I -/
noncomputable def kX1_where : ZM := ([(0, zi_ld 1 0 1), (1, zi_getI 16 1 4), (4, zi_retv 0)], fun _ _ => none)
noncomputable def mX1_where : ZF := zrunM kX1_where 1
theorem enX1_where (x0 : Option Nat) (h : PH) : mX1_where [zvr x0] h = zev kX1_where 0 [zvr x0] [] h := zrunM_eq rfl rfl
theorem rX1_where : (∀ (a : Option Nat) (L st : List ZV) (h : PH), zev kX1_where 0 (zvr a :: L) st h = zev kX1_where 1 (zvr a :: L) (zvr a :: st) h) ∧
  (∀ (q : Nat) (L st : List ZV) (h : PH), zev kX1_where 1 L (zvr (some q) :: st) h = if (ph_K h q).1 % 1000 = 16 then zev kX1_where 4 L (zvi (ph_I h q 1) :: st) h else none) ∧
  (∀ (a : Int) (L : List ZV) (h : PH), zev kX1_where 4 L [zvi a] h = zrv (zvi a) h) :=
  ⟨fun a L st h => e_ld0R (n := 1) rfl,
  fun q L st h => e_getI (kd := 16) (k := 1) (n := 4) rfl,
  fun a L h => e_retI rfl⟩
theorem allX1_where : zall yX1_where cX1_where 1 (some .int) 1 kX1_where.1 :=
  ⟨k_aload_n dX1_where_0,
  k_getI (C := RX1) (T := TX1) (N := 19) (ci := 0) (k := 1) (ref := "LinkTimes") dX1_where_1 rfl in_X1 (by decide) q302 (Or.inl rfl) (fun _ _ _ => rfl),
  k_iret dX1_where_4, trivial⟩
theorem sndX1_where : MSound 1 yX1_where (ws_ yX1_where cX1_where 1 (some .int)) mX1_where := msound_M (by decide) allX1_where (fun _ _ => rfl)
/-! LinkTimes.about(I)I -/
noncomputable def kX1_about : ZM := ([(0, zi_ld 1 0 1), (1, zi_getR 16 5 4), (4, zi_nonnull 13 7), (7, zi_ld 1 0 8), (8, zi_push (zvi 1) 9), (9, zi_callV mX1_refused 16 2 12), (12, zi_retv 0), (13, zi_ld 0 1 14), (14, zi_sw 0 5 [52, 64, 79, 94, 106, 121] 133), (52, zi_ld 1 0 53), (53, zi_ld 1 0 54), (54, zi_getR 16 5 57), (57, zi_getI 20 0 60), (60, zi_callV mX1_fine 16 2 63), (63, zi_retv 0), (64, zi_ld 1 0 65), (65, zi_ld 1 0 66), (66, zi_getR 16 5 69), (69, zi_getR 20 2 72), (72, zi_callV mJ7_size 29 1 75), (75, zi_callV mX1_fine 16 2 78), (78, zi_retv 0), (79, zi_ld 1 0 80), (80, zi_ld 1 0 81), (81, zi_getR 16 5 84), (84, zi_getR 20 3 87), (87, zi_callV mJ7_size 29 1 90), (90, zi_callV mX1_fine 16 2 93), (93, zi_retv 0), (94, zi_ld 1 0 95), (95, zi_ld 1 0 96), (96, zi_getR 16 5 99), (99, zi_getI 20 1 102), (102, zi_callV mX1_fine 16 2 105), (105, zi_retv 0), (106, zi_ld 1 0 107), (107, zi_ld 1 0 108), (108, zi_getR 16 5 111), (111, zi_getR 20 4 114), (114, zi_callV mJ7_size 29 1 117), (117, zi_callV mX1_fine 16 2 120), (120, zi_retv 0), (121, zi_ld 1 0 122), (122, zi_ld 1 0 123), (123, zi_getR 16 6 126), (126, zi_callV mJ2_size 31 1 129), (129, zi_callV mX1_fine 16 2 132), (132, zi_retv 0), (133, zi_ld 1 0 134), (134, zi_push (zvi 1) 135), (135, zi_callV mX1_refused 16 2 138), (138, zi_retv 0)], fun _ _ => none)
noncomputable def mX1_about : ZF := zrunM kX1_about 2
theorem enX1_about (x0 : Option Nat) (x1 : Int) (h : PH) : mX1_about [zvr x0, zvi x1] h = zev kX1_about 0 [zvr x0, zvi x1] [] h := zrunM_eq rfl rfl
theorem rX1_about : (∀ (a : Option Nat) (L st : List ZV) (h : PH), zev kX1_about 0 (zvr a :: L) st h = zev kX1_about 1 (zvr a :: L) (zvr a :: st) h) ∧
  (∀ (q : Nat) (L st : List ZV) (h : PH), zev kX1_about 1 L (zvr (some q) :: st) h = if (ph_K h q).1 % 1000 = 16 then zev kX1_about 4 L (zvr (ph_R h q 5) :: st) h else none) ∧
  (∀ (L st : List ZV) (h : PH), zev kX1_about 4 L (zvr none :: st) h = zev kX1_about 7 L st h) ∧
  (∀ (q : Nat) (L st : List ZV) (h : PH), zev kX1_about 4 L (zvr (some q) :: st) h = if (ph_K h q).1 ≠ 0 then zev kX1_about 13 L st h else none) ∧
  (∀ (a : Option Nat) (L st : List ZV) (h : PH), zev kX1_about 7 (zvr a :: L) st h = zev kX1_about 8 (zvr a :: L) (zvr a :: st) h) ∧
  (∀ (L st : List ZV) (h : PH), zev kX1_about 8 L st h = zev kX1_about 9 L (zvi 1 :: st) h) ∧
  (∀ (v0 : ZV) (q : Nat) (L st : List ZV) (h : PH), zev kX1_about 9 L (v0 :: zvr (some q) :: st) h = if (ph_K h q).1 % 1000 = 16 ∧ zcat st ≤ 8 then zk kX1_about 9 12 L st (mX1_refused [zvr (some q), v0] h) else none) ∧
  (∀ (a : Int) (L : List ZV) (h : PH), zev kX1_about 12 L [zvi a] h = zrv (zvi a) h) ∧
  (∀ (x0 : ZV) (a : Int) (L st : List ZV) (h : PH), zev kX1_about 13 (x0 :: zvi a :: L) st h = zev kX1_about 14 (x0 :: zvi a :: L) (zvi a :: st) h) ∧
  (∀ (a : Int) (L st : List ZV) (h : PH), zev kX1_about 14 L (zvi a :: st) h = zev kX1_about (zswt 0 5 [52, 64, 79, 94, 106, 121] 133 a) L st h) ∧
  (∀ (a : Option Nat) (L st : List ZV) (h : PH), zev kX1_about 52 (zvr a :: L) st h = zev kX1_about 53 (zvr a :: L) (zvr a :: st) h) ∧
  (∀ (a : Option Nat) (L st : List ZV) (h : PH), zev kX1_about 53 (zvr a :: L) st h = zev kX1_about 54 (zvr a :: L) (zvr a :: st) h) ∧
  (∀ (q : Nat) (L st : List ZV) (h : PH), zev kX1_about 54 L (zvr (some q) :: st) h = if (ph_K h q).1 % 1000 = 16 then zev kX1_about 57 L (zvr (ph_R h q 5) :: st) h else none) ∧
  (∀ (q : Nat) (L st : List ZV) (h : PH), zev kX1_about 57 L (zvr (some q) :: st) h = if (ph_K h q).1 % 1000 = 20 then zev kX1_about 60 L (zvi (ph_I h q 0) :: st) h else none) ∧
  (∀ (v0 : ZV) (q : Nat) (L st : List ZV) (h : PH), zev kX1_about 60 L (v0 :: zvr (some q) :: st) h = if (ph_K h q).1 % 1000 = 16 ∧ zcat st ≤ 8 then zk kX1_about 60 63 L st (mX1_fine [zvr (some q), v0] h) else none) ∧
  (∀ (a : Int) (L : List ZV) (h : PH), zev kX1_about 63 L [zvi a] h = zrv (zvi a) h) ∧
  (∀ (a : Option Nat) (L st : List ZV) (h : PH), zev kX1_about 64 (zvr a :: L) st h = zev kX1_about 65 (zvr a :: L) (zvr a :: st) h) ∧
  (∀ (a : Option Nat) (L st : List ZV) (h : PH), zev kX1_about 65 (zvr a :: L) st h = zev kX1_about 66 (zvr a :: L) (zvr a :: st) h) ∧
  (∀ (q : Nat) (L st : List ZV) (h : PH), zev kX1_about 66 L (zvr (some q) :: st) h = if (ph_K h q).1 % 1000 = 16 then zev kX1_about 69 L (zvr (ph_R h q 5) :: st) h else none) ∧
  (∀ (q : Nat) (L st : List ZV) (h : PH), zev kX1_about 69 L (zvr (some q) :: st) h = if (ph_K h q).1 % 1000 = 20 then zev kX1_about 72 L (zvr (ph_R h q 2) :: st) h else none) ∧
  (∀ (q : Nat) (L st : List ZV) (h : PH), zev kX1_about 72 L (zvr (some q) :: st) h = if (ph_K h q).1 % 1000 = 29 ∧ zcat st ≤ 8 then zk kX1_about 72 75 L st (mJ7_size [zvr (some q)] h) else none) ∧
  (∀ (v0 : ZV) (q : Nat) (L st : List ZV) (h : PH), zev kX1_about 75 L (v0 :: zvr (some q) :: st) h = if (ph_K h q).1 % 1000 = 16 ∧ zcat st ≤ 8 then zk kX1_about 75 78 L st (mX1_fine [zvr (some q), v0] h) else none) ∧
  (∀ (a : Int) (L : List ZV) (h : PH), zev kX1_about 78 L [zvi a] h = zrv (zvi a) h) ∧
  (∀ (a : Option Nat) (L st : List ZV) (h : PH), zev kX1_about 79 (zvr a :: L) st h = zev kX1_about 80 (zvr a :: L) (zvr a :: st) h) ∧
  (∀ (a : Option Nat) (L st : List ZV) (h : PH), zev kX1_about 80 (zvr a :: L) st h = zev kX1_about 81 (zvr a :: L) (zvr a :: st) h) ∧
  (∀ (q : Nat) (L st : List ZV) (h : PH), zev kX1_about 81 L (zvr (some q) :: st) h = if (ph_K h q).1 % 1000 = 16 then zev kX1_about 84 L (zvr (ph_R h q 5) :: st) h else none) ∧
  (∀ (q : Nat) (L st : List ZV) (h : PH), zev kX1_about 84 L (zvr (some q) :: st) h = if (ph_K h q).1 % 1000 = 20 then zev kX1_about 87 L (zvr (ph_R h q 3) :: st) h else none) ∧
  (∀ (q : Nat) (L st : List ZV) (h : PH), zev kX1_about 87 L (zvr (some q) :: st) h = if (ph_K h q).1 % 1000 = 29 ∧ zcat st ≤ 8 then zk kX1_about 87 90 L st (mJ7_size [zvr (some q)] h) else none) ∧
  (∀ (v0 : ZV) (q : Nat) (L st : List ZV) (h : PH), zev kX1_about 90 L (v0 :: zvr (some q) :: st) h = if (ph_K h q).1 % 1000 = 16 ∧ zcat st ≤ 8 then zk kX1_about 90 93 L st (mX1_fine [zvr (some q), v0] h) else none) ∧
  (∀ (a : Int) (L : List ZV) (h : PH), zev kX1_about 93 L [zvi a] h = zrv (zvi a) h) ∧
  (∀ (a : Option Nat) (L st : List ZV) (h : PH), zev kX1_about 94 (zvr a :: L) st h = zev kX1_about 95 (zvr a :: L) (zvr a :: st) h) ∧
  (∀ (a : Option Nat) (L st : List ZV) (h : PH), zev kX1_about 95 (zvr a :: L) st h = zev kX1_about 96 (zvr a :: L) (zvr a :: st) h) ∧
  (∀ (q : Nat) (L st : List ZV) (h : PH), zev kX1_about 96 L (zvr (some q) :: st) h = if (ph_K h q).1 % 1000 = 16 then zev kX1_about 99 L (zvr (ph_R h q 5) :: st) h else none) ∧
  (∀ (q : Nat) (L st : List ZV) (h : PH), zev kX1_about 99 L (zvr (some q) :: st) h = if (ph_K h q).1 % 1000 = 20 then zev kX1_about 102 L (zvi (ph_I h q 1) :: st) h else none) ∧
  (∀ (v0 : ZV) (q : Nat) (L st : List ZV) (h : PH), zev kX1_about 102 L (v0 :: zvr (some q) :: st) h = if (ph_K h q).1 % 1000 = 16 ∧ zcat st ≤ 8 then zk kX1_about 102 105 L st (mX1_fine [zvr (some q), v0] h) else none) ∧
  (∀ (a : Int) (L : List ZV) (h : PH), zev kX1_about 105 L [zvi a] h = zrv (zvi a) h) ∧
  (∀ (a : Option Nat) (L st : List ZV) (h : PH), zev kX1_about 106 (zvr a :: L) st h = zev kX1_about 107 (zvr a :: L) (zvr a :: st) h) ∧
  (∀ (a : Option Nat) (L st : List ZV) (h : PH), zev kX1_about 107 (zvr a :: L) st h = zev kX1_about 108 (zvr a :: L) (zvr a :: st) h) ∧
  (∀ (q : Nat) (L st : List ZV) (h : PH), zev kX1_about 108 L (zvr (some q) :: st) h = if (ph_K h q).1 % 1000 = 16 then zev kX1_about 111 L (zvr (ph_R h q 5) :: st) h else none) ∧
  (∀ (q : Nat) (L st : List ZV) (h : PH), zev kX1_about 111 L (zvr (some q) :: st) h = if (ph_K h q).1 % 1000 = 20 then zev kX1_about 114 L (zvr (ph_R h q 4) :: st) h else none) ∧
  (∀ (q : Nat) (L st : List ZV) (h : PH), zev kX1_about 114 L (zvr (some q) :: st) h = if (ph_K h q).1 % 1000 = 29 ∧ zcat st ≤ 8 then zk kX1_about 114 117 L st (mJ7_size [zvr (some q)] h) else none) ∧
  (∀ (v0 : ZV) (q : Nat) (L st : List ZV) (h : PH), zev kX1_about 117 L (v0 :: zvr (some q) :: st) h = if (ph_K h q).1 % 1000 = 16 ∧ zcat st ≤ 8 then zk kX1_about 117 120 L st (mX1_fine [zvr (some q), v0] h) else none) ∧
  (∀ (a : Int) (L : List ZV) (h : PH), zev kX1_about 120 L [zvi a] h = zrv (zvi a) h) ∧
  (∀ (a : Option Nat) (L st : List ZV) (h : PH), zev kX1_about 121 (zvr a :: L) st h = zev kX1_about 122 (zvr a :: L) (zvr a :: st) h) ∧
  (∀ (a : Option Nat) (L st : List ZV) (h : PH), zev kX1_about 122 (zvr a :: L) st h = zev kX1_about 123 (zvr a :: L) (zvr a :: st) h) ∧
  (∀ (q : Nat) (L st : List ZV) (h : PH), zev kX1_about 123 L (zvr (some q) :: st) h = if (ph_K h q).1 % 1000 = 16 then zev kX1_about 126 L (zvr (ph_R h q 6) :: st) h else none) ∧
  (∀ (q : Nat) (L st : List ZV) (h : PH), zev kX1_about 126 L (zvr (some q) :: st) h = if (ph_K h q).1 % 1000 = 31 ∧ zcat st ≤ 8 then zk kX1_about 126 129 L st (mJ2_size [zvr (some q)] h) else none) ∧
  (∀ (v0 : ZV) (q : Nat) (L st : List ZV) (h : PH), zev kX1_about 129 L (v0 :: zvr (some q) :: st) h = if (ph_K h q).1 % 1000 = 16 ∧ zcat st ≤ 8 then zk kX1_about 129 132 L st (mX1_fine [zvr (some q), v0] h) else none) ∧
  (∀ (a : Int) (L : List ZV) (h : PH), zev kX1_about 132 L [zvi a] h = zrv (zvi a) h) ∧
  (∀ (a : Option Nat) (L st : List ZV) (h : PH), zev kX1_about 133 (zvr a :: L) st h = zev kX1_about 134 (zvr a :: L) (zvr a :: st) h) ∧
  (∀ (L st : List ZV) (h : PH), zev kX1_about 134 L st h = zev kX1_about 135 L (zvi 1 :: st) h) ∧
  (∀ (v0 : ZV) (q : Nat) (L st : List ZV) (h : PH), zev kX1_about 135 L (v0 :: zvr (some q) :: st) h = if (ph_K h q).1 % 1000 = 16 ∧ zcat st ≤ 8 then zk kX1_about 135 138 L st (mX1_refused [zvr (some q), v0] h) else none) ∧
  (∀ (a : Int) (L : List ZV) (h : PH), zev kX1_about 138 L [zvi a] h = zrv (zvi a) h) :=
  ⟨fun a L st h => e_ld0R (n := 1) rfl,
  fun q L st h => e_getR (kd := 16) (k := 5) (n := 4) rfl,
  fun L st h => e_nonnull0 (t := 13) (n := 7) rfl,
  fun q L st h => e_nonnull1 (t := 13) (n := 7) rfl,
  fun a L st h => e_ld0R (n := 8) rfl,
  fun L st h => e_push (v := zvi 1) (n := 9) rfl,
  fun v0 q L st h => e_callV2 (F := mX1_refused) (kd := 16) (n := 12) rfl,
  fun a L h => e_retI rfl,
  fun x0 a L st h => e_ld1I (n := 14) rfl,
  fun a L st h => e_sw (lo := 0) (hi := 5) (ts := [52, 64, 79, 94, 106, 121]) (d := 133) rfl,
  fun a L st h => e_ld0R (n := 53) rfl,
  fun a L st h => e_ld0R (n := 54) rfl,
  fun q L st h => e_getR (kd := 16) (k := 5) (n := 57) rfl,
  fun q L st h => e_getI (kd := 20) (k := 0) (n := 60) rfl,
  fun v0 q L st h => e_callV2 (F := mX1_fine) (kd := 16) (n := 63) rfl,
  fun a L h => e_retI rfl,
  fun a L st h => e_ld0R (n := 65) rfl,
  fun a L st h => e_ld0R (n := 66) rfl,
  fun q L st h => e_getR (kd := 16) (k := 5) (n := 69) rfl,
  fun q L st h => e_getR (kd := 20) (k := 2) (n := 72) rfl,
  fun q L st h => e_callV1 (F := mJ7_size) (kd := 29) (n := 75) rfl,
  fun v0 q L st h => e_callV2 (F := mX1_fine) (kd := 16) (n := 78) rfl,
  fun a L h => e_retI rfl,
  fun a L st h => e_ld0R (n := 80) rfl,
  fun a L st h => e_ld0R (n := 81) rfl,
  fun q L st h => e_getR (kd := 16) (k := 5) (n := 84) rfl,
  fun q L st h => e_getR (kd := 20) (k := 3) (n := 87) rfl,
  fun q L st h => e_callV1 (F := mJ7_size) (kd := 29) (n := 90) rfl,
  fun v0 q L st h => e_callV2 (F := mX1_fine) (kd := 16) (n := 93) rfl,
  fun a L h => e_retI rfl,
  fun a L st h => e_ld0R (n := 95) rfl,
  fun a L st h => e_ld0R (n := 96) rfl,
  fun q L st h => e_getR (kd := 16) (k := 5) (n := 99) rfl,
  fun q L st h => e_getI (kd := 20) (k := 1) (n := 102) rfl,
  fun v0 q L st h => e_callV2 (F := mX1_fine) (kd := 16) (n := 105) rfl,
  fun a L h => e_retI rfl,
  fun a L st h => e_ld0R (n := 107) rfl,
  fun a L st h => e_ld0R (n := 108) rfl,
  fun q L st h => e_getR (kd := 16) (k := 5) (n := 111) rfl,
  fun q L st h => e_getR (kd := 20) (k := 4) (n := 114) rfl,
  fun q L st h => e_callV1 (F := mJ7_size) (kd := 29) (n := 117) rfl,
  fun v0 q L st h => e_callV2 (F := mX1_fine) (kd := 16) (n := 120) rfl,
  fun a L h => e_retI rfl,
  fun a L st h => e_ld0R (n := 122) rfl,
  fun a L st h => e_ld0R (n := 123) rfl,
  fun q L st h => e_getR (kd := 16) (k := 6) (n := 126) rfl,
  fun q L st h => e_callV1 (F := mJ2_size) (kd := 31) (n := 129) rfl,
  fun v0 q L st h => e_callV2 (F := mX1_fine) (kd := 16) (n := 132) rfl,
  fun a L h => e_retI rfl,
  fun a L st h => e_ld0R (n := 134) rfl,
  fun L st h => e_push (v := zvi 1) (n := 135) rfl,
  fun v0 q L st h => e_callV2 (F := mX1_refused) (kd := 16) (n := 138) rfl,
  fun a L h => e_retI rfl⟩
theorem allX1_about : zall yX1_about cX1_about 2 (some .int) 3 kX1_about.1 :=
  ⟨k_aload_n dX1_about_0,
  k_getR (C := RX1) (T := TX1) (N := 19) (ci := 0) (k := 5) (ref := "LinkTimes") dX1_about_1 rfl in_X1 (by decide) q308 (Or.inl rfl) (fun _ _ _ => rfl),
  k_nonnull (t := 13) dX1_about_4 (by decide),
  k_aload_n dX1_about_7,
  k_iconst dX1_about_8,
  k_callV (y2 := yX1_refused) (C := RX1) (T0 := TX1) (ci := 0) dX1_about_9 sndX1_refused rfl q378 q380 qs1 q128 q381 (by decide +kernel) ⟨by decide, by decide⟩ (by decide) (by decide),
  k_iret dX1_about_12,
  k_iload_n dX1_about_13,
  k_sw (ts := [52, 64, 79, 94, 106, 121]) (dt := 133) dX1_about_14 (by decide) (by decide) (by decide),
  k_aload_n dX1_about_52,
  k_aload_n dX1_about_53,
  k_getR (C := RX1) (T := TX1) (N := 19) (ci := 0) (k := 5) (ref := "LinkTimes") dX1_about_54 rfl in_X1 (by decide) q308 (Or.inl rfl) (fun _ _ _ => rfl),
  k_getIN (C := RX6) (T := TX6) (N := 5) (ci := 4) (k := 0) (ref := "LinkTimes$Desk") dX1_about_57 rfl in_X6 (by decide) q417 (Or.inl rfl) (fun _ _ _ => rfl),
  k_callV (y2 := yX1_fine) (C := RX1) (T0 := TX1) (ci := 0) dX1_about_60 sndX1_fine rfl q1211 q1213 qs32 q128 q1214 (by decide +kernel) ⟨by decide, by decide⟩ (by decide) (by decide),
  k_iret dX1_about_63,
  k_aload_n dX1_about_64,
  k_aload_n dX1_about_65,
  k_getR (C := RX1) (T := TX1) (N := 19) (ci := 0) (k := 5) (ref := "LinkTimes") dX1_about_66 rfl in_X1 (by decide) q308 (Or.inl rfl) (fun _ _ _ => rfl),
  k_getRN (C := RX6) (T := TX6) (N := 5) (ci := 4) (k := 2) (ref := "LinkTimes$Desk") dX1_about_69 rfl in_X6 (by decide) q423 (Or.inl rfl) (fun _ _ _ => rfl),
  k_callV (y2 := yJ7_size) (C := RJ7) (T0 := TJ7) (ci := 13) dX1_about_72 sndJ7_size rfl q936 q652 q653 q141 q654 (by decide +kernel) ⟨by decide, by decide⟩ (by decide) (by decide),
  k_callV (y2 := yX1_fine) (C := RX1) (T0 := TX1) (ci := 0) dX1_about_75 sndX1_fine rfl q1211 q1213 qs32 q128 q1214 (by decide +kernel) ⟨by decide, by decide⟩ (by decide) (by decide),
  k_iret dX1_about_78,
  k_aload_n dX1_about_79,
  k_aload_n dX1_about_80,
  k_getR (C := RX1) (T := TX1) (N := 19) (ci := 0) (k := 5) (ref := "LinkTimes") dX1_about_81 rfl in_X1 (by decide) q308 (Or.inl rfl) (fun _ _ _ => rfl),
  k_getRN (C := RX6) (T := TX6) (N := 5) (ci := 4) (k := 3) (ref := "LinkTimes$Desk") dX1_about_84 rfl in_X6 (by decide) q426 (Or.inl rfl) (fun _ _ _ => rfl),
  k_callV (y2 := yJ7_size) (C := RJ7) (T0 := TJ7) (ci := 13) dX1_about_87 sndJ7_size rfl q936 q652 q653 q141 q654 (by decide +kernel) ⟨by decide, by decide⟩ (by decide) (by decide),
  k_callV (y2 := yX1_fine) (C := RX1) (T0 := TX1) (ci := 0) dX1_about_90 sndX1_fine rfl q1211 q1213 qs32 q128 q1214 (by decide +kernel) ⟨by decide, by decide⟩ (by decide) (by decide),
  k_iret dX1_about_93,
  k_aload_n dX1_about_94,
  k_aload_n dX1_about_95,
  k_getR (C := RX1) (T := TX1) (N := 19) (ci := 0) (k := 5) (ref := "LinkTimes") dX1_about_96 rfl in_X1 (by decide) q308 (Or.inl rfl) (fun _ _ _ => rfl),
  k_getIN (C := RX6) (T := TX6) (N := 5) (ci := 4) (k := 1) (ref := "LinkTimes$Desk") dX1_about_99 rfl in_X6 (by decide) q419 (Or.inl rfl) (fun _ _ _ => rfl),
  k_callV (y2 := yX1_fine) (C := RX1) (T0 := TX1) (ci := 0) dX1_about_102 sndX1_fine rfl q1211 q1213 qs32 q128 q1214 (by decide +kernel) ⟨by decide, by decide⟩ (by decide) (by decide),
  k_iret dX1_about_105,
  k_aload_n dX1_about_106,
  k_aload_n dX1_about_107,
  k_getR (C := RX1) (T := TX1) (N := 19) (ci := 0) (k := 5) (ref := "LinkTimes") dX1_about_108 rfl in_X1 (by decide) q308 (Or.inl rfl) (fun _ _ _ => rfl),
  k_getRN (C := RX6) (T := TX6) (N := 5) (ci := 4) (k := 4) (ref := "LinkTimes$Desk") dX1_about_111 rfl in_X6 (by decide) q430 (Or.inl rfl) (fun _ _ _ => rfl),
  k_callV (y2 := yJ7_size) (C := RJ7) (T0 := TJ7) (ci := 13) dX1_about_114 sndJ7_size rfl q936 q652 q653 q141 q654 (by decide +kernel) ⟨by decide, by decide⟩ (by decide) (by decide),
  k_callV (y2 := yX1_fine) (C := RX1) (T0 := TX1) (ci := 0) dX1_about_117 sndX1_fine rfl q1211 q1213 qs32 q128 q1214 (by decide +kernel) ⟨by decide, by decide⟩ (by decide) (by decide),
  k_iret dX1_about_120,
  k_aload_n dX1_about_121,
  k_aload_n dX1_about_122,
  k_getR (C := RX1) (T := TX1) (N := 19) (ci := 0) (k := 6) (ref := "LinkTimes") dX1_about_123 rfl in_X1 (by decide) q309 (Or.inl rfl) (fun _ _ _ => rfl),
  k_callV (y2 := yJ2_size) (C := RJ2) (T0 := TJ2) (ci := 15) dX1_about_126 sndJ2_size rfl q1227 q1228 q1229 q131 q1230 (by decide +kernel) ⟨by decide, by decide⟩ (by decide) (by decide),
  k_callV (y2 := yX1_fine) (C := RX1) (T0 := TX1) (ci := 0) dX1_about_129 sndX1_fine rfl q1211 q1213 qs32 q128 q1214 (by decide +kernel) ⟨by decide, by decide⟩ (by decide) (by decide),
  k_iret dX1_about_132,
  k_aload_n dX1_about_133,
  k_iconst dX1_about_134,
  k_callV (y2 := yX1_refused) (C := RX1) (T0 := TX1) (ci := 0) dX1_about_135 sndX1_refused rfl q378 q380 qs1 q128 q381 (by decide +kernel) ⟨by decide, by decide⟩ (by decide) (by decide),
  k_iret dX1_about_138, trivial⟩
theorem sndX1_about : MSound 3 yX1_about (ws_ yX1_about cX1_about 2 (some .int)) mX1_about := msound_M (by decide) allX1_about (fun _ _ => rfl)
/-! LinkTimes.isSpot(I)Z -/
noncomputable def kX1_isSpot : ZM := ([(0, zi_ld 1 0 1), (1, zi_getR 16 5 4), (4, zi_null 31 7), (7, zi_ld 0 1 8), (8, zi_push (zvi 0) 9), (9, zi_ld 1 0 10), (10, zi_getR 16 5 13), (13, zi_getR 20 2 16), (16, zi_callV mJ7_size 29 1 19), (19, zi_push (zvi 1) 20), (20, zi_bin (fun a b => w32 (a - b)) 21), (21, zi_callS mX1_isIn 3 24), (24, zi_if (fun a => zc_eq a 0) 31 27), (27, zi_push (zvi 1) 28), (28, zi_goto 32), (31, zi_push (zvi 0) 32), (32, zi_retz)], fun _ _ => none)
noncomputable def mX1_isSpot : ZF := zrunM kX1_isSpot 2
theorem enX1_isSpot (x0 : Option Nat) (x1 : Int) (h : PH) : mX1_isSpot [zvr x0, zvi x1] h = zev kX1_isSpot 0 [zvr x0, zvi x1] [] h := zrunM_eq rfl rfl
theorem rX1_isSpot : (∀ (a : Option Nat) (L st : List ZV) (h : PH), zev kX1_isSpot 0 (zvr a :: L) st h = zev kX1_isSpot 1 (zvr a :: L) (zvr a :: st) h) ∧
  (∀ (q : Nat) (L st : List ZV) (h : PH), zev kX1_isSpot 1 L (zvr (some q) :: st) h = if (ph_K h q).1 % 1000 = 16 then zev kX1_isSpot 4 L (zvr (ph_R h q 5) :: st) h else none) ∧
  (∀ (L st : List ZV) (h : PH), zev kX1_isSpot 4 L (zvr none :: st) h = zev kX1_isSpot 31 L st h) ∧
  (∀ (q : Nat) (L st : List ZV) (h : PH), zev kX1_isSpot 4 L (zvr (some q) :: st) h = if (ph_K h q).1 ≠ 0 then zev kX1_isSpot 7 L st h else none) ∧
  (∀ (x0 : ZV) (a : Int) (L st : List ZV) (h : PH), zev kX1_isSpot 7 (x0 :: zvi a :: L) st h = zev kX1_isSpot 8 (x0 :: zvi a :: L) (zvi a :: st) h) ∧
  (∀ (L st : List ZV) (h : PH), zev kX1_isSpot 8 L st h = zev kX1_isSpot 9 L (zvi 0 :: st) h) ∧
  (∀ (a : Option Nat) (L st : List ZV) (h : PH), zev kX1_isSpot 9 (zvr a :: L) st h = zev kX1_isSpot 10 (zvr a :: L) (zvr a :: st) h) ∧
  (∀ (q : Nat) (L st : List ZV) (h : PH), zev kX1_isSpot 10 L (zvr (some q) :: st) h = if (ph_K h q).1 % 1000 = 16 then zev kX1_isSpot 13 L (zvr (ph_R h q 5) :: st) h else none) ∧
  (∀ (q : Nat) (L st : List ZV) (h : PH), zev kX1_isSpot 13 L (zvr (some q) :: st) h = if (ph_K h q).1 % 1000 = 20 then zev kX1_isSpot 16 L (zvr (ph_R h q 2) :: st) h else none) ∧
  (∀ (q : Nat) (L st : List ZV) (h : PH), zev kX1_isSpot 16 L (zvr (some q) :: st) h = if (ph_K h q).1 % 1000 = 29 ∧ zcat st ≤ 8 then zk kX1_isSpot 16 19 L st (mJ7_size [zvr (some q)] h) else none) ∧
  (∀ (L st : List ZV) (h : PH), zev kX1_isSpot 19 L st h = zev kX1_isSpot 20 L (zvi 1 :: st) h) ∧
  (∀ (a b : Int) (L st : List ZV) (h : PH), zev kX1_isSpot 20 L (zvi b :: zvi a :: st) h = zev kX1_isSpot 21 L (zvi (w32 (a - b)) :: st) h) ∧
  (∀ (v0 v1 v2 : ZV) (L st : List ZV) (h : PH), zev kX1_isSpot 21 L (v2 :: v1 :: v0 :: st) h = if zcat st ≤ 8 then zk kX1_isSpot 21 24 L st (mX1_isIn [v0, v1, v2] h) else none) ∧
  (∀ (a : Int) (L st : List ZV) (h : PH), zev kX1_isSpot 24 L (zvi a :: st) h = if a = 0 then zev kX1_isSpot 31 L st h else zev kX1_isSpot 27 L st h) ∧
  (∀ (L st : List ZV) (h : PH), zev kX1_isSpot 27 L st h = zev kX1_isSpot 28 L (zvi 1 :: st) h) ∧
  (∀ (L st : List ZV) (h : PH), zev kX1_isSpot 28 L st h = zev kX1_isSpot 32 L st h) ∧
  (∀ (L st : List ZV) (h : PH), zev kX1_isSpot 31 L st h = zev kX1_isSpot 32 L (zvi 0 :: st) h) ∧
  (∀ (a : Int) (L : List ZV) (h : PH), zev kX1_isSpot 32 L [zvi a] h = if a = 0 ∨ a = 1 then zrv (zvi a) h else none) :=
  ⟨fun a L st h => e_ld0R (n := 1) rfl,
  fun q L st h => e_getR (kd := 16) (k := 5) (n := 4) rfl,
  fun L st h => e_null0 (t := 31) (n := 7) rfl,
  fun q L st h => e_null1 (t := 31) (n := 7) rfl,
  fun x0 a L st h => e_ld1I (n := 8) rfl,
  fun L st h => e_push (v := zvi 0) (n := 9) rfl,
  fun a L st h => e_ld0R (n := 10) rfl,
  fun q L st h => e_getR (kd := 16) (k := 5) (n := 13) rfl,
  fun q L st h => e_getR (kd := 20) (k := 2) (n := 16) rfl,
  fun q L st h => e_callV1 (F := mJ7_size) (kd := 29) (n := 19) rfl,
  fun L st h => e_push (v := zvi 1) (n := 20) rfl,
  fun a b L st h => e_bin (f := (fun a b => w32 (a - b))) (n := 21) rfl,
  fun v0 v1 v2 L st h => e_callS3 (F := mX1_isIn) (n := 24) rfl,
  fun a L st h => e_ifeq (t := 31) (n := 27) rfl,
  fun L st h => e_push (v := zvi 1) (n := 28) rfl,
  fun L st h => e_goto (t := 32) rfl,
  fun L st h => e_push (v := zvi 0) (n := 32) rfl,
  fun a L h => e_retz rfl⟩
theorem allX1_isSpot : zall yX1_isSpot cX1_isSpot 2 (some .boolean) 2 kX1_isSpot.1 :=
  ⟨k_aload_n dX1_isSpot_0,
  k_getR (C := RX1) (T := TX1) (N := 19) (ci := 0) (k := 5) (ref := "LinkTimes") dX1_isSpot_1 rfl in_X1 (by decide) q308 (Or.inl rfl) (fun _ _ _ => rfl),
  k_null (t := 31) dX1_isSpot_4 (by decide),
  k_iload_n dX1_isSpot_7,
  k_iconst dX1_isSpot_8,
  k_aload_n dX1_isSpot_9,
  k_getR (C := RX1) (T := TX1) (N := 19) (ci := 0) (k := 5) (ref := "LinkTimes") dX1_isSpot_10 rfl in_X1 (by decide) q308 (Or.inl rfl) (fun _ _ _ => rfl),
  k_getRN (C := RX6) (T := TX6) (N := 5) (ci := 4) (k := 2) (ref := "LinkTimes$Desk") dX1_isSpot_13 rfl in_X6 (by decide) q423 (Or.inl rfl) (fun _ _ _ => rfl),
  k_callV (y2 := yJ7_size) (C := RJ7) (T0 := TJ7) (ci := 13) dX1_isSpot_16 sndJ7_size rfl q936 q652 q653 q141 q654 (by decide +kernel) ⟨by decide, by decide⟩ (by decide) (by decide),
  k_iconst dX1_isSpot_19,
  k_isub dX1_isSpot_20,
  k_callS (y2 := yX1_isIn) dX1_isSpot_21 sndX1_isIn q375 q376 q128 q377 (by decide +kernel) ⟨by decide, by decide⟩ (by decide) (by decide),
  k_ifeq (t := 31) dX1_isSpot_24 (by decide),
  k_iconst dX1_isSpot_27,
  k_goto (t := 32) dX1_isSpot_28 (by decide),
  k_iconst dX1_isSpot_31,
  k_zret dX1_isSpot_32, trivial⟩
theorem sndX1_isSpot : MSound 2 yX1_isSpot (ws_ yX1_isSpot cX1_isSpot 2 (some .boolean)) mX1_isSpot := msound_M (by decide) allX1_isSpot (fun _ _ => rfl)
/-! LinkTimes.at(IZ)I -/
noncomputable def kX1_at : ZM := ([(0, zi_push (zvi 0) 1), (1, zi_st 0 3 2), (2, zi_push (zvi 0) 3), (3, zi_st 0 4 5), (5, zi_ld 0 4 7), (7, zi_ld 1 0 8), (8, zi_getR 16 5 11), (11, zi_getR 20 4 14), (14, zi_callV mJ7_size 29 1 17), (17, zi_cmp zc_ge 75 20), (20, zi_ld 1 0 21), (21, zi_getR 16 5 24), (24, zi_getR 20 4 27), (27, zi_ld 0 4 29), (29, zi_callV mJ7_get 29 2 32), (32, zi_cast zokDep 35), (35, zi_st 1 5 37), (37, zi_ld 1 5 39), (39, zi_getI 22 8 42), (42, zi_if (fun a => zc_eq a 0) 69 45), (45, zi_ld 0 2 46), (46, zi_if (fun a => zc_eq a 0) 57 49), (49, zi_ld 1 5 51), (51, zi_getI 22 3 54), (54, zi_goto 62), (57, zi_ld 1 5 59), (59, zi_getI 22 4 62), (62, zi_ld 0 1 63), (63, zi_cmp zc_ne 69 66), (66, zi_iinc 3 1 69), (69, zi_iinc 4 1 72), (72, zi_goto 5), (75, zi_ld 0 3 76), (76, zi_retv 0)], fun _ _ => none)
noncomputable def mX1_at : ZF := zrunM kX1_at 6
theorem enX1_at (x0 : Option Nat) (x1 : Int) (x2 : Int) (h : PH) : mX1_at [zvr x0, zvi x1, zvi x2] h = zev kX1_at 0 [zvr x0, zvi x1, zvi x2, zvu, zvu, zvu] [] h := zrunM_eq rfl rfl
theorem hdX1_at_5 (x0 x1 x2 x3 : ZV) (a : Int) (L st : List ZV) (h : PH) : zev kX1_at 5 (x0 :: x1 :: x2 :: x3 :: zvi a :: L) st h = zev kX1_at 7 (x0 :: x1 :: x2 :: x3 :: zvi a :: L) (zvi a :: st) h := e_ld4I (n := 7) rfl
theorem rX1_at : (∀ (L st : List ZV) (h : PH), zev kX1_at 0 L st h = zev kX1_at 1 L (zvi 0 :: st) h) ∧
  (∀ (x0 x1 x2 x3 : ZV) (a : Int) (L st : List ZV) (h : PH) (hx : zisL x2 = false) , zev kX1_at 1 (x0 :: x1 :: x2 :: x3 :: L) (zvi a :: st) h = zev kX1_at 2 (x0 :: x1 :: x2 :: zvi a :: L) st h) ∧
  (∀ (L st : List ZV) (h : PH), zev kX1_at 2 L st h = zev kX1_at 3 L (zvi 0 :: st) h) ∧
  (∀ (x0 x1 x2 x3 x4 : ZV) (a : Int) (L st : List ZV) (h : PH) (hx : zisL x3 = false) , zev kX1_at 3 (x0 :: x1 :: x2 :: x3 :: x4 :: L) (zvi a :: st) h = zev kX1_at 5 (x0 :: x1 :: x2 :: x3 :: zvi a :: L) st h) ∧
  (∀ (a : Option Nat) (L st : List ZV) (h : PH), zev kX1_at 7 (zvr a :: L) st h = zev kX1_at 8 (zvr a :: L) (zvr a :: st) h) ∧
  (∀ (q : Nat) (L st : List ZV) (h : PH), zev kX1_at 8 L (zvr (some q) :: st) h = if (ph_K h q).1 % 1000 = 16 then zev kX1_at 11 L (zvr (ph_R h q 5) :: st) h else none) ∧
  (∀ (q : Nat) (L st : List ZV) (h : PH), zev kX1_at 11 L (zvr (some q) :: st) h = if (ph_K h q).1 % 1000 = 20 then zev kX1_at 14 L (zvr (ph_R h q 4) :: st) h else none) ∧
  (∀ (q : Nat) (L st : List ZV) (h : PH), zev kX1_at 14 L (zvr (some q) :: st) h = if (ph_K h q).1 % 1000 = 29 ∧ zcat st ≤ 8 then zk kX1_at 14 17 L st (mJ7_size [zvr (some q)] h) else none) ∧
  (∀ (a b : Int) (L st : List ZV) (h : PH), zev kX1_at 17 L (zvi b :: zvi a :: st) h = if a ≥ b then zev kX1_at 75 L st h else zev kX1_at 20 L st h) ∧
  (∀ (a : Option Nat) (L st : List ZV) (h : PH), zev kX1_at 20 (zvr a :: L) st h = zev kX1_at 21 (zvr a :: L) (zvr a :: st) h) ∧
  (∀ (q : Nat) (L st : List ZV) (h : PH), zev kX1_at 21 L (zvr (some q) :: st) h = if (ph_K h q).1 % 1000 = 16 then zev kX1_at 24 L (zvr (ph_R h q 5) :: st) h else none) ∧
  (∀ (q : Nat) (L st : List ZV) (h : PH), zev kX1_at 24 L (zvr (some q) :: st) h = if (ph_K h q).1 % 1000 = 20 then zev kX1_at 27 L (zvr (ph_R h q 4) :: st) h else none) ∧
  (∀ (x0 x1 x2 x3 : ZV) (a : Int) (L st : List ZV) (h : PH), zev kX1_at 27 (x0 :: x1 :: x2 :: x3 :: zvi a :: L) st h = zev kX1_at 29 (x0 :: x1 :: x2 :: x3 :: zvi a :: L) (zvi a :: st) h) ∧
  (∀ (v0 : ZV) (q : Nat) (L st : List ZV) (h : PH), zev kX1_at 29 L (v0 :: zvr (some q) :: st) h = if (ph_K h q).1 % 1000 = 29 ∧ zcat st ≤ 8 then zk kX1_at 29 32 L st (mJ7_get [zvr (some q), v0] h) else none) ∧
  (∀ (L st : List ZV) (h : PH), zev kX1_at 32 L (zvr none :: st) h = zev kX1_at 35 L (zvr none :: st) h) ∧
  (∀ (q : Nat) (L st : List ZV) (h : PH), zev kX1_at 32 L (zvr (some q) :: st) h = if zokDep (ph_K h q).1 = true then zev kX1_at 35 L (zvr (some q) :: st) h else none) ∧
  (∀ (x0 x1 x2 x3 x4 x5 : ZV) (a : Option Nat) (L st : List ZV) (h : PH) (hx : zisL x4 = false) , zev kX1_at 35 (x0 :: x1 :: x2 :: x3 :: x4 :: x5 :: L) (zvr a :: st) h = zev kX1_at 37 (x0 :: x1 :: x2 :: x3 :: x4 :: zvr a :: L) st h) ∧
  (∀ (x0 x1 x2 x3 x4 : ZV) (a : Option Nat) (L st : List ZV) (h : PH), zev kX1_at 37 (x0 :: x1 :: x2 :: x3 :: x4 :: zvr a :: L) st h = zev kX1_at 39 (x0 :: x1 :: x2 :: x3 :: x4 :: zvr a :: L) (zvr a :: st) h) ∧
  (∀ (q : Nat) (L st : List ZV) (h : PH), zev kX1_at 39 L (zvr (some q) :: st) h = if (ph_K h q).1 % 1000 = 22 then zev kX1_at 42 L (zvi (ph_I h q 8) :: st) h else none) ∧
  (∀ (a : Int) (L st : List ZV) (h : PH), zev kX1_at 42 L (zvi a :: st) h = if a = 0 then zev kX1_at 69 L st h else zev kX1_at 45 L st h) ∧
  (∀ (x0 x1 : ZV) (a : Int) (L st : List ZV) (h : PH), zev kX1_at 45 (x0 :: x1 :: zvi a :: L) st h = zev kX1_at 46 (x0 :: x1 :: zvi a :: L) (zvi a :: st) h) ∧
  (∀ (a : Int) (L st : List ZV) (h : PH), zev kX1_at 46 L (zvi a :: st) h = if a = 0 then zev kX1_at 57 L st h else zev kX1_at 49 L st h) ∧
  (∀ (x0 x1 x2 x3 x4 : ZV) (a : Option Nat) (L st : List ZV) (h : PH), zev kX1_at 49 (x0 :: x1 :: x2 :: x3 :: x4 :: zvr a :: L) st h = zev kX1_at 51 (x0 :: x1 :: x2 :: x3 :: x4 :: zvr a :: L) (zvr a :: st) h) ∧
  (∀ (q : Nat) (L st : List ZV) (h : PH), zev kX1_at 51 L (zvr (some q) :: st) h = if (ph_K h q).1 % 1000 = 22 then zev kX1_at 54 L (zvi (ph_I h q 3) :: st) h else none) ∧
  (∀ (L st : List ZV) (h : PH), zev kX1_at 54 L st h = zev kX1_at 62 L st h) ∧
  (∀ (x0 x1 x2 x3 x4 : ZV) (a : Option Nat) (L st : List ZV) (h : PH), zev kX1_at 57 (x0 :: x1 :: x2 :: x3 :: x4 :: zvr a :: L) st h = zev kX1_at 59 (x0 :: x1 :: x2 :: x3 :: x4 :: zvr a :: L) (zvr a :: st) h) ∧
  (∀ (q : Nat) (L st : List ZV) (h : PH), zev kX1_at 59 L (zvr (some q) :: st) h = if (ph_K h q).1 % 1000 = 22 then zev kX1_at 62 L (zvi (ph_I h q 4) :: st) h else none) ∧
  (∀ (x0 : ZV) (a : Int) (L st : List ZV) (h : PH), zev kX1_at 62 (x0 :: zvi a :: L) st h = zev kX1_at 63 (x0 :: zvi a :: L) (zvi a :: st) h) ∧
  (∀ (a b : Int) (L st : List ZV) (h : PH), zev kX1_at 63 L (zvi b :: zvi a :: st) h = if a ≠ b then zev kX1_at 69 L st h else zev kX1_at 66 L st h) ∧
  (∀ (x0 x1 x2 : ZV) (a : Int) (L st : List ZV) (h : PH) (hx : zisL x2 = false) , zev kX1_at 66 (x0 :: x1 :: x2 :: zvi a :: L) st h = zev kX1_at 69 (x0 :: x1 :: x2 :: zvi (w32 (a + 1)) :: L) st h) ∧
  (∀ (x0 x1 x2 x3 : ZV) (a : Int) (L st : List ZV) (h : PH) (hx : zisL x3 = false) , zev kX1_at 69 (x0 :: x1 :: x2 :: x3 :: zvi a :: L) st h = zev kX1_at 72 (x0 :: x1 :: x2 :: x3 :: zvi (w32 (a + 1)) :: L) st h) ∧
  (∀ (L st : List ZV) (h : PH), zev kX1_at 72 L st h = zev kX1_at 5 L st h) ∧
  (∀ (x0 x1 x2 : ZV) (a : Int) (L st : List ZV) (h : PH), zev kX1_at 75 (x0 :: x1 :: x2 :: zvi a :: L) st h = zev kX1_at 76 (x0 :: x1 :: x2 :: zvi a :: L) (zvi a :: st) h) ∧
  (∀ (a : Int) (L : List ZV) (h : PH), zev kX1_at 76 L [zvi a] h = zrv (zvi a) h) :=
  ⟨fun L st h => e_push (v := zvi 0) (n := 1) rfl,
  fun x0 x1 x2 x3 a L st h hx => e_st3I (n := 2) rfl hx,
  fun L st h => e_push (v := zvi 0) (n := 3) rfl,
  fun x0 x1 x2 x3 x4 a L st h hx => e_st4I (n := 5) rfl hx,
  fun a L st h => e_ld0R (n := 8) rfl,
  fun q L st h => e_getR (kd := 16) (k := 5) (n := 11) rfl,
  fun q L st h => e_getR (kd := 20) (k := 4) (n := 14) rfl,
  fun q L st h => e_callV1 (F := mJ7_size) (kd := 29) (n := 17) rfl,
  fun a b L st h => e_cmpge (t := 75) (n := 20) rfl,
  fun a L st h => e_ld0R (n := 21) rfl,
  fun q L st h => e_getR (kd := 16) (k := 5) (n := 24) rfl,
  fun q L st h => e_getR (kd := 20) (k := 4) (n := 27) rfl,
  fun x0 x1 x2 x3 a L st h => e_ld4I (n := 29) rfl,
  fun v0 q L st h => e_callV2 (F := mJ7_get) (kd := 29) (n := 32) rfl,
  fun L st h => e_cast0 (ok := zokDep) (n := 35) rfl,
  fun q L st h => e_cast1 (ok := zokDep) (n := 35) rfl,
  fun x0 x1 x2 x3 x4 x5 a L st h hx => e_st5R (n := 37) rfl hx,
  fun x0 x1 x2 x3 x4 a L st h => e_ld5R (n := 39) rfl,
  fun q L st h => e_getI (kd := 22) (k := 8) (n := 42) rfl,
  fun a L st h => e_ifeq (t := 69) (n := 45) rfl,
  fun x0 x1 a L st h => e_ld2I (n := 46) rfl,
  fun a L st h => e_ifeq (t := 57) (n := 49) rfl,
  fun x0 x1 x2 x3 x4 a L st h => e_ld5R (n := 51) rfl,
  fun q L st h => e_getI (kd := 22) (k := 3) (n := 54) rfl,
  fun L st h => e_goto (t := 62) rfl,
  fun x0 x1 x2 x3 x4 a L st h => e_ld5R (n := 59) rfl,
  fun q L st h => e_getI (kd := 22) (k := 4) (n := 62) rfl,
  fun x0 a L st h => e_ld1I (n := 63) rfl,
  fun a b L st h => e_cmpne (t := 69) (n := 66) rfl,
  fun x0 x1 x2 a L st h hx => e_iinc3 (d := 1) (n := 69) rfl hx,
  fun x0 x1 x2 x3 a L st h hx => e_iinc4 (d := 1) (n := 72) rfl hx,
  fun L st h => e_goto (t := 5) rfl,
  fun x0 x1 x2 a L st h => e_ld3I (n := 76) rfl,
  fun a L h => e_retI rfl⟩
theorem allX1_at : zall yX1_at cX1_at 6 (some .int) 4 kX1_at.1 :=
  ⟨k_iconst dX1_at_0,
  k_istore_n dX1_at_1,
  k_iconst dX1_at_2,
  k_istore dX1_at_3,
  k_iload dX1_at_5,
  k_aload_n dX1_at_7,
  k_getR (C := RX1) (T := TX1) (N := 19) (ci := 0) (k := 5) (ref := "LinkTimes") dX1_at_8 rfl in_X1 (by decide) q308 (Or.inl rfl) (fun _ _ _ => rfl),
  k_getRN (C := RX6) (T := TX6) (N := 5) (ci := 4) (k := 4) (ref := "LinkTimes$Desk") dX1_at_11 rfl in_X6 (by decide) q430 (Or.inl rfl) (fun _ _ _ => rfl),
  k_callV (y2 := yJ7_size) (C := RJ7) (T0 := TJ7) (ci := 13) dX1_at_14 sndJ7_size rfl q936 q652 q653 q141 q654 (by decide +kernel) ⟨by decide, by decide⟩ (by decide) (by decide),
  k_cmpge (t := 75) dX1_at_17 (by decide),
  k_aload_n dX1_at_20,
  k_getR (C := RX1) (T := TX1) (N := 19) (ci := 0) (k := 5) (ref := "LinkTimes") dX1_at_21 rfl in_X1 (by decide) q308 (Or.inl rfl) (fun _ _ _ => rfl),
  k_getRN (C := RX6) (T := TX6) (N := 5) (ci := 4) (k := 4) (ref := "LinkTimes$Desk") dX1_at_24 rfl in_X6 (by decide) q430 (Or.inl rfl) (fun _ _ _ => rfl),
  k_iload dX1_at_27,
  k_callV (y2 := yJ7_get) (C := RJ7) (T0 := TJ7) (ci := 13) dX1_at_29 sndJ7_get rfl q937 q695 q696 q141 q697 (by decide +kernel) ⟨by decide, by decide⟩ (by decide) (by decide),
  k_cast (nm := "LinkTimes$Departure") dX1_at_32 q938 zokDep_can,
  k_astore dX1_at_35,
  k_aload dX1_at_37,
  k_getIN (C := RX11) (T := TX11) (N := 9) (ci := 6) (k := 8) (ref := "LinkTimes$Departure") dX1_at_39 rfl in_X11 (by decide) q871 (Or.inl rfl) (fun _ _ _ => rfl),
  k_ifeq (t := 69) dX1_at_42 (by decide),
  k_iload_n dX1_at_45,
  k_ifeq (t := 57) dX1_at_46 (by decide),
  k_aload dX1_at_49,
  k_getIN (C := RX11) (T := TX11) (N := 9) (ci := 6) (k := 3) (ref := "LinkTimes$Departure") dX1_at_51 rfl in_X11 (by decide) q859 (Or.inl rfl) (fun _ _ _ => rfl),
  k_goto (t := 62) dX1_at_54 (by decide),
  k_aload dX1_at_57,
  k_getIN (C := RX11) (T := TX11) (N := 9) (ci := 6) (k := 4) (ref := "LinkTimes$Departure") dX1_at_59 rfl in_X11 (by decide) q862 (Or.inl rfl) (fun _ _ _ => rfl),
  k_iload_n dX1_at_62,
  k_cmpne (t := 69) dX1_at_63 (by decide),
  k_iinc dX1_at_66,
  k_iinc dX1_at_69,
  k_goto (t := 5) dX1_at_72 (by decide),
  k_iload_n dX1_at_75,
  k_iret dX1_at_76, trivial⟩
theorem sndX1_at : MSound 4 yX1_at (ws_ yX1_at cX1_at 6 (some .int)) mX1_at := msound_M (by decide) allX1_at (fun _ _ => rfl)
/-! LinkTimes.spot(II)I -/
noncomputable def kX1_spot : ZM := ([(0, zi_ld 1 0 1), (1, zi_ld 0 1 2), (2, zi_callV mX1_isSpot 16 2 5), (5, zi_if (fun a => zc_ne a 0) 14 8), (8, zi_ld 1 0 9), (9, zi_push (zvi 1) 10), (10, zi_callV mX1_refused 16 2 13), (13, zi_retv 0), (14, zi_ld 0 2 15), (15, zi_sw 0 3 [44, 66, 88, 99] 110), (44, zi_ld 1 0 45), (45, zi_ld 1 0 46), (46, zi_getR 16 5 49), (49, zi_getR 20 2 52), (52, zi_ld 0 1 53), (53, zi_callV mJ7_get 29 2 56), (56, zi_cast zokSpot 59), (59, zi_getI 21 1 62), (62, zi_callV mX1_fine 16 2 65), (65, zi_retv 0), (66, zi_ld 1 0 67), (67, zi_ld 1 0 68), (68, zi_getR 16 5 71), (71, zi_getR 20 2 74), (74, zi_ld 0 1 75), (75, zi_callV mJ7_get 29 2 78), (78, zi_cast zokSpot 81), (81, zi_getI 21 2 84), (84, zi_callV mX1_fine 16 2 87), (87, zi_retv 0), (88, zi_ld 1 0 89), (89, zi_ld 1 0 90), (90, zi_ld 0 1 91), (91, zi_push (zvi 1) 92), (92, zi_callV mX1_at 16 3 95), (95, zi_callV mX1_fine 16 2 98), (98, zi_retv 0), (99, zi_ld 1 0 100), (100, zi_ld 1 0 101), (101, zi_ld 0 1 102), (102, zi_push (zvi 0) 103), (103, zi_callV mX1_at 16 3 106), (106, zi_callV mX1_fine 16 2 109), (109, zi_retv 0), (110, zi_ld 1 0 111), (111, zi_push (zvi 1) 112), (112, zi_callV mX1_refused 16 2 115), (115, zi_retv 0)], fun _ _ => none)
noncomputable def mX1_spot : ZF := zrunM kX1_spot 3
theorem enX1_spot (x0 : Option Nat) (x1 : Int) (x2 : Int) (h : PH) : mX1_spot [zvr x0, zvi x1, zvi x2] h = zev kX1_spot 0 [zvr x0, zvi x1, zvi x2] [] h := zrunM_eq rfl rfl
theorem rX1_spot : (∀ (a : Option Nat) (L st : List ZV) (h : PH), zev kX1_spot 0 (zvr a :: L) st h = zev kX1_spot 1 (zvr a :: L) (zvr a :: st) h) ∧
  (∀ (x0 : ZV) (a : Int) (L st : List ZV) (h : PH), zev kX1_spot 1 (x0 :: zvi a :: L) st h = zev kX1_spot 2 (x0 :: zvi a :: L) (zvi a :: st) h) ∧
  (∀ (v0 : ZV) (q : Nat) (L st : List ZV) (h : PH), zev kX1_spot 2 L (v0 :: zvr (some q) :: st) h = if (ph_K h q).1 % 1000 = 16 ∧ zcat st ≤ 8 then zk kX1_spot 2 5 L st (mX1_isSpot [zvr (some q), v0] h) else none) ∧
  (∀ (a : Int) (L st : List ZV) (h : PH), zev kX1_spot 5 L (zvi a :: st) h = if a ≠ 0 then zev kX1_spot 14 L st h else zev kX1_spot 8 L st h) ∧
  (∀ (a : Option Nat) (L st : List ZV) (h : PH), zev kX1_spot 8 (zvr a :: L) st h = zev kX1_spot 9 (zvr a :: L) (zvr a :: st) h) ∧
  (∀ (L st : List ZV) (h : PH), zev kX1_spot 9 L st h = zev kX1_spot 10 L (zvi 1 :: st) h) ∧
  (∀ (v0 : ZV) (q : Nat) (L st : List ZV) (h : PH), zev kX1_spot 10 L (v0 :: zvr (some q) :: st) h = if (ph_K h q).1 % 1000 = 16 ∧ zcat st ≤ 8 then zk kX1_spot 10 13 L st (mX1_refused [zvr (some q), v0] h) else none) ∧
  (∀ (a : Int) (L : List ZV) (h : PH), zev kX1_spot 13 L [zvi a] h = zrv (zvi a) h) ∧
  (∀ (x0 x1 : ZV) (a : Int) (L st : List ZV) (h : PH), zev kX1_spot 14 (x0 :: x1 :: zvi a :: L) st h = zev kX1_spot 15 (x0 :: x1 :: zvi a :: L) (zvi a :: st) h) ∧
  (∀ (a : Int) (L st : List ZV) (h : PH), zev kX1_spot 15 L (zvi a :: st) h = zev kX1_spot (zswt 0 3 [44, 66, 88, 99] 110 a) L st h) ∧
  (∀ (a : Option Nat) (L st : List ZV) (h : PH), zev kX1_spot 44 (zvr a :: L) st h = zev kX1_spot 45 (zvr a :: L) (zvr a :: st) h) ∧
  (∀ (a : Option Nat) (L st : List ZV) (h : PH), zev kX1_spot 45 (zvr a :: L) st h = zev kX1_spot 46 (zvr a :: L) (zvr a :: st) h) ∧
  (∀ (q : Nat) (L st : List ZV) (h : PH), zev kX1_spot 46 L (zvr (some q) :: st) h = if (ph_K h q).1 % 1000 = 16 then zev kX1_spot 49 L (zvr (ph_R h q 5) :: st) h else none) ∧
  (∀ (q : Nat) (L st : List ZV) (h : PH), zev kX1_spot 49 L (zvr (some q) :: st) h = if (ph_K h q).1 % 1000 = 20 then zev kX1_spot 52 L (zvr (ph_R h q 2) :: st) h else none) ∧
  (∀ (x0 : ZV) (a : Int) (L st : List ZV) (h : PH), zev kX1_spot 52 (x0 :: zvi a :: L) st h = zev kX1_spot 53 (x0 :: zvi a :: L) (zvi a :: st) h) ∧
  (∀ (v0 : ZV) (q : Nat) (L st : List ZV) (h : PH), zev kX1_spot 53 L (v0 :: zvr (some q) :: st) h = if (ph_K h q).1 % 1000 = 29 ∧ zcat st ≤ 8 then zk kX1_spot 53 56 L st (mJ7_get [zvr (some q), v0] h) else none) ∧
  (∀ (L st : List ZV) (h : PH), zev kX1_spot 56 L (zvr none :: st) h = zev kX1_spot 59 L (zvr none :: st) h) ∧
  (∀ (q : Nat) (L st : List ZV) (h : PH), zev kX1_spot 56 L (zvr (some q) :: st) h = if zokSpot (ph_K h q).1 = true then zev kX1_spot 59 L (zvr (some q) :: st) h else none) ∧
  (∀ (q : Nat) (L st : List ZV) (h : PH), zev kX1_spot 59 L (zvr (some q) :: st) h = if (ph_K h q).1 % 1000 = 21 then zev kX1_spot 62 L (zvi (ph_I h q 1) :: st) h else none) ∧
  (∀ (v0 : ZV) (q : Nat) (L st : List ZV) (h : PH), zev kX1_spot 62 L (v0 :: zvr (some q) :: st) h = if (ph_K h q).1 % 1000 = 16 ∧ zcat st ≤ 8 then zk kX1_spot 62 65 L st (mX1_fine [zvr (some q), v0] h) else none) ∧
  (∀ (a : Int) (L : List ZV) (h : PH), zev kX1_spot 65 L [zvi a] h = zrv (zvi a) h) ∧
  (∀ (a : Option Nat) (L st : List ZV) (h : PH), zev kX1_spot 66 (zvr a :: L) st h = zev kX1_spot 67 (zvr a :: L) (zvr a :: st) h) ∧
  (∀ (a : Option Nat) (L st : List ZV) (h : PH), zev kX1_spot 67 (zvr a :: L) st h = zev kX1_spot 68 (zvr a :: L) (zvr a :: st) h) ∧
  (∀ (q : Nat) (L st : List ZV) (h : PH), zev kX1_spot 68 L (zvr (some q) :: st) h = if (ph_K h q).1 % 1000 = 16 then zev kX1_spot 71 L (zvr (ph_R h q 5) :: st) h else none) ∧
  (∀ (q : Nat) (L st : List ZV) (h : PH), zev kX1_spot 71 L (zvr (some q) :: st) h = if (ph_K h q).1 % 1000 = 20 then zev kX1_spot 74 L (zvr (ph_R h q 2) :: st) h else none) ∧
  (∀ (x0 : ZV) (a : Int) (L st : List ZV) (h : PH), zev kX1_spot 74 (x0 :: zvi a :: L) st h = zev kX1_spot 75 (x0 :: zvi a :: L) (zvi a :: st) h) ∧
  (∀ (v0 : ZV) (q : Nat) (L st : List ZV) (h : PH), zev kX1_spot 75 L (v0 :: zvr (some q) :: st) h = if (ph_K h q).1 % 1000 = 29 ∧ zcat st ≤ 8 then zk kX1_spot 75 78 L st (mJ7_get [zvr (some q), v0] h) else none) ∧
  (∀ (L st : List ZV) (h : PH), zev kX1_spot 78 L (zvr none :: st) h = zev kX1_spot 81 L (zvr none :: st) h) ∧
  (∀ (q : Nat) (L st : List ZV) (h : PH), zev kX1_spot 78 L (zvr (some q) :: st) h = if zokSpot (ph_K h q).1 = true then zev kX1_spot 81 L (zvr (some q) :: st) h else none) ∧
  (∀ (q : Nat) (L st : List ZV) (h : PH), zev kX1_spot 81 L (zvr (some q) :: st) h = if (ph_K h q).1 % 1000 = 21 then zev kX1_spot 84 L (zvi (ph_I h q 2) :: st) h else none) ∧
  (∀ (v0 : ZV) (q : Nat) (L st : List ZV) (h : PH), zev kX1_spot 84 L (v0 :: zvr (some q) :: st) h = if (ph_K h q).1 % 1000 = 16 ∧ zcat st ≤ 8 then zk kX1_spot 84 87 L st (mX1_fine [zvr (some q), v0] h) else none) ∧
  (∀ (a : Int) (L : List ZV) (h : PH), zev kX1_spot 87 L [zvi a] h = zrv (zvi a) h) ∧
  (∀ (a : Option Nat) (L st : List ZV) (h : PH), zev kX1_spot 88 (zvr a :: L) st h = zev kX1_spot 89 (zvr a :: L) (zvr a :: st) h) ∧
  (∀ (a : Option Nat) (L st : List ZV) (h : PH), zev kX1_spot 89 (zvr a :: L) st h = zev kX1_spot 90 (zvr a :: L) (zvr a :: st) h) ∧
  (∀ (x0 : ZV) (a : Int) (L st : List ZV) (h : PH), zev kX1_spot 90 (x0 :: zvi a :: L) st h = zev kX1_spot 91 (x0 :: zvi a :: L) (zvi a :: st) h) ∧
  (∀ (L st : List ZV) (h : PH), zev kX1_spot 91 L st h = zev kX1_spot 92 L (zvi 1 :: st) h) ∧
  (∀ (v0 v1 : ZV) (q : Nat) (L st : List ZV) (h : PH), zev kX1_spot 92 L (v1 :: v0 :: zvr (some q) :: st) h = if (ph_K h q).1 % 1000 = 16 ∧ zcat st ≤ 8 then zk kX1_spot 92 95 L st (mX1_at [zvr (some q), v0, v1] h) else none) ∧
  (∀ (v0 : ZV) (q : Nat) (L st : List ZV) (h : PH), zev kX1_spot 95 L (v0 :: zvr (some q) :: st) h = if (ph_K h q).1 % 1000 = 16 ∧ zcat st ≤ 8 then zk kX1_spot 95 98 L st (mX1_fine [zvr (some q), v0] h) else none) ∧
  (∀ (a : Int) (L : List ZV) (h : PH), zev kX1_spot 98 L [zvi a] h = zrv (zvi a) h) ∧
  (∀ (a : Option Nat) (L st : List ZV) (h : PH), zev kX1_spot 99 (zvr a :: L) st h = zev kX1_spot 100 (zvr a :: L) (zvr a :: st) h) ∧
  (∀ (a : Option Nat) (L st : List ZV) (h : PH), zev kX1_spot 100 (zvr a :: L) st h = zev kX1_spot 101 (zvr a :: L) (zvr a :: st) h) ∧
  (∀ (x0 : ZV) (a : Int) (L st : List ZV) (h : PH), zev kX1_spot 101 (x0 :: zvi a :: L) st h = zev kX1_spot 102 (x0 :: zvi a :: L) (zvi a :: st) h) ∧
  (∀ (L st : List ZV) (h : PH), zev kX1_spot 102 L st h = zev kX1_spot 103 L (zvi 0 :: st) h) ∧
  (∀ (v0 v1 : ZV) (q : Nat) (L st : List ZV) (h : PH), zev kX1_spot 103 L (v1 :: v0 :: zvr (some q) :: st) h = if (ph_K h q).1 % 1000 = 16 ∧ zcat st ≤ 8 then zk kX1_spot 103 106 L st (mX1_at [zvr (some q), v0, v1] h) else none) ∧
  (∀ (v0 : ZV) (q : Nat) (L st : List ZV) (h : PH), zev kX1_spot 106 L (v0 :: zvr (some q) :: st) h = if (ph_K h q).1 % 1000 = 16 ∧ zcat st ≤ 8 then zk kX1_spot 106 109 L st (mX1_fine [zvr (some q), v0] h) else none) ∧
  (∀ (a : Int) (L : List ZV) (h : PH), zev kX1_spot 109 L [zvi a] h = zrv (zvi a) h) ∧
  (∀ (a : Option Nat) (L st : List ZV) (h : PH), zev kX1_spot 110 (zvr a :: L) st h = zev kX1_spot 111 (zvr a :: L) (zvr a :: st) h) ∧
  (∀ (L st : List ZV) (h : PH), zev kX1_spot 111 L st h = zev kX1_spot 112 L (zvi 1 :: st) h) ∧
  (∀ (v0 : ZV) (q : Nat) (L st : List ZV) (h : PH), zev kX1_spot 112 L (v0 :: zvr (some q) :: st) h = if (ph_K h q).1 % 1000 = 16 ∧ zcat st ≤ 8 then zk kX1_spot 112 115 L st (mX1_refused [zvr (some q), v0] h) else none) ∧
  (∀ (a : Int) (L : List ZV) (h : PH), zev kX1_spot 115 L [zvi a] h = zrv (zvi a) h) :=
  ⟨fun a L st h => e_ld0R (n := 1) rfl,
  fun x0 a L st h => e_ld1I (n := 2) rfl,
  fun v0 q L st h => e_callV2 (F := mX1_isSpot) (kd := 16) (n := 5) rfl,
  fun a L st h => e_ifne (t := 14) (n := 8) rfl,
  fun a L st h => e_ld0R (n := 9) rfl,
  fun L st h => e_push (v := zvi 1) (n := 10) rfl,
  fun v0 q L st h => e_callV2 (F := mX1_refused) (kd := 16) (n := 13) rfl,
  fun a L h => e_retI rfl,
  fun x0 x1 a L st h => e_ld2I (n := 15) rfl,
  fun a L st h => e_sw (lo := 0) (hi := 3) (ts := [44, 66, 88, 99]) (d := 110) rfl,
  fun a L st h => e_ld0R (n := 45) rfl,
  fun a L st h => e_ld0R (n := 46) rfl,
  fun q L st h => e_getR (kd := 16) (k := 5) (n := 49) rfl,
  fun q L st h => e_getR (kd := 20) (k := 2) (n := 52) rfl,
  fun x0 a L st h => e_ld1I (n := 53) rfl,
  fun v0 q L st h => e_callV2 (F := mJ7_get) (kd := 29) (n := 56) rfl,
  fun L st h => e_cast0 (ok := zokSpot) (n := 59) rfl,
  fun q L st h => e_cast1 (ok := zokSpot) (n := 59) rfl,
  fun q L st h => e_getI (kd := 21) (k := 1) (n := 62) rfl,
  fun v0 q L st h => e_callV2 (F := mX1_fine) (kd := 16) (n := 65) rfl,
  fun a L h => e_retI rfl,
  fun a L st h => e_ld0R (n := 67) rfl,
  fun a L st h => e_ld0R (n := 68) rfl,
  fun q L st h => e_getR (kd := 16) (k := 5) (n := 71) rfl,
  fun q L st h => e_getR (kd := 20) (k := 2) (n := 74) rfl,
  fun x0 a L st h => e_ld1I (n := 75) rfl,
  fun v0 q L st h => e_callV2 (F := mJ7_get) (kd := 29) (n := 78) rfl,
  fun L st h => e_cast0 (ok := zokSpot) (n := 81) rfl,
  fun q L st h => e_cast1 (ok := zokSpot) (n := 81) rfl,
  fun q L st h => e_getI (kd := 21) (k := 2) (n := 84) rfl,
  fun v0 q L st h => e_callV2 (F := mX1_fine) (kd := 16) (n := 87) rfl,
  fun a L h => e_retI rfl,
  fun a L st h => e_ld0R (n := 89) rfl,
  fun a L st h => e_ld0R (n := 90) rfl,
  fun x0 a L st h => e_ld1I (n := 91) rfl,
  fun L st h => e_push (v := zvi 1) (n := 92) rfl,
  fun v0 v1 q L st h => e_callV3 (F := mX1_at) (kd := 16) (n := 95) rfl,
  fun v0 q L st h => e_callV2 (F := mX1_fine) (kd := 16) (n := 98) rfl,
  fun a L h => e_retI rfl,
  fun a L st h => e_ld0R (n := 100) rfl,
  fun a L st h => e_ld0R (n := 101) rfl,
  fun x0 a L st h => e_ld1I (n := 102) rfl,
  fun L st h => e_push (v := zvi 0) (n := 103) rfl,
  fun v0 v1 q L st h => e_callV3 (F := mX1_at) (kd := 16) (n := 106) rfl,
  fun v0 q L st h => e_callV2 (F := mX1_fine) (kd := 16) (n := 109) rfl,
  fun a L h => e_retI rfl,
  fun a L st h => e_ld0R (n := 111) rfl,
  fun L st h => e_push (v := zvi 1) (n := 112) rfl,
  fun v0 q L st h => e_callV2 (F := mX1_refused) (kd := 16) (n := 115) rfl,
  fun a L h => e_retI rfl⟩
theorem allX1_spot : zall yX1_spot cX1_spot 3 (some .int) 5 kX1_spot.1 :=
  ⟨k_aload_n dX1_spot_0,
  k_iload_n dX1_spot_1,
  k_callV (y2 := yX1_isSpot) (C := RX1) (T0 := TX1) (ci := 0) dX1_spot_2 sndX1_isSpot rfl q1242 q1244 qs33 q128 q1245 (by decide +kernel) ⟨by decide, by decide⟩ (by decide) (by decide),
  k_ifne (t := 14) dX1_spot_5 (by decide),
  k_aload_n dX1_spot_8,
  k_iconst dX1_spot_9,
  k_callV (y2 := yX1_refused) (C := RX1) (T0 := TX1) (ci := 0) dX1_spot_10 sndX1_refused rfl q378 q380 qs1 q128 q381 (by decide +kernel) ⟨by decide, by decide⟩ (by decide) (by decide),
  k_iret dX1_spot_13,
  k_iload_n dX1_spot_14,
  k_sw (ts := [44, 66, 88, 99]) (dt := 110) dX1_spot_15 (by decide) (by decide) (by decide),
  k_aload_n dX1_spot_44,
  k_aload_n dX1_spot_45,
  k_getR (C := RX1) (T := TX1) (N := 19) (ci := 0) (k := 5) (ref := "LinkTimes") dX1_spot_46 rfl in_X1 (by decide) q308 (Or.inl rfl) (fun _ _ _ => rfl),
  k_getRN (C := RX6) (T := TX6) (N := 5) (ci := 4) (k := 2) (ref := "LinkTimes$Desk") dX1_spot_49 rfl in_X6 (by decide) q423 (Or.inl rfl) (fun _ _ _ => rfl),
  k_iload_n dX1_spot_52,
  k_callV (y2 := yJ7_get) (C := RJ7) (T0 := TJ7) (ci := 13) dX1_spot_53 sndJ7_get rfl q937 q695 q696 q141 q697 (by decide +kernel) ⟨by decide, by decide⟩ (by decide) (by decide),
  k_cast (nm := "LinkTimes$Spot") dX1_spot_56 q1246 zokSpot_can,
  k_getIN (C := RX10) (T := TX10) (N := 3) (ci := 5) (k := 1) (ref := "LinkTimes$Spot") dX1_spot_59 rfl in_X10 (by decide) q728 (Or.inl rfl) (fun _ _ _ => rfl),
  k_callV (y2 := yX1_fine) (C := RX1) (T0 := TX1) (ci := 0) dX1_spot_62 sndX1_fine rfl q1211 q1213 qs32 q128 q1214 (by decide +kernel) ⟨by decide, by decide⟩ (by decide) (by decide),
  k_iret dX1_spot_65,
  k_aload_n dX1_spot_66,
  k_aload_n dX1_spot_67,
  k_getR (C := RX1) (T := TX1) (N := 19) (ci := 0) (k := 5) (ref := "LinkTimes") dX1_spot_68 rfl in_X1 (by decide) q308 (Or.inl rfl) (fun _ _ _ => rfl),
  k_getRN (C := RX6) (T := TX6) (N := 5) (ci := 4) (k := 2) (ref := "LinkTimes$Desk") dX1_spot_71 rfl in_X6 (by decide) q423 (Or.inl rfl) (fun _ _ _ => rfl),
  k_iload_n dX1_spot_74,
  k_callV (y2 := yJ7_get) (C := RJ7) (T0 := TJ7) (ci := 13) dX1_spot_75 sndJ7_get rfl q937 q695 q696 q141 q697 (by decide +kernel) ⟨by decide, by decide⟩ (by decide) (by decide),
  k_cast (nm := "LinkTimes$Spot") dX1_spot_78 q1246 zokSpot_can,
  k_getIN (C := RX10) (T := TX10) (N := 3) (ci := 5) (k := 2) (ref := "LinkTimes$Spot") dX1_spot_81 rfl in_X10 (by decide) q731 (Or.inl rfl) (fun _ _ _ => rfl),
  k_callV (y2 := yX1_fine) (C := RX1) (T0 := TX1) (ci := 0) dX1_spot_84 sndX1_fine rfl q1211 q1213 qs32 q128 q1214 (by decide +kernel) ⟨by decide, by decide⟩ (by decide) (by decide),
  k_iret dX1_spot_87,
  k_aload_n dX1_spot_88,
  k_aload_n dX1_spot_89,
  k_iload_n dX1_spot_90,
  k_iconst dX1_spot_91,
  k_callV (y2 := yX1_at) (C := RX1) (T0 := TX1) (ci := 0) dX1_spot_92 sndX1_at rfl q1247 q1249 qs34 q128 q1250 (by decide +kernel) ⟨by decide, by decide⟩ (by decide) (by decide),
  k_callV (y2 := yX1_fine) (C := RX1) (T0 := TX1) (ci := 0) dX1_spot_95 sndX1_fine rfl q1211 q1213 qs32 q128 q1214 (by decide +kernel) ⟨by decide, by decide⟩ (by decide) (by decide),
  k_iret dX1_spot_98,
  k_aload_n dX1_spot_99,
  k_aload_n dX1_spot_100,
  k_iload_n dX1_spot_101,
  k_iconst dX1_spot_102,
  k_callV (y2 := yX1_at) (C := RX1) (T0 := TX1) (ci := 0) dX1_spot_103 sndX1_at rfl q1247 q1249 qs34 q128 q1250 (by decide +kernel) ⟨by decide, by decide⟩ (by decide) (by decide),
  k_callV (y2 := yX1_fine) (C := RX1) (T0 := TX1) (ci := 0) dX1_spot_106 sndX1_fine rfl q1211 q1213 qs32 q128 q1214 (by decide +kernel) ⟨by decide, by decide⟩ (by decide) (by decide),
  k_iret dX1_spot_109,
  k_aload_n dX1_spot_110,
  k_iconst dX1_spot_111,
  k_callV (y2 := yX1_refused) (C := RX1) (T0 := TX1) (ci := 0) dX1_spot_112 sndX1_refused rfl q378 q380 qs1 q128 q381 (by decide +kernel) ⟨by decide, by decide⟩ (by decide) (by decide),
  k_iret dX1_spot_115, trivial⟩
theorem sndX1_spot : MSound 5 yX1_spot (ws_ yX1_spot cX1_spot 3 (some .int)) mX1_spot := msound_M (by decide) allX1_spot (fun _ _ => rfl)
