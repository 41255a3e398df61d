/-! Z program: LinkTimesModel (written by gen/gen_prog.py) -/
set_option maxRecDepth 100000
/-! LinkTimesModel.<init>()V -/
noncomputable def kX4_init : ZM := ([(0, zi_ld 1 0 1), (1, zi_objI 18 4), (4, zi_ld 1 0 5), (5, zi_push (zvi (-1)) 6), (6, zi_putI 18 3 9), (9, zi_ld 1 0 10), (10, zi_push (zvi 900) 13), (13, zi_newa 1 15), (15, zi_putR 18 4 18), (18, zi_ld 1 0 19), (19, zi_push (zvi 985) 22), (22, zi_newa 1 24), (24, zi_putR 18 6 27), (27, zi_ld 1 0 28), (28, zi_push (zvi 985) 31), (31, zi_newa 1 33), (33, zi_putR 18 7 36), (36, zi_ld 1 0 37), (37, zi_push (zvi 985) 40), (40, zi_newa 1 42), (42, zi_putR 18 8 45), (45, zi_ld 1 0 46), (46, zi_push (zvi 9850) 49), (49, zi_newa 1 51), (51, zi_putR 18 9 54), (54, zi_ld 1 0 55), (55, zi_push (zvi 10) 57), (57, zi_newa 4 59), (59, zi_putR 18 20 62), (62, zi_ld 1 0 63), (63, zi_push (zvi 8) 65), (65, zi_newa 4 67), (67, zi_putR 18 21 70), (70, zi_ld 1 0 71), (71, zi_push (zvi 7) 73), (73, zi_newa 1 75), (75, zi_putR 18 22 78), (78, zi_ld 1 0 79), (79, zi_push (zvi 120) 81), (81, zi_newa 1 83), (83, zi_putR 18 23 86), (86, zi_ld 1 0 87), (87, zi_push (zvi 120) 89), (89, zi_newa 1 91), (91, zi_putR 18 24 94), (94, zi_ld 1 0 95), (95, zi_push (zvi 120) 97), (97, zi_newa 1 99), (99, zi_putR 18 25 102), (102, zi_ld 1 0 103), (103, zi_push (zvi 120) 105), (105, zi_newa 1 107), (107, zi_putR 18 26 110), (110, zi_ld 1 0 111), (111, zi_push (zvi 120) 113), (113, zi_newa 1 115), (115, zi_putR 18 27 118), (118, zi_ld 1 0 119), (119, zi_push (zvi 14400) 122), (122, zi_newa 1 124), (124, zi_putR 18 29 127), (127, zi_ld 1 0 128), (128, zi_push (zvi 120) 130), (130, zi_newa 1 132), (132, zi_putR 18 30 135), (135, zi_ld 1 0 136), (136, zi_push (zvi 120) 138), (138, zi_newa 1 140), (140, zi_putR 18 31 143), (143, zi_ld 1 0 144), (144, zi_push (zvi 120) 146), (146, zi_newa 1 148), (148, zi_putR 18 33 151), (151, zi_ld 1 0 152), (152, zi_push (zvi 120) 154), (154, zi_newa 1 156), (156, zi_putR 18 34 159), (159, zi_ld 1 0 160), (160, zi_push (zvi 120) 162), (162, zi_newa 1 164), (164, zi_putR 18 35 167), (167, zi_ld 1 0 168), (168, zi_push (zvi 120) 170), (170, zi_newa 1 172), (172, zi_putR 18 37 175), (175, zi_ld 1 0 176), (176, zi_push (zvi 10) 178), (178, zi_newa 1 180), (180, zi_putR 18 39 183), (183, zi_ret)], fun _ _ => none)
noncomputable def mX4_init : ZF := zrunM kX4_init 1
theorem enX4_init (x0 : Option Nat) (h : PH) : mX4_init [zvr x0] h = zev kX4_init 0 [zvr x0] [] h := zrunM_eq rfl rfl
theorem rX4_init : (∀ (a : Option Nat) (L st : List ZV) (h : PH), zev kX4_init 0 (zvr a :: L) st h = zev kX4_init 1 (zvr a :: L) (zvr a :: st) h) ∧
  (∀ (q : Nat) (L st : List ZV) (h : PH), zev kX4_init 1 L (zvr (some q) :: st) h = if (ph_K h q).1 % 1000 = 18 ∧ zcat st ≤ 8 then zev kX4_init 4 L st h else none) ∧
  (∀ (a : Option Nat) (L st : List ZV) (h : PH), zev kX4_init 4 (zvr a :: L) st h = zev kX4_init 5 (zvr a :: L) (zvr a :: st) h) ∧
  (∀ (L st : List ZV) (h : PH), zev kX4_init 5 L st h = zev kX4_init 6 L (zvi (-1) :: st) h) ∧
  (∀ (a : Int) (q : Nat) (L st : List ZV) (h : PH), zev kX4_init 6 L (zvi a :: zvr (some q) :: st) h = if (ph_K h q).1 = 18 then zev kX4_init 9 L st (st_I h q 3 a) else none) ∧
  (∀ (a : Option Nat) (L st : List ZV) (h : PH), zev kX4_init 9 (zvr a :: L) st h = zev kX4_init 10 (zvr a :: L) (zvr a :: st) h) ∧
  (∀ (L st : List ZV) (h : PH), zev kX4_init 10 L st h = zev kX4_init 13 L (zvi 900 :: st) h) ∧
  (∀ (a : Int) (L st : List ZV) (h : PH), zev kX4_init 13 L (zvi a :: st) h = if 0 ≤ a ∧ a ≤ 100000 then zev kX4_init 15 L (zvr (some (ph_N h)) :: st) (al_ h 1 a.toNat a.toNat) else none) ∧
  (∀ (a : Option Nat) (q : Nat) (L st : List ZV) (h : PH), zev kX4_init 15 L (zvr a :: zvr (some q) :: st) h = if (ph_K h q).1 = 18 then zev kX4_init 18 L st (st_R h q 4 a) else none) ∧
  (∀ (a : Option Nat) (L st : List ZV) (h : PH), zev kX4_init 18 (zvr a :: L) st h = zev kX4_init 19 (zvr a :: L) (zvr a :: st) h) ∧
  (∀ (L st : List ZV) (h : PH), zev kX4_init 19 L st h = zev kX4_init 22 L (zvi 985 :: st) h) ∧
  (∀ (a : Int) (L st : List ZV) (h : PH), zev kX4_init 22 L (zvi a :: st) h = if 0 ≤ a ∧ a ≤ 100000 then zev kX4_init 24 L (zvr (some (ph_N h)) :: st) (al_ h 1 a.toNat a.toNat) else none) ∧
  (∀ (a : Option Nat) (q : Nat) (L st : List ZV) (h : PH), zev kX4_init 24 L (zvr a :: zvr (some q) :: st) h = if (ph_K h q).1 = 18 then zev kX4_init 27 L st (st_R h q 6 a) else none) ∧
  (∀ (a : Option Nat) (L st : List ZV) (h : PH), zev kX4_init 27 (zvr a :: L) st h = zev kX4_init 28 (zvr a :: L) (zvr a :: st) h) ∧
  (∀ (L st : List ZV) (h : PH), zev kX4_init 28 L st h = zev kX4_init 31 L (zvi 985 :: st) h) ∧
  (∀ (a : Int) (L st : List ZV) (h : PH), zev kX4_init 31 L (zvi a :: st) h = if 0 ≤ a ∧ a ≤ 100000 then zev kX4_init 33 L (zvr (some (ph_N h)) :: st) (al_ h 1 a.toNat a.toNat) else none) ∧
  (∀ (a : Option Nat) (q : Nat) (L st : List ZV) (h : PH), zev kX4_init 33 L (zvr a :: zvr (some q) :: st) h = if (ph_K h q).1 = 18 then zev kX4_init 36 L st (st_R h q 7 a) else none) ∧
  (∀ (a : Option Nat) (L st : List ZV) (h : PH), zev kX4_init 36 (zvr a :: L) st h = zev kX4_init 37 (zvr a :: L) (zvr a :: st) h) ∧
  (∀ (L st : List ZV) (h : PH), zev kX4_init 37 L st h = zev kX4_init 40 L (zvi 985 :: st) h) ∧
  (∀ (a : Int) (L st : List ZV) (h : PH), zev kX4_init 40 L (zvi a :: st) h = if 0 ≤ a ∧ a ≤ 100000 then zev kX4_init 42 L (zvr (some (ph_N h)) :: st) (al_ h 1 a.toNat a.toNat) else none) ∧
  (∀ (a : Option Nat) (q : Nat) (L st : List ZV) (h : PH), zev kX4_init 42 L (zvr a :: zvr (some q) :: st) h = if (ph_K h q).1 = 18 then zev kX4_init 45 L st (st_R h q 8 a) else none) ∧
  (∀ (a : Option Nat) (L st : List ZV) (h : PH), zev kX4_init 45 (zvr a :: L) st h = zev kX4_init 46 (zvr a :: L) (zvr a :: st) h) ∧
  (∀ (L st : List ZV) (h : PH), zev kX4_init 46 L st h = zev kX4_init 49 L (zvi 9850 :: st) h) ∧
  (∀ (a : Int) (L st : List ZV) (h : PH), zev kX4_init 49 L (zvi a :: st) h = if 0 ≤ a ∧ a ≤ 100000 then zev kX4_init 51 L (zvr (some (ph_N h)) :: st) (al_ h 1 a.toNat a.toNat) else none) ∧
  (∀ (a : Option Nat) (q : Nat) (L st : List ZV) (h : PH), zev kX4_init 51 L (zvr a :: zvr (some q) :: st) h = if (ph_K h q).1 = 18 then zev kX4_init 54 L st (st_R h q 9 a) else none) ∧
  (∀ (a : Option Nat) (L st : List ZV) (h : PH), zev kX4_init 54 (zvr a :: L) st h = zev kX4_init 55 (zvr a :: L) (zvr a :: st) h) ∧
  (∀ (L st : List ZV) (h : PH), zev kX4_init 55 L st h = zev kX4_init 57 L (zvi 10 :: st) h) ∧
  (∀ (a : Int) (L st : List ZV) (h : PH), zev kX4_init 57 L (zvi a :: st) h = if 0 ≤ a ∧ a ≤ 100000 then zev kX4_init 59 L (zvr (some (ph_N h)) :: st) (al_ h 4 a.toNat a.toNat) else none) ∧
  (∀ (a : Option Nat) (q : Nat) (L st : List ZV) (h : PH), zev kX4_init 59 L (zvr a :: zvr (some q) :: st) h = if (ph_K h q).1 = 18 then zev kX4_init 62 L st (st_R h q 20 a) else none) ∧
  (∀ (a : Option Nat) (L st : List ZV) (h : PH), zev kX4_init 62 (zvr a :: L) st h = zev kX4_init 63 (zvr a :: L) (zvr a :: st) h) ∧
  (∀ (L st : List ZV) (h : PH), zev kX4_init 63 L st h = zev kX4_init 65 L (zvi 8 :: st) h) ∧
  (∀ (a : Int) (L st : List ZV) (h : PH), zev kX4_init 65 L (zvi a :: st) h = if 0 ≤ a ∧ a ≤ 100000 then zev kX4_init 67 L (zvr (some (ph_N h)) :: st) (al_ h 4 a.toNat a.toNat) else none) ∧
  (∀ (a : Option Nat) (q : Nat) (L st : List ZV) (h : PH), zev kX4_init 67 L (zvr a :: zvr (some q) :: st) h = if (ph_K h q).1 = 18 then zev kX4_init 70 L st (st_R h q 21 a) else none) ∧
  (∀ (a : Option Nat) (L st : List ZV) (h : PH), zev kX4_init 70 (zvr a :: L) st h = zev kX4_init 71 (zvr a :: L) (zvr a :: st) h) ∧
  (∀ (L st : List ZV) (h : PH), zev kX4_init 71 L st h = zev kX4_init 73 L (zvi 7 :: st) h) ∧
  (∀ (a : Int) (L st : List ZV) (h : PH), zev kX4_init 73 L (zvi a :: st) h = if 0 ≤ a ∧ a ≤ 100000 then zev kX4_init 75 L (zvr (some (ph_N h)) :: st) (al_ h 1 a.toNat a.toNat) else none) ∧
  (∀ (a : Option Nat) (q : Nat) (L st : List ZV) (h : PH), zev kX4_init 75 L (zvr a :: zvr (some q) :: st) h = if (ph_K h q).1 = 18 then zev kX4_init 78 L st (st_R h q 22 a) else none) ∧
  (∀ (a : Option Nat) (L st : List ZV) (h : PH), zev kX4_init 78 (zvr a :: L) st h = zev kX4_init 79 (zvr a :: L) (zvr a :: st) h) ∧
  (∀ (L st : List ZV) (h : PH), zev kX4_init 79 L st h = zev kX4_init 81 L (zvi 120 :: st) h) ∧
  (∀ (a : Int) (L st : List ZV) (h : PH), zev kX4_init 81 L (zvi a :: st) h = if 0 ≤ a ∧ a ≤ 100000 then zev kX4_init 83 L (zvr (some (ph_N h)) :: st) (al_ h 1 a.toNat a.toNat) else none) ∧
  (∀ (a : Option Nat) (q : Nat) (L st : List ZV) (h : PH), zev kX4_init 83 L (zvr a :: zvr (some q) :: st) h = if (ph_K h q).1 = 18 then zev kX4_init 86 L st (st_R h q 23 a) else none) ∧
  (∀ (a : Option Nat) (L st : List ZV) (h : PH), zev kX4_init 86 (zvr a :: L) st h = zev kX4_init 87 (zvr a :: L) (zvr a :: st) h) ∧
  (∀ (L st : List ZV) (h : PH), zev kX4_init 87 L st h = zev kX4_init 89 L (zvi 120 :: st) h) ∧
  (∀ (a : Int) (L st : List ZV) (h : PH), zev kX4_init 89 L (zvi a :: st) h = if 0 ≤ a ∧ a ≤ 100000 then zev kX4_init 91 L (zvr (some (ph_N h)) :: st) (al_ h 1 a.toNat a.toNat) else none) ∧
  (∀ (a : Option Nat) (q : Nat) (L st : List ZV) (h : PH), zev kX4_init 91 L (zvr a :: zvr (some q) :: st) h = if (ph_K h q).1 = 18 then zev kX4_init 94 L st (st_R h q 24 a) else none) ∧
  (∀ (a : Option Nat) (L st : List ZV) (h : PH), zev kX4_init 94 (zvr a :: L) st h = zev kX4_init 95 (zvr a :: L) (zvr a :: st) h) ∧
  (∀ (L st : List ZV) (h : PH), zev kX4_init 95 L st h = zev kX4_init 97 L (zvi 120 :: st) h) ∧
  (∀ (a : Int) (L st : List ZV) (h : PH), zev kX4_init 97 L (zvi a :: st) h = if 0 ≤ a ∧ a ≤ 100000 then zev kX4_init 99 L (zvr (some (ph_N h)) :: st) (al_ h 1 a.toNat a.toNat) else none) ∧
  (∀ (a : Option Nat) (q : Nat) (L st : List ZV) (h : PH), zev kX4_init 99 L (zvr a :: zvr (some q) :: st) h = if (ph_K h q).1 = 18 then zev kX4_init 102 L st (st_R h q 25 a) else none) ∧
  (∀ (a : Option Nat) (L st : List ZV) (h : PH), zev kX4_init 102 (zvr a :: L) st h = zev kX4_init 103 (zvr a :: L) (zvr a :: st) h) ∧
  (∀ (L st : List ZV) (h : PH), zev kX4_init 103 L st h = zev kX4_init 105 L (zvi 120 :: st) h) ∧
  (∀ (a : Int) (L st : List ZV) (h : PH), zev kX4_init 105 L (zvi a :: st) h = if 0 ≤ a ∧ a ≤ 100000 then zev kX4_init 107 L (zvr (some (ph_N h)) :: st) (al_ h 1 a.toNat a.toNat) else none) ∧
  (∀ (a : Option Nat) (q : Nat) (L st : List ZV) (h : PH), zev kX4_init 107 L (zvr a :: zvr (some q) :: st) h = if (ph_K h q).1 = 18 then zev kX4_init 110 L st (st_R h q 26 a) else none) ∧
  (∀ (a : Option Nat) (L st : List ZV) (h : PH), zev kX4_init 110 (zvr a :: L) st h = zev kX4_init 111 (zvr a :: L) (zvr a :: st) h) ∧
  (∀ (L st : List ZV) (h : PH), zev kX4_init 111 L st h = zev kX4_init 113 L (zvi 120 :: st) h) ∧
  (∀ (a : Int) (L st : List ZV) (h : PH), zev kX4_init 113 L (zvi a :: st) h = if 0 ≤ a ∧ a ≤ 100000 then zev kX4_init 115 L (zvr (some (ph_N h)) :: st) (al_ h 1 a.toNat a.toNat) else none) ∧
  (∀ (a : Option Nat) (q : Nat) (L st : List ZV) (h : PH), zev kX4_init 115 L (zvr a :: zvr (some q) :: st) h = if (ph_K h q).1 = 18 then zev kX4_init 118 L st (st_R h q 27 a) else none) ∧
  (∀ (a : Option Nat) (L st : List ZV) (h : PH), zev kX4_init 118 (zvr a :: L) st h = zev kX4_init 119 (zvr a :: L) (zvr a :: st) h) ∧
  (∀ (L st : List ZV) (h : PH), zev kX4_init 119 L st h = zev kX4_init 122 L (zvi 14400 :: st) h) ∧
  (∀ (a : Int) (L st : List ZV) (h : PH), zev kX4_init 122 L (zvi a :: st) h = if 0 ≤ a ∧ a ≤ 100000 then zev kX4_init 124 L (zvr (some (ph_N h)) :: st) (al_ h 1 a.toNat a.toNat) else none) ∧
  (∀ (a : Option Nat) (q : Nat) (L st : List ZV) (h : PH), zev kX4_init 124 L (zvr a :: zvr (some q) :: st) h = if (ph_K h q).1 = 18 then zev kX4_init 127 L st (st_R h q 29 a) else none) ∧
  (∀ (a : Option Nat) (L st : List ZV) (h : PH), zev kX4_init 127 (zvr a :: L) st h = zev kX4_init 128 (zvr a :: L) (zvr a :: st) h) ∧
  (∀ (L st : List ZV) (h : PH), zev kX4_init 128 L st h = zev kX4_init 130 L (zvi 120 :: st) h) ∧
  (∀ (a : Int) (L st : List ZV) (h : PH), zev kX4_init 130 L (zvi a :: st) h = if 0 ≤ a ∧ a ≤ 100000 then zev kX4_init 132 L (zvr (some (ph_N h)) :: st) (al_ h 1 a.toNat a.toNat) else none) ∧
  (∀ (a : Option Nat) (q : Nat) (L st : List ZV) (h : PH), zev kX4_init 132 L (zvr a :: zvr (some q) :: st) h = if (ph_K h q).1 = 18 then zev kX4_init 135 L st (st_R h q 30 a) else none) ∧
  (∀ (a : Option Nat) (L st : List ZV) (h : PH), zev kX4_init 135 (zvr a :: L) st h = zev kX4_init 136 (zvr a :: L) (zvr a :: st) h) ∧
  (∀ (L st : List ZV) (h : PH), zev kX4_init 136 L st h = zev kX4_init 138 L (zvi 120 :: st) h) ∧
  (∀ (a : Int) (L st : List ZV) (h : PH), zev kX4_init 138 L (zvi a :: st) h = if 0 ≤ a ∧ a ≤ 100000 then zev kX4_init 140 L (zvr (some (ph_N h)) :: st) (al_ h 1 a.toNat a.toNat) else none) ∧
  (∀ (a : Option Nat) (q : Nat) (L st : List ZV) (h : PH), zev kX4_init 140 L (zvr a :: zvr (some q) :: st) h = if (ph_K h q).1 = 18 then zev kX4_init 143 L st (st_R h q 31 a) else none) ∧
  (∀ (a : Option Nat) (L st : List ZV) (h : PH), zev kX4_init 143 (zvr a :: L) st h = zev kX4_init 144 (zvr a :: L) (zvr a :: st) h) ∧
  (∀ (L st : List ZV) (h : PH), zev kX4_init 144 L st h = zev kX4_init 146 L (zvi 120 :: st) h) ∧
  (∀ (a : Int) (L st : List ZV) (h : PH), zev kX4_init 146 L (zvi a :: st) h = if 0 ≤ a ∧ a ≤ 100000 then zev kX4_init 148 L (zvr (some (ph_N h)) :: st) (al_ h 1 a.toNat a.toNat) else none) ∧
  (∀ (a : Option Nat) (q : Nat) (L st : List ZV) (h : PH), zev kX4_init 148 L (zvr a :: zvr (some q) :: st) h = if (ph_K h q).1 = 18 then zev kX4_init 151 L st (st_R h q 33 a) else none) ∧
  (∀ (a : Option Nat) (L st : List ZV) (h : PH), zev kX4_init 151 (zvr a :: L) st h = zev kX4_init 152 (zvr a :: L) (zvr a :: st) h) ∧
  (∀ (L st : List ZV) (h : PH), zev kX4_init 152 L st h = zev kX4_init 154 L (zvi 120 :: st) h) ∧
  (∀ (a : Int) (L st : List ZV) (h : PH), zev kX4_init 154 L (zvi a :: st) h = if 0 ≤ a ∧ a ≤ 100000 then zev kX4_init 156 L (zvr (some (ph_N h)) :: st) (al_ h 1 a.toNat a.toNat) else none) ∧
  (∀ (a : Option Nat) (q : Nat) (L st : List ZV) (h : PH), zev kX4_init 156 L (zvr a :: zvr (some q) :: st) h = if (ph_K h q).1 = 18 then zev kX4_init 159 L st (st_R h q 34 a) else none) ∧
  (∀ (a : Option Nat) (L st : List ZV) (h : PH), zev kX4_init 159 (zvr a :: L) st h = zev kX4_init 160 (zvr a :: L) (zvr a :: st) h) ∧
  (∀ (L st : List ZV) (h : PH), zev kX4_init 160 L st h = zev kX4_init 162 L (zvi 120 :: st) h) ∧
  (∀ (a : Int) (L st : List ZV) (h : PH), zev kX4_init 162 L (zvi a :: st) h = if 0 ≤ a ∧ a ≤ 100000 then zev kX4_init 164 L (zvr (some (ph_N h)) :: st) (al_ h 1 a.toNat a.toNat) else none) ∧
  (∀ (a : Option Nat) (q : Nat) (L st : List ZV) (h : PH), zev kX4_init 164 L (zvr a :: zvr (some q) :: st) h = if (ph_K h q).1 = 18 then zev kX4_init 167 L st (st_R h q 35 a) else none) ∧
  (∀ (a : Option Nat) (L st : List ZV) (h : PH), zev kX4_init 167 (zvr a :: L) st h = zev kX4_init 168 (zvr a :: L) (zvr a :: st) h) ∧
  (∀ (L st : List ZV) (h : PH), zev kX4_init 168 L st h = zev kX4_init 170 L (zvi 120 :: st) h) ∧
  (∀ (a : Int) (L st : List ZV) (h : PH), zev kX4_init 170 L (zvi a :: st) h = if 0 ≤ a ∧ a ≤ 100000 then zev kX4_init 172 L (zvr (some (ph_N h)) :: st) (al_ h 1 a.toNat a.toNat) else none) ∧
  (∀ (a : Option Nat) (q : Nat) (L st : List ZV) (h : PH), zev kX4_init 172 L (zvr a :: zvr (some q) :: st) h = if (ph_K h q).1 = 18 then zev kX4_init 175 L st (st_R h q 37 a) else none) ∧
  (∀ (a : Option Nat) (L st : List ZV) (h : PH), zev kX4_init 175 (zvr a :: L) st h = zev kX4_init 176 (zvr a :: L) (zvr a :: st) h) ∧
  (∀ (L st : List ZV) (h : PH), zev kX4_init 176 L st h = zev kX4_init 178 L (zvi 10 :: st) h) ∧
  (∀ (a : Int) (L st : List ZV) (h : PH), zev kX4_init 178 L (zvi a :: st) h = if 0 ≤ a ∧ a ≤ 100000 then zev kX4_init 180 L (zvr (some (ph_N h)) :: st) (al_ h 1 a.toNat a.toNat) else none) ∧
  (∀ (a : Option Nat) (q : Nat) (L st : List ZV) (h : PH), zev kX4_init 180 L (zvr a :: zvr (some q) :: st) h = if (ph_K h q).1 = 18 then zev kX4_init 183 L st (st_R h q 39 a) else none) ∧
  (∀ (L : List ZV) (h : PH), zev kX4_init 183 L [] h = zr0 h) :=
  ⟨fun a L st h => e_ld0R (n := 1) rfl,
  fun q L st h => e_objI (kd := 18) (n := 4) rfl,
  fun a L st h => e_ld0R (n := 5) rfl,
  fun L st h => e_push (v := zvi (-1)) (n := 6) rfl,
  fun a q L st h => e_putI (kd := 18) (k := 3) (n := 9) rfl,
  fun a L st h => e_ld0R (n := 10) rfl,
  fun L st h => e_push (v := zvi 900) (n := 13) rfl,
  fun a L st h => e_newa (kd := 1) (n := 15) rfl,
  fun a q L st h => e_putR (kd := 18) (k := 4) (n := 18) rfl,
  fun a L st h => e_ld0R (n := 19) rfl,
  fun L st h => e_push (v := zvi 985) (n := 22) rfl,
  fun a L st h => e_newa (kd := 1) (n := 24) rfl,
  fun a q L st h => e_putR (kd := 18) (k := 6) (n := 27) rfl,
  fun a L st h => e_ld0R (n := 28) rfl,
  fun L st h => e_push (v := zvi 985) (n := 31) rfl,
  fun a L st h => e_newa (kd := 1) (n := 33) rfl,
  fun a q L st h => e_putR (kd := 18) (k := 7) (n := 36) rfl,
  fun a L st h => e_ld0R (n := 37) rfl,
  fun L st h => e_push (v := zvi 985) (n := 40) rfl,
  fun a L st h => e_newa (kd := 1) (n := 42) rfl,
  fun a q L st h => e_putR (kd := 18) (k := 8) (n := 45) rfl,
  fun a L st h => e_ld0R (n := 46) rfl,
  fun L st h => e_push (v := zvi 9850) (n := 49) rfl,
  fun a L st h => e_newa (kd := 1) (n := 51) rfl,
  fun a q L st h => e_putR (kd := 18) (k := 9) (n := 54) rfl,
  fun a L st h => e_ld0R (n := 55) rfl,
  fun L st h => e_push (v := zvi 10) (n := 57) rfl,
  fun a L st h => e_newa (kd := 4) (n := 59) rfl,
  fun a q L st h => e_putR (kd := 18) (k := 20) (n := 62) rfl,
  fun a L st h => e_ld0R (n := 63) rfl,
  fun L st h => e_push (v := zvi 8) (n := 65) rfl,
  fun a L st h => e_newa (kd := 4) (n := 67) rfl,
  fun a q L st h => e_putR (kd := 18) (k := 21) (n := 70) rfl,
  fun a L st h => e_ld0R (n := 71) rfl,
  fun L st h => e_push (v := zvi 7) (n := 73) rfl,
  fun a L st h => e_newa (kd := 1) (n := 75) rfl,
  fun a q L st h => e_putR (kd := 18) (k := 22) (n := 78) rfl,
  fun a L st h => e_ld0R (n := 79) rfl,
  fun L st h => e_push (v := zvi 120) (n := 81) rfl,
  fun a L st h => e_newa (kd := 1) (n := 83) rfl,
  fun a q L st h => e_putR (kd := 18) (k := 23) (n := 86) rfl,
  fun a L st h => e_ld0R (n := 87) rfl,
  fun L st h => e_push (v := zvi 120) (n := 89) rfl,
  fun a L st h => e_newa (kd := 1) (n := 91) rfl,
  fun a q L st h => e_putR (kd := 18) (k := 24) (n := 94) rfl,
  fun a L st h => e_ld0R (n := 95) rfl,
  fun L st h => e_push (v := zvi 120) (n := 97) rfl,
  fun a L st h => e_newa (kd := 1) (n := 99) rfl,
  fun a q L st h => e_putR (kd := 18) (k := 25) (n := 102) rfl,
  fun a L st h => e_ld0R (n := 103) rfl,
  fun L st h => e_push (v := zvi 120) (n := 105) rfl,
  fun a L st h => e_newa (kd := 1) (n := 107) rfl,
  fun a q L st h => e_putR (kd := 18) (k := 26) (n := 110) rfl,
  fun a L st h => e_ld0R (n := 111) rfl,
  fun L st h => e_push (v := zvi 120) (n := 113) rfl,
  fun a L st h => e_newa (kd := 1) (n := 115) rfl,
  fun a q L st h => e_putR (kd := 18) (k := 27) (n := 118) rfl,
  fun a L st h => e_ld0R (n := 119) rfl,
  fun L st h => e_push (v := zvi 14400) (n := 122) rfl,
  fun a L st h => e_newa (kd := 1) (n := 124) rfl,
  fun a q L st h => e_putR (kd := 18) (k := 29) (n := 127) rfl,
  fun a L st h => e_ld0R (n := 128) rfl,
  fun L st h => e_push (v := zvi 120) (n := 130) rfl,
  fun a L st h => e_newa (kd := 1) (n := 132) rfl,
  fun a q L st h => e_putR (kd := 18) (k := 30) (n := 135) rfl,
  fun a L st h => e_ld0R (n := 136) rfl,
  fun L st h => e_push (v := zvi 120) (n := 138) rfl,
  fun a L st h => e_newa (kd := 1) (n := 140) rfl,
  fun a q L st h => e_putR (kd := 18) (k := 31) (n := 143) rfl,
  fun a L st h => e_ld0R (n := 144) rfl,
  fun L st h => e_push (v := zvi 120) (n := 146) rfl,
  fun a L st h => e_newa (kd := 1) (n := 148) rfl,
  fun a q L st h => e_putR (kd := 18) (k := 33) (n := 151) rfl,
  fun a L st h => e_ld0R (n := 152) rfl,
  fun L st h => e_push (v := zvi 120) (n := 154) rfl,
  fun a L st h => e_newa (kd := 1) (n := 156) rfl,
  fun a q L st h => e_putR (kd := 18) (k := 34) (n := 159) rfl,
  fun a L st h => e_ld0R (n := 160) rfl,
  fun L st h => e_push (v := zvi 120) (n := 162) rfl,
  fun a L st h => e_newa (kd := 1) (n := 164) rfl,
  fun a q L st h => e_putR (kd := 18) (k := 35) (n := 167) rfl,
  fun a L st h => e_ld0R (n := 168) rfl,
  fun L st h => e_push (v := zvi 120) (n := 170) rfl,
  fun a L st h => e_newa (kd := 1) (n := 172) rfl,
  fun a q L st h => e_putR (kd := 18) (k := 37) (n := 175) rfl,
  fun a L st h => e_ld0R (n := 176) rfl,
  fun L st h => e_push (v := zvi 10) (n := 178) rfl,
  fun a L st h => e_newa (kd := 1) (n := 180) rfl,
  fun a q L st h => e_putR (kd := 18) (k := 39) (n := 183) rfl,
  fun L h => e_ret rfl⟩
theorem allX4_init : zall yX4_init cX4_init 1 none 2 kX4_init.1 :=
  ⟨k_aload_n dX4_init_0,
  k_objI (C := RX4) (T0 := TX4) (ci := 2) dX4_init_1 rfl q1798 q177 q178 (by decide),
  k_aload_n dX4_init_4,
  k_iconst dX4_init_5,
  k_putI (C := RX4) (T := TX4) (N := 42) (ci := 2) (k := 3) (ref := "LinkTimesModel") dX4_init_6 rfl in_X4 tyX4 tyX4_ok nmX4 (by decide) (Or.inl q1802) (Or.inl rfl) (Or.inl rfl) (tyX4_ok 3 (by decide)) (fun _ _ _ => rfl),
  k_aload_n dX4_init_9,
  k_sipush dX4_init_10,
  k_newa (kd := 1) dX4_init_13 (by decide) rfl q300,
  k_putR (C := RX4) (T := TX4) (N := 42) (ci := 2) (k := 4) (ref := "LinkTimesModel") dX4_init_15 rfl in_X4 tyX4 tyX4_ok nmX4 (by decide) (Or.inl q1803) (Or.inl rfl) (Or.inr ⟨rfl, rfl, rfl, q1803⟩) (tyX4_ok 4 (by decide)) (Or.inr ⟨_, rfl⟩) (fun _ _ _ => rfl),
  k_aload_n dX4_init_18,
  k_sipush dX4_init_19,
  k_newa (kd := 1) dX4_init_22 (by decide) rfl q300,
  k_putR (C := RX4) (T := TX4) (N := 42) (ci := 2) (k := 6) (ref := "LinkTimesModel") dX4_init_24 rfl in_X4 tyX4 tyX4_ok nmX4 (by decide) (Or.inl q1805) (Or.inl rfl) (Or.inr ⟨rfl, rfl, rfl, q1805⟩) (tyX4_ok 6 (by decide)) (Or.inr ⟨_, rfl⟩) (fun _ _ _ => rfl),
  k_aload_n dX4_init_27,
  k_sipush dX4_init_28,
  k_newa (kd := 1) dX4_init_31 (by decide) rfl q300,
  k_putR (C := RX4) (T := TX4) (N := 42) (ci := 2) (k := 7) (ref := "LinkTimesModel") dX4_init_33 rfl in_X4 tyX4 tyX4_ok nmX4 (by decide) (Or.inl q1806) (Or.inl rfl) (Or.inr ⟨rfl, rfl, rfl, q1806⟩) (tyX4_ok 7 (by decide)) (Or.inr ⟨_, rfl⟩) (fun _ _ _ => rfl),
  k_aload_n dX4_init_36,
  k_sipush dX4_init_37,
  k_newa (kd := 1) dX4_init_40 (by decide) rfl q300,
  k_putR (C := RX4) (T := TX4) (N := 42) (ci := 2) (k := 8) (ref := "LinkTimesModel") dX4_init_42 rfl in_X4 tyX4 tyX4_ok nmX4 (by decide) (Or.inl q1807) (Or.inl rfl) (Or.inr ⟨rfl, rfl, rfl, q1807⟩) (tyX4_ok 8 (by decide)) (Or.inr ⟨_, rfl⟩) (fun _ _ _ => rfl),
  k_aload_n dX4_init_45,
  k_sipush dX4_init_46,
  k_newa (kd := 1) dX4_init_49 (by decide) rfl q300,
  k_putR (C := RX4) (T := TX4) (N := 42) (ci := 2) (k := 9) (ref := "LinkTimesModel") dX4_init_51 rfl in_X4 tyX4 tyX4_ok nmX4 (by decide) (Or.inl q1808) (Or.inl rfl) (Or.inr ⟨rfl, rfl, rfl, q1808⟩) (tyX4_ok 9 (by decide)) (Or.inr ⟨_, rfl⟩) (fun _ _ _ => rfl),
  k_aload_n dX4_init_54,
  k_bipush dX4_init_55,
  k_newa (kd := 4) dX4_init_57 (by decide) rfl q1926,
  k_putR (C := RX4) (T := TX4) (N := 42) (ci := 2) (k := 20) (ref := "LinkTimesModel") dX4_init_59 rfl in_X4 tyX4 tyX4_ok nmX4 (by decide) (Or.inl q1819) (Or.inl rfl) (Or.inr ⟨rfl, rfl, rfl, q1819⟩) (tyX4_ok 20 (by decide)) (Or.inr ⟨_, rfl⟩) (fun _ _ _ => rfl),
  k_aload_n dX4_init_62,
  k_bipush dX4_init_63,
  k_newa (kd := 4) dX4_init_65 (by decide) rfl q1926,
  k_putR (C := RX4) (T := TX4) (N := 42) (ci := 2) (k := 21) (ref := "LinkTimesModel") dX4_init_67 rfl in_X4 tyX4 tyX4_ok nmX4 (by decide) (Or.inl q1820) (Or.inl rfl) (Or.inr ⟨rfl, rfl, rfl, q1820⟩) (tyX4_ok 21 (by decide)) (Or.inr ⟨_, rfl⟩) (fun _ _ _ => rfl),
  k_aload_n dX4_init_70,
  k_bipush dX4_init_71,
  k_newa (kd := 1) dX4_init_73 (by decide) rfl q300,
  k_putR (C := RX4) (T := TX4) (N := 42) (ci := 2) (k := 22) (ref := "LinkTimesModel") dX4_init_75 rfl in_X4 tyX4 tyX4_ok nmX4 (by decide) (Or.inl q1821) (Or.inl rfl) (Or.inr ⟨rfl, rfl, rfl, q1821⟩) (tyX4_ok 22 (by decide)) (Or.inr ⟨_, rfl⟩) (fun _ _ _ => rfl),
  k_aload_n dX4_init_78,
  k_bipush dX4_init_79,
  k_newa (kd := 1) dX4_init_81 (by decide) rfl q300,
  k_putR (C := RX4) (T := TX4) (N := 42) (ci := 2) (k := 23) (ref := "LinkTimesModel") dX4_init_83 rfl in_X4 tyX4 tyX4_ok nmX4 (by decide) (Or.inl q1822) (Or.inl rfl) (Or.inr ⟨rfl, rfl, rfl, q1822⟩) (tyX4_ok 23 (by decide)) (Or.inr ⟨_, rfl⟩) (fun _ _ _ => rfl),
  k_aload_n dX4_init_86,
  k_bipush dX4_init_87,
  k_newa (kd := 1) dX4_init_89 (by decide) rfl q300,
  k_putR (C := RX4) (T := TX4) (N := 42) (ci := 2) (k := 24) (ref := "LinkTimesModel") dX4_init_91 rfl in_X4 tyX4 tyX4_ok nmX4 (by decide) (Or.inl q1823) (Or.inl rfl) (Or.inr ⟨rfl, rfl, rfl, q1823⟩) (tyX4_ok 24 (by decide)) (Or.inr ⟨_, rfl⟩) (fun _ _ _ => rfl),
  k_aload_n dX4_init_94,
  k_bipush dX4_init_95,
  k_newa (kd := 1) dX4_init_97 (by decide) rfl q300,
  k_putR (C := RX4) (T := TX4) (N := 42) (ci := 2) (k := 25) (ref := "LinkTimesModel") dX4_init_99 rfl in_X4 tyX4 tyX4_ok nmX4 (by decide) (Or.inl q1824) (Or.inl rfl) (Or.inr ⟨rfl, rfl, rfl, q1824⟩) (tyX4_ok 25 (by decide)) (Or.inr ⟨_, rfl⟩) (fun _ _ _ => rfl),
  k_aload_n dX4_init_102,
  k_bipush dX4_init_103,
  k_newa (kd := 1) dX4_init_105 (by decide) rfl q300,
  k_putR (C := RX4) (T := TX4) (N := 42) (ci := 2) (k := 26) (ref := "LinkTimesModel") dX4_init_107 rfl in_X4 tyX4 tyX4_ok nmX4 (by decide) (Or.inl q1825) (Or.inl rfl) (Or.inr ⟨rfl, rfl, rfl, q1825⟩) (tyX4_ok 26 (by decide)) (Or.inr ⟨_, rfl⟩) (fun _ _ _ => rfl),
  k_aload_n dX4_init_110,
  k_bipush dX4_init_111,
  k_newa (kd := 1) dX4_init_113 (by decide) rfl q300,
  k_putR (C := RX4) (T := TX4) (N := 42) (ci := 2) (k := 27) (ref := "LinkTimesModel") dX4_init_115 rfl in_X4 tyX4 tyX4_ok nmX4 (by decide) (Or.inl q1826) (Or.inl rfl) (Or.inr ⟨rfl, rfl, rfl, q1826⟩) (tyX4_ok 27 (by decide)) (Or.inr ⟨_, rfl⟩) (fun _ _ _ => rfl),
  k_aload_n dX4_init_118,
  k_sipush dX4_init_119,
  k_newa (kd := 1) dX4_init_122 (by decide) rfl q300,
  k_putR (C := RX4) (T := TX4) (N := 42) (ci := 2) (k := 29) (ref := "LinkTimesModel") dX4_init_124 rfl in_X4 tyX4 tyX4_ok nmX4 (by decide) (Or.inl q1828) (Or.inl rfl) (Or.inr ⟨rfl, rfl, rfl, q1828⟩) (tyX4_ok 29 (by decide)) (Or.inr ⟨_, rfl⟩) (fun _ _ _ => rfl),
  k_aload_n dX4_init_127,
  k_bipush dX4_init_128,
  k_newa (kd := 1) dX4_init_130 (by decide) rfl q300,
  k_putR (C := RX4) (T := TX4) (N := 42) (ci := 2) (k := 30) (ref := "LinkTimesModel") dX4_init_132 rfl in_X4 tyX4 tyX4_ok nmX4 (by decide) (Or.inl q1829) (Or.inl rfl) (Or.inr ⟨rfl, rfl, rfl, q1829⟩) (tyX4_ok 30 (by decide)) (Or.inr ⟨_, rfl⟩) (fun _ _ _ => rfl),
  k_aload_n dX4_init_135,
  k_bipush dX4_init_136,
  k_newa (kd := 1) dX4_init_138 (by decide) rfl q300,
  k_putR (C := RX4) (T := TX4) (N := 42) (ci := 2) (k := 31) (ref := "LinkTimesModel") dX4_init_140 rfl in_X4 tyX4 tyX4_ok nmX4 (by decide) (Or.inl q1830) (Or.inl rfl) (Or.inr ⟨rfl, rfl, rfl, q1830⟩) (tyX4_ok 31 (by decide)) (Or.inr ⟨_, rfl⟩) (fun _ _ _ => rfl),
  k_aload_n dX4_init_143,
  k_bipush dX4_init_144,
  k_newa (kd := 1) dX4_init_146 (by decide) rfl q300,
  k_putR (C := RX4) (T := TX4) (N := 42) (ci := 2) (k := 33) (ref := "LinkTimesModel") dX4_init_148 rfl in_X4 tyX4 tyX4_ok nmX4 (by decide) (Or.inl q1832) (Or.inl rfl) (Or.inr ⟨rfl, rfl, rfl, q1832⟩) (tyX4_ok 33 (by decide)) (Or.inr ⟨_, rfl⟩) (fun _ _ _ => rfl),
  k_aload_n dX4_init_151,
  k_bipush dX4_init_152,
  k_newa (kd := 1) dX4_init_154 (by decide) rfl q300,
  k_putR (C := RX4) (T := TX4) (N := 42) (ci := 2) (k := 34) (ref := "LinkTimesModel") dX4_init_156 rfl in_X4 tyX4 tyX4_ok nmX4 (by decide) (Or.inl q1833) (Or.inl rfl) (Or.inr ⟨rfl, rfl, rfl, q1833⟩) (tyX4_ok 34 (by decide)) (Or.inr ⟨_, rfl⟩) (fun _ _ _ => rfl),
  k_aload_n dX4_init_159,
  k_bipush dX4_init_160,
  k_newa (kd := 1) dX4_init_162 (by decide) rfl q300,
  k_putR (C := RX4) (T := TX4) (N := 42) (ci := 2) (k := 35) (ref := "LinkTimesModel") dX4_init_164 rfl in_X4 tyX4 tyX4_ok nmX4 (by decide) (Or.inl q1834) (Or.inl rfl) (Or.inr ⟨rfl, rfl, rfl, q1834⟩) (tyX4_ok 35 (by decide)) (Or.inr ⟨_, rfl⟩) (fun _ _ _ => rfl),
  k_aload_n dX4_init_167,
  k_bipush dX4_init_168,
  k_newa (kd := 1) dX4_init_170 (by decide) rfl q300,
  k_putR (C := RX4) (T := TX4) (N := 42) (ci := 2) (k := 37) (ref := "LinkTimesModel") dX4_init_172 rfl in_X4 tyX4 tyX4_ok nmX4 (by decide) (Or.inl q1836) (Or.inl rfl) (Or.inr ⟨rfl, rfl, rfl, q1836⟩) (tyX4_ok 37 (by decide)) (Or.inr ⟨_, rfl⟩) (fun _ _ _ => rfl),
  k_aload_n dX4_init_175,
  k_bipush dX4_init_176,
  k_newa (kd := 1) dX4_init_178 (by decide) rfl q300,
  k_putR (C := RX4) (T := TX4) (N := 42) (ci := 2) (k := 39) (ref := "LinkTimesModel") dX4_init_180 rfl in_X4 tyX4 tyX4_ok nmX4 (by decide) (Or.inl q1838) (Or.inl rfl) (Or.inr ⟨rfl, rfl, rfl, q1838⟩) (tyX4_ok 39 (by decide)) (Or.inr ⟨_, rfl⟩) (fun _ _ _ => rfl),
  k_ret dX4_init_183, trivial⟩
theorem sndX4_init : MSound 2 yX4_init (ws_ yX4_init cX4_init 1 none) mX4_init := msound_M (by decide) allX4_init (fun _ _ => rfl)
/-! LinkTimesModel.thrown()I -/
noncomputable def kX4_thrown : ZM := ([(0, zi_ld 1 0 1), (1, zi_getI 18 0 4), (4, zi_retv 0)], fun _ _ => none)
noncomputable def mX4_thrown : ZF := zrunM kX4_thrown 1
theorem enX4_thrown (x0 : Option Nat) (h : PH) : mX4_thrown [zvr x0] h = zev kX4_thrown 0 [zvr x0] [] h := zrunM_eq rfl rfl
theorem rX4_thrown : (∀ (a : Option Nat) (L st : List ZV) (h : PH), zev kX4_thrown 0 (zvr a :: L) st h = zev kX4_thrown 1 (zvr a :: L) (zvr a :: st) h) ∧
  (∀ (q : Nat) (L st : List ZV) (h : PH), zev kX4_thrown 1 L (zvr (some q) :: st) h = if (ph_K h q).1 % 1000 = 18 then zev kX4_thrown 4 L (zvi (ph_I h q 0) :: st) h else none) ∧
  (∀ (a : Int) (L : List ZV) (h : PH), zev kX4_thrown 4 L [zvi a] h = zrv (zvi a) h) :=
  ⟨fun a L st h => e_ld0R (n := 1) rfl,
  fun q L st h => e_getI (kd := 18) (k := 0) (n := 4) rfl,
  fun a L h => e_retI rfl⟩
theorem allX4_thrown : zall yX4_thrown cX4_thrown 1 (some .int) 1 kX4_thrown.1 :=
  ⟨k_aload_n dX4_thrown_0,
  k_getI (C := RX4) (T := TX4) (N := 42) (ci := 2) (k := 0) (ref := "LinkTimesModel") dX4_thrown_1 rfl in_X4 (by decide) q1799 (Or.inl rfl) (fun _ _ _ => rfl),
  k_iret dX4_thrown_4, trivial⟩
theorem sndX4_thrown : MSound 1 yX4_thrown (ws_ yX4_thrown cX4_thrown 1 (some .int)) mX4_thrown := msound_M (by decide) allX4_thrown (fun _ _ => rfl)
/-! LinkTimesModel.laysWord(I)V -/
noncomputable def kX4_laysWord : ZM := ([(0, zi_push (zvi 0) 1), (1, zi_st 0 2 2), (2, zi_ld 0 2 3), (3, zi_push (zvi 4) 4), (4, zi_cmp zc_ge 37 7), (7, zi_ld 1 0 8), (8, zi_getR 18 4 11), (11, zi_ld 1 0 12), (12, zi_getI 18 5 15), (15, zi_ld 0 2 16), (16, zi_bin (fun a b => w32 (a + b)) 17), (17, zi_ld 0 1 18), (18, zi_push (zvi 24) 20), (20, zi_push (zvi 8) 22), (22, zi_ld 0 2 23), (23, zi_bin (fun a b => w32 (a * b)) 24), (24, zi_bin (fun a b => w32 (a - b)) 25), (25, zi_bin zshr 26), (26, zi_push (zvi 255) 29), (29, zi_bin zand 30), (30, zi_ast 31), (31, zi_iinc 2 1 34), (34, zi_goto 2), (37, zi_ld 1 0 38), (38, zi_dup 39), (39, zi_getI 18 5 42), (42, zi_push (zvi 4) 43), (43, zi_bin (fun a b => w32 (a + b)) 44), (44, zi_putI 18 5 47), (47, zi_ret)], fun _ _ => none)
noncomputable def mX4_laysWord : ZF := zrunM kX4_laysWord 3
theorem enX4_laysWord (x0 : Option Nat) (x1 : Int) (h : PH) : mX4_laysWord [zvr x0, zvi x1] h = zev kX4_laysWord 0 [zvr x0, zvi x1, zvu] [] h := zrunM_eq rfl rfl
theorem hdX4_laysWord_2 (x0 x1 : ZV) (a : Int) (L st : List ZV) (h : PH) : zev kX4_laysWord 2 (x0 :: x1 :: zvi a :: L) st h = zev kX4_laysWord 3 (x0 :: x1 :: zvi a :: L) (zvi a :: st) h := e_ld2I (n := 3) rfl
theorem rX4_laysWord : (∀ (L st : List ZV) (h : PH), zev kX4_laysWord 0 L st h = zev kX4_laysWord 1 L (zvi 0 :: st) h) ∧
  (∀ (x0 x1 x2 : ZV) (a : Int) (L st : List ZV) (h : PH) (hx : zisL x1 = false) , zev kX4_laysWord 1 (x0 :: x1 :: x2 :: L) (zvi a :: st) h = zev kX4_laysWord 2 (x0 :: x1 :: zvi a :: L) st h) ∧
  (∀ (L st : List ZV) (h : PH), zev kX4_laysWord 3 L st h = zev kX4_laysWord 4 L (zvi 4 :: st) h) ∧
  (∀ (a b : Int) (L st : List ZV) (h : PH), zev kX4_laysWord 4 L (zvi b :: zvi a :: st) h = if a ≥ b then zev kX4_laysWord 37 L st h else zev kX4_laysWord 7 L st h) ∧
  (∀ (a : Option Nat) (L st : List ZV) (h : PH), zev kX4_laysWord 7 (zvr a :: L) st h = zev kX4_laysWord 8 (zvr a :: L) (zvr a :: st) h) ∧
  (∀ (q : Nat) (L st : List ZV) (h : PH), zev kX4_laysWord 8 L (zvr (some q) :: st) h = if (ph_K h q).1 % 1000 = 18 then zev kX4_laysWord 11 L (zvr (ph_R h q 4) :: st) h else none) ∧
  (∀ (a : Option Nat) (L st : List ZV) (h : PH), zev kX4_laysWord 11 (zvr a :: L) st h = zev kX4_laysWord 12 (zvr a :: L) (zvr a :: st) h) ∧
  (∀ (q : Nat) (L st : List ZV) (h : PH), zev kX4_laysWord 12 L (zvr (some q) :: st) h = if (ph_K h q).1 % 1000 = 18 then zev kX4_laysWord 15 L (zvi (ph_I h q 5) :: st) h else none) ∧
  (∀ (x0 x1 : ZV) (a : Int) (L st : List ZV) (h : PH), zev kX4_laysWord 15 (x0 :: x1 :: zvi a :: L) st h = zev kX4_laysWord 16 (x0 :: x1 :: zvi a :: L) (zvi a :: st) h) ∧
  (∀ (a b : Int) (L st : List ZV) (h : PH), zev kX4_laysWord 16 L (zvi b :: zvi a :: st) h = zev kX4_laysWord 17 L (zvi (w32 (a + b)) :: st) h) ∧
  (∀ (x0 : ZV) (a : Int) (L st : List ZV) (h : PH), zev kX4_laysWord 17 (x0 :: zvi a :: L) st h = zev kX4_laysWord 18 (x0 :: zvi a :: L) (zvi a :: st) h) ∧
  (∀ (L st : List ZV) (h : PH), zev kX4_laysWord 18 L st h = zev kX4_laysWord 20 L (zvi 24 :: st) h) ∧
  (∀ (L st : List ZV) (h : PH), zev kX4_laysWord 20 L st h = zev kX4_laysWord 22 L (zvi 8 :: st) h) ∧
  (∀ (x0 x1 : ZV) (a : Int) (L st : List ZV) (h : PH), zev kX4_laysWord 22 (x0 :: x1 :: zvi a :: L) st h = zev kX4_laysWord 23 (x0 :: x1 :: zvi a :: L) (zvi a :: st) h) ∧
  (∀ (a b : Int) (L st : List ZV) (h : PH), zev kX4_laysWord 23 L (zvi b :: zvi a :: st) h = zev kX4_laysWord 24 L (zvi (w32 (a * b)) :: st) h) ∧
  (∀ (a b : Int) (L st : List ZV) (h : PH), zev kX4_laysWord 24 L (zvi b :: zvi a :: st) h = zev kX4_laysWord 25 L (zvi (w32 (a - b)) :: st) h) ∧
  (∀ (a b : Int) (L st : List ZV) (h : PH), zev kX4_laysWord 25 L (zvi b :: zvi a :: st) h = zev kX4_laysWord 26 L (zvi (zshr a b) :: st) h) ∧
  (∀ (L st : List ZV) (h : PH), zev kX4_laysWord 26 L st h = zev kX4_laysWord 29 L (zvi 255 :: st) h) ∧
  (∀ (a b : Int) (L st : List ZV) (h : PH), zev kX4_laysWord 29 L (zvi b :: zvi a :: st) h = zev kX4_laysWord 30 L (zvi (zand a b) :: st) h) ∧
  (∀ (x j : Int) (q : Nat) (L st : List ZV) (h : PH), zev kX4_laysWord 30 L (zvi x :: zvi j :: zvr (some q) :: st) h = if (ph_K h q).1 = 1 ∧ 0 ≤ j ∧ j < (ph_K h q).2 then zev kX4_laysWord 31 L st (st_I h q j x) else none) ∧
  (∀ (x0 x1 : ZV) (a : Int) (L st : List ZV) (h : PH) (hx : zisL x1 = false) , zev kX4_laysWord 31 (x0 :: x1 :: zvi a :: L) st h = zev kX4_laysWord 34 (x0 :: x1 :: zvi (w32 (a + 1)) :: L) st h) ∧
  (∀ (L st : List ZV) (h : PH), zev kX4_laysWord 34 L st h = zev kX4_laysWord 2 L st h) ∧
  (∀ (a : Option Nat) (L st : List ZV) (h : PH), zev kX4_laysWord 37 (zvr a :: L) st h = zev kX4_laysWord 38 (zvr a :: L) (zvr a :: st) h) ∧
  (∀ (a : Int) (L st : List ZV) (h : PH), zev kX4_laysWord 38 L (zvi a :: st) h = zev kX4_laysWord 39 L (zvi a :: zvi a :: st) h) ∧
  (∀ (a : Option Nat) (L st : List ZV) (h : PH), zev kX4_laysWord 38 L (zvr a :: st) h = zev kX4_laysWord 39 L (zvr a :: zvr a :: st) h) ∧
  (∀ (q : Nat) (L st : List ZV) (h : PH), zev kX4_laysWord 39 L (zvr (some q) :: st) h = if (ph_K h q).1 % 1000 = 18 then zev kX4_laysWord 42 L (zvi (ph_I h q 5) :: st) h else none) ∧
  (∀ (L st : List ZV) (h : PH), zev kX4_laysWord 42 L st h = zev kX4_laysWord 43 L (zvi 4 :: st) h) ∧
  (∀ (a b : Int) (L st : List ZV) (h : PH), zev kX4_laysWord 43 L (zvi b :: zvi a :: st) h = zev kX4_laysWord 44 L (zvi (w32 (a + b)) :: st) h) ∧
  (∀ (a : Int) (q : Nat) (L st : List ZV) (h : PH), zev kX4_laysWord 44 L (zvi a :: zvr (some q) :: st) h = if (ph_K h q).1 = 18 then zev kX4_laysWord 47 L st (st_I h q 5 a) else none) ∧
  (∀ (L : List ZV) (h : PH), zev kX4_laysWord 47 L [] h = zr0 h) :=
  ⟨fun L st h => e_push (v := zvi 0) (n := 1) rfl,
  fun x0 x1 x2 a L st h hx => e_st2I (n := 2) rfl hx,
  fun L st h => e_push (v := zvi 4) (n := 4) rfl,
  fun a b L st h => e_cmpge (t := 37) (n := 7) rfl,
  fun a L st h => e_ld0R (n := 8) rfl,
  fun q L st h => e_getR (kd := 18) (k := 4) (n := 11) rfl,
  fun a L st h => e_ld0R (n := 12) rfl,
  fun q L st h => e_getI (kd := 18) (k := 5) (n := 15) rfl,
  fun x0 x1 a L st h => e_ld2I (n := 16) rfl,
  fun a b L st h => e_bin (f := (fun a b => w32 (a + b))) (n := 17) rfl,
  fun x0 a L st h => e_ld1I (n := 18) rfl,
  fun L st h => e_push (v := zvi 24) (n := 20) rfl,
  fun L st h => e_push (v := zvi 8) (n := 22) rfl,
  fun x0 x1 a L st h => e_ld2I (n := 23) rfl,
  fun a b L st h => e_bin (f := (fun a b => w32 (a * b))) (n := 24) rfl,
  fun a b L st h => e_bin (f := (fun a b => w32 (a - b))) (n := 25) rfl,
  fun a b L st h => e_bin (f := zshr) (n := 26) rfl,
  fun L st h => e_push (v := zvi 255) (n := 29) rfl,
  fun a b L st h => e_bin (f := zand) (n := 30) rfl,
  fun x j q L st h => e_ast (n := 31) rfl,
  fun x0 x1 a L st h hx => e_iinc2 (d := 1) (n := 34) rfl hx,
  fun L st h => e_goto (t := 2) rfl,
  fun a L st h => e_ld0R (n := 38) rfl,
  fun a L st h => e_dupI (n := 39) rfl,
  fun a L st h => e_dupR (n := 39) rfl,
  fun q L st h => e_getI (kd := 18) (k := 5) (n := 42) rfl,
  fun L st h => e_push (v := zvi 4) (n := 43) rfl,
  fun a b L st h => e_bin (f := (fun a b => w32 (a + b))) (n := 44) rfl,
  fun a q L st h => e_putI (kd := 18) (k := 5) (n := 47) rfl,
  fun L h => e_ret rfl⟩
theorem allX4_laysWord : zall yX4_laysWord cX4_laysWord 3 none 1 kX4_laysWord.1 :=
  ⟨k_iconst dX4_laysWord_0,
  k_istore_n dX4_laysWord_1,
  k_iload_n dX4_laysWord_2,
  k_iconst dX4_laysWord_3,
  k_cmpge (t := 37) dX4_laysWord_4 (by decide),
  k_aload_n dX4_laysWord_7,
  k_getR (C := RX4) (T := TX4) (N := 42) (ci := 2) (k := 4) (ref := "LinkTimesModel") dX4_laysWord_8 rfl in_X4 (by decide) q1803 (Or.inl rfl) (fun _ _ _ => rfl),
  k_aload_n dX4_laysWord_11,
  k_getI (C := RX4) (T := TX4) (N := 42) (ci := 2) (k := 5) (ref := "LinkTimesModel") dX4_laysWord_12 rfl in_X4 (by decide) q1804 (Or.inl rfl) (fun _ _ _ => rfl),
  k_iload_n dX4_laysWord_15,
  k_iadd dX4_laysWord_16,
  k_iload_n dX4_laysWord_17,
  k_bipush dX4_laysWord_18,
  k_bipush dX4_laysWord_20,
  k_iload_n dX4_laysWord_22,
  k_imul dX4_laysWord_23,
  k_isub dX4_laysWord_24,
  k_ishr dX4_laysWord_25,
  k_sipush dX4_laysWord_26,
  k_iand dX4_laysWord_29,
  k_iast dX4_laysWord_30,
  k_iinc dX4_laysWord_31,
  k_goto (t := 2) dX4_laysWord_34 (by decide),
  k_aload_n dX4_laysWord_37,
  k_dup dX4_laysWord_38,
  k_getI (C := RX4) (T := TX4) (N := 42) (ci := 2) (k := 5) (ref := "LinkTimesModel") dX4_laysWord_39 rfl in_X4 (by decide) q1804 (Or.inl rfl) (fun _ _ _ => rfl),
  k_iconst dX4_laysWord_42,
  k_iadd dX4_laysWord_43,
  k_putI (C := RX4) (T := TX4) (N := 42) (ci := 2) (k := 5) (ref := "LinkTimesModel") dX4_laysWord_44 rfl in_X4 tyX4 tyX4_ok nmX4 (by decide) (Or.inl q1804) (Or.inl rfl) (Or.inl rfl) (tyX4_ok 5 (by decide)) (fun _ _ _ => rfl),
  k_ret dX4_laysWord_47, trivial⟩
theorem sndX4_laysWord : MSound 1 yX4_laysWord (ws_ yX4_laysWord cX4_laysWord 3 none) mX4_laysWord := msound_M (by decide) allX4_laysWord (fun _ _ => rfl)
/-! LinkTimesModel.feed(IIIII)I -/
noncomputable def kX4_feed : ZM := ([(0, zi_ld 1 0 1), (1, zi_push (zvi 0) 2), (2, zi_putI 18 0 5), (5, zi_ld 1 0 6), (6, zi_getI 18 5 9), (9, zi_push (zvi 880) 12), (12, zi_cmp zc_le 17 15), (15, zi_push (zvi (-1)) 16), (16, zi_retv 0), (17, zi_ld 1 0 18), (18, zi_ld 0 1 19), (19, zi_callV mX4_laysWord 18 2 22), (22, zi_ld 1 0 23), (23, zi_ld 0 2 24), (24, zi_callV mX4_laysWord 18 2 27), (27, zi_ld 1 0 28), (28, zi_ld 0 3 29), (29, zi_callV mX4_laysWord 18 2 32), (32, zi_ld 1 0 33), (33, zi_ld 0 4 35), (35, zi_callV mX4_laysWord 18 2 38), (38, zi_ld 1 0 39), (39, zi_ld 0 5 41), (41, zi_callV mX4_laysWord 18 2 44), (44, zi_ld 1 0 45), (45, zi_getI 18 5 48), (48, zi_retv 0)], fun _ _ => none)
noncomputable def mX4_feed : ZF := zrunM kX4_feed 6
theorem enX4_feed (x0 : Option Nat) (x1 : Int) (x2 : Int) (x3 : Int) (x4 : Int) (x5 : Int) (h : PH) : mX4_feed [zvr x0, zvi x1, zvi x2, zvi x3, zvi x4, zvi x5] h = zev kX4_feed 0 [zvr x0, zvi x1, zvi x2, zvi x3, zvi x4, zvi x5] [] h := zrunM_eq rfl rfl
theorem rX4_feed : (∀ (a : Option Nat) (L st : List ZV) (h : PH), zev kX4_feed 0 (zvr a :: L) st h = zev kX4_feed 1 (zvr a :: L) (zvr a :: st) h) ∧
  (∀ (L st : List ZV) (h : PH), zev kX4_feed 1 L st h = zev kX4_feed 2 L (zvi 0 :: st) h) ∧
  (∀ (a : Int) (q : Nat) (L st : List ZV) (h : PH), zev kX4_feed 2 L (zvi a :: zvr (some q) :: st) h = if (ph_K h q).1 = 18 then zev kX4_feed 5 L st (st_I h q 0 a) else none) ∧
  (∀ (a : Option Nat) (L st : List ZV) (h : PH), zev kX4_feed 5 (zvr a :: L) st h = zev kX4_feed 6 (zvr a :: L) (zvr a :: st) h) ∧
  (∀ (q : Nat) (L st : List ZV) (h : PH), zev kX4_feed 6 L (zvr (some q) :: st) h = if (ph_K h q).1 % 1000 = 18 then zev kX4_feed 9 L (zvi (ph_I h q 5) :: st) h else none) ∧
  (∀ (L st : List ZV) (h : PH), zev kX4_feed 9 L st h = zev kX4_feed 12 L (zvi 880 :: st) h) ∧
  (∀ (a b : Int) (L st : List ZV) (h : PH), zev kX4_feed 12 L (zvi b :: zvi a :: st) h = if a ≤ b then zev kX4_feed 17 L st h else zev kX4_feed 15 L st h) ∧
  (∀ (L st : List ZV) (h : PH), zev kX4_feed 15 L st h = zev kX4_feed 16 L (zvi (-1) :: st) h) ∧
  (∀ (a : Int) (L : List ZV) (h : PH), zev kX4_feed 16 L [zvi a] h = zrv (zvi a) h) ∧
  (∀ (a : Option Nat) (L st : List ZV) (h : PH), zev kX4_feed 17 (zvr a :: L) st h = zev kX4_feed 18 (zvr a :: L) (zvr a :: st) h) ∧
  (∀ (x0 : ZV) (a : Int) (L st : List ZV) (h : PH), zev kX4_feed 18 (x0 :: zvi a :: L) st h = zev kX4_feed 19 (x0 :: zvi a :: L) (zvi a :: st) h) ∧
  (∀ (v0 : ZV) (q : Nat) (L st : List ZV) (h : PH), zev kX4_feed 19 L (v0 :: zvr (some q) :: st) h = if (ph_K h q).1 % 1000 = 18 ∧ zcat st ≤ 8 then zk kX4_feed 19 22 L st (mX4_laysWord [zvr (some q), v0] h) else none) ∧
  (∀ (a : Option Nat) (L st : List ZV) (h : PH), zev kX4_feed 22 (zvr a :: L) st h = zev kX4_feed 23 (zvr a :: L) (zvr a :: st) h) ∧
  (∀ (x0 x1 : ZV) (a : Int) (L st : List ZV) (h : PH), zev kX4_feed 23 (x0 :: x1 :: zvi a :: L) st h = zev kX4_feed 24 (x0 :: x1 :: zvi a :: L) (zvi a :: st) h) ∧
  (∀ (v0 : ZV) (q : Nat) (L st : List ZV) (h : PH), zev kX4_feed 24 L (v0 :: zvr (some q) :: st) h = if (ph_K h q).1 % 1000 = 18 ∧ zcat st ≤ 8 then zk kX4_feed 24 27 L st (mX4_laysWord [zvr (some q), v0] h) else none) ∧
  (∀ (a : Option Nat) (L st : List ZV) (h : PH), zev kX4_feed 27 (zvr a :: L) st h = zev kX4_feed 28 (zvr a :: L) (zvr a :: st) h) ∧
  (∀ (x0 x1 x2 : ZV) (a : Int) (L st : List ZV) (h : PH), zev kX4_feed 28 (x0 :: x1 :: x2 :: zvi a :: L) st h = zev kX4_feed 29 (x0 :: x1 :: x2 :: zvi a :: L) (zvi a :: st) h) ∧
  (∀ (v0 : ZV) (q : Nat) (L st : List ZV) (h : PH), zev kX4_feed 29 L (v0 :: zvr (some q) :: st) h = if (ph_K h q).1 % 1000 = 18 ∧ zcat st ≤ 8 then zk kX4_feed 29 32 L st (mX4_laysWord [zvr (some q), v0] h) else none) ∧
  (∀ (a : Option Nat) (L st : List ZV) (h : PH), zev kX4_feed 32 (zvr a :: L) st h = zev kX4_feed 33 (zvr a :: L) (zvr a :: st) h) ∧
  (∀ (x0 x1 x2 x3 : ZV) (a : Int) (L st : List ZV) (h : PH), zev kX4_feed 33 (x0 :: x1 :: x2 :: x3 :: zvi a :: L) st h = zev kX4_feed 35 (x0 :: x1 :: x2 :: x3 :: zvi a :: L) (zvi a :: st) h) ∧
  (∀ (v0 : ZV) (q : Nat) (L st : List ZV) (h : PH), zev kX4_feed 35 L (v0 :: zvr (some q) :: st) h = if (ph_K h q).1 % 1000 = 18 ∧ zcat st ≤ 8 then zk kX4_feed 35 38 L st (mX4_laysWord [zvr (some q), v0] h) else none) ∧
  (∀ (a : Option Nat) (L st : List ZV) (h : PH), zev kX4_feed 38 (zvr a :: L) st h = zev kX4_feed 39 (zvr a :: L) (zvr a :: st) h) ∧
  (∀ (x0 x1 x2 x3 x4 : ZV) (a : Int) (L st : List ZV) (h : PH), zev kX4_feed 39 (x0 :: x1 :: x2 :: x3 :: x4 :: zvi a :: L) st h = zev kX4_feed 41 (x0 :: x1 :: x2 :: x3 :: x4 :: zvi a :: L) (zvi a :: st) h) ∧
  (∀ (v0 : ZV) (q : Nat) (L st : List ZV) (h : PH), zev kX4_feed 41 L (v0 :: zvr (some q) :: st) h = if (ph_K h q).1 % 1000 = 18 ∧ zcat st ≤ 8 then zk kX4_feed 41 44 L st (mX4_laysWord [zvr (some q), v0] h) else none) ∧
  (∀ (a : Option Nat) (L st : List ZV) (h : PH), zev kX4_feed 44 (zvr a :: L) st h = zev kX4_feed 45 (zvr a :: L) (zvr a :: st) h) ∧
  (∀ (q : Nat) (L st : List ZV) (h : PH), zev kX4_feed 45 L (zvr (some q) :: st) h = if (ph_K h q).1 % 1000 = 18 then zev kX4_feed 48 L (zvi (ph_I h q 5) :: st) h else none) ∧
  (∀ (a : Int) (L : List ZV) (h : PH), zev kX4_feed 48 L [zvi a] h = zrv (zvi a) h) :=
  ⟨fun a L st h => e_ld0R (n := 1) rfl,
  fun L st h => e_push (v := zvi 0) (n := 2) rfl,
  fun a q L st h => e_putI (kd := 18) (k := 0) (n := 5) rfl,
  fun a L st h => e_ld0R (n := 6) rfl,
  fun q L st h => e_getI (kd := 18) (k := 5) (n := 9) rfl,
  fun L st h => e_push (v := zvi 880) (n := 12) rfl,
  fun a b L st h => e_cmple (t := 17) (n := 15) rfl,
  fun L st h => e_push (v := zvi (-1)) (n := 16) rfl,
  fun a L h => e_retI rfl,
  fun a L st h => e_ld0R (n := 18) rfl,
  fun x0 a L st h => e_ld1I (n := 19) rfl,
  fun v0 q L st h => e_callV2 (F := mX4_laysWord) (kd := 18) (n := 22) rfl,
  fun a L st h => e_ld0R (n := 23) rfl,
  fun x0 x1 a L st h => e_ld2I (n := 24) rfl,
  fun v0 q L st h => e_callV2 (F := mX4_laysWord) (kd := 18) (n := 27) rfl,
  fun a L st h => e_ld0R (n := 28) rfl,
  fun x0 x1 x2 a L st h => e_ld3I (n := 29) rfl,
  fun v0 q L st h => e_callV2 (F := mX4_laysWord) (kd := 18) (n := 32) rfl,
  fun a L st h => e_ld0R (n := 33) rfl,
  fun x0 x1 x2 x3 a L st h => e_ld4I (n := 35) rfl,
  fun v0 q L st h => e_callV2 (F := mX4_laysWord) (kd := 18) (n := 38) rfl,
  fun a L st h => e_ld0R (n := 39) rfl,
  fun x0 x1 x2 x3 x4 a L st h => e_ld5I (n := 41) rfl,
  fun v0 q L st h => e_callV2 (F := mX4_laysWord) (kd := 18) (n := 44) rfl,
  fun a L st h => e_ld0R (n := 45) rfl,
  fun q L st h => e_getI (kd := 18) (k := 5) (n := 48) rfl,
  fun a L h => e_retI rfl⟩
theorem allX4_feed : zall yX4_feed cX4_feed 6 (some .int) 2 kX4_feed.1 :=
  ⟨k_aload_n dX4_feed_0,
  k_iconst dX4_feed_1,
  k_putI (C := RX4) (T := TX4) (N := 42) (ci := 2) (k := 0) (ref := "LinkTimesModel") dX4_feed_2 rfl in_X4 tyX4 tyX4_ok nmX4 (by decide) (Or.inl q1799) (Or.inl rfl) (Or.inl rfl) (tyX4_ok 0 (by decide)) (fun _ _ _ => rfl),
  k_aload_n dX4_feed_5,
  k_getI (C := RX4) (T := TX4) (N := 42) (ci := 2) (k := 5) (ref := "LinkTimesModel") dX4_feed_6 rfl in_X4 (by decide) q1804 (Or.inl rfl) (fun _ _ _ => rfl),
  k_sipush dX4_feed_9,
  k_cmple (t := 17) dX4_feed_12 (by decide),
  k_iconst dX4_feed_15,
  k_iret dX4_feed_16,
  k_aload_n dX4_feed_17,
  k_iload_n dX4_feed_18,
  k_callV (y2 := yX4_laysWord) (C := RX4) (T0 := TX4) (ci := 2) dX4_feed_19 sndX4_laysWord rfl q1935 q1937 qs69 q137 q1938 (by decide +kernel) ⟨by decide, by decide⟩ (by decide) (by decide),
  k_aload_n dX4_feed_22,
  k_iload_n dX4_feed_23,
  k_callV (y2 := yX4_laysWord) (C := RX4) (T0 := TX4) (ci := 2) dX4_feed_24 sndX4_laysWord rfl q1935 q1937 qs69 q137 q1938 (by decide +kernel) ⟨by decide, by decide⟩ (by decide) (by decide),
  k_aload_n dX4_feed_27,
  k_iload_n dX4_feed_28,
  k_callV (y2 := yX4_laysWord) (C := RX4) (T0 := TX4) (ci := 2) dX4_feed_29 sndX4_laysWord rfl q1935 q1937 qs69 q137 q1938 (by decide +kernel) ⟨by decide, by decide⟩ (by decide) (by decide),
  k_aload_n dX4_feed_32,
  k_iload dX4_feed_33,
  k_callV (y2 := yX4_laysWord) (C := RX4) (T0 := TX4) (ci := 2) dX4_feed_35 sndX4_laysWord rfl q1935 q1937 qs69 q137 q1938 (by decide +kernel) ⟨by decide, by decide⟩ (by decide) (by decide),
  k_aload_n dX4_feed_38,
  k_iload dX4_feed_39,
  k_callV (y2 := yX4_laysWord) (C := RX4) (T0 := TX4) (ci := 2) dX4_feed_41 sndX4_laysWord rfl q1935 q1937 qs69 q137 q1938 (by decide +kernel) ⟨by decide, by decide⟩ (by decide) (by decide),
  k_aload_n dX4_feed_44,
  k_getI (C := RX4) (T := TX4) (N := 42) (ci := 2) (k := 5) (ref := "LinkTimesModel") dX4_feed_45 rfl in_X4 (by decide) q1804 (Or.inl rfl) (fun _ _ _ => rfl),
  k_iret dX4_feed_48, trivial⟩
theorem sndX4_feed : MSound 2 yX4_feed (ws_ yX4_feed cX4_feed 6 (some .int)) mX4_feed := msound_M (by decide) allX4_feed (fun _ _ => rfl)
/-! LinkTimesModel.in(III)Z -/
noncomputable def kX4_in : ZM := ([(0, zi_ld 0 0 1), (1, zi_ld 0 1 2), (2, zi_cmp zc_lt 14 5), (5, zi_ld 0 0 6), (6, zi_ld 0 2 7), (7, zi_cmp zc_gt 14 10), (10, zi_push (zvi 1) 11), (11, zi_goto 15), (14, zi_push (zvi 0) 15), (15, zi_retz)], fun _ _ => none)
noncomputable def mX4_in : ZF := zrunM kX4_in 3
theorem enX4_in (x0 : Int) (x1 : Int) (x2 : Int) (h : PH) : mX4_in [zvi x0, zvi x1, zvi x2] h = zev kX4_in 0 [zvi x0, zvi x1, zvi x2] [] h := zrunM_eq rfl rfl
theorem rX4_in : (∀ (a : Int) (L st : List ZV) (h : PH), zev kX4_in 0 (zvi a :: L) st h = zev kX4_in 1 (zvi a :: L) (zvi a :: st) h) ∧
  (∀ (x0 : ZV) (a : Int) (L st : List ZV) (h : PH), zev kX4_in 1 (x0 :: zvi a :: L) st h = zev kX4_in 2 (x0 :: zvi a :: L) (zvi a :: st) h) ∧
  (∀ (a b : Int) (L st : List ZV) (h : PH), zev kX4_in 2 L (zvi b :: zvi a :: st) h = if a < b then zev kX4_in 14 L st h else zev kX4_in 5 L st h) ∧
  (∀ (a : Int) (L st : List ZV) (h : PH), zev kX4_in 5 (zvi a :: L) st h = zev kX4_in 6 (zvi a :: L) (zvi a :: st) h) ∧
  (∀ (x0 x1 : ZV) (a : Int) (L st : List ZV) (h : PH), zev kX4_in 6 (x0 :: x1 :: zvi a :: L) st h = zev kX4_in 7 (x0 :: x1 :: zvi a :: L) (zvi a :: st) h) ∧
  (∀ (a b : Int) (L st : List ZV) (h : PH), zev kX4_in 7 L (zvi b :: zvi a :: st) h = if a > b then zev kX4_in 14 L st h else zev kX4_in 10 L st h) ∧
  (∀ (L st : List ZV) (h : PH), zev kX4_in 10 L st h = zev kX4_in 11 L (zvi 1 :: st) h) ∧
  (∀ (L st : List ZV) (h : PH), zev kX4_in 11 L st h = zev kX4_in 15 L st h) ∧
  (∀ (L st : List ZV) (h : PH), zev kX4_in 14 L st h = zev kX4_in 15 L (zvi 0 :: st) h) ∧
  (∀ (a : Int) (L : List ZV) (h : PH), zev kX4_in 15 L [zvi a] h = if a = 0 ∨ a = 1 then zrv (zvi a) h else none) :=
  ⟨fun a L st h => e_ld0I (n := 1) rfl,
  fun x0 a L st h => e_ld1I (n := 2) rfl,
  fun a b L st h => e_cmplt (t := 14) (n := 5) rfl,
  fun a L st h => e_ld0I (n := 6) rfl,
  fun x0 x1 a L st h => e_ld2I (n := 7) rfl,
  fun a b L st h => e_cmpgt (t := 14) (n := 10) rfl,
  fun L st h => e_push (v := zvi 1) (n := 11) rfl,
  fun L st h => e_goto (t := 15) rfl,
  fun L st h => e_push (v := zvi 0) (n := 15) rfl,
  fun a L h => e_retz rfl⟩
theorem allX4_in : zall yX4_in cX4_in 3 (some .boolean) 1 kX4_in.1 :=
  ⟨k_iload_n dX4_in_0,
  k_iload_n dX4_in_1,
  k_cmplt (t := 14) dX4_in_2 (by decide),
  k_iload_n dX4_in_5,
  k_iload_n dX4_in_6,
  k_cmpgt (t := 14) dX4_in_7 (by decide),
  k_iconst dX4_in_10,
  k_goto (t := 15) dX4_in_11 (by decide),
  k_iconst dX4_in_14,
  k_zret dX4_in_15, trivial⟩
theorem sndX4_in : MSound 1 yX4_in (ws_ yX4_in cX4_in 3 (some .boolean)) mX4_in := msound_M (by decide) allX4_in (fun _ _ => rfl)
/-! LinkTimesModel.isRefused(I)Z -/
noncomputable def kX4_isRefused : ZM := ([(0, zi_ld 1 0 1), (1, zi_push (zvi 0) 2), (2, zi_putI 18 0 5), (5, zi_ld 1 0 6), (6, zi_push (zvi (-1)) 7), (7, zi_putI 18 3 10), (10, zi_ld 1 0 11), (11, zi_ld 0 1 12), (12, zi_putI 18 1 15), (15, zi_ld 0 1 16), (16, zi_if (fun a => zc_eq a 0) 23 19), (19, zi_push (zvi 1) 20), (20, zi_goto 24), (23, zi_push (zvi 0) 24), (24, zi_retz)], fun _ _ => none)
noncomputable def mX4_isRefused : ZF := zrunM kX4_isRefused 2
theorem enX4_isRefused (x0 : Option Nat) (x1 : Int) (h : PH) : mX4_isRefused [zvr x0, zvi x1] h = zev kX4_isRefused 0 [zvr x0, zvi x1] [] h := zrunM_eq rfl rfl
theorem rX4_isRefused : (∀ (a : Option Nat) (L st : List ZV) (h : PH), zev kX4_isRefused 0 (zvr a :: L) st h = zev kX4_isRefused 1 (zvr a :: L) (zvr a :: st) h) ∧
  (∀ (L st : List ZV) (h : PH), zev kX4_isRefused 1 L st h = zev kX4_isRefused 2 L (zvi 0 :: st) h) ∧
  (∀ (a : Int) (q : Nat) (L st : List ZV) (h : PH), zev kX4_isRefused 2 L (zvi a :: zvr (some q) :: st) h = if (ph_K h q).1 = 18 then zev kX4_isRefused 5 L st (st_I h q 0 a) else none) ∧
  (∀ (a : Option Nat) (L st : List ZV) (h : PH), zev kX4_isRefused 5 (zvr a :: L) st h = zev kX4_isRefused 6 (zvr a :: L) (zvr a :: st) h) ∧
  (∀ (L st : List ZV) (h : PH), zev kX4_isRefused 6 L st h = zev kX4_isRefused 7 L (zvi (-1) :: st) h) ∧
  (∀ (a : Int) (q : Nat) (L st : List ZV) (h : PH), zev kX4_isRefused 7 L (zvi a :: zvr (some q) :: st) h = if (ph_K h q).1 = 18 then zev kX4_isRefused 10 L st (st_I h q 3 a) else none) ∧
  (∀ (a : Option Nat) (L st : List ZV) (h : PH), zev kX4_isRefused 10 (zvr a :: L) st h = zev kX4_isRefused 11 (zvr a :: L) (zvr a :: st) h) ∧
  (∀ (x0 : ZV) (a : Int) (L st : List ZV) (h : PH), zev kX4_isRefused 11 (x0 :: zvi a :: L) st h = zev kX4_isRefused 12 (x0 :: zvi a :: L) (zvi a :: st) h) ∧
  (∀ (a : Int) (q : Nat) (L st : List ZV) (h : PH), zev kX4_isRefused 12 L (zvi a :: zvr (some q) :: st) h = if (ph_K h q).1 = 18 then zev kX4_isRefused 15 L st (st_I h q 1 a) else none) ∧
  (∀ (x0 : ZV) (a : Int) (L st : List ZV) (h : PH), zev kX4_isRefused 15 (x0 :: zvi a :: L) st h = zev kX4_isRefused 16 (x0 :: zvi a :: L) (zvi a :: st) h) ∧
  (∀ (a : Int) (L st : List ZV) (h : PH), zev kX4_isRefused 16 L (zvi a :: st) h = if a = 0 then zev kX4_isRefused 23 L st h else zev kX4_isRefused 19 L st h) ∧
  (∀ (L st : List ZV) (h : PH), zev kX4_isRefused 19 L st h = zev kX4_isRefused 20 L (zvi 1 :: st) h) ∧
  (∀ (L st : List ZV) (h : PH), zev kX4_isRefused 20 L st h = zev kX4_isRefused 24 L st h) ∧
  (∀ (L st : List ZV) (h : PH), zev kX4_isRefused 23 L st h = zev kX4_isRefused 24 L (zvi 0 :: st) h) ∧
  (∀ (a : Int) (L : List ZV) (h : PH), zev kX4_isRefused 24 L [zvi a] h = if a = 0 ∨ a = 1 then zrv (zvi a) h else none) :=
  ⟨fun a L st h => e_ld0R (n := 1) rfl,
  fun L st h => e_push (v := zvi 0) (n := 2) rfl,
  fun a q L st h => e_putI (kd := 18) (k := 0) (n := 5) rfl,
  fun a L st h => e_ld0R (n := 6) rfl,
  fun L st h => e_push (v := zvi (-1)) (n := 7) rfl,
  fun a q L st h => e_putI (kd := 18) (k := 3) (n := 10) rfl,
  fun a L st h => e_ld0R (n := 11) rfl,
  fun x0 a L st h => e_ld1I (n := 12) rfl,
  fun a q L st h => e_putI (kd := 18) (k := 1) (n := 15) rfl,
  fun x0 a L st h => e_ld1I (n := 16) rfl,
  fun a L st h => e_ifeq (t := 23) (n := 19) rfl,
  fun L st h => e_push (v := zvi 1) (n := 20) rfl,
  fun L st h => e_goto (t := 24) rfl,
  fun L st h => e_push (v := zvi 0) (n := 24) rfl,
  fun a L h => e_retz rfl⟩
theorem allX4_isRefused : zall yX4_isRefused cX4_isRefused 2 (some .boolean) 1 kX4_isRefused.1 :=
  ⟨k_aload_n dX4_isRefused_0,
  k_iconst dX4_isRefused_1,
  k_putI (C := RX4) (T := TX4) (N := 42) (ci := 2) (k := 0) (ref := "LinkTimesModel") dX4_isRefused_2 rfl in_X4 tyX4 tyX4_ok nmX4 (by decide) (Or.inl q1799) (Or.inl rfl) (Or.inl rfl) (tyX4_ok 0 (by decide)) (fun _ _ _ => rfl),
  k_aload_n dX4_isRefused_5,
  k_iconst dX4_isRefused_6,
  k_putI (C := RX4) (T := TX4) (N := 42) (ci := 2) (k := 3) (ref := "LinkTimesModel") dX4_isRefused_7 rfl in_X4 tyX4 tyX4_ok nmX4 (by decide) (Or.inl q1802) (Or.inl rfl) (Or.inl rfl) (tyX4_ok 3 (by decide)) (fun _ _ _ => rfl),
  k_aload_n dX4_isRefused_10,
  k_iload_n dX4_isRefused_11,
  k_putI (C := RX4) (T := TX4) (N := 42) (ci := 2) (k := 1) (ref := "LinkTimesModel") dX4_isRefused_12 rfl in_X4 tyX4 tyX4_ok nmX4 (by decide) (Or.inl q1800) (Or.inl rfl) (Or.inl rfl) (tyX4_ok 1 (by decide)) (fun _ _ _ => rfl),
  k_iload_n dX4_isRefused_15,
  k_ifeq (t := 23) dX4_isRefused_16 (by decide),
  k_iconst dX4_isRefused_19,
  k_goto (t := 24) dX4_isRefused_20 (by decide),
  k_iconst dX4_isRefused_23,
  k_zret dX4_isRefused_24, trivial⟩
theorem sndX4_isRefused : MSound 1 yX4_isRefused (ws_ yX4_isRefused cX4_isRefused 2 (some .boolean)) mX4_isRefused := msound_M (by decide) allX4_isRefused (fun _ _ => rfl)
/-! LinkTimesModel.see(I)I -/
noncomputable def kX4_see : ZM := ([(0, zi_ld 0 1 1), (1, zi_ld 1 0 2), (2, zi_getI 18 12 5), (5, zi_cmp zc_ge 17 8), (8, zi_ld 1 0 9), (9, zi_getR 18 4 12), (12, zi_ld 0 1 13), (13, zi_ald 1 14), (14, zi_goto 18), (17, zi_push (zvi (-1)) 18), (18, zi_retv 0)], fun _ _ => none)
noncomputable def mX4_see : ZF := zrunM kX4_see 2
theorem enX4_see (x0 : Option Nat) (x1 : Int) (h : PH) : mX4_see [zvr x0, zvi x1] h = zev kX4_see 0 [zvr x0, zvi x1] [] h := zrunM_eq rfl rfl
theorem rX4_see : (∀ (x0 : ZV) (a : Int) (L st : List ZV) (h : PH), zev kX4_see 0 (x0 :: zvi a :: L) st h = zev kX4_see 1 (x0 :: zvi a :: L) (zvi a :: st) h) ∧
  (∀ (a : Option Nat) (L st : List ZV) (h : PH), zev kX4_see 1 (zvr a :: L) st h = zev kX4_see 2 (zvr a :: L) (zvr a :: st) h) ∧
  (∀ (q : Nat) (L st : List ZV) (h : PH), zev kX4_see 2 L (zvr (some q) :: st) h = if (ph_K h q).1 % 1000 = 18 then zev kX4_see 5 L (zvi (ph_I h q 12) :: st) h else none) ∧
  (∀ (a b : Int) (L st : List ZV) (h : PH), zev kX4_see 5 L (zvi b :: zvi a :: st) h = if a ≥ b then zev kX4_see 17 L st h else zev kX4_see 8 L st h) ∧
  (∀ (a : Option Nat) (L st : List ZV) (h : PH), zev kX4_see 8 (zvr a :: L) st h = zev kX4_see 9 (zvr a :: L) (zvr a :: st) h) ∧
  (∀ (q : Nat) (L st : List ZV) (h : PH), zev kX4_see 9 L (zvr (some q) :: st) h = if (ph_K h q).1 % 1000 = 18 then zev kX4_see 12 L (zvr (ph_R h q 4) :: st) h else none) ∧
  (∀ (x0 : ZV) (a : Int) (L st : List ZV) (h : PH), zev kX4_see 12 (x0 :: zvi a :: L) st h = zev kX4_see 13 (x0 :: zvi a :: L) (zvi a :: st) h) ∧
  (∀ (j : Int) (q : Nat) (L st : List ZV) (h : PH), zev kX4_see 13 L (zvi j :: zvr (some q) :: st) h = if (ph_K h q).1 % 1000 = 1 ∧ 0 ≤ j ∧ j < (ph_K h q).2 then zev kX4_see 14 L (zvi (ph_I h q j) :: st) h else none) ∧
  (∀ (L st : List ZV) (h : PH), zev kX4_see 14 L st h = zev kX4_see 18 L st h) ∧
  (∀ (L st : List ZV) (h : PH), zev kX4_see 17 L st h = zev kX4_see 18 L (zvi (-1) :: st) h) ∧
  (∀ (a : Int) (L : List ZV) (h : PH), zev kX4_see 18 L [zvi a] h = zrv (zvi a) h) :=
  ⟨fun x0 a L st h => e_ld1I (n := 1) rfl,
  fun a L st h => e_ld0R (n := 2) rfl,
  fun q L st h => e_getI (kd := 18) (k := 12) (n := 5) rfl,
  fun a b L st h => e_cmpge (t := 17) (n := 8) rfl,
  fun a L st h => e_ld0R (n := 9) rfl,
  fun q L st h => e_getR (kd := 18) (k := 4) (n := 12) rfl,
  fun x0 a L st h => e_ld1I (n := 13) rfl,
  fun j q L st h => e_ald (kd := 1) (n := 14) rfl,
  fun L st h => e_goto (t := 18) rfl,
  fun L st h => e_push (v := zvi (-1)) (n := 18) rfl,
  fun a L h => e_retI rfl⟩
theorem allX4_see : zall yX4_see cX4_see 2 (some .int) 1 kX4_see.1 :=
  ⟨k_iload_n dX4_see_0,
  k_aload_n dX4_see_1,
  k_getI (C := RX4) (T := TX4) (N := 42) (ci := 2) (k := 12) (ref := "LinkTimesModel") dX4_see_2 rfl in_X4 (by decide) q1811 (Or.inl rfl) (fun _ _ _ => rfl),
  k_cmpge (t := 17) dX4_see_5 (by decide),
  k_aload_n dX4_see_8,
  k_getR (C := RX4) (T := TX4) (N := 42) (ci := 2) (k := 4) (ref := "LinkTimesModel") dX4_see_9 rfl in_X4 (by decide) q1803 (Or.inl rfl) (fun _ _ _ => rfl),
  k_iload_n dX4_see_12,
  k_iald dX4_see_13,
  k_goto (t := 18) dX4_see_14 (by decide),
  k_iconst dX4_see_17,
  k_iret dX4_see_18, trivial⟩
theorem sndX4_see : MSound 1 yX4_see (ws_ yX4_see cX4_see 2 (some .int)) mX4_see := msound_M (by decide) allX4_see (fun _ _ => rfl)
/-! LinkTimesModel.goesOn()V -/
noncomputable def kX4_goesOn : ZM := ([(0, zi_ld 1 0 1), (1, zi_ld 1 0 2), (2, zi_getI 18 14 5), (5, zi_callV mX4_see 18 2 8), (8, zi_push (zvi 32) 10), (10, zi_cmp zc_ne 26 13), (13, zi_ld 1 0 14), (14, zi_dup 15), (15, zi_getI 18 14 18), (18, zi_push (zvi 1) 19), (19, zi_bin (fun a b => w32 (a + b)) 20), (20, zi_putI 18 14 23), (23, zi_goto 0), (26, zi_ld 1 0 27), (27, zi_ld 1 0 28), (28, zi_getI 18 14 31), (31, zi_putI 18 13 34), (34, zi_ld 1 0 35), (35, zi_ld 1 0 36), (36, zi_getI 18 14 39), (39, zi_callV mX4_see 18 2 42), (42, zi_st 0 1 43), (43, zi_ld 0 1 44), (44, zi_push (zvi (-1)) 45), (45, zi_cmp zc_ne 54 48), (48, zi_ld 1 0 49), (49, zi_push (zvi 0) 50), (50, zi_putI 18 15 53), (53, zi_ret), (54, zi_ld 0 1 55), (55, zi_push (zvi 97) 57), (57, zi_push (zvi 122) 59), (59, zi_callS mX4_in 3 62), (62, zi_if (fun a => zc_eq a 0) 120 65), (65, zi_ld 1 0 66), (66, zi_ld 1 0 67), (67, zi_getI 18 14 70), (70, zi_callV mX4_see 18 2 73), (73, zi_push (zvi 97) 75), (75, zi_push (zvi 122) 77), (77, zi_callS mX4_in 3 80), (80, zi_if (fun a => zc_eq a 0) 96 83), (83, zi_ld 1 0 84), (84, zi_dup 85), (85, zi_getI 18 14 88), (88, zi_push (zvi 1) 89), (89, zi_bin (fun a b => w32 (a + b)) 90), (90, zi_putI 18 14 93), (93, zi_goto 65), (96, zi_ld 1 0 97), (97, zi_ld 1 0 98), (98, zi_getI 18 14 101), (101, zi_ld 1 0 102), (102, zi_getI 18 13 105), (105, zi_bin (fun a b => w32 (a - b)) 106), (106, zi_push (zvi 6) 108), (108, zi_cmp zc_le 115 111), (111, zi_push (zvi 1) 112), (112, zi_goto 116), (115, zi_push (zvi 2) 116), (116, zi_putI 18 15 119), (119, zi_ret), (120, zi_ld 0 1 121), (121, zi_push (zvi 48) 123), (123, zi_push (zvi 57) 125), (125, zi_callS mX4_in 3 128), (128, zi_if (fun a => zc_eq a 0) 233 131), (131, zi_ld 1 0 132), (132, zi_push (zvi 0) 133), (133, zi_putI 18 16 136), (136, zi_ld 1 0 137), (137, zi_ld 1 0 138), (138, zi_getI 18 14 141), (141, zi_callV mX4_see 18 2 144), (144, zi_push (zvi 48) 146), (146, zi_push (zvi 57) 148), (148, zi_callS mX4_in 3 151), (151, zi_if (fun a => zc_eq a 0) 210 154), (154, zi_ld 1 0 155), (155, zi_ld 1 0 156), (156, zi_getI 18 14 159), (159, zi_ld 1 0 160), (160, zi_getI 18 13 163), (163, zi_bin (fun a b => w32 (a - b)) 164), (164, zi_push (zvi 4) 165), (165, zi_cmp zc_ge 190 168), (168, zi_push (zvi 10) 170), (170, zi_ld 1 0 171), (171, zi_getI 18 16 174), (174, zi_bin (fun a b => w32 (a * b)) 175), (175, zi_ld 1 0 176), (176, zi_ld 1 0 177), (177, zi_getI 18 14 180), (180, zi_callV mX4_see 18 2 183), (183, zi_bin (fun a b => w32 (a + b)) 184), (184, zi_push (zvi 48) 186), (186, zi_bin (fun a b => w32 (a - b)) 187), (187, zi_goto 194), (190, zi_ld 1 0 191), (191, zi_getI 18 16 194), (194, zi_putI 18 16 197), (197, zi_ld 1 0 198), (198, zi_dup 199), (199, zi_getI 18 14 202), (202, zi_push (zvi 1) 203), (203, zi_bin (fun a b => w32 (a + b)) 204), (204, zi_putI 18 14 207), (207, zi_goto 136), (210, zi_ld 1 0 211), (211, zi_ld 1 0 212), (212, zi_getI 18 14 215), (215, zi_ld 1 0 216), (216, zi_getI 18 13 219), (219, zi_bin (fun a b => w32 (a - b)) 220), (220, zi_push (zvi 4) 221), (221, zi_cmp zc_le 228 224), (224, zi_push (zvi 1) 225), (225, zi_goto 229), (228, zi_push (zvi 3) 229), (229, zi_putI 18 15 232), (232, zi_ret), (233, zi_ld 1 0 234), (234, zi_dup 235), (235, zi_getI 18 14 238), (238, zi_push (zvi 1) 239), (239, zi_bin (fun a b => w32 (a + b)) 240), (240, zi_putI 18 14 243), (243, zi_ld 1 0 244), (244, zi_ld 0 1 245), (245, zi_push (zvi 59) 247), (247, zi_cmp zc_ne 254 250), (250, zi_ld 0 1 251), (251, zi_goto 255), (254, zi_push (zvi 1) 255), (255, zi_putI 18 15 258), (258, zi_ret)], fun _ _ => none)
noncomputable def mX4_goesOn : ZF := zrunM kX4_goesOn 2
theorem enX4_goesOn (x0 : Option Nat) (h : PH) : mX4_goesOn [zvr x0] h = zev kX4_goesOn 0 [zvr x0, zvu] [] h := zrunM_eq rfl rfl
theorem hdX4_goesOn_0 (a : Option Nat) (L st : List ZV) (h : PH) : zev kX4_goesOn 0 (zvr a :: L) st h = zev kX4_goesOn 1 (zvr a :: L) (zvr a :: st) h := e_ld0R (n := 1) rfl
theorem hdX4_goesOn_65 (a : Option Nat) (L st : List ZV) (h : PH) : zev kX4_goesOn 65 (zvr a :: L) st h = zev kX4_goesOn 66 (zvr a :: L) (zvr a :: st) h := e_ld0R (n := 66) rfl
theorem hdX4_goesOn_136 (a : Option Nat) (L st : List ZV) (h : PH) : zev kX4_goesOn 136 (zvr a :: L) st h = zev kX4_goesOn 137 (zvr a :: L) (zvr a :: st) h := e_ld0R (n := 137) rfl
theorem rX4_goesOn : (∀ (a : Option Nat) (L st : List ZV) (h : PH), zev kX4_goesOn 1 (zvr a :: L) st h = zev kX4_goesOn 2 (zvr a :: L) (zvr a :: st) h) ∧
  (∀ (q : Nat) (L st : List ZV) (h : PH), zev kX4_goesOn 2 L (zvr (some q) :: st) h = if (ph_K h q).1 % 1000 = 18 then zev kX4_goesOn 5 L (zvi (ph_I h q 14) :: st) h else none) ∧
  (∀ (v0 : ZV) (q : Nat) (L st : List ZV) (h : PH), zev kX4_goesOn 5 L (v0 :: zvr (some q) :: st) h = if (ph_K h q).1 % 1000 = 18 ∧ zcat st ≤ 8 then zk kX4_goesOn 5 8 L st (mX4_see [zvr (some q), v0] h) else none) ∧
  (∀ (L st : List ZV) (h : PH), zev kX4_goesOn 8 L st h = zev kX4_goesOn 10 L (zvi 32 :: st) h) ∧
  (∀ (a b : Int) (L st : List ZV) (h : PH), zev kX4_goesOn 10 L (zvi b :: zvi a :: st) h = if a ≠ b then zev kX4_goesOn 26 L st h else zev kX4_goesOn 13 L st h) ∧
  (∀ (a : Option Nat) (L st : List ZV) (h : PH), zev kX4_goesOn 13 (zvr a :: L) st h = zev kX4_goesOn 14 (zvr a :: L) (zvr a :: st) h) ∧
  (∀ (a : Int) (L st : List ZV) (h : PH), zev kX4_goesOn 14 L (zvi a :: st) h = zev kX4_goesOn 15 L (zvi a :: zvi a :: st) h) ∧
  (∀ (a : Option Nat) (L st : List ZV) (h : PH), zev kX4_goesOn 14 L (zvr a :: st) h = zev kX4_goesOn 15 L (zvr a :: zvr a :: st) h) ∧
  (∀ (q : Nat) (L st : List ZV) (h : PH), zev kX4_goesOn 15 L (zvr (some q) :: st) h = if (ph_K h q).1 % 1000 = 18 then zev kX4_goesOn 18 L (zvi (ph_I h q 14) :: st) h else none) ∧
  (∀ (L st : List ZV) (h : PH), zev kX4_goesOn 18 L st h = zev kX4_goesOn 19 L (zvi 1 :: st) h) ∧
  (∀ (a b : Int) (L st : List ZV) (h : PH), zev kX4_goesOn 19 L (zvi b :: zvi a :: st) h = zev kX4_goesOn 20 L (zvi (w32 (a + b)) :: st) h) ∧
  (∀ (a : Int) (q : Nat) (L st : List ZV) (h : PH), zev kX4_goesOn 20 L (zvi a :: zvr (some q) :: st) h = if (ph_K h q).1 = 18 then zev kX4_goesOn 23 L st (st_I h q 14 a) else none) ∧
  (∀ (L st : List ZV) (h : PH), zev kX4_goesOn 23 L st h = zev kX4_goesOn 0 L st h) ∧
  (∀ (a : Option Nat) (L st : List ZV) (h : PH), zev kX4_goesOn 26 (zvr a :: L) st h = zev kX4_goesOn 27 (zvr a :: L) (zvr a :: st) h) ∧
  (∀ (a : Option Nat) (L st : List ZV) (h : PH), zev kX4_goesOn 27 (zvr a :: L) st h = zev kX4_goesOn 28 (zvr a :: L) (zvr a :: st) h) ∧
  (∀ (q : Nat) (L st : List ZV) (h : PH), zev kX4_goesOn 28 L (zvr (some q) :: st) h = if (ph_K h q).1 % 1000 = 18 then zev kX4_goesOn 31 L (zvi (ph_I h q 14) :: st) h else none) ∧
  (∀ (a : Int) (q : Nat) (L st : List ZV) (h : PH), zev kX4_goesOn 31 L (zvi a :: zvr (some q) :: st) h = if (ph_K h q).1 = 18 then zev kX4_goesOn 34 L st (st_I h q 13 a) else none) ∧
  (∀ (a : Option Nat) (L st : List ZV) (h : PH), zev kX4_goesOn 34 (zvr a :: L) st h = zev kX4_goesOn 35 (zvr a :: L) (zvr a :: st) h) ∧
  (∀ (a : Option Nat) (L st : List ZV) (h : PH), zev kX4_goesOn 35 (zvr a :: L) st h = zev kX4_goesOn 36 (zvr a :: L) (zvr a :: st) h) ∧
  (∀ (q : Nat) (L st : List ZV) (h : PH), zev kX4_goesOn 36 L (zvr (some q) :: st) h = if (ph_K h q).1 % 1000 = 18 then zev kX4_goesOn 39 L (zvi (ph_I h q 14) :: st) h else none) ∧
  (∀ (v0 : ZV) (q : Nat) (L st : List ZV) (h : PH), zev kX4_goesOn 39 L (v0 :: zvr (some q) :: st) h = if (ph_K h q).1 % 1000 = 18 ∧ zcat st ≤ 8 then zk kX4_goesOn 39 42 L st (mX4_see [zvr (some q), v0] h) else none) ∧
  (∀ (x0 x1 : ZV) (a : Int) (L st : List ZV) (h : PH) (hx : zisL x0 = false) , zev kX4_goesOn 42 (x0 :: x1 :: L) (zvi a :: st) h = zev kX4_goesOn 43 (x0 :: zvi a :: L) st h) ∧
  (∀ (x0 : ZV) (a : Int) (L st : List ZV) (h : PH), zev kX4_goesOn 43 (x0 :: zvi a :: L) st h = zev kX4_goesOn 44 (x0 :: zvi a :: L) (zvi a :: st) h) ∧
  (∀ (L st : List ZV) (h : PH), zev kX4_goesOn 44 L st h = zev kX4_goesOn 45 L (zvi (-1) :: st) h) ∧
  (∀ (a b : Int) (L st : List ZV) (h : PH), zev kX4_goesOn 45 L (zvi b :: zvi a :: st) h = if a ≠ b then zev kX4_goesOn 54 L st h else zev kX4_goesOn 48 L st h) ∧
  (∀ (a : Option Nat) (L st : List ZV) (h : PH), zev kX4_goesOn 48 (zvr a :: L) st h = zev kX4_goesOn 49 (zvr a :: L) (zvr a :: st) h) ∧
  (∀ (L st : List ZV) (h : PH), zev kX4_goesOn 49 L st h = zev kX4_goesOn 50 L (zvi 0 :: st) h) ∧
  (∀ (a : Int) (q : Nat) (L st : List ZV) (h : PH), zev kX4_goesOn 50 L (zvi a :: zvr (some q) :: st) h = if (ph_K h q).1 = 18 then zev kX4_goesOn 53 L st (st_I h q 15 a) else none) ∧
  (∀ (L : List ZV) (h : PH), zev kX4_goesOn 53 L [] h = zr0 h) ∧
  (∀ (x0 : ZV) (a : Int) (L st : List ZV) (h : PH), zev kX4_goesOn 54 (x0 :: zvi a :: L) st h = zev kX4_goesOn 55 (x0 :: zvi a :: L) (zvi a :: st) h) ∧
  (∀ (L st : List ZV) (h : PH), zev kX4_goesOn 55 L st h = zev kX4_goesOn 57 L (zvi 97 :: st) h) ∧
  (∀ (L st : List ZV) (h : PH), zev kX4_goesOn 57 L st h = zev kX4_goesOn 59 L (zvi 122 :: st) h) ∧
  (∀ (v0 v1 v2 : ZV) (L st : List ZV) (h : PH), zev kX4_goesOn 59 L (v2 :: v1 :: v0 :: st) h = if zcat st ≤ 8 then zk kX4_goesOn 59 62 L st (mX4_in [v0, v1, v2] h) else none) ∧
  (∀ (a : Int) (L st : List ZV) (h : PH), zev kX4_goesOn 62 L (zvi a :: st) h = if a = 0 then zev kX4_goesOn 120 L st h else zev kX4_goesOn 65 L st h) ∧
  (∀ (a : Option Nat) (L st : List ZV) (h : PH), zev kX4_goesOn 66 (zvr a :: L) st h = zev kX4_goesOn 67 (zvr a :: L) (zvr a :: st) h) ∧
  (∀ (q : Nat) (L st : List ZV) (h : PH), zev kX4_goesOn 67 L (zvr (some q) :: st) h = if (ph_K h q).1 % 1000 = 18 then zev kX4_goesOn 70 L (zvi (ph_I h q 14) :: st) h else none) ∧
  (∀ (v0 : ZV) (q : Nat) (L st : List ZV) (h : PH), zev kX4_goesOn 70 L (v0 :: zvr (some q) :: st) h = if (ph_K h q).1 % 1000 = 18 ∧ zcat st ≤ 8 then zk kX4_goesOn 70 73 L st (mX4_see [zvr (some q), v0] h) else none) ∧
  (∀ (L st : List ZV) (h : PH), zev kX4_goesOn 73 L st h = zev kX4_goesOn 75 L (zvi 97 :: st) h) ∧
  (∀ (L st : List ZV) (h : PH), zev kX4_goesOn 75 L st h = zev kX4_goesOn 77 L (zvi 122 :: st) h) ∧
  (∀ (v0 v1 v2 : ZV) (L st : List ZV) (h : PH), zev kX4_goesOn 77 L (v2 :: v1 :: v0 :: st) h = if zcat st ≤ 8 then zk kX4_goesOn 77 80 L st (mX4_in [v0, v1, v2] h) else none) ∧
  (∀ (a : Int) (L st : List ZV) (h : PH), zev kX4_goesOn 80 L (zvi a :: st) h = if a = 0 then zev kX4_goesOn 96 L st h else zev kX4_goesOn 83 L st h) ∧
  (∀ (a : Option Nat) (L st : List ZV) (h : PH), zev kX4_goesOn 83 (zvr a :: L) st h = zev kX4_goesOn 84 (zvr a :: L) (zvr a :: st) h) ∧
  (∀ (a : Int) (L st : List ZV) (h : PH), zev kX4_goesOn 84 L (zvi a :: st) h = zev kX4_goesOn 85 L (zvi a :: zvi a :: st) h) ∧
  (∀ (a : Option Nat) (L st : List ZV) (h : PH), zev kX4_goesOn 84 L (zvr a :: st) h = zev kX4_goesOn 85 L (zvr a :: zvr a :: st) h) ∧
  (∀ (q : Nat) (L st : List ZV) (h : PH), zev kX4_goesOn 85 L (zvr (some q) :: st) h = if (ph_K h q).1 % 1000 = 18 then zev kX4_goesOn 88 L (zvi (ph_I h q 14) :: st) h else none) ∧
  (∀ (L st : List ZV) (h : PH), zev kX4_goesOn 88 L st h = zev kX4_goesOn 89 L (zvi 1 :: st) h) ∧
  (∀ (a b : Int) (L st : List ZV) (h : PH), zev kX4_goesOn 89 L (zvi b :: zvi a :: st) h = zev kX4_goesOn 90 L (zvi (w32 (a + b)) :: st) h) ∧
  (∀ (a : Int) (q : Nat) (L st : List ZV) (h : PH), zev kX4_goesOn 90 L (zvi a :: zvr (some q) :: st) h = if (ph_K h q).1 = 18 then zev kX4_goesOn 93 L st (st_I h q 14 a) else none) ∧
  (∀ (L st : List ZV) (h : PH), zev kX4_goesOn 93 L st h = zev kX4_goesOn 65 L st h) ∧
  (∀ (a : Option Nat) (L st : List ZV) (h : PH), zev kX4_goesOn 96 (zvr a :: L) st h = zev kX4_goesOn 97 (zvr a :: L) (zvr a :: st) h) ∧
  (∀ (a : Option Nat) (L st : List ZV) (h : PH), zev kX4_goesOn 97 (zvr a :: L) st h = zev kX4_goesOn 98 (zvr a :: L) (zvr a :: st) h) ∧
  (∀ (q : Nat) (L st : List ZV) (h : PH), zev kX4_goesOn 98 L (zvr (some q) :: st) h = if (ph_K h q).1 % 1000 = 18 then zev kX4_goesOn 101 L (zvi (ph_I h q 14) :: st) h else none) ∧
  (∀ (a : Option Nat) (L st : List ZV) (h : PH), zev kX4_goesOn 101 (zvr a :: L) st h = zev kX4_goesOn 102 (zvr a :: L) (zvr a :: st) h) ∧
  (∀ (q : Nat) (L st : List ZV) (h : PH), zev kX4_goesOn 102 L (zvr (some q) :: st) h = if (ph_K h q).1 % 1000 = 18 then zev kX4_goesOn 105 L (zvi (ph_I h q 13) :: st) h else none) ∧
  (∀ (a b : Int) (L st : List ZV) (h : PH), zev kX4_goesOn 105 L (zvi b :: zvi a :: st) h = zev kX4_goesOn 106 L (zvi (w32 (a - b)) :: st) h) ∧
  (∀ (L st : List ZV) (h : PH), zev kX4_goesOn 106 L st h = zev kX4_goesOn 108 L (zvi 6 :: st) h) ∧
  (∀ (a b : Int) (L st : List ZV) (h : PH), zev kX4_goesOn 108 L (zvi b :: zvi a :: st) h = if a ≤ b then zev kX4_goesOn 115 L st h else zev kX4_goesOn 111 L st h) ∧
  (∀ (L st : List ZV) (h : PH), zev kX4_goesOn 111 L st h = zev kX4_goesOn 112 L (zvi 1 :: st) h) ∧
  (∀ (L st : List ZV) (h : PH), zev kX4_goesOn 112 L st h = zev kX4_goesOn 116 L st h) ∧
  (∀ (L st : List ZV) (h : PH), zev kX4_goesOn 115 L st h = zev kX4_goesOn 116 L (zvi 2 :: st) h) ∧
  (∀ (a : Int) (q : Nat) (L st : List ZV) (h : PH), zev kX4_goesOn 116 L (zvi a :: zvr (some q) :: st) h = if (ph_K h q).1 = 18 then zev kX4_goesOn 119 L st (st_I h q 15 a) else none) ∧
  (∀ (L : List ZV) (h : PH), zev kX4_goesOn 119 L [] h = zr0 h) ∧
  (∀ (x0 : ZV) (a : Int) (L st : List ZV) (h : PH), zev kX4_goesOn 120 (x0 :: zvi a :: L) st h = zev kX4_goesOn 121 (x0 :: zvi a :: L) (zvi a :: st) h) ∧
  (∀ (L st : List ZV) (h : PH), zev kX4_goesOn 121 L st h = zev kX4_goesOn 123 L (zvi 48 :: st) h) ∧
  (∀ (L st : List ZV) (h : PH), zev kX4_goesOn 123 L st h = zev kX4_goesOn 125 L (zvi 57 :: st) h) ∧
  (∀ (v0 v1 v2 : ZV) (L st : List ZV) (h : PH), zev kX4_goesOn 125 L (v2 :: v1 :: v0 :: st) h = if zcat st ≤ 8 then zk kX4_goesOn 125 128 L st (mX4_in [v0, v1, v2] h) else none) ∧
  (∀ (a : Int) (L st : List ZV) (h : PH), zev kX4_goesOn 128 L (zvi a :: st) h = if a = 0 then zev kX4_goesOn 233 L st h else zev kX4_goesOn 131 L st h) ∧
  (∀ (a : Option Nat) (L st : List ZV) (h : PH), zev kX4_goesOn 131 (zvr a :: L) st h = zev kX4_goesOn 132 (zvr a :: L) (zvr a :: st) h) ∧
  (∀ (L st : List ZV) (h : PH), zev kX4_goesOn 132 L st h = zev kX4_goesOn 133 L (zvi 0 :: st) h) ∧
  (∀ (a : Int) (q : Nat) (L st : List ZV) (h : PH), zev kX4_goesOn 133 L (zvi a :: zvr (some q) :: st) h = if (ph_K h q).1 = 18 then zev kX4_goesOn 136 L st (st_I h q 16 a) else none) ∧
  (∀ (a : Option Nat) (L st : List ZV) (h : PH), zev kX4_goesOn 137 (zvr a :: L) st h = zev kX4_goesOn 138 (zvr a :: L) (zvr a :: st) h) ∧
  (∀ (q : Nat) (L st : List ZV) (h : PH), zev kX4_goesOn 138 L (zvr (some q) :: st) h = if (ph_K h q).1 % 1000 = 18 then zev kX4_goesOn 141 L (zvi (ph_I h q 14) :: st) h else none) ∧
  (∀ (v0 : ZV) (q : Nat) (L st : List ZV) (h : PH), zev kX4_goesOn 141 L (v0 :: zvr (some q) :: st) h = if (ph_K h q).1 % 1000 = 18 ∧ zcat st ≤ 8 then zk kX4_goesOn 141 144 L st (mX4_see [zvr (some q), v0] h) else none) ∧
  (∀ (L st : List ZV) (h : PH), zev kX4_goesOn 144 L st h = zev kX4_goesOn 146 L (zvi 48 :: st) h) ∧
  (∀ (L st : List ZV) (h : PH), zev kX4_goesOn 146 L st h = zev kX4_goesOn 148 L (zvi 57 :: st) h) ∧
  (∀ (v0 v1 v2 : ZV) (L st : List ZV) (h : PH), zev kX4_goesOn 148 L (v2 :: v1 :: v0 :: st) h = if zcat st ≤ 8 then zk kX4_goesOn 148 151 L st (mX4_in [v0, v1, v2] h) else none) ∧
  (∀ (a : Int) (L st : List ZV) (h : PH), zev kX4_goesOn 151 L (zvi a :: st) h = if a = 0 then zev kX4_goesOn 210 L st h else zev kX4_goesOn 154 L st h) ∧
  (∀ (a : Option Nat) (L st : List ZV) (h : PH), zev kX4_goesOn 154 (zvr a :: L) st h = zev kX4_goesOn 155 (zvr a :: L) (zvr a :: st) h) ∧
  (∀ (a : Option Nat) (L st : List ZV) (h : PH), zev kX4_goesOn 155 (zvr a :: L) st h = zev kX4_goesOn 156 (zvr a :: L) (zvr a :: st) h) ∧
  (∀ (q : Nat) (L st : List ZV) (h : PH), zev kX4_goesOn 156 L (zvr (some q) :: st) h = if (ph_K h q).1 % 1000 = 18 then zev kX4_goesOn 159 L (zvi (ph_I h q 14) :: st) h else none) ∧
  (∀ (a : Option Nat) (L st : List ZV) (h : PH), zev kX4_goesOn 159 (zvr a :: L) st h = zev kX4_goesOn 160 (zvr a :: L) (zvr a :: st) h) ∧
  (∀ (q : Nat) (L st : List ZV) (h : PH), zev kX4_goesOn 160 L (zvr (some q) :: st) h = if (ph_K h q).1 % 1000 = 18 then zev kX4_goesOn 163 L (zvi (ph_I h q 13) :: st) h else none) ∧
  (∀ (a b : Int) (L st : List ZV) (h : PH), zev kX4_goesOn 163 L (zvi b :: zvi a :: st) h = zev kX4_goesOn 164 L (zvi (w32 (a - b)) :: st) h) ∧
  (∀ (L st : List ZV) (h : PH), zev kX4_goesOn 164 L st h = zev kX4_goesOn 165 L (zvi 4 :: st) h) ∧
  (∀ (a b : Int) (L st : List ZV) (h : PH), zev kX4_goesOn 165 L (zvi b :: zvi a :: st) h = if a ≥ b then zev kX4_goesOn 190 L st h else zev kX4_goesOn 168 L st h) ∧
  (∀ (L st : List ZV) (h : PH), zev kX4_goesOn 168 L st h = zev kX4_goesOn 170 L (zvi 10 :: st) h) ∧
  (∀ (a : Option Nat) (L st : List ZV) (h : PH), zev kX4_goesOn 170 (zvr a :: L) st h = zev kX4_goesOn 171 (zvr a :: L) (zvr a :: st) h) ∧
  (∀ (q : Nat) (L st : List ZV) (h : PH), zev kX4_goesOn 171 L (zvr (some q) :: st) h = if (ph_K h q).1 % 1000 = 18 then zev kX4_goesOn 174 L (zvi (ph_I h q 16) :: st) h else none) ∧
  (∀ (a b : Int) (L st : List ZV) (h : PH), zev kX4_goesOn 174 L (zvi b :: zvi a :: st) h = zev kX4_goesOn 175 L (zvi (w32 (a * b)) :: st) h) ∧
  (∀ (a : Option Nat) (L st : List ZV) (h : PH), zev kX4_goesOn 175 (zvr a :: L) st h = zev kX4_goesOn 176 (zvr a :: L) (zvr a :: st) h) ∧
  (∀ (a : Option Nat) (L st : List ZV) (h : PH), zev kX4_goesOn 176 (zvr a :: L) st h = zev kX4_goesOn 177 (zvr a :: L) (zvr a :: st) h) ∧
  (∀ (q : Nat) (L st : List ZV) (h : PH), zev kX4_goesOn 177 L (zvr (some q) :: st) h = if (ph_K h q).1 % 1000 = 18 then zev kX4_goesOn 180 L (zvi (ph_I h q 14) :: st) h else none) ∧
  (∀ (v0 : ZV) (q : Nat) (L st : List ZV) (h : PH), zev kX4_goesOn 180 L (v0 :: zvr (some q) :: st) h = if (ph_K h q).1 % 1000 = 18 ∧ zcat st ≤ 8 then zk kX4_goesOn 180 183 L st (mX4_see [zvr (some q), v0] h) else none) ∧
  (∀ (a b : Int) (L st : List ZV) (h : PH), zev kX4_goesOn 183 L (zvi b :: zvi a :: st) h = zev kX4_goesOn 184 L (zvi (w32 (a + b)) :: st) h) ∧
  (∀ (L st : List ZV) (h : PH), zev kX4_goesOn 184 L st h = zev kX4_goesOn 186 L (zvi 48 :: st) h) ∧
  (∀ (a b : Int) (L st : List ZV) (h : PH), zev kX4_goesOn 186 L (zvi b :: zvi a :: st) h = zev kX4_goesOn 187 L (zvi (w32 (a - b)) :: st) h) ∧
  (∀ (L st : List ZV) (h : PH), zev kX4_goesOn 187 L st h = zev kX4_goesOn 194 L st h) ∧
  (∀ (a : Option Nat) (L st : List ZV) (h : PH), zev kX4_goesOn 190 (zvr a :: L) st h = zev kX4_goesOn 191 (zvr a :: L) (zvr a :: st) h) ∧
  (∀ (q : Nat) (L st : List ZV) (h : PH), zev kX4_goesOn 191 L (zvr (some q) :: st) h = if (ph_K h q).1 % 1000 = 18 then zev kX4_goesOn 194 L (zvi (ph_I h q 16) :: st) h else none) ∧
  (∀ (a : Int) (q : Nat) (L st : List ZV) (h : PH), zev kX4_goesOn 194 L (zvi a :: zvr (some q) :: st) h = if (ph_K h q).1 = 18 then zev kX4_goesOn 197 L st (st_I h q 16 a) else none) ∧
  (∀ (a : Option Nat) (L st : List ZV) (h : PH), zev kX4_goesOn 197 (zvr a :: L) st h = zev kX4_goesOn 198 (zvr a :: L) (zvr a :: st) h) ∧
  (∀ (a : Int) (L st : List ZV) (h : PH), zev kX4_goesOn 198 L (zvi a :: st) h = zev kX4_goesOn 199 L (zvi a :: zvi a :: st) h) ∧
  (∀ (a : Option Nat) (L st : List ZV) (h : PH), zev kX4_goesOn 198 L (zvr a :: st) h = zev kX4_goesOn 199 L (zvr a :: zvr a :: st) h) ∧
  (∀ (q : Nat) (L st : List ZV) (h : PH), zev kX4_goesOn 199 L (zvr (some q) :: st) h = if (ph_K h q).1 % 1000 = 18 then zev kX4_goesOn 202 L (zvi (ph_I h q 14) :: st) h else none) ∧
  (∀ (L st : List ZV) (h : PH), zev kX4_goesOn 202 L st h = zev kX4_goesOn 203 L (zvi 1 :: st) h) ∧
  (∀ (a b : Int) (L st : List ZV) (h : PH), zev kX4_goesOn 203 L (zvi b :: zvi a :: st) h = zev kX4_goesOn 204 L (zvi (w32 (a + b)) :: st) h) ∧
  (∀ (a : Int) (q : Nat) (L st : List ZV) (h : PH), zev kX4_goesOn 204 L (zvi a :: zvr (some q) :: st) h = if (ph_K h q).1 = 18 then zev kX4_goesOn 207 L st (st_I h q 14 a) else none) ∧
  (∀ (L st : List ZV) (h : PH), zev kX4_goesOn 207 L st h = zev kX4_goesOn 136 L st h) ∧
  (∀ (a : Option Nat) (L st : List ZV) (h : PH), zev kX4_goesOn 210 (zvr a :: L) st h = zev kX4_goesOn 211 (zvr a :: L) (zvr a :: st) h) ∧
  (∀ (a : Option Nat) (L st : List ZV) (h : PH), zev kX4_goesOn 211 (zvr a :: L) st h = zev kX4_goesOn 212 (zvr a :: L) (zvr a :: st) h) ∧
  (∀ (q : Nat) (L st : List ZV) (h : PH), zev kX4_goesOn 212 L (zvr (some q) :: st) h = if (ph_K h q).1 % 1000 = 18 then zev kX4_goesOn 215 L (zvi (ph_I h q 14) :: st) h else none) ∧
  (∀ (a : Option Nat) (L st : List ZV) (h : PH), zev kX4_goesOn 215 (zvr a :: L) st h = zev kX4_goesOn 216 (zvr a :: L) (zvr a :: st) h) ∧
  (∀ (q : Nat) (L st : List ZV) (h : PH), zev kX4_goesOn 216 L (zvr (some q) :: st) h = if (ph_K h q).1 % 1000 = 18 then zev kX4_goesOn 219 L (zvi (ph_I h q 13) :: st) h else none) ∧
  (∀ (a b : Int) (L st : List ZV) (h : PH), zev kX4_goesOn 219 L (zvi b :: zvi a :: st) h = zev kX4_goesOn 220 L (zvi (w32 (a - b)) :: st) h) ∧
  (∀ (L st : List ZV) (h : PH), zev kX4_goesOn 220 L st h = zev kX4_goesOn 221 L (zvi 4 :: st) h) ∧
  (∀ (a b : Int) (L st : List ZV) (h : PH), zev kX4_goesOn 221 L (zvi b :: zvi a :: st) h = if a ≤ b then zev kX4_goesOn 228 L st h else zev kX4_goesOn 224 L st h) ∧
  (∀ (L st : List ZV) (h : PH), zev kX4_goesOn 224 L st h = zev kX4_goesOn 225 L (zvi 1 :: st) h) ∧
  (∀ (L st : List ZV) (h : PH), zev kX4_goesOn 225 L st h = zev kX4_goesOn 229 L st h) ∧
  (∀ (L st : List ZV) (h : PH), zev kX4_goesOn 228 L st h = zev kX4_goesOn 229 L (zvi 3 :: st) h) ∧
  (∀ (a : Int) (q : Nat) (L st : List ZV) (h : PH), zev kX4_goesOn 229 L (zvi a :: zvr (some q) :: st) h = if (ph_K h q).1 = 18 then zev kX4_goesOn 232 L st (st_I h q 15 a) else none) ∧
  (∀ (L : List ZV) (h : PH), zev kX4_goesOn 232 L [] h = zr0 h) ∧
  (∀ (a : Option Nat) (L st : List ZV) (h : PH), zev kX4_goesOn 233 (zvr a :: L) st h = zev kX4_goesOn 234 (zvr a :: L) (zvr a :: st) h) ∧
  (∀ (a : Int) (L st : List ZV) (h : PH), zev kX4_goesOn 234 L (zvi a :: st) h = zev kX4_goesOn 235 L (zvi a :: zvi a :: st) h) ∧
  (∀ (a : Option Nat) (L st : List ZV) (h : PH), zev kX4_goesOn 234 L (zvr a :: st) h = zev kX4_goesOn 235 L (zvr a :: zvr a :: st) h) ∧
  (∀ (q : Nat) (L st : List ZV) (h : PH), zev kX4_goesOn 235 L (zvr (some q) :: st) h = if (ph_K h q).1 % 1000 = 18 then zev kX4_goesOn 238 L (zvi (ph_I h q 14) :: st) h else none) ∧
  (∀ (L st : List ZV) (h : PH), zev kX4_goesOn 238 L st h = zev kX4_goesOn 239 L (zvi 1 :: st) h) ∧
  (∀ (a b : Int) (L st : List ZV) (h : PH), zev kX4_goesOn 239 L (zvi b :: zvi a :: st) h = zev kX4_goesOn 240 L (zvi (w32 (a + b)) :: st) h) ∧
  (∀ (a : Int) (q : Nat) (L st : List ZV) (h : PH), zev kX4_goesOn 240 L (zvi a :: zvr (some q) :: st) h = if (ph_K h q).1 = 18 then zev kX4_goesOn 243 L st (st_I h q 14 a) else none) ∧
  (∀ (a : Option Nat) (L st : List ZV) (h : PH), zev kX4_goesOn 243 (zvr a :: L) st h = zev kX4_goesOn 244 (zvr a :: L) (zvr a :: st) h) ∧
  (∀ (x0 : ZV) (a : Int) (L st : List ZV) (h : PH), zev kX4_goesOn 244 (x0 :: zvi a :: L) st h = zev kX4_goesOn 245 (x0 :: zvi a :: L) (zvi a :: st) h) ∧
  (∀ (L st : List ZV) (h : PH), zev kX4_goesOn 245 L st h = zev kX4_goesOn 247 L (zvi 59 :: st) h) ∧
  (∀ (a b : Int) (L st : List ZV) (h : PH), zev kX4_goesOn 247 L (zvi b :: zvi a :: st) h = if a ≠ b then zev kX4_goesOn 254 L st h else zev kX4_goesOn 250 L st h) ∧
  (∀ (x0 : ZV) (a : Int) (L st : List ZV) (h : PH), zev kX4_goesOn 250 (x0 :: zvi a :: L) st h = zev kX4_goesOn 251 (x0 :: zvi a :: L) (zvi a :: st) h) ∧
  (∀ (L st : List ZV) (h : PH), zev kX4_goesOn 251 L st h = zev kX4_goesOn 255 L st h) ∧
  (∀ (L st : List ZV) (h : PH), zev kX4_goesOn 254 L st h = zev kX4_goesOn 255 L (zvi 1 :: st) h) ∧
  (∀ (a : Int) (q : Nat) (L st : List ZV) (h : PH), zev kX4_goesOn 255 L (zvi a :: zvr (some q) :: st) h = if (ph_K h q).1 = 18 then zev kX4_goesOn 258 L st (st_I h q 15 a) else none) ∧
  (∀ (L : List ZV) (h : PH), zev kX4_goesOn 258 L [] h = zr0 h) :=
  ⟨fun a L st h => e_ld0R (n := 2) rfl,
  fun q L st h => e_getI (kd := 18) (k := 14) (n := 5) rfl,
  fun v0 q L st h => e_callV2 (F := mX4_see) (kd := 18) (n := 8) rfl,
  fun L st h => e_push (v := zvi 32) (n := 10) rfl,
  fun a b L st h => e_cmpne (t := 26) (n := 13) rfl,
  fun a L st h => e_ld0R (n := 14) rfl,
  fun a L st h => e_dupI (n := 15) rfl,
  fun a L st h => e_dupR (n := 15) rfl,
  fun q L st h => e_getI (kd := 18) (k := 14) (n := 18) rfl,
  fun L st h => e_push (v := zvi 1) (n := 19) rfl,
  fun a b L st h => e_bin (f := (fun a b => w32 (a + b))) (n := 20) rfl,
  fun a q L st h => e_putI (kd := 18) (k := 14) (n := 23) rfl,
  fun L st h => e_goto (t := 0) rfl,
  fun a L st h => e_ld0R (n := 27) rfl,
  fun a L st h => e_ld0R (n := 28) rfl,
  fun q L st h => e_getI (kd := 18) (k := 14) (n := 31) rfl,
  fun a q L st h => e_putI (kd := 18) (k := 13) (n := 34) rfl,
  fun a L st h => e_ld0R (n := 35) rfl,
  fun a L st h => e_ld0R (n := 36) rfl,
  fun q L st h => e_getI (kd := 18) (k := 14) (n := 39) rfl,
  fun v0 q L st h => e_callV2 (F := mX4_see) (kd := 18) (n := 42) rfl,
  fun x0 x1 a L st h hx => e_st1I (n := 43) rfl hx,
  fun x0 a L st h => e_ld1I (n := 44) rfl,
  fun L st h => e_push (v := zvi (-1)) (n := 45) rfl,
  fun a b L st h => e_cmpne (t := 54) (n := 48) rfl,
  fun a L st h => e_ld0R (n := 49) rfl,
  fun L st h => e_push (v := zvi 0) (n := 50) rfl,
  fun a q L st h => e_putI (kd := 18) (k := 15) (n := 53) rfl,
  fun L h => e_ret rfl,
  fun x0 a L st h => e_ld1I (n := 55) rfl,
  fun L st h => e_push (v := zvi 97) (n := 57) rfl,
  fun L st h => e_push (v := zvi 122) (n := 59) rfl,
  fun v0 v1 v2 L st h => e_callS3 (F := mX4_in) (n := 62) rfl,
  fun a L st h => e_ifeq (t := 120) (n := 65) rfl,
  fun a L st h => e_ld0R (n := 67) rfl,
  fun q L st h => e_getI (kd := 18) (k := 14) (n := 70) rfl,
  fun v0 q L st h => e_callV2 (F := mX4_see) (kd := 18) (n := 73) rfl,
  fun L st h => e_push (v := zvi 97) (n := 75) rfl,
  fun L st h => e_push (v := zvi 122) (n := 77) rfl,
  fun v0 v1 v2 L st h => e_callS3 (F := mX4_in) (n := 80) rfl,
  fun a L st h => e_ifeq (t := 96) (n := 83) rfl,
  fun a L st h => e_ld0R (n := 84) rfl,
  fun a L st h => e_dupI (n := 85) rfl,
  fun a L st h => e_dupR (n := 85) rfl,
  fun q L st h => e_getI (kd := 18) (k := 14) (n := 88) rfl,
  fun L st h => e_push (v := zvi 1) (n := 89) rfl,
  fun a b L st h => e_bin (f := (fun a b => w32 (a + b))) (n := 90) rfl,
  fun a q L st h => e_putI (kd := 18) (k := 14) (n := 93) rfl,
  fun L st h => e_goto (t := 65) rfl,
  fun a L st h => e_ld0R (n := 97) rfl,
  fun a L st h => e_ld0R (n := 98) rfl,
  fun q L st h => e_getI (kd := 18) (k := 14) (n := 101) rfl,
  fun a L st h => e_ld0R (n := 102) rfl,
  fun q L st h => e_getI (kd := 18) (k := 13) (n := 105) rfl,
  fun a b L st h => e_bin (f := (fun a b => w32 (a - b))) (n := 106) rfl,
  fun L st h => e_push (v := zvi 6) (n := 108) rfl,
  fun a b L st h => e_cmple (t := 115) (n := 111) rfl,
  fun L st h => e_push (v := zvi 1) (n := 112) rfl,
  fun L st h => e_goto (t := 116) rfl,
  fun L st h => e_push (v := zvi 2) (n := 116) rfl,
  fun a q L st h => e_putI (kd := 18) (k := 15) (n := 119) rfl,
  fun L h => e_ret rfl,
  fun x0 a L st h => e_ld1I (n := 121) rfl,
  fun L st h => e_push (v := zvi 48) (n := 123) rfl,
  fun L st h => e_push (v := zvi 57) (n := 125) rfl,
  fun v0 v1 v2 L st h => e_callS3 (F := mX4_in) (n := 128) rfl,
  fun a L st h => e_ifeq (t := 233) (n := 131) rfl,
  fun a L st h => e_ld0R (n := 132) rfl,
  fun L st h => e_push (v := zvi 0) (n := 133) rfl,
  fun a q L st h => e_putI (kd := 18) (k := 16) (n := 136) rfl,
  fun a L st h => e_ld0R (n := 138) rfl,
  fun q L st h => e_getI (kd := 18) (k := 14) (n := 141) rfl,
  fun v0 q L st h => e_callV2 (F := mX4_see) (kd := 18) (n := 144) rfl,
  fun L st h => e_push (v := zvi 48) (n := 146) rfl,
  fun L st h => e_push (v := zvi 57) (n := 148) rfl,
  fun v0 v1 v2 L st h => e_callS3 (F := mX4_in) (n := 151) rfl,
  fun a L st h => e_ifeq (t := 210) (n := 154) rfl,
  fun a L st h => e_ld0R (n := 155) rfl,
  fun a L st h => e_ld0R (n := 156) rfl,
  fun q L st h => e_getI (kd := 18) (k := 14) (n := 159) rfl,
  fun a L st h => e_ld0R (n := 160) rfl,
  fun q L st h => e_getI (kd := 18) (k := 13) (n := 163) rfl,
  fun a b L st h => e_bin (f := (fun a b => w32 (a - b))) (n := 164) rfl,
  fun L st h => e_push (v := zvi 4) (n := 165) rfl,
  fun a b L st h => e_cmpge (t := 190) (n := 168) rfl,
  fun L st h => e_push (v := zvi 10) (n := 170) rfl,
  fun a L st h => e_ld0R (n := 171) rfl,
  fun q L st h => e_getI (kd := 18) (k := 16) (n := 174) rfl,
  fun a b L st h => e_bin (f := (fun a b => w32 (a * b))) (n := 175) rfl,
  fun a L st h => e_ld0R (n := 176) rfl,
  fun a L st h => e_ld0R (n := 177) rfl,
  fun q L st h => e_getI (kd := 18) (k := 14) (n := 180) rfl,
  fun v0 q L st h => e_callV2 (F := mX4_see) (kd := 18) (n := 183) rfl,
  fun a b L st h => e_bin (f := (fun a b => w32 (a + b))) (n := 184) rfl,
  fun L st h => e_push (v := zvi 48) (n := 186) rfl,
  fun a b L st h => e_bin (f := (fun a b => w32 (a - b))) (n := 187) rfl,
  fun L st h => e_goto (t := 194) rfl,
  fun a L st h => e_ld0R (n := 191) rfl,
  fun q L st h => e_getI (kd := 18) (k := 16) (n := 194) rfl,
  fun a q L st h => e_putI (kd := 18) (k := 16) (n := 197) rfl,
  fun a L st h => e_ld0R (n := 198) rfl,
  fun a L st h => e_dupI (n := 199) rfl,
  fun a L st h => e_dupR (n := 199) rfl,
  fun q L st h => e_getI (kd := 18) (k := 14) (n := 202) rfl,
  fun L st h => e_push (v := zvi 1) (n := 203) rfl,
  fun a b L st h => e_bin (f := (fun a b => w32 (a + b))) (n := 204) rfl,
  fun a q L st h => e_putI (kd := 18) (k := 14) (n := 207) rfl,
  fun L st h => e_goto (t := 136) rfl,
  fun a L st h => e_ld0R (n := 211) rfl,
  fun a L st h => e_ld0R (n := 212) rfl,
  fun q L st h => e_getI (kd := 18) (k := 14) (n := 215) rfl,
  fun a L st h => e_ld0R (n := 216) rfl,
  fun q L st h => e_getI (kd := 18) (k := 13) (n := 219) rfl,
  fun a b L st h => e_bin (f := (fun a b => w32 (a - b))) (n := 220) rfl,
  fun L st h => e_push (v := zvi 4) (n := 221) rfl,
  fun a b L st h => e_cmple (t := 228) (n := 224) rfl,
  fun L st h => e_push (v := zvi 1) (n := 225) rfl,
  fun L st h => e_goto (t := 229) rfl,
  fun L st h => e_push (v := zvi 3) (n := 229) rfl,
  fun a q L st h => e_putI (kd := 18) (k := 15) (n := 232) rfl,
  fun L h => e_ret rfl,
  fun a L st h => e_ld0R (n := 234) rfl,
  fun a L st h => e_dupI (n := 235) rfl,
  fun a L st h => e_dupR (n := 235) rfl,
  fun q L st h => e_getI (kd := 18) (k := 14) (n := 238) rfl,
  fun L st h => e_push (v := zvi 1) (n := 239) rfl,
  fun a b L st h => e_bin (f := (fun a b => w32 (a + b))) (n := 240) rfl,
  fun a q L st h => e_putI (kd := 18) (k := 14) (n := 243) rfl,
  fun a L st h => e_ld0R (n := 244) rfl,
  fun x0 a L st h => e_ld1I (n := 245) rfl,
  fun L st h => e_push (v := zvi 59) (n := 247) rfl,
  fun a b L st h => e_cmpne (t := 254) (n := 250) rfl,
  fun x0 a L st h => e_ld1I (n := 251) rfl,
  fun L st h => e_goto (t := 255) rfl,
  fun L st h => e_push (v := zvi 1) (n := 255) rfl,
  fun a q L st h => e_putI (kd := 18) (k := 15) (n := 258) rfl,
  fun L h => e_ret rfl⟩
theorem allX4_goesOn : zall yX4_goesOn cX4_goesOn 2 none 2 kX4_goesOn.1 :=
  ⟨k_aload_n dX4_goesOn_0,
  k_aload_n dX4_goesOn_1,
  k_getI (C := RX4) (T := TX4) (N := 42) (ci := 2) (k := 14) (ref := "LinkTimesModel") dX4_goesOn_2 rfl in_X4 (by decide) q1813 (Or.inl rfl) (fun _ _ _ => rfl),
  k_callV (y2 := yX4_see) (C := RX4) (T0 := TX4) (ci := 2) dX4_goesOn_5 sndX4_see rfl q1958 q1960 qs73 q137 q1961 (by decide +kernel) ⟨by decide, by decide⟩ (by decide) (by decide),
  k_bipush dX4_goesOn_8,
  k_cmpne (t := 26) dX4_goesOn_10 (by decide),
  k_aload_n dX4_goesOn_13,
  k_dup dX4_goesOn_14,
  k_getI (C := RX4) (T := TX4) (N := 42) (ci := 2) (k := 14) (ref := "LinkTimesModel") dX4_goesOn_15 rfl in_X4 (by decide) q1813 (Or.inl rfl) (fun _ _ _ => rfl),
  k_iconst dX4_goesOn_18,
  k_iadd dX4_goesOn_19,
  k_putI (C := RX4) (T := TX4) (N := 42) (ci := 2) (k := 14) (ref := "LinkTimesModel") dX4_goesOn_20 rfl in_X4 tyX4 tyX4_ok nmX4 (by decide) (Or.inl q1813) (Or.inl rfl) (Or.inl rfl) (tyX4_ok 14 (by decide)) (fun _ _ _ => rfl),
  k_goto (t := 0) dX4_goesOn_23 (by decide),
  k_aload_n dX4_goesOn_26,
  k_aload_n dX4_goesOn_27,
  k_getI (C := RX4) (T := TX4) (N := 42) (ci := 2) (k := 14) (ref := "LinkTimesModel") dX4_goesOn_28 rfl in_X4 (by decide) q1813 (Or.inl rfl) (fun _ _ _ => rfl),
  k_putI (C := RX4) (T := TX4) (N := 42) (ci := 2) (k := 13) (ref := "LinkTimesModel") dX4_goesOn_31 rfl in_X4 tyX4 tyX4_ok nmX4 (by decide) (Or.inl q1812) (Or.inl rfl) (Or.inl rfl) (tyX4_ok 13 (by decide)) (fun _ _ _ => rfl),
  k_aload_n dX4_goesOn_34,
  k_aload_n dX4_goesOn_35,
  k_getI (C := RX4) (T := TX4) (N := 42) (ci := 2) (k := 14) (ref := "LinkTimesModel") dX4_goesOn_36 rfl in_X4 (by decide) q1813 (Or.inl rfl) (fun _ _ _ => rfl),
  k_callV (y2 := yX4_see) (C := RX4) (T0 := TX4) (ci := 2) dX4_goesOn_39 sndX4_see rfl q1958 q1960 qs73 q137 q1961 (by decide +kernel) ⟨by decide, by decide⟩ (by decide) (by decide),
  k_istore_n dX4_goesOn_42,
  k_iload_n dX4_goesOn_43,
  k_iconst dX4_goesOn_44,
  k_cmpne (t := 54) dX4_goesOn_45 (by decide),
  k_aload_n dX4_goesOn_48,
  k_iconst dX4_goesOn_49,
  k_putI (C := RX4) (T := TX4) (N := 42) (ci := 2) (k := 15) (ref := "LinkTimesModel") dX4_goesOn_50 rfl in_X4 tyX4 tyX4_ok nmX4 (by decide) (Or.inl q1814) (Or.inl rfl) (Or.inl rfl) (tyX4_ok 15 (by decide)) (fun _ _ _ => rfl),
  k_ret dX4_goesOn_53,
  k_iload_n dX4_goesOn_54,
  k_bipush dX4_goesOn_55,
  k_bipush dX4_goesOn_57,
  k_callS (y2 := yX4_in) dX4_goesOn_59 sndX4_in q1943 q1944 q137 q1945 (by decide +kernel) ⟨by decide, by decide⟩ (by decide) (by decide),
  k_ifeq (t := 120) dX4_goesOn_62 (by decide),
  k_aload_n dX4_goesOn_65,
  k_aload_n dX4_goesOn_66,
  k_getI (C := RX4) (T := TX4) (N := 42) (ci := 2) (k := 14) (ref := "LinkTimesModel") dX4_goesOn_67 rfl in_X4 (by decide) q1813 (Or.inl rfl) (fun _ _ _ => rfl),
  k_callV (y2 := yX4_see) (C := RX4) (T0 := TX4) (ci := 2) dX4_goesOn_70 sndX4_see rfl q1958 q1960 qs73 q137 q1961 (by decide +kernel) ⟨by decide, by decide⟩ (by decide) (by decide),
  k_bipush dX4_goesOn_73,
  k_bipush dX4_goesOn_75,
  k_callS (y2 := yX4_in) dX4_goesOn_77 sndX4_in q1943 q1944 q137 q1945 (by decide +kernel) ⟨by decide, by decide⟩ (by decide) (by decide),
  k_ifeq (t := 96) dX4_goesOn_80 (by decide),
  k_aload_n dX4_goesOn_83,
  k_dup dX4_goesOn_84,
  k_getI (C := RX4) (T := TX4) (N := 42) (ci := 2) (k := 14) (ref := "LinkTimesModel") dX4_goesOn_85 rfl in_X4 (by decide) q1813 (Or.inl rfl) (fun _ _ _ => rfl),
  k_iconst dX4_goesOn_88,
  k_iadd dX4_goesOn_89,
  k_putI (C := RX4) (T := TX4) (N := 42) (ci := 2) (k := 14) (ref := "LinkTimesModel") dX4_goesOn_90 rfl in_X4 tyX4 tyX4_ok nmX4 (by decide) (Or.inl q1813) (Or.inl rfl) (Or.inl rfl) (tyX4_ok 14 (by decide)) (fun _ _ _ => rfl),
  k_goto (t := 65) dX4_goesOn_93 (by decide),
  k_aload_n dX4_goesOn_96,
  k_aload_n dX4_goesOn_97,
  k_getI (C := RX4) (T := TX4) (N := 42) (ci := 2) (k := 14) (ref := "LinkTimesModel") dX4_goesOn_98 rfl in_X4 (by decide) q1813 (Or.inl rfl) (fun _ _ _ => rfl),
  k_aload_n dX4_goesOn_101,
  k_getI (C := RX4) (T := TX4) (N := 42) (ci := 2) (k := 13) (ref := "LinkTimesModel") dX4_goesOn_102 rfl in_X4 (by decide) q1812 (Or.inl rfl) (fun _ _ _ => rfl),
  k_isub dX4_goesOn_105,
  k_bipush dX4_goesOn_106,
  k_cmple (t := 115) dX4_goesOn_108 (by decide),
  k_iconst dX4_goesOn_111,
  k_goto (t := 116) dX4_goesOn_112 (by decide),
  k_iconst dX4_goesOn_115,
  k_putI (C := RX4) (T := TX4) (N := 42) (ci := 2) (k := 15) (ref := "LinkTimesModel") dX4_goesOn_116 rfl in_X4 tyX4 tyX4_ok nmX4 (by decide) (Or.inl q1814) (Or.inl rfl) (Or.inl rfl) (tyX4_ok 15 (by decide)) (fun _ _ _ => rfl),
  k_ret dX4_goesOn_119,
  k_iload_n dX4_goesOn_120,
  k_bipush dX4_goesOn_121,
  k_bipush dX4_goesOn_123,
  k_callS (y2 := yX4_in) dX4_goesOn_125 sndX4_in q1943 q1944 q137 q1945 (by decide +kernel) ⟨by decide, by decide⟩ (by decide) (by decide),
  k_ifeq (t := 233) dX4_goesOn_128 (by decide),
  k_aload_n dX4_goesOn_131,
  k_iconst dX4_goesOn_132,
  k_putI (C := RX4) (T := TX4) (N := 42) (ci := 2) (k := 16) (ref := "LinkTimesModel") dX4_goesOn_133 rfl in_X4 tyX4 tyX4_ok nmX4 (by decide) (Or.inl q1815) (Or.inl rfl) (Or.inl rfl) (tyX4_ok 16 (by decide)) (fun _ _ _ => rfl),
  k_aload_n dX4_goesOn_136,
  k_aload_n dX4_goesOn_137,
  k_getI (C := RX4) (T := TX4) (N := 42) (ci := 2) (k := 14) (ref := "LinkTimesModel") dX4_goesOn_138 rfl in_X4 (by decide) q1813 (Or.inl rfl) (fun _ _ _ => rfl),
  k_callV (y2 := yX4_see) (C := RX4) (T0 := TX4) (ci := 2) dX4_goesOn_141 sndX4_see rfl q1958 q1960 qs73 q137 q1961 (by decide +kernel) ⟨by decide, by decide⟩ (by decide) (by decide),
  k_bipush dX4_goesOn_144,
  k_bipush dX4_goesOn_146,
  k_callS (y2 := yX4_in) dX4_goesOn_148 sndX4_in q1943 q1944 q137 q1945 (by decide +kernel) ⟨by decide, by decide⟩ (by decide) (by decide),
  k_ifeq (t := 210) dX4_goesOn_151 (by decide),
  k_aload_n dX4_goesOn_154,
  k_aload_n dX4_goesOn_155,
  k_getI (C := RX4) (T := TX4) (N := 42) (ci := 2) (k := 14) (ref := "LinkTimesModel") dX4_goesOn_156 rfl in_X4 (by decide) q1813 (Or.inl rfl) (fun _ _ _ => rfl),
  k_aload_n dX4_goesOn_159,
  k_getI (C := RX4) (T := TX4) (N := 42) (ci := 2) (k := 13) (ref := "LinkTimesModel") dX4_goesOn_160 rfl in_X4 (by decide) q1812 (Or.inl rfl) (fun _ _ _ => rfl),
  k_isub dX4_goesOn_163,
  k_iconst dX4_goesOn_164,
  k_cmpge (t := 190) dX4_goesOn_165 (by decide),
  k_bipush dX4_goesOn_168,
  k_aload_n dX4_goesOn_170,
  k_getI (C := RX4) (T := TX4) (N := 42) (ci := 2) (k := 16) (ref := "LinkTimesModel") dX4_goesOn_171 rfl in_X4 (by decide) q1815 (Or.inl rfl) (fun _ _ _ => rfl),
  k_imul dX4_goesOn_174,
  k_aload_n dX4_goesOn_175,
  k_aload_n dX4_goesOn_176,
  k_getI (C := RX4) (T := TX4) (N := 42) (ci := 2) (k := 14) (ref := "LinkTimesModel") dX4_goesOn_177 rfl in_X4 (by decide) q1813 (Or.inl rfl) (fun _ _ _ => rfl),
  k_callV (y2 := yX4_see) (C := RX4) (T0 := TX4) (ci := 2) dX4_goesOn_180 sndX4_see rfl q1958 q1960 qs73 q137 q1961 (by decide +kernel) ⟨by decide, by decide⟩ (by decide) (by decide),
  k_iadd dX4_goesOn_183,
  k_bipush dX4_goesOn_184,
  k_isub dX4_goesOn_186,
  k_goto (t := 194) dX4_goesOn_187 (by decide),
  k_aload_n dX4_goesOn_190,
  k_getI (C := RX4) (T := TX4) (N := 42) (ci := 2) (k := 16) (ref := "LinkTimesModel") dX4_goesOn_191 rfl in_X4 (by decide) q1815 (Or.inl rfl) (fun _ _ _ => rfl),
  k_putI (C := RX4) (T := TX4) (N := 42) (ci := 2) (k := 16) (ref := "LinkTimesModel") dX4_goesOn_194 rfl in_X4 tyX4 tyX4_ok nmX4 (by decide) (Or.inl q1815) (Or.inl rfl) (Or.inl rfl) (tyX4_ok 16 (by decide)) (fun _ _ _ => rfl),
  k_aload_n dX4_goesOn_197,
  k_dup dX4_goesOn_198,
  k_getI (C := RX4) (T := TX4) (N := 42) (ci := 2) (k := 14) (ref := "LinkTimesModel") dX4_goesOn_199 rfl in_X4 (by decide) q1813 (Or.inl rfl) (fun _ _ _ => rfl),
  k_iconst dX4_goesOn_202,
  k_iadd dX4_goesOn_203,
  k_putI (C := RX4) (T := TX4) (N := 42) (ci := 2) (k := 14) (ref := "LinkTimesModel") dX4_goesOn_204 rfl in_X4 tyX4 tyX4_ok nmX4 (by decide) (Or.inl q1813) (Or.inl rfl) (Or.inl rfl) (tyX4_ok 14 (by decide)) (fun _ _ _ => rfl),
  k_goto (t := 136) dX4_goesOn_207 (by decide),
  k_aload_n dX4_goesOn_210,
  k_aload_n dX4_goesOn_211,
  k_getI (C := RX4) (T := TX4) (N := 42) (ci := 2) (k := 14) (ref := "LinkTimesModel") dX4_goesOn_212 rfl in_X4 (by decide) q1813 (Or.inl rfl) (fun _ _ _ => rfl),
  k_aload_n dX4_goesOn_215,
  k_getI (C := RX4) (T := TX4) (N := 42) (ci := 2) (k := 13) (ref := "LinkTimesModel") dX4_goesOn_216 rfl in_X4 (by decide) q1812 (Or.inl rfl) (fun _ _ _ => rfl),
  k_isub dX4_goesOn_219,
  k_iconst dX4_goesOn_220,
  k_cmple (t := 228) dX4_goesOn_221 (by decide),
  k_iconst dX4_goesOn_224,
  k_goto (t := 229) dX4_goesOn_225 (by decide),
  k_iconst dX4_goesOn_228,
  k_putI (C := RX4) (T := TX4) (N := 42) (ci := 2) (k := 15) (ref := "LinkTimesModel") dX4_goesOn_229 rfl in_X4 tyX4 tyX4_ok nmX4 (by decide) (Or.inl q1814) (Or.inl rfl) (Or.inl rfl) (tyX4_ok 15 (by decide)) (fun _ _ _ => rfl),
  k_ret dX4_goesOn_232,
  k_aload_n dX4_goesOn_233,
  k_dup dX4_goesOn_234,
  k_getI (C := RX4) (T := TX4) (N := 42) (ci := 2) (k := 14) (ref := "LinkTimesModel") dX4_goesOn_235 rfl in_X4 (by decide) q1813 (Or.inl rfl) (fun _ _ _ => rfl),
  k_iconst dX4_goesOn_238,
  k_iadd dX4_goesOn_239,
  k_putI (C := RX4) (T := TX4) (N := 42) (ci := 2) (k := 14) (ref := "LinkTimesModel") dX4_goesOn_240 rfl in_X4 tyX4 tyX4_ok nmX4 (by decide) (Or.inl q1813) (Or.inl rfl) (Or.inl rfl) (tyX4_ok 14 (by decide)) (fun _ _ _ => rfl),
  k_aload_n dX4_goesOn_243,
  k_iload_n dX4_goesOn_244,
  k_bipush dX4_goesOn_245,
  k_cmpne (t := 254) dX4_goesOn_247 (by decide),
  k_iload_n dX4_goesOn_250,
  k_goto (t := 255) dX4_goesOn_251 (by decide),
  k_iconst dX4_goesOn_254,
  k_putI (C := RX4) (T := TX4) (N := 42) (ci := 2) (k := 15) (ref := "LinkTimesModel") dX4_goesOn_255 rfl in_X4 tyX4 tyX4_ok nmX4 (by decide) (Or.inl q1814) (Or.inl rfl) (Or.inl rfl) (tyX4_ok 15 (by decide)) (fun _ _ _ => rfl),
  k_ret dX4_goesOn_258, trivial⟩
theorem sndX4_goesOn : MSound 2 yX4_goesOn (ws_ yX4_goesOn cX4_goesOn 2 none) mX4_goesOn := msound_M (by decide) allX4_goesOn (fun _ _ => rfl)
/-! LinkTimesModel.isWord(Ljava/lang/String;)Z -/
noncomputable def kX4_isWord : ZM := ([(0, zi_ld 1 0 1), (1, zi_getI 18 15 4), (4, zi_push (zvi 2) 5), (5, zi_cmp zc_ne 24 8), (8, zi_ld 1 0 9), (9, zi_getI 18 14 12), (12, zi_ld 1 0 13), (13, zi_getI 18 13 16), (16, zi_bin (fun a b => w32 (a - b)) 17), (17, zi_ld 1 1 18), (18, zi_callVS mJ8_length 1 21), (21, zi_cmp zc_eq 26 24), (24, zi_push (zvi 0) 25), (25, zi_retz), (26, zi_push (zvi 0) 27), (27, zi_st 0 2 28), (28, zi_ld 0 2 29), (29, zi_ld 1 1 30), (30, zi_callVS mJ8_length 1 33), (33, zi_cmp zc_ge 63 36), (36, zi_ld 1 0 37), (37, zi_getR 18 4 40), (40, zi_ld 1 0 41), (41, zi_getI 18 13 44), (44, zi_ld 0 2 45), (45, zi_bin (fun a b => w32 (a + b)) 46), (46, zi_ald 1 47), (47, zi_ld 1 1 48), (48, zi_ld 0 2 49), (49, zi_callVS mJ8_charAt 2 52), (52, zi_cmp zc_eq 57 55), (55, zi_push (zvi 0) 56), (56, zi_retz), (57, zi_iinc 2 1 60), (60, zi_goto 28), (63, zi_push (zvi 1) 64), (64, zi_retz)], fun _ _ => none)
noncomputable def mX4_isWord : ZF := zrunM kX4_isWord 3
theorem enX4_isWord (x0 : Option Nat) (x1 : Option Nat) (h : PH) : mX4_isWord [zvr x0, zvr x1] h = zev kX4_isWord 0 [zvr x0, zvr x1, zvu] [] h := zrunM_eq rfl rfl
theorem hdX4_isWord_28 (x0 x1 : ZV) (a : Int) (L st : List ZV) (h : PH) : zev kX4_isWord 28 (x0 :: x1 :: zvi a :: L) st h = zev kX4_isWord 29 (x0 :: x1 :: zvi a :: L) (zvi a :: st) h := e_ld2I (n := 29) rfl
theorem rX4_isWord : (∀ (a : Option Nat) (L st : List ZV) (h : PH), zev kX4_isWord 0 (zvr a :: L) st h = zev kX4_isWord 1 (zvr a :: L) (zvr a :: st) h) ∧
  (∀ (q : Nat) (L st : List ZV) (h : PH), zev kX4_isWord 1 L (zvr (some q) :: st) h = if (ph_K h q).1 % 1000 = 18 then zev kX4_isWord 4 L (zvi (ph_I h q 15) :: st) h else none) ∧
  (∀ (L st : List ZV) (h : PH), zev kX4_isWord 4 L st h = zev kX4_isWord 5 L (zvi 2 :: st) h) ∧
  (∀ (a b : Int) (L st : List ZV) (h : PH), zev kX4_isWord 5 L (zvi b :: zvi a :: st) h = if a ≠ b then zev kX4_isWord 24 L st h else zev kX4_isWord 8 L st h) ∧
  (∀ (a : Option Nat) (L st : List ZV) (h : PH), zev kX4_isWord 8 (zvr a :: L) st h = zev kX4_isWord 9 (zvr a :: L) (zvr a :: st) h) ∧
  (∀ (q : Nat) (L st : List ZV) (h : PH), zev kX4_isWord 9 L (zvr (some q) :: st) h = if (ph_K h q).1 % 1000 = 18 then zev kX4_isWord 12 L (zvi (ph_I h q 14) :: st) h else none) ∧
  (∀ (a : Option Nat) (L st : List ZV) (h : PH), zev kX4_isWord 12 (zvr a :: L) st h = zev kX4_isWord 13 (zvr a :: L) (zvr a :: st) h) ∧
  (∀ (q : Nat) (L st : List ZV) (h : PH), zev kX4_isWord 13 L (zvr (some q) :: st) h = if (ph_K h q).1 % 1000 = 18 then zev kX4_isWord 16 L (zvi (ph_I h q 13) :: st) h else none) ∧
  (∀ (a b : Int) (L st : List ZV) (h : PH), zev kX4_isWord 16 L (zvi b :: zvi a :: st) h = zev kX4_isWord 17 L (zvi (w32 (a - b)) :: st) h) ∧
  (∀ (x0 : ZV) (a : Option Nat) (L st : List ZV) (h : PH), zev kX4_isWord 17 (x0 :: zvr a :: L) st h = zev kX4_isWord 18 (x0 :: zvr a :: L) (zvr a :: st) h) ∧
  (∀ (q : Nat) (L st : List ZV) (h : PH), zev kX4_isWord 18 L (zvr (some q) :: st) h = if (1000000010 ≤ q ∧ q < 1000000021) ∧ zcat st ≤ 8 then zk kX4_isWord 18 21 L st (mJ8_length [zvr (some q)] h) else none) ∧
  (∀ (a b : Int) (L st : List ZV) (h : PH), zev kX4_isWord 21 L (zvi b :: zvi a :: st) h = if a = b then zev kX4_isWord 26 L st h else zev kX4_isWord 24 L st h) ∧
  (∀ (L st : List ZV) (h : PH), zev kX4_isWord 24 L st h = zev kX4_isWord 25 L (zvi 0 :: st) h) ∧
  (∀ (a : Int) (L : List ZV) (h : PH), zev kX4_isWord 25 L [zvi a] h = if a = 0 ∨ a = 1 then zrv (zvi a) h else none) ∧
  (∀ (L st : List ZV) (h : PH), zev kX4_isWord 26 L st h = zev kX4_isWord 27 L (zvi 0 :: st) h) ∧
  (∀ (x0 x1 x2 : ZV) (a : Int) (L st : List ZV) (h : PH) (hx : zisL x1 = false) , zev kX4_isWord 27 (x0 :: x1 :: x2 :: L) (zvi a :: st) h = zev kX4_isWord 28 (x0 :: x1 :: zvi a :: L) st h) ∧
  (∀ (x0 : ZV) (a : Option Nat) (L st : List ZV) (h : PH), zev kX4_isWord 29 (x0 :: zvr a :: L) st h = zev kX4_isWord 30 (x0 :: zvr a :: L) (zvr a :: st) h) ∧
  (∀ (q : Nat) (L st : List ZV) (h : PH), zev kX4_isWord 30 L (zvr (some q) :: st) h = if (1000000010 ≤ q ∧ q < 1000000021) ∧ zcat st ≤ 8 then zk kX4_isWord 30 33 L st (mJ8_length [zvr (some q)] h) else none) ∧
  (∀ (a b : Int) (L st : List ZV) (h : PH), zev kX4_isWord 33 L (zvi b :: zvi a :: st) h = if a ≥ b then zev kX4_isWord 63 L st h else zev kX4_isWord 36 L st h) ∧
  (∀ (a : Option Nat) (L st : List ZV) (h : PH), zev kX4_isWord 36 (zvr a :: L) st h = zev kX4_isWord 37 (zvr a :: L) (zvr a :: st) h) ∧
  (∀ (q : Nat) (L st : List ZV) (h : PH), zev kX4_isWord 37 L (zvr (some q) :: st) h = if (ph_K h q).1 % 1000 = 18 then zev kX4_isWord 40 L (zvr (ph_R h q 4) :: st) h else none) ∧
  (∀ (a : Option Nat) (L st : List ZV) (h : PH), zev kX4_isWord 40 (zvr a :: L) st h = zev kX4_isWord 41 (zvr a :: L) (zvr a :: st) h) ∧
  (∀ (q : Nat) (L st : List ZV) (h : PH), zev kX4_isWord 41 L (zvr (some q) :: st) h = if (ph_K h q).1 % 1000 = 18 then zev kX4_isWord 44 L (zvi (ph_I h q 13) :: st) h else none) ∧
  (∀ (x0 x1 : ZV) (a : Int) (L st : List ZV) (h : PH), zev kX4_isWord 44 (x0 :: x1 :: zvi a :: L) st h = zev kX4_isWord 45 (x0 :: x1 :: zvi a :: L) (zvi a :: st) h) ∧
  (∀ (a b : Int) (L st : List ZV) (h : PH), zev kX4_isWord 45 L (zvi b :: zvi a :: st) h = zev kX4_isWord 46 L (zvi (w32 (a + b)) :: st) h) ∧
  (∀ (j : Int) (q : Nat) (L st : List ZV) (h : PH), zev kX4_isWord 46 L (zvi j :: zvr (some q) :: st) h = if (ph_K h q).1 % 1000 = 1 ∧ 0 ≤ j ∧ j < (ph_K h q).2 then zev kX4_isWord 47 L (zvi (ph_I h q j) :: st) h else none) ∧
  (∀ (x0 : ZV) (a : Option Nat) (L st : List ZV) (h : PH), zev kX4_isWord 47 (x0 :: zvr a :: L) st h = zev kX4_isWord 48 (x0 :: zvr a :: L) (zvr a :: st) h) ∧
  (∀ (x0 x1 : ZV) (a : Int) (L st : List ZV) (h : PH), zev kX4_isWord 48 (x0 :: x1 :: zvi a :: L) st h = zev kX4_isWord 49 (x0 :: x1 :: zvi a :: L) (zvi a :: st) h) ∧
  (∀ (v0 : ZV) (q : Nat) (L st : List ZV) (h : PH), zev kX4_isWord 49 L (v0 :: zvr (some q) :: st) h = if (1000000010 ≤ q ∧ q < 1000000021) ∧ zcat st ≤ 8 then zk kX4_isWord 49 52 L st (mJ8_charAt [zvr (some q), v0] h) else none) ∧
  (∀ (a b : Int) (L st : List ZV) (h : PH), zev kX4_isWord 52 L (zvi b :: zvi a :: st) h = if a = b then zev kX4_isWord 57 L st h else zev kX4_isWord 55 L st h) ∧
  (∀ (L st : List ZV) (h : PH), zev kX4_isWord 55 L st h = zev kX4_isWord 56 L (zvi 0 :: st) h) ∧
  (∀ (a : Int) (L : List ZV) (h : PH), zev kX4_isWord 56 L [zvi a] h = if a = 0 ∨ a = 1 then zrv (zvi a) h else none) ∧
  (∀ (x0 x1 : ZV) (a : Int) (L st : List ZV) (h : PH) (hx : zisL x1 = false) , zev kX4_isWord 57 (x0 :: x1 :: zvi a :: L) st h = zev kX4_isWord 60 (x0 :: x1 :: zvi (w32 (a + 1)) :: L) st h) ∧
  (∀ (L st : List ZV) (h : PH), zev kX4_isWord 60 L st h = zev kX4_isWord 28 L st h) ∧
  (∀ (L st : List ZV) (h : PH), zev kX4_isWord 63 L st h = zev kX4_isWord 64 L (zvi 1 :: st) h) ∧
  (∀ (a : Int) (L : List ZV) (h : PH), zev kX4_isWord 64 L [zvi a] h = if a = 0 ∨ a = 1 then zrv (zvi a) h else none) :=
  ⟨fun a L st h => e_ld0R (n := 1) rfl,
  fun q L st h => e_getI (kd := 18) (k := 15) (n := 4) rfl,
  fun L st h => e_push (v := zvi 2) (n := 5) rfl,
  fun a b L st h => e_cmpne (t := 24) (n := 8) rfl,
  fun a L st h => e_ld0R (n := 9) rfl,
  fun q L st h => e_getI (kd := 18) (k := 14) (n := 12) rfl,
  fun a L st h => e_ld0R (n := 13) rfl,
  fun q L st h => e_getI (kd := 18) (k := 13) (n := 16) rfl,
  fun a b L st h => e_bin (f := (fun a b => w32 (a - b))) (n := 17) rfl,
  fun x0 a L st h => e_ld1R (n := 18) rfl,
  fun q L st h => e_callVS1 (F := mJ8_length) (n := 21) rfl,
  fun a b L st h => e_cmpeq (t := 26) (n := 24) rfl,
  fun L st h => e_push (v := zvi 0) (n := 25) rfl,
  fun a L h => e_retz rfl,
  fun L st h => e_push (v := zvi 0) (n := 27) rfl,
  fun x0 x1 x2 a L st h hx => e_st2I (n := 28) rfl hx,
  fun x0 a L st h => e_ld1R (n := 30) rfl,
  fun q L st h => e_callVS1 (F := mJ8_length) (n := 33) rfl,
  fun a b L st h => e_cmpge (t := 63) (n := 36) rfl,
  fun a L st h => e_ld0R (n := 37) rfl,
  fun q L st h => e_getR (kd := 18) (k := 4) (n := 40) rfl,
  fun a L st h => e_ld0R (n := 41) rfl,
  fun q L st h => e_getI (kd := 18) (k := 13) (n := 44) rfl,
  fun x0 x1 a L st h => e_ld2I (n := 45) rfl,
  fun a b L st h => e_bin (f := (fun a b => w32 (a + b))) (n := 46) rfl,
  fun j q L st h => e_ald (kd := 1) (n := 47) rfl,
  fun x0 a L st h => e_ld1R (n := 48) rfl,
  fun x0 x1 a L st h => e_ld2I (n := 49) rfl,
  fun v0 q L st h => e_callVS2 (F := mJ8_charAt) (n := 52) rfl,
  fun a b L st h => e_cmpeq (t := 57) (n := 55) rfl,
  fun L st h => e_push (v := zvi 0) (n := 56) rfl,
  fun a L h => e_retz rfl,
  fun x0 x1 a L st h hx => e_iinc2 (d := 1) (n := 60) rfl hx,
  fun L st h => e_goto (t := 28) rfl,
  fun L st h => e_push (v := zvi 1) (n := 64) rfl,
  fun a L h => e_retz rfl⟩
theorem allX4_isWord : zall yX4_isWord cX4_isWord 3 (some .boolean) 6 kX4_isWord.1 :=
  ⟨k_aload_n dX4_isWord_0,
  k_getI (C := RX4) (T := TX4) (N := 42) (ci := 2) (k := 15) (ref := "LinkTimesModel") dX4_isWord_1 rfl in_X4 (by decide) q1814 (Or.inl rfl) (fun _ _ _ => rfl),
  k_iconst dX4_isWord_4,
  k_cmpne (t := 24) dX4_isWord_5 (by decide),
  k_aload_n dX4_isWord_8,
  k_getI (C := RX4) (T := TX4) (N := 42) (ci := 2) (k := 14) (ref := "LinkTimesModel") dX4_isWord_9 rfl in_X4 (by decide) q1813 (Or.inl rfl) (fun _ _ _ => rfl),
  k_aload_n dX4_isWord_12,
  k_getI (C := RX4) (T := TX4) (N := 42) (ci := 2) (k := 13) (ref := "LinkTimesModel") dX4_isWord_13 rfl in_X4 (by decide) q1812 (Or.inl rfl) (fun _ _ _ => rfl),
  k_isub dX4_isWord_16,
  k_aload_n dX4_isWord_17,
  k_callVS (y2 := yJ8_length) dX4_isWord_18 sndJ8_length q1971 q509 q510 q142 q511 (by decide +kernel) ⟨by decide, by decide⟩ (by decide) (by decide),
  k_cmpeq (t := 26) dX4_isWord_21 (by decide),
  k_iconst dX4_isWord_24,
  k_zret dX4_isWord_25,
  k_iconst dX4_isWord_26,
  k_istore_n dX4_isWord_27,
  k_iload_n dX4_isWord_28,
  k_aload_n dX4_isWord_29,
  k_callVS (y2 := yJ8_length) dX4_isWord_30 sndJ8_length q1971 q509 q510 q142 q511 (by decide +kernel) ⟨by decide, by decide⟩ (by decide) (by decide),
  k_cmpge (t := 63) dX4_isWord_33 (by decide),
  k_aload_n dX4_isWord_36,
  k_getR (C := RX4) (T := TX4) (N := 42) (ci := 2) (k := 4) (ref := "LinkTimesModel") dX4_isWord_37 rfl in_X4 (by decide) q1803 (Or.inl rfl) (fun _ _ _ => rfl),
  k_aload_n dX4_isWord_40,
  k_getI (C := RX4) (T := TX4) (N := 42) (ci := 2) (k := 13) (ref := "LinkTimesModel") dX4_isWord_41 rfl in_X4 (by decide) q1812 (Or.inl rfl) (fun _ _ _ => rfl),
  k_iload_n dX4_isWord_44,
  k_iadd dX4_isWord_45,
  k_iald dX4_isWord_46,
  k_aload_n dX4_isWord_47,
  k_iload_n dX4_isWord_48,
  k_callVS (y2 := yJ8_charAt) dX4_isWord_49 sndJ8_charAt q1972 q519 q520 q142 q521 (by decide +kernel) ⟨by decide, by decide⟩ (by decide) (by decide),
  k_cmpeq (t := 57) dX4_isWord_52 (by decide),
  k_iconst dX4_isWord_55,
  k_zret dX4_isWord_56,
  k_iinc dX4_isWord_57,
  k_goto (t := 28) dX4_isWord_60 (by decide),
  k_iconst dX4_isWord_63,
  k_zret dX4_isWord_64, trivial⟩
theorem sndX4_isWord : MSound 6 yX4_isWord (ws_ yX4_isWord cX4_isWord 3 (some .boolean)) mX4_isWord := msound_M (by decide) allX4_isWord (fun _ _ => rfl)
/-! LinkTimesModel.errs(I)Z -/
noncomputable def kX4_errs : ZM := ([(0, zi_ld 1 0 1), (1, zi_ld 0 1 2), (2, zi_putI 18 17 5), (5, zi_ld 1 0 6), (6, zi_ld 1 0 7), (7, zi_getI 18 13 10), (10, zi_putI 18 18 13), (13, zi_push (zvi 0) 14), (14, zi_retz)], fun _ _ => none)
noncomputable def mX4_errs : ZF := zrunM kX4_errs 2
theorem enX4_errs (x0 : Option Nat) (x1 : Int) (h : PH) : mX4_errs [zvr x0, zvi x1] h = zev kX4_errs 0 [zvr x0, zvi x1] [] h := zrunM_eq rfl rfl
theorem rX4_errs : (∀ (a : Option Nat) (L st : List ZV) (h : PH), zev kX4_errs 0 (zvr a :: L) st h = zev kX4_errs 1 (zvr a :: L) (zvr a :: st) h) ∧
  (∀ (x0 : ZV) (a : Int) (L st : List ZV) (h : PH), zev kX4_errs 1 (x0 :: zvi a :: L) st h = zev kX4_errs 2 (x0 :: zvi a :: L) (zvi a :: st) h) ∧
  (∀ (a : Int) (q : Nat) (L st : List ZV) (h : PH), zev kX4_errs 2 L (zvi a :: zvr (some q) :: st) h = if (ph_K h q).1 = 18 then zev kX4_errs 5 L st (st_I h q 17 a) else none) ∧
  (∀ (a : Option Nat) (L st : List ZV) (h : PH), zev kX4_errs 5 (zvr a :: L) st h = zev kX4_errs 6 (zvr a :: L) (zvr a :: st) h) ∧
  (∀ (a : Option Nat) (L st : List ZV) (h : PH), zev kX4_errs 6 (zvr a :: L) st h = zev kX4_errs 7 (zvr a :: L) (zvr a :: st) h) ∧
  (∀ (q : Nat) (L st : List ZV) (h : PH), zev kX4_errs 7 L (zvr (some q) :: st) h = if (ph_K h q).1 % 1000 = 18 then zev kX4_errs 10 L (zvi (ph_I h q 13) :: st) h else none) ∧
  (∀ (a : Int) (q : Nat) (L st : List ZV) (h : PH), zev kX4_errs 10 L (zvi a :: zvr (some q) :: st) h = if (ph_K h q).1 = 18 then zev kX4_errs 13 L st (st_I h q 18 a) else none) ∧
  (∀ (L st : List ZV) (h : PH), zev kX4_errs 13 L st h = zev kX4_errs 14 L (zvi 0 :: st) h) ∧
  (∀ (a : Int) (L : List ZV) (h : PH), zev kX4_errs 14 L [zvi a] h = if a = 0 ∨ a = 1 then zrv (zvi a) h else none) :=
  ⟨fun a L st h => e_ld0R (n := 1) rfl,
  fun x0 a L st h => e_ld1I (n := 2) rfl,
  fun a q L st h => e_putI (kd := 18) (k := 17) (n := 5) rfl,
  fun a L st h => e_ld0R (n := 6) rfl,
  fun a L st h => e_ld0R (n := 7) rfl,
  fun q L st h => e_getI (kd := 18) (k := 13) (n := 10) rfl,
  fun a q L st h => e_putI (kd := 18) (k := 18) (n := 13) rfl,
  fun L st h => e_push (v := zvi 0) (n := 14) rfl,
  fun a L h => e_retz rfl⟩
theorem allX4_errs : zall yX4_errs cX4_errs 2 (some .boolean) 1 kX4_errs.1 :=
  ⟨k_aload_n dX4_errs_0,
  k_iload_n dX4_errs_1,
  k_putI (C := RX4) (T := TX4) (N := 42) (ci := 2) (k := 17) (ref := "LinkTimesModel") dX4_errs_2 rfl in_X4 tyX4 tyX4_ok nmX4 (by decide) (Or.inl q1816) (Or.inl rfl) (Or.inl rfl) (tyX4_ok 17 (by decide)) (fun _ _ _ => rfl),
  k_aload_n dX4_errs_5,
  k_aload_n dX4_errs_6,
  k_getI (C := RX4) (T := TX4) (N := 42) (ci := 2) (k := 13) (ref := "LinkTimesModel") dX4_errs_7 rfl in_X4 (by decide) q1812 (Or.inl rfl) (fun _ _ _ => rfl),
  k_putI (C := RX4) (T := TX4) (N := 42) (ci := 2) (k := 18) (ref := "LinkTimesModel") dX4_errs_10 rfl in_X4 tyX4 tyX4_ok nmX4 (by decide) (Or.inl q1817) (Or.inl rfl) (Or.inl rfl) (tyX4_ok 18 (by decide)) (fun _ _ _ => rfl),
  k_iconst dX4_errs_13,
  k_zret dX4_errs_14, trivial⟩
theorem sndX4_errs : MSound 1 yX4_errs (ws_ yX4_errs cX4_errs 2 (some .boolean)) mX4_errs := msound_M (by decide) allX4_errs (fun _ _ => rfl)
/-! LinkTimesModel.lays(III)Z -/
noncomputable def kX4_lays : ZM := ([(0, zi_ld 1 0 1), (1, zi_getI 18 15 4), (4, zi_push (zvi 3) 5), (5, zi_cmp zc_eq 14 8), (8, zi_ld 1 0 9), (9, zi_push (zvi 1) 10), (10, zi_callV mX4_errs 18 2 13), (13, zi_retz), (14, zi_ld 1 0 15), (15, zi_getI 18 16 18), (18, zi_ld 0 2 19), (19, zi_ld 0 3 20), (20, zi_callS mX4_in 3 23), (23, zi_if (fun a => zc_ne a 0) 32 26), (26, zi_ld 1 0 27), (27, zi_push (zvi 4) 28), (28, zi_callV mX4_errs 18 2 31), (31, zi_retz), (32, zi_ld 1 0 33), (33, zi_getR 18 7 36), (36, zi_ld 0 1 37), (37, zi_ld 1 0 38), (38, zi_getI 18 16 41), (41, zi_ast 42), (42, zi_ld 1 0 43), (43, zi_callV mX4_goesOn 18 1 46), (46, zi_push (zvi 1) 47), (47, zi_retz)], fun _ _ => none)
noncomputable def mX4_lays : ZF := zrunM kX4_lays 4
theorem enX4_lays (x0 : Option Nat) (x1 : Int) (x2 : Int) (x3 : Int) (h : PH) : mX4_lays [zvr x0, zvi x1, zvi x2, zvi x3] h = zev kX4_lays 0 [zvr x0, zvi x1, zvi x2, zvi x3] [] h := zrunM_eq rfl rfl
theorem rX4_lays : (∀ (a : Option Nat) (L st : List ZV) (h : PH), zev kX4_lays 0 (zvr a :: L) st h = zev kX4_lays 1 (zvr a :: L) (zvr a :: st) h) ∧
  (∀ (q : Nat) (L st : List ZV) (h : PH), zev kX4_lays 1 L (zvr (some q) :: st) h = if (ph_K h q).1 % 1000 = 18 then zev kX4_lays 4 L (zvi (ph_I h q 15) :: st) h else none) ∧
  (∀ (L st : List ZV) (h : PH), zev kX4_lays 4 L st h = zev kX4_lays 5 L (zvi 3 :: st) h) ∧
  (∀ (a b : Int) (L st : List ZV) (h : PH), zev kX4_lays 5 L (zvi b :: zvi a :: st) h = if a = b then zev kX4_lays 14 L st h else zev kX4_lays 8 L st h) ∧
  (∀ (a : Option Nat) (L st : List ZV) (h : PH), zev kX4_lays 8 (zvr a :: L) st h = zev kX4_lays 9 (zvr a :: L) (zvr a :: st) h) ∧
  (∀ (L st : List ZV) (h : PH), zev kX4_lays 9 L st h = zev kX4_lays 10 L (zvi 1 :: st) h) ∧
  (∀ (v0 : ZV) (q : Nat) (L st : List ZV) (h : PH), zev kX4_lays 10 L (v0 :: zvr (some q) :: st) h = if (ph_K h q).1 % 1000 = 18 ∧ zcat st ≤ 8 then zk kX4_lays 10 13 L st (mX4_errs [zvr (some q), v0] h) else none) ∧
  (∀ (a : Int) (L : List ZV) (h : PH), zev kX4_lays 13 L [zvi a] h = if a = 0 ∨ a = 1 then zrv (zvi a) h else none) ∧
  (∀ (a : Option Nat) (L st : List ZV) (h : PH), zev kX4_lays 14 (zvr a :: L) st h = zev kX4_lays 15 (zvr a :: L) (zvr a :: st) h) ∧
  (∀ (q : Nat) (L st : List ZV) (h : PH), zev kX4_lays 15 L (zvr (some q) :: st) h = if (ph_K h q).1 % 1000 = 18 then zev kX4_lays 18 L (zvi (ph_I h q 16) :: st) h else none) ∧
  (∀ (x0 x1 : ZV) (a : Int) (L st : List ZV) (h : PH), zev kX4_lays 18 (x0 :: x1 :: zvi a :: L) st h = zev kX4_lays 19 (x0 :: x1 :: zvi a :: L) (zvi a :: st) h) ∧
  (∀ (x0 x1 x2 : ZV) (a : Int) (L st : List ZV) (h : PH), zev kX4_lays 19 (x0 :: x1 :: x2 :: zvi a :: L) st h = zev kX4_lays 20 (x0 :: x1 :: x2 :: zvi a :: L) (zvi a :: st) h) ∧
  (∀ (v0 v1 v2 : ZV) (L st : List ZV) (h : PH), zev kX4_lays 20 L (v2 :: v1 :: v0 :: st) h = if zcat st ≤ 8 then zk kX4_lays 20 23 L st (mX4_in [v0, v1, v2] h) else none) ∧
  (∀ (a : Int) (L st : List ZV) (h : PH), zev kX4_lays 23 L (zvi a :: st) h = if a ≠ 0 then zev kX4_lays 32 L st h else zev kX4_lays 26 L st h) ∧
  (∀ (a : Option Nat) (L st : List ZV) (h : PH), zev kX4_lays 26 (zvr a :: L) st h = zev kX4_lays 27 (zvr a :: L) (zvr a :: st) h) ∧
  (∀ (L st : List ZV) (h : PH), zev kX4_lays 27 L st h = zev kX4_lays 28 L (zvi 4 :: st) h) ∧
  (∀ (v0 : ZV) (q : Nat) (L st : List ZV) (h : PH), zev kX4_lays 28 L (v0 :: zvr (some q) :: st) h = if (ph_K h q).1 % 1000 = 18 ∧ zcat st ≤ 8 then zk kX4_lays 28 31 L st (mX4_errs [zvr (some q), v0] h) else none) ∧
  (∀ (a : Int) (L : List ZV) (h : PH), zev kX4_lays 31 L [zvi a] h = if a = 0 ∨ a = 1 then zrv (zvi a) h else none) ∧
  (∀ (a : Option Nat) (L st : List ZV) (h : PH), zev kX4_lays 32 (zvr a :: L) st h = zev kX4_lays 33 (zvr a :: L) (zvr a :: st) h) ∧
  (∀ (q : Nat) (L st : List ZV) (h : PH), zev kX4_lays 33 L (zvr (some q) :: st) h = if (ph_K h q).1 % 1000 = 18 then zev kX4_lays 36 L (zvr (ph_R h q 7) :: st) h else none) ∧
  (∀ (x0 : ZV) (a : Int) (L st : List ZV) (h : PH), zev kX4_lays 36 (x0 :: zvi a :: L) st h = zev kX4_lays 37 (x0 :: zvi a :: L) (zvi a :: st) h) ∧
  (∀ (a : Option Nat) (L st : List ZV) (h : PH), zev kX4_lays 37 (zvr a :: L) st h = zev kX4_lays 38 (zvr a :: L) (zvr a :: st) h) ∧
  (∀ (q : Nat) (L st : List ZV) (h : PH), zev kX4_lays 38 L (zvr (some q) :: st) h = if (ph_K h q).1 % 1000 = 18 then zev kX4_lays 41 L (zvi (ph_I h q 16) :: st) h else none) ∧
  (∀ (x j : Int) (q : Nat) (L st : List ZV) (h : PH), zev kX4_lays 41 L (zvi x :: zvi j :: zvr (some q) :: st) h = if (ph_K h q).1 = 1 ∧ 0 ≤ j ∧ j < (ph_K h q).2 then zev kX4_lays 42 L st (st_I h q j x) else none) ∧
  (∀ (a : Option Nat) (L st : List ZV) (h : PH), zev kX4_lays 42 (zvr a :: L) st h = zev kX4_lays 43 (zvr a :: L) (zvr a :: st) h) ∧
  (∀ (q : Nat) (L st : List ZV) (h : PH), zev kX4_lays 43 L (zvr (some q) :: st) h = if (ph_K h q).1 % 1000 = 18 ∧ zcat st ≤ 8 then zk kX4_lays 43 46 L st (mX4_goesOn [zvr (some q)] h) else none) ∧
  (∀ (L st : List ZV) (h : PH), zev kX4_lays 46 L st h = zev kX4_lays 47 L (zvi 1 :: st) h) ∧
  (∀ (a : Int) (L : List ZV) (h : PH), zev kX4_lays 47 L [zvi a] h = if a = 0 ∨ a = 1 then zrv (zvi a) h else none) :=
  ⟨fun a L st h => e_ld0R (n := 1) rfl,
  fun q L st h => e_getI (kd := 18) (k := 15) (n := 4) rfl,
  fun L st h => e_push (v := zvi 3) (n := 5) rfl,
  fun a b L st h => e_cmpeq (t := 14) (n := 8) rfl,
  fun a L st h => e_ld0R (n := 9) rfl,
  fun L st h => e_push (v := zvi 1) (n := 10) rfl,
  fun v0 q L st h => e_callV2 (F := mX4_errs) (kd := 18) (n := 13) rfl,
  fun a L h => e_retz rfl,
  fun a L st h => e_ld0R (n := 15) rfl,
  fun q L st h => e_getI (kd := 18) (k := 16) (n := 18) rfl,
  fun x0 x1 a L st h => e_ld2I (n := 19) rfl,
  fun x0 x1 x2 a L st h => e_ld3I (n := 20) rfl,
  fun v0 v1 v2 L st h => e_callS3 (F := mX4_in) (n := 23) rfl,
  fun a L st h => e_ifne (t := 32) (n := 26) rfl,
  fun a L st h => e_ld0R (n := 27) rfl,
  fun L st h => e_push (v := zvi 4) (n := 28) rfl,
  fun v0 q L st h => e_callV2 (F := mX4_errs) (kd := 18) (n := 31) rfl,
  fun a L h => e_retz rfl,
  fun a L st h => e_ld0R (n := 33) rfl,
  fun q L st h => e_getR (kd := 18) (k := 7) (n := 36) rfl,
  fun x0 a L st h => e_ld1I (n := 37) rfl,
  fun a L st h => e_ld0R (n := 38) rfl,
  fun q L st h => e_getI (kd := 18) (k := 16) (n := 41) rfl,
  fun x j q L st h => e_ast (n := 42) rfl,
  fun a L st h => e_ld0R (n := 43) rfl,
  fun q L st h => e_callV1 (F := mX4_goesOn) (kd := 18) (n := 46) rfl,
  fun L st h => e_push (v := zvi 1) (n := 47) rfl,
  fun a L h => e_retz rfl⟩
theorem allX4_lays : zall yX4_lays cX4_lays 4 (some .boolean) 3 kX4_lays.1 :=
  ⟨k_aload_n dX4_lays_0,
  k_getI (C := RX4) (T := TX4) (N := 42) (ci := 2) (k := 15) (ref := "LinkTimesModel") dX4_lays_1 rfl in_X4 (by decide) q1814 (Or.inl rfl) (fun _ _ _ => rfl),
  k_iconst dX4_lays_4,
  k_cmpeq (t := 14) dX4_lays_5 (by decide),
  k_aload_n dX4_lays_8,
  k_iconst dX4_lays_9,
  k_callV (y2 := yX4_errs) (C := RX4) (T0 := TX4) (ci := 2) dX4_lays_10 sndX4_errs rfl q1977 q1979 qs77 q137 q1980 (by decide +kernel) ⟨by decide, by decide⟩ (by decide) (by decide),
  k_zret dX4_lays_13,
  k_aload_n dX4_lays_14,
  k_getI (C := RX4) (T := TX4) (N := 42) (ci := 2) (k := 16) (ref := "LinkTimesModel") dX4_lays_15 rfl in_X4 (by decide) q1815 (Or.inl rfl) (fun _ _ _ => rfl),
  k_iload_n dX4_lays_18,
  k_iload_n dX4_lays_19,
  k_callS (y2 := yX4_in) dX4_lays_20 sndX4_in q1943 q1944 q137 q1945 (by decide +kernel) ⟨by decide, by decide⟩ (by decide) (by decide),
  k_ifne (t := 32) dX4_lays_23 (by decide),
  k_aload_n dX4_lays_26,
  k_iconst dX4_lays_27,
  k_callV (y2 := yX4_errs) (C := RX4) (T0 := TX4) (ci := 2) dX4_lays_28 sndX4_errs rfl q1977 q1979 qs77 q137 q1980 (by decide +kernel) ⟨by decide, by decide⟩ (by decide) (by decide),
  k_zret dX4_lays_31,
  k_aload_n dX4_lays_32,
  k_getR (C := RX4) (T := TX4) (N := 42) (ci := 2) (k := 7) (ref := "LinkTimesModel") dX4_lays_33 rfl in_X4 (by decide) q1806 (Or.inl rfl) (fun _ _ _ => rfl),
  k_iload_n dX4_lays_36,
  k_aload_n dX4_lays_37,
  k_getI (C := RX4) (T := TX4) (N := 42) (ci := 2) (k := 16) (ref := "LinkTimesModel") dX4_lays_38 rfl in_X4 (by decide) q1815 (Or.inl rfl) (fun _ _ _ => rfl),
  k_iast dX4_lays_41,
  k_aload_n dX4_lays_42,
  k_callV (y2 := yX4_goesOn) (C := RX4) (T0 := TX4) (ci := 2) dX4_lays_43 sndX4_goesOn rfl q1954 q1956 qs72 q137 q1957 (by decide +kernel) ⟨by decide, by decide⟩ (by decide) (by decide),
  k_iconst dX4_lays_46,
  k_zret dX4_lays_47, trivial⟩
theorem sndX4_lays : MSound 3 yX4_lays (ws_ yX4_lays cX4_lays 4 (some .boolean)) mX4_lays := msound_M (by decide) allX4_lays (fun _ _ => rfl)
/-! LinkTimesModel.after(Ljava/lang/String;III)Z -/
noncomputable def kX4_after : ZM := ([(0, zi_ld 1 0 1), (1, zi_ld 1 1 2), (2, zi_callV mX4_isWord 18 2 5), (5, zi_if (fun a => zc_ne a 0) 14 8), (8, zi_ld 1 0 9), (9, zi_push (zvi 1) 10), (10, zi_callV mX4_errs 18 2 13), (13, zi_retz), (14, zi_ld 1 0 15), (15, zi_callV mX4_goesOn 18 1 18), (18, zi_ld 1 0 19), (19, zi_ld 0 2 20), (20, zi_ld 0 3 21), (21, zi_ld 0 4 23), (23, zi_callV mX4_lays 18 4 26), (26, zi_retz)], fun _ _ => none)
noncomputable def mX4_after : ZF := zrunM kX4_after 5
theorem enX4_after (x0 : Option Nat) (x1 : Option Nat) (x2 : Int) (x3 : Int) (x4 : Int) (h : PH) : mX4_after [zvr x0, zvr x1, zvi x2, zvi x3, zvi x4] h = zev kX4_after 0 [zvr x0, zvr x1, zvi x2, zvi x3, zvi x4] [] h := zrunM_eq rfl rfl
theorem rX4_after : (∀ (a : Option Nat) (L st : List ZV) (h : PH), zev kX4_after 0 (zvr a :: L) st h = zev kX4_after 1 (zvr a :: L) (zvr a :: st) h) ∧
  (∀ (x0 : ZV) (a : Option Nat) (L st : List ZV) (h : PH), zev kX4_after 1 (x0 :: zvr a :: L) st h = zev kX4_after 2 (x0 :: zvr a :: L) (zvr a :: st) h) ∧
  (∀ (v0 : ZV) (q : Nat) (L st : List ZV) (h : PH), zev kX4_after 2 L (v0 :: zvr (some q) :: st) h = if (ph_K h q).1 % 1000 = 18 ∧ zcat st ≤ 8 then zk kX4_after 2 5 L st (mX4_isWord [zvr (some q), v0] h) else none) ∧
  (∀ (a : Int) (L st : List ZV) (h : PH), zev kX4_after 5 L (zvi a :: st) h = if a ≠ 0 then zev kX4_after 14 L st h else zev kX4_after 8 L st h) ∧
  (∀ (a : Option Nat) (L st : List ZV) (h : PH), zev kX4_after 8 (zvr a :: L) st h = zev kX4_after 9 (zvr a :: L) (zvr a :: st) h) ∧
  (∀ (L st : List ZV) (h : PH), zev kX4_after 9 L st h = zev kX4_after 10 L (zvi 1 :: st) h) ∧
  (∀ (v0 : ZV) (q : Nat) (L st : List ZV) (h : PH), zev kX4_after 10 L (v0 :: zvr (some q) :: st) h = if (ph_K h q).1 % 1000 = 18 ∧ zcat st ≤ 8 then zk kX4_after 10 13 L st (mX4_errs [zvr (some q), v0] h) else none) ∧
  (∀ (a : Int) (L : List ZV) (h : PH), zev kX4_after 13 L [zvi a] h = if a = 0 ∨ a = 1 then zrv (zvi a) h else none) ∧
  (∀ (a : Option Nat) (L st : List ZV) (h : PH), zev kX4_after 14 (zvr a :: L) st h = zev kX4_after 15 (zvr a :: L) (zvr a :: st) h) ∧
  (∀ (q : Nat) (L st : List ZV) (h : PH), zev kX4_after 15 L (zvr (some q) :: st) h = if (ph_K h q).1 % 1000 = 18 ∧ zcat st ≤ 8 then zk kX4_after 15 18 L st (mX4_goesOn [zvr (some q)] h) else none) ∧
  (∀ (a : Option Nat) (L st : List ZV) (h : PH), zev kX4_after 18 (zvr a :: L) st h = zev kX4_after 19 (zvr a :: L) (zvr a :: st) h) ∧
  (∀ (x0 x1 : ZV) (a : Int) (L st : List ZV) (h : PH), zev kX4_after 19 (x0 :: x1 :: zvi a :: L) st h = zev kX4_after 20 (x0 :: x1 :: zvi a :: L) (zvi a :: st) h) ∧
  (∀ (x0 x1 x2 : ZV) (a : Int) (L st : List ZV) (h : PH), zev kX4_after 20 (x0 :: x1 :: x2 :: zvi a :: L) st h = zev kX4_after 21 (x0 :: x1 :: x2 :: zvi a :: L) (zvi a :: st) h) ∧
  (∀ (x0 x1 x2 x3 : ZV) (a : Int) (L st : List ZV) (h : PH), zev kX4_after 21 (x0 :: x1 :: x2 :: x3 :: zvi a :: L) st h = zev kX4_after 23 (x0 :: x1 :: x2 :: x3 :: zvi a :: L) (zvi a :: st) h) ∧
  (∀ (v0 v1 v2 : ZV) (q : Nat) (L st : List ZV) (h : PH), zev kX4_after 23 L (v2 :: v1 :: v0 :: zvr (some q) :: st) h = if (ph_K h q).1 % 1000 = 18 ∧ zcat st ≤ 8 then zk kX4_after 23 26 L st (mX4_lays [zvr (some q), v0, v1, v2] h) else none) ∧
  (∀ (a : Int) (L : List ZV) (h : PH), zev kX4_after 26 L [zvi a] h = if a = 0 ∨ a = 1 then zrv (zvi a) h else none) :=
  ⟨fun a L st h => e_ld0R (n := 1) rfl,
  fun x0 a L st h => e_ld1R (n := 2) rfl,
  fun v0 q L st h => e_callV2 (F := mX4_isWord) (kd := 18) (n := 5) rfl,
  fun a L st h => e_ifne (t := 14) (n := 8) rfl,
  fun a L st h => e_ld0R (n := 9) rfl,
  fun L st h => e_push (v := zvi 1) (n := 10) rfl,
  fun v0 q L st h => e_callV2 (F := mX4_errs) (kd := 18) (n := 13) rfl,
  fun a L h => e_retz rfl,
  fun a L st h => e_ld0R (n := 15) rfl,
  fun q L st h => e_callV1 (F := mX4_goesOn) (kd := 18) (n := 18) rfl,
  fun a L st h => e_ld0R (n := 19) rfl,
  fun x0 x1 a L st h => e_ld2I (n := 20) rfl,
  fun x0 x1 x2 a L st h => e_ld3I (n := 21) rfl,
  fun x0 x1 x2 x3 a L st h => e_ld4I (n := 23) rfl,
  fun v0 v1 v2 q L st h => e_callV4 (F := mX4_lays) (kd := 18) (n := 26) rfl,
  fun a L h => e_retz rfl⟩
theorem allX4_after : zall yX4_after cX4_after 5 (some .boolean) 7 kX4_after.1 :=
  ⟨k_aload_n dX4_after_0,
  k_aload_n dX4_after_1,
  k_callV (y2 := yX4_isWord) (C := RX4) (T0 := TX4) (ci := 2) dX4_after_2 sndX4_isWord rfl q1967 q1969 qs75 q137 q1970 (by decide +kernel) ⟨by decide, by decide⟩ (by decide) (by decide),
  k_ifne (t := 14) dX4_after_5 (by decide),
  k_aload_n dX4_after_8,
  k_iconst dX4_after_9,
  k_callV (y2 := yX4_errs) (C := RX4) (T0 := TX4) (ci := 2) dX4_after_10 sndX4_errs rfl q1977 q1979 qs77 q137 q1980 (by decide +kernel) ⟨by decide, by decide⟩ (by decide) (by decide),
  k_zret dX4_after_13,
  k_aload_n dX4_after_14,
  k_callV (y2 := yX4_goesOn) (C := RX4) (T0 := TX4) (ci := 2) dX4_after_15 sndX4_goesOn rfl q1954 q1956 qs72 q137 q1957 (by decide +kernel) ⟨by decide, by decide⟩ (by decide) (by decide),
  k_aload_n dX4_after_18,
  k_iload_n dX4_after_19,
  k_iload_n dX4_after_20,
  k_iload dX4_after_21,
  k_callV (y2 := yX4_lays) (C := RX4) (T0 := TX4) (ci := 2) dX4_after_23 sndX4_lays rfl q1986 q1988 qs79 q137 q1989 (by decide +kernel) ⟨by decide, by decide⟩ (by decide) (by decide),
  k_zret dX4_after_26, trivial⟩
theorem sndX4_after : MSound 7 yX4_after (ws_ yX4_after cX4_after 5 (some .boolean)) mX4_after := msound_M (by decide) allX4_after (fun _ _ => rfl)
/-! LinkTimesModel.readDesk()Z -/
noncomputable def kX4_readDesk : ZM := ([(0, zi_ld 1 0 1), (1, zi_getI 18 19 4), (4, zi_if (fun a => zc_eq a 0) 13 7), (7, zi_ld 1 0 8), (8, zi_push (zvi 3) 9), (9, zi_callV mX4_errs 18 2 12), (12, zi_retz), (13, zi_ld 1 0 14), (14, zi_callV mX4_goesOn 18 1 17), (17, zi_ld 1 0 18), (18, zi_ld 1 0 19), (19, zi_push (zvr (some 1000000014)) 21), (21, zi_push (zvi 0) 22), (22, zi_push (zvi 1) 23), (23, zi_push (zvi 999) 26), (26, zi_callV mX4_after 18 5 29), (29, zi_putZ 18 19 32), (32, zi_ld 1 0 33), (33, zi_getI 18 19 36), (36, zi_retz)], fun _ _ => none)
noncomputable def mX4_readDesk : ZF := zrunM kX4_readDesk 1
theorem enX4_readDesk (x0 : Option Nat) (h : PH) : mX4_readDesk [zvr x0] h = zev kX4_readDesk 0 [zvr x0] [] h := zrunM_eq rfl rfl
theorem rX4_readDesk : (∀ (a : Option Nat) (L st : List ZV) (h : PH), zev kX4_readDesk 0 (zvr a :: L) st h = zev kX4_readDesk 1 (zvr a :: L) (zvr a :: st) h) ∧
  (∀ (q : Nat) (L st : List ZV) (h : PH), zev kX4_readDesk 1 L (zvr (some q) :: st) h = if (ph_K h q).1 % 1000 = 18 then zev kX4_readDesk 4 L (zvi (ph_I h q 19) :: st) h else none) ∧
  (∀ (a : Int) (L st : List ZV) (h : PH), zev kX4_readDesk 4 L (zvi a :: st) h = if a = 0 then zev kX4_readDesk 13 L st h else zev kX4_readDesk 7 L st h) ∧
  (∀ (a : Option Nat) (L st : List ZV) (h : PH), zev kX4_readDesk 7 (zvr a :: L) st h = zev kX4_readDesk 8 (zvr a :: L) (zvr a :: st) h) ∧
  (∀ (L st : List ZV) (h : PH), zev kX4_readDesk 8 L st h = zev kX4_readDesk 9 L (zvi 3 :: st) h) ∧
  (∀ (v0 : ZV) (q : Nat) (L st : List ZV) (h : PH), zev kX4_readDesk 9 L (v0 :: zvr (some q) :: st) h = if (ph_K h q).1 % 1000 = 18 ∧ zcat st ≤ 8 then zk kX4_readDesk 9 12 L st (mX4_errs [zvr (some q), v0] h) else none) ∧
  (∀ (a : Int) (L : List ZV) (h : PH), zev kX4_readDesk 12 L [zvi a] h = if a = 0 ∨ a = 1 then zrv (zvi a) h else none) ∧
  (∀ (a : Option Nat) (L st : List ZV) (h : PH), zev kX4_readDesk 13 (zvr a :: L) st h = zev kX4_readDesk 14 (zvr a :: L) (zvr a :: st) h) ∧
  (∀ (q : Nat) (L st : List ZV) (h : PH), zev kX4_readDesk 14 L (zvr (some q) :: st) h = if (ph_K h q).1 % 1000 = 18 ∧ zcat st ≤ 8 then zk kX4_readDesk 14 17 L st (mX4_goesOn [zvr (some q)] h) else none) ∧
  (∀ (a : Option Nat) (L st : List ZV) (h : PH), zev kX4_readDesk 17 (zvr a :: L) st h = zev kX4_readDesk 18 (zvr a :: L) (zvr a :: st) h) ∧
  (∀ (a : Option Nat) (L st : List ZV) (h : PH), zev kX4_readDesk 18 (zvr a :: L) st h = zev kX4_readDesk 19 (zvr a :: L) (zvr a :: st) h) ∧
  (∀ (L st : List ZV) (h : PH), zev kX4_readDesk 19 L st h = zev kX4_readDesk 21 L (zvr (some 1000000014) :: st) h) ∧
  (∀ (L st : List ZV) (h : PH), zev kX4_readDesk 21 L st h = zev kX4_readDesk 22 L (zvi 0 :: st) h) ∧
  (∀ (L st : List ZV) (h : PH), zev kX4_readDesk 22 L st h = zev kX4_readDesk 23 L (zvi 1 :: st) h) ∧
  (∀ (L st : List ZV) (h : PH), zev kX4_readDesk 23 L st h = zev kX4_readDesk 26 L (zvi 999 :: st) h) ∧
  (∀ (v0 v1 v2 v3 : ZV) (q : Nat) (L st : List ZV) (h : PH), zev kX4_readDesk 26 L (v3 :: v2 :: v1 :: v0 :: zvr (some q) :: st) h = if (ph_K h q).1 % 1000 = 18 ∧ zcat st ≤ 8 then zk kX4_readDesk 26 29 L st (mX4_after [zvr (some q), v0, v1, v2, v3] h) else none) ∧
  (∀ (a : Int) (q : Nat) (L st : List ZV) (h : PH), zev kX4_readDesk 29 L (zvi a :: zvr (some q) :: st) h = if (ph_K h q).1 = 18 ∧ (a = 0 ∨ a = 1) then zev kX4_readDesk 32 L st (st_I h q 19 a) else none) ∧
  (∀ (a : Option Nat) (L st : List ZV) (h : PH), zev kX4_readDesk 32 (zvr a :: L) st h = zev kX4_readDesk 33 (zvr a :: L) (zvr a :: st) h) ∧
  (∀ (q : Nat) (L st : List ZV) (h : PH), zev kX4_readDesk 33 L (zvr (some q) :: st) h = if (ph_K h q).1 % 1000 = 18 then zev kX4_readDesk 36 L (zvi (ph_I h q 19) :: st) h else none) ∧
  (∀ (a : Int) (L : List ZV) (h : PH), zev kX4_readDesk 36 L [zvi a] h = if a = 0 ∨ a = 1 then zrv (zvi a) h else none) :=
  ⟨fun a L st h => e_ld0R (n := 1) rfl,
  fun q L st h => e_getI (kd := 18) (k := 19) (n := 4) rfl,
  fun a L st h => e_ifeq (t := 13) (n := 7) rfl,
  fun a L st h => e_ld0R (n := 8) rfl,
  fun L st h => e_push (v := zvi 3) (n := 9) rfl,
  fun v0 q L st h => e_callV2 (F := mX4_errs) (kd := 18) (n := 12) rfl,
  fun a L h => e_retz rfl,
  fun a L st h => e_ld0R (n := 14) rfl,
  fun q L st h => e_callV1 (F := mX4_goesOn) (kd := 18) (n := 17) rfl,
  fun a L st h => e_ld0R (n := 18) rfl,
  fun a L st h => e_ld0R (n := 19) rfl,
  fun L st h => e_push (v := zvr (some 1000000014)) (n := 21) rfl,
  fun L st h => e_push (v := zvi 0) (n := 22) rfl,
  fun L st h => e_push (v := zvi 1) (n := 23) rfl,
  fun L st h => e_push (v := zvi 999) (n := 26) rfl,
  fun v0 v1 v2 v3 q L st h => e_callV5 (F := mX4_after) (kd := 18) (n := 29) rfl,
  fun a q L st h => e_putZ (kd := 18) (k := 19) (n := 32) rfl,
  fun a L st h => e_ld0R (n := 33) rfl,
  fun q L st h => e_getI (kd := 18) (k := 19) (n := 36) rfl,
  fun a L h => e_retz rfl⟩
theorem allX4_readDesk : zall yX4_readDesk cX4_readDesk 1 (some .boolean) 8 kX4_readDesk.1 :=
  ⟨k_aload_n dX4_readDesk_0,
  k_getI (C := RX4) (T := TX4) (N := 42) (ci := 2) (k := 19) (ref := "LinkTimesModel") dX4_readDesk_1 rfl in_X4 (by decide) q1818 (Or.inl rfl) (fun _ _ _ => rfl),
  k_ifeq (t := 13) dX4_readDesk_4 (by decide),
  k_aload_n dX4_readDesk_7,
  k_iconst dX4_readDesk_8,
  k_callV (y2 := yX4_errs) (C := RX4) (T0 := TX4) (ci := 2) dX4_readDesk_9 sndX4_errs rfl q1977 q1979 qs77 q137 q1980 (by decide +kernel) ⟨by decide, by decide⟩ (by decide) (by decide),
  k_zret dX4_readDesk_12,
  k_aload_n dX4_readDesk_13,
  k_callV (y2 := yX4_goesOn) (C := RX4) (T0 := TX4) (ci := 2) dX4_readDesk_14 sndX4_goesOn rfl q1954 q1956 qs72 q137 q1957 (by decide +kernel) ⟨by decide, by decide⟩ (by decide) (by decide),
  k_aload_n dX4_readDesk_17,
  k_aload_n dX4_readDesk_18,
  k_ldcS (tx := "span") (i := 4) dX4_readDesk_19 (by decide +kernel) (by decide),
  k_iconst dX4_readDesk_21,
  k_iconst dX4_readDesk_22,
  k_sipush dX4_readDesk_23,
  k_callV (y2 := yX4_after) (C := RX4) (T0 := TX4) (ci := 2) dX4_readDesk_26 sndX4_after rfl q1982 q1984 qs78 q137 q1985 (by decide +kernel) ⟨by decide, by decide⟩ (by decide) (by decide),
  k_putZ (C := RX4) (T := TX4) (N := 42) (ci := 2) (k := 19) (ref := "LinkTimesModel") dX4_readDesk_29 rfl in_X4 tyX4 tyX4_ok nmX4 (by decide) (Or.inl q1818) (Or.inl rfl) (Or.inl rfl) (tyX4_ok 19 (by decide)) (fun _ _ _ => rfl),
  k_aload_n dX4_readDesk_32,
  k_getI (C := RX4) (T := TX4) (N := 42) (ci := 2) (k := 19) (ref := "LinkTimesModel") dX4_readDesk_33 rfl in_X4 (by decide) q1818 (Or.inl rfl) (fun _ _ _ => rfl),
  k_zret dX4_readDesk_36, trivial⟩
theorem sndX4_readDesk : MSound 8 yX4_readDesk (ws_ yX4_readDesk cX4_readDesk 1 (some .boolean)) mX4_readDesk := msound_M (by decide) allX4_readDesk (fun _ _ => rfl)
/-! LinkTimesModel.begins(Z)Z -/
noncomputable def kX4_begins : ZM := ([(0, zi_ld 0 1 1), (1, zi_if (fun a => zc_ne a 0) 10 4), (4, zi_ld 1 0 5), (5, zi_push (zvi 5) 6), (6, zi_callV mX4_errs 18 2 9), (9, zi_retz), (10, zi_ld 1 0 11), (11, zi_getI 18 19 14), (14, zi_if (fun a => zc_ne a 0) 24 17), (17, zi_ld 1 0 18), (18, zi_push (zvi 6) 20), (20, zi_callV mX4_errs 18 2 23), (23, zi_retz), (24, zi_ld 1 0 25), (25, zi_callV mX4_goesOn 18 1 28), (28, zi_push (zvi 1) 29), (29, zi_retz)], fun _ _ => none)
noncomputable def mX4_begins : ZF := zrunM kX4_begins 2
theorem enX4_begins (x0 : Option Nat) (x1 : Int) (h : PH) : mX4_begins [zvr x0, zvi x1] h = zev kX4_begins 0 [zvr x0, zvi x1] [] h := zrunM_eq rfl rfl
theorem rX4_begins : (∀ (x0 : ZV) (a : Int) (L st : List ZV) (h : PH), zev kX4_begins 0 (x0 :: zvi a :: L) st h = zev kX4_begins 1 (x0 :: zvi a :: L) (zvi a :: st) h) ∧
  (∀ (a : Int) (L st : List ZV) (h : PH), zev kX4_begins 1 L (zvi a :: st) h = if a ≠ 0 then zev kX4_begins 10 L st h else zev kX4_begins 4 L st h) ∧
  (∀ (a : Option Nat) (L st : List ZV) (h : PH), zev kX4_begins 4 (zvr a :: L) st h = zev kX4_begins 5 (zvr a :: L) (zvr a :: st) h) ∧
  (∀ (L st : List ZV) (h : PH), zev kX4_begins 5 L st h = zev kX4_begins 6 L (zvi 5 :: st) h) ∧
  (∀ (v0 : ZV) (q : Nat) (L st : List ZV) (h : PH), zev kX4_begins 6 L (v0 :: zvr (some q) :: st) h = if (ph_K h q).1 % 1000 = 18 ∧ zcat st ≤ 8 then zk kX4_begins 6 9 L st (mX4_errs [zvr (some q), v0] h) else none) ∧
  (∀ (a : Int) (L : List ZV) (h : PH), zev kX4_begins 9 L [zvi a] h = if a = 0 ∨ a = 1 then zrv (zvi a) h else none) ∧
  (∀ (a : Option Nat) (L st : List ZV) (h : PH), zev kX4_begins 10 (zvr a :: L) st h = zev kX4_begins 11 (zvr a :: L) (zvr a :: st) h) ∧
  (∀ (q : Nat) (L st : List ZV) (h : PH), zev kX4_begins 11 L (zvr (some q) :: st) h = if (ph_K h q).1 % 1000 = 18 then zev kX4_begins 14 L (zvi (ph_I h q 19) :: st) h else none) ∧
  (∀ (a : Int) (L st : List ZV) (h : PH), zev kX4_begins 14 L (zvi a :: st) h = if a ≠ 0 then zev kX4_begins 24 L st h else zev kX4_begins 17 L st h) ∧
  (∀ (a : Option Nat) (L st : List ZV) (h : PH), zev kX4_begins 17 (zvr a :: L) st h = zev kX4_begins 18 (zvr a :: L) (zvr a :: st) h) ∧
  (∀ (L st : List ZV) (h : PH), zev kX4_begins 18 L st h = zev kX4_begins 20 L (zvi 6 :: st) h) ∧
  (∀ (v0 : ZV) (q : Nat) (L st : List ZV) (h : PH), zev kX4_begins 20 L (v0 :: zvr (some q) :: st) h = if (ph_K h q).1 % 1000 = 18 ∧ zcat st ≤ 8 then zk kX4_begins 20 23 L st (mX4_errs [zvr (some q), v0] h) else none) ∧
  (∀ (a : Int) (L : List ZV) (h : PH), zev kX4_begins 23 L [zvi a] h = if a = 0 ∨ a = 1 then zrv (zvi a) h else none) ∧
  (∀ (a : Option Nat) (L st : List ZV) (h : PH), zev kX4_begins 24 (zvr a :: L) st h = zev kX4_begins 25 (zvr a :: L) (zvr a :: st) h) ∧
  (∀ (q : Nat) (L st : List ZV) (h : PH), zev kX4_begins 25 L (zvr (some q) :: st) h = if (ph_K h q).1 % 1000 = 18 ∧ zcat st ≤ 8 then zk kX4_begins 25 28 L st (mX4_goesOn [zvr (some q)] h) else none) ∧
  (∀ (L st : List ZV) (h : PH), zev kX4_begins 28 L st h = zev kX4_begins 29 L (zvi 1 :: st) h) ∧
  (∀ (a : Int) (L : List ZV) (h : PH), zev kX4_begins 29 L [zvi a] h = if a = 0 ∨ a = 1 then zrv (zvi a) h else none) :=
  ⟨fun x0 a L st h => e_ld1I (n := 1) rfl,
  fun a L st h => e_ifne (t := 10) (n := 4) rfl,
  fun a L st h => e_ld0R (n := 5) rfl,
  fun L st h => e_push (v := zvi 5) (n := 6) rfl,
  fun v0 q L st h => e_callV2 (F := mX4_errs) (kd := 18) (n := 9) rfl,
  fun a L h => e_retz rfl,
  fun a L st h => e_ld0R (n := 11) rfl,
  fun q L st h => e_getI (kd := 18) (k := 19) (n := 14) rfl,
  fun a L st h => e_ifne (t := 24) (n := 17) rfl,
  fun a L st h => e_ld0R (n := 18) rfl,
  fun L st h => e_push (v := zvi 6) (n := 20) rfl,
  fun v0 q L st h => e_callV2 (F := mX4_errs) (kd := 18) (n := 23) rfl,
  fun a L h => e_retz rfl,
  fun a L st h => e_ld0R (n := 25) rfl,
  fun q L st h => e_callV1 (F := mX4_goesOn) (kd := 18) (n := 28) rfl,
  fun L st h => e_push (v := zvi 1) (n := 29) rfl,
  fun a L h => e_retz rfl⟩
theorem allX4_begins : zall yX4_begins cX4_begins 2 (some .boolean) 3 kX4_begins.1 :=
  ⟨k_iload_n dX4_begins_0,
  k_ifne (t := 10) dX4_begins_1 (by decide),
  k_aload_n dX4_begins_4,
  k_iconst dX4_begins_5,
  k_callV (y2 := yX4_errs) (C := RX4) (T0 := TX4) (ci := 2) dX4_begins_6 sndX4_errs rfl q1977 q1979 qs77 q137 q1980 (by decide +kernel) ⟨by decide, by decide⟩ (by decide) (by decide),
  k_zret dX4_begins_9,
  k_aload_n dX4_begins_10,
  k_getI (C := RX4) (T := TX4) (N := 42) (ci := 2) (k := 19) (ref := "LinkTimesModel") dX4_begins_11 rfl in_X4 (by decide) q1818 (Or.inl rfl) (fun _ _ _ => rfl),
  k_ifne (t := 24) dX4_begins_14 (by decide),
  k_aload_n dX4_begins_17,
  k_bipush dX4_begins_18,
  k_callV (y2 := yX4_errs) (C := RX4) (T0 := TX4) (ci := 2) dX4_begins_20 sndX4_errs rfl q1977 q1979 qs77 q137 q1980 (by decide +kernel) ⟨by decide, by decide⟩ (by decide) (by decide),
  k_zret dX4_begins_23,
  k_aload_n dX4_begins_24,
  k_callV (y2 := yX4_goesOn) (C := RX4) (T0 := TX4) (ci := 2) dX4_begins_25 sndX4_goesOn rfl q1954 q1956 qs72 q137 q1957 (by decide +kernel) ⟨by decide, by decide⟩ (by decide) (by decide),
  k_iconst dX4_begins_28,
  k_zret dX4_begins_29, trivial⟩
theorem sndX4_begins : MSound 3 yX4_begins (ws_ yX4_begins cX4_begins 2 (some .boolean)) mX4_begins := msound_M (by decide) allX4_begins (fun _ _ => rfl)
