set_option maxRecDepth 100000
/-! Z program: jdk/internal/util/Preconditions (written by gen/gen_prog.py) -/
set_option maxRecDepth 100000
/-! jdk/internal/util/Preconditions.checkIndex(IILjava/util/function/BiFunction;)I -/
noncomputable def kJ10_checkIndex : ZM := ([(0, zi_ld 0 0 1), (1, zi_if (fun a => zc_lt a 0) 9 4), (4, zi_ld 0 0 5), (5, zi_ld 0 1 6), (6, zi_cmp zc_lt 16 9), (9, zi_ld 1 2 10), (10, zi_ld 0 0 11), (11, zi_ld 0 1 12), (12, zi_stuck), (15, zi_throw), (16, zi_ld 0 0 17), (17, zi_retv 0)], fun _ _ => none)
noncomputable def mJ10_checkIndex : ZF := zrunM kJ10_checkIndex 3
theorem enJ10_checkIndex (x0 : Int) (x1 : Int) (x2 : Option Nat) (h : PH) : mJ10_checkIndex [zvi x0, zvi x1, zvr x2] h = zev kJ10_checkIndex 0 [zvi x0, zvi x1, zvr x2] [] h := zrunM_eq rfl rfl
theorem rJ10_checkIndex : (∀ (a : Int) (L st : List ZV) (h : PH), zev kJ10_checkIndex 0 (zvi a :: L) st h = zev kJ10_checkIndex 1 (zvi a :: L) (zvi a :: st) h) ∧
  (∀ (a : Int) (L st : List ZV) (h : PH), zev kJ10_checkIndex 1 L (zvi a :: st) h = if a < 0 then zev kJ10_checkIndex 9 L st h else zev kJ10_checkIndex 4 L st h) ∧
  (∀ (a : Int) (L st : List ZV) (h : PH), zev kJ10_checkIndex 4 (zvi a :: L) st h = zev kJ10_checkIndex 5 (zvi a :: L) (zvi a :: st) h) ∧
  (∀ (x0 : ZV) (a : Int) (L st : List ZV) (h : PH), zev kJ10_checkIndex 5 (x0 :: zvi a :: L) st h = zev kJ10_checkIndex 6 (x0 :: zvi a :: L) (zvi a :: st) h) ∧
  (∀ (a b : Int) (L st : List ZV) (h : PH), zev kJ10_checkIndex 6 L (zvi b :: zvi a :: st) h = if a < b then zev kJ10_checkIndex 16 L st h else zev kJ10_checkIndex 9 L st h) ∧
  (∀ (x0 x1 : ZV) (a : Option Nat) (L st : List ZV) (h : PH), zev kJ10_checkIndex 9 (x0 :: x1 :: zvr a :: L) st h = zev kJ10_checkIndex 10 (x0 :: x1 :: zvr a :: L) (zvr a :: st) h) ∧
  (∀ (a : Int) (L st : List ZV) (h : PH), zev kJ10_checkIndex 10 (zvi a :: L) st h = zev kJ10_checkIndex 11 (zvi a :: L) (zvi a :: st) h) ∧
  (∀ (x0 : ZV) (a : Int) (L st : List ZV) (h : PH), zev kJ10_checkIndex 11 (x0 :: zvi a :: L) st h = zev kJ10_checkIndex 12 (x0 :: zvi a :: L) (zvi a :: st) h) ∧
  (∀ (q : Nat) (L st : List ZV) (h : PH), zev kJ10_checkIndex 15 L (zvr (some q) :: st) h = if (ph_K h q).1 ≠ 0 then zk kJ10_checkIndex 15 0 L [] (zrx q h) else none) ∧
  (∀ (a : Int) (L st : List ZV) (h : PH), zev kJ10_checkIndex 16 (zvi a :: L) st h = zev kJ10_checkIndex 17 (zvi a :: L) (zvi a :: st) h) ∧
  (∀ (a : Int) (L : List ZV) (h : PH), zev kJ10_checkIndex 17 L [zvi a] h = zrv (zvi a) h) :=
  ⟨fun a L st h => e_ld0I (n := 1) rfl,
  fun a L st h => e_iflt (t := 9) (n := 4) rfl,
  fun a L st h => e_ld0I (n := 5) rfl,
  fun x0 a L st h => e_ld1I (n := 6) rfl,
  fun a b L st h => e_cmplt (t := 16) (n := 9) rfl,
  fun x0 x1 a L st h => e_ld2R (n := 10) rfl,
  fun a L st h => e_ld0I (n := 11) rfl,
  fun x0 a L st h => e_ld1I (n := 12) rfl,
  fun q L st h => e_throw (n := 0) rfl,
  fun a L st h => e_ld0I (n := 17) rfl,
  fun a L h => e_retI rfl⟩
theorem allJ10_checkIndex : zall yJ10_checkIndex cJ10_checkIndex 3 (some .int) 1 kJ10_checkIndex.1 :=
  ⟨k_iload_n dJ10_checkIndex_0,
  k_iflt (t := 9) dJ10_checkIndex_1 (by decide),
  k_iload_n dJ10_checkIndex_4,
  k_iload_n dJ10_checkIndex_5,
  k_cmplt (t := 16) dJ10_checkIndex_6 (by decide),
  k_aload_n dJ10_checkIndex_9,
  k_iload_n dJ10_checkIndex_10,
  k_iload_n dJ10_checkIndex_11,
  k_stuck,
  k_throw dJ10_checkIndex_15,
  k_iload_n dJ10_checkIndex_16,
  k_iret dJ10_checkIndex_17, trivial⟩
theorem sndJ10_checkIndex : MSound 1 yJ10_checkIndex (ws_ yJ10_checkIndex cJ10_checkIndex 3 (some .int)) mJ10_checkIndex := msound_M (by decide) allJ10_checkIndex (fun _ _ => rfl)
/-! Z program: java/lang/String (written by gen/gen_prog.py) -/
set_option maxRecDepth 100000
/-! java/lang/String.coder()B -/
noncomputable def kJ8_coder : ZM := ([(0, zi_push (zvi 1) 3), (3, zi_if (fun a => zc_eq a 0) 13 6), (6, zi_ld 1 0 7), (7, zi_getSc 10), (10, zi_goto 14), (13, zi_push (zvi 1) 14), (14, zi_retn 1)], fun _ _ => none)
noncomputable def mJ8_coder : ZF := zrunM kJ8_coder 1
theorem enJ8_coder (x0 : Option Nat) (h : PH) : mJ8_coder [zvr x0] h = zev kJ8_coder 0 [zvr x0] [] h := zrunM_eq rfl rfl
theorem rJ8_coder : (∀ (L st : List ZV) (h : PH), zev kJ8_coder 0 L st h = zev kJ8_coder 3 L (zvi 1 :: st) h) ∧
  (∀ (a : Int) (L st : List ZV) (h : PH), zev kJ8_coder 3 L (zvi a :: st) h = if a = 0 then zev kJ8_coder 13 L st h else zev kJ8_coder 6 L st h) ∧
  (∀ (a : Option Nat) (L st : List ZV) (h : PH), zev kJ8_coder 6 (zvr a :: L) st h = zev kJ8_coder 7 (zvr a :: L) (zvr a :: st) h) ∧
  (∀ (q : Nat) (L st : List ZV) (h : PH), zev kJ8_coder 7 L (zvr (some q) :: st) h = if 1000000010 ≤ q ∧ q < 1000000021 then zev kJ8_coder 10 L (zvi 0 :: st) h else none) ∧
  (∀ (L st : List ZV) (h : PH), zev kJ8_coder 10 L st h = zev kJ8_coder 14 L st h) ∧
  (∀ (L st : List ZV) (h : PH), zev kJ8_coder 13 L st h = zev kJ8_coder 14 L (zvi 1 :: st) h) ∧
  (∀ (a : Int) (L : List ZV) (h : PH), zev kJ8_coder 14 L [zvi a] h = if 0 ≤ a ∧ a ≤ 1 then zrv (zvi a) h else none) :=
  ⟨fun L st h => e_push (v := zvi 1) (n := 3) rfl,
  fun a L st h => e_ifeq (t := 13) (n := 6) rfl,
  fun a L st h => e_ld0R (n := 7) rfl,
  fun q L st h => e_getSc (n := 10) rfl,
  fun L st h => e_goto (t := 14) rfl,
  fun L st h => e_push (v := zvi 1) (n := 14) rfl,
  fun a L h => e_retn (hi := 1) rfl⟩
theorem allJ8_coder : zall yJ8_coder cJ8_coder 1 (some .byte) 1 kJ8_coder.1 :=
  ⟨k_gets (C := "java/lang/String") dJ8_coder_0 (List.mem_of_getElem? (i := 6) rfl) q516 rfl ⟨by decide, by decide⟩,
  k_ifeq (t := 13) dJ8_coder_3 (by decide),
  k_aload_n dJ8_coder_6,
  k_getSc dJ8_coder_7 q2421,
  k_goto (t := 14) dJ8_coder_10 (by decide),
  k_iconst dJ8_coder_13,
  k_retn (hi := 1) dJ8_coder_14 rfl zn_byte, trivial⟩
theorem sndJ8_coder : MSound 1 yJ8_coder (ws_ yJ8_coder cJ8_coder 1 (some .byte)) mJ8_coder := msound_M (by decide) allJ8_coder (fun _ _ => rfl)
/-! java/lang/String.length()I -/
noncomputable def kJ8_length : ZM := ([(0, zi_ld 1 0 1), (1, zi_getSv 4), (4, zi_alen 5), (5, zi_ld 1 0 6), (6, zi_callVS mJ8_coder 1 9), (9, zi_bin zshr 10), (10, zi_retv 0)], fun _ _ => none)
noncomputable def mJ8_length : ZF := zrunM kJ8_length 1
theorem enJ8_length (x0 : Option Nat) (h : PH) : mJ8_length [zvr x0] h = zev kJ8_length 0 [zvr x0] [] h := zrunM_eq rfl rfl
theorem rJ8_length : (∀ (a : Option Nat) (L st : List ZV) (h : PH), zev kJ8_length 0 (zvr a :: L) st h = zev kJ8_length 1 (zvr a :: L) (zvr a :: st) h) ∧
  (∀ (q : Nat) (L st : List ZV) (h : PH), zev kJ8_length 1 L (zvr (some q) :: st) h = if 1000000010 ≤ q ∧ q < 1000000021 then zev kJ8_length 4 L (zvr (some (q + 100)) :: st) h else none) ∧
  (∀ (q : Nat) (L st : List ZV) (h : PH), zev kJ8_length 4 L (zvr (some q) :: st) h = if 1 ≤ (ph_K h q).1 % 1000 ∧ (ph_K h q).1 % 1000 ≤ 7 then zev kJ8_length 5 L (zvi (ph_K h q).2 :: st) h else none) ∧
  (∀ (a : Option Nat) (L st : List ZV) (h : PH), zev kJ8_length 5 (zvr a :: L) st h = zev kJ8_length 6 (zvr a :: L) (zvr a :: st) h) ∧
  (∀ (q : Nat) (L st : List ZV) (h : PH), zev kJ8_length 6 L (zvr (some q) :: st) h = if (1000000010 ≤ q ∧ q < 1000000021) ∧ zcat st ≤ 8 then zk kJ8_length 6 9 L st (mJ8_coder [zvr (some q)] h) else none) ∧
  (∀ (a b : Int) (L st : List ZV) (h : PH), zev kJ8_length 9 L (zvi b :: zvi a :: st) h = zev kJ8_length 10 L (zvi (zshr a b) :: st) h) ∧
  (∀ (a : Int) (L : List ZV) (h : PH), zev kJ8_length 10 L [zvi a] h = zrv (zvi a) h) :=
  ⟨fun a L st h => e_ld0R (n := 1) rfl,
  fun q L st h => e_getSv (n := 4) rfl,
  fun q L st h => e_alen (n := 5) rfl,
  fun a L st h => e_ld0R (n := 6) rfl,
  fun q L st h => e_callVS1 (F := mJ8_coder) (n := 9) rfl,
  fun a b L st h => e_bin (f := zshr) (n := 10) rfl,
  fun a L h => e_retI rfl⟩
theorem allJ8_length : zall yJ8_length cJ8_length 1 (some .int) 2 kJ8_length.1 :=
  ⟨k_aload_n dJ8_length_0,
  k_getSv dJ8_length_1 q2420,
  k_alen dJ8_length_4,
  k_aload_n dJ8_length_5,
  k_callVS (y2 := yJ8_coder) dJ8_length_6 sndJ8_coder q512 q513 q514 q142 q515 (by decide +kernel) ⟨by decide, by decide⟩ (by decide) (by decide),
  k_ishr dJ8_length_9,
  k_iret dJ8_length_10, trivial⟩
theorem sndJ8_length : MSound 2 yJ8_length (ws_ yJ8_length cJ8_length 1 (some .int)) mJ8_length := msound_M (by decide) allJ8_length (fun _ _ => rfl)
/-! java/lang/String.isLatin1()Z -/
noncomputable def kJ8_isLatin1 : ZM := ([(0, zi_push (zvi 1) 3), (3, zi_if (fun a => zc_eq a 0) 17 6), (6, zi_ld 1 0 7), (7, zi_getSc 10), (10, zi_if (fun a => zc_ne a 0) 17 13), (13, zi_push (zvi 1) 14), (14, zi_goto 18), (17, zi_push (zvi 0) 18), (18, zi_retz)], fun _ _ => none)
noncomputable def mJ8_isLatin1 : ZF := zrunM kJ8_isLatin1 1
theorem enJ8_isLatin1 (x0 : Option Nat) (h : PH) : mJ8_isLatin1 [zvr x0] h = zev kJ8_isLatin1 0 [zvr x0] [] h := zrunM_eq rfl rfl
theorem rJ8_isLatin1 : (∀ (L st : List ZV) (h : PH), zev kJ8_isLatin1 0 L st h = zev kJ8_isLatin1 3 L (zvi 1 :: st) h) ∧
  (∀ (a : Int) (L st : List ZV) (h : PH), zev kJ8_isLatin1 3 L (zvi a :: st) h = if a = 0 then zev kJ8_isLatin1 17 L st h else zev kJ8_isLatin1 6 L st h) ∧
  (∀ (a : Option Nat) (L st : List ZV) (h : PH), zev kJ8_isLatin1 6 (zvr a :: L) st h = zev kJ8_isLatin1 7 (zvr a :: L) (zvr a :: st) h) ∧
  (∀ (q : Nat) (L st : List ZV) (h : PH), zev kJ8_isLatin1 7 L (zvr (some q) :: st) h = if 1000000010 ≤ q ∧ q < 1000000021 then zev kJ8_isLatin1 10 L (zvi 0 :: st) h else none) ∧
  (∀ (a : Int) (L st : List ZV) (h : PH), zev kJ8_isLatin1 10 L (zvi a :: st) h = if a ≠ 0 then zev kJ8_isLatin1 17 L st h else zev kJ8_isLatin1 13 L st h) ∧
  (∀ (L st : List ZV) (h : PH), zev kJ8_isLatin1 13 L st h = zev kJ8_isLatin1 14 L (zvi 1 :: st) h) ∧
  (∀ (L st : List ZV) (h : PH), zev kJ8_isLatin1 14 L st h = zev kJ8_isLatin1 18 L st h) ∧
  (∀ (L st : List ZV) (h : PH), zev kJ8_isLatin1 17 L st h = zev kJ8_isLatin1 18 L (zvi 0 :: st) h) ∧
  (∀ (a : Int) (L : List ZV) (h : PH), zev kJ8_isLatin1 18 L [zvi a] h = if a = 0 ∨ a = 1 then zrv (zvi a) h else none) :=
  ⟨fun L st h => e_push (v := zvi 1) (n := 3) rfl,
  fun a L st h => e_ifeq (t := 17) (n := 6) rfl,
  fun a L st h => e_ld0R (n := 7) rfl,
  fun q L st h => e_getSc (n := 10) rfl,
  fun a L st h => e_ifne (t := 17) (n := 13) rfl,
  fun L st h => e_push (v := zvi 1) (n := 14) rfl,
  fun L st h => e_goto (t := 18) rfl,
  fun L st h => e_push (v := zvi 0) (n := 18) rfl,
  fun a L h => e_retz rfl⟩
theorem allJ8_isLatin1 : zall yJ8_isLatin1 cJ8_isLatin1 1 (some .boolean) 1 kJ8_isLatin1.1 :=
  ⟨k_gets (C := "java/lang/String") dJ8_isLatin1_0 (List.mem_of_getElem? (i := 6) rfl) q516 rfl ⟨by decide, by decide⟩,
  k_ifeq (t := 17) dJ8_isLatin1_3 (by decide),
  k_aload_n dJ8_isLatin1_6,
  k_getSc dJ8_isLatin1_7 q2421,
  k_ifne (t := 17) dJ8_isLatin1_10 (by decide),
  k_iconst dJ8_isLatin1_13,
  k_goto (t := 18) dJ8_isLatin1_14 (by decide),
  k_iconst dJ8_isLatin1_17,
  k_zret dJ8_isLatin1_18, trivial⟩
theorem sndJ8_isLatin1 : MSound 1 yJ8_isLatin1 (ws_ yJ8_isLatin1 cJ8_isLatin1 1 (some .boolean)) mJ8_isLatin1 := msound_M (by decide) allJ8_isLatin1 (fun _ _ => rfl)
/-! java/lang/String.checkIndex(II)V -/
noncomputable def kJ8_checkIndex : ZM := ([(0, zi_ld 0 0 1), (1, zi_ld 0 1 2), (2, zi_push (zvr (some 1000000006)) 5), (5, zi_callS mJ10_checkIndex 3 8), (8, zi_pop 9), (9, zi_ret)], fun _ _ => none)
noncomputable def mJ8_checkIndex : ZF := zrunM kJ8_checkIndex 2
theorem enJ8_checkIndex (x0 : Int) (x1 : Int) (h : PH) : mJ8_checkIndex [zvi x0, zvi x1] h = zev kJ8_checkIndex 0 [zvi x0, zvi x1] [] h := zrunM_eq rfl rfl
theorem rJ8_checkIndex : (∀ (a : Int) (L st : List ZV) (h : PH), zev kJ8_checkIndex 0 (zvi a :: L) st h = zev kJ8_checkIndex 1 (zvi a :: L) (zvi a :: st) h) ∧
  (∀ (x0 : ZV) (a : Int) (L st : List ZV) (h : PH), zev kJ8_checkIndex 1 (x0 :: zvi a :: L) st h = zev kJ8_checkIndex 2 (x0 :: zvi a :: L) (zvi a :: st) h) ∧
  (∀ (L st : List ZV) (h : PH), zev kJ8_checkIndex 2 L st h = zev kJ8_checkIndex 5 L (zvr (some 1000000006) :: st) h) ∧
  (∀ (v0 v1 v2 : ZV) (L st : List ZV) (h : PH), zev kJ8_checkIndex 5 L (v2 :: v1 :: v0 :: st) h = if zcat st ≤ 8 then zk kJ8_checkIndex 5 8 L st (mJ10_checkIndex [v0, v1, v2] h) else none) ∧
  (∀ (a : Int) (L st : List ZV) (h : PH), zev kJ8_checkIndex 8 L (zvi a :: st) h = zev kJ8_checkIndex 9 L st h) ∧
  (∀ (a : Option Nat) (L st : List ZV) (h : PH), zev kJ8_checkIndex 8 L (zvr a :: st) h = zev kJ8_checkIndex 9 L st h) ∧
  (∀ (L : List ZV) (h : PH), zev kJ8_checkIndex 9 L [] h = zr0 h) :=
  ⟨fun a L st h => e_ld0I (n := 1) rfl,
  fun x0 a L st h => e_ld1I (n := 2) rfl,
  fun L st h => e_push (v := zvr (some 1000000006)) (n := 5) rfl,
  fun v0 v1 v2 L st h => e_callS3 (F := mJ10_checkIndex) (n := 8) rfl,
  fun a L st h => e_popI (n := 9) rfl,
  fun a L st h => e_popR (n := 9) rfl,
  fun L h => e_ret rfl⟩
theorem allJ8_checkIndex : zall yJ8_checkIndex cJ8_checkIndex 2 none 2 kJ8_checkIndex.1 :=
  ⟨k_iload_n dJ8_checkIndex_0,
  k_iload_n dJ8_checkIndex_1,
  k_gets (C := "jdk/internal/util/Preconditions") dJ8_checkIndex_2 (List.mem_of_getElem? (i := 5) rfl) q532 rfl trivial,
  k_callS (y2 := yJ10_checkIndex) dJ8_checkIndex_5 sndJ10_checkIndex q534 q535 q144 q536 (by decide +kernel) ⟨by decide, by decide⟩ (by decide) (by decide),
  k_pop dJ8_checkIndex_8,
  k_ret dJ8_checkIndex_9, trivial⟩
theorem sndJ8_checkIndex : MSound 2 yJ8_checkIndex (ws_ yJ8_checkIndex cJ8_checkIndex 2 none) mJ8_checkIndex := msound_M (by decide) allJ8_checkIndex (fun _ _ => rfl)
/-! Z program: java/lang/StringLatin1 (written by gen/gen_prog.py) -/
set_option maxRecDepth 100000
/-! java/lang/StringLatin1.charAt([BI)C -/
noncomputable def kJ9_charAt : ZM := ([(0, zi_ld 0 1 1), (1, zi_ld 1 0 2), (2, zi_alen 3), (3, zi_callS mJ8_checkIndex 2 6), (6, zi_ld 1 0 7), (7, zi_ld 0 1 8), (8, zi_ald 2 9), (9, zi_push (zvi 255) 12), (12, zi_bin zand 13), (13, zi_un zi2c 14), (14, zi_retn 127)], fun _ _ => none)
noncomputable def mJ9_charAt : ZF := zrunM kJ9_charAt 2
theorem enJ9_charAt (x0 : Option Nat) (x1 : Int) (h : PH) : mJ9_charAt [zvr x0, zvi x1] h = zev kJ9_charAt 0 [zvr x0, zvi x1] [] h := zrunM_eq rfl rfl
theorem rJ9_charAt : (∀ (x0 : ZV) (a : Int) (L st : List ZV) (h : PH), zev kJ9_charAt 0 (x0 :: zvi a :: L) st h = zev kJ9_charAt 1 (x0 :: zvi a :: L) (zvi a :: st) h) ∧
  (∀ (a : Option Nat) (L st : List ZV) (h : PH), zev kJ9_charAt 1 (zvr a :: L) st h = zev kJ9_charAt 2 (zvr a :: L) (zvr a :: st) h) ∧
  (∀ (q : Nat) (L st : List ZV) (h : PH), zev kJ9_charAt 2 L (zvr (some q) :: st) h = if 1 ≤ (ph_K h q).1 % 1000 ∧ (ph_K h q).1 % 1000 ≤ 7 then zev kJ9_charAt 3 L (zvi (ph_K h q).2 :: st) h else none) ∧
  (∀ (v0 v1 : ZV) (L st : List ZV) (h : PH), zev kJ9_charAt 3 L (v1 :: v0 :: st) h = if zcat st ≤ 8 then zk kJ9_charAt 3 6 L st (mJ8_checkIndex [v0, v1] h) else none) ∧
  (∀ (a : Option Nat) (L st : List ZV) (h : PH), zev kJ9_charAt 6 (zvr a :: L) st h = zev kJ9_charAt 7 (zvr a :: L) (zvr a :: st) h) ∧
  (∀ (x0 : ZV) (a : Int) (L st : List ZV) (h : PH), zev kJ9_charAt 7 (x0 :: zvi a :: L) st h = zev kJ9_charAt 8 (x0 :: zvi a :: L) (zvi a :: st) h) ∧
  (∀ (j : Int) (q : Nat) (L st : List ZV) (h : PH), zev kJ9_charAt 8 L (zvi j :: zvr (some q) :: st) h = if (ph_K h q).1 % 1000 = 2 ∧ 0 ≤ j ∧ j < (ph_K h q).2 then zev kJ9_charAt 9 L (zvi (ph_I h q j) :: st) h else none) ∧
  (∀ (L st : List ZV) (h : PH), zev kJ9_charAt 9 L st h = zev kJ9_charAt 12 L (zvi 255 :: st) h) ∧
  (∀ (a b : Int) (L st : List ZV) (h : PH), zev kJ9_charAt 12 L (zvi b :: zvi a :: st) h = zev kJ9_charAt 13 L (zvi (zand a b) :: st) h) ∧
  (∀ (a : Int) (L st : List ZV) (h : PH), zev kJ9_charAt 13 L (zvi a :: st) h = zev kJ9_charAt 14 L (zvi (zi2c a) :: st) h) ∧
  (∀ (a : Int) (L : List ZV) (h : PH), zev kJ9_charAt 14 L [zvi a] h = if 0 ≤ a ∧ a ≤ 127 then zrv (zvi a) h else none) :=
  ⟨fun x0 a L st h => e_ld1I (n := 1) rfl,
  fun a L st h => e_ld0R (n := 2) rfl,
  fun q L st h => e_alen (n := 3) rfl,
  fun v0 v1 L st h => e_callS2 (F := mJ8_checkIndex) (n := 6) rfl,
  fun a L st h => e_ld0R (n := 7) rfl,
  fun x0 a L st h => e_ld1I (n := 8) rfl,
  fun j q L st h => e_ald (kd := 2) (n := 9) rfl,
  fun L st h => e_push (v := zvi 255) (n := 12) rfl,
  fun a b L st h => e_bin (f := zand) (n := 13) rfl,
  fun a L st h => e_un (g := zi2c) (n := 14) rfl,
  fun a L h => e_retn (hi := 127) rfl⟩
theorem allJ9_charAt : zall yJ9_charAt cJ9_charAt 2 (some .char) 3 kJ9_charAt.1 :=
  ⟨k_iload_n dJ9_charAt_0,
  k_aload_n dJ9_charAt_1,
  k_alen dJ9_charAt_2,
  k_callS (y2 := yJ8_checkIndex) dJ9_charAt_3 sndJ8_checkIndex q529 q530 q142 q531 (by decide +kernel) ⟨by decide, by decide⟩ (by decide) (by decide),
  k_aload_n dJ9_charAt_6,
  k_iload_n dJ9_charAt_7,
  k_bald dJ9_charAt_8,
  k_sipush dJ9_charAt_9,
  k_iand dJ9_charAt_12,
  k_i2c dJ9_charAt_13,
  k_retn (hi := 127) dJ9_charAt_14 rfl zn_char, trivial⟩
theorem sndJ9_charAt : MSound 3 yJ9_charAt (ws_ yJ9_charAt cJ9_charAt 2 (some .char)) mJ9_charAt := msound_M (by decide) allJ9_charAt (fun _ _ => rfl)
/-! Z program: java/lang/String (written by gen/gen_prog.py) -/
set_option maxRecDepth 100000
/-! java/lang/String.charAt(I)C -/
noncomputable def kJ8_charAt : ZM := ([(0, zi_ld 1 0 1), (1, zi_callVS mJ8_isLatin1 1 4), (4, zi_if (fun a => zc_eq a 0) 16 7), (7, zi_ld 1 0 8), (8, zi_getSv 11), (11, zi_ld 0 1 12), (12, zi_callS mJ9_charAt 2 15), (15, zi_retn 127), (16, zi_ld 1 0 17), (17, zi_getSv 20), (20, zi_ld 0 1 21), (21, zi_stuck), (24, zi_retn 127)], fun _ _ => none)
noncomputable def mJ8_charAt : ZF := zrunM kJ8_charAt 2
theorem enJ8_charAt (x0 : Option Nat) (x1 : Int) (h : PH) : mJ8_charAt [zvr x0, zvi x1] h = zev kJ8_charAt 0 [zvr x0, zvi x1] [] h := zrunM_eq rfl rfl
theorem rJ8_charAt : (∀ (a : Option Nat) (L st : List ZV) (h : PH), zev kJ8_charAt 0 (zvr a :: L) st h = zev kJ8_charAt 1 (zvr a :: L) (zvr a :: st) h) ∧
  (∀ (q : Nat) (L st : List ZV) (h : PH), zev kJ8_charAt 1 L (zvr (some q) :: st) h = if (1000000010 ≤ q ∧ q < 1000000021) ∧ zcat st ≤ 8 then zk kJ8_charAt 1 4 L st (mJ8_isLatin1 [zvr (some q)] h) else none) ∧
  (∀ (a : Int) (L st : List ZV) (h : PH), zev kJ8_charAt 4 L (zvi a :: st) h = if a = 0 then zev kJ8_charAt 16 L st h else zev kJ8_charAt 7 L st h) ∧
  (∀ (a : Option Nat) (L st : List ZV) (h : PH), zev kJ8_charAt 7 (zvr a :: L) st h = zev kJ8_charAt 8 (zvr a :: L) (zvr a :: st) h) ∧
  (∀ (q : Nat) (L st : List ZV) (h : PH), zev kJ8_charAt 8 L (zvr (some q) :: st) h = if 1000000010 ≤ q ∧ q < 1000000021 then zev kJ8_charAt 11 L (zvr (some (q + 100)) :: st) h else none) ∧
  (∀ (x0 : ZV) (a : Int) (L st : List ZV) (h : PH), zev kJ8_charAt 11 (x0 :: zvi a :: L) st h = zev kJ8_charAt 12 (x0 :: zvi a :: L) (zvi a :: st) h) ∧
  (∀ (v0 v1 : ZV) (L st : List ZV) (h : PH), zev kJ8_charAt 12 L (v1 :: v0 :: st) h = if zcat st ≤ 8 then zk kJ8_charAt 12 15 L st (mJ9_charAt [v0, v1] h) else none) ∧
  (∀ (a : Int) (L : List ZV) (h : PH), zev kJ8_charAt 15 L [zvi a] h = if 0 ≤ a ∧ a ≤ 127 then zrv (zvi a) h else none) ∧
  (∀ (a : Option Nat) (L st : List ZV) (h : PH), zev kJ8_charAt 16 (zvr a :: L) st h = zev kJ8_charAt 17 (zvr a :: L) (zvr a :: st) h) ∧
  (∀ (q : Nat) (L st : List ZV) (h : PH), zev kJ8_charAt 17 L (zvr (some q) :: st) h = if 1000000010 ≤ q ∧ q < 1000000021 then zev kJ8_charAt 20 L (zvr (some (q + 100)) :: st) h else none) ∧
  (∀ (x0 : ZV) (a : Int) (L st : List ZV) (h : PH), zev kJ8_charAt 20 (x0 :: zvi a :: L) st h = zev kJ8_charAt 21 (x0 :: zvi a :: L) (zvi a :: st) h) ∧
  (∀ (a : Int) (L : List ZV) (h : PH), zev kJ8_charAt 24 L [zvi a] h = if 0 ≤ a ∧ a ≤ 127 then zrv (zvi a) h else none) :=
  ⟨fun a L st h => e_ld0R (n := 1) rfl,
  fun q L st h => e_callVS1 (F := mJ8_isLatin1) (n := 4) rfl,
  fun a L st h => e_ifeq (t := 16) (n := 7) rfl,
  fun a L st h => e_ld0R (n := 8) rfl,
  fun q L st h => e_getSv (n := 11) rfl,
  fun x0 a L st h => e_ld1I (n := 12) rfl,
  fun v0 v1 L st h => e_callS2 (F := mJ9_charAt) (n := 15) rfl,
  fun a L h => e_retn (hi := 127) rfl,
  fun a L st h => e_ld0R (n := 17) rfl,
  fun q L st h => e_getSv (n := 20) rfl,
  fun x0 a L st h => e_ld1I (n := 21) rfl,
  fun a L h => e_retn (hi := 127) rfl⟩
theorem allJ8_charAt : zall yJ8_charAt cJ8_charAt 2 (some .char) 5 kJ8_charAt.1 :=
  ⟨k_aload_n dJ8_charAt_0,
  k_callVS (y2 := yJ8_isLatin1) dJ8_charAt_1 sndJ8_isLatin1 q522 q523 q524 q142 q525 (by decide +kernel) ⟨by decide, by decide⟩ (by decide) (by decide),
  k_ifeq (t := 16) dJ8_charAt_4 (by decide),
  k_aload_n dJ8_charAt_7,
  k_getSv dJ8_charAt_8 q2420,
  k_iload_n dJ8_charAt_11,
  k_callS (y2 := yJ9_charAt) dJ8_charAt_12 sndJ9_charAt q526 q527 q143 q528 (by decide +kernel) ⟨by decide, by decide⟩ (by decide) (by decide),
  k_retn (hi := 127) dJ8_charAt_15 rfl zn_char,
  k_aload_n dJ8_charAt_16,
  k_getSv dJ8_charAt_17 q2420,
  k_iload_n dJ8_charAt_20,
  k_stuck,
  k_retn (hi := 127) dJ8_charAt_24 rfl zn_char, trivial⟩
theorem sndJ8_charAt : MSound 5 yJ8_charAt (ws_ yJ8_charAt cJ8_charAt 2 (some .char)) mJ8_charAt := msound_M (by decide) allJ8_charAt (fun _ _ => rfl)
