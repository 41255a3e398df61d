set_option maxRecDepth 100000
/-! Z program: LinkTimesLaw (written by gen/gen_prog.py) -/
set_option maxRecDepth 100000
/-! LinkTimesLaw.still(LLinkTimes;I[J)I -/
noncomputable def kX0_still : ZM := ([(0, zi_ld 1 2 1), (1, zi_push (zvi 0) 2), (2, zi_ld 1 0 3), (3, zi_ld 0 1 4), (4, zi_callV mX1_still 16 2 7), (7, zi_i2l 8), (8, zi_astJ 9), (9, zi_goto 15), (12, zi_st 1 3 13), (13, zi_push (zvi 1) 14), (14, zi_retv 0), (15, zi_push (zvi 0) 16), (16, zi_retv 0)], fun pc kd => if 0 ≤ pc ∧ pc < 9 then if kd = 35 then some 12 else some 9999 else none)
noncomputable def mX0_still : ZF := zrunM kX0_still 4
theorem enX0_still (x0 : Option Nat) (x1 : Int) (x2 : Option Nat) (h : PH) : mX0_still [zvr x0, zvi x1, zvr x2] h = zev kX0_still 0 [zvr x0, zvi x1, zvr x2, zvu] [] h := zrunM_eq rfl rfl
theorem rX0_still : (∀ (x0 x1 : ZV) (a : Option Nat) (L st : List ZV) (h : PH), zev kX0_still 0 (x0 :: x1 :: zvr a :: L) st h = zev kX0_still 1 (x0 :: x1 :: zvr a :: L) (zvr a :: st) h) ∧
  (∀ (L st : List ZV) (h : PH), zev kX0_still 1 L st h = zev kX0_still 2 L (zvi 0 :: st) h) ∧
  (∀ (a : Option Nat) (L st : List ZV) (h : PH), zev kX0_still 2 (zvr a :: L) st h = zev kX0_still 3 (zvr a :: L) (zvr a :: st) h) ∧
  (∀ (x0 : ZV) (a : Int) (L st : List ZV) (h : PH), zev kX0_still 3 (x0 :: zvi a :: L) st h = zev kX0_still 4 (x0 :: zvi a :: L) (zvi a :: st) h) ∧
  (∀ (v0 : ZV) (q : Nat) (L st : List ZV) (h : PH), zev kX0_still 4 L (v0 :: zvr (some q) :: st) h = if (ph_K h q).1 % 1000 = 16 ∧ zcat st ≤ 8 then zk kX0_still 4 7 L st (mX1_still [zvr (some q), v0] h) else none) ∧
  (∀ (a : Int) (L st : List ZV) (h : PH), zev kX0_still 7 L (zvi a :: st) h = zev kX0_still 8 L (zvl a :: st) h) ∧
  (∀ (x j : Int) (q : Nat) (L st : List ZV) (h : PH), zev kX0_still 8 L (zvl x :: zvi j :: zvr (some q) :: st) h = if (ph_K h q).1 = 4 ∧ 0 ≤ j ∧ j < (ph_K h q).2 then zev kX0_still 9 L st (st_J h q j x) else none) ∧
  (∀ (L st : List ZV) (h : PH), zev kX0_still 9 L st h = zev kX0_still 15 L st h) ∧
  (∀ (x0 x1 x2 x3 : ZV) (a : Option Nat) (L st : List ZV) (h : PH) (hx : zisL x2 = false) , zev kX0_still 12 (x0 :: x1 :: x2 :: x3 :: L) (zvr a :: st) h = zev kX0_still 13 (x0 :: x1 :: x2 :: zvr a :: L) st h) ∧
  (∀ (L st : List ZV) (h : PH), zev kX0_still 13 L st h = zev kX0_still 14 L (zvi 1 :: st) h) ∧
  (∀ (a : Int) (L : List ZV) (h : PH), zev kX0_still 14 L [zvi a] h = zrv (zvi a) h) ∧
  (∀ (L st : List ZV) (h : PH), zev kX0_still 15 L st h = zev kX0_still 16 L (zvi 0 :: st) h) ∧
  (∀ (a : Int) (L : List ZV) (h : PH), zev kX0_still 16 L [zvi a] h = zrv (zvi a) h) :=
  ⟨fun x0 x1 a L st h => e_ld2R (n := 1) rfl,
  fun L st h => e_push (v := zvi 0) (n := 2) rfl,
  fun a L st h => e_ld0R (n := 3) rfl,
  fun x0 a L st h => e_ld1I (n := 4) rfl,
  fun v0 q L st h => e_callV2 (F := mX1_still) (kd := 16) (n := 7) rfl,
  fun a L st h => e_i2l (n := 8) rfl,
  fun x j q L st h => e_astJ (n := 9) rfl,
  fun L st h => e_goto (t := 15) rfl,
  fun x0 x1 x2 x3 a L st h hx => e_st3R (n := 13) rfl hx,
  fun L st h => e_push (v := zvi 1) (n := 14) rfl,
  fun a L h => e_retI rfl,
  fun L st h => e_push (v := zvi 0) (n := 16) rfl,
  fun a L h => e_retI rfl⟩
theorem allX0_still : zall yX0_still cX0_still 4 (some .int) 7 kX0_still.1 :=
  ⟨k_aload_n dX0_still_0,
  k_iconst dX0_still_1,
  k_aload_n dX0_still_2,
  k_iload_n dX0_still_3,
  k_callV (y2 := yX1_still) (C := RX1) (T0 := TX1) (ci := 0) dX0_still_4 sndX1_still rfl q1787 q1788 q1789 q128 q1790 (by decide +kernel) ⟨by decide, by decide⟩ (by decide) (by decide),
  k_i2l dX0_still_7,
  k_last dX0_still_8,
  k_goto (t := 15) dX0_still_9 (by decide),
  k_astore_n dX0_still_12,
  k_iconst dX0_still_13,
  k_iret dX0_still_14,
  k_iconst dX0_still_15,
  k_iret dX0_still_16, trivial⟩
theorem sndX0_still : MSound 7 yX0_still (wsW_ yX0_still cX0_still 4 (some .int) [(0, 9, 12, 13)]) mX0_still := msound_H (by decide) allX0_still
  (fun pc kd t h1 h2 => by
    have h1 : (if 0 ≤ pc ∧ pc < 9 then if kd = 35 then some 12 else some 9999 else none) = some t := h1
    by_cases hp : 0 ≤ pc ∧ pc < 9
    · rw [if_pos hp] at h1
      by_cases hk : kd = 35
      · rw [if_pos hk] at h1
        obtain rfl := Option.some.inj h1
        subst hk
        exact ⟨[], ⟨0, 9, 12, 13⟩, [], 19, RJ24, TJ24, 0, "java/util/NoSuchElementException", rfl, by simp [covers]; omega, by decide, rfl, ⟨rfl, by decide⟩, rfl, q1786, q1289, fun z hz => by cases hz⟩
      rw [if_neg hk] at h1
      obtain rfl := Option.some.inj h1
      cases h2
    · rw [if_neg hp] at h1; cases h1)
  (fun pc kd h1 x hx => by
    have h1 : (if 0 ≤ pc ∧ pc < 9 then if kd = 35 then some 12 else some 9999 else none) = none := h1
    by_cases hp : 0 ≤ pc ∧ pc < 9
    · rw [if_pos hp] at h1
      by_cases hk : kd = 35
      · rw [if_pos hk] at h1; cases h1
      rw [if_neg hk] at h1
      cases h1
    · have hx : x ∈ [(⟨0, 9, 12, 13⟩ : ExceptionTableEntry)] := hx
      simp only [List.mem_cons, List.not_mem_nil, or_false] at hx
      rcases hx with rfl <;> (simp [covers]; omega))
/-! the law's instructions, in chunks -/
theorem zall_app {y : MethodName} {cc : ByteArray} {nL : Nat} {ret : Option FieldType} {lv : Nat} : ∀ {l1 l2 : List (Nat × ZI)}, zall y cc nL ret lv l1 → zall y cc nL ret lv l2 → zall y cc nL ret lv (l1 ++ l2)
  | [], _, _, h2 => h2
  | _ :: _, _, h1, h2 => ⟨h1.1, zall_app h1.2 h2⟩
def zhiB : List (Nat × ZI) → Nat → Bool
  | [], _ => true
  | q :: t, B => Nat.blt q.1 B && zhiB t B
theorem zlk_skip {B pc : Nat} : ∀ {l1 l2 : List (Nat × ZI)}, zhiB l1 B = true → B ≤ pc → zlk (l1 ++ l2) pc = zlk l2 pc
  | [], _, _, _ => rfl
  | q :: t, l2, h, hp => by
    have h1 := (Bool.and_eq_true _ _).mp h
    have h2 : q.1 < B := Nat.le_of_ble_eq_true h1.1
    show (bif Nat.beq q.1 pc then some q.2 else zlk (t ++ l2) pc) = _
    have h3 : Nat.beq q.1 pc = false := by
      cases hb : Nat.beq q.1 pc with
      | false => rfl
      | true => have := Nat.eq_of_beq_eq_true hb; omega
    rw [h3]
    exact zlk_skip h1.2 hp
/-! Z program: the law (written by gen/gen_prog.py) -/
set_option maxRecDepth 100000
abbrev yL_law : MethodName := x
noncomputable def kL_law_0 : List (Nat × ZI) := [(0, zi_new 16 19 3), (3, zi_dup 4), (4, zi_callV mX1_init 16 1 7), (7, zi_st 1 1 8), (8, zi_new 18 42 11), (11, zi_dup 12), (12, zi_callV mX4_init 18 1 15), (15, zi_st 1 2 16), (16, zi_push (zvi 1) 17), (17, zi_newa 4 19), (19, zi_st 1 3 20), (20, zi_push (zvi 0) 21), (21, zi_st 0 4 23), (23, zi_ld 0 4 25), (25, zi_ld 1 0 26), (26, zi_alen 27), (27, zi_push (zvi 6) 29), (29, zi_bin (fun a b => w32 (a - b)) 30), (30, zi_cmp zc_gt 2178 33), (33, zi_ld 1 0 34), (34, zi_ld 0 4 36), (36, zi_ald 1 37), (37, zi_push (zvi 63) 39), (39, zi_bin zand 40), (40, zi_sw 0 44 [236, 309, 334, 347, 360, 385, 422, 459, 484, 533, 582, 631, 680, 741, 790, 839, 912, 973, 1022, 1071, 1108, 1157, 1218, 1255, 1316, 1353, 1414, 1463, 1524, 1549, 1574, 1599, 1660, 1709, 1770, 1831, 1856, 1881, 1918, 1955, 1992, 2065, 2078, 2134, 2159] 2172), (236, zi_ld 1 1 237), (237, zi_ld 1 0 238), (238, zi_ld 0 4 240), (240, zi_push (zvi 1) 241), (241, zi_bin (fun a b => w32 (a + b)) 242), (242, zi_ald 1 243), (243, zi_ld 1 0 244), (244, zi_ld 0 4 246), (246, zi_push (zvi 2) 247), (247, zi_bin (fun a b => w32 (a + b)) 248), (248, zi_ald 1 249), (249, zi_ld 1 0 250), (250, zi_ld 0 4 252), (252, zi_push (zvi 3) 253), (253, zi_bin (fun a b => w32 (a + b)) 254), (254, zi_ald 1 255), (255, zi_ld 1 0 256), (256, zi_ld 0 4 258), (258, zi_push (zvi 4) 259), (259, zi_bin (fun a b => w32 (a + b)) 260), (260, zi_ald 1 261), (261, zi_ld 1 0 262), (262, zi_ld 0 4 264), (264, zi_push (zvi 5) 265), (265, zi_bin (fun a b => w32 (a + b)) 266), (266, zi_ald 1 267), (267, zi_callV mX1_feed 16 6 270), (270, zi_ld 1 2 271), (271, zi_ld 1 0 272), (272, zi_ld 0 4 274), (274, zi_push (zvi 1) 275), (275, zi_bin (fun a b => w32 (a + b)) 276), (276, zi_ald 1 277), (277, zi_ld 1 0 278), (278, zi_ld 0 4 280), (280, zi_push (zvi 2) 281), (281, zi_bin (fun a b => w32 (a + b)) 282), (282, zi_ald 1 283), (283, zi_ld 1 0 284), (284, zi_ld 0 4 286), (286, zi_push (zvi 3) 287), (287, zi_bin (fun a b => w32 (a + b)) 288), (288, zi_ald 1 289), (289, zi_ld 1 0 290), (290, zi_ld 0 4 292), (292, zi_push (zvi 4) 293), (293, zi_bin (fun a b => w32 (a + b)) 294), (294, zi_ald 1 295), (295, zi_ld 1 0 296), (296, zi_ld 0 4 298), (298, zi_push (zvi 5) 299), (299, zi_bin (fun a b => w32 (a + b)) 300), (300, zi_ald 1 301), (301, zi_callV mX4_feed 18 6 304), (304, zi_cmp zc_eq 2172 307), (307, zi_push (zvi 0) 308), (308, zi_retz), (309, zi_ld 1 1 310), (310, zi_ld 1 0 311), (311, zi_ld 0 4 313), (313, zi_push (zvi 1) 314), (314, zi_bin (fun a b => w32 (a + b)) 315), (315, zi_ald 1 316), (316, zi_callV mX1_desk 16 2 319), (319, zi_ld 1 2 320), (320, zi_ld 1 0 321), (321, zi_ld 0 4 323), (323, zi_push (zvi 1) 324), (324, zi_bin (fun a b => w32 (a + b)) 325), (325, zi_ald 1 326), (326, zi_callV mX4_desk 18 2 329), (329, zi_cmp zc_eq 2172 332), (332, zi_push (zvi 0) 333), (333, zi_retz), (334, zi_ld 1 1 335)]
noncomputable def kL_law_1 : List (Nat × ZI) := [(335, zi_callV mX1_fault 16 1 338), (338, zi_ld 1 2 339), (339, zi_callV mX4_fault 18 1 342), (342, zi_cmp zc_eq 2172 345), (345, zi_push (zvi 0) 346), (346, zi_retz), (347, zi_ld 1 1 348), (348, zi_callV mX1_where 16 1 351), (351, zi_ld 1 2 352), (352, zi_callV mX4_where 18 1 355), (355, zi_cmp zc_eq 2172 358), (358, zi_push (zvi 0) 359), (359, zi_retz), (360, zi_ld 1 1 361), (361, zi_ld 1 0 362), (362, zi_ld 0 4 364), (364, zi_push (zvi 1) 365), (365, zi_bin (fun a b => w32 (a + b)) 366), (366, zi_ald 1 367), (367, zi_callV mX1_about 16 2 370), (370, zi_ld 1 2 371), (371, zi_ld 1 0 372), (372, zi_ld 0 4 374), (374, zi_push (zvi 1) 375), (375, zi_bin (fun a b => w32 (a + b)) 376), (376, zi_ald 1 377), (377, zi_callV mX4_about 18 2 380), (380, zi_cmp zc_eq 2172 383), (383, zi_push (zvi 0) 384), (384, zi_retz), (385, zi_ld 1 1 386), (386, zi_ld 1 0 387), (387, zi_ld 0 4 389), (389, zi_push (zvi 1) 390), (390, zi_bin (fun a b => w32 (a + b)) 391), (391, zi_ald 1 392), (392, zi_ld 1 0 393), (393, zi_ld 0 4 395), (395, zi_push (zvi 2) 396), (396, zi_bin (fun a b => w32 (a + b)) 397), (397, zi_ald 1 398), (398, zi_callV mX1_spot 16 3 401), (401, zi_ld 1 2 402), (402, zi_ld 1 0 403), (403, zi_ld 0 4 405), (405, zi_push (zvi 1) 406), (406, zi_bin (fun a b => w32 (a + b)) 407), (407, zi_ald 1 408), (408, zi_ld 1 0 409), (409, zi_ld 0 4 411), (411, zi_push (zvi 2) 412), (412, zi_bin (fun a b => w32 (a + b)) 413), (413, zi_ald 1 414), (414, zi_callV mX4_spot 18 3 417), (417, zi_cmp zc_eq 2172 420), (420, zi_push (zvi 0) 421), (421, zi_retz), (422, zi_ld 1 1 423), (423, zi_ld 1 0 424), (424, zi_ld 0 4 426), (426, zi_push (zvi 1) 427), (427, zi_bin (fun a b => w32 (a + b)) 428), (428, zi_ald 1 429), (429, zi_ld 1 0 430), (430, zi_ld 0 4 432), (432, zi_push (zvi 2) 433), (433, zi_bin (fun a b => w32 (a + b)) 434), (434, zi_ald 1 435), (435, zi_callV mX1_departure 16 3 438), (438, zi_ld 1 2 439), (439, zi_ld 1 0 440), (440, zi_ld 0 4 442), (442, zi_push (zvi 1) 443), (443, zi_bin (fun a b => w32 (a + b)) 444), (444, zi_ald 1 445), (445, zi_ld 1 0 446), (446, zi_ld 0 4 448), (448, zi_push (zvi 2) 449), (449, zi_bin (fun a b => w32 (a + b)) 450), (450, zi_ald 1 451), (451, zi_callV mX4_departure 18 3 454), (454, zi_cmp zc_eq 2172 457), (457, zi_push (zvi 0) 458), (458, zi_retz), (459, zi_ld 1 1 460), (460, zi_ld 1 0 461), (461, zi_ld 0 4 463), (463, zi_push (zvi 1) 464), (464, zi_bin (fun a b => w32 (a + b)) 465), (465, zi_ald 1 466), (466, zi_callV mX1_ordered 16 2 469), (469, zi_ld 1 2 470), (470, zi_ld 1 0 471), (471, zi_ld 0 4 473), (473, zi_push (zvi 1) 474), (474, zi_bin (fun a b => w32 (a + b)) 475), (475, zi_ald 1 476), (476, zi_callV mX4_ordered 18 2 479), (479, zi_cmp zc_eq 2172 482), (482, zi_push (zvi 0) 483)]
noncomputable def kL_law_2 : List (Nat × ZI) := [(483, zi_retz), (484, zi_ld 1 1 485), (485, zi_ld 1 0 486), (486, zi_ld 0 4 488), (488, zi_push (zvi 1) 489), (489, zi_bin (fun a b => w32 (a + b)) 490), (490, zi_ald 1 491), (491, zi_ld 1 0 492), (492, zi_ld 0 4 494), (494, zi_push (zvi 2) 495), (495, zi_bin (fun a b => w32 (a + b)) 496), (496, zi_ald 1 497), (497, zi_ld 1 0 498), (498, zi_ld 0 4 500), (500, zi_push (zvi 3) 501), (501, zi_bin (fun a b => w32 (a + b)) 502), (502, zi_ald 1 503), (503, zi_callV mX1_arrives 16 4 506), (506, zi_ld 1 2 507), (507, zi_ld 1 0 508), (508, zi_ld 0 4 510), (510, zi_push (zvi 1) 511), (511, zi_bin (fun a b => w32 (a + b)) 512), (512, zi_ald 1 513), (513, zi_ld 1 0 514), (514, zi_ld 0 4 516), (516, zi_push (zvi 2) 517), (517, zi_bin (fun a b => w32 (a + b)) 518), (518, zi_ald 1 519), (519, zi_ld 1 0 520), (520, zi_ld 0 4 522), (522, zi_push (zvi 3) 523), (523, zi_bin (fun a b => w32 (a + b)) 524), (524, zi_ald 1 525), (525, zi_callV mX4_arrives 18 4 528), (528, zi_cmp zc_eq 2172 531), (531, zi_push (zvi 0) 532), (532, zi_retz), (533, zi_ld 1 1 534), (534, zi_ld 1 0 535), (535, zi_ld 0 4 537), (537, zi_push (zvi 1) 538), (538, zi_bin (fun a b => w32 (a + b)) 539), (539, zi_ald 1 540), (540, zi_ld 1 0 541), (541, zi_ld 0 4 543), (543, zi_push (zvi 2) 544), (544, zi_bin (fun a b => w32 (a + b)) 545), (545, zi_ald 1 546), (546, zi_ld 1 0 547), (547, zi_ld 0 4 549), (549, zi_push (zvi 3) 550), (550, zi_bin (fun a b => w32 (a + b)) 551), (551, zi_ald 1 552), (552, zi_callV mX1_changes 16 4 555), (555, zi_ld 1 2 556), (556, zi_ld 1 0 557), (557, zi_ld 0 4 559), (559, zi_push (zvi 1) 560), (560, zi_bin (fun a b => w32 (a + b)) 561), (561, zi_ald 1 562), (562, zi_ld 1 0 563), (563, zi_ld 0 4 565), (565, zi_push (zvi 2) 566), (566, zi_bin (fun a b => w32 (a + b)) 567), (567, zi_ald 1 568), (568, zi_ld 1 0 569), (569, zi_ld 0 4 571), (571, zi_push (zvi 3) 572), (572, zi_bin (fun a b => w32 (a + b)) 573), (573, zi_ald 1 574), (574, zi_callV mX4_changes 18 4 577), (577, zi_cmp zc_eq 2172 580), (580, zi_push (zvi 0) 581), (581, zi_retz), (582, zi_ld 1 1 583), (583, zi_ld 1 0 584), (584, zi_ld 0 4 586), (586, zi_push (zvi 1) 587), (587, zi_bin (fun a b => w32 (a + b)) 588), (588, zi_ald 1 589), (589, zi_ld 1 0 590), (590, zi_ld 0 4 592), (592, zi_push (zvi 2) 593), (593, zi_bin (fun a b => w32 (a + b)) 594), (594, zi_ald 1 595), (595, zi_ld 1 0 596), (596, zi_ld 0 4 598), (598, zi_push (zvi 3) 599), (599, zi_bin (fun a b => w32 (a + b)) 600), (600, zi_ald 1 601), (601, zi_callV mX1_leaves 16 4 604), (604, zi_ld 1 2 605), (605, zi_ld 1 0 606), (606, zi_ld 0 4 608), (608, zi_push (zvi 1) 609), (609, zi_bin (fun a b => w32 (a + b)) 610), (610, zi_ald 1 611), (611, zi_ld 1 0 612), (612, zi_ld 0 4 614)]
noncomputable def kL_law_3 : List (Nat × ZI) := [(614, zi_push (zvi 2) 615), (615, zi_bin (fun a b => w32 (a + b)) 616), (616, zi_ald 1 617), (617, zi_ld 1 0 618), (618, zi_ld 0 4 620), (620, zi_push (zvi 3) 621), (621, zi_bin (fun a b => w32 (a + b)) 622), (622, zi_ald 1 623), (623, zi_callV mX4_leaves 18 4 626), (626, zi_cmp zc_eq 2172 629), (629, zi_push (zvi 0) 630), (630, zi_retz), (631, zi_ld 1 1 632), (632, zi_ld 1 0 633), (633, zi_ld 0 4 635), (635, zi_push (zvi 1) 636), (636, zi_bin (fun a b => w32 (a + b)) 637), (637, zi_ald 1 638), (638, zi_ld 1 0 639), (639, zi_ld 0 4 641), (641, zi_push (zvi 2) 642), (642, zi_bin (fun a b => w32 (a + b)) 643), (643, zi_ald 1 644), (644, zi_ld 1 0 645), (645, zi_ld 0 4 647), (647, zi_push (zvi 3) 648), (648, zi_bin (fun a b => w32 (a + b)) 649), (649, zi_ald 1 650), (650, zi_callV mX1_rides 16 4 653), (653, zi_ld 1 2 654), (654, zi_ld 1 0 655), (655, zi_ld 0 4 657), (657, zi_push (zvi 1) 658), (658, zi_bin (fun a b => w32 (a + b)) 659), (659, zi_ald 1 660), (660, zi_ld 1 0 661), (661, zi_ld 0 4 663), (663, zi_push (zvi 2) 664), (664, zi_bin (fun a b => w32 (a + b)) 665), (665, zi_ald 1 666), (666, zi_ld 1 0 667), (667, zi_ld 0 4 669), (669, zi_push (zvi 3) 670), (670, zi_bin (fun a b => w32 (a + b)) 671), (671, zi_ald 1 672), (672, zi_callV mX4_rides 18 4 675), (675, zi_cmp zc_eq 2172 678), (678, zi_push (zvi 0) 679), (679, zi_retz), (680, zi_ld 1 1 681), (681, zi_ld 1 0 682), (682, zi_ld 0 4 684), (684, zi_push (zvi 1) 685), (685, zi_bin (fun a b => w32 (a + b)) 686), (686, zi_ald 1 687), (687, zi_ld 1 0 688), (688, zi_ld 0 4 690), (690, zi_push (zvi 2) 691), (691, zi_bin (fun a b => w32 (a + b)) 692), (692, zi_ald 1 693), (693, zi_ld 1 0 694), (694, zi_ld 0 4 696), (696, zi_push (zvi 3) 697), (697, zi_bin (fun a b => w32 (a + b)) 698), (698, zi_ald 1 699), (699, zi_ld 1 0 700), (700, zi_ld 0 4 702), (702, zi_push (zvi 4) 703), (703, zi_bin (fun a b => w32 (a + b)) 704), (704, zi_ald 1 705), (705, zi_callV mX1_ride 16 5 708), (708, zi_ld 1 2 709), (709, zi_ld 1 0 710), (710, zi_ld 0 4 712), (712, zi_push (zvi 1) 713), (713, zi_bin (fun a b => w32 (a + b)) 714), (714, zi_ald 1 715), (715, zi_ld 1 0 716), (716, zi_ld 0 4 718), (718, zi_push (zvi 2) 719), (719, zi_bin (fun a b => w32 (a + b)) 720), (720, zi_ald 1 721), (721, zi_ld 1 0 722), (722, zi_ld 0 4 724), (724, zi_push (zvi 3) 725), (725, zi_bin (fun a b => w32 (a + b)) 726), (726, zi_ald 1 727), (727, zi_ld 1 0 728), (728, zi_ld 0 4 730), (730, zi_push (zvi 4) 731), (731, zi_bin (fun a b => w32 (a + b)) 732), (732, zi_ald 1 733), (733, zi_callV mX4_ride 18 5 736), (736, zi_cmp zc_eq 2172 739), (739, zi_push (zvi 0) 740), (740, zi_retz), (741, zi_ld 1 1 742), (742, zi_ld 1 0 743), (743, zi_ld 0 4 745), (745, zi_push (zvi 1) 746)]
noncomputable def kL_law_4 : List (Nat × ZI) := [(746, zi_bin (fun a b => w32 (a + b)) 747), (747, zi_ald 1 748), (748, zi_ld 1 0 749), (749, zi_ld 0 4 751), (751, zi_push (zvi 2) 752), (752, zi_bin (fun a b => w32 (a + b)) 753), (753, zi_ald 1 754), (754, zi_ld 1 0 755), (755, zi_ld 0 4 757), (757, zi_push (zvi 3) 758), (758, zi_bin (fun a b => w32 (a + b)) 759), (759, zi_ald 1 760), (760, zi_callV mX1_stands 16 4 763), (763, zi_ld 1 2 764), (764, zi_ld 1 0 765), (765, zi_ld 0 4 767), (767, zi_push (zvi 1) 768), (768, zi_bin (fun a b => w32 (a + b)) 769), (769, zi_ald 1 770), (770, zi_ld 1 0 771), (771, zi_ld 0 4 773), (773, zi_push (zvi 2) 774), (774, zi_bin (fun a b => w32 (a + b)) 775), (775, zi_ald 1 776), (776, zi_ld 1 0 777), (777, zi_ld 0 4 779), (779, zi_push (zvi 3) 780), (780, zi_bin (fun a b => w32 (a + b)) 781), (781, zi_ald 1 782), (782, zi_callV mX4_stands 18 4 785), (785, zi_cmp zc_eq 2172 788), (788, zi_push (zvi 0) 789), (789, zi_retz), (790, zi_ld 1 1 791), (791, zi_ld 1 0 792), (792, zi_ld 0 4 794), (794, zi_push (zvi 1) 795), (795, zi_bin (fun a b => w32 (a + b)) 796), (796, zi_ald 1 797), (797, zi_ld 1 0 798), (798, zi_ld 0 4 800), (800, zi_push (zvi 2) 801), (801, zi_bin (fun a b => w32 (a + b)) 802), (802, zi_ald 1 803), (803, zi_ld 1 0 804), (804, zi_ld 0 4 806), (806, zi_push (zvi 3) 807), (807, zi_bin (fun a b => w32 (a + b)) 808), (808, zi_ald 1 809), (809, zi_callV mX1_trades 16 4 812), (812, zi_ld 1 2 813), (813, zi_ld 1 0 814), (814, zi_ld 0 4 816), (816, zi_push (zvi 1) 817), (817, zi_bin (fun a b => w32 (a + b)) 818), (818, zi_ald 1 819), (819, zi_ld 1 0 820), (820, zi_ld 0 4 822), (822, zi_push (zvi 2) 823), (823, zi_bin (fun a b => w32 (a + b)) 824), (824, zi_ald 1 825), (825, zi_ld 1 0 826), (826, zi_ld 0 4 828), (828, zi_push (zvi 3) 829), (829, zi_bin (fun a b => w32 (a + b)) 830), (830, zi_ald 1 831), (831, zi_callV mX4_trades 18 4 834), (834, zi_cmp zc_eq 2172 837), (837, zi_push (zvi 0) 838), (838, zi_retz), (839, zi_ld 1 1 840), (840, zi_ld 1 0 841), (841, zi_ld 0 4 843), (843, zi_push (zvi 1) 844), (844, zi_bin (fun a b => w32 (a + b)) 845), (845, zi_ald 1 846), (846, zi_ld 1 0 847), (847, zi_ld 0 4 849), (849, zi_push (zvi 2) 850), (850, zi_bin (fun a b => w32 (a + b)) 851), (851, zi_ald 1 852), (852, zi_ld 1 0 853), (853, zi_ld 0 4 855), (855, zi_push (zvi 3) 856), (856, zi_bin (fun a b => w32 (a + b)) 857), (857, zi_ald 1 858), (858, zi_ld 1 0 859), (859, zi_ld 0 4 861), (861, zi_push (zvi 4) 862), (862, zi_bin (fun a b => w32 (a + b)) 863), (863, zi_ald 1 864), (864, zi_ld 1 0 865), (865, zi_ld 0 4 867), (867, zi_push (zvi 5) 868), (868, zi_bin (fun a b => w32 (a + b)) 869), (869, zi_ald 1 870), (870, zi_callV mX1_trade 16 6 873), (873, zi_ld 1 2 874), (874, zi_ld 1 0 875), (875, zi_ld 0 4 877)]
noncomputable def kL_law_5 : List (Nat × ZI) := [(877, zi_push (zvi 1) 878), (878, zi_bin (fun a b => w32 (a + b)) 879), (879, zi_ald 1 880), (880, zi_ld 1 0 881), (881, zi_ld 0 4 883), (883, zi_push (zvi 2) 884), (884, zi_bin (fun a b => w32 (a + b)) 885), (885, zi_ald 1 886), (886, zi_ld 1 0 887), (887, zi_ld 0 4 889), (889, zi_push (zvi 3) 890), (890, zi_bin (fun a b => w32 (a + b)) 891), (891, zi_ald 1 892), (892, zi_ld 1 0 893), (893, zi_ld 0 4 895), (895, zi_push (zvi 4) 896), (896, zi_bin (fun a b => w32 (a + b)) 897), (897, zi_ald 1 898), (898, zi_ld 1 0 899), (899, zi_ld 0 4 901), (901, zi_push (zvi 5) 902), (902, zi_bin (fun a b => w32 (a + b)) 903), (903, zi_ald 1 904), (904, zi_callV mX4_trade 18 6 907), (907, zi_cmp zc_eq 2172 910), (910, zi_push (zvi 0) 911), (911, zi_retz), (912, zi_ld 1 1 913), (913, zi_ld 1 0 914), (914, zi_ld 0 4 916), (916, zi_push (zvi 1) 917), (917, zi_bin (fun a b => w32 (a + b)) 918), (918, zi_ald 1 919), (919, zi_ld 1 0 920), (920, zi_ld 0 4 922), (922, zi_push (zvi 2) 923), (923, zi_bin (fun a b => w32 (a + b)) 924), (924, zi_ald 1 925), (925, zi_ld 1 0 926), (926, zi_ld 0 4 928), (928, zi_push (zvi 3) 929), (929, zi_bin (fun a b => w32 (a + b)) 930), (930, zi_ald 1 931), (931, zi_ld 1 0 932), (932, zi_ld 0 4 934), (934, zi_push (zvi 4) 935), (935, zi_bin (fun a b => w32 (a + b)) 936), (936, zi_ald 1 937), (937, zi_callV mX1_within 16 5 940), (940, zi_ld 1 2 941), (941, zi_ld 1 0 942), (942, zi_ld 0 4 944), (944, zi_push (zvi 1) 945), (945, zi_bin (fun a b => w32 (a + b)) 946), (946, zi_ald 1 947), (947, zi_ld 1 0 948), (948, zi_ld 0 4 950), (950, zi_push (zvi 2) 951), (951, zi_bin (fun a b => w32 (a + b)) 952), (952, zi_ald 1 953), (953, zi_ld 1 0 954), (954, zi_ld 0 4 956), (956, zi_push (zvi 3) 957), (957, zi_bin (fun a b => w32 (a + b)) 958), (958, zi_ald 1 959), (959, zi_ld 1 0 960), (960, zi_ld 0 4 962), (962, zi_push (zvi 4) 963), (963, zi_bin (fun a b => w32 (a + b)) 964), (964, zi_ald 1 965), (965, zi_callV mX4_within 18 5 968), (968, zi_cmp zc_eq 2172 971), (971, zi_push (zvi 0) 972), (972, zi_retz), (973, zi_ld 1 1 974), (974, zi_ld 1 0 975), (975, zi_ld 0 4 977), (977, zi_push (zvi 1) 978), (978, zi_bin (fun a b => w32 (a + b)) 979), (979, zi_ald 1 980), (980, zi_ld 1 0 981), (981, zi_ld 0 4 983), (983, zi_push (zvi 2) 984), (984, zi_bin (fun a b => w32 (a + b)) 985), (985, zi_ald 1 986), (986, zi_ld 1 0 987), (987, zi_ld 0 4 989), (989, zi_push (zvi 3) 990), (990, zi_bin (fun a b => w32 (a + b)) 991), (991, zi_ald 1 992), (992, zi_callV mX1_latest 16 4 995), (995, zi_ld 1 2 996), (996, zi_ld 1 0 997), (997, zi_ld 0 4 999), (999, zi_push (zvi 1) 1000), (1000, zi_bin (fun a b => w32 (a + b)) 1001), (1001, zi_ald 1 1002), (1002, zi_ld 1 0 1003), (1003, zi_ld 0 4 1005), (1005, zi_push (zvi 2) 1006)]
noncomputable def kL_law_6 : List (Nat × ZI) := [(1006, zi_bin (fun a b => w32 (a + b)) 1007), (1007, zi_ald 1 1008), (1008, zi_ld 1 0 1009), (1009, zi_ld 0 4 1011), (1011, zi_push (zvi 3) 1012), (1012, zi_bin (fun a b => w32 (a + b)) 1013), (1013, zi_ald 1 1014), (1014, zi_callV mX4_latest 18 4 1017), (1017, zi_cmp zc_eq 2172 1020), (1020, zi_push (zvi 0) 1021), (1021, zi_retz), (1022, zi_ld 1 1 1023), (1023, zi_ld 1 0 1024), (1024, zi_ld 0 4 1026), (1026, zi_push (zvi 1) 1027), (1027, zi_bin (fun a b => w32 (a + b)) 1028), (1028, zi_ald 1 1029), (1029, zi_ld 1 0 1030), (1030, zi_ld 0 4 1032), (1032, zi_push (zvi 2) 1033), (1033, zi_bin (fun a b => w32 (a + b)) 1034), (1034, zi_ald 1 1035), (1035, zi_ld 1 0 1036), (1036, zi_ld 0 4 1038), (1038, zi_push (zvi 3) 1039), (1039, zi_bin (fun a b => w32 (a + b)) 1040), (1040, zi_ald 1 1041), (1041, zi_callV mX1_reach 16 4 1044), (1044, zi_ld 1 2 1045), (1045, zi_ld 1 0 1046), (1046, zi_ld 0 4 1048), (1048, zi_push (zvi 1) 1049), (1049, zi_bin (fun a b => w32 (a + b)) 1050), (1050, zi_ald 1 1051), (1051, zi_ld 1 0 1052), (1052, zi_ld 0 4 1054), (1054, zi_push (zvi 2) 1055), (1055, zi_bin (fun a b => w32 (a + b)) 1056), (1056, zi_ald 1 1057), (1057, zi_ld 1 0 1058), (1058, zi_ld 0 4 1060), (1060, zi_push (zvi 3) 1061), (1061, zi_bin (fun a b => w32 (a + b)) 1062), (1062, zi_ald 1 1063), (1063, zi_callV mX4_reach 18 4 1066), (1066, zi_cmp zc_eq 2172 1069), (1069, zi_push (zvi 0) 1070), (1070, zi_retz), (1071, zi_ld 1 1 1072), (1072, zi_ld 1 0 1073), (1073, zi_ld 0 4 1075), (1075, zi_push (zvi 1) 1076), (1076, zi_bin (fun a b => w32 (a + b)) 1077), (1077, zi_ald 1 1078), (1078, zi_ld 1 0 1079), (1079, zi_ld 0 4 1081), (1081, zi_push (zvi 2) 1082), (1082, zi_bin (fun a b => w32 (a + b)) 1083), (1083, zi_ald 1 1084), (1084, zi_callV mX1_farthest 16 3 1087), (1087, zi_ld 1 2 1088), (1088, zi_ld 1 0 1089), (1089, zi_ld 0 4 1091), (1091, zi_push (zvi 1) 1092), (1092, zi_bin (fun a b => w32 (a + b)) 1093), (1093, zi_ald 1 1094), (1094, zi_ld 1 0 1095), (1095, zi_ld 0 4 1097), (1097, zi_push (zvi 2) 1098), (1098, zi_bin (fun a b => w32 (a + b)) 1099), (1099, zi_ald 1 1100), (1100, zi_callV mX4_farthest 18 3 1103), (1103, zi_cmp zc_eq 2172 1106), (1106, zi_push (zvi 0) 1107), (1107, zi_retz), (1108, zi_ld 1 1 1109), (1109, zi_ld 1 0 1110), (1110, zi_ld 0 4 1112), (1112, zi_push (zvi 1) 1113), (1113, zi_bin (fun a b => w32 (a + b)) 1114), (1114, zi_ald 1 1115), (1115, zi_ld 1 0 1116), (1116, zi_ld 0 4 1118), (1118, zi_push (zvi 2) 1119), (1119, zi_bin (fun a b => w32 (a + b)) 1120), (1120, zi_ald 1 1121), (1121, zi_ld 1 0 1122), (1122, zi_ld 0 4 1124), (1124, zi_push (zvi 3) 1125), (1125, zi_bin (fun a b => w32 (a + b)) 1126), (1126, zi_ald 1 1127), (1127, zi_callV mX1_meets 16 4 1130), (1130, zi_ld 1 2 1131), (1131, zi_ld 1 0 1132), (1132, zi_ld 0 4 1134), (1134, zi_push (zvi 1) 1135), (1135, zi_bin (fun a b => w32 (a + b)) 1136), (1136, zi_ald 1 1137), (1137, zi_ld 1 0 1138), (1138, zi_ld 0 4 1140)]
noncomputable def kL_law_7 : List (Nat × ZI) := [(1140, zi_push (zvi 2) 1141), (1141, zi_bin (fun a b => w32 (a + b)) 1142), (1142, zi_ald 1 1143), (1143, zi_ld 1 0 1144), (1144, zi_ld 0 4 1146), (1146, zi_push (zvi 3) 1147), (1147, zi_bin (fun a b => w32 (a + b)) 1148), (1148, zi_ald 1 1149), (1149, zi_callV mX4_meets 18 4 1152), (1152, zi_cmp zc_eq 2172 1155), (1155, zi_push (zvi 0) 1156), (1156, zi_retz), (1157, zi_ld 1 1 1158), (1158, zi_ld 1 0 1159), (1159, zi_ld 0 4 1161), (1161, zi_push (zvi 1) 1162), (1162, zi_bin (fun a b => w32 (a + b)) 1163), (1163, zi_ald 1 1164), (1164, zi_ld 1 0 1165), (1165, zi_ld 0 4 1167), (1167, zi_push (zvi 2) 1168), (1168, zi_bin (fun a b => w32 (a + b)) 1169), (1169, zi_ald 1 1170), (1170, zi_ld 1 0 1171), (1171, zi_ld 0 4 1173), (1173, zi_push (zvi 3) 1174), (1174, zi_bin (fun a b => w32 (a + b)) 1175), (1175, zi_ald 1 1176), (1176, zi_ld 1 0 1177), (1177, zi_ld 0 4 1179), (1179, zi_push (zvi 4) 1180), (1180, zi_bin (fun a b => w32 (a + b)) 1181), (1181, zi_ald 1 1182), (1182, zi_callV mX1_round 16 5 1185), (1185, zi_ld 1 2 1186), (1186, zi_ld 1 0 1187), (1187, zi_ld 0 4 1189), (1189, zi_push (zvi 1) 1190), (1190, zi_bin (fun a b => w32 (a + b)) 1191), (1191, zi_ald 1 1192), (1192, zi_ld 1 0 1193), (1193, zi_ld 0 4 1195), (1195, zi_push (zvi 2) 1196), (1196, zi_bin (fun a b => w32 (a + b)) 1197), (1197, zi_ald 1 1198), (1198, zi_ld 1 0 1199), (1199, zi_ld 0 4 1201), (1201, zi_push (zvi 3) 1202), (1202, zi_bin (fun a b => w32 (a + b)) 1203), (1203, zi_ald 1 1204), (1204, zi_ld 1 0 1205), (1205, zi_ld 0 4 1207), (1207, zi_push (zvi 4) 1208), (1208, zi_bin (fun a b => w32 (a + b)) 1209), (1209, zi_ald 1 1210), (1210, zi_callV mX4_round 18 5 1213), (1213, zi_cmp zc_eq 2172 1216), (1216, zi_push (zvi 0) 1217), (1217, zi_retz), (1218, zi_ld 1 1 1219), (1219, zi_ld 1 0 1220), (1220, zi_ld 0 4 1222), (1222, zi_push (zvi 1) 1223), (1223, zi_bin (fun a b => w32 (a + b)) 1224), (1224, zi_ald 1 1225), (1225, zi_ld 1 0 1226), (1226, zi_ld 0 4 1228), (1228, zi_push (zvi 2) 1229), (1229, zi_bin (fun a b => w32 (a + b)) 1230), (1230, zi_ald 1 1231), (1231, zi_callV mX1_steps 16 3 1234), (1234, zi_ld 1 2 1235), (1235, zi_ld 1 0 1236), (1236, zi_ld 0 4 1238), (1238, zi_push (zvi 1) 1239), (1239, zi_bin (fun a b => w32 (a + b)) 1240), (1240, zi_ald 1 1241), (1241, zi_ld 1 0 1242), (1242, zi_ld 0 4 1244), (1244, zi_push (zvi 2) 1245), (1245, zi_bin (fun a b => w32 (a + b)) 1246), (1246, zi_ald 1 1247), (1247, zi_callV mX4_steps 18 3 1250), (1250, zi_cmp zc_eq 2172 1253), (1253, zi_push (zvi 0) 1254), (1254, zi_retz), (1255, zi_ld 1 1 1256), (1256, zi_ld 1 0 1257), (1257, zi_ld 0 4 1259), (1259, zi_push (zvi 1) 1260), (1260, zi_bin (fun a b => w32 (a + b)) 1261), (1261, zi_ald 1 1262), (1262, zi_ld 1 0 1263), (1263, zi_ld 0 4 1265), (1265, zi_push (zvi 2) 1266), (1266, zi_bin (fun a b => w32 (a + b)) 1267), (1267, zi_ald 1 1268), (1268, zi_ld 1 0 1269), (1269, zi_ld 0 4 1271), (1271, zi_push (zvi 3) 1272)]
noncomputable def kL_law_8 : List (Nat × ZI) := [(1272, zi_bin (fun a b => w32 (a + b)) 1273), (1273, zi_ald 1 1274), (1274, zi_ld 1 0 1275), (1275, zi_ld 0 4 1277), (1277, zi_push (zvi 4) 1278), (1278, zi_bin (fun a b => w32 (a + b)) 1279), (1279, zi_ald 1 1280), (1280, zi_callV mX1_step 16 5 1283), (1283, zi_ld 1 2 1284), (1284, zi_ld 1 0 1285), (1285, zi_ld 0 4 1287), (1287, zi_push (zvi 1) 1288), (1288, zi_bin (fun a b => w32 (a + b)) 1289), (1289, zi_ald 1 1290), (1290, zi_ld 1 0 1291), (1291, zi_ld 0 4 1293), (1293, zi_push (zvi 2) 1294), (1294, zi_bin (fun a b => w32 (a + b)) 1295), (1295, zi_ald 1 1296), (1296, zi_ld 1 0 1297), (1297, zi_ld 0 4 1299), (1299, zi_push (zvi 3) 1300), (1300, zi_bin (fun a b => w32 (a + b)) 1301), (1301, zi_ald 1 1302), (1302, zi_ld 1 0 1303), (1303, zi_ld 0 4 1305), (1305, zi_push (zvi 4) 1306), (1306, zi_bin (fun a b => w32 (a + b)) 1307), (1307, zi_ald 1 1308), (1308, zi_callV mX4_step 18 5 1311), (1311, zi_cmp zc_eq 2172 1314), (1314, zi_push (zvi 0) 1315), (1315, zi_retz), (1316, zi_ld 1 1 1317), (1317, zi_ld 1 0 1318), (1318, zi_ld 0 4 1320), (1320, zi_push (zvi 1) 1321), (1321, zi_bin (fun a b => w32 (a + b)) 1322), (1322, zi_ald 1 1323), (1323, zi_ld 1 0 1324), (1324, zi_ld 0 4 1326), (1326, zi_push (zvi 2) 1327), (1327, zi_bin (fun a b => w32 (a + b)) 1328), (1328, zi_ald 1 1329), (1329, zi_callV mX1_quickest 16 3 1332), (1332, zi_ld 1 2 1333), (1333, zi_ld 1 0 1334), (1334, zi_ld 0 4 1336), (1336, zi_push (zvi 1) 1337), (1337, zi_bin (fun a b => w32 (a + b)) 1338), (1338, zi_ald 1 1339), (1339, zi_ld 1 0 1340), (1340, zi_ld 0 4 1342), (1342, zi_push (zvi 2) 1343), (1343, zi_bin (fun a b => w32 (a + b)) 1344), (1344, zi_ald 1 1345), (1345, zi_callV mX4_quickest 18 3 1348), (1348, zi_cmp zc_eq 2172 1351), (1351, zi_push (zvi 0) 1352), (1352, zi_retz), (1353, zi_ld 1 1 1354), (1354, zi_ld 1 0 1355), (1355, zi_ld 0 4 1357), (1357, zi_push (zvi 1) 1358), (1358, zi_bin (fun a b => w32 (a + b)) 1359), (1359, zi_ald 1 1360), (1360, zi_ld 1 0 1361), (1361, zi_ld 0 4 1363), (1363, zi_push (zvi 2) 1364), (1364, zi_bin (fun a b => w32 (a + b)) 1365), (1365, zi_ald 1 1366), (1366, zi_ld 1 0 1367), (1367, zi_ld 0 4 1369), (1369, zi_push (zvi 3) 1370), (1370, zi_bin (fun a b => w32 (a + b)) 1371), (1371, zi_ald 1 1372), (1372, zi_ld 1 0 1373), (1373, zi_ld 0 4 1375), (1375, zi_push (zvi 4) 1376), (1376, zi_bin (fun a b => w32 (a + b)) 1377), (1377, zi_ald 1 1378), (1378, zi_callV mX1_spent 16 5 1381), (1381, zi_ld 1 2 1382), (1382, zi_ld 1 0 1383), (1383, zi_ld 0 4 1385), (1385, zi_push (zvi 1) 1386), (1386, zi_bin (fun a b => w32 (a + b)) 1387), (1387, zi_ald 1 1388), (1388, zi_ld 1 0 1389), (1389, zi_ld 0 4 1391), (1391, zi_push (zvi 2) 1392), (1392, zi_bin (fun a b => w32 (a + b)) 1393), (1393, zi_ald 1 1394), (1394, zi_ld 1 0 1395), (1395, zi_ld 0 4 1397), (1397, zi_push (zvi 3) 1398), (1398, zi_bin (fun a b => w32 (a + b)) 1399), (1399, zi_ald 1 1400), (1400, zi_ld 1 0 1401), (1401, zi_ld 0 4 1403)]
noncomputable def kL_law_9 : List (Nat × ZI) := [(1403, zi_push (zvi 4) 1404), (1404, zi_bin (fun a b => w32 (a + b)) 1405), (1405, zi_ald 1 1406), (1406, zi_callV mX4_spent 18 5 1409), (1409, zi_cmp zc_eq 2172 1412), (1412, zi_push (zvi 0) 1413), (1413, zi_retz), (1414, zi_ld 1 1 1415), (1415, zi_ld 1 0 1416), (1416, zi_ld 0 4 1418), (1418, zi_push (zvi 1) 1419), (1419, zi_bin (fun a b => w32 (a + b)) 1420), (1420, zi_ald 1 1421), (1421, zi_ld 1 0 1422), (1422, zi_ld 0 4 1424), (1424, zi_push (zvi 2) 1425), (1425, zi_bin (fun a b => w32 (a + b)) 1426), (1426, zi_ald 1 1427), (1427, zi_ld 1 0 1428), (1428, zi_ld 0 4 1430), (1430, zi_push (zvi 3) 1431), (1431, zi_bin (fun a b => w32 (a + b)) 1432), (1432, zi_ald 1 1433), (1433, zi_callV mX1_others 16 4 1436), (1436, zi_ld 1 2 1437), (1437, zi_ld 1 0 1438), (1438, zi_ld 0 4 1440), (1440, zi_push (zvi 1) 1441), (1441, zi_bin (fun a b => w32 (a + b)) 1442), (1442, zi_ald 1 1443), (1443, zi_ld 1 0 1444), (1444, zi_ld 0 4 1446), (1446, zi_push (zvi 2) 1447), (1447, zi_bin (fun a b => w32 (a + b)) 1448), (1448, zi_ald 1 1449), (1449, zi_ld 1 0 1450), (1450, zi_ld 0 4 1452), (1452, zi_push (zvi 3) 1453), (1453, zi_bin (fun a b => w32 (a + b)) 1454), (1454, zi_ald 1 1455), (1455, zi_callV mX4_others 18 4 1458), (1458, zi_cmp zc_eq 2172 1461), (1461, zi_push (zvi 0) 1462), (1462, zi_retz), (1463, zi_ld 1 1 1464), (1464, zi_ld 1 0 1465), (1465, zi_ld 0 4 1467), (1467, zi_push (zvi 1) 1468), (1468, zi_bin (fun a b => w32 (a + b)) 1469), (1469, zi_ald 1 1470), (1470, zi_ld 1 0 1471), (1471, zi_ld 0 4 1473), (1473, zi_push (zvi 2) 1474), (1474, zi_bin (fun a b => w32 (a + b)) 1475), (1475, zi_ald 1 1476), (1476, zi_ld 1 0 1477), (1477, zi_ld 0 4 1479), (1479, zi_push (zvi 3) 1480), (1480, zi_bin (fun a b => w32 (a + b)) 1481), (1481, zi_ald 1 1482), (1482, zi_ld 1 0 1483), (1483, zi_ld 0 4 1485), (1485, zi_push (zvi 4) 1486), (1486, zi_bin (fun a b => w32 (a + b)) 1487), (1487, zi_ald 1 1488), (1488, zi_callV mX1_other 16 5 1491), (1491, zi_ld 1 2 1492), (1492, zi_ld 1 0 1493), (1493, zi_ld 0 4 1495), (1495, zi_push (zvi 1) 1496), (1496, zi_bin (fun a b => w32 (a + b)) 1497), (1497, zi_ald 1 1498), (1498, zi_ld 1 0 1499), (1499, zi_ld 0 4 1501), (1501, zi_push (zvi 2) 1502), (1502, zi_bin (fun a b => w32 (a + b)) 1503), (1503, zi_ald 1 1504), (1504, zi_ld 1 0 1505), (1505, zi_ld 0 4 1507), (1507, zi_push (zvi 3) 1508), (1508, zi_bin (fun a b => w32 (a + b)) 1509), (1509, zi_ald 1 1510), (1510, zi_ld 1 0 1511), (1511, zi_ld 0 4 1513), (1513, zi_push (zvi 4) 1514), (1514, zi_bin (fun a b => w32 (a + b)) 1515), (1515, zi_ald 1 1516), (1516, zi_callV mX4_other 18 5 1519), (1519, zi_cmp zc_eq 2172 1522), (1522, zi_push (zvi 0) 1523), (1523, zi_retz), (1524, zi_ld 1 1 1525), (1525, zi_ld 1 0 1526), (1526, zi_ld 0 4 1528), (1528, zi_push (zvi 1) 1529), (1529, zi_bin (fun a b => w32 (a + b)) 1530), (1530, zi_ald 1 1531), (1531, zi_callV mX1_pairs 16 2 1534), (1534, zi_ld 1 2 1535), (1535, zi_ld 1 0 1536)]
noncomputable def kL_law_10 : List (Nat × ZI) := [(1536, zi_ld 0 4 1538), (1538, zi_push (zvi 1) 1539), (1539, zi_bin (fun a b => w32 (a + b)) 1540), (1540, zi_ald 1 1541), (1541, zi_callV mX4_pairs 18 2 1544), (1544, zi_cmp zc_eq 2172 1547), (1547, zi_push (zvi 0) 1548), (1548, zi_retz), (1549, zi_ld 1 1 1550), (1550, zi_ld 1 0 1551), (1551, zi_ld 0 4 1553), (1553, zi_push (zvi 1) 1554), (1554, zi_bin (fun a b => w32 (a + b)) 1555), (1555, zi_ald 1 1556), (1556, zi_callV mX1_hub 16 2 1559), (1559, zi_ld 1 2 1560), (1560, zi_ld 1 0 1561), (1561, zi_ld 0 4 1563), (1563, zi_push (zvi 1) 1564), (1564, zi_bin (fun a b => w32 (a + b)) 1565), (1565, zi_ald 1 1566), (1566, zi_callV mX4_hub 18 2 1569), (1569, zi_cmp zc_eq 2172 1572), (1572, zi_push (zvi 0) 1573), (1573, zi_retz), (1574, zi_ld 1 1 1575), (1575, zi_ld 1 0 1576), (1576, zi_ld 0 4 1578), (1578, zi_push (zvi 1) 1579), (1579, zi_bin (fun a b => w32 (a + b)) 1580), (1580, zi_ald 1 1581), (1581, zi_callV mX1_slowest 16 2 1584), (1584, zi_ld 1 2 1585), (1585, zi_ld 1 0 1586), (1586, zi_ld 0 4 1588), (1588, zi_push (zvi 1) 1589), (1589, zi_bin (fun a b => w32 (a + b)) 1590), (1590, zi_ald 1 1591), (1591, zi_callV mX4_slowest 18 2 1594), (1594, zi_cmp zc_eq 2172 1597), (1597, zi_push (zvi 0) 1598), (1598, zi_retz), (1599, zi_ld 1 1 1600), (1600, zi_ld 1 0 1601), (1601, zi_ld 0 4 1603), (1603, zi_push (zvi 1) 1604), (1604, zi_bin (fun a b => w32 (a + b)) 1605), (1605, zi_ald 1 1606), (1606, zi_ld 1 0 1607), (1607, zi_ld 0 4 1609), (1609, zi_push (zvi 2) 1610), (1610, zi_bin (fun a b => w32 (a + b)) 1611), (1611, zi_ald 1 1612), (1612, zi_ld 1 0 1613), (1613, zi_ld 0 4 1615), (1615, zi_push (zvi 3) 1616), (1616, zi_bin (fun a b => w32 (a + b)) 1617), (1617, zi_ald 1 1618), (1618, zi_ld 1 0 1619), (1619, zi_ld 0 4 1621), (1621, zi_push (zvi 4) 1622), (1622, zi_bin (fun a b => w32 (a + b)) 1623), (1623, zi_ald 1 1624), (1624, zi_callV mX1_needs 16 5 1627), (1627, zi_ld 1 2 1628), (1628, zi_ld 1 0 1629), (1629, zi_ld 0 4 1631), (1631, zi_push (zvi 1) 1632), (1632, zi_bin (fun a b => w32 (a + b)) 1633), (1633, zi_ald 1 1634), (1634, zi_ld 1 0 1635), (1635, zi_ld 0 4 1637), (1637, zi_push (zvi 2) 1638), (1638, zi_bin (fun a b => w32 (a + b)) 1639), (1639, zi_ald 1 1640), (1640, zi_ld 1 0 1641), (1641, zi_ld 0 4 1643), (1643, zi_push (zvi 3) 1644), (1644, zi_bin (fun a b => w32 (a + b)) 1645), (1645, zi_ald 1 1646), (1646, zi_ld 1 0 1647), (1647, zi_ld 0 4 1649), (1649, zi_push (zvi 4) 1650), (1650, zi_bin (fun a b => w32 (a + b)) 1651), (1651, zi_ald 1 1652), (1652, zi_callV mX4_needs 18 5 1655), (1655, zi_cmp zc_eq 2172 1658), (1658, zi_push (zvi 0) 1659), (1659, zi_retz), (1660, zi_ld 1 1 1661), (1661, zi_ld 1 0 1662), (1662, zi_ld 0 4 1664), (1664, zi_push (zvi 1) 1665), (1665, zi_bin (fun a b => w32 (a + b)) 1666), (1666, zi_ald 1 1667), (1667, zi_ld 1 0 1668), (1668, zi_ld 0 4 1670), (1670, zi_push (zvi 2) 1671), (1671, zi_bin (fun a b => w32 (a + b)) 1672), (1672, zi_ald 1 1673)]
noncomputable def kL_law_11 : List (Nat × ZI) := [(1673, zi_ld 1 0 1674), (1674, zi_ld 0 4 1676), (1676, zi_push (zvi 3) 1677), (1677, zi_bin (fun a b => w32 (a + b)) 1678), (1678, zi_ald 1 1679), (1679, zi_callV mX1_vital 16 4 1682), (1682, zi_ld 1 2 1683), (1683, zi_ld 1 0 1684), (1684, zi_ld 0 4 1686), (1686, zi_push (zvi 1) 1687), (1687, zi_bin (fun a b => w32 (a + b)) 1688), (1688, zi_ald 1 1689), (1689, zi_ld 1 0 1690), (1690, zi_ld 0 4 1692), (1692, zi_push (zvi 2) 1693), (1693, zi_bin (fun a b => w32 (a + b)) 1694), (1694, zi_ald 1 1695), (1695, zi_ld 1 0 1696), (1696, zi_ld 0 4 1698), (1698, zi_push (zvi 3) 1699), (1699, zi_bin (fun a b => w32 (a + b)) 1700), (1700, zi_ald 1 1701), (1701, zi_callV mX4_vital 18 4 1704), (1704, zi_cmp zc_eq 2172 1707), (1707, zi_push (zvi 0) 1708), (1708, zi_retz), (1709, zi_ld 1 1 1710), (1710, zi_ld 1 0 1711), (1711, zi_ld 0 4 1713), (1713, zi_push (zvi 1) 1714), (1714, zi_bin (fun a b => w32 (a + b)) 1715), (1715, zi_ald 1 1716), (1716, zi_ld 1 0 1717), (1717, zi_ld 0 4 1719), (1719, zi_push (zvi 2) 1720), (1720, zi_bin (fun a b => w32 (a + b)) 1721), (1721, zi_ald 1 1722), (1722, zi_ld 1 0 1723), (1723, zi_ld 0 4 1725), (1725, zi_push (zvi 3) 1726), (1726, zi_bin (fun a b => w32 (a + b)) 1727), (1727, zi_ald 1 1728), (1728, zi_ld 1 0 1729), (1729, zi_ld 0 4 1731), (1731, zi_push (zvi 4) 1732), (1732, zi_bin (fun a b => w32 (a + b)) 1733), (1733, zi_ald 1 1734), (1734, zi_callV mX1_slack 16 5 1737), (1737, zi_ld 1 2 1738), (1738, zi_ld 1 0 1739), (1739, zi_ld 0 4 1741), (1741, zi_push (zvi 1) 1742), (1742, zi_bin (fun a b => w32 (a + b)) 1743), (1743, zi_ald 1 1744), (1744, zi_ld 1 0 1745), (1745, zi_ld 0 4 1747), (1747, zi_push (zvi 2) 1748), (1748, zi_bin (fun a b => w32 (a + b)) 1749), (1749, zi_ald 1 1750), (1750, zi_ld 1 0 1751), (1751, zi_ld 0 4 1753), (1753, zi_push (zvi 3) 1754), (1754, zi_bin (fun a b => w32 (a + b)) 1755), (1755, zi_ald 1 1756), (1756, zi_ld 1 0 1757), (1757, zi_ld 0 4 1759), (1759, zi_push (zvi 4) 1760), (1760, zi_bin (fun a b => w32 (a + b)) 1761), (1761, zi_ald 1 1762), (1762, zi_callV mX4_slack 18 5 1765), (1765, zi_cmp zc_eq 2172 1768), (1768, zi_push (zvi 0) 1769), (1769, zi_retz), (1770, zi_ld 1 1 1771), (1771, zi_ld 1 0 1772), (1772, zi_ld 0 4 1774), (1774, zi_push (zvi 1) 1775), (1775, zi_bin (fun a b => w32 (a + b)) 1776), (1776, zi_ald 1 1777), (1777, zi_ld 1 0 1778), (1778, zi_ld 0 4 1780), (1780, zi_push (zvi 2) 1781), (1781, zi_bin (fun a b => w32 (a + b)) 1782), (1782, zi_ald 1 1783), (1783, zi_ld 1 0 1784), (1784, zi_ld 0 4 1786), (1786, zi_push (zvi 3) 1787), (1787, zi_bin (fun a b => w32 (a + b)) 1788), (1788, zi_ald 1 1789), (1789, zi_ld 1 0 1790), (1790, zi_ld 0 4 1792), (1792, zi_push (zvi 4) 1793), (1793, zi_bin (fun a b => w32 (a + b)) 1794), (1794, zi_ald 1 1795), (1795, zi_callV mX1_why 16 5 1798), (1798, zi_ld 1 2 1799), (1799, zi_ld 1 0 1800), (1800, zi_ld 0 4 1802), (1802, zi_push (zvi 1) 1803), (1803, zi_bin (fun a b => w32 (a + b)) 1804)]
noncomputable def kL_law_12 : List (Nat × ZI) := [(1804, zi_ald 1 1805), (1805, zi_ld 1 0 1806), (1806, zi_ld 0 4 1808), (1808, zi_push (zvi 2) 1809), (1809, zi_bin (fun a b => w32 (a + b)) 1810), (1810, zi_ald 1 1811), (1811, zi_ld 1 0 1812), (1812, zi_ld 0 4 1814), (1814, zi_push (zvi 3) 1815), (1815, zi_bin (fun a b => w32 (a + b)) 1816), (1816, zi_ald 1 1817), (1817, zi_ld 1 0 1818), (1818, zi_ld 0 4 1820), (1820, zi_push (zvi 4) 1821), (1821, zi_bin (fun a b => w32 (a + b)) 1822), (1822, zi_ald 1 1823), (1823, zi_callV mX4_why 18 5 1826), (1826, zi_cmp zc_eq 2172 1829), (1829, zi_push (zvi 0) 1830), (1830, zi_retz), (1831, zi_ld 1 1 1832), (1832, zi_ld 1 0 1833), (1833, zi_ld 0 4 1835), (1835, zi_push (zvi 1) 1836), (1836, zi_bin (fun a b => w32 (a + b)) 1837), (1837, zi_ald 1 1838), (1838, zi_callV mX1_cancel 16 2 1841), (1841, zi_ld 1 2 1842), (1842, zi_ld 1 0 1843), (1843, zi_ld 0 4 1845), (1845, zi_push (zvi 1) 1846), (1846, zi_bin (fun a b => w32 (a + b)) 1847), (1847, zi_ald 1 1848), (1848, zi_callV mX4_cancel 18 2 1851), (1851, zi_cmp zc_eq 2172 1854), (1854, zi_push (zvi 0) 1855), (1855, zi_retz), (1856, zi_ld 1 1 1857), (1857, zi_ld 1 0 1858), (1858, zi_ld 0 4 1860), (1860, zi_push (zvi 1) 1861), (1861, zi_bin (fun a b => w32 (a + b)) 1862), (1862, zi_ald 1 1863), (1863, zi_callV mX1_run 16 2 1866), (1866, zi_ld 1 2 1867), (1867, zi_ld 1 0 1868), (1868, zi_ld 0 4 1870), (1870, zi_push (zvi 1) 1871), (1871, zi_bin (fun a b => w32 (a + b)) 1872), (1872, zi_ald 1 1873), (1873, zi_callV mX4_run 18 2 1876), (1876, zi_cmp zc_eq 2172 1879), (1879, zi_push (zvi 0) 1880), (1880, zi_retz), (1881, zi_ld 1 1 1882), (1882, zi_ld 1 0 1883), (1883, zi_ld 0 4 1885), (1885, zi_push (zvi 1) 1886), (1886, zi_bin (fun a b => w32 (a + b)) 1887), (1887, zi_ald 1 1888), (1888, zi_ld 1 0 1889), (1889, zi_ld 0 4 1891), (1891, zi_push (zvi 2) 1892), (1892, zi_bin (fun a b => w32 (a + b)) 1893), (1893, zi_ald 1 1894), (1894, zi_callV mX1_delay 16 3 1897), (1897, zi_ld 1 2 1898), (1898, zi_ld 1 0 1899), (1899, zi_ld 0 4 1901), (1901, zi_push (zvi 1) 1902), (1902, zi_bin (fun a b => w32 (a + b)) 1903), (1903, zi_ald 1 1904), (1904, zi_ld 1 0 1905), (1905, zi_ld 0 4 1907), (1907, zi_push (zvi 2) 1908), (1908, zi_bin (fun a b => w32 (a + b)) 1909), (1909, zi_ald 1 1910), (1910, zi_callV mX4_delay 18 3 1913), (1913, zi_cmp zc_eq 2172 1916), (1916, zi_push (zvi 0) 1917), (1917, zi_retz), (1918, zi_ld 1 1 1919), (1919, zi_ld 1 0 1920), (1920, zi_ld 0 4 1922), (1922, zi_push (zvi 1) 1923), (1923, zi_bin (fun a b => w32 (a + b)) 1924), (1924, zi_ald 1 1925), (1925, zi_ld 1 0 1926), (1926, zi_ld 0 4 1928), (1928, zi_push (zvi 2) 1929), (1929, zi_bin (fun a b => w32 (a + b)) 1930), (1930, zi_ald 1 1931), (1931, zi_callV mX1_change 16 3 1934), (1934, zi_ld 1 2 1935), (1935, zi_ld 1 0 1936), (1936, zi_ld 0 4 1938), (1938, zi_push (zvi 1) 1939), (1939, zi_bin (fun a b => w32 (a + b)) 1940), (1940, zi_ald 1 1941), (1941, zi_ld 1 0 1942)]
noncomputable def kL_law_13 : List (Nat × ZI) := [(1942, zi_ld 0 4 1944), (1944, zi_push (zvi 2) 1945), (1945, zi_bin (fun a b => w32 (a + b)) 1946), (1946, zi_ald 1 1947), (1947, zi_callV mX4_change 18 3 1950), (1950, zi_cmp zc_eq 2172 1953), (1953, zi_push (zvi 0) 1954), (1954, zi_retz), (1955, zi_ld 1 1 1956), (1956, zi_ld 1 0 1957), (1957, zi_ld 0 4 1959), (1959, zi_push (zvi 1) 1960), (1960, zi_bin (fun a b => w32 (a + b)) 1961), (1961, zi_ald 1 1962), (1962, zi_ld 1 0 1963), (1963, zi_ld 0 4 1965), (1965, zi_push (zvi 2) 1966), (1966, zi_bin (fun a b => w32 (a + b)) 1967), (1967, zi_ald 1 1968), (1968, zi_callV mX1_hold 16 3 1971), (1971, zi_ld 1 2 1972), (1972, zi_ld 1 0 1973), (1973, zi_ld 0 4 1975), (1975, zi_push (zvi 1) 1976), (1976, zi_bin (fun a b => w32 (a + b)) 1977), (1977, zi_ald 1 1978), (1978, zi_ld 1 0 1979), (1979, zi_ld 0 4 1981), (1981, zi_push (zvi 2) 1982), (1982, zi_bin (fun a b => w32 (a + b)) 1983), (1983, zi_ald 1 1984), (1984, zi_callV mX4_hold 18 3 1987), (1987, zi_cmp zc_eq 2172 1990), (1990, zi_push (zvi 0) 1991), (1991, zi_retz), (1992, zi_ld 1 1 1993), (1993, zi_ld 1 0 1994), (1994, zi_ld 0 4 1996), (1996, zi_push (zvi 1) 1997), (1997, zi_bin (fun a b => w32 (a + b)) 1998), (1998, zi_ald 1 1999), (1999, zi_ld 1 0 2000), (2000, zi_ld 0 4 2002), (2002, zi_push (zvi 2) 2003), (2003, zi_bin (fun a b => w32 (a + b)) 2004), (2004, zi_ald 1 2005), (2005, zi_ld 1 0 2006), (2006, zi_ld 0 4 2008), (2008, zi_push (zvi 3) 2009), (2009, zi_bin (fun a b => w32 (a + b)) 2010), (2010, zi_ald 1 2011), (2011, zi_ld 1 0 2012), (2012, zi_ld 0 4 2014), (2014, zi_push (zvi 4) 2015), (2015, zi_bin (fun a b => w32 (a + b)) 2016), (2016, zi_ald 1 2017), (2017, zi_ld 1 0 2018), (2018, zi_ld 0 4 2020), (2020, zi_push (zvi 5) 2021), (2021, zi_bin (fun a b => w32 (a + b)) 2022), (2022, zi_ald 1 2023), (2023, zi_callV mX1_extra 16 6 2026), (2026, zi_ld 1 2 2027), (2027, zi_ld 1 0 2028), (2028, zi_ld 0 4 2030), (2030, zi_push (zvi 1) 2031), (2031, zi_bin (fun a b => w32 (a + b)) 2032), (2032, zi_ald 1 2033), (2033, zi_ld 1 0 2034), (2034, zi_ld 0 4 2036), (2036, zi_push (zvi 2) 2037), (2037, zi_bin (fun a b => w32 (a + b)) 2038), (2038, zi_ald 1 2039), (2039, zi_ld 1 0 2040), (2040, zi_ld 0 4 2042), (2042, zi_push (zvi 3) 2043), (2043, zi_bin (fun a b => w32 (a + b)) 2044), (2044, zi_ald 1 2045), (2045, zi_ld 1 0 2046), (2046, zi_ld 0 4 2048), (2048, zi_push (zvi 4) 2049), (2049, zi_bin (fun a b => w32 (a + b)) 2050), (2050, zi_ald 1 2051), (2051, zi_ld 1 0 2052), (2052, zi_ld 0 4 2054), (2054, zi_push (zvi 5) 2055), (2055, zi_bin (fun a b => w32 (a + b)) 2056), (2056, zi_ald 1 2057), (2057, zi_callV mX4_extra 18 6 2060), (2060, zi_cmp zc_eq 2172 2063), (2063, zi_push (zvi 0) 2064), (2064, zi_retz), (2065, zi_ld 1 1 2066), (2066, zi_callV mX1_undo 16 1 2069), (2069, zi_ld 1 2 2070), (2070, zi_callV mX4_undo 18 1 2073), (2073, zi_cmp zc_eq 2172 2076), (2076, zi_push (zvi 0) 2077), (2077, zi_retz), (2078, zi_ld 1 1 2079)]
noncomputable def kL_law_14 : List (Nat × ZI) := [(2079, zi_ld 1 0 2080), (2080, zi_ld 0 4 2082), (2082, zi_push (zvi 1) 2083), (2083, zi_bin (fun a b => w32 (a + b)) 2084), (2084, zi_ald 1 2085), (2085, zi_ld 1 3 2086), (2086, zi_callS mX0_still 3 2089), (2089, zi_st 0 5 2091), (2091, zi_ld 1 2 2092), (2092, zi_ld 1 0 2093), (2093, zi_ld 0 4 2095), (2095, zi_push (zvi 1) 2096), (2096, zi_bin (fun a b => w32 (a + b)) 2097), (2097, zi_ald 1 2098), (2098, zi_callV mX4_still 18 2 2101), (2101, zi_st 0 6 2103), (2103, zi_ld 1 2 2104), (2104, zi_callV mX4_thrown 18 1 2107), (2107, zi_ld 0 5 2109), (2109, zi_cmp zc_eq 2114 2112), (2112, zi_push (zvi 0) 2113), (2113, zi_retz), (2114, zi_ld 0 5 2116), (2116, zi_if (fun a => zc_ne a 0) 2131 2119), (2119, zi_ld 1 3 2120), (2120, zi_push (zvi 0) 2121), (2121, zi_aldJ 2122), (2122, zi_ld 0 6 2124), (2124, zi_i2l 2125), (2125, zi_lcmp 2126), (2126, zi_if (fun a => zc_eq a 0) 2131 2129), (2129, zi_push (zvi 0) 2130), (2130, zi_retz), (2131, zi_goto 2172), (2134, zi_ld 1 1 2135), (2135, zi_ld 1 0 2136), (2136, zi_ld 0 4 2138), (2138, zi_push (zvi 1) 2139), (2139, zi_bin (fun a b => w32 (a + b)) 2140), (2140, zi_ald 1 2141), (2141, zi_callV mX1_size 16 2 2144), (2144, zi_ld 1 2 2145), (2145, zi_ld 1 0 2146), (2146, zi_ld 0 4 2148), (2148, zi_push (zvi 1) 2149), (2149, zi_bin (fun a b => w32 (a + b)) 2150), (2150, zi_ald 1 2151), (2151, zi_callV mX4_size 18 2 2154), (2154, zi_cmp zc_eq 2172 2157), (2157, zi_push (zvi 0) 2158), (2158, zi_retz), (2159, zi_ld 1 1 2160), (2160, zi_callV mX1_trouble 16 1 2163), (2163, zi_ld 1 2 2164), (2164, zi_callV mX4_trouble 18 1 2167), (2167, zi_cmp zc_eq 2172 2170), (2170, zi_push (zvi 0) 2171), (2171, zi_retz), (2172, zi_iinc 4 6 2175), (2175, zi_goto 23), (2178, zi_push (zvi 1) 2179), (2179, zi_retz)]
noncomputable def kL_law : ZM := (kL_law_0 ++ (kL_law_1 ++ (kL_law_2 ++ (kL_law_3 ++ (kL_law_4 ++ (kL_law_5 ++ (kL_law_6 ++ (kL_law_7 ++ (kL_law_8 ++ (kL_law_9 ++ (kL_law_10 ++ (kL_law_11 ++ (kL_law_12 ++ (kL_law_13 ++ (kL_law_14)))))))))))))), fun _ _ => none)
theorem allL_law_0 : zall yL_law cL_law 7 (some .boolean) 14 kL_law_0 :=
  ⟨k_new (C := RX1) (T := TX1) (N := 19) (ci := 0) dL_law_0 rfl in_X1 tyX1 tyX1_ok rfl (by decide) q171 q172 q128,
  k_dup dL_law_3,
  k_callI (y2 := yX1_init) (C := RX1) (T0 := TX1) (ci := 0) dL_law_4 sndX1_init rfl q173 q174 q128 q175 rfl (by decide +kernel) ⟨by decide, by decide⟩ (by decide) (by decide),
  k_astore_n dL_law_7,
  k_new (C := RX4) (T := TX4) (N := 42) (ci := 2) dL_law_8 rfl in_X4 tyX4 tyX4_ok rfl (by decide) q1793 q1794 q137,
  k_dup dL_law_11,
  k_callI (y2 := yX4_init) (C := RX4) (T0 := TX4) (ci := 2) dL_law_12 sndX4_init rfl q1795 q1796 q137 q1797 rfl (by decide +kernel) ⟨by decide, by decide⟩ (by decide) (by decide),
  k_astore_n dL_law_15,
  k_iconst dL_law_16,
  k_newa (kd := 4) dL_law_17 (by decide) rfl q1926,
  k_astore_n dL_law_19,
  k_iconst dL_law_20,
  k_istore dL_law_21,
  k_iload dL_law_23,
  k_aload_n dL_law_25,
  k_alen dL_law_26,
  k_bipush dL_law_27,
  k_isub dL_law_29,
  k_cmpgt (t := 2178) dL_law_30 (by decide),
  k_aload_n dL_law_33,
  k_iload dL_law_34,
  k_iald dL_law_36,
  k_bipush dL_law_37,
  k_iand dL_law_39,
  k_sw (ts := [236, 309, 334, 347, 360, 385, 422, 459, 484, 533, 582, 631, 680, 741, 790, 839, 912, 973, 1022, 1071, 1108, 1157, 1218, 1255, 1316, 1353, 1414, 1463, 1524, 1549, 1574, 1599, 1660, 1709, 1770, 1831, 1856, 1881, 1918, 1955, 1992, 2065, 2078, 2134, 2159]) (dt := 2172) dL_law_40 (by decide) (by decide) (by decide),
  k_aload_n dL_law_236,
  k_aload_n dL_law_237,
  k_iload dL_law_238,
  k_iconst dL_law_240,
  k_iadd dL_law_241,
  k_iald dL_law_242,
  k_aload_n dL_law_243,
  k_iload dL_law_244,
  k_iconst dL_law_246,
  k_iadd dL_law_247,
  k_iald dL_law_248,
  k_aload_n dL_law_249,
  k_iload dL_law_250,
  k_iconst dL_law_252,
  k_iadd dL_law_253,
  k_iald dL_law_254,
  k_aload_n dL_law_255,
  k_iload dL_law_256,
  k_iconst dL_law_258,
  k_iadd dL_law_259,
  k_iald dL_law_260,
  k_aload_n dL_law_261,
  k_iload dL_law_262,
  k_iconst dL_law_264,
  k_iadd dL_law_265,
  k_iald dL_law_266,
  k_callV (y2 := yX1_feed) (C := RX1) (T0 := TX1) (ci := 0) dL_law_267 sndX1_feed rfl q362 q363 q364 q128 q365 (by decide +kernel) ⟨by decide, by decide⟩ (by decide) (by decide),
  k_aload_n dL_law_270,
  k_aload_n dL_law_271,
  k_iload dL_law_272,
  k_iconst dL_law_274,
  k_iadd dL_law_275,
  k_iald dL_law_276,
  k_aload_n dL_law_277,
  k_iload dL_law_278,
  k_iconst dL_law_280,
  k_iadd dL_law_281,
  k_iald dL_law_282,
  k_aload_n dL_law_283,
  k_iload dL_law_284,
  k_iconst dL_law_286,
  k_iadd dL_law_287,
  k_iald dL_law_288,
  k_aload_n dL_law_289,
  k_iload dL_law_290,
  k_iconst dL_law_292,
  k_iadd dL_law_293,
  k_iald dL_law_294,
  k_aload_n dL_law_295,
  k_iload dL_law_296,
  k_iconst dL_law_298,
  k_iadd dL_law_299,
  k_iald dL_law_300,
  k_callV (y2 := yX4_feed) (C := RX4) (T0 := TX4) (ci := 2) dL_law_301 sndX4_feed rfl q1931 q1932 q1933 q137 q1934 (by decide +kernel) ⟨by decide, by decide⟩ (by decide) (by decide),
  k_cmpeq (t := 2172) dL_law_304 (by decide),
  k_iconst dL_law_307,
  k_zret dL_law_308,
  k_aload_n dL_law_309,
  k_aload_n dL_law_310,
  k_iload dL_law_311,
  k_iconst dL_law_313,
  k_iadd dL_law_314,
  k_iald dL_law_315,
  k_callVX (y2 := yX1_desk) (C := RX1) (T0 := TX1) (ci := 0) dL_law_316 sndX1_desk rfl q370 q371 q372 q128 q373 (by decide +kernel) ⟨by decide, by decide⟩ (by decide) (by decide),
  k_aload_n dL_law_319,
  k_aload_n dL_law_320,
  k_iload dL_law_321,
  k_iconst dL_law_323,
  k_iadd dL_law_324,
  k_iald dL_law_325,
  k_callV (y2 := yX4_desk) (C := RX4) (T0 := TX4) (ci := 2) dL_law_326 sndX4_desk rfl q1939 q1940 q1941 q137 q1942 (by decide +kernel) ⟨by decide, by decide⟩ (by decide) (by decide),
  k_cmpeq (t := 2172) dL_law_329 (by decide),
  k_iconst dL_law_332,
  k_zret dL_law_333,
  k_aload_n dL_law_334, trivial⟩
theorem allL_law_1 : zall yL_law cL_law 7 (some .boolean) 14 kL_law_1 :=
  ⟨k_callV (y2 := yX1_fault) (C := RX1) (T0 := TX1) (ci := 0) dL_law_335 sndX1_fault rfl q1215 q1216 q1217 q128 q1218 (by decide +kernel) ⟨by decide, by decide⟩ (by decide) (by decide),
  k_aload_n dL_law_338,
  k_callV (y2 := yX4_fault) (C := RX4) (T0 := TX4) (ci := 2) dL_law_339 sndX4_fault rfl q2057 q2058 q2059 q137 q2060 (by decide +kernel) ⟨by decide, by decide⟩ (by decide) (by decide),
  k_cmpeq (t := 2172) dL_law_342 (by decide),
  k_iconst dL_law_345,
  k_zret dL_law_346,
  k_aload_n dL_law_347,
  k_callV (y2 := yX1_where) (C := RX1) (T0 := TX1) (ci := 0) dL_law_348 sndX1_where rfl q1219 q1220 q1221 q128 q1222 (by decide +kernel) ⟨by decide, by decide⟩ (by decide) (by decide),
  k_aload_n dL_law_351,
  k_callV (y2 := yX4_where) (C := RX4) (T0 := TX4) (ci := 2) dL_law_352 sndX4_where rfl q2061 q2062 q2063 q137 q2064 (by decide +kernel) ⟨by decide, by decide⟩ (by decide) (by decide),
  k_cmpeq (t := 2172) dL_law_355 (by decide),
  k_iconst dL_law_358,
  k_zret dL_law_359,
  k_aload_n dL_law_360,
  k_aload_n dL_law_361,
  k_iload dL_law_362,
  k_iconst dL_law_364,
  k_iadd dL_law_365,
  k_iald dL_law_366,
  k_callV (y2 := yX1_about) (C := RX1) (T0 := TX1) (ci := 0) dL_law_367 sndX1_about rfl q1223 q1224 q1225 q128 q1226 (by decide +kernel) ⟨by decide, by decide⟩ (by decide) (by decide),
  k_aload_n dL_law_370,
  k_aload_n dL_law_371,
  k_iload dL_law_372,
  k_iconst dL_law_374,
  k_iadd dL_law_375,
  k_iald dL_law_376,
  k_callV (y2 := yX4_about) (C := RX4) (T0 := TX4) (ci := 2) dL_law_377 sndX4_about rfl q2065 q2066 q2067 q137 q2068 (by decide +kernel) ⟨by decide, by decide⟩ (by decide) (by decide),
  k_cmpeq (t := 2172) dL_law_380 (by decide),
  k_iconst dL_law_383,
  k_zret dL_law_384,
  k_aload_n dL_law_385,
  k_aload_n dL_law_386,
  k_iload dL_law_387,
  k_iconst dL_law_389,
  k_iadd dL_law_390,
  k_iald dL_law_391,
  k_aload_n dL_law_392,
  k_iload dL_law_393,
  k_iconst dL_law_395,
  k_iadd dL_law_396,
  k_iald dL_law_397,
  k_callV (y2 := yX1_spot) (C := RX1) (T0 := TX1) (ci := 0) dL_law_398 sndX1_spot rfl q1238 q1239 q1240 q128 q1241 (by decide +kernel) ⟨by decide, by decide⟩ (by decide) (by decide),
  k_aload_n dL_law_401,
  k_aload_n dL_law_402,
  k_iload dL_law_403,
  k_iconst dL_law_405,
  k_iadd dL_law_406,
  k_iald dL_law_407,
  k_aload_n dL_law_408,
  k_iload dL_law_409,
  k_iconst dL_law_411,
  k_iadd dL_law_412,
  k_iald dL_law_413,
  k_callV (y2 := yX4_spot) (C := RX4) (T0 := TX4) (ci := 2) dL_law_414 sndX4_spot rfl q2080 q2081 q2082 q137 q2083 (by decide +kernel) ⟨by decide, by decide⟩ (by decide) (by decide),
  k_cmpeq (t := 2172) dL_law_417 (by decide),
  k_iconst dL_law_420,
  k_zret dL_law_421,
  k_aload_n dL_law_422,
  k_aload_n dL_law_423,
  k_iload dL_law_424,
  k_iconst dL_law_426,
  k_iadd dL_law_427,
  k_iald dL_law_428,
  k_aload_n dL_law_429,
  k_iload dL_law_430,
  k_iconst dL_law_432,
  k_iadd dL_law_433,
  k_iald dL_law_434,
  k_callV (y2 := yX1_departure) (C := RX1) (T0 := TX1) (ci := 0) dL_law_435 sndX1_departure rfl q1251 q1252 q1253 q128 q1254 (by decide +kernel) ⟨by decide, by decide⟩ (by decide) (by decide),
  k_aload_n dL_law_438,
  k_aload_n dL_law_439,
  k_iload dL_law_440,
  k_iconst dL_law_442,
  k_iadd dL_law_443,
  k_iald dL_law_444,
  k_aload_n dL_law_445,
  k_iload dL_law_446,
  k_iconst dL_law_448,
  k_iadd dL_law_449,
  k_iald dL_law_450,
  k_callV (y2 := yX4_departure) (C := RX4) (T0 := TX4) (ci := 2) dL_law_451 sndX4_departure rfl q2092 q2093 q2094 q137 q2095 (by decide +kernel) ⟨by decide, by decide⟩ (by decide) (by decide),
  k_cmpeq (t := 2172) dL_law_454 (by decide),
  k_iconst dL_law_457,
  k_zret dL_law_458,
  k_aload_n dL_law_459,
  k_aload_n dL_law_460,
  k_iload dL_law_461,
  k_iconst dL_law_463,
  k_iadd dL_law_464,
  k_iald dL_law_465,
  k_callV (y2 := yX1_ordered) (C := RX1) (T0 := TX1) (ci := 0) dL_law_466 sndX1_ordered rfl q1265 q1266 q1267 q128 q1268 (by decide +kernel) ⟨by decide, by decide⟩ (by decide) (by decide),
  k_aload_n dL_law_469,
  k_aload_n dL_law_470,
  k_iload dL_law_471,
  k_iconst dL_law_473,
  k_iadd dL_law_474,
  k_iald dL_law_475,
  k_callV (y2 := yX4_ordered) (C := RX4) (T0 := TX4) (ci := 2) dL_law_476 sndX4_ordered rfl q2108 q2109 q2110 q137 q2111 (by decide +kernel) ⟨by decide, by decide⟩ (by decide) (by decide),
  k_cmpeq (t := 2172) dL_law_479 (by decide),
  k_iconst dL_law_482, trivial⟩
theorem allL_law_2 : zall yL_law cL_law 7 (some .boolean) 14 kL_law_2 :=
  ⟨k_zret dL_law_483,
  k_aload_n dL_law_484,
  k_aload_n dL_law_485,
  k_iload dL_law_486,
  k_iconst dL_law_488,
  k_iadd dL_law_489,
  k_iald dL_law_490,
  k_aload_n dL_law_491,
  k_iload dL_law_492,
  k_iconst dL_law_494,
  k_iadd dL_law_495,
  k_iald dL_law_496,
  k_aload_n dL_law_497,
  k_iload dL_law_498,
  k_iconst dL_law_500,
  k_iadd dL_law_501,
  k_iald dL_law_502,
  k_callV (y2 := yX1_arrives) (C := RX1) (T0 := TX1) (ci := 0) dL_law_503 sndX1_arrives rfl q1330 q1331 q1332 q128 q1333 (by decide +kernel) ⟨by decide, by decide⟩ (by decide) (by decide),
  k_aload_n dL_law_506,
  k_aload_n dL_law_507,
  k_iload dL_law_508,
  k_iconst dL_law_510,
  k_iadd dL_law_511,
  k_iald dL_law_512,
  k_aload_n dL_law_513,
  k_iload dL_law_514,
  k_iconst dL_law_516,
  k_iadd dL_law_517,
  k_iald dL_law_518,
  k_aload_n dL_law_519,
  k_iload dL_law_520,
  k_iconst dL_law_522,
  k_iadd dL_law_523,
  k_iald dL_law_524,
  k_callV (y2 := yX4_arrives) (C := RX4) (T0 := TX4) (ci := 2) dL_law_525 sndX4_arrives rfl q2112 q2113 q2114 q137 q2115 (by decide +kernel) ⟨by decide, by decide⟩ (by decide) (by decide),
  k_cmpeq (t := 2172) dL_law_528 (by decide),
  k_iconst dL_law_531,
  k_zret dL_law_532,
  k_aload_n dL_law_533,
  k_aload_n dL_law_534,
  k_iload dL_law_535,
  k_iconst dL_law_537,
  k_iadd dL_law_538,
  k_iald dL_law_539,
  k_aload_n dL_law_540,
  k_iload dL_law_541,
  k_iconst dL_law_543,
  k_iadd dL_law_544,
  k_iald dL_law_545,
  k_aload_n dL_law_546,
  k_iload dL_law_547,
  k_iconst dL_law_549,
  k_iadd dL_law_550,
  k_iald dL_law_551,
  k_callV (y2 := yX1_changes) (C := RX1) (T0 := TX1) (ci := 0) dL_law_552 sndX1_changes rfl q1376 q1377 q1378 q128 q1379 (by decide +kernel) ⟨by decide, by decide⟩ (by decide) (by decide),
  k_aload_n dL_law_555,
  k_aload_n dL_law_556,
  k_iload dL_law_557,
  k_iconst dL_law_559,
  k_iadd dL_law_560,
  k_iald dL_law_561,
  k_aload_n dL_law_562,
  k_iload dL_law_563,
  k_iconst dL_law_565,
  k_iadd dL_law_566,
  k_iald dL_law_567,
  k_aload_n dL_law_568,
  k_iload dL_law_569,
  k_iconst dL_law_571,
  k_iadd dL_law_572,
  k_iald dL_law_573,
  k_callV (y2 := yX4_changes) (C := RX4) (T0 := TX4) (ci := 2) dL_law_574 sndX4_changes rfl q2159 q2160 q2161 q137 q2162 (by decide +kernel) ⟨by decide, by decide⟩ (by decide) (by decide),
  k_cmpeq (t := 2172) dL_law_577 (by decide),
  k_iconst dL_law_580,
  k_zret dL_law_581,
  k_aload_n dL_law_582,
  k_aload_n dL_law_583,
  k_iload dL_law_584,
  k_iconst dL_law_586,
  k_iadd dL_law_587,
  k_iald dL_law_588,
  k_aload_n dL_law_589,
  k_iload dL_law_590,
  k_iconst dL_law_592,
  k_iadd dL_law_593,
  k_iald dL_law_594,
  k_aload_n dL_law_595,
  k_iload dL_law_596,
  k_iconst dL_law_598,
  k_iadd dL_law_599,
  k_iald dL_law_600,
  k_callV (y2 := yX1_leaves) (C := RX1) (T0 := TX1) (ci := 0) dL_law_601 sndX1_leaves rfl q1405 q1406 q1407 q128 q1408 (by decide +kernel) ⟨by decide, by decide⟩ (by decide) (by decide),
  k_aload_n dL_law_604,
  k_aload_n dL_law_605,
  k_iload dL_law_606,
  k_iconst dL_law_608,
  k_iadd dL_law_609,
  k_iald dL_law_610,
  k_aload_n dL_law_611,
  k_iload dL_law_612, trivial⟩
theorem allL_law_3 : zall yL_law cL_law 7 (some .boolean) 14 kL_law_3 :=
  ⟨k_iconst dL_law_614,
  k_iadd dL_law_615,
  k_iald dL_law_616,
  k_aload_n dL_law_617,
  k_iload dL_law_618,
  k_iconst dL_law_620,
  k_iadd dL_law_621,
  k_iald dL_law_622,
  k_callV (y2 := yX4_leaves) (C := RX4) (T0 := TX4) (ci := 2) dL_law_623 sndX4_leaves rfl q2167 q2168 q2169 q137 q2170 (by decide +kernel) ⟨by decide, by decide⟩ (by decide) (by decide),
  k_cmpeq (t := 2172) dL_law_626 (by decide),
  k_iconst dL_law_629,
  k_zret dL_law_630,
  k_aload_n dL_law_631,
  k_aload_n dL_law_632,
  k_iload dL_law_633,
  k_iconst dL_law_635,
  k_iadd dL_law_636,
  k_iald dL_law_637,
  k_aload_n dL_law_638,
  k_iload dL_law_639,
  k_iconst dL_law_641,
  k_iadd dL_law_642,
  k_iald dL_law_643,
  k_aload_n dL_law_644,
  k_iload dL_law_645,
  k_iconst dL_law_647,
  k_iadd dL_law_648,
  k_iald dL_law_649,
  k_callV (y2 := yX1_rides) (C := RX1) (T0 := TX1) (ci := 0) dL_law_650 sndX1_rides rfl q1409 q1410 q1411 q128 q1412 (by decide +kernel) ⟨by decide, by decide⟩ (by decide) (by decide),
  k_aload_n dL_law_653,
  k_aload_n dL_law_654,
  k_iload dL_law_655,
  k_iconst dL_law_657,
  k_iadd dL_law_658,
  k_iald dL_law_659,
  k_aload_n dL_law_660,
  k_iload dL_law_661,
  k_iconst dL_law_663,
  k_iadd dL_law_664,
  k_iald dL_law_665,
  k_aload_n dL_law_666,
  k_iload dL_law_667,
  k_iconst dL_law_669,
  k_iadd dL_law_670,
  k_iald dL_law_671,
  k_callV (y2 := yX4_rides) (C := RX4) (T0 := TX4) (ci := 2) dL_law_672 sndX4_rides rfl q2171 q2172 q2173 q137 q2174 (by decide +kernel) ⟨by decide, by decide⟩ (by decide) (by decide),
  k_cmpeq (t := 2172) dL_law_675 (by decide),
  k_iconst dL_law_678,
  k_zret dL_law_679,
  k_aload_n dL_law_680,
  k_aload_n dL_law_681,
  k_iload dL_law_682,
  k_iconst dL_law_684,
  k_iadd dL_law_685,
  k_iald dL_law_686,
  k_aload_n dL_law_687,
  k_iload dL_law_688,
  k_iconst dL_law_690,
  k_iadd dL_law_691,
  k_iald dL_law_692,
  k_aload_n dL_law_693,
  k_iload dL_law_694,
  k_iconst dL_law_696,
  k_iadd dL_law_697,
  k_iald dL_law_698,
  k_aload_n dL_law_699,
  k_iload dL_law_700,
  k_iconst dL_law_702,
  k_iadd dL_law_703,
  k_iald dL_law_704,
  k_callV (y2 := yX1_ride) (C := RX1) (T0 := TX1) (ci := 0) dL_law_705 sndX1_ride rfl q1413 q1414 q1415 q128 q1416 (by decide +kernel) ⟨by decide, by decide⟩ (by decide) (by decide),
  k_aload_n dL_law_708,
  k_aload_n dL_law_709,
  k_iload dL_law_710,
  k_iconst dL_law_712,
  k_iadd dL_law_713,
  k_iald dL_law_714,
  k_aload_n dL_law_715,
  k_iload dL_law_716,
  k_iconst dL_law_718,
  k_iadd dL_law_719,
  k_iald dL_law_720,
  k_aload_n dL_law_721,
  k_iload dL_law_722,
  k_iconst dL_law_724,
  k_iadd dL_law_725,
  k_iald dL_law_726,
  k_aload_n dL_law_727,
  k_iload dL_law_728,
  k_iconst dL_law_730,
  k_iadd dL_law_731,
  k_iald dL_law_732,
  k_callV (y2 := yX4_ride) (C := RX4) (T0 := TX4) (ci := 2) dL_law_733 sndX4_ride rfl q2175 q2176 q2177 q137 q2178 (by decide +kernel) ⟨by decide, by decide⟩ (by decide) (by decide),
  k_cmpeq (t := 2172) dL_law_736 (by decide),
  k_iconst dL_law_739,
  k_zret dL_law_740,
  k_aload_n dL_law_741,
  k_aload_n dL_law_742,
  k_iload dL_law_743,
  k_iconst dL_law_745, trivial⟩
theorem allL_law_4 : zall yL_law cL_law 7 (some .boolean) 14 kL_law_4 :=
  ⟨k_iadd dL_law_746,
  k_iald dL_law_747,
  k_aload_n dL_law_748,
  k_iload dL_law_749,
  k_iconst dL_law_751,
  k_iadd dL_law_752,
  k_iald dL_law_753,
  k_aload_n dL_law_754,
  k_iload dL_law_755,
  k_iconst dL_law_757,
  k_iadd dL_law_758,
  k_iald dL_law_759,
  k_callV (y2 := yX1_stands) (C := RX1) (T0 := TX1) (ci := 0) dL_law_760 sndX1_stands rfl q1417 q1418 q1419 q128 q1420 (by decide +kernel) ⟨by decide, by decide⟩ (by decide) (by decide),
  k_aload_n dL_law_763,
  k_aload_n dL_law_764,
  k_iload dL_law_765,
  k_iconst dL_law_767,
  k_iadd dL_law_768,
  k_iald dL_law_769,
  k_aload_n dL_law_770,
  k_iload dL_law_771,
  k_iconst dL_law_773,
  k_iadd dL_law_774,
  k_iald dL_law_775,
  k_aload_n dL_law_776,
  k_iload dL_law_777,
  k_iconst dL_law_779,
  k_iadd dL_law_780,
  k_iald dL_law_781,
  k_callV (y2 := yX4_stands) (C := RX4) (T0 := TX4) (ci := 2) dL_law_782 sndX4_stands rfl q2211 q2212 q2213 q137 q2214 (by decide +kernel) ⟨by decide, by decide⟩ (by decide) (by decide),
  k_cmpeq (t := 2172) dL_law_785 (by decide),
  k_iconst dL_law_788,
  k_zret dL_law_789,
  k_aload_n dL_law_790,
  k_aload_n dL_law_791,
  k_iload dL_law_792,
  k_iconst dL_law_794,
  k_iadd dL_law_795,
  k_iald dL_law_796,
  k_aload_n dL_law_797,
  k_iload dL_law_798,
  k_iconst dL_law_800,
  k_iadd dL_law_801,
  k_iald dL_law_802,
  k_aload_n dL_law_803,
  k_iload dL_law_804,
  k_iconst dL_law_806,
  k_iadd dL_law_807,
  k_iald dL_law_808,
  k_callV (y2 := yX1_trades) (C := RX1) (T0 := TX1) (ci := 0) dL_law_809 sndX1_trades rfl q1421 q1422 q1423 q128 q1424 (by decide +kernel) ⟨by decide, by decide⟩ (by decide) (by decide),
  k_aload_n dL_law_812,
  k_aload_n dL_law_813,
  k_iload dL_law_814,
  k_iconst dL_law_816,
  k_iadd dL_law_817,
  k_iald dL_law_818,
  k_aload_n dL_law_819,
  k_iload dL_law_820,
  k_iconst dL_law_822,
  k_iadd dL_law_823,
  k_iald dL_law_824,
  k_aload_n dL_law_825,
  k_iload dL_law_826,
  k_iconst dL_law_828,
  k_iadd dL_law_829,
  k_iald dL_law_830,
  k_callV (y2 := yX4_trades) (C := RX4) (T0 := TX4) (ci := 2) dL_law_831 sndX4_trades rfl q2195 q2196 q2197 q137 q2198 (by decide +kernel) ⟨by decide, by decide⟩ (by decide) (by decide),
  k_cmpeq (t := 2172) dL_law_834 (by decide),
  k_iconst dL_law_837,
  k_zret dL_law_838,
  k_aload_n dL_law_839,
  k_aload_n dL_law_840,
  k_iload dL_law_841,
  k_iconst dL_law_843,
  k_iadd dL_law_844,
  k_iald dL_law_845,
  k_aload_n dL_law_846,
  k_iload dL_law_847,
  k_iconst dL_law_849,
  k_iadd dL_law_850,
  k_iald dL_law_851,
  k_aload_n dL_law_852,
  k_iload dL_law_853,
  k_iconst dL_law_855,
  k_iadd dL_law_856,
  k_iald dL_law_857,
  k_aload_n dL_law_858,
  k_iload dL_law_859,
  k_iconst dL_law_861,
  k_iadd dL_law_862,
  k_iald dL_law_863,
  k_aload_n dL_law_864,
  k_iload dL_law_865,
  k_iconst dL_law_867,
  k_iadd dL_law_868,
  k_iald dL_law_869,
  k_callV (y2 := yX1_trade) (C := RX1) (T0 := TX1) (ci := 0) dL_law_870 sndX1_trade rfl q1431 q1432 q1433 q128 q1434 (by decide +kernel) ⟨by decide, by decide⟩ (by decide) (by decide),
  k_aload_n dL_law_873,
  k_aload_n dL_law_874,
  k_iload dL_law_875, trivial⟩
theorem allL_law_5 : zall yL_law cL_law 7 (some .boolean) 14 kL_law_5 :=
  ⟨k_iconst dL_law_877,
  k_iadd dL_law_878,
  k_iald dL_law_879,
  k_aload_n dL_law_880,
  k_iload dL_law_881,
  k_iconst dL_law_883,
  k_iadd dL_law_884,
  k_iald dL_law_885,
  k_aload_n dL_law_886,
  k_iload dL_law_887,
  k_iconst dL_law_889,
  k_iadd dL_law_890,
  k_iald dL_law_891,
  k_aload_n dL_law_892,
  k_iload dL_law_893,
  k_iconst dL_law_895,
  k_iadd dL_law_896,
  k_iald dL_law_897,
  k_aload_n dL_law_898,
  k_iload dL_law_899,
  k_iconst dL_law_901,
  k_iadd dL_law_902,
  k_iald dL_law_903,
  k_callV (y2 := yX4_trade) (C := RX4) (T0 := TX4) (ci := 2) dL_law_904 sndX4_trade rfl q2203 q2204 q2205 q137 q2206 (by decide +kernel) ⟨by decide, by decide⟩ (by decide) (by decide),
  k_cmpeq (t := 2172) dL_law_907 (by decide),
  k_iconst dL_law_910,
  k_zret dL_law_911,
  k_aload_n dL_law_912,
  k_aload_n dL_law_913,
  k_iload dL_law_914,
  k_iconst dL_law_916,
  k_iadd dL_law_917,
  k_iald dL_law_918,
  k_aload_n dL_law_919,
  k_iload dL_law_920,
  k_iconst dL_law_922,
  k_iadd dL_law_923,
  k_iald dL_law_924,
  k_aload_n dL_law_925,
  k_iload dL_law_926,
  k_iconst dL_law_928,
  k_iadd dL_law_929,
  k_iald dL_law_930,
  k_aload_n dL_law_931,
  k_iload dL_law_932,
  k_iconst dL_law_934,
  k_iadd dL_law_935,
  k_iald dL_law_936,
  k_callV (y2 := yX1_within) (C := RX1) (T0 := TX1) (ci := 0) dL_law_937 sndX1_within rfl q1436 q1437 q1438 q128 q1439 (by decide +kernel) ⟨by decide, by decide⟩ (by decide) (by decide),
  k_aload_n dL_law_940,
  k_aload_n dL_law_941,
  k_iload dL_law_942,
  k_iconst dL_law_944,
  k_iadd dL_law_945,
  k_iald dL_law_946,
  k_aload_n dL_law_947,
  k_iload dL_law_948,
  k_iconst dL_law_950,
  k_iadd dL_law_951,
  k_iald dL_law_952,
  k_aload_n dL_law_953,
  k_iload dL_law_954,
  k_iconst dL_law_956,
  k_iadd dL_law_957,
  k_iald dL_law_958,
  k_aload_n dL_law_959,
  k_iload dL_law_960,
  k_iconst dL_law_962,
  k_iadd dL_law_963,
  k_iald dL_law_964,
  k_callV (y2 := yX4_within) (C := RX4) (T0 := TX4) (ci := 2) dL_law_965 sndX4_within rfl q2179 q2180 q2181 q137 q2182 (by decide +kernel) ⟨by decide, by decide⟩ (by decide) (by decide),
  k_cmpeq (t := 2172) dL_law_968 (by decide),
  k_iconst dL_law_971,
  k_zret dL_law_972,
  k_aload_n dL_law_973,
  k_aload_n dL_law_974,
  k_iload dL_law_975,
  k_iconst dL_law_977,
  k_iadd dL_law_978,
  k_iald dL_law_979,
  k_aload_n dL_law_980,
  k_iload dL_law_981,
  k_iconst dL_law_983,
  k_iadd dL_law_984,
  k_iald dL_law_985,
  k_aload_n dL_law_986,
  k_iload dL_law_987,
  k_iconst dL_law_989,
  k_iadd dL_law_990,
  k_iald dL_law_991,
  k_callV (y2 := yX1_latest) (C := RX1) (T0 := TX1) (ci := 0) dL_law_992 sndX1_latest rfl q1440 q1441 q1442 q128 q1443 (by decide +kernel) ⟨by decide, by decide⟩ (by decide) (by decide),
  k_aload_n dL_law_995,
  k_aload_n dL_law_996,
  k_iload dL_law_997,
  k_iconst dL_law_999,
  k_iadd dL_law_1000,
  k_iald dL_law_1001,
  k_aload_n dL_law_1002,
  k_iload dL_law_1003,
  k_iconst dL_law_1005, trivial⟩
theorem allL_law_6 : zall yL_law cL_law 7 (some .boolean) 14 kL_law_6 :=
  ⟨k_iadd dL_law_1006,
  k_iald dL_law_1007,
  k_aload_n dL_law_1008,
  k_iload dL_law_1009,
  k_iconst dL_law_1011,
  k_iadd dL_law_1012,
  k_iald dL_law_1013,
  k_callV (y2 := yX4_latest) (C := RX4) (T0 := TX4) (ci := 2) dL_law_1014 sndX4_latest rfl q2215 q2216 q2217 q137 q2218 (by decide +kernel) ⟨by decide, by decide⟩ (by decide) (by decide),
  k_cmpeq (t := 2172) dL_law_1017 (by decide),
  k_iconst dL_law_1020,
  k_zret dL_law_1021,
  k_aload_n dL_law_1022,
  k_aload_n dL_law_1023,
  k_iload dL_law_1024,
  k_iconst dL_law_1026,
  k_iadd dL_law_1027,
  k_iald dL_law_1028,
  k_aload_n dL_law_1029,
  k_iload dL_law_1030,
  k_iconst dL_law_1032,
  k_iadd dL_law_1033,
  k_iald dL_law_1034,
  k_aload_n dL_law_1035,
  k_iload dL_law_1036,
  k_iconst dL_law_1038,
  k_iadd dL_law_1039,
  k_iald dL_law_1040,
  k_callV (y2 := yX1_reach) (C := RX1) (T0 := TX1) (ci := 0) dL_law_1041 sndX1_reach rfl q1453 q1454 q1455 q128 q1456 (by decide +kernel) ⟨by decide, by decide⟩ (by decide) (by decide),
  k_aload_n dL_law_1044,
  k_aload_n dL_law_1045,
  k_iload dL_law_1046,
  k_iconst dL_law_1048,
  k_iadd dL_law_1049,
  k_iald dL_law_1050,
  k_aload_n dL_law_1051,
  k_iload dL_law_1052,
  k_iconst dL_law_1054,
  k_iadd dL_law_1055,
  k_iald dL_law_1056,
  k_aload_n dL_law_1057,
  k_iload dL_law_1058,
  k_iconst dL_law_1060,
  k_iadd dL_law_1061,
  k_iald dL_law_1062,
  k_callV (y2 := yX4_reach) (C := RX4) (T0 := TX4) (ci := 2) dL_law_1063 sndX4_reach rfl q2219 q2220 q2221 q137 q2222 (by decide +kernel) ⟨by decide, by decide⟩ (by decide) (by decide),
  k_cmpeq (t := 2172) dL_law_1066 (by decide),
  k_iconst dL_law_1069,
  k_zret dL_law_1070,
  k_aload_n dL_law_1071,
  k_aload_n dL_law_1072,
  k_iload dL_law_1073,
  k_iconst dL_law_1075,
  k_iadd dL_law_1076,
  k_iald dL_law_1077,
  k_aload_n dL_law_1078,
  k_iload dL_law_1079,
  k_iconst dL_law_1081,
  k_iadd dL_law_1082,
  k_iald dL_law_1083,
  k_callV (y2 := yX1_farthest) (C := RX1) (T0 := TX1) (ci := 0) dL_law_1084 sndX1_farthest rfl q1457 q1458 q1459 q128 q1460 (by decide +kernel) ⟨by decide, by decide⟩ (by decide) (by decide),
  k_aload_n dL_law_1087,
  k_aload_n dL_law_1088,
  k_iload dL_law_1089,
  k_iconst dL_law_1091,
  k_iadd dL_law_1092,
  k_iald dL_law_1093,
  k_aload_n dL_law_1094,
  k_iload dL_law_1095,
  k_iconst dL_law_1097,
  k_iadd dL_law_1098,
  k_iald dL_law_1099,
  k_callV (y2 := yX4_farthest) (C := RX4) (T0 := TX4) (ci := 2) dL_law_1100 sndX4_farthest rfl q2223 q2224 q2225 q137 q2226 (by decide +kernel) ⟨by decide, by decide⟩ (by decide) (by decide),
  k_cmpeq (t := 2172) dL_law_1103 (by decide),
  k_iconst dL_law_1106,
  k_zret dL_law_1107,
  k_aload_n dL_law_1108,
  k_aload_n dL_law_1109,
  k_iload dL_law_1110,
  k_iconst dL_law_1112,
  k_iadd dL_law_1113,
  k_iald dL_law_1114,
  k_aload_n dL_law_1115,
  k_iload dL_law_1116,
  k_iconst dL_law_1118,
  k_iadd dL_law_1119,
  k_iald dL_law_1120,
  k_aload_n dL_law_1121,
  k_iload dL_law_1122,
  k_iconst dL_law_1124,
  k_iadd dL_law_1125,
  k_iald dL_law_1126,
  k_callV (y2 := yX1_meets) (C := RX1) (T0 := TX1) (ci := 0) dL_law_1127 sndX1_meets rfl q1461 q1462 q1463 q128 q1464 (by decide +kernel) ⟨by decide, by decide⟩ (by decide) (by decide),
  k_aload_n dL_law_1130,
  k_aload_n dL_law_1131,
  k_iload dL_law_1132,
  k_iconst dL_law_1134,
  k_iadd dL_law_1135,
  k_iald dL_law_1136,
  k_aload_n dL_law_1137,
  k_iload dL_law_1138, trivial⟩
theorem allL_law_7 : zall yL_law cL_law 7 (some .boolean) 14 kL_law_7 :=
  ⟨k_iconst dL_law_1140,
  k_iadd dL_law_1141,
  k_iald dL_law_1142,
  k_aload_n dL_law_1143,
  k_iload dL_law_1144,
  k_iconst dL_law_1146,
  k_iadd dL_law_1147,
  k_iald dL_law_1148,
  k_callV (y2 := yX4_meets) (C := RX4) (T0 := TX4) (ci := 2) dL_law_1149 sndX4_meets rfl q2227 q2228 q2229 q137 q2230 (by decide +kernel) ⟨by decide, by decide⟩ (by decide) (by decide),
  k_cmpeq (t := 2172) dL_law_1152 (by decide),
  k_iconst dL_law_1155,
  k_zret dL_law_1156,
  k_aload_n dL_law_1157,
  k_aload_n dL_law_1158,
  k_iload dL_law_1159,
  k_iconst dL_law_1161,
  k_iadd dL_law_1162,
  k_iald dL_law_1163,
  k_aload_n dL_law_1164,
  k_iload dL_law_1165,
  k_iconst dL_law_1167,
  k_iadd dL_law_1168,
  k_iald dL_law_1169,
  k_aload_n dL_law_1170,
  k_iload dL_law_1171,
  k_iconst dL_law_1173,
  k_iadd dL_law_1174,
  k_iald dL_law_1175,
  k_aload_n dL_law_1176,
  k_iload dL_law_1177,
  k_iconst dL_law_1179,
  k_iadd dL_law_1180,
  k_iald dL_law_1181,
  k_callV (y2 := yX1_round) (C := RX1) (T0 := TX1) (ci := 0) dL_law_1182 sndX1_round rfl q1466 q1467 q1468 q128 q1469 (by decide +kernel) ⟨by decide, by decide⟩ (by decide) (by decide),
  k_aload_n dL_law_1185,
  k_aload_n dL_law_1186,
  k_iload dL_law_1187,
  k_iconst dL_law_1189,
  k_iadd dL_law_1190,
  k_iald dL_law_1191,
  k_aload_n dL_law_1192,
  k_iload dL_law_1193,
  k_iconst dL_law_1195,
  k_iadd dL_law_1196,
  k_iald dL_law_1197,
  k_aload_n dL_law_1198,
  k_iload dL_law_1199,
  k_iconst dL_law_1201,
  k_iadd dL_law_1202,
  k_iald dL_law_1203,
  k_aload_n dL_law_1204,
  k_iload dL_law_1205,
  k_iconst dL_law_1207,
  k_iadd dL_law_1208,
  k_iald dL_law_1209,
  k_callV (y2 := yX4_round) (C := RX4) (T0 := TX4) (ci := 2) dL_law_1210 sndX4_round rfl q2231 q2232 q2233 q137 q2234 (by decide +kernel) ⟨by decide, by decide⟩ (by decide) (by decide),
  k_cmpeq (t := 2172) dL_law_1213 (by decide),
  k_iconst dL_law_1216,
  k_zret dL_law_1217,
  k_aload_n dL_law_1218,
  k_aload_n dL_law_1219,
  k_iload dL_law_1220,
  k_iconst dL_law_1222,
  k_iadd dL_law_1223,
  k_iald dL_law_1224,
  k_aload_n dL_law_1225,
  k_iload dL_law_1226,
  k_iconst dL_law_1228,
  k_iadd dL_law_1229,
  k_iald dL_law_1230,
  k_callV (y2 := yX1_steps) (C := RX1) (T0 := TX1) (ci := 0) dL_law_1231 sndX1_steps rfl q1470 q1471 q1472 q128 q1473 (by decide +kernel) ⟨by decide, by decide⟩ (by decide) (by decide),
  k_aload_n dL_law_1234,
  k_aload_n dL_law_1235,
  k_iload dL_law_1236,
  k_iconst dL_law_1238,
  k_iadd dL_law_1239,
  k_iald dL_law_1240,
  k_aload_n dL_law_1241,
  k_iload dL_law_1242,
  k_iconst dL_law_1244,
  k_iadd dL_law_1245,
  k_iald dL_law_1246,
  k_callV (y2 := yX4_steps) (C := RX4) (T0 := TX4) (ci := 2) dL_law_1247 sndX4_steps rfl q2279 q2280 q2281 q137 q2282 (by decide +kernel) ⟨by decide, by decide⟩ (by decide) (by decide),
  k_cmpeq (t := 2172) dL_law_1250 (by decide),
  k_iconst dL_law_1253,
  k_zret dL_law_1254,
  k_aload_n dL_law_1255,
  k_aload_n dL_law_1256,
  k_iload dL_law_1257,
  k_iconst dL_law_1259,
  k_iadd dL_law_1260,
  k_iald dL_law_1261,
  k_aload_n dL_law_1262,
  k_iload dL_law_1263,
  k_iconst dL_law_1265,
  k_iadd dL_law_1266,
  k_iald dL_law_1267,
  k_aload_n dL_law_1268,
  k_iload dL_law_1269,
  k_iconst dL_law_1271, trivial⟩
theorem allL_law_8 : zall yL_law cL_law 7 (some .boolean) 14 kL_law_8 :=
  ⟨k_iadd dL_law_1272,
  k_iald dL_law_1273,
  k_aload_n dL_law_1274,
  k_iload dL_law_1275,
  k_iconst dL_law_1277,
  k_iadd dL_law_1278,
  k_iald dL_law_1279,
  k_callV (y2 := yX1_step) (C := RX1) (T0 := TX1) (ci := 0) dL_law_1280 sndX1_step rfl q1483 q1484 q1485 q128 q1486 (by decide +kernel) ⟨by decide, by decide⟩ (by decide) (by decide),
  k_aload_n dL_law_1283,
  k_aload_n dL_law_1284,
  k_iload dL_law_1285,
  k_iconst dL_law_1287,
  k_iadd dL_law_1288,
  k_iald dL_law_1289,
  k_aload_n dL_law_1290,
  k_iload dL_law_1291,
  k_iconst dL_law_1293,
  k_iadd dL_law_1294,
  k_iald dL_law_1295,
  k_aload_n dL_law_1296,
  k_iload dL_law_1297,
  k_iconst dL_law_1299,
  k_iadd dL_law_1300,
  k_iald dL_law_1301,
  k_aload_n dL_law_1302,
  k_iload dL_law_1303,
  k_iconst dL_law_1305,
  k_iadd dL_law_1306,
  k_iald dL_law_1307,
  k_callV (y2 := yX4_step) (C := RX4) (T0 := TX4) (ci := 2) dL_law_1308 sndX4_step rfl q2291 q2292 q2293 q137 q2294 (by decide +kernel) ⟨by decide, by decide⟩ (by decide) (by decide),
  k_cmpeq (t := 2172) dL_law_1311 (by decide),
  k_iconst dL_law_1314,
  k_zret dL_law_1315,
  k_aload_n dL_law_1316,
  k_aload_n dL_law_1317,
  k_iload dL_law_1318,
  k_iconst dL_law_1320,
  k_iadd dL_law_1321,
  k_iald dL_law_1322,
  k_aload_n dL_law_1323,
  k_iload dL_law_1324,
  k_iconst dL_law_1326,
  k_iadd dL_law_1327,
  k_iald dL_law_1328,
  k_callV (y2 := yX1_quickest) (C := RX1) (T0 := TX1) (ci := 0) dL_law_1329 sndX1_quickest rfl q1493 q1494 q1495 q128 q1496 (by decide +kernel) ⟨by decide, by decide⟩ (by decide) (by decide),
  k_aload_n dL_law_1332,
  k_aload_n dL_law_1333,
  k_iload dL_law_1334,
  k_iconst dL_law_1336,
  k_iadd dL_law_1337,
  k_iald dL_law_1338,
  k_aload_n dL_law_1339,
  k_iload dL_law_1340,
  k_iconst dL_law_1342,
  k_iadd dL_law_1343,
  k_iald dL_law_1344,
  k_callV (y2 := yX4_quickest) (C := RX4) (T0 := TX4) (ci := 2) dL_law_1345 sndX4_quickest rfl q2295 q2296 q2297 q137 q2298 (by decide +kernel) ⟨by decide, by decide⟩ (by decide) (by decide),
  k_cmpeq (t := 2172) dL_law_1348 (by decide),
  k_iconst dL_law_1351,
  k_zret dL_law_1352,
  k_aload_n dL_law_1353,
  k_aload_n dL_law_1354,
  k_iload dL_law_1355,
  k_iconst dL_law_1357,
  k_iadd dL_law_1358,
  k_iald dL_law_1359,
  k_aload_n dL_law_1360,
  k_iload dL_law_1361,
  k_iconst dL_law_1363,
  k_iadd dL_law_1364,
  k_iald dL_law_1365,
  k_aload_n dL_law_1366,
  k_iload dL_law_1367,
  k_iconst dL_law_1369,
  k_iadd dL_law_1370,
  k_iald dL_law_1371,
  k_aload_n dL_law_1372,
  k_iload dL_law_1373,
  k_iconst dL_law_1375,
  k_iadd dL_law_1376,
  k_iald dL_law_1377,
  k_callV (y2 := yX1_spent) (C := RX1) (T0 := TX1) (ci := 0) dL_law_1378 sndX1_spent rfl q1497 q1498 q1499 q128 q1500 (by decide +kernel) ⟨by decide, by decide⟩ (by decide) (by decide),
  k_aload_n dL_law_1381,
  k_aload_n dL_law_1382,
  k_iload dL_law_1383,
  k_iconst dL_law_1385,
  k_iadd dL_law_1386,
  k_iald dL_law_1387,
  k_aload_n dL_law_1388,
  k_iload dL_law_1389,
  k_iconst dL_law_1391,
  k_iadd dL_law_1392,
  k_iald dL_law_1393,
  k_aload_n dL_law_1394,
  k_iload dL_law_1395,
  k_iconst dL_law_1397,
  k_iadd dL_law_1398,
  k_iald dL_law_1399,
  k_aload_n dL_law_1400,
  k_iload dL_law_1401, trivial⟩
theorem allL_law_9 : zall yL_law cL_law 7 (some .boolean) 14 kL_law_9 :=
  ⟨k_iconst dL_law_1403,
  k_iadd dL_law_1404,
  k_iald dL_law_1405,
  k_callV (y2 := yX4_spent) (C := RX4) (T0 := TX4) (ci := 2) dL_law_1406 sndX4_spent rfl q2299 q2300 q2301 q137 q2302 (by decide +kernel) ⟨by decide, by decide⟩ (by decide) (by decide),
  k_cmpeq (t := 2172) dL_law_1409 (by decide),
  k_iconst dL_law_1412,
  k_zret dL_law_1413,
  k_aload_n dL_law_1414,
  k_aload_n dL_law_1415,
  k_iload dL_law_1416,
  k_iconst dL_law_1418,
  k_iadd dL_law_1419,
  k_iald dL_law_1420,
  k_aload_n dL_law_1421,
  k_iload dL_law_1422,
  k_iconst dL_law_1424,
  k_iadd dL_law_1425,
  k_iald dL_law_1426,
  k_aload_n dL_law_1427,
  k_iload dL_law_1428,
  k_iconst dL_law_1430,
  k_iadd dL_law_1431,
  k_iald dL_law_1432,
  k_callV (y2 := yX1_others) (C := RX1) (T0 := TX1) (ci := 0) dL_law_1433 sndX1_others rfl q1501 q1502 q1503 q128 q1504 (by decide +kernel) ⟨by decide, by decide⟩ (by decide) (by decide),
  k_aload_n dL_law_1436,
  k_aload_n dL_law_1437,
  k_iload dL_law_1438,
  k_iconst dL_law_1440,
  k_iadd dL_law_1441,
  k_iald dL_law_1442,
  k_aload_n dL_law_1443,
  k_iload dL_law_1444,
  k_iconst dL_law_1446,
  k_iadd dL_law_1447,
  k_iald dL_law_1448,
  k_aload_n dL_law_1449,
  k_iload dL_law_1450,
  k_iconst dL_law_1452,
  k_iadd dL_law_1453,
  k_iald dL_law_1454,
  k_callV (y2 := yX4_others) (C := RX4) (T0 := TX4) (ci := 2) dL_law_1455 sndX4_others rfl q2235 q2236 q2237 q137 q2238 (by decide +kernel) ⟨by decide, by decide⟩ (by decide) (by decide),
  k_cmpeq (t := 2172) dL_law_1458 (by decide),
  k_iconst dL_law_1461,
  k_zret dL_law_1462,
  k_aload_n dL_law_1463,
  k_aload_n dL_law_1464,
  k_iload dL_law_1465,
  k_iconst dL_law_1467,
  k_iadd dL_law_1468,
  k_iald dL_law_1469,
  k_aload_n dL_law_1470,
  k_iload dL_law_1471,
  k_iconst dL_law_1473,
  k_iadd dL_law_1474,
  k_iald dL_law_1475,
  k_aload_n dL_law_1476,
  k_iload dL_law_1477,
  k_iconst dL_law_1479,
  k_iadd dL_law_1480,
  k_iald dL_law_1481,
  k_aload_n dL_law_1482,
  k_iload dL_law_1483,
  k_iconst dL_law_1485,
  k_iadd dL_law_1486,
  k_iald dL_law_1487,
  k_callV (y2 := yX1_other) (C := RX1) (T0 := TX1) (ci := 0) dL_law_1488 sndX1_other rfl q1517 q1518 q1519 q128 q1520 (by decide +kernel) ⟨by decide, by decide⟩ (by decide) (by decide),
  k_aload_n dL_law_1491,
  k_aload_n dL_law_1492,
  k_iload dL_law_1493,
  k_iconst dL_law_1495,
  k_iadd dL_law_1496,
  k_iald dL_law_1497,
  k_aload_n dL_law_1498,
  k_iload dL_law_1499,
  k_iconst dL_law_1501,
  k_iadd dL_law_1502,
  k_iald dL_law_1503,
  k_aload_n dL_law_1504,
  k_iload dL_law_1505,
  k_iconst dL_law_1507,
  k_iadd dL_law_1508,
  k_iald dL_law_1509,
  k_aload_n dL_law_1510,
  k_iload dL_law_1511,
  k_iconst dL_law_1513,
  k_iadd dL_law_1514,
  k_iald dL_law_1515,
  k_callV (y2 := yX4_other) (C := RX4) (T0 := TX4) (ci := 2) dL_law_1516 sndX4_other rfl q2255 q2256 q2257 q137 q2258 (by decide +kernel) ⟨by decide, by decide⟩ (by decide) (by decide),
  k_cmpeq (t := 2172) dL_law_1519 (by decide),
  k_iconst dL_law_1522,
  k_zret dL_law_1523,
  k_aload_n dL_law_1524,
  k_aload_n dL_law_1525,
  k_iload dL_law_1526,
  k_iconst dL_law_1528,
  k_iadd dL_law_1529,
  k_iald dL_law_1530,
  k_callV (y2 := yX1_pairs) (C := RX1) (T0 := TX1) (ci := 0) dL_law_1531 sndX1_pairs rfl q1521 q1522 q1523 q128 q1524 (by decide +kernel) ⟨by decide, by decide⟩ (by decide) (by decide),
  k_aload_n dL_law_1534,
  k_aload_n dL_law_1535, trivial⟩
theorem allL_law_10 : zall yL_law cL_law 7 (some .boolean) 14 kL_law_10 :=
  ⟨k_iload dL_law_1536,
  k_iconst dL_law_1538,
  k_iadd dL_law_1539,
  k_iald dL_law_1540,
  k_callV (y2 := yX4_pairs) (C := RX4) (T0 := TX4) (ci := 2) dL_law_1541 sndX4_pairs rfl q2259 q2260 q2261 q137 q2262 (by decide +kernel) ⟨by decide, by decide⟩ (by decide) (by decide),
  k_cmpeq (t := 2172) dL_law_1544 (by decide),
  k_iconst dL_law_1547,
  k_zret dL_law_1548,
  k_aload_n dL_law_1549,
  k_aload_n dL_law_1550,
  k_iload dL_law_1551,
  k_iconst dL_law_1553,
  k_iadd dL_law_1554,
  k_iald dL_law_1555,
  k_callV (y2 := yX1_hub) (C := RX1) (T0 := TX1) (ci := 0) dL_law_1556 sndX1_hub rfl q1538 q1539 q1540 q128 q1541 (by decide +kernel) ⟨by decide, by decide⟩ (by decide) (by decide),
  k_aload_n dL_law_1559,
  k_aload_n dL_law_1560,
  k_iload dL_law_1561,
  k_iconst dL_law_1563,
  k_iadd dL_law_1564,
  k_iald dL_law_1565,
  k_callV (y2 := yX4_hub) (C := RX4) (T0 := TX4) (ci := 2) dL_law_1566 sndX4_hub rfl q2271 q2272 q2273 q137 q2274 (by decide +kernel) ⟨by decide, by decide⟩ (by decide) (by decide),
  k_cmpeq (t := 2172) dL_law_1569 (by decide),
  k_iconst dL_law_1572,
  k_zret dL_law_1573,
  k_aload_n dL_law_1574,
  k_aload_n dL_law_1575,
  k_iload dL_law_1576,
  k_iconst dL_law_1578,
  k_iadd dL_law_1579,
  k_iald dL_law_1580,
  k_callV (y2 := yX1_slowest) (C := RX1) (T0 := TX1) (ci := 0) dL_law_1581 sndX1_slowest rfl q1542 q1543 q1544 q128 q1545 (by decide +kernel) ⟨by decide, by decide⟩ (by decide) (by decide),
  k_aload_n dL_law_1584,
  k_aload_n dL_law_1585,
  k_iload dL_law_1586,
  k_iconst dL_law_1588,
  k_iadd dL_law_1589,
  k_iald dL_law_1590,
  k_callV (y2 := yX4_slowest) (C := RX4) (T0 := TX4) (ci := 2) dL_law_1591 sndX4_slowest rfl q2275 q2276 q2277 q137 q2278 (by decide +kernel) ⟨by decide, by decide⟩ (by decide) (by decide),
  k_cmpeq (t := 2172) dL_law_1594 (by decide),
  k_iconst dL_law_1597,
  k_zret dL_law_1598,
  k_aload_n dL_law_1599,
  k_aload_n dL_law_1600,
  k_iload dL_law_1601,
  k_iconst dL_law_1603,
  k_iadd dL_law_1604,
  k_iald dL_law_1605,
  k_aload_n dL_law_1606,
  k_iload dL_law_1607,
  k_iconst dL_law_1609,
  k_iadd dL_law_1610,
  k_iald dL_law_1611,
  k_aload_n dL_law_1612,
  k_iload dL_law_1613,
  k_iconst dL_law_1615,
  k_iadd dL_law_1616,
  k_iald dL_law_1617,
  k_aload_n dL_law_1618,
  k_iload dL_law_1619,
  k_iconst dL_law_1621,
  k_iadd dL_law_1622,
  k_iald dL_law_1623,
  k_callV (y2 := yX1_needs) (C := RX1) (T0 := TX1) (ci := 0) dL_law_1624 sndX1_needs rfl q1546 q1547 q1548 q128 q1549 (by decide +kernel) ⟨by decide, by decide⟩ (by decide) (by decide),
  k_aload_n dL_law_1627,
  k_aload_n dL_law_1628,
  k_iload dL_law_1629,
  k_iconst dL_law_1631,
  k_iadd dL_law_1632,
  k_iald dL_law_1633,
  k_aload_n dL_law_1634,
  k_iload dL_law_1635,
  k_iconst dL_law_1637,
  k_iadd dL_law_1638,
  k_iald dL_law_1639,
  k_aload_n dL_law_1640,
  k_iload dL_law_1641,
  k_iconst dL_law_1643,
  k_iadd dL_law_1644,
  k_iald dL_law_1645,
  k_aload_n dL_law_1646,
  k_iload dL_law_1647,
  k_iconst dL_law_1649,
  k_iadd dL_law_1650,
  k_iald dL_law_1651,
  k_callV (y2 := yX4_needs) (C := RX4) (T0 := TX4) (ci := 2) dL_law_1652 sndX4_needs rfl q2303 q2304 q2305 q137 q2306 (by decide +kernel) ⟨by decide, by decide⟩ (by decide) (by decide),
  k_cmpeq (t := 2172) dL_law_1655 (by decide),
  k_iconst dL_law_1658,
  k_zret dL_law_1659,
  k_aload_n dL_law_1660,
  k_aload_n dL_law_1661,
  k_iload dL_law_1662,
  k_iconst dL_law_1664,
  k_iadd dL_law_1665,
  k_iald dL_law_1666,
  k_aload_n dL_law_1667,
  k_iload dL_law_1668,
  k_iconst dL_law_1670,
  k_iadd dL_law_1671,
  k_iald dL_law_1672, trivial⟩
theorem allL_law_11 : zall yL_law cL_law 7 (some .boolean) 14 kL_law_11 :=
  ⟨k_aload_n dL_law_1673,
  k_iload dL_law_1674,
  k_iconst dL_law_1676,
  k_iadd dL_law_1677,
  k_iald dL_law_1678,
  k_callV (y2 := yX1_vital) (C := RX1) (T0 := TX1) (ci := 0) dL_law_1679 sndX1_vital rfl q1558 q1559 q1560 q128 q1561 (by decide +kernel) ⟨by decide, by decide⟩ (by decide) (by decide),
  k_aload_n dL_law_1682,
  k_aload_n dL_law_1683,
  k_iload dL_law_1684,
  k_iconst dL_law_1686,
  k_iadd dL_law_1687,
  k_iald dL_law_1688,
  k_aload_n dL_law_1689,
  k_iload dL_law_1690,
  k_iconst dL_law_1692,
  k_iadd dL_law_1693,
  k_iald dL_law_1694,
  k_aload_n dL_law_1695,
  k_iload dL_law_1696,
  k_iconst dL_law_1698,
  k_iadd dL_law_1699,
  k_iald dL_law_1700,
  k_callV (y2 := yX4_vital) (C := RX4) (T0 := TX4) (ci := 2) dL_law_1701 sndX4_vital rfl q2311 q2312 q2313 q137 q2314 (by decide +kernel) ⟨by decide, by decide⟩ (by decide) (by decide),
  k_cmpeq (t := 2172) dL_law_1704 (by decide),
  k_iconst dL_law_1707,
  k_zret dL_law_1708,
  k_aload_n dL_law_1709,
  k_aload_n dL_law_1710,
  k_iload dL_law_1711,
  k_iconst dL_law_1713,
  k_iadd dL_law_1714,
  k_iald dL_law_1715,
  k_aload_n dL_law_1716,
  k_iload dL_law_1717,
  k_iconst dL_law_1719,
  k_iadd dL_law_1720,
  k_iald dL_law_1721,
  k_aload_n dL_law_1722,
  k_iload dL_law_1723,
  k_iconst dL_law_1725,
  k_iadd dL_law_1726,
  k_iald dL_law_1727,
  k_aload_n dL_law_1728,
  k_iload dL_law_1729,
  k_iconst dL_law_1731,
  k_iadd dL_law_1732,
  k_iald dL_law_1733,
  k_callV (y2 := yX1_slack) (C := RX1) (T0 := TX1) (ci := 0) dL_law_1734 sndX1_slack rfl q1562 q1563 q1564 q128 q1565 (by decide +kernel) ⟨by decide, by decide⟩ (by decide) (by decide),
  k_aload_n dL_law_1737,
  k_aload_n dL_law_1738,
  k_iload dL_law_1739,
  k_iconst dL_law_1741,
  k_iadd dL_law_1742,
  k_iald dL_law_1743,
  k_aload_n dL_law_1744,
  k_iload dL_law_1745,
  k_iconst dL_law_1747,
  k_iadd dL_law_1748,
  k_iald dL_law_1749,
  k_aload_n dL_law_1750,
  k_iload dL_law_1751,
  k_iconst dL_law_1753,
  k_iadd dL_law_1754,
  k_iald dL_law_1755,
  k_aload_n dL_law_1756,
  k_iload dL_law_1757,
  k_iconst dL_law_1759,
  k_iadd dL_law_1760,
  k_iald dL_law_1761,
  k_callV (y2 := yX4_slack) (C := RX4) (T0 := TX4) (ci := 2) dL_law_1762 sndX4_slack rfl q2315 q2316 q2317 q137 q2318 (by decide +kernel) ⟨by decide, by decide⟩ (by decide) (by decide),
  k_cmpeq (t := 2172) dL_law_1765 (by decide),
  k_iconst dL_law_1768,
  k_zret dL_law_1769,
  k_aload_n dL_law_1770,
  k_aload_n dL_law_1771,
  k_iload dL_law_1772,
  k_iconst dL_law_1774,
  k_iadd dL_law_1775,
  k_iald dL_law_1776,
  k_aload_n dL_law_1777,
  k_iload dL_law_1778,
  k_iconst dL_law_1780,
  k_iadd dL_law_1781,
  k_iald dL_law_1782,
  k_aload_n dL_law_1783,
  k_iload dL_law_1784,
  k_iconst dL_law_1786,
  k_iadd dL_law_1787,
  k_iald dL_law_1788,
  k_aload_n dL_law_1789,
  k_iload dL_law_1790,
  k_iconst dL_law_1792,
  k_iadd dL_law_1793,
  k_iald dL_law_1794,
  k_callVX (y2 := yX1_why) (C := RX1) (T0 := TX1) (ci := 0) dL_law_1795 sndX1_why rfl q1566 q1567 q1568 q128 q1569 (by decide +kernel) ⟨by decide, by decide⟩ (by decide) (by decide),
  k_aload_n dL_law_1798,
  k_aload_n dL_law_1799,
  k_iload dL_law_1800,
  k_iconst dL_law_1802,
  k_iadd dL_law_1803, trivial⟩
theorem allL_law_12 : zall yL_law cL_law 7 (some .boolean) 14 kL_law_12 :=
  ⟨k_iald dL_law_1804,
  k_aload_n dL_law_1805,
  k_iload dL_law_1806,
  k_iconst dL_law_1808,
  k_iadd dL_law_1809,
  k_iald dL_law_1810,
  k_aload_n dL_law_1811,
  k_iload dL_law_1812,
  k_iconst dL_law_1814,
  k_iadd dL_law_1815,
  k_iald dL_law_1816,
  k_aload_n dL_law_1817,
  k_iload dL_law_1818,
  k_iconst dL_law_1820,
  k_iadd dL_law_1821,
  k_iald dL_law_1822,
  k_callV (y2 := yX4_why) (C := RX4) (T0 := TX4) (ci := 2) dL_law_1823 sndX4_why rfl q2319 q2320 q2321 q137 q2322 (by decide +kernel) ⟨by decide, by decide⟩ (by decide) (by decide),
  k_cmpeq (t := 2172) dL_law_1826 (by decide),
  k_iconst dL_law_1829,
  k_zret dL_law_1830,
  k_aload_n dL_law_1831,
  k_aload_n dL_law_1832,
  k_iload dL_law_1833,
  k_iconst dL_law_1835,
  k_iadd dL_law_1836,
  k_iald dL_law_1837,
  k_callV (y2 := yX1_cancel) (C := RX1) (T0 := TX1) (ci := 0) dL_law_1838 sndX1_cancel rfl q1602 q1603 q1604 q128 q1605 (by decide +kernel) ⟨by decide, by decide⟩ (by decide) (by decide),
  k_aload_n dL_law_1841,
  k_aload_n dL_law_1842,
  k_iload dL_law_1843,
  k_iconst dL_law_1845,
  k_iadd dL_law_1846,
  k_iald dL_law_1847,
  k_callV (y2 := yX4_cancel) (C := RX4) (T0 := TX4) (ci := 2) dL_law_1848 sndX4_cancel rfl q2327 q2328 q2329 q137 q2330 (by decide +kernel) ⟨by decide, by decide⟩ (by decide) (by decide),
  k_cmpeq (t := 2172) dL_law_1851 (by decide),
  k_iconst dL_law_1854,
  k_zret dL_law_1855,
  k_aload_n dL_law_1856,
  k_aload_n dL_law_1857,
  k_iload dL_law_1858,
  k_iconst dL_law_1860,
  k_iadd dL_law_1861,
  k_iald dL_law_1862,
  k_callV (y2 := yX1_run) (C := RX1) (T0 := TX1) (ci := 0) dL_law_1863 sndX1_run rfl q1705 q1706 q1707 q128 q1708 (by decide +kernel) ⟨by decide, by decide⟩ (by decide) (by decide),
  k_aload_n dL_law_1866,
  k_aload_n dL_law_1867,
  k_iload dL_law_1868,
  k_iconst dL_law_1870,
  k_iadd dL_law_1871,
  k_iald dL_law_1872,
  k_callV (y2 := yX4_run) (C := RX4) (T0 := TX4) (ci := 2) dL_law_1873 sndX4_run rfl q2339 q2340 q2341 q137 q2342 (by decide +kernel) ⟨by decide, by decide⟩ (by decide) (by decide),
  k_cmpeq (t := 2172) dL_law_1876 (by decide),
  k_iconst dL_law_1879,
  k_zret dL_law_1880,
  k_aload_n dL_law_1881,
  k_aload_n dL_law_1882,
  k_iload dL_law_1883,
  k_iconst dL_law_1885,
  k_iadd dL_law_1886,
  k_iald dL_law_1887,
  k_aload_n dL_law_1888,
  k_iload dL_law_1889,
  k_iconst dL_law_1891,
  k_iadd dL_law_1892,
  k_iald dL_law_1893,
  k_callV (y2 := yX1_delay) (C := RX1) (T0 := TX1) (ci := 0) dL_law_1894 sndX1_delay rfl q1709 q1710 q1711 q128 q1712 (by decide +kernel) ⟨by decide, by decide⟩ (by decide) (by decide),
  k_aload_n dL_law_1897,
  k_aload_n dL_law_1898,
  k_iload dL_law_1899,
  k_iconst dL_law_1901,
  k_iadd dL_law_1902,
  k_iald dL_law_1903,
  k_aload_n dL_law_1904,
  k_iload dL_law_1905,
  k_iconst dL_law_1907,
  k_iadd dL_law_1908,
  k_iald dL_law_1909,
  k_callV (y2 := yX4_delay) (C := RX4) (T0 := TX4) (ci := 2) dL_law_1910 sndX4_delay rfl q2343 q2344 q2345 q137 q2346 (by decide +kernel) ⟨by decide, by decide⟩ (by decide) (by decide),
  k_cmpeq (t := 2172) dL_law_1913 (by decide),
  k_iconst dL_law_1916,
  k_zret dL_law_1917,
  k_aload_n dL_law_1918,
  k_aload_n dL_law_1919,
  k_iload dL_law_1920,
  k_iconst dL_law_1922,
  k_iadd dL_law_1923,
  k_iald dL_law_1924,
  k_aload_n dL_law_1925,
  k_iload dL_law_1926,
  k_iconst dL_law_1928,
  k_iadd dL_law_1929,
  k_iald dL_law_1930,
  k_callV (y2 := yX1_change) (C := RX1) (T0 := TX1) (ci := 0) dL_law_1931 sndX1_change rfl q1717 q1718 q1719 q128 q1720 (by decide +kernel) ⟨by decide, by decide⟩ (by decide) (by decide),
  k_aload_n dL_law_1934,
  k_aload_n dL_law_1935,
  k_iload dL_law_1936,
  k_iconst dL_law_1938,
  k_iadd dL_law_1939,
  k_iald dL_law_1940,
  k_aload_n dL_law_1941, trivial⟩
theorem allL_law_13 : zall yL_law cL_law 7 (some .boolean) 14 kL_law_13 :=
  ⟨k_iload dL_law_1942,
  k_iconst dL_law_1944,
  k_iadd dL_law_1945,
  k_iald dL_law_1946,
  k_callV (y2 := yX4_change) (C := RX4) (T0 := TX4) (ci := 2) dL_law_1947 sndX4_change rfl q2347 q2348 q2349 q137 q2350 (by decide +kernel) ⟨by decide, by decide⟩ (by decide) (by decide),
  k_cmpeq (t := 2172) dL_law_1950 (by decide),
  k_iconst dL_law_1953,
  k_zret dL_law_1954,
  k_aload_n dL_law_1955,
  k_aload_n dL_law_1956,
  k_iload dL_law_1957,
  k_iconst dL_law_1959,
  k_iadd dL_law_1960,
  k_iald dL_law_1961,
  k_aload_n dL_law_1962,
  k_iload dL_law_1963,
  k_iconst dL_law_1965,
  k_iadd dL_law_1966,
  k_iald dL_law_1967,
  k_callV (y2 := yX1_hold) (C := RX1) (T0 := TX1) (ci := 0) dL_law_1968 sndX1_hold rfl q1721 q1722 q1723 q128 q1724 (by decide +kernel) ⟨by decide, by decide⟩ (by decide) (by decide),
  k_aload_n dL_law_1971,
  k_aload_n dL_law_1972,
  k_iload dL_law_1973,
  k_iconst dL_law_1975,
  k_iadd dL_law_1976,
  k_iald dL_law_1977,
  k_aload_n dL_law_1978,
  k_iload dL_law_1979,
  k_iconst dL_law_1981,
  k_iadd dL_law_1982,
  k_iald dL_law_1983,
  k_callV (y2 := yX4_hold) (C := RX4) (T0 := TX4) (ci := 2) dL_law_1984 sndX4_hold rfl q2351 q2352 q2353 q137 q2354 (by decide +kernel) ⟨by decide, by decide⟩ (by decide) (by decide),
  k_cmpeq (t := 2172) dL_law_1987 (by decide),
  k_iconst dL_law_1990,
  k_zret dL_law_1991,
  k_aload_n dL_law_1992,
  k_aload_n dL_law_1993,
  k_iload dL_law_1994,
  k_iconst dL_law_1996,
  k_iadd dL_law_1997,
  k_iald dL_law_1998,
  k_aload_n dL_law_1999,
  k_iload dL_law_2000,
  k_iconst dL_law_2002,
  k_iadd dL_law_2003,
  k_iald dL_law_2004,
  k_aload_n dL_law_2005,
  k_iload dL_law_2006,
  k_iconst dL_law_2008,
  k_iadd dL_law_2009,
  k_iald dL_law_2010,
  k_aload_n dL_law_2011,
  k_iload dL_law_2012,
  k_iconst dL_law_2014,
  k_iadd dL_law_2015,
  k_iald dL_law_2016,
  k_aload_n dL_law_2017,
  k_iload dL_law_2018,
  k_iconst dL_law_2020,
  k_iadd dL_law_2021,
  k_iald dL_law_2022,
  k_callV (y2 := yX1_extra) (C := RX1) (T0 := TX1) (ci := 0) dL_law_2023 sndX1_extra rfl q1725 q1726 q1727 q128 q1728 (by decide +kernel) ⟨by decide, by decide⟩ (by decide) (by decide),
  k_aload_n dL_law_2026,
  k_aload_n dL_law_2027,
  k_iload dL_law_2028,
  k_iconst dL_law_2030,
  k_iadd dL_law_2031,
  k_iald dL_law_2032,
  k_aload_n dL_law_2033,
  k_iload dL_law_2034,
  k_iconst dL_law_2036,
  k_iadd dL_law_2037,
  k_iald dL_law_2038,
  k_aload_n dL_law_2039,
  k_iload dL_law_2040,
  k_iconst dL_law_2042,
  k_iadd dL_law_2043,
  k_iald dL_law_2044,
  k_aload_n dL_law_2045,
  k_iload dL_law_2046,
  k_iconst dL_law_2048,
  k_iadd dL_law_2049,
  k_iald dL_law_2050,
  k_aload_n dL_law_2051,
  k_iload dL_law_2052,
  k_iconst dL_law_2054,
  k_iadd dL_law_2055,
  k_iald dL_law_2056,
  k_callV (y2 := yX4_extra) (C := RX4) (T0 := TX4) (ci := 2) dL_law_2057 sndX4_extra rfl q2355 q2356 q2357 q137 q2358 (by decide +kernel) ⟨by decide, by decide⟩ (by decide) (by decide),
  k_cmpeq (t := 2172) dL_law_2060 (by decide),
  k_iconst dL_law_2063,
  k_zret dL_law_2064,
  k_aload_n dL_law_2065,
  k_callV (y2 := yX1_undo) (C := RX1) (T0 := TX1) (ci := 0) dL_law_2066 sndX1_undo rfl q1731 q1732 q1733 q128 q1734 (by decide +kernel) ⟨by decide, by decide⟩ (by decide) (by decide),
  k_aload_n dL_law_2069,
  k_callV (y2 := yX4_undo) (C := RX4) (T0 := TX4) (ci := 2) dL_law_2070 sndX4_undo rfl q2359 q2360 q2361 q137 q2362 (by decide +kernel) ⟨by decide, by decide⟩ (by decide) (by decide),
  k_cmpeq (t := 2172) dL_law_2073 (by decide),
  k_iconst dL_law_2076,
  k_zret dL_law_2077,
  k_aload_n dL_law_2078, trivial⟩
theorem allL_law_14 : zall yL_law cL_law 7 (some .boolean) 14 kL_law_14 :=
  ⟨k_aload_n dL_law_2079,
  k_iload dL_law_2080,
  k_iconst dL_law_2082,
  k_iadd dL_law_2083,
  k_iald dL_law_2084,
  k_aload_n dL_law_2085,
  k_callSX (y2 := yX0_still) dL_law_2086 sndX0_still q1783 q1784 q127 q1785 (by decide +kernel) ⟨by decide, by decide⟩ (by decide) (by decide),
  k_istore dL_law_2089,
  k_aload_n dL_law_2091,
  k_aload_n dL_law_2092,
  k_iload dL_law_2093,
  k_iconst dL_law_2095,
  k_iadd dL_law_2096,
  k_iald dL_law_2097,
  k_callV (y2 := yX4_still) (C := RX4) (T0 := TX4) (ci := 2) dL_law_2098 sndX4_still rfl q2363 q2364 q2365 q137 q2366 (by decide +kernel) ⟨by decide, by decide⟩ (by decide) (by decide),
  k_istore dL_law_2101,
  k_aload_n dL_law_2103,
  k_callV (y2 := yX4_thrown) (C := RX4) (T0 := TX4) (ci := 2) dL_law_2104 sndX4_thrown rfl q1927 q1928 q1929 q137 q1930 (by decide +kernel) ⟨by decide, by decide⟩ (by decide) (by decide),
  k_iload dL_law_2107,
  k_cmpeq (t := 2114) dL_law_2109 (by decide),
  k_iconst dL_law_2112,
  k_zret dL_law_2113,
  k_iload dL_law_2114,
  k_ifne (t := 2131) dL_law_2116 (by decide),
  k_aload_n dL_law_2119,
  k_iconst dL_law_2120,
  k_lald dL_law_2121,
  k_iload dL_law_2122,
  k_i2l dL_law_2124,
  k_lcmp dL_law_2125,
  k_ifeq (t := 2131) dL_law_2126 (by decide),
  k_iconst dL_law_2129,
  k_zret dL_law_2130,
  k_goto (t := 2172) dL_law_2131 (by decide),
  k_aload_n dL_law_2134,
  k_aload_n dL_law_2135,
  k_iload dL_law_2136,
  k_iconst dL_law_2138,
  k_iadd dL_law_2139,
  k_iald dL_law_2140,
  k_callV (y2 := yX1_size) (C := RX1) (T0 := TX1) (ci := 0) dL_law_2141 sndX1_size rfl q1771 q1772 q1773 q128 q1774 (by decide +kernel) ⟨by decide, by decide⟩ (by decide) (by decide),
  k_aload_n dL_law_2144,
  k_aload_n dL_law_2145,
  k_iload dL_law_2146,
  k_iconst dL_law_2148,
  k_iadd dL_law_2149,
  k_iald dL_law_2150,
  k_callV (y2 := yX4_size) (C := RX4) (T0 := TX4) (ci := 2) dL_law_2151 sndX4_size rfl q2367 q2368 q2369 q137 q2370 (by decide +kernel) ⟨by decide, by decide⟩ (by decide) (by decide),
  k_cmpeq (t := 2172) dL_law_2154 (by decide),
  k_iconst dL_law_2157,
  k_zret dL_law_2158,
  k_aload_n dL_law_2159,
  k_callV (y2 := yX1_trouble) (C := RX1) (T0 := TX1) (ci := 0) dL_law_2160 sndX1_trouble rfl q1779 q1780 q1781 q128 q1782 (by decide +kernel) ⟨by decide, by decide⟩ (by decide) (by decide),
  k_aload_n dL_law_2163,
  k_callV (y2 := yX4_trouble) (C := RX4) (T0 := TX4) (ci := 2) dL_law_2164 sndX4_trouble rfl q2375 q2376 q2377 q137 q2378 (by decide +kernel) ⟨by decide, by decide⟩ (by decide) (by decide),
  k_cmpeq (t := 2172) dL_law_2167 (by decide),
  k_iconst dL_law_2170,
  k_zret dL_law_2171,
  k_iinc dL_law_2172,
  k_goto (t := 23) dL_law_2175 (by decide),
  k_iconst dL_law_2178,
  k_zret dL_law_2179, trivial⟩
theorem allL_law : zall yL_law cL_law 7 (some .boolean) 14 kL_law.1 := zall_app allL_law_0 (zall_app allL_law_1 (zall_app allL_law_2 (zall_app allL_law_3 (zall_app allL_law_4 (zall_app allL_law_5 (zall_app allL_law_6 (zall_app allL_law_7 (zall_app allL_law_8 (zall_app allL_law_9 (zall_app allL_law_10 (zall_app allL_law_11 (zall_app allL_law_12 (zall_app allL_law_13 (allL_law_14))))))))))))))
theorem skL_0 (pc : Nat) (_ : 0 ≤ pc) : zlk kL_law.1 pc = zlk (kL_law_0 ++ (kL_law_1 ++ (kL_law_2 ++ (kL_law_3 ++ (kL_law_4 ++ (kL_law_5 ++ (kL_law_6 ++ (kL_law_7 ++ (kL_law_8 ++ (kL_law_9 ++ (kL_law_10 ++ (kL_law_11 ++ (kL_law_12 ++ (kL_law_13 ++ (kL_law_14))))))))))))))) pc := rfl
theorem skL_1 (pc : Nat) (h : 335 ≤ pc) : zlk kL_law.1 pc = zlk (kL_law_1 ++ (kL_law_2 ++ (kL_law_3 ++ (kL_law_4 ++ (kL_law_5 ++ (kL_law_6 ++ (kL_law_7 ++ (kL_law_8 ++ (kL_law_9 ++ (kL_law_10 ++ (kL_law_11 ++ (kL_law_12 ++ (kL_law_13 ++ (kL_law_14)))))))))))))) pc := (skL_0 pc (Nat.le_trans (by decide) h)).trans (zlk_skip (B := 335) rfl h)
theorem skL_2 (pc : Nat) (h : 483 ≤ pc) : zlk kL_law.1 pc = zlk (kL_law_2 ++ (kL_law_3 ++ (kL_law_4 ++ (kL_law_5 ++ (kL_law_6 ++ (kL_law_7 ++ (kL_law_8 ++ (kL_law_9 ++ (kL_law_10 ++ (kL_law_11 ++ (kL_law_12 ++ (kL_law_13 ++ (kL_law_14))))))))))))) pc := (skL_1 pc (Nat.le_trans (by decide) h)).trans (zlk_skip (B := 483) rfl h)
theorem skL_3 (pc : Nat) (h : 614 ≤ pc) : zlk kL_law.1 pc = zlk (kL_law_3 ++ (kL_law_4 ++ (kL_law_5 ++ (kL_law_6 ++ (kL_law_7 ++ (kL_law_8 ++ (kL_law_9 ++ (kL_law_10 ++ (kL_law_11 ++ (kL_law_12 ++ (kL_law_13 ++ (kL_law_14)))))))))))) pc := (skL_2 pc (Nat.le_trans (by decide) h)).trans (zlk_skip (B := 614) rfl h)
theorem skL_4 (pc : Nat) (h : 746 ≤ pc) : zlk kL_law.1 pc = zlk (kL_law_4 ++ (kL_law_5 ++ (kL_law_6 ++ (kL_law_7 ++ (kL_law_8 ++ (kL_law_9 ++ (kL_law_10 ++ (kL_law_11 ++ (kL_law_12 ++ (kL_law_13 ++ (kL_law_14))))))))))) pc := (skL_3 pc (Nat.le_trans (by decide) h)).trans (zlk_skip (B := 746) rfl h)
theorem skL_5 (pc : Nat) (h : 877 ≤ pc) : zlk kL_law.1 pc = zlk (kL_law_5 ++ (kL_law_6 ++ (kL_law_7 ++ (kL_law_8 ++ (kL_law_9 ++ (kL_law_10 ++ (kL_law_11 ++ (kL_law_12 ++ (kL_law_13 ++ (kL_law_14)))))))))) pc := (skL_4 pc (Nat.le_trans (by decide) h)).trans (zlk_skip (B := 877) rfl h)
theorem skL_6 (pc : Nat) (h : 1006 ≤ pc) : zlk kL_law.1 pc = zlk (kL_law_6 ++ (kL_law_7 ++ (kL_law_8 ++ (kL_law_9 ++ (kL_law_10 ++ (kL_law_11 ++ (kL_law_12 ++ (kL_law_13 ++ (kL_law_14))))))))) pc := (skL_5 pc (Nat.le_trans (by decide) h)).trans (zlk_skip (B := 1006) rfl h)
theorem skL_7 (pc : Nat) (h : 1140 ≤ pc) : zlk kL_law.1 pc = zlk (kL_law_7 ++ (kL_law_8 ++ (kL_law_9 ++ (kL_law_10 ++ (kL_law_11 ++ (kL_law_12 ++ (kL_law_13 ++ (kL_law_14)))))))) pc := (skL_6 pc (Nat.le_trans (by decide) h)).trans (zlk_skip (B := 1140) rfl h)
theorem skL_8 (pc : Nat) (h : 1272 ≤ pc) : zlk kL_law.1 pc = zlk (kL_law_8 ++ (kL_law_9 ++ (kL_law_10 ++ (kL_law_11 ++ (kL_law_12 ++ (kL_law_13 ++ (kL_law_14))))))) pc := (skL_7 pc (Nat.le_trans (by decide) h)).trans (zlk_skip (B := 1272) rfl h)
theorem skL_9 (pc : Nat) (h : 1403 ≤ pc) : zlk kL_law.1 pc = zlk (kL_law_9 ++ (kL_law_10 ++ (kL_law_11 ++ (kL_law_12 ++ (kL_law_13 ++ (kL_law_14)))))) pc := (skL_8 pc (Nat.le_trans (by decide) h)).trans (zlk_skip (B := 1403) rfl h)
theorem skL_10 (pc : Nat) (h : 1536 ≤ pc) : zlk kL_law.1 pc = zlk (kL_law_10 ++ (kL_law_11 ++ (kL_law_12 ++ (kL_law_13 ++ (kL_law_14))))) pc := (skL_9 pc (Nat.le_trans (by decide) h)).trans (zlk_skip (B := 1536) rfl h)
theorem skL_11 (pc : Nat) (h : 1673 ≤ pc) : zlk kL_law.1 pc = zlk (kL_law_11 ++ (kL_law_12 ++ (kL_law_13 ++ (kL_law_14)))) pc := (skL_10 pc (Nat.le_trans (by decide) h)).trans (zlk_skip (B := 1673) rfl h)
theorem skL_12 (pc : Nat) (h : 1804 ≤ pc) : zlk kL_law.1 pc = zlk (kL_law_12 ++ (kL_law_13 ++ (kL_law_14))) pc := (skL_11 pc (Nat.le_trans (by decide) h)).trans (zlk_skip (B := 1804) rfl h)
theorem skL_13 (pc : Nat) (h : 1942 ≤ pc) : zlk kL_law.1 pc = zlk (kL_law_13 ++ (kL_law_14)) pc := (skL_12 pc (Nat.le_trans (by decide) h)).trans (zlk_skip (B := 1942) rfl h)
theorem skL_14 (pc : Nat) (h : 2079 ≤ pc) : zlk kL_law.1 pc = zlk (kL_law_14) pc := (skL_13 pc (Nat.le_trans (by decide) h)).trans (zlk_skip (B := 2079) rfl h)
theorem hdL_law_23 (x0 x1 x2 x3 : ZV) (a : Int) (L st : List ZV) (h : PH) : zev kL_law 23 (x0 :: x1 :: x2 :: x3 :: zvi a :: L) st h = zev kL_law 25 (x0 :: x1 :: x2 :: x3 :: zvi a :: L) (zvi a :: st) h := e_ld4I (n := 25) ((skL_0 23 (by decide)).trans rfl)
theorem rL_law_h : (∀ (L st : List ZV) (h : PH), zev kL_law 0 L st h = zev kL_law 3 L (zvr (some (ph_N h)) :: st) (al_ h 16 0 19)) ∧
  (∀ (a : Int) (L st : List ZV) (h : PH), zev kL_law 3 L (zvi a :: st) h = zev kL_law 4 L (zvi a :: zvi a :: st) h) ∧
  (∀ (a : Option Nat) (L st : List ZV) (h : PH), zev kL_law 3 L (zvr a :: st) h = zev kL_law 4 L (zvr a :: zvr a :: st) h) ∧
  (∀ (q : Nat) (L st : List ZV) (h : PH), zev kL_law 4 L (zvr (some q) :: st) h = if (ph_K h q).1 % 1000 = 16 ∧ zcat st ≤ 8 then zk kL_law 4 7 L st (mX1_init [zvr (some q)] h) else none) ∧
  (∀ (x0 x1 : ZV) (a : Option Nat) (L st : List ZV) (h : PH) (hx : zisL x0 = false) , zev kL_law 7 (x0 :: x1 :: L) (zvr a :: st) h = zev kL_law 8 (x0 :: zvr a :: L) st h) ∧
  (∀ (L st : List ZV) (h : PH), zev kL_law 8 L st h = zev kL_law 11 L (zvr (some (ph_N h)) :: st) (al_ h 18 0 42)) ∧
  (∀ (a : Int) (L st : List ZV) (h : PH), zev kL_law 11 L (zvi a :: st) h = zev kL_law 12 L (zvi a :: zvi a :: st) h) ∧
  (∀ (a : Option Nat) (L st : List ZV) (h : PH), zev kL_law 11 L (zvr a :: st) h = zev kL_law 12 L (zvr a :: zvr a :: st) h) ∧
  (∀ (q : Nat) (L st : List ZV) (h : PH), zev kL_law 12 L (zvr (some q) :: st) h = if (ph_K h q).1 % 1000 = 18 ∧ zcat st ≤ 8 then zk kL_law 12 15 L st (mX4_init [zvr (some q)] h) else none) ∧
  (∀ (x0 x1 x2 : ZV) (a : Option Nat) (L st : List ZV) (h : PH) (hx : zisL x1 = false) , zev kL_law 15 (x0 :: x1 :: x2 :: L) (zvr a :: st) h = zev kL_law 16 (x0 :: x1 :: zvr a :: L) st h) ∧
  (∀ (L st : List ZV) (h : PH), zev kL_law 16 L st h = zev kL_law 17 L (zvi 1 :: st) h) ∧
  (∀ (a : Int) (L st : List ZV) (h : PH), zev kL_law 17 L (zvi a :: st) h = if 0 ≤ a ∧ a ≤ 100000 then zev kL_law 19 L (zvr (some (ph_N h)) :: st) (al_ h 4 a.toNat a.toNat) else none) ∧
  (∀ (x0 x1 x2 x3 : ZV) (a : Option Nat) (L st : List ZV) (h : PH) (hx : zisL x2 = false) , zev kL_law 19 (x0 :: x1 :: x2 :: x3 :: L) (zvr a :: st) h = zev kL_law 20 (x0 :: x1 :: x2 :: zvr a :: L) st h) ∧
  (∀ (L st : List ZV) (h : PH), zev kL_law 20 L st h = zev kL_law 21 L (zvi 0 :: st) h) ∧
  (∀ (x0 x1 x2 x3 x4 : ZV) (a : Int) (L st : List ZV) (h : PH) (hx : zisL x3 = false) , zev kL_law 21 (x0 :: x1 :: x2 :: x3 :: x4 :: L) (zvi a :: st) h = zev kL_law 23 (x0 :: x1 :: x2 :: x3 :: zvi a :: L) st h) ∧
  (∀ (a : Option Nat) (L st : List ZV) (h : PH), zev kL_law 25 (zvr a :: L) st h = zev kL_law 26 (zvr a :: L) (zvr a :: st) h) ∧
  (∀ (q : Nat) (L st : List ZV) (h : PH), zev kL_law 26 L (zvr (some q) :: st) h = if 1 ≤ (ph_K h q).1 % 1000 ∧ (ph_K h q).1 % 1000 ≤ 7 then zev kL_law 27 L (zvi (ph_K h q).2 :: st) h else none) ∧
  (∀ (L st : List ZV) (h : PH), zev kL_law 27 L st h = zev kL_law 29 L (zvi 6 :: st) h) ∧
  (∀ (a b : Int) (L st : List ZV) (h : PH), zev kL_law 29 L (zvi b :: zvi a :: st) h = zev kL_law 30 L (zvi (w32 (a - b)) :: st) h) ∧
  (∀ (a b : Int) (L st : List ZV) (h : PH), zev kL_law 30 L (zvi b :: zvi a :: st) h = if a > b then zev kL_law 2178 L st h else zev kL_law 33 L st h) ∧
  (∀ (a : Option Nat) (L st : List ZV) (h : PH), zev kL_law 33 (zvr a :: L) st h = zev kL_law 34 (zvr a :: L) (zvr a :: st) h) ∧
  (∀ (x0 x1 x2 x3 : ZV) (a : Int) (L st : List ZV) (h : PH), zev kL_law 34 (x0 :: x1 :: x2 :: x3 :: zvi a :: L) st h = zev kL_law 36 (x0 :: x1 :: x2 :: x3 :: zvi a :: L) (zvi a :: st) h) ∧
  (∀ (j : Int) (q : Nat) (L st : List ZV) (h : PH), zev kL_law 36 L (zvi j :: zvr (some q) :: st) h = if (ph_K h q).1 % 1000 = 1 ∧ 0 ≤ j ∧ j < (ph_K h q).2 then zev kL_law 37 L (zvi (ph_I h q j) :: st) h else none) ∧
  (∀ (L st : List ZV) (h : PH), zev kL_law 37 L st h = zev kL_law 39 L (zvi 63 :: st) h) ∧
  (∀ (a b : Int) (L st : List ZV) (h : PH), zev kL_law 39 L (zvi b :: zvi a :: st) h = zev kL_law 40 L (zvi (zand a b) :: st) h) ∧
  (∀ (a : Int) (L st : List ZV) (h : PH), zev kL_law 40 L (zvi a :: st) h = zev kL_law (zswt 0 44 [236, 309, 334, 347, 360, 385, 422, 459, 484, 533, 582, 631, 680, 741, 790, 839, 912, 973, 1022, 1071, 1108, 1157, 1218, 1255, 1316, 1353, 1414, 1463, 1524, 1549, 1574, 1599, 1660, 1709, 1770, 1831, 1856, 1881, 1918, 1955, 1992, 2065, 2078, 2134, 2159] 2172 a) L st h) :=
  ⟨fun L st h => e_new (kd := 16) (sl := 19) (n := 3) ((skL_0 0 (by decide)).trans rfl),
  fun a L st h => e_dupI (n := 4) ((skL_0 3 (by decide)).trans rfl),
  fun a L st h => e_dupR (n := 4) ((skL_0 3 (by decide)).trans rfl),
  fun q L st h => e_callV1 (F := mX1_init) (kd := 16) (n := 7) ((skL_0 4 (by decide)).trans rfl),
  fun x0 x1 a L st h hx => e_st1R (n := 8) ((skL_0 7 (by decide)).trans rfl) hx,
  fun L st h => e_new (kd := 18) (sl := 42) (n := 11) ((skL_0 8 (by decide)).trans rfl),
  fun a L st h => e_dupI (n := 12) ((skL_0 11 (by decide)).trans rfl),
  fun a L st h => e_dupR (n := 12) ((skL_0 11 (by decide)).trans rfl),
  fun q L st h => e_callV1 (F := mX4_init) (kd := 18) (n := 15) ((skL_0 12 (by decide)).trans rfl),
  fun x0 x1 x2 a L st h hx => e_st2R (n := 16) ((skL_0 15 (by decide)).trans rfl) hx,
  fun L st h => e_push (v := zvi 1) (n := 17) ((skL_0 16 (by decide)).trans rfl),
  fun a L st h => e_newa (kd := 4) (n := 19) ((skL_0 17 (by decide)).trans rfl),
  fun x0 x1 x2 x3 a L st h hx => e_st3R (n := 20) ((skL_0 19 (by decide)).trans rfl) hx,
  fun L st h => e_push (v := zvi 0) (n := 21) ((skL_0 20 (by decide)).trans rfl),
  fun x0 x1 x2 x3 x4 a L st h hx => e_st4I (n := 23) ((skL_0 21 (by decide)).trans rfl) hx,
  fun a L st h => e_ld0R (n := 26) ((skL_0 25 (by decide)).trans rfl),
  fun q L st h => e_alen (n := 27) ((skL_0 26 (by decide)).trans rfl),
  fun L st h => e_push (v := zvi 6) (n := 29) ((skL_0 27 (by decide)).trans rfl),
  fun a b L st h => e_bin (f := (fun a b => w32 (a - b))) (n := 30) ((skL_0 29 (by decide)).trans rfl),
  fun a b L st h => e_cmpgt (t := 2178) (n := 33) ((skL_0 30 (by decide)).trans rfl),
  fun a L st h => e_ld0R (n := 34) ((skL_0 33 (by decide)).trans rfl),
  fun x0 x1 x2 x3 a L st h => e_ld4I (n := 36) ((skL_0 34 (by decide)).trans rfl),
  fun j q L st h => e_ald (kd := 1) (n := 37) ((skL_0 36 (by decide)).trans rfl),
  fun L st h => e_push (v := zvi 63) (n := 39) ((skL_0 37 (by decide)).trans rfl),
  fun a b L st h => e_bin (f := zand) (n := 40) ((skL_0 39 (by decide)).trans rfl),
  fun a L st h => e_sw (lo := 0) (hi := 44) (ts := [236, 309, 334, 347, 360, 385, 422, 459, 484, 533, 582, 631, 680, 741, 790, 839, 912, 973, 1022, 1071, 1108, 1157, 1218, 1255, 1316, 1353, 1414, 1463, 1524, 1549, 1574, 1599, 1660, 1709, 1770, 1831, 1856, 1881, 1918, 1955, 1992, 2065, 2078, 2134, 2159]) (d := 2172) ((skL_0 40 (by decide)).trans rfl)⟩
theorem rL_law_0 : (∀ (x0 : ZV) (a : Option Nat) (L st : List ZV) (h : PH), zev kL_law 236 (x0 :: zvr a :: L) st h = zev kL_law 237 (x0 :: zvr a :: L) (zvr a :: st) h) ∧
  (∀ (a : Option Nat) (L st : List ZV) (h : PH), zev kL_law 237 (zvr a :: L) st h = zev kL_law 238 (zvr a :: L) (zvr a :: st) h) ∧
  (∀ (x0 x1 x2 x3 : ZV) (a : Int) (L st : List ZV) (h : PH), zev kL_law 238 (x0 :: x1 :: x2 :: x3 :: zvi a :: L) st h = zev kL_law 240 (x0 :: x1 :: x2 :: x3 :: zvi a :: L) (zvi a :: st) h) ∧
  (∀ (L st : List ZV) (h : PH), zev kL_law 240 L st h = zev kL_law 241 L (zvi 1 :: st) h) ∧
  (∀ (a b : Int) (L st : List ZV) (h : PH), zev kL_law 241 L (zvi b :: zvi a :: st) h = zev kL_law 242 L (zvi (w32 (a + b)) :: st) h) ∧
  (∀ (j : Int) (q : Nat) (L st : List ZV) (h : PH), zev kL_law 242 L (zvi j :: zvr (some q) :: st) h = if (ph_K h q).1 % 1000 = 1 ∧ 0 ≤ j ∧ j < (ph_K h q).2 then zev kL_law 243 L (zvi (ph_I h q j) :: st) h else none) ∧
  (∀ (a : Option Nat) (L st : List ZV) (h : PH), zev kL_law 243 (zvr a :: L) st h = zev kL_law 244 (zvr a :: L) (zvr a :: st) h) ∧
  (∀ (x0 x1 x2 x3 : ZV) (a : Int) (L st : List ZV) (h : PH), zev kL_law 244 (x0 :: x1 :: x2 :: x3 :: zvi a :: L) st h = zev kL_law 246 (x0 :: x1 :: x2 :: x3 :: zvi a :: L) (zvi a :: st) h) ∧
  (∀ (L st : List ZV) (h : PH), zev kL_law 246 L st h = zev kL_law 247 L (zvi 2 :: st) h) ∧
  (∀ (a b : Int) (L st : List ZV) (h : PH), zev kL_law 247 L (zvi b :: zvi a :: st) h = zev kL_law 248 L (zvi (w32 (a + b)) :: st) h) ∧
  (∀ (j : Int) (q : Nat) (L st : List ZV) (h : PH), zev kL_law 248 L (zvi j :: zvr (some q) :: st) h = if (ph_K h q).1 % 1000 = 1 ∧ 0 ≤ j ∧ j < (ph_K h q).2 then zev kL_law 249 L (zvi (ph_I h q j) :: st) h else none) ∧
  (∀ (a : Option Nat) (L st : List ZV) (h : PH), zev kL_law 249 (zvr a :: L) st h = zev kL_law 250 (zvr a :: L) (zvr a :: st) h) ∧
  (∀ (x0 x1 x2 x3 : ZV) (a : Int) (L st : List ZV) (h : PH), zev kL_law 250 (x0 :: x1 :: x2 :: x3 :: zvi a :: L) st h = zev kL_law 252 (x0 :: x1 :: x2 :: x3 :: zvi a :: L) (zvi a :: st) h) ∧
  (∀ (L st : List ZV) (h : PH), zev kL_law 252 L st h = zev kL_law 253 L (zvi 3 :: st) h) ∧
  (∀ (a b : Int) (L st : List ZV) (h : PH), zev kL_law 253 L (zvi b :: zvi a :: st) h = zev kL_law 254 L (zvi (w32 (a + b)) :: st) h) ∧
  (∀ (j : Int) (q : Nat) (L st : List ZV) (h : PH), zev kL_law 254 L (zvi j :: zvr (some q) :: st) h = if (ph_K h q).1 % 1000 = 1 ∧ 0 ≤ j ∧ j < (ph_K h q).2 then zev kL_law 255 L (zvi (ph_I h q j) :: st) h else none) ∧
  (∀ (a : Option Nat) (L st : List ZV) (h : PH), zev kL_law 255 (zvr a :: L) st h = zev kL_law 256 (zvr a :: L) (zvr a :: st) h) ∧
  (∀ (x0 x1 x2 x3 : ZV) (a : Int) (L st : List ZV) (h : PH), zev kL_law 256 (x0 :: x1 :: x2 :: x3 :: zvi a :: L) st h = zev kL_law 258 (x0 :: x1 :: x2 :: x3 :: zvi a :: L) (zvi a :: st) h) ∧
  (∀ (L st : List ZV) (h : PH), zev kL_law 258 L st h = zev kL_law 259 L (zvi 4 :: st) h) ∧
  (∀ (a b : Int) (L st : List ZV) (h : PH), zev kL_law 259 L (zvi b :: zvi a :: st) h = zev kL_law 260 L (zvi (w32 (a + b)) :: st) h) ∧
  (∀ (j : Int) (q : Nat) (L st : List ZV) (h : PH), zev kL_law 260 L (zvi j :: zvr (some q) :: st) h = if (ph_K h q).1 % 1000 = 1 ∧ 0 ≤ j ∧ j < (ph_K h q).2 then zev kL_law 261 L (zvi (ph_I h q j) :: st) h else none) ∧
  (∀ (a : Option Nat) (L st : List ZV) (h : PH), zev kL_law 261 (zvr a :: L) st h = zev kL_law 262 (zvr a :: L) (zvr a :: st) h) ∧
  (∀ (x0 x1 x2 x3 : ZV) (a : Int) (L st : List ZV) (h : PH), zev kL_law 262 (x0 :: x1 :: x2 :: x3 :: zvi a :: L) st h = zev kL_law 264 (x0 :: x1 :: x2 :: x3 :: zvi a :: L) (zvi a :: st) h) ∧
  (∀ (L st : List ZV) (h : PH), zev kL_law 264 L st h = zev kL_law 265 L (zvi 5 :: st) h) ∧
  (∀ (a b : Int) (L st : List ZV) (h : PH), zev kL_law 265 L (zvi b :: zvi a :: st) h = zev kL_law 266 L (zvi (w32 (a + b)) :: st) h) ∧
  (∀ (j : Int) (q : Nat) (L st : List ZV) (h : PH), zev kL_law 266 L (zvi j :: zvr (some q) :: st) h = if (ph_K h q).1 % 1000 = 1 ∧ 0 ≤ j ∧ j < (ph_K h q).2 then zev kL_law 267 L (zvi (ph_I h q j) :: st) h else none) ∧
  (∀ (v0 v1 v2 v3 v4 : ZV) (q : Nat) (L st : List ZV) (h : PH), zev kL_law 267 L (v4 :: v3 :: v2 :: v1 :: v0 :: zvr (some q) :: st) h = if (ph_K h q).1 % 1000 = 16 ∧ zcat st ≤ 8 then zk kL_law 267 270 L st (mX1_feed [zvr (some q), v0, v1, v2, v3, v4] h) else none) ∧
  (∀ (x0 x1 : ZV) (a : Option Nat) (L st : List ZV) (h : PH), zev kL_law 270 (x0 :: x1 :: zvr a :: L) st h = zev kL_law 271 (x0 :: x1 :: zvr a :: L) (zvr a :: st) h) ∧
  (∀ (a : Option Nat) (L st : List ZV) (h : PH), zev kL_law 271 (zvr a :: L) st h = zev kL_law 272 (zvr a :: L) (zvr a :: st) h) ∧
  (∀ (x0 x1 x2 x3 : ZV) (a : Int) (L st : List ZV) (h : PH), zev kL_law 272 (x0 :: x1 :: x2 :: x3 :: zvi a :: L) st h = zev kL_law 274 (x0 :: x1 :: x2 :: x3 :: zvi a :: L) (zvi a :: st) h) ∧
  (∀ (L st : List ZV) (h : PH), zev kL_law 274 L st h = zev kL_law 275 L (zvi 1 :: st) h) ∧
  (∀ (a b : Int) (L st : List ZV) (h : PH), zev kL_law 275 L (zvi b :: zvi a :: st) h = zev kL_law 276 L (zvi (w32 (a + b)) :: st) h) ∧
  (∀ (j : Int) (q : Nat) (L st : List ZV) (h : PH), zev kL_law 276 L (zvi j :: zvr (some q) :: st) h = if (ph_K h q).1 % 1000 = 1 ∧ 0 ≤ j ∧ j < (ph_K h q).2 then zev kL_law 277 L (zvi (ph_I h q j) :: st) h else none) ∧
  (∀ (a : Option Nat) (L st : List ZV) (h : PH), zev kL_law 277 (zvr a :: L) st h = zev kL_law 278 (zvr a :: L) (zvr a :: st) h) ∧
  (∀ (x0 x1 x2 x3 : ZV) (a : Int) (L st : List ZV) (h : PH), zev kL_law 278 (x0 :: x1 :: x2 :: x3 :: zvi a :: L) st h = zev kL_law 280 (x0 :: x1 :: x2 :: x3 :: zvi a :: L) (zvi a :: st) h) ∧
  (∀ (L st : List ZV) (h : PH), zev kL_law 280 L st h = zev kL_law 281 L (zvi 2 :: st) h) ∧
  (∀ (a b : Int) (L st : List ZV) (h : PH), zev kL_law 281 L (zvi b :: zvi a :: st) h = zev kL_law 282 L (zvi (w32 (a + b)) :: st) h) ∧
  (∀ (j : Int) (q : Nat) (L st : List ZV) (h : PH), zev kL_law 282 L (zvi j :: zvr (some q) :: st) h = if (ph_K h q).1 % 1000 = 1 ∧ 0 ≤ j ∧ j < (ph_K h q).2 then zev kL_law 283 L (zvi (ph_I h q j) :: st) h else none) ∧
  (∀ (a : Option Nat) (L st : List ZV) (h : PH), zev kL_law 283 (zvr a :: L) st h = zev kL_law 284 (zvr a :: L) (zvr a :: st) h) ∧
  (∀ (x0 x1 x2 x3 : ZV) (a : Int) (L st : List ZV) (h : PH), zev kL_law 284 (x0 :: x1 :: x2 :: x3 :: zvi a :: L) st h = zev kL_law 286 (x0 :: x1 :: x2 :: x3 :: zvi a :: L) (zvi a :: st) h) ∧
  (∀ (L st : List ZV) (h : PH), zev kL_law 286 L st h = zev kL_law 287 L (zvi 3 :: st) h) ∧
  (∀ (a b : Int) (L st : List ZV) (h : PH), zev kL_law 287 L (zvi b :: zvi a :: st) h = zev kL_law 288 L (zvi (w32 (a + b)) :: st) h) ∧
  (∀ (j : Int) (q : Nat) (L st : List ZV) (h : PH), zev kL_law 288 L (zvi j :: zvr (some q) :: st) h = if (ph_K h q).1 % 1000 = 1 ∧ 0 ≤ j ∧ j < (ph_K h q).2 then zev kL_law 289 L (zvi (ph_I h q j) :: st) h else none) ∧
  (∀ (a : Option Nat) (L st : List ZV) (h : PH), zev kL_law 289 (zvr a :: L) st h = zev kL_law 290 (zvr a :: L) (zvr a :: st) h) ∧
  (∀ (x0 x1 x2 x3 : ZV) (a : Int) (L st : List ZV) (h : PH), zev kL_law 290 (x0 :: x1 :: x2 :: x3 :: zvi a :: L) st h = zev kL_law 292 (x0 :: x1 :: x2 :: x3 :: zvi a :: L) (zvi a :: st) h) ∧
  (∀ (L st : List ZV) (h : PH), zev kL_law 292 L st h = zev kL_law 293 L (zvi 4 :: st) h) ∧
  (∀ (a b : Int) (L st : List ZV) (h : PH), zev kL_law 293 L (zvi b :: zvi a :: st) h = zev kL_law 294 L (zvi (w32 (a + b)) :: st) h) ∧
  (∀ (j : Int) (q : Nat) (L st : List ZV) (h : PH), zev kL_law 294 L (zvi j :: zvr (some q) :: st) h = if (ph_K h q).1 % 1000 = 1 ∧ 0 ≤ j ∧ j < (ph_K h q).2 then zev kL_law 295 L (zvi (ph_I h q j) :: st) h else none) ∧
  (∀ (a : Option Nat) (L st : List ZV) (h : PH), zev kL_law 295 (zvr a :: L) st h = zev kL_law 296 (zvr a :: L) (zvr a :: st) h) ∧
  (∀ (x0 x1 x2 x3 : ZV) (a : Int) (L st : List ZV) (h : PH), zev kL_law 296 (x0 :: x1 :: x2 :: x3 :: zvi a :: L) st h = zev kL_law 298 (x0 :: x1 :: x2 :: x3 :: zvi a :: L) (zvi a :: st) h) ∧
  (∀ (L st : List ZV) (h : PH), zev kL_law 298 L st h = zev kL_law 299 L (zvi 5 :: st) h) ∧
  (∀ (a b : Int) (L st : List ZV) (h : PH), zev kL_law 299 L (zvi b :: zvi a :: st) h = zev kL_law 300 L (zvi (w32 (a + b)) :: st) h) ∧
  (∀ (j : Int) (q : Nat) (L st : List ZV) (h : PH), zev kL_law 300 L (zvi j :: zvr (some q) :: st) h = if (ph_K h q).1 % 1000 = 1 ∧ 0 ≤ j ∧ j < (ph_K h q).2 then zev kL_law 301 L (zvi (ph_I h q j) :: st) h else none) ∧
  (∀ (v0 v1 v2 v3 v4 : ZV) (q : Nat) (L st : List ZV) (h : PH), zev kL_law 301 L (v4 :: v3 :: v2 :: v1 :: v0 :: zvr (some q) :: st) h = if (ph_K h q).1 % 1000 = 18 ∧ zcat st ≤ 8 then zk kL_law 301 304 L st (mX4_feed [zvr (some q), v0, v1, v2, v3, v4] h) else none) ∧
  (∀ (a b : Int) (L st : List ZV) (h : PH), zev kL_law 304 L (zvi b :: zvi a :: st) h = if a = b then zev kL_law 2172 L st h else zev kL_law 307 L st h) ∧
  (∀ (L st : List ZV) (h : PH), zev kL_law 307 L st h = zev kL_law 308 L (zvi 0 :: st) h) ∧
  (∀ (a : Int) (L : List ZV) (h : PH), zev kL_law 308 L [zvi a] h = if a = 0 ∨ a = 1 then zrv (zvi a) h else none) :=
  ⟨fun x0 a L st h => e_ld1R (n := 237) ((skL_0 236 (by decide)).trans rfl),
  fun a L st h => e_ld0R (n := 238) ((skL_0 237 (by decide)).trans rfl),
  fun x0 x1 x2 x3 a L st h => e_ld4I (n := 240) ((skL_0 238 (by decide)).trans rfl),
  fun L st h => e_push (v := zvi 1) (n := 241) ((skL_0 240 (by decide)).trans rfl),
  fun a b L st h => e_bin (f := (fun a b => w32 (a + b))) (n := 242) ((skL_0 241 (by decide)).trans rfl),
  fun j q L st h => e_ald (kd := 1) (n := 243) ((skL_0 242 (by decide)).trans rfl),
  fun a L st h => e_ld0R (n := 244) ((skL_0 243 (by decide)).trans rfl),
  fun x0 x1 x2 x3 a L st h => e_ld4I (n := 246) ((skL_0 244 (by decide)).trans rfl),
  fun L st h => e_push (v := zvi 2) (n := 247) ((skL_0 246 (by decide)).trans rfl),
  fun a b L st h => e_bin (f := (fun a b => w32 (a + b))) (n := 248) ((skL_0 247 (by decide)).trans rfl),
  fun j q L st h => e_ald (kd := 1) (n := 249) ((skL_0 248 (by decide)).trans rfl),
  fun a L st h => e_ld0R (n := 250) ((skL_0 249 (by decide)).trans rfl),
  fun x0 x1 x2 x3 a L st h => e_ld4I (n := 252) ((skL_0 250 (by decide)).trans rfl),
  fun L st h => e_push (v := zvi 3) (n := 253) ((skL_0 252 (by decide)).trans rfl),
  fun a b L st h => e_bin (f := (fun a b => w32 (a + b))) (n := 254) ((skL_0 253 (by decide)).trans rfl),
  fun j q L st h => e_ald (kd := 1) (n := 255) ((skL_0 254 (by decide)).trans rfl),
  fun a L st h => e_ld0R (n := 256) ((skL_0 255 (by decide)).trans rfl),
  fun x0 x1 x2 x3 a L st h => e_ld4I (n := 258) ((skL_0 256 (by decide)).trans rfl),
  fun L st h => e_push (v := zvi 4) (n := 259) ((skL_0 258 (by decide)).trans rfl),
  fun a b L st h => e_bin (f := (fun a b => w32 (a + b))) (n := 260) ((skL_0 259 (by decide)).trans rfl),
  fun j q L st h => e_ald (kd := 1) (n := 261) ((skL_0 260 (by decide)).trans rfl),
  fun a L st h => e_ld0R (n := 262) ((skL_0 261 (by decide)).trans rfl),
  fun x0 x1 x2 x3 a L st h => e_ld4I (n := 264) ((skL_0 262 (by decide)).trans rfl),
  fun L st h => e_push (v := zvi 5) (n := 265) ((skL_0 264 (by decide)).trans rfl),
  fun a b L st h => e_bin (f := (fun a b => w32 (a + b))) (n := 266) ((skL_0 265 (by decide)).trans rfl),
  fun j q L st h => e_ald (kd := 1) (n := 267) ((skL_0 266 (by decide)).trans rfl),
  fun v0 v1 v2 v3 v4 q L st h => e_callV6 (F := mX1_feed) (kd := 16) (n := 270) ((skL_0 267 (by decide)).trans rfl),
  fun x0 x1 a L st h => e_ld2R (n := 271) ((skL_0 270 (by decide)).trans rfl),
  fun a L st h => e_ld0R (n := 272) ((skL_0 271 (by decide)).trans rfl),
  fun x0 x1 x2 x3 a L st h => e_ld4I (n := 274) ((skL_0 272 (by decide)).trans rfl),
  fun L st h => e_push (v := zvi 1) (n := 275) ((skL_0 274 (by decide)).trans rfl),
  fun a b L st h => e_bin (f := (fun a b => w32 (a + b))) (n := 276) ((skL_0 275 (by decide)).trans rfl),
  fun j q L st h => e_ald (kd := 1) (n := 277) ((skL_0 276 (by decide)).trans rfl),
  fun a L st h => e_ld0R (n := 278) ((skL_0 277 (by decide)).trans rfl),
  fun x0 x1 x2 x3 a L st h => e_ld4I (n := 280) ((skL_0 278 (by decide)).trans rfl),
  fun L st h => e_push (v := zvi 2) (n := 281) ((skL_0 280 (by decide)).trans rfl),
  fun a b L st h => e_bin (f := (fun a b => w32 (a + b))) (n := 282) ((skL_0 281 (by decide)).trans rfl),
  fun j q L st h => e_ald (kd := 1) (n := 283) ((skL_0 282 (by decide)).trans rfl),
  fun a L st h => e_ld0R (n := 284) ((skL_0 283 (by decide)).trans rfl),
  fun x0 x1 x2 x3 a L st h => e_ld4I (n := 286) ((skL_0 284 (by decide)).trans rfl),
  fun L st h => e_push (v := zvi 3) (n := 287) ((skL_0 286 (by decide)).trans rfl),
  fun a b L st h => e_bin (f := (fun a b => w32 (a + b))) (n := 288) ((skL_0 287 (by decide)).trans rfl),
  fun j q L st h => e_ald (kd := 1) (n := 289) ((skL_0 288 (by decide)).trans rfl),
  fun a L st h => e_ld0R (n := 290) ((skL_0 289 (by decide)).trans rfl),
  fun x0 x1 x2 x3 a L st h => e_ld4I (n := 292) ((skL_0 290 (by decide)).trans rfl),
  fun L st h => e_push (v := zvi 4) (n := 293) ((skL_0 292 (by decide)).trans rfl),
  fun a b L st h => e_bin (f := (fun a b => w32 (a + b))) (n := 294) ((skL_0 293 (by decide)).trans rfl),
  fun j q L st h => e_ald (kd := 1) (n := 295) ((skL_0 294 (by decide)).trans rfl),
  fun a L st h => e_ld0R (n := 296) ((skL_0 295 (by decide)).trans rfl),
  fun x0 x1 x2 x3 a L st h => e_ld4I (n := 298) ((skL_0 296 (by decide)).trans rfl),
  fun L st h => e_push (v := zvi 5) (n := 299) ((skL_0 298 (by decide)).trans rfl),
  fun a b L st h => e_bin (f := (fun a b => w32 (a + b))) (n := 300) ((skL_0 299 (by decide)).trans rfl),
  fun j q L st h => e_ald (kd := 1) (n := 301) ((skL_0 300 (by decide)).trans rfl),
  fun v0 v1 v2 v3 v4 q L st h => e_callV6 (F := mX4_feed) (kd := 18) (n := 304) ((skL_0 301 (by decide)).trans rfl),
  fun a b L st h => e_cmpeq (t := 2172) (n := 307) ((skL_0 304 (by decide)).trans rfl),
  fun L st h => e_push (v := zvi 0) (n := 308) ((skL_0 307 (by decide)).trans rfl),
  fun a L h => e_retz ((skL_0 308 (by decide)).trans rfl)⟩
theorem rL_law_1 : (∀ (x0 : ZV) (a : Option Nat) (L st : List ZV) (h : PH), zev kL_law 309 (x0 :: zvr a :: L) st h = zev kL_law 310 (x0 :: zvr a :: L) (zvr a :: st) h) ∧
  (∀ (a : Option Nat) (L st : List ZV) (h : PH), zev kL_law 310 (zvr a :: L) st h = zev kL_law 311 (zvr a :: L) (zvr a :: st) h) ∧
  (∀ (x0 x1 x2 x3 : ZV) (a : Int) (L st : List ZV) (h : PH), zev kL_law 311 (x0 :: x1 :: x2 :: x3 :: zvi a :: L) st h = zev kL_law 313 (x0 :: x1 :: x2 :: x3 :: zvi a :: L) (zvi a :: st) h) ∧
  (∀ (L st : List ZV) (h : PH), zev kL_law 313 L st h = zev kL_law 314 L (zvi 1 :: st) h) ∧
  (∀ (a b : Int) (L st : List ZV) (h : PH), zev kL_law 314 L (zvi b :: zvi a :: st) h = zev kL_law 315 L (zvi (w32 (a + b)) :: st) h) ∧
  (∀ (j : Int) (q : Nat) (L st : List ZV) (h : PH), zev kL_law 315 L (zvi j :: zvr (some q) :: st) h = if (ph_K h q).1 % 1000 = 1 ∧ 0 ≤ j ∧ j < (ph_K h q).2 then zev kL_law 316 L (zvi (ph_I h q j) :: st) h else none) ∧
  (∀ (v0 : ZV) (q : Nat) (L st : List ZV) (h : PH), zev kL_law 316 L (v0 :: zvr (some q) :: st) h = if (ph_K h q).1 % 1000 = 16 ∧ zcat st ≤ 8 then zk kL_law 316 319 L st (mX1_desk [zvr (some q), v0] h) else none) ∧
  (∀ (x0 x1 : ZV) (a : Option Nat) (L st : List ZV) (h : PH), zev kL_law 319 (x0 :: x1 :: zvr a :: L) st h = zev kL_law 320 (x0 :: x1 :: zvr a :: L) (zvr a :: st) h) ∧
  (∀ (a : Option Nat) (L st : List ZV) (h : PH), zev kL_law 320 (zvr a :: L) st h = zev kL_law 321 (zvr a :: L) (zvr a :: st) h) ∧
  (∀ (x0 x1 x2 x3 : ZV) (a : Int) (L st : List ZV) (h : PH), zev kL_law 321 (x0 :: x1 :: x2 :: x3 :: zvi a :: L) st h = zev kL_law 323 (x0 :: x1 :: x2 :: x3 :: zvi a :: L) (zvi a :: st) h) ∧
  (∀ (L st : List ZV) (h : PH), zev kL_law 323 L st h = zev kL_law 324 L (zvi 1 :: st) h) ∧
  (∀ (a b : Int) (L st : List ZV) (h : PH), zev kL_law 324 L (zvi b :: zvi a :: st) h = zev kL_law 325 L (zvi (w32 (a + b)) :: st) h) ∧
  (∀ (j : Int) (q : Nat) (L st : List ZV) (h : PH), zev kL_law 325 L (zvi j :: zvr (some q) :: st) h = if (ph_K h q).1 % 1000 = 1 ∧ 0 ≤ j ∧ j < (ph_K h q).2 then zev kL_law 326 L (zvi (ph_I h q j) :: st) h else none) ∧
  (∀ (v0 : ZV) (q : Nat) (L st : List ZV) (h : PH), zev kL_law 326 L (v0 :: zvr (some q) :: st) h = if (ph_K h q).1 % 1000 = 18 ∧ zcat st ≤ 8 then zk kL_law 326 329 L st (mX4_desk [zvr (some q), v0] h) else none) ∧
  (∀ (a b : Int) (L st : List ZV) (h : PH), zev kL_law 329 L (zvi b :: zvi a :: st) h = if a = b then zev kL_law 2172 L st h else zev kL_law 332 L st h) ∧
  (∀ (L st : List ZV) (h : PH), zev kL_law 332 L st h = zev kL_law 333 L (zvi 0 :: st) h) ∧
  (∀ (a : Int) (L : List ZV) (h : PH), zev kL_law 333 L [zvi a] h = if a = 0 ∨ a = 1 then zrv (zvi a) h else none) :=
  ⟨fun x0 a L st h => e_ld1R (n := 310) ((skL_0 309 (by decide)).trans rfl),
  fun a L st h => e_ld0R (n := 311) ((skL_0 310 (by decide)).trans rfl),
  fun x0 x1 x2 x3 a L st h => e_ld4I (n := 313) ((skL_0 311 (by decide)).trans rfl),
  fun L st h => e_push (v := zvi 1) (n := 314) ((skL_0 313 (by decide)).trans rfl),
  fun a b L st h => e_bin (f := (fun a b => w32 (a + b))) (n := 315) ((skL_0 314 (by decide)).trans rfl),
  fun j q L st h => e_ald (kd := 1) (n := 316) ((skL_0 315 (by decide)).trans rfl),
  fun v0 q L st h => e_callV2 (F := mX1_desk) (kd := 16) (n := 319) ((skL_0 316 (by decide)).trans rfl),
  fun x0 x1 a L st h => e_ld2R (n := 320) ((skL_0 319 (by decide)).trans rfl),
  fun a L st h => e_ld0R (n := 321) ((skL_0 320 (by decide)).trans rfl),
  fun x0 x1 x2 x3 a L st h => e_ld4I (n := 323) ((skL_0 321 (by decide)).trans rfl),
  fun L st h => e_push (v := zvi 1) (n := 324) ((skL_0 323 (by decide)).trans rfl),
  fun a b L st h => e_bin (f := (fun a b => w32 (a + b))) (n := 325) ((skL_0 324 (by decide)).trans rfl),
  fun j q L st h => e_ald (kd := 1) (n := 326) ((skL_0 325 (by decide)).trans rfl),
  fun v0 q L st h => e_callV2 (F := mX4_desk) (kd := 18) (n := 329) ((skL_0 326 (by decide)).trans rfl),
  fun a b L st h => e_cmpeq (t := 2172) (n := 332) ((skL_0 329 (by decide)).trans rfl),
  fun L st h => e_push (v := zvi 0) (n := 333) ((skL_0 332 (by decide)).trans rfl),
  fun a L h => e_retz ((skL_0 333 (by decide)).trans rfl)⟩
theorem rL_law_2 : (∀ (x0 : ZV) (a : Option Nat) (L st : List ZV) (h : PH), zev kL_law 334 (x0 :: zvr a :: L) st h = zev kL_law 335 (x0 :: zvr a :: L) (zvr a :: st) h) ∧
  (∀ (q : Nat) (L st : List ZV) (h : PH), zev kL_law 335 L (zvr (some q) :: st) h = if (ph_K h q).1 % 1000 = 16 ∧ zcat st ≤ 8 then zk kL_law 335 338 L st (mX1_fault [zvr (some q)] h) else none) ∧
  (∀ (x0 x1 : ZV) (a : Option Nat) (L st : List ZV) (h : PH), zev kL_law 338 (x0 :: x1 :: zvr a :: L) st h = zev kL_law 339 (x0 :: x1 :: zvr a :: L) (zvr a :: st) h) ∧
  (∀ (q : Nat) (L st : List ZV) (h : PH), zev kL_law 339 L (zvr (some q) :: st) h = if (ph_K h q).1 % 1000 = 18 ∧ zcat st ≤ 8 then zk kL_law 339 342 L st (mX4_fault [zvr (some q)] h) else none) ∧
  (∀ (a b : Int) (L st : List ZV) (h : PH), zev kL_law 342 L (zvi b :: zvi a :: st) h = if a = b then zev kL_law 2172 L st h else zev kL_law 345 L st h) ∧
  (∀ (L st : List ZV) (h : PH), zev kL_law 345 L st h = zev kL_law 346 L (zvi 0 :: st) h) ∧
  (∀ (a : Int) (L : List ZV) (h : PH), zev kL_law 346 L [zvi a] h = if a = 0 ∨ a = 1 then zrv (zvi a) h else none) :=
  ⟨fun x0 a L st h => e_ld1R (n := 335) ((skL_0 334 (by decide)).trans rfl),
  fun q L st h => e_callV1 (F := mX1_fault) (kd := 16) (n := 338) ((skL_1 335 (by decide)).trans rfl),
  fun x0 x1 a L st h => e_ld2R (n := 339) ((skL_1 338 (by decide)).trans rfl),
  fun q L st h => e_callV1 (F := mX4_fault) (kd := 18) (n := 342) ((skL_1 339 (by decide)).trans rfl),
  fun a b L st h => e_cmpeq (t := 2172) (n := 345) ((skL_1 342 (by decide)).trans rfl),
  fun L st h => e_push (v := zvi 0) (n := 346) ((skL_1 345 (by decide)).trans rfl),
  fun a L h => e_retz ((skL_1 346 (by decide)).trans rfl)⟩
theorem rL_law_3 : (∀ (x0 : ZV) (a : Option Nat) (L st : List ZV) (h : PH), zev kL_law 347 (x0 :: zvr a :: L) st h = zev kL_law 348 (x0 :: zvr a :: L) (zvr a :: st) h) ∧
  (∀ (q : Nat) (L st : List ZV) (h : PH), zev kL_law 348 L (zvr (some q) :: st) h = if (ph_K h q).1 % 1000 = 16 ∧ zcat st ≤ 8 then zk kL_law 348 351 L st (mX1_where [zvr (some q)] h) else none) ∧
  (∀ (x0 x1 : ZV) (a : Option Nat) (L st : List ZV) (h : PH), zev kL_law 351 (x0 :: x1 :: zvr a :: L) st h = zev kL_law 352 (x0 :: x1 :: zvr a :: L) (zvr a :: st) h) ∧
  (∀ (q : Nat) (L st : List ZV) (h : PH), zev kL_law 352 L (zvr (some q) :: st) h = if (ph_K h q).1 % 1000 = 18 ∧ zcat st ≤ 8 then zk kL_law 352 355 L st (mX4_where [zvr (some q)] h) else none) ∧
  (∀ (a b : Int) (L st : List ZV) (h : PH), zev kL_law 355 L (zvi b :: zvi a :: st) h = if a = b then zev kL_law 2172 L st h else zev kL_law 358 L st h) ∧
  (∀ (L st : List ZV) (h : PH), zev kL_law 358 L st h = zev kL_law 359 L (zvi 0 :: st) h) ∧
  (∀ (a : Int) (L : List ZV) (h : PH), zev kL_law 359 L [zvi a] h = if a = 0 ∨ a = 1 then zrv (zvi a) h else none) :=
  ⟨fun x0 a L st h => e_ld1R (n := 348) ((skL_1 347 (by decide)).trans rfl),
  fun q L st h => e_callV1 (F := mX1_where) (kd := 16) (n := 351) ((skL_1 348 (by decide)).trans rfl),
  fun x0 x1 a L st h => e_ld2R (n := 352) ((skL_1 351 (by decide)).trans rfl),
  fun q L st h => e_callV1 (F := mX4_where) (kd := 18) (n := 355) ((skL_1 352 (by decide)).trans rfl),
  fun a b L st h => e_cmpeq (t := 2172) (n := 358) ((skL_1 355 (by decide)).trans rfl),
  fun L st h => e_push (v := zvi 0) (n := 359) ((skL_1 358 (by decide)).trans rfl),
  fun a L h => e_retz ((skL_1 359 (by decide)).trans rfl)⟩
theorem rL_law_4 : (∀ (x0 : ZV) (a : Option Nat) (L st : List ZV) (h : PH), zev kL_law 360 (x0 :: zvr a :: L) st h = zev kL_law 361 (x0 :: zvr a :: L) (zvr a :: st) h) ∧
  (∀ (a : Option Nat) (L st : List ZV) (h : PH), zev kL_law 361 (zvr a :: L) st h = zev kL_law 362 (zvr a :: L) (zvr a :: st) h) ∧
  (∀ (x0 x1 x2 x3 : ZV) (a : Int) (L st : List ZV) (h : PH), zev kL_law 362 (x0 :: x1 :: x2 :: x3 :: zvi a :: L) st h = zev kL_law 364 (x0 :: x1 :: x2 :: x3 :: zvi a :: L) (zvi a :: st) h) ∧
  (∀ (L st : List ZV) (h : PH), zev kL_law 364 L st h = zev kL_law 365 L (zvi 1 :: st) h) ∧
  (∀ (a b : Int) (L st : List ZV) (h : PH), zev kL_law 365 L (zvi b :: zvi a :: st) h = zev kL_law 366 L (zvi (w32 (a + b)) :: st) h) ∧
  (∀ (j : Int) (q : Nat) (L st : List ZV) (h : PH), zev kL_law 366 L (zvi j :: zvr (some q) :: st) h = if (ph_K h q).1 % 1000 = 1 ∧ 0 ≤ j ∧ j < (ph_K h q).2 then zev kL_law 367 L (zvi (ph_I h q j) :: st) h else none) ∧
  (∀ (v0 : ZV) (q : Nat) (L st : List ZV) (h : PH), zev kL_law 367 L (v0 :: zvr (some q) :: st) h = if (ph_K h q).1 % 1000 = 16 ∧ zcat st ≤ 8 then zk kL_law 367 370 L st (mX1_about [zvr (some q), v0] h) else none) ∧
  (∀ (x0 x1 : ZV) (a : Option Nat) (L st : List ZV) (h : PH), zev kL_law 370 (x0 :: x1 :: zvr a :: L) st h = zev kL_law 371 (x0 :: x1 :: zvr a :: L) (zvr a :: st) h) ∧
  (∀ (a : Option Nat) (L st : List ZV) (h : PH), zev kL_law 371 (zvr a :: L) st h = zev kL_law 372 (zvr a :: L) (zvr a :: st) h) ∧
  (∀ (x0 x1 x2 x3 : ZV) (a : Int) (L st : List ZV) (h : PH), zev kL_law 372 (x0 :: x1 :: x2 :: x3 :: zvi a :: L) st h = zev kL_law 374 (x0 :: x1 :: x2 :: x3 :: zvi a :: L) (zvi a :: st) h) ∧
  (∀ (L st : List ZV) (h : PH), zev kL_law 374 L st h = zev kL_law 375 L (zvi 1 :: st) h) ∧
  (∀ (a b : Int) (L st : List ZV) (h : PH), zev kL_law 375 L (zvi b :: zvi a :: st) h = zev kL_law 376 L (zvi (w32 (a + b)) :: st) h) ∧
  (∀ (j : Int) (q : Nat) (L st : List ZV) (h : PH), zev kL_law 376 L (zvi j :: zvr (some q) :: st) h = if (ph_K h q).1 % 1000 = 1 ∧ 0 ≤ j ∧ j < (ph_K h q).2 then zev kL_law 377 L (zvi (ph_I h q j) :: st) h else none) ∧
  (∀ (v0 : ZV) (q : Nat) (L st : List ZV) (h : PH), zev kL_law 377 L (v0 :: zvr (some q) :: st) h = if (ph_K h q).1 % 1000 = 18 ∧ zcat st ≤ 8 then zk kL_law 377 380 L st (mX4_about [zvr (some q), v0] h) else none) ∧
  (∀ (a b : Int) (L st : List ZV) (h : PH), zev kL_law 380 L (zvi b :: zvi a :: st) h = if a = b then zev kL_law 2172 L st h else zev kL_law 383 L st h) ∧
  (∀ (L st : List ZV) (h : PH), zev kL_law 383 L st h = zev kL_law 384 L (zvi 0 :: st) h) ∧
  (∀ (a : Int) (L : List ZV) (h : PH), zev kL_law 384 L [zvi a] h = if a = 0 ∨ a = 1 then zrv (zvi a) h else none) :=
  ⟨fun x0 a L st h => e_ld1R (n := 361) ((skL_1 360 (by decide)).trans rfl),
  fun a L st h => e_ld0R (n := 362) ((skL_1 361 (by decide)).trans rfl),
  fun x0 x1 x2 x3 a L st h => e_ld4I (n := 364) ((skL_1 362 (by decide)).trans rfl),
  fun L st h => e_push (v := zvi 1) (n := 365) ((skL_1 364 (by decide)).trans rfl),
  fun a b L st h => e_bin (f := (fun a b => w32 (a + b))) (n := 366) ((skL_1 365 (by decide)).trans rfl),
  fun j q L st h => e_ald (kd := 1) (n := 367) ((skL_1 366 (by decide)).trans rfl),
  fun v0 q L st h => e_callV2 (F := mX1_about) (kd := 16) (n := 370) ((skL_1 367 (by decide)).trans rfl),
  fun x0 x1 a L st h => e_ld2R (n := 371) ((skL_1 370 (by decide)).trans rfl),
  fun a L st h => e_ld0R (n := 372) ((skL_1 371 (by decide)).trans rfl),
  fun x0 x1 x2 x3 a L st h => e_ld4I (n := 374) ((skL_1 372 (by decide)).trans rfl),
  fun L st h => e_push (v := zvi 1) (n := 375) ((skL_1 374 (by decide)).trans rfl),
  fun a b L st h => e_bin (f := (fun a b => w32 (a + b))) (n := 376) ((skL_1 375 (by decide)).trans rfl),
  fun j q L st h => e_ald (kd := 1) (n := 377) ((skL_1 376 (by decide)).trans rfl),
  fun v0 q L st h => e_callV2 (F := mX4_about) (kd := 18) (n := 380) ((skL_1 377 (by decide)).trans rfl),
  fun a b L st h => e_cmpeq (t := 2172) (n := 383) ((skL_1 380 (by decide)).trans rfl),
  fun L st h => e_push (v := zvi 0) (n := 384) ((skL_1 383 (by decide)).trans rfl),
  fun a L h => e_retz ((skL_1 384 (by decide)).trans rfl)⟩
theorem rL_law_5 : (∀ (x0 : ZV) (a : Option Nat) (L st : List ZV) (h : PH), zev kL_law 385 (x0 :: zvr a :: L) st h = zev kL_law 386 (x0 :: zvr a :: L) (zvr a :: st) h) ∧
  (∀ (a : Option Nat) (L st : List ZV) (h : PH), zev kL_law 386 (zvr a :: L) st h = zev kL_law 387 (zvr a :: L) (zvr a :: st) h) ∧
  (∀ (x0 x1 x2 x3 : ZV) (a : Int) (L st : List ZV) (h : PH), zev kL_law 387 (x0 :: x1 :: x2 :: x3 :: zvi a :: L) st h = zev kL_law 389 (x0 :: x1 :: x2 :: x3 :: zvi a :: L) (zvi a :: st) h) ∧
  (∀ (L st : List ZV) (h : PH), zev kL_law 389 L st h = zev kL_law 390 L (zvi 1 :: st) h) ∧
  (∀ (a b : Int) (L st : List ZV) (h : PH), zev kL_law 390 L (zvi b :: zvi a :: st) h = zev kL_law 391 L (zvi (w32 (a + b)) :: st) h) ∧
  (∀ (j : Int) (q : Nat) (L st : List ZV) (h : PH), zev kL_law 391 L (zvi j :: zvr (some q) :: st) h = if (ph_K h q).1 % 1000 = 1 ∧ 0 ≤ j ∧ j < (ph_K h q).2 then zev kL_law 392 L (zvi (ph_I h q j) :: st) h else none) ∧
  (∀ (a : Option Nat) (L st : List ZV) (h : PH), zev kL_law 392 (zvr a :: L) st h = zev kL_law 393 (zvr a :: L) (zvr a :: st) h) ∧
  (∀ (x0 x1 x2 x3 : ZV) (a : Int) (L st : List ZV) (h : PH), zev kL_law 393 (x0 :: x1 :: x2 :: x3 :: zvi a :: L) st h = zev kL_law 395 (x0 :: x1 :: x2 :: x3 :: zvi a :: L) (zvi a :: st) h) ∧
  (∀ (L st : List ZV) (h : PH), zev kL_law 395 L st h = zev kL_law 396 L (zvi 2 :: st) h) ∧
  (∀ (a b : Int) (L st : List ZV) (h : PH), zev kL_law 396 L (zvi b :: zvi a :: st) h = zev kL_law 397 L (zvi (w32 (a + b)) :: st) h) ∧
  (∀ (j : Int) (q : Nat) (L st : List ZV) (h : PH), zev kL_law 397 L (zvi j :: zvr (some q) :: st) h = if (ph_K h q).1 % 1000 = 1 ∧ 0 ≤ j ∧ j < (ph_K h q).2 then zev kL_law 398 L (zvi (ph_I h q j) :: st) h else none) ∧
  (∀ (v0 v1 : ZV) (q : Nat) (L st : List ZV) (h : PH), zev kL_law 398 L (v1 :: v0 :: zvr (some q) :: st) h = if (ph_K h q).1 % 1000 = 16 ∧ zcat st ≤ 8 then zk kL_law 398 401 L st (mX1_spot [zvr (some q), v0, v1] h) else none) ∧
  (∀ (x0 x1 : ZV) (a : Option Nat) (L st : List ZV) (h : PH), zev kL_law 401 (x0 :: x1 :: zvr a :: L) st h = zev kL_law 402 (x0 :: x1 :: zvr a :: L) (zvr a :: st) h) ∧
  (∀ (a : Option Nat) (L st : List ZV) (h : PH), zev kL_law 402 (zvr a :: L) st h = zev kL_law 403 (zvr a :: L) (zvr a :: st) h) ∧
  (∀ (x0 x1 x2 x3 : ZV) (a : Int) (L st : List ZV) (h : PH), zev kL_law 403 (x0 :: x1 :: x2 :: x3 :: zvi a :: L) st h = zev kL_law 405 (x0 :: x1 :: x2 :: x3 :: zvi a :: L) (zvi a :: st) h) ∧
  (∀ (L st : List ZV) (h : PH), zev kL_law 405 L st h = zev kL_law 406 L (zvi 1 :: st) h) ∧
  (∀ (a b : Int) (L st : List ZV) (h : PH), zev kL_law 406 L (zvi b :: zvi a :: st) h = zev kL_law 407 L (zvi (w32 (a + b)) :: st) h) ∧
  (∀ (j : Int) (q : Nat) (L st : List ZV) (h : PH), zev kL_law 407 L (zvi j :: zvr (some q) :: st) h = if (ph_K h q).1 % 1000 = 1 ∧ 0 ≤ j ∧ j < (ph_K h q).2 then zev kL_law 408 L (zvi (ph_I h q j) :: st) h else none) ∧
  (∀ (a : Option Nat) (L st : List ZV) (h : PH), zev kL_law 408 (zvr a :: L) st h = zev kL_law 409 (zvr a :: L) (zvr a :: st) h) ∧
  (∀ (x0 x1 x2 x3 : ZV) (a : Int) (L st : List ZV) (h : PH), zev kL_law 409 (x0 :: x1 :: x2 :: x3 :: zvi a :: L) st h = zev kL_law 411 (x0 :: x1 :: x2 :: x3 :: zvi a :: L) (zvi a :: st) h) ∧
  (∀ (L st : List ZV) (h : PH), zev kL_law 411 L st h = zev kL_law 412 L (zvi 2 :: st) h) ∧
  (∀ (a b : Int) (L st : List ZV) (h : PH), zev kL_law 412 L (zvi b :: zvi a :: st) h = zev kL_law 413 L (zvi (w32 (a + b)) :: st) h) ∧
  (∀ (j : Int) (q : Nat) (L st : List ZV) (h : PH), zev kL_law 413 L (zvi j :: zvr (some q) :: st) h = if (ph_K h q).1 % 1000 = 1 ∧ 0 ≤ j ∧ j < (ph_K h q).2 then zev kL_law 414 L (zvi (ph_I h q j) :: st) h else none) ∧
  (∀ (v0 v1 : ZV) (q : Nat) (L st : List ZV) (h : PH), zev kL_law 414 L (v1 :: v0 :: zvr (some q) :: st) h = if (ph_K h q).1 % 1000 = 18 ∧ zcat st ≤ 8 then zk kL_law 414 417 L st (mX4_spot [zvr (some q), v0, v1] h) else none) ∧
  (∀ (a b : Int) (L st : List ZV) (h : PH), zev kL_law 417 L (zvi b :: zvi a :: st) h = if a = b then zev kL_law 2172 L st h else zev kL_law 420 L st h) ∧
  (∀ (L st : List ZV) (h : PH), zev kL_law 420 L st h = zev kL_law 421 L (zvi 0 :: st) h) ∧
  (∀ (a : Int) (L : List ZV) (h : PH), zev kL_law 421 L [zvi a] h = if a = 0 ∨ a = 1 then zrv (zvi a) h else none) :=
  ⟨fun x0 a L st h => e_ld1R (n := 386) ((skL_1 385 (by decide)).trans rfl),
  fun a L st h => e_ld0R (n := 387) ((skL_1 386 (by decide)).trans rfl),
  fun x0 x1 x2 x3 a L st h => e_ld4I (n := 389) ((skL_1 387 (by decide)).trans rfl),
  fun L st h => e_push (v := zvi 1) (n := 390) ((skL_1 389 (by decide)).trans rfl),
  fun a b L st h => e_bin (f := (fun a b => w32 (a + b))) (n := 391) ((skL_1 390 (by decide)).trans rfl),
  fun j q L st h => e_ald (kd := 1) (n := 392) ((skL_1 391 (by decide)).trans rfl),
  fun a L st h => e_ld0R (n := 393) ((skL_1 392 (by decide)).trans rfl),
  fun x0 x1 x2 x3 a L st h => e_ld4I (n := 395) ((skL_1 393 (by decide)).trans rfl),
  fun L st h => e_push (v := zvi 2) (n := 396) ((skL_1 395 (by decide)).trans rfl),
  fun a b L st h => e_bin (f := (fun a b => w32 (a + b))) (n := 397) ((skL_1 396 (by decide)).trans rfl),
  fun j q L st h => e_ald (kd := 1) (n := 398) ((skL_1 397 (by decide)).trans rfl),
  fun v0 v1 q L st h => e_callV3 (F := mX1_spot) (kd := 16) (n := 401) ((skL_1 398 (by decide)).trans rfl),
  fun x0 x1 a L st h => e_ld2R (n := 402) ((skL_1 401 (by decide)).trans rfl),
  fun a L st h => e_ld0R (n := 403) ((skL_1 402 (by decide)).trans rfl),
  fun x0 x1 x2 x3 a L st h => e_ld4I (n := 405) ((skL_1 403 (by decide)).trans rfl),
  fun L st h => e_push (v := zvi 1) (n := 406) ((skL_1 405 (by decide)).trans rfl),
  fun a b L st h => e_bin (f := (fun a b => w32 (a + b))) (n := 407) ((skL_1 406 (by decide)).trans rfl),
  fun j q L st h => e_ald (kd := 1) (n := 408) ((skL_1 407 (by decide)).trans rfl),
  fun a L st h => e_ld0R (n := 409) ((skL_1 408 (by decide)).trans rfl),
  fun x0 x1 x2 x3 a L st h => e_ld4I (n := 411) ((skL_1 409 (by decide)).trans rfl),
  fun L st h => e_push (v := zvi 2) (n := 412) ((skL_1 411 (by decide)).trans rfl),
  fun a b L st h => e_bin (f := (fun a b => w32 (a + b))) (n := 413) ((skL_1 412 (by decide)).trans rfl),
  fun j q L st h => e_ald (kd := 1) (n := 414) ((skL_1 413 (by decide)).trans rfl),
  fun v0 v1 q L st h => e_callV3 (F := mX4_spot) (kd := 18) (n := 417) ((skL_1 414 (by decide)).trans rfl),
  fun a b L st h => e_cmpeq (t := 2172) (n := 420) ((skL_1 417 (by decide)).trans rfl),
  fun L st h => e_push (v := zvi 0) (n := 421) ((skL_1 420 (by decide)).trans rfl),
  fun a L h => e_retz ((skL_1 421 (by decide)).trans rfl)⟩
theorem rL_law_6 : (∀ (x0 : ZV) (a : Option Nat) (L st : List ZV) (h : PH), zev kL_law 422 (x0 :: zvr a :: L) st h = zev kL_law 423 (x0 :: zvr a :: L) (zvr a :: st) h) ∧
  (∀ (a : Option Nat) (L st : List ZV) (h : PH), zev kL_law 423 (zvr a :: L) st h = zev kL_law 424 (zvr a :: L) (zvr a :: st) h) ∧
  (∀ (x0 x1 x2 x3 : ZV) (a : Int) (L st : List ZV) (h : PH), zev kL_law 424 (x0 :: x1 :: x2 :: x3 :: zvi a :: L) st h = zev kL_law 426 (x0 :: x1 :: x2 :: x3 :: zvi a :: L) (zvi a :: st) h) ∧
  (∀ (L st : List ZV) (h : PH), zev kL_law 426 L st h = zev kL_law 427 L (zvi 1 :: st) h) ∧
  (∀ (a b : Int) (L st : List ZV) (h : PH), zev kL_law 427 L (zvi b :: zvi a :: st) h = zev kL_law 428 L (zvi (w32 (a + b)) :: st) h) ∧
  (∀ (j : Int) (q : Nat) (L st : List ZV) (h : PH), zev kL_law 428 L (zvi j :: zvr (some q) :: st) h = if (ph_K h q).1 % 1000 = 1 ∧ 0 ≤ j ∧ j < (ph_K h q).2 then zev kL_law 429 L (zvi (ph_I h q j) :: st) h else none) ∧
  (∀ (a : Option Nat) (L st : List ZV) (h : PH), zev kL_law 429 (zvr a :: L) st h = zev kL_law 430 (zvr a :: L) (zvr a :: st) h) ∧
  (∀ (x0 x1 x2 x3 : ZV) (a : Int) (L st : List ZV) (h : PH), zev kL_law 430 (x0 :: x1 :: x2 :: x3 :: zvi a :: L) st h = zev kL_law 432 (x0 :: x1 :: x2 :: x3 :: zvi a :: L) (zvi a :: st) h) ∧
  (∀ (L st : List ZV) (h : PH), zev kL_law 432 L st h = zev kL_law 433 L (zvi 2 :: st) h) ∧
  (∀ (a b : Int) (L st : List ZV) (h : PH), zev kL_law 433 L (zvi b :: zvi a :: st) h = zev kL_law 434 L (zvi (w32 (a + b)) :: st) h) ∧
  (∀ (j : Int) (q : Nat) (L st : List ZV) (h : PH), zev kL_law 434 L (zvi j :: zvr (some q) :: st) h = if (ph_K h q).1 % 1000 = 1 ∧ 0 ≤ j ∧ j < (ph_K h q).2 then zev kL_law 435 L (zvi (ph_I h q j) :: st) h else none) ∧
  (∀ (v0 v1 : ZV) (q : Nat) (L st : List ZV) (h : PH), zev kL_law 435 L (v1 :: v0 :: zvr (some q) :: st) h = if (ph_K h q).1 % 1000 = 16 ∧ zcat st ≤ 8 then zk kL_law 435 438 L st (mX1_departure [zvr (some q), v0, v1] h) else none) ∧
  (∀ (x0 x1 : ZV) (a : Option Nat) (L st : List ZV) (h : PH), zev kL_law 438 (x0 :: x1 :: zvr a :: L) st h = zev kL_law 439 (x0 :: x1 :: zvr a :: L) (zvr a :: st) h) ∧
  (∀ (a : Option Nat) (L st : List ZV) (h : PH), zev kL_law 439 (zvr a :: L) st h = zev kL_law 440 (zvr a :: L) (zvr a :: st) h) ∧
  (∀ (x0 x1 x2 x3 : ZV) (a : Int) (L st : List ZV) (h : PH), zev kL_law 440 (x0 :: x1 :: x2 :: x3 :: zvi a :: L) st h = zev kL_law 442 (x0 :: x1 :: x2 :: x3 :: zvi a :: L) (zvi a :: st) h) ∧
  (∀ (L st : List ZV) (h : PH), zev kL_law 442 L st h = zev kL_law 443 L (zvi 1 :: st) h) ∧
  (∀ (a b : Int) (L st : List ZV) (h : PH), zev kL_law 443 L (zvi b :: zvi a :: st) h = zev kL_law 444 L (zvi (w32 (a + b)) :: st) h) ∧
  (∀ (j : Int) (q : Nat) (L st : List ZV) (h : PH), zev kL_law 444 L (zvi j :: zvr (some q) :: st) h = if (ph_K h q).1 % 1000 = 1 ∧ 0 ≤ j ∧ j < (ph_K h q).2 then zev kL_law 445 L (zvi (ph_I h q j) :: st) h else none) ∧
  (∀ (a : Option Nat) (L st : List ZV) (h : PH), zev kL_law 445 (zvr a :: L) st h = zev kL_law 446 (zvr a :: L) (zvr a :: st) h) ∧
  (∀ (x0 x1 x2 x3 : ZV) (a : Int) (L st : List ZV) (h : PH), zev kL_law 446 (x0 :: x1 :: x2 :: x3 :: zvi a :: L) st h = zev kL_law 448 (x0 :: x1 :: x2 :: x3 :: zvi a :: L) (zvi a :: st) h) ∧
  (∀ (L st : List ZV) (h : PH), zev kL_law 448 L st h = zev kL_law 449 L (zvi 2 :: st) h) ∧
  (∀ (a b : Int) (L st : List ZV) (h : PH), zev kL_law 449 L (zvi b :: zvi a :: st) h = zev kL_law 450 L (zvi (w32 (a + b)) :: st) h) ∧
  (∀ (j : Int) (q : Nat) (L st : List ZV) (h : PH), zev kL_law 450 L (zvi j :: zvr (some q) :: st) h = if (ph_K h q).1 % 1000 = 1 ∧ 0 ≤ j ∧ j < (ph_K h q).2 then zev kL_law 451 L (zvi (ph_I h q j) :: st) h else none) ∧
  (∀ (v0 v1 : ZV) (q : Nat) (L st : List ZV) (h : PH), zev kL_law 451 L (v1 :: v0 :: zvr (some q) :: st) h = if (ph_K h q).1 % 1000 = 18 ∧ zcat st ≤ 8 then zk kL_law 451 454 L st (mX4_departure [zvr (some q), v0, v1] h) else none) ∧
  (∀ (a b : Int) (L st : List ZV) (h : PH), zev kL_law 454 L (zvi b :: zvi a :: st) h = if a = b then zev kL_law 2172 L st h else zev kL_law 457 L st h) ∧
  (∀ (L st : List ZV) (h : PH), zev kL_law 457 L st h = zev kL_law 458 L (zvi 0 :: st) h) ∧
  (∀ (a : Int) (L : List ZV) (h : PH), zev kL_law 458 L [zvi a] h = if a = 0 ∨ a = 1 then zrv (zvi a) h else none) :=
  ⟨fun x0 a L st h => e_ld1R (n := 423) ((skL_1 422 (by decide)).trans rfl),
  fun a L st h => e_ld0R (n := 424) ((skL_1 423 (by decide)).trans rfl),
  fun x0 x1 x2 x3 a L st h => e_ld4I (n := 426) ((skL_1 424 (by decide)).trans rfl),
  fun L st h => e_push (v := zvi 1) (n := 427) ((skL_1 426 (by decide)).trans rfl),
  fun a b L st h => e_bin (f := (fun a b => w32 (a + b))) (n := 428) ((skL_1 427 (by decide)).trans rfl),
  fun j q L st h => e_ald (kd := 1) (n := 429) ((skL_1 428 (by decide)).trans rfl),
  fun a L st h => e_ld0R (n := 430) ((skL_1 429 (by decide)).trans rfl),
  fun x0 x1 x2 x3 a L st h => e_ld4I (n := 432) ((skL_1 430 (by decide)).trans rfl),
  fun L st h => e_push (v := zvi 2) (n := 433) ((skL_1 432 (by decide)).trans rfl),
  fun a b L st h => e_bin (f := (fun a b => w32 (a + b))) (n := 434) ((skL_1 433 (by decide)).trans rfl),
  fun j q L st h => e_ald (kd := 1) (n := 435) ((skL_1 434 (by decide)).trans rfl),
  fun v0 v1 q L st h => e_callV3 (F := mX1_departure) (kd := 16) (n := 438) ((skL_1 435 (by decide)).trans rfl),
  fun x0 x1 a L st h => e_ld2R (n := 439) ((skL_1 438 (by decide)).trans rfl),
  fun a L st h => e_ld0R (n := 440) ((skL_1 439 (by decide)).trans rfl),
  fun x0 x1 x2 x3 a L st h => e_ld4I (n := 442) ((skL_1 440 (by decide)).trans rfl),
  fun L st h => e_push (v := zvi 1) (n := 443) ((skL_1 442 (by decide)).trans rfl),
  fun a b L st h => e_bin (f := (fun a b => w32 (a + b))) (n := 444) ((skL_1 443 (by decide)).trans rfl),
  fun j q L st h => e_ald (kd := 1) (n := 445) ((skL_1 444 (by decide)).trans rfl),
  fun a L st h => e_ld0R (n := 446) ((skL_1 445 (by decide)).trans rfl),
  fun x0 x1 x2 x3 a L st h => e_ld4I (n := 448) ((skL_1 446 (by decide)).trans rfl),
  fun L st h => e_push (v := zvi 2) (n := 449) ((skL_1 448 (by decide)).trans rfl),
  fun a b L st h => e_bin (f := (fun a b => w32 (a + b))) (n := 450) ((skL_1 449 (by decide)).trans rfl),
  fun j q L st h => e_ald (kd := 1) (n := 451) ((skL_1 450 (by decide)).trans rfl),
  fun v0 v1 q L st h => e_callV3 (F := mX4_departure) (kd := 18) (n := 454) ((skL_1 451 (by decide)).trans rfl),
  fun a b L st h => e_cmpeq (t := 2172) (n := 457) ((skL_1 454 (by decide)).trans rfl),
  fun L st h => e_push (v := zvi 0) (n := 458) ((skL_1 457 (by decide)).trans rfl),
  fun a L h => e_retz ((skL_1 458 (by decide)).trans rfl)⟩
theorem rL_law_7 : (∀ (x0 : ZV) (a : Option Nat) (L st : List ZV) (h : PH), zev kL_law 459 (x0 :: zvr a :: L) st h = zev kL_law 460 (x0 :: zvr a :: L) (zvr a :: st) h) ∧
  (∀ (a : Option Nat) (L st : List ZV) (h : PH), zev kL_law 460 (zvr a :: L) st h = zev kL_law 461 (zvr a :: L) (zvr a :: st) h) ∧
  (∀ (x0 x1 x2 x3 : ZV) (a : Int) (L st : List ZV) (h : PH), zev kL_law 461 (x0 :: x1 :: x2 :: x3 :: zvi a :: L) st h = zev kL_law 463 (x0 :: x1 :: x2 :: x3 :: zvi a :: L) (zvi a :: st) h) ∧
  (∀ (L st : List ZV) (h : PH), zev kL_law 463 L st h = zev kL_law 464 L (zvi 1 :: st) h) ∧
  (∀ (a b : Int) (L st : List ZV) (h : PH), zev kL_law 464 L (zvi b :: zvi a :: st) h = zev kL_law 465 L (zvi (w32 (a + b)) :: st) h) ∧
  (∀ (j : Int) (q : Nat) (L st : List ZV) (h : PH), zev kL_law 465 L (zvi j :: zvr (some q) :: st) h = if (ph_K h q).1 % 1000 = 1 ∧ 0 ≤ j ∧ j < (ph_K h q).2 then zev kL_law 466 L (zvi (ph_I h q j) :: st) h else none) ∧
  (∀ (v0 : ZV) (q : Nat) (L st : List ZV) (h : PH), zev kL_law 466 L (v0 :: zvr (some q) :: st) h = if (ph_K h q).1 % 1000 = 16 ∧ zcat st ≤ 8 then zk kL_law 466 469 L st (mX1_ordered [zvr (some q), v0] h) else none) ∧
  (∀ (x0 x1 : ZV) (a : Option Nat) (L st : List ZV) (h : PH), zev kL_law 469 (x0 :: x1 :: zvr a :: L) st h = zev kL_law 470 (x0 :: x1 :: zvr a :: L) (zvr a :: st) h) ∧
  (∀ (a : Option Nat) (L st : List ZV) (h : PH), zev kL_law 470 (zvr a :: L) st h = zev kL_law 471 (zvr a :: L) (zvr a :: st) h) ∧
  (∀ (x0 x1 x2 x3 : ZV) (a : Int) (L st : List ZV) (h : PH), zev kL_law 471 (x0 :: x1 :: x2 :: x3 :: zvi a :: L) st h = zev kL_law 473 (x0 :: x1 :: x2 :: x3 :: zvi a :: L) (zvi a :: st) h) ∧
  (∀ (L st : List ZV) (h : PH), zev kL_law 473 L st h = zev kL_law 474 L (zvi 1 :: st) h) ∧
  (∀ (a b : Int) (L st : List ZV) (h : PH), zev kL_law 474 L (zvi b :: zvi a :: st) h = zev kL_law 475 L (zvi (w32 (a + b)) :: st) h) ∧
  (∀ (j : Int) (q : Nat) (L st : List ZV) (h : PH), zev kL_law 475 L (zvi j :: zvr (some q) :: st) h = if (ph_K h q).1 % 1000 = 1 ∧ 0 ≤ j ∧ j < (ph_K h q).2 then zev kL_law 476 L (zvi (ph_I h q j) :: st) h else none) ∧
  (∀ (v0 : ZV) (q : Nat) (L st : List ZV) (h : PH), zev kL_law 476 L (v0 :: zvr (some q) :: st) h = if (ph_K h q).1 % 1000 = 18 ∧ zcat st ≤ 8 then zk kL_law 476 479 L st (mX4_ordered [zvr (some q), v0] h) else none) ∧
  (∀ (a b : Int) (L st : List ZV) (h : PH), zev kL_law 479 L (zvi b :: zvi a :: st) h = if a = b then zev kL_law 2172 L st h else zev kL_law 482 L st h) ∧
  (∀ (L st : List ZV) (h : PH), zev kL_law 482 L st h = zev kL_law 483 L (zvi 0 :: st) h) ∧
  (∀ (a : Int) (L : List ZV) (h : PH), zev kL_law 483 L [zvi a] h = if a = 0 ∨ a = 1 then zrv (zvi a) h else none) :=
  ⟨fun x0 a L st h => e_ld1R (n := 460) ((skL_1 459 (by decide)).trans rfl),
  fun a L st h => e_ld0R (n := 461) ((skL_1 460 (by decide)).trans rfl),
  fun x0 x1 x2 x3 a L st h => e_ld4I (n := 463) ((skL_1 461 (by decide)).trans rfl),
  fun L st h => e_push (v := zvi 1) (n := 464) ((skL_1 463 (by decide)).trans rfl),
  fun a b L st h => e_bin (f := (fun a b => w32 (a + b))) (n := 465) ((skL_1 464 (by decide)).trans rfl),
  fun j q L st h => e_ald (kd := 1) (n := 466) ((skL_1 465 (by decide)).trans rfl),
  fun v0 q L st h => e_callV2 (F := mX1_ordered) (kd := 16) (n := 469) ((skL_1 466 (by decide)).trans rfl),
  fun x0 x1 a L st h => e_ld2R (n := 470) ((skL_1 469 (by decide)).trans rfl),
  fun a L st h => e_ld0R (n := 471) ((skL_1 470 (by decide)).trans rfl),
  fun x0 x1 x2 x3 a L st h => e_ld4I (n := 473) ((skL_1 471 (by decide)).trans rfl),
  fun L st h => e_push (v := zvi 1) (n := 474) ((skL_1 473 (by decide)).trans rfl),
  fun a b L st h => e_bin (f := (fun a b => w32 (a + b))) (n := 475) ((skL_1 474 (by decide)).trans rfl),
  fun j q L st h => e_ald (kd := 1) (n := 476) ((skL_1 475 (by decide)).trans rfl),
  fun v0 q L st h => e_callV2 (F := mX4_ordered) (kd := 18) (n := 479) ((skL_1 476 (by decide)).trans rfl),
  fun a b L st h => e_cmpeq (t := 2172) (n := 482) ((skL_1 479 (by decide)).trans rfl),
  fun L st h => e_push (v := zvi 0) (n := 483) ((skL_1 482 (by decide)).trans rfl),
  fun a L h => e_retz ((skL_2 483 (by decide)).trans rfl)⟩
theorem rL_law_8 : (∀ (x0 : ZV) (a : Option Nat) (L st : List ZV) (h : PH), zev kL_law 484 (x0 :: zvr a :: L) st h = zev kL_law 485 (x0 :: zvr a :: L) (zvr a :: st) h) ∧
  (∀ (a : Option Nat) (L st : List ZV) (h : PH), zev kL_law 485 (zvr a :: L) st h = zev kL_law 486 (zvr a :: L) (zvr a :: st) h) ∧
  (∀ (x0 x1 x2 x3 : ZV) (a : Int) (L st : List ZV) (h : PH), zev kL_law 486 (x0 :: x1 :: x2 :: x3 :: zvi a :: L) st h = zev kL_law 488 (x0 :: x1 :: x2 :: x3 :: zvi a :: L) (zvi a :: st) h) ∧
  (∀ (L st : List ZV) (h : PH), zev kL_law 488 L st h = zev kL_law 489 L (zvi 1 :: st) h) ∧
  (∀ (a b : Int) (L st : List ZV) (h : PH), zev kL_law 489 L (zvi b :: zvi a :: st) h = zev kL_law 490 L (zvi (w32 (a + b)) :: st) h) ∧
  (∀ (j : Int) (q : Nat) (L st : List ZV) (h : PH), zev kL_law 490 L (zvi j :: zvr (some q) :: st) h = if (ph_K h q).1 % 1000 = 1 ∧ 0 ≤ j ∧ j < (ph_K h q).2 then zev kL_law 491 L (zvi (ph_I h q j) :: st) h else none) ∧
  (∀ (a : Option Nat) (L st : List ZV) (h : PH), zev kL_law 491 (zvr a :: L) st h = zev kL_law 492 (zvr a :: L) (zvr a :: st) h) ∧
  (∀ (x0 x1 x2 x3 : ZV) (a : Int) (L st : List ZV) (h : PH), zev kL_law 492 (x0 :: x1 :: x2 :: x3 :: zvi a :: L) st h = zev kL_law 494 (x0 :: x1 :: x2 :: x3 :: zvi a :: L) (zvi a :: st) h) ∧
  (∀ (L st : List ZV) (h : PH), zev kL_law 494 L st h = zev kL_law 495 L (zvi 2 :: st) h) ∧
  (∀ (a b : Int) (L st : List ZV) (h : PH), zev kL_law 495 L (zvi b :: zvi a :: st) h = zev kL_law 496 L (zvi (w32 (a + b)) :: st) h) ∧
  (∀ (j : Int) (q : Nat) (L st : List ZV) (h : PH), zev kL_law 496 L (zvi j :: zvr (some q) :: st) h = if (ph_K h q).1 % 1000 = 1 ∧ 0 ≤ j ∧ j < (ph_K h q).2 then zev kL_law 497 L (zvi (ph_I h q j) :: st) h else none) ∧
  (∀ (a : Option Nat) (L st : List ZV) (h : PH), zev kL_law 497 (zvr a :: L) st h = zev kL_law 498 (zvr a :: L) (zvr a :: st) h) ∧
  (∀ (x0 x1 x2 x3 : ZV) (a : Int) (L st : List ZV) (h : PH), zev kL_law 498 (x0 :: x1 :: x2 :: x3 :: zvi a :: L) st h = zev kL_law 500 (x0 :: x1 :: x2 :: x3 :: zvi a :: L) (zvi a :: st) h) ∧
  (∀ (L st : List ZV) (h : PH), zev kL_law 500 L st h = zev kL_law 501 L (zvi 3 :: st) h) ∧
  (∀ (a b : Int) (L st : List ZV) (h : PH), zev kL_law 501 L (zvi b :: zvi a :: st) h = zev kL_law 502 L (zvi (w32 (a + b)) :: st) h) ∧
  (∀ (j : Int) (q : Nat) (L st : List ZV) (h : PH), zev kL_law 502 L (zvi j :: zvr (some q) :: st) h = if (ph_K h q).1 % 1000 = 1 ∧ 0 ≤ j ∧ j < (ph_K h q).2 then zev kL_law 503 L (zvi (ph_I h q j) :: st) h else none) ∧
  (∀ (v0 v1 v2 : ZV) (q : Nat) (L st : List ZV) (h : PH), zev kL_law 503 L (v2 :: v1 :: v0 :: zvr (some q) :: st) h = if (ph_K h q).1 % 1000 = 16 ∧ zcat st ≤ 8 then zk kL_law 503 506 L st (mX1_arrives [zvr (some q), v0, v1, v2] h) else none) ∧
  (∀ (x0 x1 : ZV) (a : Option Nat) (L st : List ZV) (h : PH), zev kL_law 506 (x0 :: x1 :: zvr a :: L) st h = zev kL_law 507 (x0 :: x1 :: zvr a :: L) (zvr a :: st) h) ∧
  (∀ (a : Option Nat) (L st : List ZV) (h : PH), zev kL_law 507 (zvr a :: L) st h = zev kL_law 508 (zvr a :: L) (zvr a :: st) h) ∧
  (∀ (x0 x1 x2 x3 : ZV) (a : Int) (L st : List ZV) (h : PH), zev kL_law 508 (x0 :: x1 :: x2 :: x3 :: zvi a :: L) st h = zev kL_law 510 (x0 :: x1 :: x2 :: x3 :: zvi a :: L) (zvi a :: st) h) ∧
  (∀ (L st : List ZV) (h : PH), zev kL_law 510 L st h = zev kL_law 511 L (zvi 1 :: st) h) ∧
  (∀ (a b : Int) (L st : List ZV) (h : PH), zev kL_law 511 L (zvi b :: zvi a :: st) h = zev kL_law 512 L (zvi (w32 (a + b)) :: st) h) ∧
  (∀ (j : Int) (q : Nat) (L st : List ZV) (h : PH), zev kL_law 512 L (zvi j :: zvr (some q) :: st) h = if (ph_K h q).1 % 1000 = 1 ∧ 0 ≤ j ∧ j < (ph_K h q).2 then zev kL_law 513 L (zvi (ph_I h q j) :: st) h else none) ∧
  (∀ (a : Option Nat) (L st : List ZV) (h : PH), zev kL_law 513 (zvr a :: L) st h = zev kL_law 514 (zvr a :: L) (zvr a :: st) h) ∧
  (∀ (x0 x1 x2 x3 : ZV) (a : Int) (L st : List ZV) (h : PH), zev kL_law 514 (x0 :: x1 :: x2 :: x3 :: zvi a :: L) st h = zev kL_law 516 (x0 :: x1 :: x2 :: x3 :: zvi a :: L) (zvi a :: st) h) ∧
  (∀ (L st : List ZV) (h : PH), zev kL_law 516 L st h = zev kL_law 517 L (zvi 2 :: st) h) ∧
  (∀ (a b : Int) (L st : List ZV) (h : PH), zev kL_law 517 L (zvi b :: zvi a :: st) h = zev kL_law 518 L (zvi (w32 (a + b)) :: st) h) ∧
  (∀ (j : Int) (q : Nat) (L st : List ZV) (h : PH), zev kL_law 518 L (zvi j :: zvr (some q) :: st) h = if (ph_K h q).1 % 1000 = 1 ∧ 0 ≤ j ∧ j < (ph_K h q).2 then zev kL_law 519 L (zvi (ph_I h q j) :: st) h else none) ∧
  (∀ (a : Option Nat) (L st : List ZV) (h : PH), zev kL_law 519 (zvr a :: L) st h = zev kL_law 520 (zvr a :: L) (zvr a :: st) h) ∧
  (∀ (x0 x1 x2 x3 : ZV) (a : Int) (L st : List ZV) (h : PH), zev kL_law 520 (x0 :: x1 :: x2 :: x3 :: zvi a :: L) st h = zev kL_law 522 (x0 :: x1 :: x2 :: x3 :: zvi a :: L) (zvi a :: st) h) ∧
  (∀ (L st : List ZV) (h : PH), zev kL_law 522 L st h = zev kL_law 523 L (zvi 3 :: st) h) ∧
  (∀ (a b : Int) (L st : List ZV) (h : PH), zev kL_law 523 L (zvi b :: zvi a :: st) h = zev kL_law 524 L (zvi (w32 (a + b)) :: st) h) ∧
  (∀ (j : Int) (q : Nat) (L st : List ZV) (h : PH), zev kL_law 524 L (zvi j :: zvr (some q) :: st) h = if (ph_K h q).1 % 1000 = 1 ∧ 0 ≤ j ∧ j < (ph_K h q).2 then zev kL_law 525 L (zvi (ph_I h q j) :: st) h else none) ∧
  (∀ (v0 v1 v2 : ZV) (q : Nat) (L st : List ZV) (h : PH), zev kL_law 525 L (v2 :: v1 :: v0 :: zvr (some q) :: st) h = if (ph_K h q).1 % 1000 = 18 ∧ zcat st ≤ 8 then zk kL_law 525 528 L st (mX4_arrives [zvr (some q), v0, v1, v2] h) else none) ∧
  (∀ (a b : Int) (L st : List ZV) (h : PH), zev kL_law 528 L (zvi b :: zvi a :: st) h = if a = b then zev kL_law 2172 L st h else zev kL_law 531 L st h) ∧
  (∀ (L st : List ZV) (h : PH), zev kL_law 531 L st h = zev kL_law 532 L (zvi 0 :: st) h) ∧
  (∀ (a : Int) (L : List ZV) (h : PH), zev kL_law 532 L [zvi a] h = if a = 0 ∨ a = 1 then zrv (zvi a) h else none) :=
  ⟨fun x0 a L st h => e_ld1R (n := 485) ((skL_2 484 (by decide)).trans rfl),
  fun a L st h => e_ld0R (n := 486) ((skL_2 485 (by decide)).trans rfl),
  fun x0 x1 x2 x3 a L st h => e_ld4I (n := 488) ((skL_2 486 (by decide)).trans rfl),
  fun L st h => e_push (v := zvi 1) (n := 489) ((skL_2 488 (by decide)).trans rfl),
  fun a b L st h => e_bin (f := (fun a b => w32 (a + b))) (n := 490) ((skL_2 489 (by decide)).trans rfl),
  fun j q L st h => e_ald (kd := 1) (n := 491) ((skL_2 490 (by decide)).trans rfl),
  fun a L st h => e_ld0R (n := 492) ((skL_2 491 (by decide)).trans rfl),
  fun x0 x1 x2 x3 a L st h => e_ld4I (n := 494) ((skL_2 492 (by decide)).trans rfl),
  fun L st h => e_push (v := zvi 2) (n := 495) ((skL_2 494 (by decide)).trans rfl),
  fun a b L st h => e_bin (f := (fun a b => w32 (a + b))) (n := 496) ((skL_2 495 (by decide)).trans rfl),
  fun j q L st h => e_ald (kd := 1) (n := 497) ((skL_2 496 (by decide)).trans rfl),
  fun a L st h => e_ld0R (n := 498) ((skL_2 497 (by decide)).trans rfl),
  fun x0 x1 x2 x3 a L st h => e_ld4I (n := 500) ((skL_2 498 (by decide)).trans rfl),
  fun L st h => e_push (v := zvi 3) (n := 501) ((skL_2 500 (by decide)).trans rfl),
  fun a b L st h => e_bin (f := (fun a b => w32 (a + b))) (n := 502) ((skL_2 501 (by decide)).trans rfl),
  fun j q L st h => e_ald (kd := 1) (n := 503) ((skL_2 502 (by decide)).trans rfl),
  fun v0 v1 v2 q L st h => e_callV4 (F := mX1_arrives) (kd := 16) (n := 506) ((skL_2 503 (by decide)).trans rfl),
  fun x0 x1 a L st h => e_ld2R (n := 507) ((skL_2 506 (by decide)).trans rfl),
  fun a L st h => e_ld0R (n := 508) ((skL_2 507 (by decide)).trans rfl),
  fun x0 x1 x2 x3 a L st h => e_ld4I (n := 510) ((skL_2 508 (by decide)).trans rfl),
  fun L st h => e_push (v := zvi 1) (n := 511) ((skL_2 510 (by decide)).trans rfl),
  fun a b L st h => e_bin (f := (fun a b => w32 (a + b))) (n := 512) ((skL_2 511 (by decide)).trans rfl),
  fun j q L st h => e_ald (kd := 1) (n := 513) ((skL_2 512 (by decide)).trans rfl),
  fun a L st h => e_ld0R (n := 514) ((skL_2 513 (by decide)).trans rfl),
  fun x0 x1 x2 x3 a L st h => e_ld4I (n := 516) ((skL_2 514 (by decide)).trans rfl),
  fun L st h => e_push (v := zvi 2) (n := 517) ((skL_2 516 (by decide)).trans rfl),
  fun a b L st h => e_bin (f := (fun a b => w32 (a + b))) (n := 518) ((skL_2 517 (by decide)).trans rfl),
  fun j q L st h => e_ald (kd := 1) (n := 519) ((skL_2 518 (by decide)).trans rfl),
  fun a L st h => e_ld0R (n := 520) ((skL_2 519 (by decide)).trans rfl),
  fun x0 x1 x2 x3 a L st h => e_ld4I (n := 522) ((skL_2 520 (by decide)).trans rfl),
  fun L st h => e_push (v := zvi 3) (n := 523) ((skL_2 522 (by decide)).trans rfl),
  fun a b L st h => e_bin (f := (fun a b => w32 (a + b))) (n := 524) ((skL_2 523 (by decide)).trans rfl),
  fun j q L st h => e_ald (kd := 1) (n := 525) ((skL_2 524 (by decide)).trans rfl),
  fun v0 v1 v2 q L st h => e_callV4 (F := mX4_arrives) (kd := 18) (n := 528) ((skL_2 525 (by decide)).trans rfl),
  fun a b L st h => e_cmpeq (t := 2172) (n := 531) ((skL_2 528 (by decide)).trans rfl),
  fun L st h => e_push (v := zvi 0) (n := 532) ((skL_2 531 (by decide)).trans rfl),
  fun a L h => e_retz ((skL_2 532 (by decide)).trans rfl)⟩
theorem rL_law_9 : (∀ (x0 : ZV) (a : Option Nat) (L st : List ZV) (h : PH), zev kL_law 533 (x0 :: zvr a :: L) st h = zev kL_law 534 (x0 :: zvr a :: L) (zvr a :: st) h) ∧
  (∀ (a : Option Nat) (L st : List ZV) (h : PH), zev kL_law 534 (zvr a :: L) st h = zev kL_law 535 (zvr a :: L) (zvr a :: st) h) ∧
  (∀ (x0 x1 x2 x3 : ZV) (a : Int) (L st : List ZV) (h : PH), zev kL_law 535 (x0 :: x1 :: x2 :: x3 :: zvi a :: L) st h = zev kL_law 537 (x0 :: x1 :: x2 :: x3 :: zvi a :: L) (zvi a :: st) h) ∧
  (∀ (L st : List ZV) (h : PH), zev kL_law 537 L st h = zev kL_law 538 L (zvi 1 :: st) h) ∧
  (∀ (a b : Int) (L st : List ZV) (h : PH), zev kL_law 538 L (zvi b :: zvi a :: st) h = zev kL_law 539 L (zvi (w32 (a + b)) :: st) h) ∧
  (∀ (j : Int) (q : Nat) (L st : List ZV) (h : PH), zev kL_law 539 L (zvi j :: zvr (some q) :: st) h = if (ph_K h q).1 % 1000 = 1 ∧ 0 ≤ j ∧ j < (ph_K h q).2 then zev kL_law 540 L (zvi (ph_I h q j) :: st) h else none) ∧
  (∀ (a : Option Nat) (L st : List ZV) (h : PH), zev kL_law 540 (zvr a :: L) st h = zev kL_law 541 (zvr a :: L) (zvr a :: st) h) ∧
  (∀ (x0 x1 x2 x3 : ZV) (a : Int) (L st : List ZV) (h : PH), zev kL_law 541 (x0 :: x1 :: x2 :: x3 :: zvi a :: L) st h = zev kL_law 543 (x0 :: x1 :: x2 :: x3 :: zvi a :: L) (zvi a :: st) h) ∧
  (∀ (L st : List ZV) (h : PH), zev kL_law 543 L st h = zev kL_law 544 L (zvi 2 :: st) h) ∧
  (∀ (a b : Int) (L st : List ZV) (h : PH), zev kL_law 544 L (zvi b :: zvi a :: st) h = zev kL_law 545 L (zvi (w32 (a + b)) :: st) h) ∧
  (∀ (j : Int) (q : Nat) (L st : List ZV) (h : PH), zev kL_law 545 L (zvi j :: zvr (some q) :: st) h = if (ph_K h q).1 % 1000 = 1 ∧ 0 ≤ j ∧ j < (ph_K h q).2 then zev kL_law 546 L (zvi (ph_I h q j) :: st) h else none) ∧
  (∀ (a : Option Nat) (L st : List ZV) (h : PH), zev kL_law 546 (zvr a :: L) st h = zev kL_law 547 (zvr a :: L) (zvr a :: st) h) ∧
  (∀ (x0 x1 x2 x3 : ZV) (a : Int) (L st : List ZV) (h : PH), zev kL_law 547 (x0 :: x1 :: x2 :: x3 :: zvi a :: L) st h = zev kL_law 549 (x0 :: x1 :: x2 :: x3 :: zvi a :: L) (zvi a :: st) h) ∧
  (∀ (L st : List ZV) (h : PH), zev kL_law 549 L st h = zev kL_law 550 L (zvi 3 :: st) h) ∧
  (∀ (a b : Int) (L st : List ZV) (h : PH), zev kL_law 550 L (zvi b :: zvi a :: st) h = zev kL_law 551 L (zvi (w32 (a + b)) :: st) h) ∧
  (∀ (j : Int) (q : Nat) (L st : List ZV) (h : PH), zev kL_law 551 L (zvi j :: zvr (some q) :: st) h = if (ph_K h q).1 % 1000 = 1 ∧ 0 ≤ j ∧ j < (ph_K h q).2 then zev kL_law 552 L (zvi (ph_I h q j) :: st) h else none) ∧
  (∀ (v0 v1 v2 : ZV) (q : Nat) (L st : List ZV) (h : PH), zev kL_law 552 L (v2 :: v1 :: v0 :: zvr (some q) :: st) h = if (ph_K h q).1 % 1000 = 16 ∧ zcat st ≤ 8 then zk kL_law 552 555 L st (mX1_changes [zvr (some q), v0, v1, v2] h) else none) ∧
  (∀ (x0 x1 : ZV) (a : Option Nat) (L st : List ZV) (h : PH), zev kL_law 555 (x0 :: x1 :: zvr a :: L) st h = zev kL_law 556 (x0 :: x1 :: zvr a :: L) (zvr a :: st) h) ∧
  (∀ (a : Option Nat) (L st : List ZV) (h : PH), zev kL_law 556 (zvr a :: L) st h = zev kL_law 557 (zvr a :: L) (zvr a :: st) h) ∧
  (∀ (x0 x1 x2 x3 : ZV) (a : Int) (L st : List ZV) (h : PH), zev kL_law 557 (x0 :: x1 :: x2 :: x3 :: zvi a :: L) st h = zev kL_law 559 (x0 :: x1 :: x2 :: x3 :: zvi a :: L) (zvi a :: st) h) ∧
  (∀ (L st : List ZV) (h : PH), zev kL_law 559 L st h = zev kL_law 560 L (zvi 1 :: st) h) ∧
  (∀ (a b : Int) (L st : List ZV) (h : PH), zev kL_law 560 L (zvi b :: zvi a :: st) h = zev kL_law 561 L (zvi (w32 (a + b)) :: st) h) ∧
  (∀ (j : Int) (q : Nat) (L st : List ZV) (h : PH), zev kL_law 561 L (zvi j :: zvr (some q) :: st) h = if (ph_K h q).1 % 1000 = 1 ∧ 0 ≤ j ∧ j < (ph_K h q).2 then zev kL_law 562 L (zvi (ph_I h q j) :: st) h else none) ∧
  (∀ (a : Option Nat) (L st : List ZV) (h : PH), zev kL_law 562 (zvr a :: L) st h = zev kL_law 563 (zvr a :: L) (zvr a :: st) h) ∧
  (∀ (x0 x1 x2 x3 : ZV) (a : Int) (L st : List ZV) (h : PH), zev kL_law 563 (x0 :: x1 :: x2 :: x3 :: zvi a :: L) st h = zev kL_law 565 (x0 :: x1 :: x2 :: x3 :: zvi a :: L) (zvi a :: st) h) ∧
  (∀ (L st : List ZV) (h : PH), zev kL_law 565 L st h = zev kL_law 566 L (zvi 2 :: st) h) ∧
  (∀ (a b : Int) (L st : List ZV) (h : PH), zev kL_law 566 L (zvi b :: zvi a :: st) h = zev kL_law 567 L (zvi (w32 (a + b)) :: st) h) ∧
  (∀ (j : Int) (q : Nat) (L st : List ZV) (h : PH), zev kL_law 567 L (zvi j :: zvr (some q) :: st) h = if (ph_K h q).1 % 1000 = 1 ∧ 0 ≤ j ∧ j < (ph_K h q).2 then zev kL_law 568 L (zvi (ph_I h q j) :: st) h else none) ∧
  (∀ (a : Option Nat) (L st : List ZV) (h : PH), zev kL_law 568 (zvr a :: L) st h = zev kL_law 569 (zvr a :: L) (zvr a :: st) h) ∧
  (∀ (x0 x1 x2 x3 : ZV) (a : Int) (L st : List ZV) (h : PH), zev kL_law 569 (x0 :: x1 :: x2 :: x3 :: zvi a :: L) st h = zev kL_law 571 (x0 :: x1 :: x2 :: x3 :: zvi a :: L) (zvi a :: st) h) ∧
  (∀ (L st : List ZV) (h : PH), zev kL_law 571 L st h = zev kL_law 572 L (zvi 3 :: st) h) ∧
  (∀ (a b : Int) (L st : List ZV) (h : PH), zev kL_law 572 L (zvi b :: zvi a :: st) h = zev kL_law 573 L (zvi (w32 (a + b)) :: st) h) ∧
  (∀ (j : Int) (q : Nat) (L st : List ZV) (h : PH), zev kL_law 573 L (zvi j :: zvr (some q) :: st) h = if (ph_K h q).1 % 1000 = 1 ∧ 0 ≤ j ∧ j < (ph_K h q).2 then zev kL_law 574 L (zvi (ph_I h q j) :: st) h else none) ∧
  (∀ (v0 v1 v2 : ZV) (q : Nat) (L st : List ZV) (h : PH), zev kL_law 574 L (v2 :: v1 :: v0 :: zvr (some q) :: st) h = if (ph_K h q).1 % 1000 = 18 ∧ zcat st ≤ 8 then zk kL_law 574 577 L st (mX4_changes [zvr (some q), v0, v1, v2] h) else none) ∧
  (∀ (a b : Int) (L st : List ZV) (h : PH), zev kL_law 577 L (zvi b :: zvi a :: st) h = if a = b then zev kL_law 2172 L st h else zev kL_law 580 L st h) ∧
  (∀ (L st : List ZV) (h : PH), zev kL_law 580 L st h = zev kL_law 581 L (zvi 0 :: st) h) ∧
  (∀ (a : Int) (L : List ZV) (h : PH), zev kL_law 581 L [zvi a] h = if a = 0 ∨ a = 1 then zrv (zvi a) h else none) :=
  ⟨fun x0 a L st h => e_ld1R (n := 534) ((skL_2 533 (by decide)).trans rfl),
  fun a L st h => e_ld0R (n := 535) ((skL_2 534 (by decide)).trans rfl),
  fun x0 x1 x2 x3 a L st h => e_ld4I (n := 537) ((skL_2 535 (by decide)).trans rfl),
  fun L st h => e_push (v := zvi 1) (n := 538) ((skL_2 537 (by decide)).trans rfl),
  fun a b L st h => e_bin (f := (fun a b => w32 (a + b))) (n := 539) ((skL_2 538 (by decide)).trans rfl),
  fun j q L st h => e_ald (kd := 1) (n := 540) ((skL_2 539 (by decide)).trans rfl),
  fun a L st h => e_ld0R (n := 541) ((skL_2 540 (by decide)).trans rfl),
  fun x0 x1 x2 x3 a L st h => e_ld4I (n := 543) ((skL_2 541 (by decide)).trans rfl),
  fun L st h => e_push (v := zvi 2) (n := 544) ((skL_2 543 (by decide)).trans rfl),
  fun a b L st h => e_bin (f := (fun a b => w32 (a + b))) (n := 545) ((skL_2 544 (by decide)).trans rfl),
  fun j q L st h => e_ald (kd := 1) (n := 546) ((skL_2 545 (by decide)).trans rfl),
  fun a L st h => e_ld0R (n := 547) ((skL_2 546 (by decide)).trans rfl),
  fun x0 x1 x2 x3 a L st h => e_ld4I (n := 549) ((skL_2 547 (by decide)).trans rfl),
  fun L st h => e_push (v := zvi 3) (n := 550) ((skL_2 549 (by decide)).trans rfl),
  fun a b L st h => e_bin (f := (fun a b => w32 (a + b))) (n := 551) ((skL_2 550 (by decide)).trans rfl),
  fun j q L st h => e_ald (kd := 1) (n := 552) ((skL_2 551 (by decide)).trans rfl),
  fun v0 v1 v2 q L st h => e_callV4 (F := mX1_changes) (kd := 16) (n := 555) ((skL_2 552 (by decide)).trans rfl),
  fun x0 x1 a L st h => e_ld2R (n := 556) ((skL_2 555 (by decide)).trans rfl),
  fun a L st h => e_ld0R (n := 557) ((skL_2 556 (by decide)).trans rfl),
  fun x0 x1 x2 x3 a L st h => e_ld4I (n := 559) ((skL_2 557 (by decide)).trans rfl),
  fun L st h => e_push (v := zvi 1) (n := 560) ((skL_2 559 (by decide)).trans rfl),
  fun a b L st h => e_bin (f := (fun a b => w32 (a + b))) (n := 561) ((skL_2 560 (by decide)).trans rfl),
  fun j q L st h => e_ald (kd := 1) (n := 562) ((skL_2 561 (by decide)).trans rfl),
  fun a L st h => e_ld0R (n := 563) ((skL_2 562 (by decide)).trans rfl),
  fun x0 x1 x2 x3 a L st h => e_ld4I (n := 565) ((skL_2 563 (by decide)).trans rfl),
  fun L st h => e_push (v := zvi 2) (n := 566) ((skL_2 565 (by decide)).trans rfl),
  fun a b L st h => e_bin (f := (fun a b => w32 (a + b))) (n := 567) ((skL_2 566 (by decide)).trans rfl),
  fun j q L st h => e_ald (kd := 1) (n := 568) ((skL_2 567 (by decide)).trans rfl),
  fun a L st h => e_ld0R (n := 569) ((skL_2 568 (by decide)).trans rfl),
  fun x0 x1 x2 x3 a L st h => e_ld4I (n := 571) ((skL_2 569 (by decide)).trans rfl),
  fun L st h => e_push (v := zvi 3) (n := 572) ((skL_2 571 (by decide)).trans rfl),
  fun a b L st h => e_bin (f := (fun a b => w32 (a + b))) (n := 573) ((skL_2 572 (by decide)).trans rfl),
  fun j q L st h => e_ald (kd := 1) (n := 574) ((skL_2 573 (by decide)).trans rfl),
  fun v0 v1 v2 q L st h => e_callV4 (F := mX4_changes) (kd := 18) (n := 577) ((skL_2 574 (by decide)).trans rfl),
  fun a b L st h => e_cmpeq (t := 2172) (n := 580) ((skL_2 577 (by decide)).trans rfl),
  fun L st h => e_push (v := zvi 0) (n := 581) ((skL_2 580 (by decide)).trans rfl),
  fun a L h => e_retz ((skL_2 581 (by decide)).trans rfl)⟩
theorem rL_law_10 : (∀ (x0 : ZV) (a : Option Nat) (L st : List ZV) (h : PH), zev kL_law 582 (x0 :: zvr a :: L) st h = zev kL_law 583 (x0 :: zvr a :: L) (zvr a :: st) h) ∧
  (∀ (a : Option Nat) (L st : List ZV) (h : PH), zev kL_law 583 (zvr a :: L) st h = zev kL_law 584 (zvr a :: L) (zvr a :: st) h) ∧
  (∀ (x0 x1 x2 x3 : ZV) (a : Int) (L st : List ZV) (h : PH), zev kL_law 584 (x0 :: x1 :: x2 :: x3 :: zvi a :: L) st h = zev kL_law 586 (x0 :: x1 :: x2 :: x3 :: zvi a :: L) (zvi a :: st) h) ∧
  (∀ (L st : List ZV) (h : PH), zev kL_law 586 L st h = zev kL_law 587 L (zvi 1 :: st) h) ∧
  (∀ (a b : Int) (L st : List ZV) (h : PH), zev kL_law 587 L (zvi b :: zvi a :: st) h = zev kL_law 588 L (zvi (w32 (a + b)) :: st) h) ∧
  (∀ (j : Int) (q : Nat) (L st : List ZV) (h : PH), zev kL_law 588 L (zvi j :: zvr (some q) :: st) h = if (ph_K h q).1 % 1000 = 1 ∧ 0 ≤ j ∧ j < (ph_K h q).2 then zev kL_law 589 L (zvi (ph_I h q j) :: st) h else none) ∧
  (∀ (a : Option Nat) (L st : List ZV) (h : PH), zev kL_law 589 (zvr a :: L) st h = zev kL_law 590 (zvr a :: L) (zvr a :: st) h) ∧
  (∀ (x0 x1 x2 x3 : ZV) (a : Int) (L st : List ZV) (h : PH), zev kL_law 590 (x0 :: x1 :: x2 :: x3 :: zvi a :: L) st h = zev kL_law 592 (x0 :: x1 :: x2 :: x3 :: zvi a :: L) (zvi a :: st) h) ∧
  (∀ (L st : List ZV) (h : PH), zev kL_law 592 L st h = zev kL_law 593 L (zvi 2 :: st) h) ∧
  (∀ (a b : Int) (L st : List ZV) (h : PH), zev kL_law 593 L (zvi b :: zvi a :: st) h = zev kL_law 594 L (zvi (w32 (a + b)) :: st) h) ∧
  (∀ (j : Int) (q : Nat) (L st : List ZV) (h : PH), zev kL_law 594 L (zvi j :: zvr (some q) :: st) h = if (ph_K h q).1 % 1000 = 1 ∧ 0 ≤ j ∧ j < (ph_K h q).2 then zev kL_law 595 L (zvi (ph_I h q j) :: st) h else none) ∧
  (∀ (a : Option Nat) (L st : List ZV) (h : PH), zev kL_law 595 (zvr a :: L) st h = zev kL_law 596 (zvr a :: L) (zvr a :: st) h) ∧
  (∀ (x0 x1 x2 x3 : ZV) (a : Int) (L st : List ZV) (h : PH), zev kL_law 596 (x0 :: x1 :: x2 :: x3 :: zvi a :: L) st h = zev kL_law 598 (x0 :: x1 :: x2 :: x3 :: zvi a :: L) (zvi a :: st) h) ∧
  (∀ (L st : List ZV) (h : PH), zev kL_law 598 L st h = zev kL_law 599 L (zvi 3 :: st) h) ∧
  (∀ (a b : Int) (L st : List ZV) (h : PH), zev kL_law 599 L (zvi b :: zvi a :: st) h = zev kL_law 600 L (zvi (w32 (a + b)) :: st) h) ∧
  (∀ (j : Int) (q : Nat) (L st : List ZV) (h : PH), zev kL_law 600 L (zvi j :: zvr (some q) :: st) h = if (ph_K h q).1 % 1000 = 1 ∧ 0 ≤ j ∧ j < (ph_K h q).2 then zev kL_law 601 L (zvi (ph_I h q j) :: st) h else none) ∧
  (∀ (v0 v1 v2 : ZV) (q : Nat) (L st : List ZV) (h : PH), zev kL_law 601 L (v2 :: v1 :: v0 :: zvr (some q) :: st) h = if (ph_K h q).1 % 1000 = 16 ∧ zcat st ≤ 8 then zk kL_law 601 604 L st (mX1_leaves [zvr (some q), v0, v1, v2] h) else none) ∧
  (∀ (x0 x1 : ZV) (a : Option Nat) (L st : List ZV) (h : PH), zev kL_law 604 (x0 :: x1 :: zvr a :: L) st h = zev kL_law 605 (x0 :: x1 :: zvr a :: L) (zvr a :: st) h) ∧
  (∀ (a : Option Nat) (L st : List ZV) (h : PH), zev kL_law 605 (zvr a :: L) st h = zev kL_law 606 (zvr a :: L) (zvr a :: st) h) ∧
  (∀ (x0 x1 x2 x3 : ZV) (a : Int) (L st : List ZV) (h : PH), zev kL_law 606 (x0 :: x1 :: x2 :: x3 :: zvi a :: L) st h = zev kL_law 608 (x0 :: x1 :: x2 :: x3 :: zvi a :: L) (zvi a :: st) h) ∧
  (∀ (L st : List ZV) (h : PH), zev kL_law 608 L st h = zev kL_law 609 L (zvi 1 :: st) h) ∧
  (∀ (a b : Int) (L st : List ZV) (h : PH), zev kL_law 609 L (zvi b :: zvi a :: st) h = zev kL_law 610 L (zvi (w32 (a + b)) :: st) h) ∧
  (∀ (j : Int) (q : Nat) (L st : List ZV) (h : PH), zev kL_law 610 L (zvi j :: zvr (some q) :: st) h = if (ph_K h q).1 % 1000 = 1 ∧ 0 ≤ j ∧ j < (ph_K h q).2 then zev kL_law 611 L (zvi (ph_I h q j) :: st) h else none) ∧
  (∀ (a : Option Nat) (L st : List ZV) (h : PH), zev kL_law 611 (zvr a :: L) st h = zev kL_law 612 (zvr a :: L) (zvr a :: st) h) ∧
  (∀ (x0 x1 x2 x3 : ZV) (a : Int) (L st : List ZV) (h : PH), zev kL_law 612 (x0 :: x1 :: x2 :: x3 :: zvi a :: L) st h = zev kL_law 614 (x0 :: x1 :: x2 :: x3 :: zvi a :: L) (zvi a :: st) h) ∧
  (∀ (L st : List ZV) (h : PH), zev kL_law 614 L st h = zev kL_law 615 L (zvi 2 :: st) h) ∧
  (∀ (a b : Int) (L st : List ZV) (h : PH), zev kL_law 615 L (zvi b :: zvi a :: st) h = zev kL_law 616 L (zvi (w32 (a + b)) :: st) h) ∧
  (∀ (j : Int) (q : Nat) (L st : List ZV) (h : PH), zev kL_law 616 L (zvi j :: zvr (some q) :: st) h = if (ph_K h q).1 % 1000 = 1 ∧ 0 ≤ j ∧ j < (ph_K h q).2 then zev kL_law 617 L (zvi (ph_I h q j) :: st) h else none) ∧
  (∀ (a : Option Nat) (L st : List ZV) (h : PH), zev kL_law 617 (zvr a :: L) st h = zev kL_law 618 (zvr a :: L) (zvr a :: st) h) ∧
  (∀ (x0 x1 x2 x3 : ZV) (a : Int) (L st : List ZV) (h : PH), zev kL_law 618 (x0 :: x1 :: x2 :: x3 :: zvi a :: L) st h = zev kL_law 620 (x0 :: x1 :: x2 :: x3 :: zvi a :: L) (zvi a :: st) h) ∧
  (∀ (L st : List ZV) (h : PH), zev kL_law 620 L st h = zev kL_law 621 L (zvi 3 :: st) h) ∧
  (∀ (a b : Int) (L st : List ZV) (h : PH), zev kL_law 621 L (zvi b :: zvi a :: st) h = zev kL_law 622 L (zvi (w32 (a + b)) :: st) h) ∧
  (∀ (j : Int) (q : Nat) (L st : List ZV) (h : PH), zev kL_law 622 L (zvi j :: zvr (some q) :: st) h = if (ph_K h q).1 % 1000 = 1 ∧ 0 ≤ j ∧ j < (ph_K h q).2 then zev kL_law 623 L (zvi (ph_I h q j) :: st) h else none) ∧
  (∀ (v0 v1 v2 : ZV) (q : Nat) (L st : List ZV) (h : PH), zev kL_law 623 L (v2 :: v1 :: v0 :: zvr (some q) :: st) h = if (ph_K h q).1 % 1000 = 18 ∧ zcat st ≤ 8 then zk kL_law 623 626 L st (mX4_leaves [zvr (some q), v0, v1, v2] h) else none) ∧
  (∀ (a b : Int) (L st : List ZV) (h : PH), zev kL_law 626 L (zvi b :: zvi a :: st) h = if a = b then zev kL_law 2172 L st h else zev kL_law 629 L st h) ∧
  (∀ (L st : List ZV) (h : PH), zev kL_law 629 L st h = zev kL_law 630 L (zvi 0 :: st) h) ∧
  (∀ (a : Int) (L : List ZV) (h : PH), zev kL_law 630 L [zvi a] h = if a = 0 ∨ a = 1 then zrv (zvi a) h else none) :=
  ⟨fun x0 a L st h => e_ld1R (n := 583) ((skL_2 582 (by decide)).trans rfl),
  fun a L st h => e_ld0R (n := 584) ((skL_2 583 (by decide)).trans rfl),
  fun x0 x1 x2 x3 a L st h => e_ld4I (n := 586) ((skL_2 584 (by decide)).trans rfl),
  fun L st h => e_push (v := zvi 1) (n := 587) ((skL_2 586 (by decide)).trans rfl),
  fun a b L st h => e_bin (f := (fun a b => w32 (a + b))) (n := 588) ((skL_2 587 (by decide)).trans rfl),
  fun j q L st h => e_ald (kd := 1) (n := 589) ((skL_2 588 (by decide)).trans rfl),
  fun a L st h => e_ld0R (n := 590) ((skL_2 589 (by decide)).trans rfl),
  fun x0 x1 x2 x3 a L st h => e_ld4I (n := 592) ((skL_2 590 (by decide)).trans rfl),
  fun L st h => e_push (v := zvi 2) (n := 593) ((skL_2 592 (by decide)).trans rfl),
  fun a b L st h => e_bin (f := (fun a b => w32 (a + b))) (n := 594) ((skL_2 593 (by decide)).trans rfl),
  fun j q L st h => e_ald (kd := 1) (n := 595) ((skL_2 594 (by decide)).trans rfl),
  fun a L st h => e_ld0R (n := 596) ((skL_2 595 (by decide)).trans rfl),
  fun x0 x1 x2 x3 a L st h => e_ld4I (n := 598) ((skL_2 596 (by decide)).trans rfl),
  fun L st h => e_push (v := zvi 3) (n := 599) ((skL_2 598 (by decide)).trans rfl),
  fun a b L st h => e_bin (f := (fun a b => w32 (a + b))) (n := 600) ((skL_2 599 (by decide)).trans rfl),
  fun j q L st h => e_ald (kd := 1) (n := 601) ((skL_2 600 (by decide)).trans rfl),
  fun v0 v1 v2 q L st h => e_callV4 (F := mX1_leaves) (kd := 16) (n := 604) ((skL_2 601 (by decide)).trans rfl),
  fun x0 x1 a L st h => e_ld2R (n := 605) ((skL_2 604 (by decide)).trans rfl),
  fun a L st h => e_ld0R (n := 606) ((skL_2 605 (by decide)).trans rfl),
  fun x0 x1 x2 x3 a L st h => e_ld4I (n := 608) ((skL_2 606 (by decide)).trans rfl),
  fun L st h => e_push (v := zvi 1) (n := 609) ((skL_2 608 (by decide)).trans rfl),
  fun a b L st h => e_bin (f := (fun a b => w32 (a + b))) (n := 610) ((skL_2 609 (by decide)).trans rfl),
  fun j q L st h => e_ald (kd := 1) (n := 611) ((skL_2 610 (by decide)).trans rfl),
  fun a L st h => e_ld0R (n := 612) ((skL_2 611 (by decide)).trans rfl),
  fun x0 x1 x2 x3 a L st h => e_ld4I (n := 614) ((skL_2 612 (by decide)).trans rfl),
  fun L st h => e_push (v := zvi 2) (n := 615) ((skL_3 614 (by decide)).trans rfl),
  fun a b L st h => e_bin (f := (fun a b => w32 (a + b))) (n := 616) ((skL_3 615 (by decide)).trans rfl),
  fun j q L st h => e_ald (kd := 1) (n := 617) ((skL_3 616 (by decide)).trans rfl),
  fun a L st h => e_ld0R (n := 618) ((skL_3 617 (by decide)).trans rfl),
  fun x0 x1 x2 x3 a L st h => e_ld4I (n := 620) ((skL_3 618 (by decide)).trans rfl),
  fun L st h => e_push (v := zvi 3) (n := 621) ((skL_3 620 (by decide)).trans rfl),
  fun a b L st h => e_bin (f := (fun a b => w32 (a + b))) (n := 622) ((skL_3 621 (by decide)).trans rfl),
  fun j q L st h => e_ald (kd := 1) (n := 623) ((skL_3 622 (by decide)).trans rfl),
  fun v0 v1 v2 q L st h => e_callV4 (F := mX4_leaves) (kd := 18) (n := 626) ((skL_3 623 (by decide)).trans rfl),
  fun a b L st h => e_cmpeq (t := 2172) (n := 629) ((skL_3 626 (by decide)).trans rfl),
  fun L st h => e_push (v := zvi 0) (n := 630) ((skL_3 629 (by decide)).trans rfl),
  fun a L h => e_retz ((skL_3 630 (by decide)).trans rfl)⟩
theorem rL_law_11 : (∀ (x0 : ZV) (a : Option Nat) (L st : List ZV) (h : PH), zev kL_law 631 (x0 :: zvr a :: L) st h = zev kL_law 632 (x0 :: zvr a :: L) (zvr a :: st) h) ∧
  (∀ (a : Option Nat) (L st : List ZV) (h : PH), zev kL_law 632 (zvr a :: L) st h = zev kL_law 633 (zvr a :: L) (zvr a :: st) h) ∧
  (∀ (x0 x1 x2 x3 : ZV) (a : Int) (L st : List ZV) (h : PH), zev kL_law 633 (x0 :: x1 :: x2 :: x3 :: zvi a :: L) st h = zev kL_law 635 (x0 :: x1 :: x2 :: x3 :: zvi a :: L) (zvi a :: st) h) ∧
  (∀ (L st : List ZV) (h : PH), zev kL_law 635 L st h = zev kL_law 636 L (zvi 1 :: st) h) ∧
  (∀ (a b : Int) (L st : List ZV) (h : PH), zev kL_law 636 L (zvi b :: zvi a :: st) h = zev kL_law 637 L (zvi (w32 (a + b)) :: st) h) ∧
  (∀ (j : Int) (q : Nat) (L st : List ZV) (h : PH), zev kL_law 637 L (zvi j :: zvr (some q) :: st) h = if (ph_K h q).1 % 1000 = 1 ∧ 0 ≤ j ∧ j < (ph_K h q).2 then zev kL_law 638 L (zvi (ph_I h q j) :: st) h else none) ∧
  (∀ (a : Option Nat) (L st : List ZV) (h : PH), zev kL_law 638 (zvr a :: L) st h = zev kL_law 639 (zvr a :: L) (zvr a :: st) h) ∧
  (∀ (x0 x1 x2 x3 : ZV) (a : Int) (L st : List ZV) (h : PH), zev kL_law 639 (x0 :: x1 :: x2 :: x3 :: zvi a :: L) st h = zev kL_law 641 (x0 :: x1 :: x2 :: x3 :: zvi a :: L) (zvi a :: st) h) ∧
  (∀ (L st : List ZV) (h : PH), zev kL_law 641 L st h = zev kL_law 642 L (zvi 2 :: st) h) ∧
  (∀ (a b : Int) (L st : List ZV) (h : PH), zev kL_law 642 L (zvi b :: zvi a :: st) h = zev kL_law 643 L (zvi (w32 (a + b)) :: st) h) ∧
  (∀ (j : Int) (q : Nat) (L st : List ZV) (h : PH), zev kL_law 643 L (zvi j :: zvr (some q) :: st) h = if (ph_K h q).1 % 1000 = 1 ∧ 0 ≤ j ∧ j < (ph_K h q).2 then zev kL_law 644 L (zvi (ph_I h q j) :: st) h else none) ∧
  (∀ (a : Option Nat) (L st : List ZV) (h : PH), zev kL_law 644 (zvr a :: L) st h = zev kL_law 645 (zvr a :: L) (zvr a :: st) h) ∧
  (∀ (x0 x1 x2 x3 : ZV) (a : Int) (L st : List ZV) (h : PH), zev kL_law 645 (x0 :: x1 :: x2 :: x3 :: zvi a :: L) st h = zev kL_law 647 (x0 :: x1 :: x2 :: x3 :: zvi a :: L) (zvi a :: st) h) ∧
  (∀ (L st : List ZV) (h : PH), zev kL_law 647 L st h = zev kL_law 648 L (zvi 3 :: st) h) ∧
  (∀ (a b : Int) (L st : List ZV) (h : PH), zev kL_law 648 L (zvi b :: zvi a :: st) h = zev kL_law 649 L (zvi (w32 (a + b)) :: st) h) ∧
  (∀ (j : Int) (q : Nat) (L st : List ZV) (h : PH), zev kL_law 649 L (zvi j :: zvr (some q) :: st) h = if (ph_K h q).1 % 1000 = 1 ∧ 0 ≤ j ∧ j < (ph_K h q).2 then zev kL_law 650 L (zvi (ph_I h q j) :: st) h else none) ∧
  (∀ (v0 v1 v2 : ZV) (q : Nat) (L st : List ZV) (h : PH), zev kL_law 650 L (v2 :: v1 :: v0 :: zvr (some q) :: st) h = if (ph_K h q).1 % 1000 = 16 ∧ zcat st ≤ 8 then zk kL_law 650 653 L st (mX1_rides [zvr (some q), v0, v1, v2] h) else none) ∧
  (∀ (x0 x1 : ZV) (a : Option Nat) (L st : List ZV) (h : PH), zev kL_law 653 (x0 :: x1 :: zvr a :: L) st h = zev kL_law 654 (x0 :: x1 :: zvr a :: L) (zvr a :: st) h) ∧
  (∀ (a : Option Nat) (L st : List ZV) (h : PH), zev kL_law 654 (zvr a :: L) st h = zev kL_law 655 (zvr a :: L) (zvr a :: st) h) ∧
  (∀ (x0 x1 x2 x3 : ZV) (a : Int) (L st : List ZV) (h : PH), zev kL_law 655 (x0 :: x1 :: x2 :: x3 :: zvi a :: L) st h = zev kL_law 657 (x0 :: x1 :: x2 :: x3 :: zvi a :: L) (zvi a :: st) h) ∧
  (∀ (L st : List ZV) (h : PH), zev kL_law 657 L st h = zev kL_law 658 L (zvi 1 :: st) h) ∧
  (∀ (a b : Int) (L st : List ZV) (h : PH), zev kL_law 658 L (zvi b :: zvi a :: st) h = zev kL_law 659 L (zvi (w32 (a + b)) :: st) h) ∧
  (∀ (j : Int) (q : Nat) (L st : List ZV) (h : PH), zev kL_law 659 L (zvi j :: zvr (some q) :: st) h = if (ph_K h q).1 % 1000 = 1 ∧ 0 ≤ j ∧ j < (ph_K h q).2 then zev kL_law 660 L (zvi (ph_I h q j) :: st) h else none) ∧
  (∀ (a : Option Nat) (L st : List ZV) (h : PH), zev kL_law 660 (zvr a :: L) st h = zev kL_law 661 (zvr a :: L) (zvr a :: st) h) ∧
  (∀ (x0 x1 x2 x3 : ZV) (a : Int) (L st : List ZV) (h : PH), zev kL_law 661 (x0 :: x1 :: x2 :: x3 :: zvi a :: L) st h = zev kL_law 663 (x0 :: x1 :: x2 :: x3 :: zvi a :: L) (zvi a :: st) h) ∧
  (∀ (L st : List ZV) (h : PH), zev kL_law 663 L st h = zev kL_law 664 L (zvi 2 :: st) h) ∧
  (∀ (a b : Int) (L st : List ZV) (h : PH), zev kL_law 664 L (zvi b :: zvi a :: st) h = zev kL_law 665 L (zvi (w32 (a + b)) :: st) h) ∧
  (∀ (j : Int) (q : Nat) (L st : List ZV) (h : PH), zev kL_law 665 L (zvi j :: zvr (some q) :: st) h = if (ph_K h q).1 % 1000 = 1 ∧ 0 ≤ j ∧ j < (ph_K h q).2 then zev kL_law 666 L (zvi (ph_I h q j) :: st) h else none) ∧
  (∀ (a : Option Nat) (L st : List ZV) (h : PH), zev kL_law 666 (zvr a :: L) st h = zev kL_law 667 (zvr a :: L) (zvr a :: st) h) ∧
  (∀ (x0 x1 x2 x3 : ZV) (a : Int) (L st : List ZV) (h : PH), zev kL_law 667 (x0 :: x1 :: x2 :: x3 :: zvi a :: L) st h = zev kL_law 669 (x0 :: x1 :: x2 :: x3 :: zvi a :: L) (zvi a :: st) h) ∧
  (∀ (L st : List ZV) (h : PH), zev kL_law 669 L st h = zev kL_law 670 L (zvi 3 :: st) h) ∧
  (∀ (a b : Int) (L st : List ZV) (h : PH), zev kL_law 670 L (zvi b :: zvi a :: st) h = zev kL_law 671 L (zvi (w32 (a + b)) :: st) h) ∧
  (∀ (j : Int) (q : Nat) (L st : List ZV) (h : PH), zev kL_law 671 L (zvi j :: zvr (some q) :: st) h = if (ph_K h q).1 % 1000 = 1 ∧ 0 ≤ j ∧ j < (ph_K h q).2 then zev kL_law 672 L (zvi (ph_I h q j) :: st) h else none) ∧
  (∀ (v0 v1 v2 : ZV) (q : Nat) (L st : List ZV) (h : PH), zev kL_law 672 L (v2 :: v1 :: v0 :: zvr (some q) :: st) h = if (ph_K h q).1 % 1000 = 18 ∧ zcat st ≤ 8 then zk kL_law 672 675 L st (mX4_rides [zvr (some q), v0, v1, v2] h) else none) ∧
  (∀ (a b : Int) (L st : List ZV) (h : PH), zev kL_law 675 L (zvi b :: zvi a :: st) h = if a = b then zev kL_law 2172 L st h else zev kL_law 678 L st h) ∧
  (∀ (L st : List ZV) (h : PH), zev kL_law 678 L st h = zev kL_law 679 L (zvi 0 :: st) h) ∧
  (∀ (a : Int) (L : List ZV) (h : PH), zev kL_law 679 L [zvi a] h = if a = 0 ∨ a = 1 then zrv (zvi a) h else none) :=
  ⟨fun x0 a L st h => e_ld1R (n := 632) ((skL_3 631 (by decide)).trans rfl),
  fun a L st h => e_ld0R (n := 633) ((skL_3 632 (by decide)).trans rfl),
  fun x0 x1 x2 x3 a L st h => e_ld4I (n := 635) ((skL_3 633 (by decide)).trans rfl),
  fun L st h => e_push (v := zvi 1) (n := 636) ((skL_3 635 (by decide)).trans rfl),
  fun a b L st h => e_bin (f := (fun a b => w32 (a + b))) (n := 637) ((skL_3 636 (by decide)).trans rfl),
  fun j q L st h => e_ald (kd := 1) (n := 638) ((skL_3 637 (by decide)).trans rfl),
  fun a L st h => e_ld0R (n := 639) ((skL_3 638 (by decide)).trans rfl),
  fun x0 x1 x2 x3 a L st h => e_ld4I (n := 641) ((skL_3 639 (by decide)).trans rfl),
  fun L st h => e_push (v := zvi 2) (n := 642) ((skL_3 641 (by decide)).trans rfl),
  fun a b L st h => e_bin (f := (fun a b => w32 (a + b))) (n := 643) ((skL_3 642 (by decide)).trans rfl),
  fun j q L st h => e_ald (kd := 1) (n := 644) ((skL_3 643 (by decide)).trans rfl),
  fun a L st h => e_ld0R (n := 645) ((skL_3 644 (by decide)).trans rfl),
  fun x0 x1 x2 x3 a L st h => e_ld4I (n := 647) ((skL_3 645 (by decide)).trans rfl),
  fun L st h => e_push (v := zvi 3) (n := 648) ((skL_3 647 (by decide)).trans rfl),
  fun a b L st h => e_bin (f := (fun a b => w32 (a + b))) (n := 649) ((skL_3 648 (by decide)).trans rfl),
  fun j q L st h => e_ald (kd := 1) (n := 650) ((skL_3 649 (by decide)).trans rfl),
  fun v0 v1 v2 q L st h => e_callV4 (F := mX1_rides) (kd := 16) (n := 653) ((skL_3 650 (by decide)).trans rfl),
  fun x0 x1 a L st h => e_ld2R (n := 654) ((skL_3 653 (by decide)).trans rfl),
  fun a L st h => e_ld0R (n := 655) ((skL_3 654 (by decide)).trans rfl),
  fun x0 x1 x2 x3 a L st h => e_ld4I (n := 657) ((skL_3 655 (by decide)).trans rfl),
  fun L st h => e_push (v := zvi 1) (n := 658) ((skL_3 657 (by decide)).trans rfl),
  fun a b L st h => e_bin (f := (fun a b => w32 (a + b))) (n := 659) ((skL_3 658 (by decide)).trans rfl),
  fun j q L st h => e_ald (kd := 1) (n := 660) ((skL_3 659 (by decide)).trans rfl),
  fun a L st h => e_ld0R (n := 661) ((skL_3 660 (by decide)).trans rfl),
  fun x0 x1 x2 x3 a L st h => e_ld4I (n := 663) ((skL_3 661 (by decide)).trans rfl),
  fun L st h => e_push (v := zvi 2) (n := 664) ((skL_3 663 (by decide)).trans rfl),
  fun a b L st h => e_bin (f := (fun a b => w32 (a + b))) (n := 665) ((skL_3 664 (by decide)).trans rfl),
  fun j q L st h => e_ald (kd := 1) (n := 666) ((skL_3 665 (by decide)).trans rfl),
  fun a L st h => e_ld0R (n := 667) ((skL_3 666 (by decide)).trans rfl),
  fun x0 x1 x2 x3 a L st h => e_ld4I (n := 669) ((skL_3 667 (by decide)).trans rfl),
  fun L st h => e_push (v := zvi 3) (n := 670) ((skL_3 669 (by decide)).trans rfl),
  fun a b L st h => e_bin (f := (fun a b => w32 (a + b))) (n := 671) ((skL_3 670 (by decide)).trans rfl),
  fun j q L st h => e_ald (kd := 1) (n := 672) ((skL_3 671 (by decide)).trans rfl),
  fun v0 v1 v2 q L st h => e_callV4 (F := mX4_rides) (kd := 18) (n := 675) ((skL_3 672 (by decide)).trans rfl),
  fun a b L st h => e_cmpeq (t := 2172) (n := 678) ((skL_3 675 (by decide)).trans rfl),
  fun L st h => e_push (v := zvi 0) (n := 679) ((skL_3 678 (by decide)).trans rfl),
  fun a L h => e_retz ((skL_3 679 (by decide)).trans rfl)⟩
theorem rL_law_12 : (∀ (x0 : ZV) (a : Option Nat) (L st : List ZV) (h : PH), zev kL_law 680 (x0 :: zvr a :: L) st h = zev kL_law 681 (x0 :: zvr a :: L) (zvr a :: st) h) ∧
  (∀ (a : Option Nat) (L st : List ZV) (h : PH), zev kL_law 681 (zvr a :: L) st h = zev kL_law 682 (zvr a :: L) (zvr a :: st) h) ∧
  (∀ (x0 x1 x2 x3 : ZV) (a : Int) (L st : List ZV) (h : PH), zev kL_law 682 (x0 :: x1 :: x2 :: x3 :: zvi a :: L) st h = zev kL_law 684 (x0 :: x1 :: x2 :: x3 :: zvi a :: L) (zvi a :: st) h) ∧
  (∀ (L st : List ZV) (h : PH), zev kL_law 684 L st h = zev kL_law 685 L (zvi 1 :: st) h) ∧
  (∀ (a b : Int) (L st : List ZV) (h : PH), zev kL_law 685 L (zvi b :: zvi a :: st) h = zev kL_law 686 L (zvi (w32 (a + b)) :: st) h) ∧
  (∀ (j : Int) (q : Nat) (L st : List ZV) (h : PH), zev kL_law 686 L (zvi j :: zvr (some q) :: st) h = if (ph_K h q).1 % 1000 = 1 ∧ 0 ≤ j ∧ j < (ph_K h q).2 then zev kL_law 687 L (zvi (ph_I h q j) :: st) h else none) ∧
  (∀ (a : Option Nat) (L st : List ZV) (h : PH), zev kL_law 687 (zvr a :: L) st h = zev kL_law 688 (zvr a :: L) (zvr a :: st) h) ∧
  (∀ (x0 x1 x2 x3 : ZV) (a : Int) (L st : List ZV) (h : PH), zev kL_law 688 (x0 :: x1 :: x2 :: x3 :: zvi a :: L) st h = zev kL_law 690 (x0 :: x1 :: x2 :: x3 :: zvi a :: L) (zvi a :: st) h) ∧
  (∀ (L st : List ZV) (h : PH), zev kL_law 690 L st h = zev kL_law 691 L (zvi 2 :: st) h) ∧
  (∀ (a b : Int) (L st : List ZV) (h : PH), zev kL_law 691 L (zvi b :: zvi a :: st) h = zev kL_law 692 L (zvi (w32 (a + b)) :: st) h) ∧
  (∀ (j : Int) (q : Nat) (L st : List ZV) (h : PH), zev kL_law 692 L (zvi j :: zvr (some q) :: st) h = if (ph_K h q).1 % 1000 = 1 ∧ 0 ≤ j ∧ j < (ph_K h q).2 then zev kL_law 693 L (zvi (ph_I h q j) :: st) h else none) ∧
  (∀ (a : Option Nat) (L st : List ZV) (h : PH), zev kL_law 693 (zvr a :: L) st h = zev kL_law 694 (zvr a :: L) (zvr a :: st) h) ∧
  (∀ (x0 x1 x2 x3 : ZV) (a : Int) (L st : List ZV) (h : PH), zev kL_law 694 (x0 :: x1 :: x2 :: x3 :: zvi a :: L) st h = zev kL_law 696 (x0 :: x1 :: x2 :: x3 :: zvi a :: L) (zvi a :: st) h) ∧
  (∀ (L st : List ZV) (h : PH), zev kL_law 696 L st h = zev kL_law 697 L (zvi 3 :: st) h) ∧
  (∀ (a b : Int) (L st : List ZV) (h : PH), zev kL_law 697 L (zvi b :: zvi a :: st) h = zev kL_law 698 L (zvi (w32 (a + b)) :: st) h) ∧
  (∀ (j : Int) (q : Nat) (L st : List ZV) (h : PH), zev kL_law 698 L (zvi j :: zvr (some q) :: st) h = if (ph_K h q).1 % 1000 = 1 ∧ 0 ≤ j ∧ j < (ph_K h q).2 then zev kL_law 699 L (zvi (ph_I h q j) :: st) h else none) ∧
  (∀ (a : Option Nat) (L st : List ZV) (h : PH), zev kL_law 699 (zvr a :: L) st h = zev kL_law 700 (zvr a :: L) (zvr a :: st) h) ∧
  (∀ (x0 x1 x2 x3 : ZV) (a : Int) (L st : List ZV) (h : PH), zev kL_law 700 (x0 :: x1 :: x2 :: x3 :: zvi a :: L) st h = zev kL_law 702 (x0 :: x1 :: x2 :: x3 :: zvi a :: L) (zvi a :: st) h) ∧
  (∀ (L st : List ZV) (h : PH), zev kL_law 702 L st h = zev kL_law 703 L (zvi 4 :: st) h) ∧
  (∀ (a b : Int) (L st : List ZV) (h : PH), zev kL_law 703 L (zvi b :: zvi a :: st) h = zev kL_law 704 L (zvi (w32 (a + b)) :: st) h) ∧
  (∀ (j : Int) (q : Nat) (L st : List ZV) (h : PH), zev kL_law 704 L (zvi j :: zvr (some q) :: st) h = if (ph_K h q).1 % 1000 = 1 ∧ 0 ≤ j ∧ j < (ph_K h q).2 then zev kL_law 705 L (zvi (ph_I h q j) :: st) h else none) ∧
  (∀ (v0 v1 v2 v3 : ZV) (q : Nat) (L st : List ZV) (h : PH), zev kL_law 705 L (v3 :: v2 :: v1 :: v0 :: zvr (some q) :: st) h = if (ph_K h q).1 % 1000 = 16 ∧ zcat st ≤ 8 then zk kL_law 705 708 L st (mX1_ride [zvr (some q), v0, v1, v2, v3] h) else none) ∧
  (∀ (x0 x1 : ZV) (a : Option Nat) (L st : List ZV) (h : PH), zev kL_law 708 (x0 :: x1 :: zvr a :: L) st h = zev kL_law 709 (x0 :: x1 :: zvr a :: L) (zvr a :: st) h) ∧
  (∀ (a : Option Nat) (L st : List ZV) (h : PH), zev kL_law 709 (zvr a :: L) st h = zev kL_law 710 (zvr a :: L) (zvr a :: st) h) ∧
  (∀ (x0 x1 x2 x3 : ZV) (a : Int) (L st : List ZV) (h : PH), zev kL_law 710 (x0 :: x1 :: x2 :: x3 :: zvi a :: L) st h = zev kL_law 712 (x0 :: x1 :: x2 :: x3 :: zvi a :: L) (zvi a :: st) h) ∧
  (∀ (L st : List ZV) (h : PH), zev kL_law 712 L st h = zev kL_law 713 L (zvi 1 :: st) h) ∧
  (∀ (a b : Int) (L st : List ZV) (h : PH), zev kL_law 713 L (zvi b :: zvi a :: st) h = zev kL_law 714 L (zvi (w32 (a + b)) :: st) h) ∧
  (∀ (j : Int) (q : Nat) (L st : List ZV) (h : PH), zev kL_law 714 L (zvi j :: zvr (some q) :: st) h = if (ph_K h q).1 % 1000 = 1 ∧ 0 ≤ j ∧ j < (ph_K h q).2 then zev kL_law 715 L (zvi (ph_I h q j) :: st) h else none) ∧
  (∀ (a : Option Nat) (L st : List ZV) (h : PH), zev kL_law 715 (zvr a :: L) st h = zev kL_law 716 (zvr a :: L) (zvr a :: st) h) ∧
  (∀ (x0 x1 x2 x3 : ZV) (a : Int) (L st : List ZV) (h : PH), zev kL_law 716 (x0 :: x1 :: x2 :: x3 :: zvi a :: L) st h = zev kL_law 718 (x0 :: x1 :: x2 :: x3 :: zvi a :: L) (zvi a :: st) h) ∧
  (∀ (L st : List ZV) (h : PH), zev kL_law 718 L st h = zev kL_law 719 L (zvi 2 :: st) h) ∧
  (∀ (a b : Int) (L st : List ZV) (h : PH), zev kL_law 719 L (zvi b :: zvi a :: st) h = zev kL_law 720 L (zvi (w32 (a + b)) :: st) h) ∧
  (∀ (j : Int) (q : Nat) (L st : List ZV) (h : PH), zev kL_law 720 L (zvi j :: zvr (some q) :: st) h = if (ph_K h q).1 % 1000 = 1 ∧ 0 ≤ j ∧ j < (ph_K h q).2 then zev kL_law 721 L (zvi (ph_I h q j) :: st) h else none) ∧
  (∀ (a : Option Nat) (L st : List ZV) (h : PH), zev kL_law 721 (zvr a :: L) st h = zev kL_law 722 (zvr a :: L) (zvr a :: st) h) ∧
  (∀ (x0 x1 x2 x3 : ZV) (a : Int) (L st : List ZV) (h : PH), zev kL_law 722 (x0 :: x1 :: x2 :: x3 :: zvi a :: L) st h = zev kL_law 724 (x0 :: x1 :: x2 :: x3 :: zvi a :: L) (zvi a :: st) h) ∧
  (∀ (L st : List ZV) (h : PH), zev kL_law 724 L st h = zev kL_law 725 L (zvi 3 :: st) h) ∧
  (∀ (a b : Int) (L st : List ZV) (h : PH), zev kL_law 725 L (zvi b :: zvi a :: st) h = zev kL_law 726 L (zvi (w32 (a + b)) :: st) h) ∧
  (∀ (j : Int) (q : Nat) (L st : List ZV) (h : PH), zev kL_law 726 L (zvi j :: zvr (some q) :: st) h = if (ph_K h q).1 % 1000 = 1 ∧ 0 ≤ j ∧ j < (ph_K h q).2 then zev kL_law 727 L (zvi (ph_I h q j) :: st) h else none) ∧
  (∀ (a : Option Nat) (L st : List ZV) (h : PH), zev kL_law 727 (zvr a :: L) st h = zev kL_law 728 (zvr a :: L) (zvr a :: st) h) ∧
  (∀ (x0 x1 x2 x3 : ZV) (a : Int) (L st : List ZV) (h : PH), zev kL_law 728 (x0 :: x1 :: x2 :: x3 :: zvi a :: L) st h = zev kL_law 730 (x0 :: x1 :: x2 :: x3 :: zvi a :: L) (zvi a :: st) h) ∧
  (∀ (L st : List ZV) (h : PH), zev kL_law 730 L st h = zev kL_law 731 L (zvi 4 :: st) h) ∧
  (∀ (a b : Int) (L st : List ZV) (h : PH), zev kL_law 731 L (zvi b :: zvi a :: st) h = zev kL_law 732 L (zvi (w32 (a + b)) :: st) h) ∧
  (∀ (j : Int) (q : Nat) (L st : List ZV) (h : PH), zev kL_law 732 L (zvi j :: zvr (some q) :: st) h = if (ph_K h q).1 % 1000 = 1 ∧ 0 ≤ j ∧ j < (ph_K h q).2 then zev kL_law 733 L (zvi (ph_I h q j) :: st) h else none) ∧
  (∀ (v0 v1 v2 v3 : ZV) (q : Nat) (L st : List ZV) (h : PH), zev kL_law 733 L (v3 :: v2 :: v1 :: v0 :: zvr (some q) :: st) h = if (ph_K h q).1 % 1000 = 18 ∧ zcat st ≤ 8 then zk kL_law 733 736 L st (mX4_ride [zvr (some q), v0, v1, v2, v3] h) else none) ∧
  (∀ (a b : Int) (L st : List ZV) (h : PH), zev kL_law 736 L (zvi b :: zvi a :: st) h = if a = b then zev kL_law 2172 L st h else zev kL_law 739 L st h) ∧
  (∀ (L st : List ZV) (h : PH), zev kL_law 739 L st h = zev kL_law 740 L (zvi 0 :: st) h) ∧
  (∀ (a : Int) (L : List ZV) (h : PH), zev kL_law 740 L [zvi a] h = if a = 0 ∨ a = 1 then zrv (zvi a) h else none) :=
  ⟨fun x0 a L st h => e_ld1R (n := 681) ((skL_3 680 (by decide)).trans rfl),
  fun a L st h => e_ld0R (n := 682) ((skL_3 681 (by decide)).trans rfl),
  fun x0 x1 x2 x3 a L st h => e_ld4I (n := 684) ((skL_3 682 (by decide)).trans rfl),
  fun L st h => e_push (v := zvi 1) (n := 685) ((skL_3 684 (by decide)).trans rfl),
  fun a b L st h => e_bin (f := (fun a b => w32 (a + b))) (n := 686) ((skL_3 685 (by decide)).trans rfl),
  fun j q L st h => e_ald (kd := 1) (n := 687) ((skL_3 686 (by decide)).trans rfl),
  fun a L st h => e_ld0R (n := 688) ((skL_3 687 (by decide)).trans rfl),
  fun x0 x1 x2 x3 a L st h => e_ld4I (n := 690) ((skL_3 688 (by decide)).trans rfl),
  fun L st h => e_push (v := zvi 2) (n := 691) ((skL_3 690 (by decide)).trans rfl),
  fun a b L st h => e_bin (f := (fun a b => w32 (a + b))) (n := 692) ((skL_3 691 (by decide)).trans rfl),
  fun j q L st h => e_ald (kd := 1) (n := 693) ((skL_3 692 (by decide)).trans rfl),
  fun a L st h => e_ld0R (n := 694) ((skL_3 693 (by decide)).trans rfl),
  fun x0 x1 x2 x3 a L st h => e_ld4I (n := 696) ((skL_3 694 (by decide)).trans rfl),
  fun L st h => e_push (v := zvi 3) (n := 697) ((skL_3 696 (by decide)).trans rfl),
  fun a b L st h => e_bin (f := (fun a b => w32 (a + b))) (n := 698) ((skL_3 697 (by decide)).trans rfl),
  fun j q L st h => e_ald (kd := 1) (n := 699) ((skL_3 698 (by decide)).trans rfl),
  fun a L st h => e_ld0R (n := 700) ((skL_3 699 (by decide)).trans rfl),
  fun x0 x1 x2 x3 a L st h => e_ld4I (n := 702) ((skL_3 700 (by decide)).trans rfl),
  fun L st h => e_push (v := zvi 4) (n := 703) ((skL_3 702 (by decide)).trans rfl),
  fun a b L st h => e_bin (f := (fun a b => w32 (a + b))) (n := 704) ((skL_3 703 (by decide)).trans rfl),
  fun j q L st h => e_ald (kd := 1) (n := 705) ((skL_3 704 (by decide)).trans rfl),
  fun v0 v1 v2 v3 q L st h => e_callV5 (F := mX1_ride) (kd := 16) (n := 708) ((skL_3 705 (by decide)).trans rfl),
  fun x0 x1 a L st h => e_ld2R (n := 709) ((skL_3 708 (by decide)).trans rfl),
  fun a L st h => e_ld0R (n := 710) ((skL_3 709 (by decide)).trans rfl),
  fun x0 x1 x2 x3 a L st h => e_ld4I (n := 712) ((skL_3 710 (by decide)).trans rfl),
  fun L st h => e_push (v := zvi 1) (n := 713) ((skL_3 712 (by decide)).trans rfl),
  fun a b L st h => e_bin (f := (fun a b => w32 (a + b))) (n := 714) ((skL_3 713 (by decide)).trans rfl),
  fun j q L st h => e_ald (kd := 1) (n := 715) ((skL_3 714 (by decide)).trans rfl),
  fun a L st h => e_ld0R (n := 716) ((skL_3 715 (by decide)).trans rfl),
  fun x0 x1 x2 x3 a L st h => e_ld4I (n := 718) ((skL_3 716 (by decide)).trans rfl),
  fun L st h => e_push (v := zvi 2) (n := 719) ((skL_3 718 (by decide)).trans rfl),
  fun a b L st h => e_bin (f := (fun a b => w32 (a + b))) (n := 720) ((skL_3 719 (by decide)).trans rfl),
  fun j q L st h => e_ald (kd := 1) (n := 721) ((skL_3 720 (by decide)).trans rfl),
  fun a L st h => e_ld0R (n := 722) ((skL_3 721 (by decide)).trans rfl),
  fun x0 x1 x2 x3 a L st h => e_ld4I (n := 724) ((skL_3 722 (by decide)).trans rfl),
  fun L st h => e_push (v := zvi 3) (n := 725) ((skL_3 724 (by decide)).trans rfl),
  fun a b L st h => e_bin (f := (fun a b => w32 (a + b))) (n := 726) ((skL_3 725 (by decide)).trans rfl),
  fun j q L st h => e_ald (kd := 1) (n := 727) ((skL_3 726 (by decide)).trans rfl),
  fun a L st h => e_ld0R (n := 728) ((skL_3 727 (by decide)).trans rfl),
  fun x0 x1 x2 x3 a L st h => e_ld4I (n := 730) ((skL_3 728 (by decide)).trans rfl),
  fun L st h => e_push (v := zvi 4) (n := 731) ((skL_3 730 (by decide)).trans rfl),
  fun a b L st h => e_bin (f := (fun a b => w32 (a + b))) (n := 732) ((skL_3 731 (by decide)).trans rfl),
  fun j q L st h => e_ald (kd := 1) (n := 733) ((skL_3 732 (by decide)).trans rfl),
  fun v0 v1 v2 v3 q L st h => e_callV5 (F := mX4_ride) (kd := 18) (n := 736) ((skL_3 733 (by decide)).trans rfl),
  fun a b L st h => e_cmpeq (t := 2172) (n := 739) ((skL_3 736 (by decide)).trans rfl),
  fun L st h => e_push (v := zvi 0) (n := 740) ((skL_3 739 (by decide)).trans rfl),
  fun a L h => e_retz ((skL_3 740 (by decide)).trans rfl)⟩
theorem rL_law_13 : (∀ (x0 : ZV) (a : Option Nat) (L st : List ZV) (h : PH), zev kL_law 741 (x0 :: zvr a :: L) st h = zev kL_law 742 (x0 :: zvr a :: L) (zvr a :: st) h) ∧
  (∀ (a : Option Nat) (L st : List ZV) (h : PH), zev kL_law 742 (zvr a :: L) st h = zev kL_law 743 (zvr a :: L) (zvr a :: st) h) ∧
  (∀ (x0 x1 x2 x3 : ZV) (a : Int) (L st : List ZV) (h : PH), zev kL_law 743 (x0 :: x1 :: x2 :: x3 :: zvi a :: L) st h = zev kL_law 745 (x0 :: x1 :: x2 :: x3 :: zvi a :: L) (zvi a :: st) h) ∧
  (∀ (L st : List ZV) (h : PH), zev kL_law 745 L st h = zev kL_law 746 L (zvi 1 :: st) h) ∧
  (∀ (a b : Int) (L st : List ZV) (h : PH), zev kL_law 746 L (zvi b :: zvi a :: st) h = zev kL_law 747 L (zvi (w32 (a + b)) :: st) h) ∧
  (∀ (j : Int) (q : Nat) (L st : List ZV) (h : PH), zev kL_law 747 L (zvi j :: zvr (some q) :: st) h = if (ph_K h q).1 % 1000 = 1 ∧ 0 ≤ j ∧ j < (ph_K h q).2 then zev kL_law 748 L (zvi (ph_I h q j) :: st) h else none) ∧
  (∀ (a : Option Nat) (L st : List ZV) (h : PH), zev kL_law 748 (zvr a :: L) st h = zev kL_law 749 (zvr a :: L) (zvr a :: st) h) ∧
  (∀ (x0 x1 x2 x3 : ZV) (a : Int) (L st : List ZV) (h : PH), zev kL_law 749 (x0 :: x1 :: x2 :: x3 :: zvi a :: L) st h = zev kL_law 751 (x0 :: x1 :: x2 :: x3 :: zvi a :: L) (zvi a :: st) h) ∧
  (∀ (L st : List ZV) (h : PH), zev kL_law 751 L st h = zev kL_law 752 L (zvi 2 :: st) h) ∧
  (∀ (a b : Int) (L st : List ZV) (h : PH), zev kL_law 752 L (zvi b :: zvi a :: st) h = zev kL_law 753 L (zvi (w32 (a + b)) :: st) h) ∧
  (∀ (j : Int) (q : Nat) (L st : List ZV) (h : PH), zev kL_law 753 L (zvi j :: zvr (some q) :: st) h = if (ph_K h q).1 % 1000 = 1 ∧ 0 ≤ j ∧ j < (ph_K h q).2 then zev kL_law 754 L (zvi (ph_I h q j) :: st) h else none) ∧
  (∀ (a : Option Nat) (L st : List ZV) (h : PH), zev kL_law 754 (zvr a :: L) st h = zev kL_law 755 (zvr a :: L) (zvr a :: st) h) ∧
  (∀ (x0 x1 x2 x3 : ZV) (a : Int) (L st : List ZV) (h : PH), zev kL_law 755 (x0 :: x1 :: x2 :: x3 :: zvi a :: L) st h = zev kL_law 757 (x0 :: x1 :: x2 :: x3 :: zvi a :: L) (zvi a :: st) h) ∧
  (∀ (L st : List ZV) (h : PH), zev kL_law 757 L st h = zev kL_law 758 L (zvi 3 :: st) h) ∧
  (∀ (a b : Int) (L st : List ZV) (h : PH), zev kL_law 758 L (zvi b :: zvi a :: st) h = zev kL_law 759 L (zvi (w32 (a + b)) :: st) h) ∧
  (∀ (j : Int) (q : Nat) (L st : List ZV) (h : PH), zev kL_law 759 L (zvi j :: zvr (some q) :: st) h = if (ph_K h q).1 % 1000 = 1 ∧ 0 ≤ j ∧ j < (ph_K h q).2 then zev kL_law 760 L (zvi (ph_I h q j) :: st) h else none) ∧
  (∀ (v0 v1 v2 : ZV) (q : Nat) (L st : List ZV) (h : PH), zev kL_law 760 L (v2 :: v1 :: v0 :: zvr (some q) :: st) h = if (ph_K h q).1 % 1000 = 16 ∧ zcat st ≤ 8 then zk kL_law 760 763 L st (mX1_stands [zvr (some q), v0, v1, v2] h) else none) ∧
  (∀ (x0 x1 : ZV) (a : Option Nat) (L st : List ZV) (h : PH), zev kL_law 763 (x0 :: x1 :: zvr a :: L) st h = zev kL_law 764 (x0 :: x1 :: zvr a :: L) (zvr a :: st) h) ∧
  (∀ (a : Option Nat) (L st : List ZV) (h : PH), zev kL_law 764 (zvr a :: L) st h = zev kL_law 765 (zvr a :: L) (zvr a :: st) h) ∧
  (∀ (x0 x1 x2 x3 : ZV) (a : Int) (L st : List ZV) (h : PH), zev kL_law 765 (x0 :: x1 :: x2 :: x3 :: zvi a :: L) st h = zev kL_law 767 (x0 :: x1 :: x2 :: x3 :: zvi a :: L) (zvi a :: st) h) ∧
  (∀ (L st : List ZV) (h : PH), zev kL_law 767 L st h = zev kL_law 768 L (zvi 1 :: st) h) ∧
  (∀ (a b : Int) (L st : List ZV) (h : PH), zev kL_law 768 L (zvi b :: zvi a :: st) h = zev kL_law 769 L (zvi (w32 (a + b)) :: st) h) ∧
  (∀ (j : Int) (q : Nat) (L st : List ZV) (h : PH), zev kL_law 769 L (zvi j :: zvr (some q) :: st) h = if (ph_K h q).1 % 1000 = 1 ∧ 0 ≤ j ∧ j < (ph_K h q).2 then zev kL_law 770 L (zvi (ph_I h q j) :: st) h else none) ∧
  (∀ (a : Option Nat) (L st : List ZV) (h : PH), zev kL_law 770 (zvr a :: L) st h = zev kL_law 771 (zvr a :: L) (zvr a :: st) h) ∧
  (∀ (x0 x1 x2 x3 : ZV) (a : Int) (L st : List ZV) (h : PH), zev kL_law 771 (x0 :: x1 :: x2 :: x3 :: zvi a :: L) st h = zev kL_law 773 (x0 :: x1 :: x2 :: x3 :: zvi a :: L) (zvi a :: st) h) ∧
  (∀ (L st : List ZV) (h : PH), zev kL_law 773 L st h = zev kL_law 774 L (zvi 2 :: st) h) ∧
  (∀ (a b : Int) (L st : List ZV) (h : PH), zev kL_law 774 L (zvi b :: zvi a :: st) h = zev kL_law 775 L (zvi (w32 (a + b)) :: st) h) ∧
  (∀ (j : Int) (q : Nat) (L st : List ZV) (h : PH), zev kL_law 775 L (zvi j :: zvr (some q) :: st) h = if (ph_K h q).1 % 1000 = 1 ∧ 0 ≤ j ∧ j < (ph_K h q).2 then zev kL_law 776 L (zvi (ph_I h q j) :: st) h else none) ∧
  (∀ (a : Option Nat) (L st : List ZV) (h : PH), zev kL_law 776 (zvr a :: L) st h = zev kL_law 777 (zvr a :: L) (zvr a :: st) h) ∧
  (∀ (x0 x1 x2 x3 : ZV) (a : Int) (L st : List ZV) (h : PH), zev kL_law 777 (x0 :: x1 :: x2 :: x3 :: zvi a :: L) st h = zev kL_law 779 (x0 :: x1 :: x2 :: x3 :: zvi a :: L) (zvi a :: st) h) ∧
  (∀ (L st : List ZV) (h : PH), zev kL_law 779 L st h = zev kL_law 780 L (zvi 3 :: st) h) ∧
  (∀ (a b : Int) (L st : List ZV) (h : PH), zev kL_law 780 L (zvi b :: zvi a :: st) h = zev kL_law 781 L (zvi (w32 (a + b)) :: st) h) ∧
  (∀ (j : Int) (q : Nat) (L st : List ZV) (h : PH), zev kL_law 781 L (zvi j :: zvr (some q) :: st) h = if (ph_K h q).1 % 1000 = 1 ∧ 0 ≤ j ∧ j < (ph_K h q).2 then zev kL_law 782 L (zvi (ph_I h q j) :: st) h else none) ∧
  (∀ (v0 v1 v2 : ZV) (q : Nat) (L st : List ZV) (h : PH), zev kL_law 782 L (v2 :: v1 :: v0 :: zvr (some q) :: st) h = if (ph_K h q).1 % 1000 = 18 ∧ zcat st ≤ 8 then zk kL_law 782 785 L st (mX4_stands [zvr (some q), v0, v1, v2] h) else none) ∧
  (∀ (a b : Int) (L st : List ZV) (h : PH), zev kL_law 785 L (zvi b :: zvi a :: st) h = if a = b then zev kL_law 2172 L st h else zev kL_law 788 L st h) ∧
  (∀ (L st : List ZV) (h : PH), zev kL_law 788 L st h = zev kL_law 789 L (zvi 0 :: st) h) ∧
  (∀ (a : Int) (L : List ZV) (h : PH), zev kL_law 789 L [zvi a] h = if a = 0 ∨ a = 1 then zrv (zvi a) h else none) :=
  ⟨fun x0 a L st h => e_ld1R (n := 742) ((skL_3 741 (by decide)).trans rfl),
  fun a L st h => e_ld0R (n := 743) ((skL_3 742 (by decide)).trans rfl),
  fun x0 x1 x2 x3 a L st h => e_ld4I (n := 745) ((skL_3 743 (by decide)).trans rfl),
  fun L st h => e_push (v := zvi 1) (n := 746) ((skL_3 745 (by decide)).trans rfl),
  fun a b L st h => e_bin (f := (fun a b => w32 (a + b))) (n := 747) ((skL_4 746 (by decide)).trans rfl),
  fun j q L st h => e_ald (kd := 1) (n := 748) ((skL_4 747 (by decide)).trans rfl),
  fun a L st h => e_ld0R (n := 749) ((skL_4 748 (by decide)).trans rfl),
  fun x0 x1 x2 x3 a L st h => e_ld4I (n := 751) ((skL_4 749 (by decide)).trans rfl),
  fun L st h => e_push (v := zvi 2) (n := 752) ((skL_4 751 (by decide)).trans rfl),
  fun a b L st h => e_bin (f := (fun a b => w32 (a + b))) (n := 753) ((skL_4 752 (by decide)).trans rfl),
  fun j q L st h => e_ald (kd := 1) (n := 754) ((skL_4 753 (by decide)).trans rfl),
  fun a L st h => e_ld0R (n := 755) ((skL_4 754 (by decide)).trans rfl),
  fun x0 x1 x2 x3 a L st h => e_ld4I (n := 757) ((skL_4 755 (by decide)).trans rfl),
  fun L st h => e_push (v := zvi 3) (n := 758) ((skL_4 757 (by decide)).trans rfl),
  fun a b L st h => e_bin (f := (fun a b => w32 (a + b))) (n := 759) ((skL_4 758 (by decide)).trans rfl),
  fun j q L st h => e_ald (kd := 1) (n := 760) ((skL_4 759 (by decide)).trans rfl),
  fun v0 v1 v2 q L st h => e_callV4 (F := mX1_stands) (kd := 16) (n := 763) ((skL_4 760 (by decide)).trans rfl),
  fun x0 x1 a L st h => e_ld2R (n := 764) ((skL_4 763 (by decide)).trans rfl),
  fun a L st h => e_ld0R (n := 765) ((skL_4 764 (by decide)).trans rfl),
  fun x0 x1 x2 x3 a L st h => e_ld4I (n := 767) ((skL_4 765 (by decide)).trans rfl),
  fun L st h => e_push (v := zvi 1) (n := 768) ((skL_4 767 (by decide)).trans rfl),
  fun a b L st h => e_bin (f := (fun a b => w32 (a + b))) (n := 769) ((skL_4 768 (by decide)).trans rfl),
  fun j q L st h => e_ald (kd := 1) (n := 770) ((skL_4 769 (by decide)).trans rfl),
  fun a L st h => e_ld0R (n := 771) ((skL_4 770 (by decide)).trans rfl),
  fun x0 x1 x2 x3 a L st h => e_ld4I (n := 773) ((skL_4 771 (by decide)).trans rfl),
  fun L st h => e_push (v := zvi 2) (n := 774) ((skL_4 773 (by decide)).trans rfl),
  fun a b L st h => e_bin (f := (fun a b => w32 (a + b))) (n := 775) ((skL_4 774 (by decide)).trans rfl),
  fun j q L st h => e_ald (kd := 1) (n := 776) ((skL_4 775 (by decide)).trans rfl),
  fun a L st h => e_ld0R (n := 777) ((skL_4 776 (by decide)).trans rfl),
  fun x0 x1 x2 x3 a L st h => e_ld4I (n := 779) ((skL_4 777 (by decide)).trans rfl),
  fun L st h => e_push (v := zvi 3) (n := 780) ((skL_4 779 (by decide)).trans rfl),
  fun a b L st h => e_bin (f := (fun a b => w32 (a + b))) (n := 781) ((skL_4 780 (by decide)).trans rfl),
  fun j q L st h => e_ald (kd := 1) (n := 782) ((skL_4 781 (by decide)).trans rfl),
  fun v0 v1 v2 q L st h => e_callV4 (F := mX4_stands) (kd := 18) (n := 785) ((skL_4 782 (by decide)).trans rfl),
  fun a b L st h => e_cmpeq (t := 2172) (n := 788) ((skL_4 785 (by decide)).trans rfl),
  fun L st h => e_push (v := zvi 0) (n := 789) ((skL_4 788 (by decide)).trans rfl),
  fun a L h => e_retz ((skL_4 789 (by decide)).trans rfl)⟩
theorem rL_law_14 : (∀ (x0 : ZV) (a : Option Nat) (L st : List ZV) (h : PH), zev kL_law 790 (x0 :: zvr a :: L) st h = zev kL_law 791 (x0 :: zvr a :: L) (zvr a :: st) h) ∧
  (∀ (a : Option Nat) (L st : List ZV) (h : PH), zev kL_law 791 (zvr a :: L) st h = zev kL_law 792 (zvr a :: L) (zvr a :: st) h) ∧
  (∀ (x0 x1 x2 x3 : ZV) (a : Int) (L st : List ZV) (h : PH), zev kL_law 792 (x0 :: x1 :: x2 :: x3 :: zvi a :: L) st h = zev kL_law 794 (x0 :: x1 :: x2 :: x3 :: zvi a :: L) (zvi a :: st) h) ∧
  (∀ (L st : List ZV) (h : PH), zev kL_law 794 L st h = zev kL_law 795 L (zvi 1 :: st) h) ∧
  (∀ (a b : Int) (L st : List ZV) (h : PH), zev kL_law 795 L (zvi b :: zvi a :: st) h = zev kL_law 796 L (zvi (w32 (a + b)) :: st) h) ∧
  (∀ (j : Int) (q : Nat) (L st : List ZV) (h : PH), zev kL_law 796 L (zvi j :: zvr (some q) :: st) h = if (ph_K h q).1 % 1000 = 1 ∧ 0 ≤ j ∧ j < (ph_K h q).2 then zev kL_law 797 L (zvi (ph_I h q j) :: st) h else none) ∧
  (∀ (a : Option Nat) (L st : List ZV) (h : PH), zev kL_law 797 (zvr a :: L) st h = zev kL_law 798 (zvr a :: L) (zvr a :: st) h) ∧
  (∀ (x0 x1 x2 x3 : ZV) (a : Int) (L st : List ZV) (h : PH), zev kL_law 798 (x0 :: x1 :: x2 :: x3 :: zvi a :: L) st h = zev kL_law 800 (x0 :: x1 :: x2 :: x3 :: zvi a :: L) (zvi a :: st) h) ∧
  (∀ (L st : List ZV) (h : PH), zev kL_law 800 L st h = zev kL_law 801 L (zvi 2 :: st) h) ∧
  (∀ (a b : Int) (L st : List ZV) (h : PH), zev kL_law 801 L (zvi b :: zvi a :: st) h = zev kL_law 802 L (zvi (w32 (a + b)) :: st) h) ∧
  (∀ (j : Int) (q : Nat) (L st : List ZV) (h : PH), zev kL_law 802 L (zvi j :: zvr (some q) :: st) h = if (ph_K h q).1 % 1000 = 1 ∧ 0 ≤ j ∧ j < (ph_K h q).2 then zev kL_law 803 L (zvi (ph_I h q j) :: st) h else none) ∧
  (∀ (a : Option Nat) (L st : List ZV) (h : PH), zev kL_law 803 (zvr a :: L) st h = zev kL_law 804 (zvr a :: L) (zvr a :: st) h) ∧
  (∀ (x0 x1 x2 x3 : ZV) (a : Int) (L st : List ZV) (h : PH), zev kL_law 804 (x0 :: x1 :: x2 :: x3 :: zvi a :: L) st h = zev kL_law 806 (x0 :: x1 :: x2 :: x3 :: zvi a :: L) (zvi a :: st) h) ∧
  (∀ (L st : List ZV) (h : PH), zev kL_law 806 L st h = zev kL_law 807 L (zvi 3 :: st) h) ∧
  (∀ (a b : Int) (L st : List ZV) (h : PH), zev kL_law 807 L (zvi b :: zvi a :: st) h = zev kL_law 808 L (zvi (w32 (a + b)) :: st) h) ∧
  (∀ (j : Int) (q : Nat) (L st : List ZV) (h : PH), zev kL_law 808 L (zvi j :: zvr (some q) :: st) h = if (ph_K h q).1 % 1000 = 1 ∧ 0 ≤ j ∧ j < (ph_K h q).2 then zev kL_law 809 L (zvi (ph_I h q j) :: st) h else none) ∧
  (∀ (v0 v1 v2 : ZV) (q : Nat) (L st : List ZV) (h : PH), zev kL_law 809 L (v2 :: v1 :: v0 :: zvr (some q) :: st) h = if (ph_K h q).1 % 1000 = 16 ∧ zcat st ≤ 8 then zk kL_law 809 812 L st (mX1_trades [zvr (some q), v0, v1, v2] h) else none) ∧
  (∀ (x0 x1 : ZV) (a : Option Nat) (L st : List ZV) (h : PH), zev kL_law 812 (x0 :: x1 :: zvr a :: L) st h = zev kL_law 813 (x0 :: x1 :: zvr a :: L) (zvr a :: st) h) ∧
  (∀ (a : Option Nat) (L st : List ZV) (h : PH), zev kL_law 813 (zvr a :: L) st h = zev kL_law 814 (zvr a :: L) (zvr a :: st) h) ∧
  (∀ (x0 x1 x2 x3 : ZV) (a : Int) (L st : List ZV) (h : PH), zev kL_law 814 (x0 :: x1 :: x2 :: x3 :: zvi a :: L) st h = zev kL_law 816 (x0 :: x1 :: x2 :: x3 :: zvi a :: L) (zvi a :: st) h) ∧
  (∀ (L st : List ZV) (h : PH), zev kL_law 816 L st h = zev kL_law 817 L (zvi 1 :: st) h) ∧
  (∀ (a b : Int) (L st : List ZV) (h : PH), zev kL_law 817 L (zvi b :: zvi a :: st) h = zev kL_law 818 L (zvi (w32 (a + b)) :: st) h) ∧
  (∀ (j : Int) (q : Nat) (L st : List ZV) (h : PH), zev kL_law 818 L (zvi j :: zvr (some q) :: st) h = if (ph_K h q).1 % 1000 = 1 ∧ 0 ≤ j ∧ j < (ph_K h q).2 then zev kL_law 819 L (zvi (ph_I h q j) :: st) h else none) ∧
  (∀ (a : Option Nat) (L st : List ZV) (h : PH), zev kL_law 819 (zvr a :: L) st h = zev kL_law 820 (zvr a :: L) (zvr a :: st) h) ∧
  (∀ (x0 x1 x2 x3 : ZV) (a : Int) (L st : List ZV) (h : PH), zev kL_law 820 (x0 :: x1 :: x2 :: x3 :: zvi a :: L) st h = zev kL_law 822 (x0 :: x1 :: x2 :: x3 :: zvi a :: L) (zvi a :: st) h) ∧
  (∀ (L st : List ZV) (h : PH), zev kL_law 822 L st h = zev kL_law 823 L (zvi 2 :: st) h) ∧
  (∀ (a b : Int) (L st : List ZV) (h : PH), zev kL_law 823 L (zvi b :: zvi a :: st) h = zev kL_law 824 L (zvi (w32 (a + b)) :: st) h) ∧
  (∀ (j : Int) (q : Nat) (L st : List ZV) (h : PH), zev kL_law 824 L (zvi j :: zvr (some q) :: st) h = if (ph_K h q).1 % 1000 = 1 ∧ 0 ≤ j ∧ j < (ph_K h q).2 then zev kL_law 825 L (zvi (ph_I h q j) :: st) h else none) ∧
  (∀ (a : Option Nat) (L st : List ZV) (h : PH), zev kL_law 825 (zvr a :: L) st h = zev kL_law 826 (zvr a :: L) (zvr a :: st) h) ∧
  (∀ (x0 x1 x2 x3 : ZV) (a : Int) (L st : List ZV) (h : PH), zev kL_law 826 (x0 :: x1 :: x2 :: x3 :: zvi a :: L) st h = zev kL_law 828 (x0 :: x1 :: x2 :: x3 :: zvi a :: L) (zvi a :: st) h) ∧
  (∀ (L st : List ZV) (h : PH), zev kL_law 828 L st h = zev kL_law 829 L (zvi 3 :: st) h) ∧
  (∀ (a b : Int) (L st : List ZV) (h : PH), zev kL_law 829 L (zvi b :: zvi a :: st) h = zev kL_law 830 L (zvi (w32 (a + b)) :: st) h) ∧
  (∀ (j : Int) (q : Nat) (L st : List ZV) (h : PH), zev kL_law 830 L (zvi j :: zvr (some q) :: st) h = if (ph_K h q).1 % 1000 = 1 ∧ 0 ≤ j ∧ j < (ph_K h q).2 then zev kL_law 831 L (zvi (ph_I h q j) :: st) h else none) ∧
  (∀ (v0 v1 v2 : ZV) (q : Nat) (L st : List ZV) (h : PH), zev kL_law 831 L (v2 :: v1 :: v0 :: zvr (some q) :: st) h = if (ph_K h q).1 % 1000 = 18 ∧ zcat st ≤ 8 then zk kL_law 831 834 L st (mX4_trades [zvr (some q), v0, v1, v2] h) else none) ∧
  (∀ (a b : Int) (L st : List ZV) (h : PH), zev kL_law 834 L (zvi b :: zvi a :: st) h = if a = b then zev kL_law 2172 L st h else zev kL_law 837 L st h) ∧
  (∀ (L st : List ZV) (h : PH), zev kL_law 837 L st h = zev kL_law 838 L (zvi 0 :: st) h) ∧
  (∀ (a : Int) (L : List ZV) (h : PH), zev kL_law 838 L [zvi a] h = if a = 0 ∨ a = 1 then zrv (zvi a) h else none) :=
  ⟨fun x0 a L st h => e_ld1R (n := 791) ((skL_4 790 (by decide)).trans rfl),
  fun a L st h => e_ld0R (n := 792) ((skL_4 791 (by decide)).trans rfl),
  fun x0 x1 x2 x3 a L st h => e_ld4I (n := 794) ((skL_4 792 (by decide)).trans rfl),
  fun L st h => e_push (v := zvi 1) (n := 795) ((skL_4 794 (by decide)).trans rfl),
  fun a b L st h => e_bin (f := (fun a b => w32 (a + b))) (n := 796) ((skL_4 795 (by decide)).trans rfl),
  fun j q L st h => e_ald (kd := 1) (n := 797) ((skL_4 796 (by decide)).trans rfl),
  fun a L st h => e_ld0R (n := 798) ((skL_4 797 (by decide)).trans rfl),
  fun x0 x1 x2 x3 a L st h => e_ld4I (n := 800) ((skL_4 798 (by decide)).trans rfl),
  fun L st h => e_push (v := zvi 2) (n := 801) ((skL_4 800 (by decide)).trans rfl),
  fun a b L st h => e_bin (f := (fun a b => w32 (a + b))) (n := 802) ((skL_4 801 (by decide)).trans rfl),
  fun j q L st h => e_ald (kd := 1) (n := 803) ((skL_4 802 (by decide)).trans rfl),
  fun a L st h => e_ld0R (n := 804) ((skL_4 803 (by decide)).trans rfl),
  fun x0 x1 x2 x3 a L st h => e_ld4I (n := 806) ((skL_4 804 (by decide)).trans rfl),
  fun L st h => e_push (v := zvi 3) (n := 807) ((skL_4 806 (by decide)).trans rfl),
  fun a b L st h => e_bin (f := (fun a b => w32 (a + b))) (n := 808) ((skL_4 807 (by decide)).trans rfl),
  fun j q L st h => e_ald (kd := 1) (n := 809) ((skL_4 808 (by decide)).trans rfl),
  fun v0 v1 v2 q L st h => e_callV4 (F := mX1_trades) (kd := 16) (n := 812) ((skL_4 809 (by decide)).trans rfl),
  fun x0 x1 a L st h => e_ld2R (n := 813) ((skL_4 812 (by decide)).trans rfl),
  fun a L st h => e_ld0R (n := 814) ((skL_4 813 (by decide)).trans rfl),
  fun x0 x1 x2 x3 a L st h => e_ld4I (n := 816) ((skL_4 814 (by decide)).trans rfl),
  fun L st h => e_push (v := zvi 1) (n := 817) ((skL_4 816 (by decide)).trans rfl),
  fun a b L st h => e_bin (f := (fun a b => w32 (a + b))) (n := 818) ((skL_4 817 (by decide)).trans rfl),
  fun j q L st h => e_ald (kd := 1) (n := 819) ((skL_4 818 (by decide)).trans rfl),
  fun a L st h => e_ld0R (n := 820) ((skL_4 819 (by decide)).trans rfl),
  fun x0 x1 x2 x3 a L st h => e_ld4I (n := 822) ((skL_4 820 (by decide)).trans rfl),
  fun L st h => e_push (v := zvi 2) (n := 823) ((skL_4 822 (by decide)).trans rfl),
  fun a b L st h => e_bin (f := (fun a b => w32 (a + b))) (n := 824) ((skL_4 823 (by decide)).trans rfl),
  fun j q L st h => e_ald (kd := 1) (n := 825) ((skL_4 824 (by decide)).trans rfl),
  fun a L st h => e_ld0R (n := 826) ((skL_4 825 (by decide)).trans rfl),
  fun x0 x1 x2 x3 a L st h => e_ld4I (n := 828) ((skL_4 826 (by decide)).trans rfl),
  fun L st h => e_push (v := zvi 3) (n := 829) ((skL_4 828 (by decide)).trans rfl),
  fun a b L st h => e_bin (f := (fun a b => w32 (a + b))) (n := 830) ((skL_4 829 (by decide)).trans rfl),
  fun j q L st h => e_ald (kd := 1) (n := 831) ((skL_4 830 (by decide)).trans rfl),
  fun v0 v1 v2 q L st h => e_callV4 (F := mX4_trades) (kd := 18) (n := 834) ((skL_4 831 (by decide)).trans rfl),
  fun a b L st h => e_cmpeq (t := 2172) (n := 837) ((skL_4 834 (by decide)).trans rfl),
  fun L st h => e_push (v := zvi 0) (n := 838) ((skL_4 837 (by decide)).trans rfl),
  fun a L h => e_retz ((skL_4 838 (by decide)).trans rfl)⟩
theorem rL_law_15 : (∀ (x0 : ZV) (a : Option Nat) (L st : List ZV) (h : PH), zev kL_law 839 (x0 :: zvr a :: L) st h = zev kL_law 840 (x0 :: zvr a :: L) (zvr a :: st) h) ∧
  (∀ (a : Option Nat) (L st : List ZV) (h : PH), zev kL_law 840 (zvr a :: L) st h = zev kL_law 841 (zvr a :: L) (zvr a :: st) h) ∧
  (∀ (x0 x1 x2 x3 : ZV) (a : Int) (L st : List ZV) (h : PH), zev kL_law 841 (x0 :: x1 :: x2 :: x3 :: zvi a :: L) st h = zev kL_law 843 (x0 :: x1 :: x2 :: x3 :: zvi a :: L) (zvi a :: st) h) ∧
  (∀ (L st : List ZV) (h : PH), zev kL_law 843 L st h = zev kL_law 844 L (zvi 1 :: st) h) ∧
  (∀ (a b : Int) (L st : List ZV) (h : PH), zev kL_law 844 L (zvi b :: zvi a :: st) h = zev kL_law 845 L (zvi (w32 (a + b)) :: st) h) ∧
  (∀ (j : Int) (q : Nat) (L st : List ZV) (h : PH), zev kL_law 845 L (zvi j :: zvr (some q) :: st) h = if (ph_K h q).1 % 1000 = 1 ∧ 0 ≤ j ∧ j < (ph_K h q).2 then zev kL_law 846 L (zvi (ph_I h q j) :: st) h else none) ∧
  (∀ (a : Option Nat) (L st : List ZV) (h : PH), zev kL_law 846 (zvr a :: L) st h = zev kL_law 847 (zvr a :: L) (zvr a :: st) h) ∧
  (∀ (x0 x1 x2 x3 : ZV) (a : Int) (L st : List ZV) (h : PH), zev kL_law 847 (x0 :: x1 :: x2 :: x3 :: zvi a :: L) st h = zev kL_law 849 (x0 :: x1 :: x2 :: x3 :: zvi a :: L) (zvi a :: st) h) ∧
  (∀ (L st : List ZV) (h : PH), zev kL_law 849 L st h = zev kL_law 850 L (zvi 2 :: st) h) ∧
  (∀ (a b : Int) (L st : List ZV) (h : PH), zev kL_law 850 L (zvi b :: zvi a :: st) h = zev kL_law 851 L (zvi (w32 (a + b)) :: st) h) ∧
  (∀ (j : Int) (q : Nat) (L st : List ZV) (h : PH), zev kL_law 851 L (zvi j :: zvr (some q) :: st) h = if (ph_K h q).1 % 1000 = 1 ∧ 0 ≤ j ∧ j < (ph_K h q).2 then zev kL_law 852 L (zvi (ph_I h q j) :: st) h else none) ∧
  (∀ (a : Option Nat) (L st : List ZV) (h : PH), zev kL_law 852 (zvr a :: L) st h = zev kL_law 853 (zvr a :: L) (zvr a :: st) h) ∧
  (∀ (x0 x1 x2 x3 : ZV) (a : Int) (L st : List ZV) (h : PH), zev kL_law 853 (x0 :: x1 :: x2 :: x3 :: zvi a :: L) st h = zev kL_law 855 (x0 :: x1 :: x2 :: x3 :: zvi a :: L) (zvi a :: st) h) ∧
  (∀ (L st : List ZV) (h : PH), zev kL_law 855 L st h = zev kL_law 856 L (zvi 3 :: st) h) ∧
  (∀ (a b : Int) (L st : List ZV) (h : PH), zev kL_law 856 L (zvi b :: zvi a :: st) h = zev kL_law 857 L (zvi (w32 (a + b)) :: st) h) ∧
  (∀ (j : Int) (q : Nat) (L st : List ZV) (h : PH), zev kL_law 857 L (zvi j :: zvr (some q) :: st) h = if (ph_K h q).1 % 1000 = 1 ∧ 0 ≤ j ∧ j < (ph_K h q).2 then zev kL_law 858 L (zvi (ph_I h q j) :: st) h else none) ∧
  (∀ (a : Option Nat) (L st : List ZV) (h : PH), zev kL_law 858 (zvr a :: L) st h = zev kL_law 859 (zvr a :: L) (zvr a :: st) h) ∧
  (∀ (x0 x1 x2 x3 : ZV) (a : Int) (L st : List ZV) (h : PH), zev kL_law 859 (x0 :: x1 :: x2 :: x3 :: zvi a :: L) st h = zev kL_law 861 (x0 :: x1 :: x2 :: x3 :: zvi a :: L) (zvi a :: st) h) ∧
  (∀ (L st : List ZV) (h : PH), zev kL_law 861 L st h = zev kL_law 862 L (zvi 4 :: st) h) ∧
  (∀ (a b : Int) (L st : List ZV) (h : PH), zev kL_law 862 L (zvi b :: zvi a :: st) h = zev kL_law 863 L (zvi (w32 (a + b)) :: st) h) ∧
  (∀ (j : Int) (q : Nat) (L st : List ZV) (h : PH), zev kL_law 863 L (zvi j :: zvr (some q) :: st) h = if (ph_K h q).1 % 1000 = 1 ∧ 0 ≤ j ∧ j < (ph_K h q).2 then zev kL_law 864 L (zvi (ph_I h q j) :: st) h else none) ∧
  (∀ (a : Option Nat) (L st : List ZV) (h : PH), zev kL_law 864 (zvr a :: L) st h = zev kL_law 865 (zvr a :: L) (zvr a :: st) h) ∧
  (∀ (x0 x1 x2 x3 : ZV) (a : Int) (L st : List ZV) (h : PH), zev kL_law 865 (x0 :: x1 :: x2 :: x3 :: zvi a :: L) st h = zev kL_law 867 (x0 :: x1 :: x2 :: x3 :: zvi a :: L) (zvi a :: st) h) ∧
  (∀ (L st : List ZV) (h : PH), zev kL_law 867 L st h = zev kL_law 868 L (zvi 5 :: st) h) ∧
  (∀ (a b : Int) (L st : List ZV) (h : PH), zev kL_law 868 L (zvi b :: zvi a :: st) h = zev kL_law 869 L (zvi (w32 (a + b)) :: st) h) ∧
  (∀ (j : Int) (q : Nat) (L st : List ZV) (h : PH), zev kL_law 869 L (zvi j :: zvr (some q) :: st) h = if (ph_K h q).1 % 1000 = 1 ∧ 0 ≤ j ∧ j < (ph_K h q).2 then zev kL_law 870 L (zvi (ph_I h q j) :: st) h else none) ∧
  (∀ (v0 v1 v2 v3 v4 : ZV) (q : Nat) (L st : List ZV) (h : PH), zev kL_law 870 L (v4 :: v3 :: v2 :: v1 :: v0 :: zvr (some q) :: st) h = if (ph_K h q).1 % 1000 = 16 ∧ zcat st ≤ 8 then zk kL_law 870 873 L st (mX1_trade [zvr (some q), v0, v1, v2, v3, v4] h) else none) ∧
  (∀ (x0 x1 : ZV) (a : Option Nat) (L st : List ZV) (h : PH), zev kL_law 873 (x0 :: x1 :: zvr a :: L) st h = zev kL_law 874 (x0 :: x1 :: zvr a :: L) (zvr a :: st) h) ∧
  (∀ (a : Option Nat) (L st : List ZV) (h : PH), zev kL_law 874 (zvr a :: L) st h = zev kL_law 875 (zvr a :: L) (zvr a :: st) h) ∧
  (∀ (x0 x1 x2 x3 : ZV) (a : Int) (L st : List ZV) (h : PH), zev kL_law 875 (x0 :: x1 :: x2 :: x3 :: zvi a :: L) st h = zev kL_law 877 (x0 :: x1 :: x2 :: x3 :: zvi a :: L) (zvi a :: st) h) ∧
  (∀ (L st : List ZV) (h : PH), zev kL_law 877 L st h = zev kL_law 878 L (zvi 1 :: st) h) ∧
  (∀ (a b : Int) (L st : List ZV) (h : PH), zev kL_law 878 L (zvi b :: zvi a :: st) h = zev kL_law 879 L (zvi (w32 (a + b)) :: st) h) ∧
  (∀ (j : Int) (q : Nat) (L st : List ZV) (h : PH), zev kL_law 879 L (zvi j :: zvr (some q) :: st) h = if (ph_K h q).1 % 1000 = 1 ∧ 0 ≤ j ∧ j < (ph_K h q).2 then zev kL_law 880 L (zvi (ph_I h q j) :: st) h else none) ∧
  (∀ (a : Option Nat) (L st : List ZV) (h : PH), zev kL_law 880 (zvr a :: L) st h = zev kL_law 881 (zvr a :: L) (zvr a :: st) h) ∧
  (∀ (x0 x1 x2 x3 : ZV) (a : Int) (L st : List ZV) (h : PH), zev kL_law 881 (x0 :: x1 :: x2 :: x3 :: zvi a :: L) st h = zev kL_law 883 (x0 :: x1 :: x2 :: x3 :: zvi a :: L) (zvi a :: st) h) ∧
  (∀ (L st : List ZV) (h : PH), zev kL_law 883 L st h = zev kL_law 884 L (zvi 2 :: st) h) ∧
  (∀ (a b : Int) (L st : List ZV) (h : PH), zev kL_law 884 L (zvi b :: zvi a :: st) h = zev kL_law 885 L (zvi (w32 (a + b)) :: st) h) ∧
  (∀ (j : Int) (q : Nat) (L st : List ZV) (h : PH), zev kL_law 885 L (zvi j :: zvr (some q) :: st) h = if (ph_K h q).1 % 1000 = 1 ∧ 0 ≤ j ∧ j < (ph_K h q).2 then zev kL_law 886 L (zvi (ph_I h q j) :: st) h else none) ∧
  (∀ (a : Option Nat) (L st : List ZV) (h : PH), zev kL_law 886 (zvr a :: L) st h = zev kL_law 887 (zvr a :: L) (zvr a :: st) h) ∧
  (∀ (x0 x1 x2 x3 : ZV) (a : Int) (L st : List ZV) (h : PH), zev kL_law 887 (x0 :: x1 :: x2 :: x3 :: zvi a :: L) st h = zev kL_law 889 (x0 :: x1 :: x2 :: x3 :: zvi a :: L) (zvi a :: st) h) ∧
  (∀ (L st : List ZV) (h : PH), zev kL_law 889 L st h = zev kL_law 890 L (zvi 3 :: st) h) ∧
  (∀ (a b : Int) (L st : List ZV) (h : PH), zev kL_law 890 L (zvi b :: zvi a :: st) h = zev kL_law 891 L (zvi (w32 (a + b)) :: st) h) ∧
  (∀ (j : Int) (q : Nat) (L st : List ZV) (h : PH), zev kL_law 891 L (zvi j :: zvr (some q) :: st) h = if (ph_K h q).1 % 1000 = 1 ∧ 0 ≤ j ∧ j < (ph_K h q).2 then zev kL_law 892 L (zvi (ph_I h q j) :: st) h else none) ∧
  (∀ (a : Option Nat) (L st : List ZV) (h : PH), zev kL_law 892 (zvr a :: L) st h = zev kL_law 893 (zvr a :: L) (zvr a :: st) h) ∧
  (∀ (x0 x1 x2 x3 : ZV) (a : Int) (L st : List ZV) (h : PH), zev kL_law 893 (x0 :: x1 :: x2 :: x3 :: zvi a :: L) st h = zev kL_law 895 (x0 :: x1 :: x2 :: x3 :: zvi a :: L) (zvi a :: st) h) ∧
  (∀ (L st : List ZV) (h : PH), zev kL_law 895 L st h = zev kL_law 896 L (zvi 4 :: st) h) ∧
  (∀ (a b : Int) (L st : List ZV) (h : PH), zev kL_law 896 L (zvi b :: zvi a :: st) h = zev kL_law 897 L (zvi (w32 (a + b)) :: st) h) ∧
  (∀ (j : Int) (q : Nat) (L st : List ZV) (h : PH), zev kL_law 897 L (zvi j :: zvr (some q) :: st) h = if (ph_K h q).1 % 1000 = 1 ∧ 0 ≤ j ∧ j < (ph_K h q).2 then zev kL_law 898 L (zvi (ph_I h q j) :: st) h else none) ∧
  (∀ (a : Option Nat) (L st : List ZV) (h : PH), zev kL_law 898 (zvr a :: L) st h = zev kL_law 899 (zvr a :: L) (zvr a :: st) h) ∧
  (∀ (x0 x1 x2 x3 : ZV) (a : Int) (L st : List ZV) (h : PH), zev kL_law 899 (x0 :: x1 :: x2 :: x3 :: zvi a :: L) st h = zev kL_law 901 (x0 :: x1 :: x2 :: x3 :: zvi a :: L) (zvi a :: st) h) ∧
  (∀ (L st : List ZV) (h : PH), zev kL_law 901 L st h = zev kL_law 902 L (zvi 5 :: st) h) ∧
  (∀ (a b : Int) (L st : List ZV) (h : PH), zev kL_law 902 L (zvi b :: zvi a :: st) h = zev kL_law 903 L (zvi (w32 (a + b)) :: st) h) ∧
  (∀ (j : Int) (q : Nat) (L st : List ZV) (h : PH), zev kL_law 903 L (zvi j :: zvr (some q) :: st) h = if (ph_K h q).1 % 1000 = 1 ∧ 0 ≤ j ∧ j < (ph_K h q).2 then zev kL_law 904 L (zvi (ph_I h q j) :: st) h else none) ∧
  (∀ (v0 v1 v2 v3 v4 : ZV) (q : Nat) (L st : List ZV) (h : PH), zev kL_law 904 L (v4 :: v3 :: v2 :: v1 :: v0 :: zvr (some q) :: st) h = if (ph_K h q).1 % 1000 = 18 ∧ zcat st ≤ 8 then zk kL_law 904 907 L st (mX4_trade [zvr (some q), v0, v1, v2, v3, v4] h) else none) ∧
  (∀ (a b : Int) (L st : List ZV) (h : PH), zev kL_law 907 L (zvi b :: zvi a :: st) h = if a = b then zev kL_law 2172 L st h else zev kL_law 910 L st h) ∧
  (∀ (L st : List ZV) (h : PH), zev kL_law 910 L st h = zev kL_law 911 L (zvi 0 :: st) h) ∧
  (∀ (a : Int) (L : List ZV) (h : PH), zev kL_law 911 L [zvi a] h = if a = 0 ∨ a = 1 then zrv (zvi a) h else none) :=
  ⟨fun x0 a L st h => e_ld1R (n := 840) ((skL_4 839 (by decide)).trans rfl),
  fun a L st h => e_ld0R (n := 841) ((skL_4 840 (by decide)).trans rfl),
  fun x0 x1 x2 x3 a L st h => e_ld4I (n := 843) ((skL_4 841 (by decide)).trans rfl),
  fun L st h => e_push (v := zvi 1) (n := 844) ((skL_4 843 (by decide)).trans rfl),
  fun a b L st h => e_bin (f := (fun a b => w32 (a + b))) (n := 845) ((skL_4 844 (by decide)).trans rfl),
  fun j q L st h => e_ald (kd := 1) (n := 846) ((skL_4 845 (by decide)).trans rfl),
  fun a L st h => e_ld0R (n := 847) ((skL_4 846 (by decide)).trans rfl),
  fun x0 x1 x2 x3 a L st h => e_ld4I (n := 849) ((skL_4 847 (by decide)).trans rfl),
  fun L st h => e_push (v := zvi 2) (n := 850) ((skL_4 849 (by decide)).trans rfl),
  fun a b L st h => e_bin (f := (fun a b => w32 (a + b))) (n := 851) ((skL_4 850 (by decide)).trans rfl),
  fun j q L st h => e_ald (kd := 1) (n := 852) ((skL_4 851 (by decide)).trans rfl),
  fun a L st h => e_ld0R (n := 853) ((skL_4 852 (by decide)).trans rfl),
  fun x0 x1 x2 x3 a L st h => e_ld4I (n := 855) ((skL_4 853 (by decide)).trans rfl),
  fun L st h => e_push (v := zvi 3) (n := 856) ((skL_4 855 (by decide)).trans rfl),
  fun a b L st h => e_bin (f := (fun a b => w32 (a + b))) (n := 857) ((skL_4 856 (by decide)).trans rfl),
  fun j q L st h => e_ald (kd := 1) (n := 858) ((skL_4 857 (by decide)).trans rfl),
  fun a L st h => e_ld0R (n := 859) ((skL_4 858 (by decide)).trans rfl),
  fun x0 x1 x2 x3 a L st h => e_ld4I (n := 861) ((skL_4 859 (by decide)).trans rfl),
  fun L st h => e_push (v := zvi 4) (n := 862) ((skL_4 861 (by decide)).trans rfl),
  fun a b L st h => e_bin (f := (fun a b => w32 (a + b))) (n := 863) ((skL_4 862 (by decide)).trans rfl),
  fun j q L st h => e_ald (kd := 1) (n := 864) ((skL_4 863 (by decide)).trans rfl),
  fun a L st h => e_ld0R (n := 865) ((skL_4 864 (by decide)).trans rfl),
  fun x0 x1 x2 x3 a L st h => e_ld4I (n := 867) ((skL_4 865 (by decide)).trans rfl),
  fun L st h => e_push (v := zvi 5) (n := 868) ((skL_4 867 (by decide)).trans rfl),
  fun a b L st h => e_bin (f := (fun a b => w32 (a + b))) (n := 869) ((skL_4 868 (by decide)).trans rfl),
  fun j q L st h => e_ald (kd := 1) (n := 870) ((skL_4 869 (by decide)).trans rfl),
  fun v0 v1 v2 v3 v4 q L st h => e_callV6 (F := mX1_trade) (kd := 16) (n := 873) ((skL_4 870 (by decide)).trans rfl),
  fun x0 x1 a L st h => e_ld2R (n := 874) ((skL_4 873 (by decide)).trans rfl),
  fun a L st h => e_ld0R (n := 875) ((skL_4 874 (by decide)).trans rfl),
  fun x0 x1 x2 x3 a L st h => e_ld4I (n := 877) ((skL_4 875 (by decide)).trans rfl),
  fun L st h => e_push (v := zvi 1) (n := 878) ((skL_5 877 (by decide)).trans rfl),
  fun a b L st h => e_bin (f := (fun a b => w32 (a + b))) (n := 879) ((skL_5 878 (by decide)).trans rfl),
  fun j q L st h => e_ald (kd := 1) (n := 880) ((skL_5 879 (by decide)).trans rfl),
  fun a L st h => e_ld0R (n := 881) ((skL_5 880 (by decide)).trans rfl),
  fun x0 x1 x2 x3 a L st h => e_ld4I (n := 883) ((skL_5 881 (by decide)).trans rfl),
  fun L st h => e_push (v := zvi 2) (n := 884) ((skL_5 883 (by decide)).trans rfl),
  fun a b L st h => e_bin (f := (fun a b => w32 (a + b))) (n := 885) ((skL_5 884 (by decide)).trans rfl),
  fun j q L st h => e_ald (kd := 1) (n := 886) ((skL_5 885 (by decide)).trans rfl),
  fun a L st h => e_ld0R (n := 887) ((skL_5 886 (by decide)).trans rfl),
  fun x0 x1 x2 x3 a L st h => e_ld4I (n := 889) ((skL_5 887 (by decide)).trans rfl),
  fun L st h => e_push (v := zvi 3) (n := 890) ((skL_5 889 (by decide)).trans rfl),
  fun a b L st h => e_bin (f := (fun a b => w32 (a + b))) (n := 891) ((skL_5 890 (by decide)).trans rfl),
  fun j q L st h => e_ald (kd := 1) (n := 892) ((skL_5 891 (by decide)).trans rfl),
  fun a L st h => e_ld0R (n := 893) ((skL_5 892 (by decide)).trans rfl),
  fun x0 x1 x2 x3 a L st h => e_ld4I (n := 895) ((skL_5 893 (by decide)).trans rfl),
  fun L st h => e_push (v := zvi 4) (n := 896) ((skL_5 895 (by decide)).trans rfl),
  fun a b L st h => e_bin (f := (fun a b => w32 (a + b))) (n := 897) ((skL_5 896 (by decide)).trans rfl),
  fun j q L st h => e_ald (kd := 1) (n := 898) ((skL_5 897 (by decide)).trans rfl),
  fun a L st h => e_ld0R (n := 899) ((skL_5 898 (by decide)).trans rfl),
  fun x0 x1 x2 x3 a L st h => e_ld4I (n := 901) ((skL_5 899 (by decide)).trans rfl),
  fun L st h => e_push (v := zvi 5) (n := 902) ((skL_5 901 (by decide)).trans rfl),
  fun a b L st h => e_bin (f := (fun a b => w32 (a + b))) (n := 903) ((skL_5 902 (by decide)).trans rfl),
  fun j q L st h => e_ald (kd := 1) (n := 904) ((skL_5 903 (by decide)).trans rfl),
  fun v0 v1 v2 v3 v4 q L st h => e_callV6 (F := mX4_trade) (kd := 18) (n := 907) ((skL_5 904 (by decide)).trans rfl),
  fun a b L st h => e_cmpeq (t := 2172) (n := 910) ((skL_5 907 (by decide)).trans rfl),
  fun L st h => e_push (v := zvi 0) (n := 911) ((skL_5 910 (by decide)).trans rfl),
  fun a L h => e_retz ((skL_5 911 (by decide)).trans rfl)⟩
theorem rL_law_16 : (∀ (x0 : ZV) (a : Option Nat) (L st : List ZV) (h : PH), zev kL_law 912 (x0 :: zvr a :: L) st h = zev kL_law 913 (x0 :: zvr a :: L) (zvr a :: st) h) ∧
  (∀ (a : Option Nat) (L st : List ZV) (h : PH), zev kL_law 913 (zvr a :: L) st h = zev kL_law 914 (zvr a :: L) (zvr a :: st) h) ∧
  (∀ (x0 x1 x2 x3 : ZV) (a : Int) (L st : List ZV) (h : PH), zev kL_law 914 (x0 :: x1 :: x2 :: x3 :: zvi a :: L) st h = zev kL_law 916 (x0 :: x1 :: x2 :: x3 :: zvi a :: L) (zvi a :: st) h) ∧
  (∀ (L st : List ZV) (h : PH), zev kL_law 916 L st h = zev kL_law 917 L (zvi 1 :: st) h) ∧
  (∀ (a b : Int) (L st : List ZV) (h : PH), zev kL_law 917 L (zvi b :: zvi a :: st) h = zev kL_law 918 L (zvi (w32 (a + b)) :: st) h) ∧
  (∀ (j : Int) (q : Nat) (L st : List ZV) (h : PH), zev kL_law 918 L (zvi j :: zvr (some q) :: st) h = if (ph_K h q).1 % 1000 = 1 ∧ 0 ≤ j ∧ j < (ph_K h q).2 then zev kL_law 919 L (zvi (ph_I h q j) :: st) h else none) ∧
  (∀ (a : Option Nat) (L st : List ZV) (h : PH), zev kL_law 919 (zvr a :: L) st h = zev kL_law 920 (zvr a :: L) (zvr a :: st) h) ∧
  (∀ (x0 x1 x2 x3 : ZV) (a : Int) (L st : List ZV) (h : PH), zev kL_law 920 (x0 :: x1 :: x2 :: x3 :: zvi a :: L) st h = zev kL_law 922 (x0 :: x1 :: x2 :: x3 :: zvi a :: L) (zvi a :: st) h) ∧
  (∀ (L st : List ZV) (h : PH), zev kL_law 922 L st h = zev kL_law 923 L (zvi 2 :: st) h) ∧
  (∀ (a b : Int) (L st : List ZV) (h : PH), zev kL_law 923 L (zvi b :: zvi a :: st) h = zev kL_law 924 L (zvi (w32 (a + b)) :: st) h) ∧
  (∀ (j : Int) (q : Nat) (L st : List ZV) (h : PH), zev kL_law 924 L (zvi j :: zvr (some q) :: st) h = if (ph_K h q).1 % 1000 = 1 ∧ 0 ≤ j ∧ j < (ph_K h q).2 then zev kL_law 925 L (zvi (ph_I h q j) :: st) h else none) ∧
  (∀ (a : Option Nat) (L st : List ZV) (h : PH), zev kL_law 925 (zvr a :: L) st h = zev kL_law 926 (zvr a :: L) (zvr a :: st) h) ∧
  (∀ (x0 x1 x2 x3 : ZV) (a : Int) (L st : List ZV) (h : PH), zev kL_law 926 (x0 :: x1 :: x2 :: x3 :: zvi a :: L) st h = zev kL_law 928 (x0 :: x1 :: x2 :: x3 :: zvi a :: L) (zvi a :: st) h) ∧
  (∀ (L st : List ZV) (h : PH), zev kL_law 928 L st h = zev kL_law 929 L (zvi 3 :: st) h) ∧
  (∀ (a b : Int) (L st : List ZV) (h : PH), zev kL_law 929 L (zvi b :: zvi a :: st) h = zev kL_law 930 L (zvi (w32 (a + b)) :: st) h) ∧
  (∀ (j : Int) (q : Nat) (L st : List ZV) (h : PH), zev kL_law 930 L (zvi j :: zvr (some q) :: st) h = if (ph_K h q).1 % 1000 = 1 ∧ 0 ≤ j ∧ j < (ph_K h q).2 then zev kL_law 931 L (zvi (ph_I h q j) :: st) h else none) ∧
  (∀ (a : Option Nat) (L st : List ZV) (h : PH), zev kL_law 931 (zvr a :: L) st h = zev kL_law 932 (zvr a :: L) (zvr a :: st) h) ∧
  (∀ (x0 x1 x2 x3 : ZV) (a : Int) (L st : List ZV) (h : PH), zev kL_law 932 (x0 :: x1 :: x2 :: x3 :: zvi a :: L) st h = zev kL_law 934 (x0 :: x1 :: x2 :: x3 :: zvi a :: L) (zvi a :: st) h) ∧
  (∀ (L st : List ZV) (h : PH), zev kL_law 934 L st h = zev kL_law 935 L (zvi 4 :: st) h) ∧
  (∀ (a b : Int) (L st : List ZV) (h : PH), zev kL_law 935 L (zvi b :: zvi a :: st) h = zev kL_law 936 L (zvi (w32 (a + b)) :: st) h) ∧
  (∀ (j : Int) (q : Nat) (L st : List ZV) (h : PH), zev kL_law 936 L (zvi j :: zvr (some q) :: st) h = if (ph_K h q).1 % 1000 = 1 ∧ 0 ≤ j ∧ j < (ph_K h q).2 then zev kL_law 937 L (zvi (ph_I h q j) :: st) h else none) ∧
  (∀ (v0 v1 v2 v3 : ZV) (q : Nat) (L st : List ZV) (h : PH), zev kL_law 937 L (v3 :: v2 :: v1 :: v0 :: zvr (some q) :: st) h = if (ph_K h q).1 % 1000 = 16 ∧ zcat st ≤ 8 then zk kL_law 937 940 L st (mX1_within [zvr (some q), v0, v1, v2, v3] h) else none) ∧
  (∀ (x0 x1 : ZV) (a : Option Nat) (L st : List ZV) (h : PH), zev kL_law 940 (x0 :: x1 :: zvr a :: L) st h = zev kL_law 941 (x0 :: x1 :: zvr a :: L) (zvr a :: st) h) ∧
  (∀ (a : Option Nat) (L st : List ZV) (h : PH), zev kL_law 941 (zvr a :: L) st h = zev kL_law 942 (zvr a :: L) (zvr a :: st) h) ∧
  (∀ (x0 x1 x2 x3 : ZV) (a : Int) (L st : List ZV) (h : PH), zev kL_law 942 (x0 :: x1 :: x2 :: x3 :: zvi a :: L) st h = zev kL_law 944 (x0 :: x1 :: x2 :: x3 :: zvi a :: L) (zvi a :: st) h) ∧
  (∀ (L st : List ZV) (h : PH), zev kL_law 944 L st h = zev kL_law 945 L (zvi 1 :: st) h) ∧
  (∀ (a b : Int) (L st : List ZV) (h : PH), zev kL_law 945 L (zvi b :: zvi a :: st) h = zev kL_law 946 L (zvi (w32 (a + b)) :: st) h) ∧
  (∀ (j : Int) (q : Nat) (L st : List ZV) (h : PH), zev kL_law 946 L (zvi j :: zvr (some q) :: st) h = if (ph_K h q).1 % 1000 = 1 ∧ 0 ≤ j ∧ j < (ph_K h q).2 then zev kL_law 947 L (zvi (ph_I h q j) :: st) h else none) ∧
  (∀ (a : Option Nat) (L st : List ZV) (h : PH), zev kL_law 947 (zvr a :: L) st h = zev kL_law 948 (zvr a :: L) (zvr a :: st) h) ∧
  (∀ (x0 x1 x2 x3 : ZV) (a : Int) (L st : List ZV) (h : PH), zev kL_law 948 (x0 :: x1 :: x2 :: x3 :: zvi a :: L) st h = zev kL_law 950 (x0 :: x1 :: x2 :: x3 :: zvi a :: L) (zvi a :: st) h) ∧
  (∀ (L st : List ZV) (h : PH), zev kL_law 950 L st h = zev kL_law 951 L (zvi 2 :: st) h) ∧
  (∀ (a b : Int) (L st : List ZV) (h : PH), zev kL_law 951 L (zvi b :: zvi a :: st) h = zev kL_law 952 L (zvi (w32 (a + b)) :: st) h) ∧
  (∀ (j : Int) (q : Nat) (L st : List ZV) (h : PH), zev kL_law 952 L (zvi j :: zvr (some q) :: st) h = if (ph_K h q).1 % 1000 = 1 ∧ 0 ≤ j ∧ j < (ph_K h q).2 then zev kL_law 953 L (zvi (ph_I h q j) :: st) h else none) ∧
  (∀ (a : Option Nat) (L st : List ZV) (h : PH), zev kL_law 953 (zvr a :: L) st h = zev kL_law 954 (zvr a :: L) (zvr a :: st) h) ∧
  (∀ (x0 x1 x2 x3 : ZV) (a : Int) (L st : List ZV) (h : PH), zev kL_law 954 (x0 :: x1 :: x2 :: x3 :: zvi a :: L) st h = zev kL_law 956 (x0 :: x1 :: x2 :: x3 :: zvi a :: L) (zvi a :: st) h) ∧
  (∀ (L st : List ZV) (h : PH), zev kL_law 956 L st h = zev kL_law 957 L (zvi 3 :: st) h) ∧
  (∀ (a b : Int) (L st : List ZV) (h : PH), zev kL_law 957 L (zvi b :: zvi a :: st) h = zev kL_law 958 L (zvi (w32 (a + b)) :: st) h) ∧
  (∀ (j : Int) (q : Nat) (L st : List ZV) (h : PH), zev kL_law 958 L (zvi j :: zvr (some q) :: st) h = if (ph_K h q).1 % 1000 = 1 ∧ 0 ≤ j ∧ j < (ph_K h q).2 then zev kL_law 959 L (zvi (ph_I h q j) :: st) h else none) ∧
  (∀ (a : Option Nat) (L st : List ZV) (h : PH), zev kL_law 959 (zvr a :: L) st h = zev kL_law 960 (zvr a :: L) (zvr a :: st) h) ∧
  (∀ (x0 x1 x2 x3 : ZV) (a : Int) (L st : List ZV) (h : PH), zev kL_law 960 (x0 :: x1 :: x2 :: x3 :: zvi a :: L) st h = zev kL_law 962 (x0 :: x1 :: x2 :: x3 :: zvi a :: L) (zvi a :: st) h) ∧
  (∀ (L st : List ZV) (h : PH), zev kL_law 962 L st h = zev kL_law 963 L (zvi 4 :: st) h) ∧
  (∀ (a b : Int) (L st : List ZV) (h : PH), zev kL_law 963 L (zvi b :: zvi a :: st) h = zev kL_law 964 L (zvi (w32 (a + b)) :: st) h) ∧
  (∀ (j : Int) (q : Nat) (L st : List ZV) (h : PH), zev kL_law 964 L (zvi j :: zvr (some q) :: st) h = if (ph_K h q).1 % 1000 = 1 ∧ 0 ≤ j ∧ j < (ph_K h q).2 then zev kL_law 965 L (zvi (ph_I h q j) :: st) h else none) ∧
  (∀ (v0 v1 v2 v3 : ZV) (q : Nat) (L st : List ZV) (h : PH), zev kL_law 965 L (v3 :: v2 :: v1 :: v0 :: zvr (some q) :: st) h = if (ph_K h q).1 % 1000 = 18 ∧ zcat st ≤ 8 then zk kL_law 965 968 L st (mX4_within [zvr (some q), v0, v1, v2, v3] h) else none) ∧
  (∀ (a b : Int) (L st : List ZV) (h : PH), zev kL_law 968 L (zvi b :: zvi a :: st) h = if a = b then zev kL_law 2172 L st h else zev kL_law 971 L st h) ∧
  (∀ (L st : List ZV) (h : PH), zev kL_law 971 L st h = zev kL_law 972 L (zvi 0 :: st) h) ∧
  (∀ (a : Int) (L : List ZV) (h : PH), zev kL_law 972 L [zvi a] h = if a = 0 ∨ a = 1 then zrv (zvi a) h else none) :=
  ⟨fun x0 a L st h => e_ld1R (n := 913) ((skL_5 912 (by decide)).trans rfl),
  fun a L st h => e_ld0R (n := 914) ((skL_5 913 (by decide)).trans rfl),
  fun x0 x1 x2 x3 a L st h => e_ld4I (n := 916) ((skL_5 914 (by decide)).trans rfl),
  fun L st h => e_push (v := zvi 1) (n := 917) ((skL_5 916 (by decide)).trans rfl),
  fun a b L st h => e_bin (f := (fun a b => w32 (a + b))) (n := 918) ((skL_5 917 (by decide)).trans rfl),
  fun j q L st h => e_ald (kd := 1) (n := 919) ((skL_5 918 (by decide)).trans rfl),
  fun a L st h => e_ld0R (n := 920) ((skL_5 919 (by decide)).trans rfl),
  fun x0 x1 x2 x3 a L st h => e_ld4I (n := 922) ((skL_5 920 (by decide)).trans rfl),
  fun L st h => e_push (v := zvi 2) (n := 923) ((skL_5 922 (by decide)).trans rfl),
  fun a b L st h => e_bin (f := (fun a b => w32 (a + b))) (n := 924) ((skL_5 923 (by decide)).trans rfl),
  fun j q L st h => e_ald (kd := 1) (n := 925) ((skL_5 924 (by decide)).trans rfl),
  fun a L st h => e_ld0R (n := 926) ((skL_5 925 (by decide)).trans rfl),
  fun x0 x1 x2 x3 a L st h => e_ld4I (n := 928) ((skL_5 926 (by decide)).trans rfl),
  fun L st h => e_push (v := zvi 3) (n := 929) ((skL_5 928 (by decide)).trans rfl),
  fun a b L st h => e_bin (f := (fun a b => w32 (a + b))) (n := 930) ((skL_5 929 (by decide)).trans rfl),
  fun j q L st h => e_ald (kd := 1) (n := 931) ((skL_5 930 (by decide)).trans rfl),
  fun a L st h => e_ld0R (n := 932) ((skL_5 931 (by decide)).trans rfl),
  fun x0 x1 x2 x3 a L st h => e_ld4I (n := 934) ((skL_5 932 (by decide)).trans rfl),
  fun L st h => e_push (v := zvi 4) (n := 935) ((skL_5 934 (by decide)).trans rfl),
  fun a b L st h => e_bin (f := (fun a b => w32 (a + b))) (n := 936) ((skL_5 935 (by decide)).trans rfl),
  fun j q L st h => e_ald (kd := 1) (n := 937) ((skL_5 936 (by decide)).trans rfl),
  fun v0 v1 v2 v3 q L st h => e_callV5 (F := mX1_within) (kd := 16) (n := 940) ((skL_5 937 (by decide)).trans rfl),
  fun x0 x1 a L st h => e_ld2R (n := 941) ((skL_5 940 (by decide)).trans rfl),
  fun a L st h => e_ld0R (n := 942) ((skL_5 941 (by decide)).trans rfl),
  fun x0 x1 x2 x3 a L st h => e_ld4I (n := 944) ((skL_5 942 (by decide)).trans rfl),
  fun L st h => e_push (v := zvi 1) (n := 945) ((skL_5 944 (by decide)).trans rfl),
  fun a b L st h => e_bin (f := (fun a b => w32 (a + b))) (n := 946) ((skL_5 945 (by decide)).trans rfl),
  fun j q L st h => e_ald (kd := 1) (n := 947) ((skL_5 946 (by decide)).trans rfl),
  fun a L st h => e_ld0R (n := 948) ((skL_5 947 (by decide)).trans rfl),
  fun x0 x1 x2 x3 a L st h => e_ld4I (n := 950) ((skL_5 948 (by decide)).trans rfl),
  fun L st h => e_push (v := zvi 2) (n := 951) ((skL_5 950 (by decide)).trans rfl),
  fun a b L st h => e_bin (f := (fun a b => w32 (a + b))) (n := 952) ((skL_5 951 (by decide)).trans rfl),
  fun j q L st h => e_ald (kd := 1) (n := 953) ((skL_5 952 (by decide)).trans rfl),
  fun a L st h => e_ld0R (n := 954) ((skL_5 953 (by decide)).trans rfl),
  fun x0 x1 x2 x3 a L st h => e_ld4I (n := 956) ((skL_5 954 (by decide)).trans rfl),
  fun L st h => e_push (v := zvi 3) (n := 957) ((skL_5 956 (by decide)).trans rfl),
  fun a b L st h => e_bin (f := (fun a b => w32 (a + b))) (n := 958) ((skL_5 957 (by decide)).trans rfl),
  fun j q L st h => e_ald (kd := 1) (n := 959) ((skL_5 958 (by decide)).trans rfl),
  fun a L st h => e_ld0R (n := 960) ((skL_5 959 (by decide)).trans rfl),
  fun x0 x1 x2 x3 a L st h => e_ld4I (n := 962) ((skL_5 960 (by decide)).trans rfl),
  fun L st h => e_push (v := zvi 4) (n := 963) ((skL_5 962 (by decide)).trans rfl),
  fun a b L st h => e_bin (f := (fun a b => w32 (a + b))) (n := 964) ((skL_5 963 (by decide)).trans rfl),
  fun j q L st h => e_ald (kd := 1) (n := 965) ((skL_5 964 (by decide)).trans rfl),
  fun v0 v1 v2 v3 q L st h => e_callV5 (F := mX4_within) (kd := 18) (n := 968) ((skL_5 965 (by decide)).trans rfl),
  fun a b L st h => e_cmpeq (t := 2172) (n := 971) ((skL_5 968 (by decide)).trans rfl),
  fun L st h => e_push (v := zvi 0) (n := 972) ((skL_5 971 (by decide)).trans rfl),
  fun a L h => e_retz ((skL_5 972 (by decide)).trans rfl)⟩
theorem rL_law_17 : (∀ (x0 : ZV) (a : Option Nat) (L st : List ZV) (h : PH), zev kL_law 973 (x0 :: zvr a :: L) st h = zev kL_law 974 (x0 :: zvr a :: L) (zvr a :: st) h) ∧
  (∀ (a : Option Nat) (L st : List ZV) (h : PH), zev kL_law 974 (zvr a :: L) st h = zev kL_law 975 (zvr a :: L) (zvr a :: st) h) ∧
  (∀ (x0 x1 x2 x3 : ZV) (a : Int) (L st : List ZV) (h : PH), zev kL_law 975 (x0 :: x1 :: x2 :: x3 :: zvi a :: L) st h = zev kL_law 977 (x0 :: x1 :: x2 :: x3 :: zvi a :: L) (zvi a :: st) h) ∧
  (∀ (L st : List ZV) (h : PH), zev kL_law 977 L st h = zev kL_law 978 L (zvi 1 :: st) h) ∧
  (∀ (a b : Int) (L st : List ZV) (h : PH), zev kL_law 978 L (zvi b :: zvi a :: st) h = zev kL_law 979 L (zvi (w32 (a + b)) :: st) h) ∧
  (∀ (j : Int) (q : Nat) (L st : List ZV) (h : PH), zev kL_law 979 L (zvi j :: zvr (some q) :: st) h = if (ph_K h q).1 % 1000 = 1 ∧ 0 ≤ j ∧ j < (ph_K h q).2 then zev kL_law 980 L (zvi (ph_I h q j) :: st) h else none) ∧
  (∀ (a : Option Nat) (L st : List ZV) (h : PH), zev kL_law 980 (zvr a :: L) st h = zev kL_law 981 (zvr a :: L) (zvr a :: st) h) ∧
  (∀ (x0 x1 x2 x3 : ZV) (a : Int) (L st : List ZV) (h : PH), zev kL_law 981 (x0 :: x1 :: x2 :: x3 :: zvi a :: L) st h = zev kL_law 983 (x0 :: x1 :: x2 :: x3 :: zvi a :: L) (zvi a :: st) h) ∧
  (∀ (L st : List ZV) (h : PH), zev kL_law 983 L st h = zev kL_law 984 L (zvi 2 :: st) h) ∧
  (∀ (a b : Int) (L st : List ZV) (h : PH), zev kL_law 984 L (zvi b :: zvi a :: st) h = zev kL_law 985 L (zvi (w32 (a + b)) :: st) h) ∧
  (∀ (j : Int) (q : Nat) (L st : List ZV) (h : PH), zev kL_law 985 L (zvi j :: zvr (some q) :: st) h = if (ph_K h q).1 % 1000 = 1 ∧ 0 ≤ j ∧ j < (ph_K h q).2 then zev kL_law 986 L (zvi (ph_I h q j) :: st) h else none) ∧
  (∀ (a : Option Nat) (L st : List ZV) (h : PH), zev kL_law 986 (zvr a :: L) st h = zev kL_law 987 (zvr a :: L) (zvr a :: st) h) ∧
  (∀ (x0 x1 x2 x3 : ZV) (a : Int) (L st : List ZV) (h : PH), zev kL_law 987 (x0 :: x1 :: x2 :: x3 :: zvi a :: L) st h = zev kL_law 989 (x0 :: x1 :: x2 :: x3 :: zvi a :: L) (zvi a :: st) h) ∧
  (∀ (L st : List ZV) (h : PH), zev kL_law 989 L st h = zev kL_law 990 L (zvi 3 :: st) h) ∧
  (∀ (a b : Int) (L st : List ZV) (h : PH), zev kL_law 990 L (zvi b :: zvi a :: st) h = zev kL_law 991 L (zvi (w32 (a + b)) :: st) h) ∧
  (∀ (j : Int) (q : Nat) (L st : List ZV) (h : PH), zev kL_law 991 L (zvi j :: zvr (some q) :: st) h = if (ph_K h q).1 % 1000 = 1 ∧ 0 ≤ j ∧ j < (ph_K h q).2 then zev kL_law 992 L (zvi (ph_I h q j) :: st) h else none) ∧
  (∀ (v0 v1 v2 : ZV) (q : Nat) (L st : List ZV) (h : PH), zev kL_law 992 L (v2 :: v1 :: v0 :: zvr (some q) :: st) h = if (ph_K h q).1 % 1000 = 16 ∧ zcat st ≤ 8 then zk kL_law 992 995 L st (mX1_latest [zvr (some q), v0, v1, v2] h) else none) ∧
  (∀ (x0 x1 : ZV) (a : Option Nat) (L st : List ZV) (h : PH), zev kL_law 995 (x0 :: x1 :: zvr a :: L) st h = zev kL_law 996 (x0 :: x1 :: zvr a :: L) (zvr a :: st) h) ∧
  (∀ (a : Option Nat) (L st : List ZV) (h : PH), zev kL_law 996 (zvr a :: L) st h = zev kL_law 997 (zvr a :: L) (zvr a :: st) h) ∧
  (∀ (x0 x1 x2 x3 : ZV) (a : Int) (L st : List ZV) (h : PH), zev kL_law 997 (x0 :: x1 :: x2 :: x3 :: zvi a :: L) st h = zev kL_law 999 (x0 :: x1 :: x2 :: x3 :: zvi a :: L) (zvi a :: st) h) ∧
  (∀ (L st : List ZV) (h : PH), zev kL_law 999 L st h = zev kL_law 1000 L (zvi 1 :: st) h) ∧
  (∀ (a b : Int) (L st : List ZV) (h : PH), zev kL_law 1000 L (zvi b :: zvi a :: st) h = zev kL_law 1001 L (zvi (w32 (a + b)) :: st) h) ∧
  (∀ (j : Int) (q : Nat) (L st : List ZV) (h : PH), zev kL_law 1001 L (zvi j :: zvr (some q) :: st) h = if (ph_K h q).1 % 1000 = 1 ∧ 0 ≤ j ∧ j < (ph_K h q).2 then zev kL_law 1002 L (zvi (ph_I h q j) :: st) h else none) ∧
  (∀ (a : Option Nat) (L st : List ZV) (h : PH), zev kL_law 1002 (zvr a :: L) st h = zev kL_law 1003 (zvr a :: L) (zvr a :: st) h) ∧
  (∀ (x0 x1 x2 x3 : ZV) (a : Int) (L st : List ZV) (h : PH), zev kL_law 1003 (x0 :: x1 :: x2 :: x3 :: zvi a :: L) st h = zev kL_law 1005 (x0 :: x1 :: x2 :: x3 :: zvi a :: L) (zvi a :: st) h) ∧
  (∀ (L st : List ZV) (h : PH), zev kL_law 1005 L st h = zev kL_law 1006 L (zvi 2 :: st) h) ∧
  (∀ (a b : Int) (L st : List ZV) (h : PH), zev kL_law 1006 L (zvi b :: zvi a :: st) h = zev kL_law 1007 L (zvi (w32 (a + b)) :: st) h) ∧
  (∀ (j : Int) (q : Nat) (L st : List ZV) (h : PH), zev kL_law 1007 L (zvi j :: zvr (some q) :: st) h = if (ph_K h q).1 % 1000 = 1 ∧ 0 ≤ j ∧ j < (ph_K h q).2 then zev kL_law 1008 L (zvi (ph_I h q j) :: st) h else none) ∧
  (∀ (a : Option Nat) (L st : List ZV) (h : PH), zev kL_law 1008 (zvr a :: L) st h = zev kL_law 1009 (zvr a :: L) (zvr a :: st) h) ∧
  (∀ (x0 x1 x2 x3 : ZV) (a : Int) (L st : List ZV) (h : PH), zev kL_law 1009 (x0 :: x1 :: x2 :: x3 :: zvi a :: L) st h = zev kL_law 1011 (x0 :: x1 :: x2 :: x3 :: zvi a :: L) (zvi a :: st) h) ∧
  (∀ (L st : List ZV) (h : PH), zev kL_law 1011 L st h = zev kL_law 1012 L (zvi 3 :: st) h) ∧
  (∀ (a b : Int) (L st : List ZV) (h : PH), zev kL_law 1012 L (zvi b :: zvi a :: st) h = zev kL_law 1013 L (zvi (w32 (a + b)) :: st) h) ∧
  (∀ (j : Int) (q : Nat) (L st : List ZV) (h : PH), zev kL_law 1013 L (zvi j :: zvr (some q) :: st) h = if (ph_K h q).1 % 1000 = 1 ∧ 0 ≤ j ∧ j < (ph_K h q).2 then zev kL_law 1014 L (zvi (ph_I h q j) :: st) h else none) ∧
  (∀ (v0 v1 v2 : ZV) (q : Nat) (L st : List ZV) (h : PH), zev kL_law 1014 L (v2 :: v1 :: v0 :: zvr (some q) :: st) h = if (ph_K h q).1 % 1000 = 18 ∧ zcat st ≤ 8 then zk kL_law 1014 1017 L st (mX4_latest [zvr (some q), v0, v1, v2] h) else none) ∧
  (∀ (a b : Int) (L st : List ZV) (h : PH), zev kL_law 1017 L (zvi b :: zvi a :: st) h = if a = b then zev kL_law 2172 L st h else zev kL_law 1020 L st h) ∧
  (∀ (L st : List ZV) (h : PH), zev kL_law 1020 L st h = zev kL_law 1021 L (zvi 0 :: st) h) ∧
  (∀ (a : Int) (L : List ZV) (h : PH), zev kL_law 1021 L [zvi a] h = if a = 0 ∨ a = 1 then zrv (zvi a) h else none) :=
  ⟨fun x0 a L st h => e_ld1R (n := 974) ((skL_5 973 (by decide)).trans rfl),
  fun a L st h => e_ld0R (n := 975) ((skL_5 974 (by decide)).trans rfl),
  fun x0 x1 x2 x3 a L st h => e_ld4I (n := 977) ((skL_5 975 (by decide)).trans rfl),
  fun L st h => e_push (v := zvi 1) (n := 978) ((skL_5 977 (by decide)).trans rfl),
  fun a b L st h => e_bin (f := (fun a b => w32 (a + b))) (n := 979) ((skL_5 978 (by decide)).trans rfl),
  fun j q L st h => e_ald (kd := 1) (n := 980) ((skL_5 979 (by decide)).trans rfl),
  fun a L st h => e_ld0R (n := 981) ((skL_5 980 (by decide)).trans rfl),
  fun x0 x1 x2 x3 a L st h => e_ld4I (n := 983) ((skL_5 981 (by decide)).trans rfl),
  fun L st h => e_push (v := zvi 2) (n := 984) ((skL_5 983 (by decide)).trans rfl),
  fun a b L st h => e_bin (f := (fun a b => w32 (a + b))) (n := 985) ((skL_5 984 (by decide)).trans rfl),
  fun j q L st h => e_ald (kd := 1) (n := 986) ((skL_5 985 (by decide)).trans rfl),
  fun a L st h => e_ld0R (n := 987) ((skL_5 986 (by decide)).trans rfl),
  fun x0 x1 x2 x3 a L st h => e_ld4I (n := 989) ((skL_5 987 (by decide)).trans rfl),
  fun L st h => e_push (v := zvi 3) (n := 990) ((skL_5 989 (by decide)).trans rfl),
  fun a b L st h => e_bin (f := (fun a b => w32 (a + b))) (n := 991) ((skL_5 990 (by decide)).trans rfl),
  fun j q L st h => e_ald (kd := 1) (n := 992) ((skL_5 991 (by decide)).trans rfl),
  fun v0 v1 v2 q L st h => e_callV4 (F := mX1_latest) (kd := 16) (n := 995) ((skL_5 992 (by decide)).trans rfl),
  fun x0 x1 a L st h => e_ld2R (n := 996) ((skL_5 995 (by decide)).trans rfl),
  fun a L st h => e_ld0R (n := 997) ((skL_5 996 (by decide)).trans rfl),
  fun x0 x1 x2 x3 a L st h => e_ld4I (n := 999) ((skL_5 997 (by decide)).trans rfl),
  fun L st h => e_push (v := zvi 1) (n := 1000) ((skL_5 999 (by decide)).trans rfl),
  fun a b L st h => e_bin (f := (fun a b => w32 (a + b))) (n := 1001) ((skL_5 1000 (by decide)).trans rfl),
  fun j q L st h => e_ald (kd := 1) (n := 1002) ((skL_5 1001 (by decide)).trans rfl),
  fun a L st h => e_ld0R (n := 1003) ((skL_5 1002 (by decide)).trans rfl),
  fun x0 x1 x2 x3 a L st h => e_ld4I (n := 1005) ((skL_5 1003 (by decide)).trans rfl),
  fun L st h => e_push (v := zvi 2) (n := 1006) ((skL_5 1005 (by decide)).trans rfl),
  fun a b L st h => e_bin (f := (fun a b => w32 (a + b))) (n := 1007) ((skL_6 1006 (by decide)).trans rfl),
  fun j q L st h => e_ald (kd := 1) (n := 1008) ((skL_6 1007 (by decide)).trans rfl),
  fun a L st h => e_ld0R (n := 1009) ((skL_6 1008 (by decide)).trans rfl),
  fun x0 x1 x2 x3 a L st h => e_ld4I (n := 1011) ((skL_6 1009 (by decide)).trans rfl),
  fun L st h => e_push (v := zvi 3) (n := 1012) ((skL_6 1011 (by decide)).trans rfl),
  fun a b L st h => e_bin (f := (fun a b => w32 (a + b))) (n := 1013) ((skL_6 1012 (by decide)).trans rfl),
  fun j q L st h => e_ald (kd := 1) (n := 1014) ((skL_6 1013 (by decide)).trans rfl),
  fun v0 v1 v2 q L st h => e_callV4 (F := mX4_latest) (kd := 18) (n := 1017) ((skL_6 1014 (by decide)).trans rfl),
  fun a b L st h => e_cmpeq (t := 2172) (n := 1020) ((skL_6 1017 (by decide)).trans rfl),
  fun L st h => e_push (v := zvi 0) (n := 1021) ((skL_6 1020 (by decide)).trans rfl),
  fun a L h => e_retz ((skL_6 1021 (by decide)).trans rfl)⟩
theorem rL_law_18 : (∀ (x0 : ZV) (a : Option Nat) (L st : List ZV) (h : PH), zev kL_law 1022 (x0 :: zvr a :: L) st h = zev kL_law 1023 (x0 :: zvr a :: L) (zvr a :: st) h) ∧
  (∀ (a : Option Nat) (L st : List ZV) (h : PH), zev kL_law 1023 (zvr a :: L) st h = zev kL_law 1024 (zvr a :: L) (zvr a :: st) h) ∧
  (∀ (x0 x1 x2 x3 : ZV) (a : Int) (L st : List ZV) (h : PH), zev kL_law 1024 (x0 :: x1 :: x2 :: x3 :: zvi a :: L) st h = zev kL_law 1026 (x0 :: x1 :: x2 :: x3 :: zvi a :: L) (zvi a :: st) h) ∧
  (∀ (L st : List ZV) (h : PH), zev kL_law 1026 L st h = zev kL_law 1027 L (zvi 1 :: st) h) ∧
  (∀ (a b : Int) (L st : List ZV) (h : PH), zev kL_law 1027 L (zvi b :: zvi a :: st) h = zev kL_law 1028 L (zvi (w32 (a + b)) :: st) h) ∧
  (∀ (j : Int) (q : Nat) (L st : List ZV) (h : PH), zev kL_law 1028 L (zvi j :: zvr (some q) :: st) h = if (ph_K h q).1 % 1000 = 1 ∧ 0 ≤ j ∧ j < (ph_K h q).2 then zev kL_law 1029 L (zvi (ph_I h q j) :: st) h else none) ∧
  (∀ (a : Option Nat) (L st : List ZV) (h : PH), zev kL_law 1029 (zvr a :: L) st h = zev kL_law 1030 (zvr a :: L) (zvr a :: st) h) ∧
  (∀ (x0 x1 x2 x3 : ZV) (a : Int) (L st : List ZV) (h : PH), zev kL_law 1030 (x0 :: x1 :: x2 :: x3 :: zvi a :: L) st h = zev kL_law 1032 (x0 :: x1 :: x2 :: x3 :: zvi a :: L) (zvi a :: st) h) ∧
  (∀ (L st : List ZV) (h : PH), zev kL_law 1032 L st h = zev kL_law 1033 L (zvi 2 :: st) h) ∧
  (∀ (a b : Int) (L st : List ZV) (h : PH), zev kL_law 1033 L (zvi b :: zvi a :: st) h = zev kL_law 1034 L (zvi (w32 (a + b)) :: st) h) ∧
  (∀ (j : Int) (q : Nat) (L st : List ZV) (h : PH), zev kL_law 1034 L (zvi j :: zvr (some q) :: st) h = if (ph_K h q).1 % 1000 = 1 ∧ 0 ≤ j ∧ j < (ph_K h q).2 then zev kL_law 1035 L (zvi (ph_I h q j) :: st) h else none) ∧
  (∀ (a : Option Nat) (L st : List ZV) (h : PH), zev kL_law 1035 (zvr a :: L) st h = zev kL_law 1036 (zvr a :: L) (zvr a :: st) h) ∧
  (∀ (x0 x1 x2 x3 : ZV) (a : Int) (L st : List ZV) (h : PH), zev kL_law 1036 (x0 :: x1 :: x2 :: x3 :: zvi a :: L) st h = zev kL_law 1038 (x0 :: x1 :: x2 :: x3 :: zvi a :: L) (zvi a :: st) h) ∧
  (∀ (L st : List ZV) (h : PH), zev kL_law 1038 L st h = zev kL_law 1039 L (zvi 3 :: st) h) ∧
  (∀ (a b : Int) (L st : List ZV) (h : PH), zev kL_law 1039 L (zvi b :: zvi a :: st) h = zev kL_law 1040 L (zvi (w32 (a + b)) :: st) h) ∧
  (∀ (j : Int) (q : Nat) (L st : List ZV) (h : PH), zev kL_law 1040 L (zvi j :: zvr (some q) :: st) h = if (ph_K h q).1 % 1000 = 1 ∧ 0 ≤ j ∧ j < (ph_K h q).2 then zev kL_law 1041 L (zvi (ph_I h q j) :: st) h else none) ∧
  (∀ (v0 v1 v2 : ZV) (q : Nat) (L st : List ZV) (h : PH), zev kL_law 1041 L (v2 :: v1 :: v0 :: zvr (some q) :: st) h = if (ph_K h q).1 % 1000 = 16 ∧ zcat st ≤ 8 then zk kL_law 1041 1044 L st (mX1_reach [zvr (some q), v0, v1, v2] h) else none) ∧
  (∀ (x0 x1 : ZV) (a : Option Nat) (L st : List ZV) (h : PH), zev kL_law 1044 (x0 :: x1 :: zvr a :: L) st h = zev kL_law 1045 (x0 :: x1 :: zvr a :: L) (zvr a :: st) h) ∧
  (∀ (a : Option Nat) (L st : List ZV) (h : PH), zev kL_law 1045 (zvr a :: L) st h = zev kL_law 1046 (zvr a :: L) (zvr a :: st) h) ∧
  (∀ (x0 x1 x2 x3 : ZV) (a : Int) (L st : List ZV) (h : PH), zev kL_law 1046 (x0 :: x1 :: x2 :: x3 :: zvi a :: L) st h = zev kL_law 1048 (x0 :: x1 :: x2 :: x3 :: zvi a :: L) (zvi a :: st) h) ∧
  (∀ (L st : List ZV) (h : PH), zev kL_law 1048 L st h = zev kL_law 1049 L (zvi 1 :: st) h) ∧
  (∀ (a b : Int) (L st : List ZV) (h : PH), zev kL_law 1049 L (zvi b :: zvi a :: st) h = zev kL_law 1050 L (zvi (w32 (a + b)) :: st) h) ∧
  (∀ (j : Int) (q : Nat) (L st : List ZV) (h : PH), zev kL_law 1050 L (zvi j :: zvr (some q) :: st) h = if (ph_K h q).1 % 1000 = 1 ∧ 0 ≤ j ∧ j < (ph_K h q).2 then zev kL_law 1051 L (zvi (ph_I h q j) :: st) h else none) ∧
  (∀ (a : Option Nat) (L st : List ZV) (h : PH), zev kL_law 1051 (zvr a :: L) st h = zev kL_law 1052 (zvr a :: L) (zvr a :: st) h) ∧
  (∀ (x0 x1 x2 x3 : ZV) (a : Int) (L st : List ZV) (h : PH), zev kL_law 1052 (x0 :: x1 :: x2 :: x3 :: zvi a :: L) st h = zev kL_law 1054 (x0 :: x1 :: x2 :: x3 :: zvi a :: L) (zvi a :: st) h) ∧
  (∀ (L st : List ZV) (h : PH), zev kL_law 1054 L st h = zev kL_law 1055 L (zvi 2 :: st) h) ∧
  (∀ (a b : Int) (L st : List ZV) (h : PH), zev kL_law 1055 L (zvi b :: zvi a :: st) h = zev kL_law 1056 L (zvi (w32 (a + b)) :: st) h) ∧
  (∀ (j : Int) (q : Nat) (L st : List ZV) (h : PH), zev kL_law 1056 L (zvi j :: zvr (some q) :: st) h = if (ph_K h q).1 % 1000 = 1 ∧ 0 ≤ j ∧ j < (ph_K h q).2 then zev kL_law 1057 L (zvi (ph_I h q j) :: st) h else none) ∧
  (∀ (a : Option Nat) (L st : List ZV) (h : PH), zev kL_law 1057 (zvr a :: L) st h = zev kL_law 1058 (zvr a :: L) (zvr a :: st) h) ∧
  (∀ (x0 x1 x2 x3 : ZV) (a : Int) (L st : List ZV) (h : PH), zev kL_law 1058 (x0 :: x1 :: x2 :: x3 :: zvi a :: L) st h = zev kL_law 1060 (x0 :: x1 :: x2 :: x3 :: zvi a :: L) (zvi a :: st) h) ∧
  (∀ (L st : List ZV) (h : PH), zev kL_law 1060 L st h = zev kL_law 1061 L (zvi 3 :: st) h) ∧
  (∀ (a b : Int) (L st : List ZV) (h : PH), zev kL_law 1061 L (zvi b :: zvi a :: st) h = zev kL_law 1062 L (zvi (w32 (a + b)) :: st) h) ∧
  (∀ (j : Int) (q : Nat) (L st : List ZV) (h : PH), zev kL_law 1062 L (zvi j :: zvr (some q) :: st) h = if (ph_K h q).1 % 1000 = 1 ∧ 0 ≤ j ∧ j < (ph_K h q).2 then zev kL_law 1063 L (zvi (ph_I h q j) :: st) h else none) ∧
  (∀ (v0 v1 v2 : ZV) (q : Nat) (L st : List ZV) (h : PH), zev kL_law 1063 L (v2 :: v1 :: v0 :: zvr (some q) :: st) h = if (ph_K h q).1 % 1000 = 18 ∧ zcat st ≤ 8 then zk kL_law 1063 1066 L st (mX4_reach [zvr (some q), v0, v1, v2] h) else none) ∧
  (∀ (a b : Int) (L st : List ZV) (h : PH), zev kL_law 1066 L (zvi b :: zvi a :: st) h = if a = b then zev kL_law 2172 L st h else zev kL_law 1069 L st h) ∧
  (∀ (L st : List ZV) (h : PH), zev kL_law 1069 L st h = zev kL_law 1070 L (zvi 0 :: st) h) ∧
  (∀ (a : Int) (L : List ZV) (h : PH), zev kL_law 1070 L [zvi a] h = if a = 0 ∨ a = 1 then zrv (zvi a) h else none) :=
  ⟨fun x0 a L st h => e_ld1R (n := 1023) ((skL_6 1022 (by decide)).trans rfl),
  fun a L st h => e_ld0R (n := 1024) ((skL_6 1023 (by decide)).trans rfl),
  fun x0 x1 x2 x3 a L st h => e_ld4I (n := 1026) ((skL_6 1024 (by decide)).trans rfl),
  fun L st h => e_push (v := zvi 1) (n := 1027) ((skL_6 1026 (by decide)).trans rfl),
  fun a b L st h => e_bin (f := (fun a b => w32 (a + b))) (n := 1028) ((skL_6 1027 (by decide)).trans rfl),
  fun j q L st h => e_ald (kd := 1) (n := 1029) ((skL_6 1028 (by decide)).trans rfl),
  fun a L st h => e_ld0R (n := 1030) ((skL_6 1029 (by decide)).trans rfl),
  fun x0 x1 x2 x3 a L st h => e_ld4I (n := 1032) ((skL_6 1030 (by decide)).trans rfl),
  fun L st h => e_push (v := zvi 2) (n := 1033) ((skL_6 1032 (by decide)).trans rfl),
  fun a b L st h => e_bin (f := (fun a b => w32 (a + b))) (n := 1034) ((skL_6 1033 (by decide)).trans rfl),
  fun j q L st h => e_ald (kd := 1) (n := 1035) ((skL_6 1034 (by decide)).trans rfl),
  fun a L st h => e_ld0R (n := 1036) ((skL_6 1035 (by decide)).trans rfl),
  fun x0 x1 x2 x3 a L st h => e_ld4I (n := 1038) ((skL_6 1036 (by decide)).trans rfl),
  fun L st h => e_push (v := zvi 3) (n := 1039) ((skL_6 1038 (by decide)).trans rfl),
  fun a b L st h => e_bin (f := (fun a b => w32 (a + b))) (n := 1040) ((skL_6 1039 (by decide)).trans rfl),
  fun j q L st h => e_ald (kd := 1) (n := 1041) ((skL_6 1040 (by decide)).trans rfl),
  fun v0 v1 v2 q L st h => e_callV4 (F := mX1_reach) (kd := 16) (n := 1044) ((skL_6 1041 (by decide)).trans rfl),
  fun x0 x1 a L st h => e_ld2R (n := 1045) ((skL_6 1044 (by decide)).trans rfl),
  fun a L st h => e_ld0R (n := 1046) ((skL_6 1045 (by decide)).trans rfl),
  fun x0 x1 x2 x3 a L st h => e_ld4I (n := 1048) ((skL_6 1046 (by decide)).trans rfl),
  fun L st h => e_push (v := zvi 1) (n := 1049) ((skL_6 1048 (by decide)).trans rfl),
  fun a b L st h => e_bin (f := (fun a b => w32 (a + b))) (n := 1050) ((skL_6 1049 (by decide)).trans rfl),
  fun j q L st h => e_ald (kd := 1) (n := 1051) ((skL_6 1050 (by decide)).trans rfl),
  fun a L st h => e_ld0R (n := 1052) ((skL_6 1051 (by decide)).trans rfl),
  fun x0 x1 x2 x3 a L st h => e_ld4I (n := 1054) ((skL_6 1052 (by decide)).trans rfl),
  fun L st h => e_push (v := zvi 2) (n := 1055) ((skL_6 1054 (by decide)).trans rfl),
  fun a b L st h => e_bin (f := (fun a b => w32 (a + b))) (n := 1056) ((skL_6 1055 (by decide)).trans rfl),
  fun j q L st h => e_ald (kd := 1) (n := 1057) ((skL_6 1056 (by decide)).trans rfl),
  fun a L st h => e_ld0R (n := 1058) ((skL_6 1057 (by decide)).trans rfl),
  fun x0 x1 x2 x3 a L st h => e_ld4I (n := 1060) ((skL_6 1058 (by decide)).trans rfl),
  fun L st h => e_push (v := zvi 3) (n := 1061) ((skL_6 1060 (by decide)).trans rfl),
  fun a b L st h => e_bin (f := (fun a b => w32 (a + b))) (n := 1062) ((skL_6 1061 (by decide)).trans rfl),
  fun j q L st h => e_ald (kd := 1) (n := 1063) ((skL_6 1062 (by decide)).trans rfl),
  fun v0 v1 v2 q L st h => e_callV4 (F := mX4_reach) (kd := 18) (n := 1066) ((skL_6 1063 (by decide)).trans rfl),
  fun a b L st h => e_cmpeq (t := 2172) (n := 1069) ((skL_6 1066 (by decide)).trans rfl),
  fun L st h => e_push (v := zvi 0) (n := 1070) ((skL_6 1069 (by decide)).trans rfl),
  fun a L h => e_retz ((skL_6 1070 (by decide)).trans rfl)⟩
theorem rL_law_19 : (∀ (x0 : ZV) (a : Option Nat) (L st : List ZV) (h : PH), zev kL_law 1071 (x0 :: zvr a :: L) st h = zev kL_law 1072 (x0 :: zvr a :: L) (zvr a :: st) h) ∧
  (∀ (a : Option Nat) (L st : List ZV) (h : PH), zev kL_law 1072 (zvr a :: L) st h = zev kL_law 1073 (zvr a :: L) (zvr a :: st) h) ∧
  (∀ (x0 x1 x2 x3 : ZV) (a : Int) (L st : List ZV) (h : PH), zev kL_law 1073 (x0 :: x1 :: x2 :: x3 :: zvi a :: L) st h = zev kL_law 1075 (x0 :: x1 :: x2 :: x3 :: zvi a :: L) (zvi a :: st) h) ∧
  (∀ (L st : List ZV) (h : PH), zev kL_law 1075 L st h = zev kL_law 1076 L (zvi 1 :: st) h) ∧
  (∀ (a b : Int) (L st : List ZV) (h : PH), zev kL_law 1076 L (zvi b :: zvi a :: st) h = zev kL_law 1077 L (zvi (w32 (a + b)) :: st) h) ∧
  (∀ (j : Int) (q : Nat) (L st : List ZV) (h : PH), zev kL_law 1077 L (zvi j :: zvr (some q) :: st) h = if (ph_K h q).1 % 1000 = 1 ∧ 0 ≤ j ∧ j < (ph_K h q).2 then zev kL_law 1078 L (zvi (ph_I h q j) :: st) h else none) ∧
  (∀ (a : Option Nat) (L st : List ZV) (h : PH), zev kL_law 1078 (zvr a :: L) st h = zev kL_law 1079 (zvr a :: L) (zvr a :: st) h) ∧
  (∀ (x0 x1 x2 x3 : ZV) (a : Int) (L st : List ZV) (h : PH), zev kL_law 1079 (x0 :: x1 :: x2 :: x3 :: zvi a :: L) st h = zev kL_law 1081 (x0 :: x1 :: x2 :: x3 :: zvi a :: L) (zvi a :: st) h) ∧
  (∀ (L st : List ZV) (h : PH), zev kL_law 1081 L st h = zev kL_law 1082 L (zvi 2 :: st) h) ∧
  (∀ (a b : Int) (L st : List ZV) (h : PH), zev kL_law 1082 L (zvi b :: zvi a :: st) h = zev kL_law 1083 L (zvi (w32 (a + b)) :: st) h) ∧
  (∀ (j : Int) (q : Nat) (L st : List ZV) (h : PH), zev kL_law 1083 L (zvi j :: zvr (some q) :: st) h = if (ph_K h q).1 % 1000 = 1 ∧ 0 ≤ j ∧ j < (ph_K h q).2 then zev kL_law 1084 L (zvi (ph_I h q j) :: st) h else none) ∧
  (∀ (v0 v1 : ZV) (q : Nat) (L st : List ZV) (h : PH), zev kL_law 1084 L (v1 :: v0 :: zvr (some q) :: st) h = if (ph_K h q).1 % 1000 = 16 ∧ zcat st ≤ 8 then zk kL_law 1084 1087 L st (mX1_farthest [zvr (some q), v0, v1] h) else none) ∧
  (∀ (x0 x1 : ZV) (a : Option Nat) (L st : List ZV) (h : PH), zev kL_law 1087 (x0 :: x1 :: zvr a :: L) st h = zev kL_law 1088 (x0 :: x1 :: zvr a :: L) (zvr a :: st) h) ∧
  (∀ (a : Option Nat) (L st : List ZV) (h : PH), zev kL_law 1088 (zvr a :: L) st h = zev kL_law 1089 (zvr a :: L) (zvr a :: st) h) ∧
  (∀ (x0 x1 x2 x3 : ZV) (a : Int) (L st : List ZV) (h : PH), zev kL_law 1089 (x0 :: x1 :: x2 :: x3 :: zvi a :: L) st h = zev kL_law 1091 (x0 :: x1 :: x2 :: x3 :: zvi a :: L) (zvi a :: st) h) ∧
  (∀ (L st : List ZV) (h : PH), zev kL_law 1091 L st h = zev kL_law 1092 L (zvi 1 :: st) h) ∧
  (∀ (a b : Int) (L st : List ZV) (h : PH), zev kL_law 1092 L (zvi b :: zvi a :: st) h = zev kL_law 1093 L (zvi (w32 (a + b)) :: st) h) ∧
  (∀ (j : Int) (q : Nat) (L st : List ZV) (h : PH), zev kL_law 1093 L (zvi j :: zvr (some q) :: st) h = if (ph_K h q).1 % 1000 = 1 ∧ 0 ≤ j ∧ j < (ph_K h q).2 then zev kL_law 1094 L (zvi (ph_I h q j) :: st) h else none) ∧
  (∀ (a : Option Nat) (L st : List ZV) (h : PH), zev kL_law 1094 (zvr a :: L) st h = zev kL_law 1095 (zvr a :: L) (zvr a :: st) h) ∧
  (∀ (x0 x1 x2 x3 : ZV) (a : Int) (L st : List ZV) (h : PH), zev kL_law 1095 (x0 :: x1 :: x2 :: x3 :: zvi a :: L) st h = zev kL_law 1097 (x0 :: x1 :: x2 :: x3 :: zvi a :: L) (zvi a :: st) h) ∧
  (∀ (L st : List ZV) (h : PH), zev kL_law 1097 L st h = zev kL_law 1098 L (zvi 2 :: st) h) ∧
  (∀ (a b : Int) (L st : List ZV) (h : PH), zev kL_law 1098 L (zvi b :: zvi a :: st) h = zev kL_law 1099 L (zvi (w32 (a + b)) :: st) h) ∧
  (∀ (j : Int) (q : Nat) (L st : List ZV) (h : PH), zev kL_law 1099 L (zvi j :: zvr (some q) :: st) h = if (ph_K h q).1 % 1000 = 1 ∧ 0 ≤ j ∧ j < (ph_K h q).2 then zev kL_law 1100 L (zvi (ph_I h q j) :: st) h else none) ∧
  (∀ (v0 v1 : ZV) (q : Nat) (L st : List ZV) (h : PH), zev kL_law 1100 L (v1 :: v0 :: zvr (some q) :: st) h = if (ph_K h q).1 % 1000 = 18 ∧ zcat st ≤ 8 then zk kL_law 1100 1103 L st (mX4_farthest [zvr (some q), v0, v1] h) else none) ∧
  (∀ (a b : Int) (L st : List ZV) (h : PH), zev kL_law 1103 L (zvi b :: zvi a :: st) h = if a = b then zev kL_law 2172 L st h else zev kL_law 1106 L st h) ∧
  (∀ (L st : List ZV) (h : PH), zev kL_law 1106 L st h = zev kL_law 1107 L (zvi 0 :: st) h) ∧
  (∀ (a : Int) (L : List ZV) (h : PH), zev kL_law 1107 L [zvi a] h = if a = 0 ∨ a = 1 then zrv (zvi a) h else none) :=
  ⟨fun x0 a L st h => e_ld1R (n := 1072) ((skL_6 1071 (by decide)).trans rfl),
  fun a L st h => e_ld0R (n := 1073) ((skL_6 1072 (by decide)).trans rfl),
  fun x0 x1 x2 x3 a L st h => e_ld4I (n := 1075) ((skL_6 1073 (by decide)).trans rfl),
  fun L st h => e_push (v := zvi 1) (n := 1076) ((skL_6 1075 (by decide)).trans rfl),
  fun a b L st h => e_bin (f := (fun a b => w32 (a + b))) (n := 1077) ((skL_6 1076 (by decide)).trans rfl),
  fun j q L st h => e_ald (kd := 1) (n := 1078) ((skL_6 1077 (by decide)).trans rfl),
  fun a L st h => e_ld0R (n := 1079) ((skL_6 1078 (by decide)).trans rfl),
  fun x0 x1 x2 x3 a L st h => e_ld4I (n := 1081) ((skL_6 1079 (by decide)).trans rfl),
  fun L st h => e_push (v := zvi 2) (n := 1082) ((skL_6 1081 (by decide)).trans rfl),
  fun a b L st h => e_bin (f := (fun a b => w32 (a + b))) (n := 1083) ((skL_6 1082 (by decide)).trans rfl),
  fun j q L st h => e_ald (kd := 1) (n := 1084) ((skL_6 1083 (by decide)).trans rfl),
  fun v0 v1 q L st h => e_callV3 (F := mX1_farthest) (kd := 16) (n := 1087) ((skL_6 1084 (by decide)).trans rfl),
  fun x0 x1 a L st h => e_ld2R (n := 1088) ((skL_6 1087 (by decide)).trans rfl),
  fun a L st h => e_ld0R (n := 1089) ((skL_6 1088 (by decide)).trans rfl),
  fun x0 x1 x2 x3 a L st h => e_ld4I (n := 1091) ((skL_6 1089 (by decide)).trans rfl),
  fun L st h => e_push (v := zvi 1) (n := 1092) ((skL_6 1091 (by decide)).trans rfl),
  fun a b L st h => e_bin (f := (fun a b => w32 (a + b))) (n := 1093) ((skL_6 1092 (by decide)).trans rfl),
  fun j q L st h => e_ald (kd := 1) (n := 1094) ((skL_6 1093 (by decide)).trans rfl),
  fun a L st h => e_ld0R (n := 1095) ((skL_6 1094 (by decide)).trans rfl),
  fun x0 x1 x2 x3 a L st h => e_ld4I (n := 1097) ((skL_6 1095 (by decide)).trans rfl),
  fun L st h => e_push (v := zvi 2) (n := 1098) ((skL_6 1097 (by decide)).trans rfl),
  fun a b L st h => e_bin (f := (fun a b => w32 (a + b))) (n := 1099) ((skL_6 1098 (by decide)).trans rfl),
  fun j q L st h => e_ald (kd := 1) (n := 1100) ((skL_6 1099 (by decide)).trans rfl),
  fun v0 v1 q L st h => e_callV3 (F := mX4_farthest) (kd := 18) (n := 1103) ((skL_6 1100 (by decide)).trans rfl),
  fun a b L st h => e_cmpeq (t := 2172) (n := 1106) ((skL_6 1103 (by decide)).trans rfl),
  fun L st h => e_push (v := zvi 0) (n := 1107) ((skL_6 1106 (by decide)).trans rfl),
  fun a L h => e_retz ((skL_6 1107 (by decide)).trans rfl)⟩
theorem rL_law_20 : (∀ (x0 : ZV) (a : Option Nat) (L st : List ZV) (h : PH), zev kL_law 1108 (x0 :: zvr a :: L) st h = zev kL_law 1109 (x0 :: zvr a :: L) (zvr a :: st) h) ∧
  (∀ (a : Option Nat) (L st : List ZV) (h : PH), zev kL_law 1109 (zvr a :: L) st h = zev kL_law 1110 (zvr a :: L) (zvr a :: st) h) ∧
  (∀ (x0 x1 x2 x3 : ZV) (a : Int) (L st : List ZV) (h : PH), zev kL_law 1110 (x0 :: x1 :: x2 :: x3 :: zvi a :: L) st h = zev kL_law 1112 (x0 :: x1 :: x2 :: x3 :: zvi a :: L) (zvi a :: st) h) ∧
  (∀ (L st : List ZV) (h : PH), zev kL_law 1112 L st h = zev kL_law 1113 L (zvi 1 :: st) h) ∧
  (∀ (a b : Int) (L st : List ZV) (h : PH), zev kL_law 1113 L (zvi b :: zvi a :: st) h = zev kL_law 1114 L (zvi (w32 (a + b)) :: st) h) ∧
  (∀ (j : Int) (q : Nat) (L st : List ZV) (h : PH), zev kL_law 1114 L (zvi j :: zvr (some q) :: st) h = if (ph_K h q).1 % 1000 = 1 ∧ 0 ≤ j ∧ j < (ph_K h q).2 then zev kL_law 1115 L (zvi (ph_I h q j) :: st) h else none) ∧
  (∀ (a : Option Nat) (L st : List ZV) (h : PH), zev kL_law 1115 (zvr a :: L) st h = zev kL_law 1116 (zvr a :: L) (zvr a :: st) h) ∧
  (∀ (x0 x1 x2 x3 : ZV) (a : Int) (L st : List ZV) (h : PH), zev kL_law 1116 (x0 :: x1 :: x2 :: x3 :: zvi a :: L) st h = zev kL_law 1118 (x0 :: x1 :: x2 :: x3 :: zvi a :: L) (zvi a :: st) h) ∧
  (∀ (L st : List ZV) (h : PH), zev kL_law 1118 L st h = zev kL_law 1119 L (zvi 2 :: st) h) ∧
  (∀ (a b : Int) (L st : List ZV) (h : PH), zev kL_law 1119 L (zvi b :: zvi a :: st) h = zev kL_law 1120 L (zvi (w32 (a + b)) :: st) h) ∧
  (∀ (j : Int) (q : Nat) (L st : List ZV) (h : PH), zev kL_law 1120 L (zvi j :: zvr (some q) :: st) h = if (ph_K h q).1 % 1000 = 1 ∧ 0 ≤ j ∧ j < (ph_K h q).2 then zev kL_law 1121 L (zvi (ph_I h q j) :: st) h else none) ∧
  (∀ (a : Option Nat) (L st : List ZV) (h : PH), zev kL_law 1121 (zvr a :: L) st h = zev kL_law 1122 (zvr a :: L) (zvr a :: st) h) ∧
  (∀ (x0 x1 x2 x3 : ZV) (a : Int) (L st : List ZV) (h : PH), zev kL_law 1122 (x0 :: x1 :: x2 :: x3 :: zvi a :: L) st h = zev kL_law 1124 (x0 :: x1 :: x2 :: x3 :: zvi a :: L) (zvi a :: st) h) ∧
  (∀ (L st : List ZV) (h : PH), zev kL_law 1124 L st h = zev kL_law 1125 L (zvi 3 :: st) h) ∧
  (∀ (a b : Int) (L st : List ZV) (h : PH), zev kL_law 1125 L (zvi b :: zvi a :: st) h = zev kL_law 1126 L (zvi (w32 (a + b)) :: st) h) ∧
  (∀ (j : Int) (q : Nat) (L st : List ZV) (h : PH), zev kL_law 1126 L (zvi j :: zvr (some q) :: st) h = if (ph_K h q).1 % 1000 = 1 ∧ 0 ≤ j ∧ j < (ph_K h q).2 then zev kL_law 1127 L (zvi (ph_I h q j) :: st) h else none) ∧
  (∀ (v0 v1 v2 : ZV) (q : Nat) (L st : List ZV) (h : PH), zev kL_law 1127 L (v2 :: v1 :: v0 :: zvr (some q) :: st) h = if (ph_K h q).1 % 1000 = 16 ∧ zcat st ≤ 8 then zk kL_law 1127 1130 L st (mX1_meets [zvr (some q), v0, v1, v2] h) else none) ∧
  (∀ (x0 x1 : ZV) (a : Option Nat) (L st : List ZV) (h : PH), zev kL_law 1130 (x0 :: x1 :: zvr a :: L) st h = zev kL_law 1131 (x0 :: x1 :: zvr a :: L) (zvr a :: st) h) ∧
  (∀ (a : Option Nat) (L st : List ZV) (h : PH), zev kL_law 1131 (zvr a :: L) st h = zev kL_law 1132 (zvr a :: L) (zvr a :: st) h) ∧
  (∀ (x0 x1 x2 x3 : ZV) (a : Int) (L st : List ZV) (h : PH), zev kL_law 1132 (x0 :: x1 :: x2 :: x3 :: zvi a :: L) st h = zev kL_law 1134 (x0 :: x1 :: x2 :: x3 :: zvi a :: L) (zvi a :: st) h) ∧
  (∀ (L st : List ZV) (h : PH), zev kL_law 1134 L st h = zev kL_law 1135 L (zvi 1 :: st) h) ∧
  (∀ (a b : Int) (L st : List ZV) (h : PH), zev kL_law 1135 L (zvi b :: zvi a :: st) h = zev kL_law 1136 L (zvi (w32 (a + b)) :: st) h) ∧
  (∀ (j : Int) (q : Nat) (L st : List ZV) (h : PH), zev kL_law 1136 L (zvi j :: zvr (some q) :: st) h = if (ph_K h q).1 % 1000 = 1 ∧ 0 ≤ j ∧ j < (ph_K h q).2 then zev kL_law 1137 L (zvi (ph_I h q j) :: st) h else none) ∧
  (∀ (a : Option Nat) (L st : List ZV) (h : PH), zev kL_law 1137 (zvr a :: L) st h = zev kL_law 1138 (zvr a :: L) (zvr a :: st) h) ∧
  (∀ (x0 x1 x2 x3 : ZV) (a : Int) (L st : List ZV) (h : PH), zev kL_law 1138 (x0 :: x1 :: x2 :: x3 :: zvi a :: L) st h = zev kL_law 1140 (x0 :: x1 :: x2 :: x3 :: zvi a :: L) (zvi a :: st) h) ∧
  (∀ (L st : List ZV) (h : PH), zev kL_law 1140 L st h = zev kL_law 1141 L (zvi 2 :: st) h) ∧
  (∀ (a b : Int) (L st : List ZV) (h : PH), zev kL_law 1141 L (zvi b :: zvi a :: st) h = zev kL_law 1142 L (zvi (w32 (a + b)) :: st) h) ∧
  (∀ (j : Int) (q : Nat) (L st : List ZV) (h : PH), zev kL_law 1142 L (zvi j :: zvr (some q) :: st) h = if (ph_K h q).1 % 1000 = 1 ∧ 0 ≤ j ∧ j < (ph_K h q).2 then zev kL_law 1143 L (zvi (ph_I h q j) :: st) h else none) ∧
  (∀ (a : Option Nat) (L st : List ZV) (h : PH), zev kL_law 1143 (zvr a :: L) st h = zev kL_law 1144 (zvr a :: L) (zvr a :: st) h) ∧
  (∀ (x0 x1 x2 x3 : ZV) (a : Int) (L st : List ZV) (h : PH), zev kL_law 1144 (x0 :: x1 :: x2 :: x3 :: zvi a :: L) st h = zev kL_law 1146 (x0 :: x1 :: x2 :: x3 :: zvi a :: L) (zvi a :: st) h) ∧
  (∀ (L st : List ZV) (h : PH), zev kL_law 1146 L st h = zev kL_law 1147 L (zvi 3 :: st) h) ∧
  (∀ (a b : Int) (L st : List ZV) (h : PH), zev kL_law 1147 L (zvi b :: zvi a :: st) h = zev kL_law 1148 L (zvi (w32 (a + b)) :: st) h) ∧
  (∀ (j : Int) (q : Nat) (L st : List ZV) (h : PH), zev kL_law 1148 L (zvi j :: zvr (some q) :: st) h = if (ph_K h q).1 % 1000 = 1 ∧ 0 ≤ j ∧ j < (ph_K h q).2 then zev kL_law 1149 L (zvi (ph_I h q j) :: st) h else none) ∧
  (∀ (v0 v1 v2 : ZV) (q : Nat) (L st : List ZV) (h : PH), zev kL_law 1149 L (v2 :: v1 :: v0 :: zvr (some q) :: st) h = if (ph_K h q).1 % 1000 = 18 ∧ zcat st ≤ 8 then zk kL_law 1149 1152 L st (mX4_meets [zvr (some q), v0, v1, v2] h) else none) ∧
  (∀ (a b : Int) (L st : List ZV) (h : PH), zev kL_law 1152 L (zvi b :: zvi a :: st) h = if a = b then zev kL_law 2172 L st h else zev kL_law 1155 L st h) ∧
  (∀ (L st : List ZV) (h : PH), zev kL_law 1155 L st h = zev kL_law 1156 L (zvi 0 :: st) h) ∧
  (∀ (a : Int) (L : List ZV) (h : PH), zev kL_law 1156 L [zvi a] h = if a = 0 ∨ a = 1 then zrv (zvi a) h else none) :=
  ⟨fun x0 a L st h => e_ld1R (n := 1109) ((skL_6 1108 (by decide)).trans rfl),
  fun a L st h => e_ld0R (n := 1110) ((skL_6 1109 (by decide)).trans rfl),
  fun x0 x1 x2 x3 a L st h => e_ld4I (n := 1112) ((skL_6 1110 (by decide)).trans rfl),
  fun L st h => e_push (v := zvi 1) (n := 1113) ((skL_6 1112 (by decide)).trans rfl),
  fun a b L st h => e_bin (f := (fun a b => w32 (a + b))) (n := 1114) ((skL_6 1113 (by decide)).trans rfl),
  fun j q L st h => e_ald (kd := 1) (n := 1115) ((skL_6 1114 (by decide)).trans rfl),
  fun a L st h => e_ld0R (n := 1116) ((skL_6 1115 (by decide)).trans rfl),
  fun x0 x1 x2 x3 a L st h => e_ld4I (n := 1118) ((skL_6 1116 (by decide)).trans rfl),
  fun L st h => e_push (v := zvi 2) (n := 1119) ((skL_6 1118 (by decide)).trans rfl),
  fun a b L st h => e_bin (f := (fun a b => w32 (a + b))) (n := 1120) ((skL_6 1119 (by decide)).trans rfl),
  fun j q L st h => e_ald (kd := 1) (n := 1121) ((skL_6 1120 (by decide)).trans rfl),
  fun a L st h => e_ld0R (n := 1122) ((skL_6 1121 (by decide)).trans rfl),
  fun x0 x1 x2 x3 a L st h => e_ld4I (n := 1124) ((skL_6 1122 (by decide)).trans rfl),
  fun L st h => e_push (v := zvi 3) (n := 1125) ((skL_6 1124 (by decide)).trans rfl),
  fun a b L st h => e_bin (f := (fun a b => w32 (a + b))) (n := 1126) ((skL_6 1125 (by decide)).trans rfl),
  fun j q L st h => e_ald (kd := 1) (n := 1127) ((skL_6 1126 (by decide)).trans rfl),
  fun v0 v1 v2 q L st h => e_callV4 (F := mX1_meets) (kd := 16) (n := 1130) ((skL_6 1127 (by decide)).trans rfl),
  fun x0 x1 a L st h => e_ld2R (n := 1131) ((skL_6 1130 (by decide)).trans rfl),
  fun a L st h => e_ld0R (n := 1132) ((skL_6 1131 (by decide)).trans rfl),
  fun x0 x1 x2 x3 a L st h => e_ld4I (n := 1134) ((skL_6 1132 (by decide)).trans rfl),
  fun L st h => e_push (v := zvi 1) (n := 1135) ((skL_6 1134 (by decide)).trans rfl),
  fun a b L st h => e_bin (f := (fun a b => w32 (a + b))) (n := 1136) ((skL_6 1135 (by decide)).trans rfl),
  fun j q L st h => e_ald (kd := 1) (n := 1137) ((skL_6 1136 (by decide)).trans rfl),
  fun a L st h => e_ld0R (n := 1138) ((skL_6 1137 (by decide)).trans rfl),
  fun x0 x1 x2 x3 a L st h => e_ld4I (n := 1140) ((skL_6 1138 (by decide)).trans rfl),
  fun L st h => e_push (v := zvi 2) (n := 1141) ((skL_7 1140 (by decide)).trans rfl),
  fun a b L st h => e_bin (f := (fun a b => w32 (a + b))) (n := 1142) ((skL_7 1141 (by decide)).trans rfl),
  fun j q L st h => e_ald (kd := 1) (n := 1143) ((skL_7 1142 (by decide)).trans rfl),
  fun a L st h => e_ld0R (n := 1144) ((skL_7 1143 (by decide)).trans rfl),
  fun x0 x1 x2 x3 a L st h => e_ld4I (n := 1146) ((skL_7 1144 (by decide)).trans rfl),
  fun L st h => e_push (v := zvi 3) (n := 1147) ((skL_7 1146 (by decide)).trans rfl),
  fun a b L st h => e_bin (f := (fun a b => w32 (a + b))) (n := 1148) ((skL_7 1147 (by decide)).trans rfl),
  fun j q L st h => e_ald (kd := 1) (n := 1149) ((skL_7 1148 (by decide)).trans rfl),
  fun v0 v1 v2 q L st h => e_callV4 (F := mX4_meets) (kd := 18) (n := 1152) ((skL_7 1149 (by decide)).trans rfl),
  fun a b L st h => e_cmpeq (t := 2172) (n := 1155) ((skL_7 1152 (by decide)).trans rfl),
  fun L st h => e_push (v := zvi 0) (n := 1156) ((skL_7 1155 (by decide)).trans rfl),
  fun a L h => e_retz ((skL_7 1156 (by decide)).trans rfl)⟩
theorem rL_law_21 : (∀ (x0 : ZV) (a : Option Nat) (L st : List ZV) (h : PH), zev kL_law 1157 (x0 :: zvr a :: L) st h = zev kL_law 1158 (x0 :: zvr a :: L) (zvr a :: st) h) ∧
  (∀ (a : Option Nat) (L st : List ZV) (h : PH), zev kL_law 1158 (zvr a :: L) st h = zev kL_law 1159 (zvr a :: L) (zvr a :: st) h) ∧
  (∀ (x0 x1 x2 x3 : ZV) (a : Int) (L st : List ZV) (h : PH), zev kL_law 1159 (x0 :: x1 :: x2 :: x3 :: zvi a :: L) st h = zev kL_law 1161 (x0 :: x1 :: x2 :: x3 :: zvi a :: L) (zvi a :: st) h) ∧
  (∀ (L st : List ZV) (h : PH), zev kL_law 1161 L st h = zev kL_law 1162 L (zvi 1 :: st) h) ∧
  (∀ (a b : Int) (L st : List ZV) (h : PH), zev kL_law 1162 L (zvi b :: zvi a :: st) h = zev kL_law 1163 L (zvi (w32 (a + b)) :: st) h) ∧
  (∀ (j : Int) (q : Nat) (L st : List ZV) (h : PH), zev kL_law 1163 L (zvi j :: zvr (some q) :: st) h = if (ph_K h q).1 % 1000 = 1 ∧ 0 ≤ j ∧ j < (ph_K h q).2 then zev kL_law 1164 L (zvi (ph_I h q j) :: st) h else none) ∧
  (∀ (a : Option Nat) (L st : List ZV) (h : PH), zev kL_law 1164 (zvr a :: L) st h = zev kL_law 1165 (zvr a :: L) (zvr a :: st) h) ∧
  (∀ (x0 x1 x2 x3 : ZV) (a : Int) (L st : List ZV) (h : PH), zev kL_law 1165 (x0 :: x1 :: x2 :: x3 :: zvi a :: L) st h = zev kL_law 1167 (x0 :: x1 :: x2 :: x3 :: zvi a :: L) (zvi a :: st) h) ∧
  (∀ (L st : List ZV) (h : PH), zev kL_law 1167 L st h = zev kL_law 1168 L (zvi 2 :: st) h) ∧
  (∀ (a b : Int) (L st : List ZV) (h : PH), zev kL_law 1168 L (zvi b :: zvi a :: st) h = zev kL_law 1169 L (zvi (w32 (a + b)) :: st) h) ∧
  (∀ (j : Int) (q : Nat) (L st : List ZV) (h : PH), zev kL_law 1169 L (zvi j :: zvr (some q) :: st) h = if (ph_K h q).1 % 1000 = 1 ∧ 0 ≤ j ∧ j < (ph_K h q).2 then zev kL_law 1170 L (zvi (ph_I h q j) :: st) h else none) ∧
  (∀ (a : Option Nat) (L st : List ZV) (h : PH), zev kL_law 1170 (zvr a :: L) st h = zev kL_law 1171 (zvr a :: L) (zvr a :: st) h) ∧
  (∀ (x0 x1 x2 x3 : ZV) (a : Int) (L st : List ZV) (h : PH), zev kL_law 1171 (x0 :: x1 :: x2 :: x3 :: zvi a :: L) st h = zev kL_law 1173 (x0 :: x1 :: x2 :: x3 :: zvi a :: L) (zvi a :: st) h) ∧
  (∀ (L st : List ZV) (h : PH), zev kL_law 1173 L st h = zev kL_law 1174 L (zvi 3 :: st) h) ∧
  (∀ (a b : Int) (L st : List ZV) (h : PH), zev kL_law 1174 L (zvi b :: zvi a :: st) h = zev kL_law 1175 L (zvi (w32 (a + b)) :: st) h) ∧
  (∀ (j : Int) (q : Nat) (L st : List ZV) (h : PH), zev kL_law 1175 L (zvi j :: zvr (some q) :: st) h = if (ph_K h q).1 % 1000 = 1 ∧ 0 ≤ j ∧ j < (ph_K h q).2 then zev kL_law 1176 L (zvi (ph_I h q j) :: st) h else none) ∧
  (∀ (a : Option Nat) (L st : List ZV) (h : PH), zev kL_law 1176 (zvr a :: L) st h = zev kL_law 1177 (zvr a :: L) (zvr a :: st) h) ∧
  (∀ (x0 x1 x2 x3 : ZV) (a : Int) (L st : List ZV) (h : PH), zev kL_law 1177 (x0 :: x1 :: x2 :: x3 :: zvi a :: L) st h = zev kL_law 1179 (x0 :: x1 :: x2 :: x3 :: zvi a :: L) (zvi a :: st) h) ∧
  (∀ (L st : List ZV) (h : PH), zev kL_law 1179 L st h = zev kL_law 1180 L (zvi 4 :: st) h) ∧
  (∀ (a b : Int) (L st : List ZV) (h : PH), zev kL_law 1180 L (zvi b :: zvi a :: st) h = zev kL_law 1181 L (zvi (w32 (a + b)) :: st) h) ∧
  (∀ (j : Int) (q : Nat) (L st : List ZV) (h : PH), zev kL_law 1181 L (zvi j :: zvr (some q) :: st) h = if (ph_K h q).1 % 1000 = 1 ∧ 0 ≤ j ∧ j < (ph_K h q).2 then zev kL_law 1182 L (zvi (ph_I h q j) :: st) h else none) ∧
  (∀ (v0 v1 v2 v3 : ZV) (q : Nat) (L st : List ZV) (h : PH), zev kL_law 1182 L (v3 :: v2 :: v1 :: v0 :: zvr (some q) :: st) h = if (ph_K h q).1 % 1000 = 16 ∧ zcat st ≤ 8 then zk kL_law 1182 1185 L st (mX1_round [zvr (some q), v0, v1, v2, v3] h) else none) ∧
  (∀ (x0 x1 : ZV) (a : Option Nat) (L st : List ZV) (h : PH), zev kL_law 1185 (x0 :: x1 :: zvr a :: L) st h = zev kL_law 1186 (x0 :: x1 :: zvr a :: L) (zvr a :: st) h) ∧
  (∀ (a : Option Nat) (L st : List ZV) (h : PH), zev kL_law 1186 (zvr a :: L) st h = zev kL_law 1187 (zvr a :: L) (zvr a :: st) h) ∧
  (∀ (x0 x1 x2 x3 : ZV) (a : Int) (L st : List ZV) (h : PH), zev kL_law 1187 (x0 :: x1 :: x2 :: x3 :: zvi a :: L) st h = zev kL_law 1189 (x0 :: x1 :: x2 :: x3 :: zvi a :: L) (zvi a :: st) h) ∧
  (∀ (L st : List ZV) (h : PH), zev kL_law 1189 L st h = zev kL_law 1190 L (zvi 1 :: st) h) ∧
  (∀ (a b : Int) (L st : List ZV) (h : PH), zev kL_law 1190 L (zvi b :: zvi a :: st) h = zev kL_law 1191 L (zvi (w32 (a + b)) :: st) h) ∧
  (∀ (j : Int) (q : Nat) (L st : List ZV) (h : PH), zev kL_law 1191 L (zvi j :: zvr (some q) :: st) h = if (ph_K h q).1 % 1000 = 1 ∧ 0 ≤ j ∧ j < (ph_K h q).2 then zev kL_law 1192 L (zvi (ph_I h q j) :: st) h else none) ∧
  (∀ (a : Option Nat) (L st : List ZV) (h : PH), zev kL_law 1192 (zvr a :: L) st h = zev kL_law 1193 (zvr a :: L) (zvr a :: st) h) ∧
  (∀ (x0 x1 x2 x3 : ZV) (a : Int) (L st : List ZV) (h : PH), zev kL_law 1193 (x0 :: x1 :: x2 :: x3 :: zvi a :: L) st h = zev kL_law 1195 (x0 :: x1 :: x2 :: x3 :: zvi a :: L) (zvi a :: st) h) ∧
  (∀ (L st : List ZV) (h : PH), zev kL_law 1195 L st h = zev kL_law 1196 L (zvi 2 :: st) h) ∧
  (∀ (a b : Int) (L st : List ZV) (h : PH), zev kL_law 1196 L (zvi b :: zvi a :: st) h = zev kL_law 1197 L (zvi (w32 (a + b)) :: st) h) ∧
  (∀ (j : Int) (q : Nat) (L st : List ZV) (h : PH), zev kL_law 1197 L (zvi j :: zvr (some q) :: st) h = if (ph_K h q).1 % 1000 = 1 ∧ 0 ≤ j ∧ j < (ph_K h q).2 then zev kL_law 1198 L (zvi (ph_I h q j) :: st) h else none) ∧
  (∀ (a : Option Nat) (L st : List ZV) (h : PH), zev kL_law 1198 (zvr a :: L) st h = zev kL_law 1199 (zvr a :: L) (zvr a :: st) h) ∧
  (∀ (x0 x1 x2 x3 : ZV) (a : Int) (L st : List ZV) (h : PH), zev kL_law 1199 (x0 :: x1 :: x2 :: x3 :: zvi a :: L) st h = zev kL_law 1201 (x0 :: x1 :: x2 :: x3 :: zvi a :: L) (zvi a :: st) h) ∧
  (∀ (L st : List ZV) (h : PH), zev kL_law 1201 L st h = zev kL_law 1202 L (zvi 3 :: st) h) ∧
  (∀ (a b : Int) (L st : List ZV) (h : PH), zev kL_law 1202 L (zvi b :: zvi a :: st) h = zev kL_law 1203 L (zvi (w32 (a + b)) :: st) h) ∧
  (∀ (j : Int) (q : Nat) (L st : List ZV) (h : PH), zev kL_law 1203 L (zvi j :: zvr (some q) :: st) h = if (ph_K h q).1 % 1000 = 1 ∧ 0 ≤ j ∧ j < (ph_K h q).2 then zev kL_law 1204 L (zvi (ph_I h q j) :: st) h else none) ∧
  (∀ (a : Option Nat) (L st : List ZV) (h : PH), zev kL_law 1204 (zvr a :: L) st h = zev kL_law 1205 (zvr a :: L) (zvr a :: st) h) ∧
  (∀ (x0 x1 x2 x3 : ZV) (a : Int) (L st : List ZV) (h : PH), zev kL_law 1205 (x0 :: x1 :: x2 :: x3 :: zvi a :: L) st h = zev kL_law 1207 (x0 :: x1 :: x2 :: x3 :: zvi a :: L) (zvi a :: st) h) ∧
  (∀ (L st : List ZV) (h : PH), zev kL_law 1207 L st h = zev kL_law 1208 L (zvi 4 :: st) h) ∧
  (∀ (a b : Int) (L st : List ZV) (h : PH), zev kL_law 1208 L (zvi b :: zvi a :: st) h = zev kL_law 1209 L (zvi (w32 (a + b)) :: st) h) ∧
  (∀ (j : Int) (q : Nat) (L st : List ZV) (h : PH), zev kL_law 1209 L (zvi j :: zvr (some q) :: st) h = if (ph_K h q).1 % 1000 = 1 ∧ 0 ≤ j ∧ j < (ph_K h q).2 then zev kL_law 1210 L (zvi (ph_I h q j) :: st) h else none) ∧
  (∀ (v0 v1 v2 v3 : ZV) (q : Nat) (L st : List ZV) (h : PH), zev kL_law 1210 L (v3 :: v2 :: v1 :: v0 :: zvr (some q) :: st) h = if (ph_K h q).1 % 1000 = 18 ∧ zcat st ≤ 8 then zk kL_law 1210 1213 L st (mX4_round [zvr (some q), v0, v1, v2, v3] h) else none) ∧
  (∀ (a b : Int) (L st : List ZV) (h : PH), zev kL_law 1213 L (zvi b :: zvi a :: st) h = if a = b then zev kL_law 2172 L st h else zev kL_law 1216 L st h) ∧
  (∀ (L st : List ZV) (h : PH), zev kL_law 1216 L st h = zev kL_law 1217 L (zvi 0 :: st) h) ∧
  (∀ (a : Int) (L : List ZV) (h : PH), zev kL_law 1217 L [zvi a] h = if a = 0 ∨ a = 1 then zrv (zvi a) h else none) :=
  ⟨fun x0 a L st h => e_ld1R (n := 1158) ((skL_7 1157 (by decide)).trans rfl),
  fun a L st h => e_ld0R (n := 1159) ((skL_7 1158 (by decide)).trans rfl),
  fun x0 x1 x2 x3 a L st h => e_ld4I (n := 1161) ((skL_7 1159 (by decide)).trans rfl),
  fun L st h => e_push (v := zvi 1) (n := 1162) ((skL_7 1161 (by decide)).trans rfl),
  fun a b L st h => e_bin (f := (fun a b => w32 (a + b))) (n := 1163) ((skL_7 1162 (by decide)).trans rfl),
  fun j q L st h => e_ald (kd := 1) (n := 1164) ((skL_7 1163 (by decide)).trans rfl),
  fun a L st h => e_ld0R (n := 1165) ((skL_7 1164 (by decide)).trans rfl),
  fun x0 x1 x2 x3 a L st h => e_ld4I (n := 1167) ((skL_7 1165 (by decide)).trans rfl),
  fun L st h => e_push (v := zvi 2) (n := 1168) ((skL_7 1167 (by decide)).trans rfl),
  fun a b L st h => e_bin (f := (fun a b => w32 (a + b))) (n := 1169) ((skL_7 1168 (by decide)).trans rfl),
  fun j q L st h => e_ald (kd := 1) (n := 1170) ((skL_7 1169 (by decide)).trans rfl),
  fun a L st h => e_ld0R (n := 1171) ((skL_7 1170 (by decide)).trans rfl),
  fun x0 x1 x2 x3 a L st h => e_ld4I (n := 1173) ((skL_7 1171 (by decide)).trans rfl),
  fun L st h => e_push (v := zvi 3) (n := 1174) ((skL_7 1173 (by decide)).trans rfl),
  fun a b L st h => e_bin (f := (fun a b => w32 (a + b))) (n := 1175) ((skL_7 1174 (by decide)).trans rfl),
  fun j q L st h => e_ald (kd := 1) (n := 1176) ((skL_7 1175 (by decide)).trans rfl),
  fun a L st h => e_ld0R (n := 1177) ((skL_7 1176 (by decide)).trans rfl),
  fun x0 x1 x2 x3 a L st h => e_ld4I (n := 1179) ((skL_7 1177 (by decide)).trans rfl),
  fun L st h => e_push (v := zvi 4) (n := 1180) ((skL_7 1179 (by decide)).trans rfl),
  fun a b L st h => e_bin (f := (fun a b => w32 (a + b))) (n := 1181) ((skL_7 1180 (by decide)).trans rfl),
  fun j q L st h => e_ald (kd := 1) (n := 1182) ((skL_7 1181 (by decide)).trans rfl),
  fun v0 v1 v2 v3 q L st h => e_callV5 (F := mX1_round) (kd := 16) (n := 1185) ((skL_7 1182 (by decide)).trans rfl),
  fun x0 x1 a L st h => e_ld2R (n := 1186) ((skL_7 1185 (by decide)).trans rfl),
  fun a L st h => e_ld0R (n := 1187) ((skL_7 1186 (by decide)).trans rfl),
  fun x0 x1 x2 x3 a L st h => e_ld4I (n := 1189) ((skL_7 1187 (by decide)).trans rfl),
  fun L st h => e_push (v := zvi 1) (n := 1190) ((skL_7 1189 (by decide)).trans rfl),
  fun a b L st h => e_bin (f := (fun a b => w32 (a + b))) (n := 1191) ((skL_7 1190 (by decide)).trans rfl),
  fun j q L st h => e_ald (kd := 1) (n := 1192) ((skL_7 1191 (by decide)).trans rfl),
  fun a L st h => e_ld0R (n := 1193) ((skL_7 1192 (by decide)).trans rfl),
  fun x0 x1 x2 x3 a L st h => e_ld4I (n := 1195) ((skL_7 1193 (by decide)).trans rfl),
  fun L st h => e_push (v := zvi 2) (n := 1196) ((skL_7 1195 (by decide)).trans rfl),
  fun a b L st h => e_bin (f := (fun a b => w32 (a + b))) (n := 1197) ((skL_7 1196 (by decide)).trans rfl),
  fun j q L st h => e_ald (kd := 1) (n := 1198) ((skL_7 1197 (by decide)).trans rfl),
  fun a L st h => e_ld0R (n := 1199) ((skL_7 1198 (by decide)).trans rfl),
  fun x0 x1 x2 x3 a L st h => e_ld4I (n := 1201) ((skL_7 1199 (by decide)).trans rfl),
  fun L st h => e_push (v := zvi 3) (n := 1202) ((skL_7 1201 (by decide)).trans rfl),
  fun a b L st h => e_bin (f := (fun a b => w32 (a + b))) (n := 1203) ((skL_7 1202 (by decide)).trans rfl),
  fun j q L st h => e_ald (kd := 1) (n := 1204) ((skL_7 1203 (by decide)).trans rfl),
  fun a L st h => e_ld0R (n := 1205) ((skL_7 1204 (by decide)).trans rfl),
  fun x0 x1 x2 x3 a L st h => e_ld4I (n := 1207) ((skL_7 1205 (by decide)).trans rfl),
  fun L st h => e_push (v := zvi 4) (n := 1208) ((skL_7 1207 (by decide)).trans rfl),
  fun a b L st h => e_bin (f := (fun a b => w32 (a + b))) (n := 1209) ((skL_7 1208 (by decide)).trans rfl),
  fun j q L st h => e_ald (kd := 1) (n := 1210) ((skL_7 1209 (by decide)).trans rfl),
  fun v0 v1 v2 v3 q L st h => e_callV5 (F := mX4_round) (kd := 18) (n := 1213) ((skL_7 1210 (by decide)).trans rfl),
  fun a b L st h => e_cmpeq (t := 2172) (n := 1216) ((skL_7 1213 (by decide)).trans rfl),
  fun L st h => e_push (v := zvi 0) (n := 1217) ((skL_7 1216 (by decide)).trans rfl),
  fun a L h => e_retz ((skL_7 1217 (by decide)).trans rfl)⟩
theorem rL_law_22 : (∀ (x0 : ZV) (a : Option Nat) (L st : List ZV) (h : PH), zev kL_law 1218 (x0 :: zvr a :: L) st h = zev kL_law 1219 (x0 :: zvr a :: L) (zvr a :: st) h) ∧
  (∀ (a : Option Nat) (L st : List ZV) (h : PH), zev kL_law 1219 (zvr a :: L) st h = zev kL_law 1220 (zvr a :: L) (zvr a :: st) h) ∧
  (∀ (x0 x1 x2 x3 : ZV) (a : Int) (L st : List ZV) (h : PH), zev kL_law 1220 (x0 :: x1 :: x2 :: x3 :: zvi a :: L) st h = zev kL_law 1222 (x0 :: x1 :: x2 :: x3 :: zvi a :: L) (zvi a :: st) h) ∧
  (∀ (L st : List ZV) (h : PH), zev kL_law 1222 L st h = zev kL_law 1223 L (zvi 1 :: st) h) ∧
  (∀ (a b : Int) (L st : List ZV) (h : PH), zev kL_law 1223 L (zvi b :: zvi a :: st) h = zev kL_law 1224 L (zvi (w32 (a + b)) :: st) h) ∧
  (∀ (j : Int) (q : Nat) (L st : List ZV) (h : PH), zev kL_law 1224 L (zvi j :: zvr (some q) :: st) h = if (ph_K h q).1 % 1000 = 1 ∧ 0 ≤ j ∧ j < (ph_K h q).2 then zev kL_law 1225 L (zvi (ph_I h q j) :: st) h else none) ∧
  (∀ (a : Option Nat) (L st : List ZV) (h : PH), zev kL_law 1225 (zvr a :: L) st h = zev kL_law 1226 (zvr a :: L) (zvr a :: st) h) ∧
  (∀ (x0 x1 x2 x3 : ZV) (a : Int) (L st : List ZV) (h : PH), zev kL_law 1226 (x0 :: x1 :: x2 :: x3 :: zvi a :: L) st h = zev kL_law 1228 (x0 :: x1 :: x2 :: x3 :: zvi a :: L) (zvi a :: st) h) ∧
  (∀ (L st : List ZV) (h : PH), zev kL_law 1228 L st h = zev kL_law 1229 L (zvi 2 :: st) h) ∧
  (∀ (a b : Int) (L st : List ZV) (h : PH), zev kL_law 1229 L (zvi b :: zvi a :: st) h = zev kL_law 1230 L (zvi (w32 (a + b)) :: st) h) ∧
  (∀ (j : Int) (q : Nat) (L st : List ZV) (h : PH), zev kL_law 1230 L (zvi j :: zvr (some q) :: st) h = if (ph_K h q).1 % 1000 = 1 ∧ 0 ≤ j ∧ j < (ph_K h q).2 then zev kL_law 1231 L (zvi (ph_I h q j) :: st) h else none) ∧
  (∀ (v0 v1 : ZV) (q : Nat) (L st : List ZV) (h : PH), zev kL_law 1231 L (v1 :: v0 :: zvr (some q) :: st) h = if (ph_K h q).1 % 1000 = 16 ∧ zcat st ≤ 8 then zk kL_law 1231 1234 L st (mX1_steps [zvr (some q), v0, v1] h) else none) ∧
  (∀ (x0 x1 : ZV) (a : Option Nat) (L st : List ZV) (h : PH), zev kL_law 1234 (x0 :: x1 :: zvr a :: L) st h = zev kL_law 1235 (x0 :: x1 :: zvr a :: L) (zvr a :: st) h) ∧
  (∀ (a : Option Nat) (L st : List ZV) (h : PH), zev kL_law 1235 (zvr a :: L) st h = zev kL_law 1236 (zvr a :: L) (zvr a :: st) h) ∧
  (∀ (x0 x1 x2 x3 : ZV) (a : Int) (L st : List ZV) (h : PH), zev kL_law 1236 (x0 :: x1 :: x2 :: x3 :: zvi a :: L) st h = zev kL_law 1238 (x0 :: x1 :: x2 :: x3 :: zvi a :: L) (zvi a :: st) h) ∧
  (∀ (L st : List ZV) (h : PH), zev kL_law 1238 L st h = zev kL_law 1239 L (zvi 1 :: st) h) ∧
  (∀ (a b : Int) (L st : List ZV) (h : PH), zev kL_law 1239 L (zvi b :: zvi a :: st) h = zev kL_law 1240 L (zvi (w32 (a + b)) :: st) h) ∧
  (∀ (j : Int) (q : Nat) (L st : List ZV) (h : PH), zev kL_law 1240 L (zvi j :: zvr (some q) :: st) h = if (ph_K h q).1 % 1000 = 1 ∧ 0 ≤ j ∧ j < (ph_K h q).2 then zev kL_law 1241 L (zvi (ph_I h q j) :: st) h else none) ∧
  (∀ (a : Option Nat) (L st : List ZV) (h : PH), zev kL_law 1241 (zvr a :: L) st h = zev kL_law 1242 (zvr a :: L) (zvr a :: st) h) ∧
  (∀ (x0 x1 x2 x3 : ZV) (a : Int) (L st : List ZV) (h : PH), zev kL_law 1242 (x0 :: x1 :: x2 :: x3 :: zvi a :: L) st h = zev kL_law 1244 (x0 :: x1 :: x2 :: x3 :: zvi a :: L) (zvi a :: st) h) ∧
  (∀ (L st : List ZV) (h : PH), zev kL_law 1244 L st h = zev kL_law 1245 L (zvi 2 :: st) h) ∧
  (∀ (a b : Int) (L st : List ZV) (h : PH), zev kL_law 1245 L (zvi b :: zvi a :: st) h = zev kL_law 1246 L (zvi (w32 (a + b)) :: st) h) ∧
  (∀ (j : Int) (q : Nat) (L st : List ZV) (h : PH), zev kL_law 1246 L (zvi j :: zvr (some q) :: st) h = if (ph_K h q).1 % 1000 = 1 ∧ 0 ≤ j ∧ j < (ph_K h q).2 then zev kL_law 1247 L (zvi (ph_I h q j) :: st) h else none) ∧
  (∀ (v0 v1 : ZV) (q : Nat) (L st : List ZV) (h : PH), zev kL_law 1247 L (v1 :: v0 :: zvr (some q) :: st) h = if (ph_K h q).1 % 1000 = 18 ∧ zcat st ≤ 8 then zk kL_law 1247 1250 L st (mX4_steps [zvr (some q), v0, v1] h) else none) ∧
  (∀ (a b : Int) (L st : List ZV) (h : PH), zev kL_law 1250 L (zvi b :: zvi a :: st) h = if a = b then zev kL_law 2172 L st h else zev kL_law 1253 L st h) ∧
  (∀ (L st : List ZV) (h : PH), zev kL_law 1253 L st h = zev kL_law 1254 L (zvi 0 :: st) h) ∧
  (∀ (a : Int) (L : List ZV) (h : PH), zev kL_law 1254 L [zvi a] h = if a = 0 ∨ a = 1 then zrv (zvi a) h else none) :=
  ⟨fun x0 a L st h => e_ld1R (n := 1219) ((skL_7 1218 (by decide)).trans rfl),
  fun a L st h => e_ld0R (n := 1220) ((skL_7 1219 (by decide)).trans rfl),
  fun x0 x1 x2 x3 a L st h => e_ld4I (n := 1222) ((skL_7 1220 (by decide)).trans rfl),
  fun L st h => e_push (v := zvi 1) (n := 1223) ((skL_7 1222 (by decide)).trans rfl),
  fun a b L st h => e_bin (f := (fun a b => w32 (a + b))) (n := 1224) ((skL_7 1223 (by decide)).trans rfl),
  fun j q L st h => e_ald (kd := 1) (n := 1225) ((skL_7 1224 (by decide)).trans rfl),
  fun a L st h => e_ld0R (n := 1226) ((skL_7 1225 (by decide)).trans rfl),
  fun x0 x1 x2 x3 a L st h => e_ld4I (n := 1228) ((skL_7 1226 (by decide)).trans rfl),
  fun L st h => e_push (v := zvi 2) (n := 1229) ((skL_7 1228 (by decide)).trans rfl),
  fun a b L st h => e_bin (f := (fun a b => w32 (a + b))) (n := 1230) ((skL_7 1229 (by decide)).trans rfl),
  fun j q L st h => e_ald (kd := 1) (n := 1231) ((skL_7 1230 (by decide)).trans rfl),
  fun v0 v1 q L st h => e_callV3 (F := mX1_steps) (kd := 16) (n := 1234) ((skL_7 1231 (by decide)).trans rfl),
  fun x0 x1 a L st h => e_ld2R (n := 1235) ((skL_7 1234 (by decide)).trans rfl),
  fun a L st h => e_ld0R (n := 1236) ((skL_7 1235 (by decide)).trans rfl),
  fun x0 x1 x2 x3 a L st h => e_ld4I (n := 1238) ((skL_7 1236 (by decide)).trans rfl),
  fun L st h => e_push (v := zvi 1) (n := 1239) ((skL_7 1238 (by decide)).trans rfl),
  fun a b L st h => e_bin (f := (fun a b => w32 (a + b))) (n := 1240) ((skL_7 1239 (by decide)).trans rfl),
  fun j q L st h => e_ald (kd := 1) (n := 1241) ((skL_7 1240 (by decide)).trans rfl),
  fun a L st h => e_ld0R (n := 1242) ((skL_7 1241 (by decide)).trans rfl),
  fun x0 x1 x2 x3 a L st h => e_ld4I (n := 1244) ((skL_7 1242 (by decide)).trans rfl),
  fun L st h => e_push (v := zvi 2) (n := 1245) ((skL_7 1244 (by decide)).trans rfl),
  fun a b L st h => e_bin (f := (fun a b => w32 (a + b))) (n := 1246) ((skL_7 1245 (by decide)).trans rfl),
  fun j q L st h => e_ald (kd := 1) (n := 1247) ((skL_7 1246 (by decide)).trans rfl),
  fun v0 v1 q L st h => e_callV3 (F := mX4_steps) (kd := 18) (n := 1250) ((skL_7 1247 (by decide)).trans rfl),
  fun a b L st h => e_cmpeq (t := 2172) (n := 1253) ((skL_7 1250 (by decide)).trans rfl),
  fun L st h => e_push (v := zvi 0) (n := 1254) ((skL_7 1253 (by decide)).trans rfl),
  fun a L h => e_retz ((skL_7 1254 (by decide)).trans rfl)⟩
theorem rL_law_23 : (∀ (x0 : ZV) (a : Option Nat) (L st : List ZV) (h : PH), zev kL_law 1255 (x0 :: zvr a :: L) st h = zev kL_law 1256 (x0 :: zvr a :: L) (zvr a :: st) h) ∧
  (∀ (a : Option Nat) (L st : List ZV) (h : PH), zev kL_law 1256 (zvr a :: L) st h = zev kL_law 1257 (zvr a :: L) (zvr a :: st) h) ∧
  (∀ (x0 x1 x2 x3 : ZV) (a : Int) (L st : List ZV) (h : PH), zev kL_law 1257 (x0 :: x1 :: x2 :: x3 :: zvi a :: L) st h = zev kL_law 1259 (x0 :: x1 :: x2 :: x3 :: zvi a :: L) (zvi a :: st) h) ∧
  (∀ (L st : List ZV) (h : PH), zev kL_law 1259 L st h = zev kL_law 1260 L (zvi 1 :: st) h) ∧
  (∀ (a b : Int) (L st : List ZV) (h : PH), zev kL_law 1260 L (zvi b :: zvi a :: st) h = zev kL_law 1261 L (zvi (w32 (a + b)) :: st) h) ∧
  (∀ (j : Int) (q : Nat) (L st : List ZV) (h : PH), zev kL_law 1261 L (zvi j :: zvr (some q) :: st) h = if (ph_K h q).1 % 1000 = 1 ∧ 0 ≤ j ∧ j < (ph_K h q).2 then zev kL_law 1262 L (zvi (ph_I h q j) :: st) h else none) ∧
  (∀ (a : Option Nat) (L st : List ZV) (h : PH), zev kL_law 1262 (zvr a :: L) st h = zev kL_law 1263 (zvr a :: L) (zvr a :: st) h) ∧
  (∀ (x0 x1 x2 x3 : ZV) (a : Int) (L st : List ZV) (h : PH), zev kL_law 1263 (x0 :: x1 :: x2 :: x3 :: zvi a :: L) st h = zev kL_law 1265 (x0 :: x1 :: x2 :: x3 :: zvi a :: L) (zvi a :: st) h) ∧
  (∀ (L st : List ZV) (h : PH), zev kL_law 1265 L st h = zev kL_law 1266 L (zvi 2 :: st) h) ∧
  (∀ (a b : Int) (L st : List ZV) (h : PH), zev kL_law 1266 L (zvi b :: zvi a :: st) h = zev kL_law 1267 L (zvi (w32 (a + b)) :: st) h) ∧
  (∀ (j : Int) (q : Nat) (L st : List ZV) (h : PH), zev kL_law 1267 L (zvi j :: zvr (some q) :: st) h = if (ph_K h q).1 % 1000 = 1 ∧ 0 ≤ j ∧ j < (ph_K h q).2 then zev kL_law 1268 L (zvi (ph_I h q j) :: st) h else none) ∧
  (∀ (a : Option Nat) (L st : List ZV) (h : PH), zev kL_law 1268 (zvr a :: L) st h = zev kL_law 1269 (zvr a :: L) (zvr a :: st) h) ∧
  (∀ (x0 x1 x2 x3 : ZV) (a : Int) (L st : List ZV) (h : PH), zev kL_law 1269 (x0 :: x1 :: x2 :: x3 :: zvi a :: L) st h = zev kL_law 1271 (x0 :: x1 :: x2 :: x3 :: zvi a :: L) (zvi a :: st) h) ∧
  (∀ (L st : List ZV) (h : PH), zev kL_law 1271 L st h = zev kL_law 1272 L (zvi 3 :: st) h) ∧
  (∀ (a b : Int) (L st : List ZV) (h : PH), zev kL_law 1272 L (zvi b :: zvi a :: st) h = zev kL_law 1273 L (zvi (w32 (a + b)) :: st) h) ∧
  (∀ (j : Int) (q : Nat) (L st : List ZV) (h : PH), zev kL_law 1273 L (zvi j :: zvr (some q) :: st) h = if (ph_K h q).1 % 1000 = 1 ∧ 0 ≤ j ∧ j < (ph_K h q).2 then zev kL_law 1274 L (zvi (ph_I h q j) :: st) h else none) ∧
  (∀ (a : Option Nat) (L st : List ZV) (h : PH), zev kL_law 1274 (zvr a :: L) st h = zev kL_law 1275 (zvr a :: L) (zvr a :: st) h) ∧
  (∀ (x0 x1 x2 x3 : ZV) (a : Int) (L st : List ZV) (h : PH), zev kL_law 1275 (x0 :: x1 :: x2 :: x3 :: zvi a :: L) st h = zev kL_law 1277 (x0 :: x1 :: x2 :: x3 :: zvi a :: L) (zvi a :: st) h) ∧
  (∀ (L st : List ZV) (h : PH), zev kL_law 1277 L st h = zev kL_law 1278 L (zvi 4 :: st) h) ∧
  (∀ (a b : Int) (L st : List ZV) (h : PH), zev kL_law 1278 L (zvi b :: zvi a :: st) h = zev kL_law 1279 L (zvi (w32 (a + b)) :: st) h) ∧
  (∀ (j : Int) (q : Nat) (L st : List ZV) (h : PH), zev kL_law 1279 L (zvi j :: zvr (some q) :: st) h = if (ph_K h q).1 % 1000 = 1 ∧ 0 ≤ j ∧ j < (ph_K h q).2 then zev kL_law 1280 L (zvi (ph_I h q j) :: st) h else none) ∧
  (∀ (v0 v1 v2 v3 : ZV) (q : Nat) (L st : List ZV) (h : PH), zev kL_law 1280 L (v3 :: v2 :: v1 :: v0 :: zvr (some q) :: st) h = if (ph_K h q).1 % 1000 = 16 ∧ zcat st ≤ 8 then zk kL_law 1280 1283 L st (mX1_step [zvr (some q), v0, v1, v2, v3] h) else none) ∧
  (∀ (x0 x1 : ZV) (a : Option Nat) (L st : List ZV) (h : PH), zev kL_law 1283 (x0 :: x1 :: zvr a :: L) st h = zev kL_law 1284 (x0 :: x1 :: zvr a :: L) (zvr a :: st) h) ∧
  (∀ (a : Option Nat) (L st : List ZV) (h : PH), zev kL_law 1284 (zvr a :: L) st h = zev kL_law 1285 (zvr a :: L) (zvr a :: st) h) ∧
  (∀ (x0 x1 x2 x3 : ZV) (a : Int) (L st : List ZV) (h : PH), zev kL_law 1285 (x0 :: x1 :: x2 :: x3 :: zvi a :: L) st h = zev kL_law 1287 (x0 :: x1 :: x2 :: x3 :: zvi a :: L) (zvi a :: st) h) ∧
  (∀ (L st : List ZV) (h : PH), zev kL_law 1287 L st h = zev kL_law 1288 L (zvi 1 :: st) h) ∧
  (∀ (a b : Int) (L st : List ZV) (h : PH), zev kL_law 1288 L (zvi b :: zvi a :: st) h = zev kL_law 1289 L (zvi (w32 (a + b)) :: st) h) ∧
  (∀ (j : Int) (q : Nat) (L st : List ZV) (h : PH), zev kL_law 1289 L (zvi j :: zvr (some q) :: st) h = if (ph_K h q).1 % 1000 = 1 ∧ 0 ≤ j ∧ j < (ph_K h q).2 then zev kL_law 1290 L (zvi (ph_I h q j) :: st) h else none) ∧
  (∀ (a : Option Nat) (L st : List ZV) (h : PH), zev kL_law 1290 (zvr a :: L) st h = zev kL_law 1291 (zvr a :: L) (zvr a :: st) h) ∧
  (∀ (x0 x1 x2 x3 : ZV) (a : Int) (L st : List ZV) (h : PH), zev kL_law 1291 (x0 :: x1 :: x2 :: x3 :: zvi a :: L) st h = zev kL_law 1293 (x0 :: x1 :: x2 :: x3 :: zvi a :: L) (zvi a :: st) h) ∧
  (∀ (L st : List ZV) (h : PH), zev kL_law 1293 L st h = zev kL_law 1294 L (zvi 2 :: st) h) ∧
  (∀ (a b : Int) (L st : List ZV) (h : PH), zev kL_law 1294 L (zvi b :: zvi a :: st) h = zev kL_law 1295 L (zvi (w32 (a + b)) :: st) h) ∧
  (∀ (j : Int) (q : Nat) (L st : List ZV) (h : PH), zev kL_law 1295 L (zvi j :: zvr (some q) :: st) h = if (ph_K h q).1 % 1000 = 1 ∧ 0 ≤ j ∧ j < (ph_K h q).2 then zev kL_law 1296 L (zvi (ph_I h q j) :: st) h else none) ∧
  (∀ (a : Option Nat) (L st : List ZV) (h : PH), zev kL_law 1296 (zvr a :: L) st h = zev kL_law 1297 (zvr a :: L) (zvr a :: st) h) ∧
  (∀ (x0 x1 x2 x3 : ZV) (a : Int) (L st : List ZV) (h : PH), zev kL_law 1297 (x0 :: x1 :: x2 :: x3 :: zvi a :: L) st h = zev kL_law 1299 (x0 :: x1 :: x2 :: x3 :: zvi a :: L) (zvi a :: st) h) ∧
  (∀ (L st : List ZV) (h : PH), zev kL_law 1299 L st h = zev kL_law 1300 L (zvi 3 :: st) h) ∧
  (∀ (a b : Int) (L st : List ZV) (h : PH), zev kL_law 1300 L (zvi b :: zvi a :: st) h = zev kL_law 1301 L (zvi (w32 (a + b)) :: st) h) ∧
  (∀ (j : Int) (q : Nat) (L st : List ZV) (h : PH), zev kL_law 1301 L (zvi j :: zvr (some q) :: st) h = if (ph_K h q).1 % 1000 = 1 ∧ 0 ≤ j ∧ j < (ph_K h q).2 then zev kL_law 1302 L (zvi (ph_I h q j) :: st) h else none) ∧
  (∀ (a : Option Nat) (L st : List ZV) (h : PH), zev kL_law 1302 (zvr a :: L) st h = zev kL_law 1303 (zvr a :: L) (zvr a :: st) h) ∧
  (∀ (x0 x1 x2 x3 : ZV) (a : Int) (L st : List ZV) (h : PH), zev kL_law 1303 (x0 :: x1 :: x2 :: x3 :: zvi a :: L) st h = zev kL_law 1305 (x0 :: x1 :: x2 :: x3 :: zvi a :: L) (zvi a :: st) h) ∧
  (∀ (L st : List ZV) (h : PH), zev kL_law 1305 L st h = zev kL_law 1306 L (zvi 4 :: st) h) ∧
  (∀ (a b : Int) (L st : List ZV) (h : PH), zev kL_law 1306 L (zvi b :: zvi a :: st) h = zev kL_law 1307 L (zvi (w32 (a + b)) :: st) h) ∧
  (∀ (j : Int) (q : Nat) (L st : List ZV) (h : PH), zev kL_law 1307 L (zvi j :: zvr (some q) :: st) h = if (ph_K h q).1 % 1000 = 1 ∧ 0 ≤ j ∧ j < (ph_K h q).2 then zev kL_law 1308 L (zvi (ph_I h q j) :: st) h else none) ∧
  (∀ (v0 v1 v2 v3 : ZV) (q : Nat) (L st : List ZV) (h : PH), zev kL_law 1308 L (v3 :: v2 :: v1 :: v0 :: zvr (some q) :: st) h = if (ph_K h q).1 % 1000 = 18 ∧ zcat st ≤ 8 then zk kL_law 1308 1311 L st (mX4_step [zvr (some q), v0, v1, v2, v3] h) else none) ∧
  (∀ (a b : Int) (L st : List ZV) (h : PH), zev kL_law 1311 L (zvi b :: zvi a :: st) h = if a = b then zev kL_law 2172 L st h else zev kL_law 1314 L st h) ∧
  (∀ (L st : List ZV) (h : PH), zev kL_law 1314 L st h = zev kL_law 1315 L (zvi 0 :: st) h) ∧
  (∀ (a : Int) (L : List ZV) (h : PH), zev kL_law 1315 L [zvi a] h = if a = 0 ∨ a = 1 then zrv (zvi a) h else none) :=
  ⟨fun x0 a L st h => e_ld1R (n := 1256) ((skL_7 1255 (by decide)).trans rfl),
  fun a L st h => e_ld0R (n := 1257) ((skL_7 1256 (by decide)).trans rfl),
  fun x0 x1 x2 x3 a L st h => e_ld4I (n := 1259) ((skL_7 1257 (by decide)).trans rfl),
  fun L st h => e_push (v := zvi 1) (n := 1260) ((skL_7 1259 (by decide)).trans rfl),
  fun a b L st h => e_bin (f := (fun a b => w32 (a + b))) (n := 1261) ((skL_7 1260 (by decide)).trans rfl),
  fun j q L st h => e_ald (kd := 1) (n := 1262) ((skL_7 1261 (by decide)).trans rfl),
  fun a L st h => e_ld0R (n := 1263) ((skL_7 1262 (by decide)).trans rfl),
  fun x0 x1 x2 x3 a L st h => e_ld4I (n := 1265) ((skL_7 1263 (by decide)).trans rfl),
  fun L st h => e_push (v := zvi 2) (n := 1266) ((skL_7 1265 (by decide)).trans rfl),
  fun a b L st h => e_bin (f := (fun a b => w32 (a + b))) (n := 1267) ((skL_7 1266 (by decide)).trans rfl),
  fun j q L st h => e_ald (kd := 1) (n := 1268) ((skL_7 1267 (by decide)).trans rfl),
  fun a L st h => e_ld0R (n := 1269) ((skL_7 1268 (by decide)).trans rfl),
  fun x0 x1 x2 x3 a L st h => e_ld4I (n := 1271) ((skL_7 1269 (by decide)).trans rfl),
  fun L st h => e_push (v := zvi 3) (n := 1272) ((skL_7 1271 (by decide)).trans rfl),
  fun a b L st h => e_bin (f := (fun a b => w32 (a + b))) (n := 1273) ((skL_8 1272 (by decide)).trans rfl),
  fun j q L st h => e_ald (kd := 1) (n := 1274) ((skL_8 1273 (by decide)).trans rfl),
  fun a L st h => e_ld0R (n := 1275) ((skL_8 1274 (by decide)).trans rfl),
  fun x0 x1 x2 x3 a L st h => e_ld4I (n := 1277) ((skL_8 1275 (by decide)).trans rfl),
  fun L st h => e_push (v := zvi 4) (n := 1278) ((skL_8 1277 (by decide)).trans rfl),
  fun a b L st h => e_bin (f := (fun a b => w32 (a + b))) (n := 1279) ((skL_8 1278 (by decide)).trans rfl),
  fun j q L st h => e_ald (kd := 1) (n := 1280) ((skL_8 1279 (by decide)).trans rfl),
  fun v0 v1 v2 v3 q L st h => e_callV5 (F := mX1_step) (kd := 16) (n := 1283) ((skL_8 1280 (by decide)).trans rfl),
  fun x0 x1 a L st h => e_ld2R (n := 1284) ((skL_8 1283 (by decide)).trans rfl),
  fun a L st h => e_ld0R (n := 1285) ((skL_8 1284 (by decide)).trans rfl),
  fun x0 x1 x2 x3 a L st h => e_ld4I (n := 1287) ((skL_8 1285 (by decide)).trans rfl),
  fun L st h => e_push (v := zvi 1) (n := 1288) ((skL_8 1287 (by decide)).trans rfl),
  fun a b L st h => e_bin (f := (fun a b => w32 (a + b))) (n := 1289) ((skL_8 1288 (by decide)).trans rfl),
  fun j q L st h => e_ald (kd := 1) (n := 1290) ((skL_8 1289 (by decide)).trans rfl),
  fun a L st h => e_ld0R (n := 1291) ((skL_8 1290 (by decide)).trans rfl),
  fun x0 x1 x2 x3 a L st h => e_ld4I (n := 1293) ((skL_8 1291 (by decide)).trans rfl),
  fun L st h => e_push (v := zvi 2) (n := 1294) ((skL_8 1293 (by decide)).trans rfl),
  fun a b L st h => e_bin (f := (fun a b => w32 (a + b))) (n := 1295) ((skL_8 1294 (by decide)).trans rfl),
  fun j q L st h => e_ald (kd := 1) (n := 1296) ((skL_8 1295 (by decide)).trans rfl),
  fun a L st h => e_ld0R (n := 1297) ((skL_8 1296 (by decide)).trans rfl),
  fun x0 x1 x2 x3 a L st h => e_ld4I (n := 1299) ((skL_8 1297 (by decide)).trans rfl),
  fun L st h => e_push (v := zvi 3) (n := 1300) ((skL_8 1299 (by decide)).trans rfl),
  fun a b L st h => e_bin (f := (fun a b => w32 (a + b))) (n := 1301) ((skL_8 1300 (by decide)).trans rfl),
  fun j q L st h => e_ald (kd := 1) (n := 1302) ((skL_8 1301 (by decide)).trans rfl),
  fun a L st h => e_ld0R (n := 1303) ((skL_8 1302 (by decide)).trans rfl),
  fun x0 x1 x2 x3 a L st h => e_ld4I (n := 1305) ((skL_8 1303 (by decide)).trans rfl),
  fun L st h => e_push (v := zvi 4) (n := 1306) ((skL_8 1305 (by decide)).trans rfl),
  fun a b L st h => e_bin (f := (fun a b => w32 (a + b))) (n := 1307) ((skL_8 1306 (by decide)).trans rfl),
  fun j q L st h => e_ald (kd := 1) (n := 1308) ((skL_8 1307 (by decide)).trans rfl),
  fun v0 v1 v2 v3 q L st h => e_callV5 (F := mX4_step) (kd := 18) (n := 1311) ((skL_8 1308 (by decide)).trans rfl),
  fun a b L st h => e_cmpeq (t := 2172) (n := 1314) ((skL_8 1311 (by decide)).trans rfl),
  fun L st h => e_push (v := zvi 0) (n := 1315) ((skL_8 1314 (by decide)).trans rfl),
  fun a L h => e_retz ((skL_8 1315 (by decide)).trans rfl)⟩
theorem rL_law_24 : (∀ (x0 : ZV) (a : Option Nat) (L st : List ZV) (h : PH), zev kL_law 1316 (x0 :: zvr a :: L) st h = zev kL_law 1317 (x0 :: zvr a :: L) (zvr a :: st) h) ∧
  (∀ (a : Option Nat) (L st : List ZV) (h : PH), zev kL_law 1317 (zvr a :: L) st h = zev kL_law 1318 (zvr a :: L) (zvr a :: st) h) ∧
  (∀ (x0 x1 x2 x3 : ZV) (a : Int) (L st : List ZV) (h : PH), zev kL_law 1318 (x0 :: x1 :: x2 :: x3 :: zvi a :: L) st h = zev kL_law 1320 (x0 :: x1 :: x2 :: x3 :: zvi a :: L) (zvi a :: st) h) ∧
  (∀ (L st : List ZV) (h : PH), zev kL_law 1320 L st h = zev kL_law 1321 L (zvi 1 :: st) h) ∧
  (∀ (a b : Int) (L st : List ZV) (h : PH), zev kL_law 1321 L (zvi b :: zvi a :: st) h = zev kL_law 1322 L (zvi (w32 (a + b)) :: st) h) ∧
  (∀ (j : Int) (q : Nat) (L st : List ZV) (h : PH), zev kL_law 1322 L (zvi j :: zvr (some q) :: st) h = if (ph_K h q).1 % 1000 = 1 ∧ 0 ≤ j ∧ j < (ph_K h q).2 then zev kL_law 1323 L (zvi (ph_I h q j) :: st) h else none) ∧
  (∀ (a : Option Nat) (L st : List ZV) (h : PH), zev kL_law 1323 (zvr a :: L) st h = zev kL_law 1324 (zvr a :: L) (zvr a :: st) h) ∧
  (∀ (x0 x1 x2 x3 : ZV) (a : Int) (L st : List ZV) (h : PH), zev kL_law 1324 (x0 :: x1 :: x2 :: x3 :: zvi a :: L) st h = zev kL_law 1326 (x0 :: x1 :: x2 :: x3 :: zvi a :: L) (zvi a :: st) h) ∧
  (∀ (L st : List ZV) (h : PH), zev kL_law 1326 L st h = zev kL_law 1327 L (zvi 2 :: st) h) ∧
  (∀ (a b : Int) (L st : List ZV) (h : PH), zev kL_law 1327 L (zvi b :: zvi a :: st) h = zev kL_law 1328 L (zvi (w32 (a + b)) :: st) h) ∧
  (∀ (j : Int) (q : Nat) (L st : List ZV) (h : PH), zev kL_law 1328 L (zvi j :: zvr (some q) :: st) h = if (ph_K h q).1 % 1000 = 1 ∧ 0 ≤ j ∧ j < (ph_K h q).2 then zev kL_law 1329 L (zvi (ph_I h q j) :: st) h else none) ∧
  (∀ (v0 v1 : ZV) (q : Nat) (L st : List ZV) (h : PH), zev kL_law 1329 L (v1 :: v0 :: zvr (some q) :: st) h = if (ph_K h q).1 % 1000 = 16 ∧ zcat st ≤ 8 then zk kL_law 1329 1332 L st (mX1_quickest [zvr (some q), v0, v1] h) else none) ∧
  (∀ (x0 x1 : ZV) (a : Option Nat) (L st : List ZV) (h : PH), zev kL_law 1332 (x0 :: x1 :: zvr a :: L) st h = zev kL_law 1333 (x0 :: x1 :: zvr a :: L) (zvr a :: st) h) ∧
  (∀ (a : Option Nat) (L st : List ZV) (h : PH), zev kL_law 1333 (zvr a :: L) st h = zev kL_law 1334 (zvr a :: L) (zvr a :: st) h) ∧
  (∀ (x0 x1 x2 x3 : ZV) (a : Int) (L st : List ZV) (h : PH), zev kL_law 1334 (x0 :: x1 :: x2 :: x3 :: zvi a :: L) st h = zev kL_law 1336 (x0 :: x1 :: x2 :: x3 :: zvi a :: L) (zvi a :: st) h) ∧
  (∀ (L st : List ZV) (h : PH), zev kL_law 1336 L st h = zev kL_law 1337 L (zvi 1 :: st) h) ∧
  (∀ (a b : Int) (L st : List ZV) (h : PH), zev kL_law 1337 L (zvi b :: zvi a :: st) h = zev kL_law 1338 L (zvi (w32 (a + b)) :: st) h) ∧
  (∀ (j : Int) (q : Nat) (L st : List ZV) (h : PH), zev kL_law 1338 L (zvi j :: zvr (some q) :: st) h = if (ph_K h q).1 % 1000 = 1 ∧ 0 ≤ j ∧ j < (ph_K h q).2 then zev kL_law 1339 L (zvi (ph_I h q j) :: st) h else none) ∧
  (∀ (a : Option Nat) (L st : List ZV) (h : PH), zev kL_law 1339 (zvr a :: L) st h = zev kL_law 1340 (zvr a :: L) (zvr a :: st) h) ∧
  (∀ (x0 x1 x2 x3 : ZV) (a : Int) (L st : List ZV) (h : PH), zev kL_law 1340 (x0 :: x1 :: x2 :: x3 :: zvi a :: L) st h = zev kL_law 1342 (x0 :: x1 :: x2 :: x3 :: zvi a :: L) (zvi a :: st) h) ∧
  (∀ (L st : List ZV) (h : PH), zev kL_law 1342 L st h = zev kL_law 1343 L (zvi 2 :: st) h) ∧
  (∀ (a b : Int) (L st : List ZV) (h : PH), zev kL_law 1343 L (zvi b :: zvi a :: st) h = zev kL_law 1344 L (zvi (w32 (a + b)) :: st) h) ∧
  (∀ (j : Int) (q : Nat) (L st : List ZV) (h : PH), zev kL_law 1344 L (zvi j :: zvr (some q) :: st) h = if (ph_K h q).1 % 1000 = 1 ∧ 0 ≤ j ∧ j < (ph_K h q).2 then zev kL_law 1345 L (zvi (ph_I h q j) :: st) h else none) ∧
  (∀ (v0 v1 : ZV) (q : Nat) (L st : List ZV) (h : PH), zev kL_law 1345 L (v1 :: v0 :: zvr (some q) :: st) h = if (ph_K h q).1 % 1000 = 18 ∧ zcat st ≤ 8 then zk kL_law 1345 1348 L st (mX4_quickest [zvr (some q), v0, v1] h) else none) ∧
  (∀ (a b : Int) (L st : List ZV) (h : PH), zev kL_law 1348 L (zvi b :: zvi a :: st) h = if a = b then zev kL_law 2172 L st h else zev kL_law 1351 L st h) ∧
  (∀ (L st : List ZV) (h : PH), zev kL_law 1351 L st h = zev kL_law 1352 L (zvi 0 :: st) h) ∧
  (∀ (a : Int) (L : List ZV) (h : PH), zev kL_law 1352 L [zvi a] h = if a = 0 ∨ a = 1 then zrv (zvi a) h else none) :=
  ⟨fun x0 a L st h => e_ld1R (n := 1317) ((skL_8 1316 (by decide)).trans rfl),
  fun a L st h => e_ld0R (n := 1318) ((skL_8 1317 (by decide)).trans rfl),
  fun x0 x1 x2 x3 a L st h => e_ld4I (n := 1320) ((skL_8 1318 (by decide)).trans rfl),
  fun L st h => e_push (v := zvi 1) (n := 1321) ((skL_8 1320 (by decide)).trans rfl),
  fun a b L st h => e_bin (f := (fun a b => w32 (a + b))) (n := 1322) ((skL_8 1321 (by decide)).trans rfl),
  fun j q L st h => e_ald (kd := 1) (n := 1323) ((skL_8 1322 (by decide)).trans rfl),
  fun a L st h => e_ld0R (n := 1324) ((skL_8 1323 (by decide)).trans rfl),
  fun x0 x1 x2 x3 a L st h => e_ld4I (n := 1326) ((skL_8 1324 (by decide)).trans rfl),
  fun L st h => e_push (v := zvi 2) (n := 1327) ((skL_8 1326 (by decide)).trans rfl),
  fun a b L st h => e_bin (f := (fun a b => w32 (a + b))) (n := 1328) ((skL_8 1327 (by decide)).trans rfl),
  fun j q L st h => e_ald (kd := 1) (n := 1329) ((skL_8 1328 (by decide)).trans rfl),
  fun v0 v1 q L st h => e_callV3 (F := mX1_quickest) (kd := 16) (n := 1332) ((skL_8 1329 (by decide)).trans rfl),
  fun x0 x1 a L st h => e_ld2R (n := 1333) ((skL_8 1332 (by decide)).trans rfl),
  fun a L st h => e_ld0R (n := 1334) ((skL_8 1333 (by decide)).trans rfl),
  fun x0 x1 x2 x3 a L st h => e_ld4I (n := 1336) ((skL_8 1334 (by decide)).trans rfl),
  fun L st h => e_push (v := zvi 1) (n := 1337) ((skL_8 1336 (by decide)).trans rfl),
  fun a b L st h => e_bin (f := (fun a b => w32 (a + b))) (n := 1338) ((skL_8 1337 (by decide)).trans rfl),
  fun j q L st h => e_ald (kd := 1) (n := 1339) ((skL_8 1338 (by decide)).trans rfl),
  fun a L st h => e_ld0R (n := 1340) ((skL_8 1339 (by decide)).trans rfl),
  fun x0 x1 x2 x3 a L st h => e_ld4I (n := 1342) ((skL_8 1340 (by decide)).trans rfl),
  fun L st h => e_push (v := zvi 2) (n := 1343) ((skL_8 1342 (by decide)).trans rfl),
  fun a b L st h => e_bin (f := (fun a b => w32 (a + b))) (n := 1344) ((skL_8 1343 (by decide)).trans rfl),
  fun j q L st h => e_ald (kd := 1) (n := 1345) ((skL_8 1344 (by decide)).trans rfl),
  fun v0 v1 q L st h => e_callV3 (F := mX4_quickest) (kd := 18) (n := 1348) ((skL_8 1345 (by decide)).trans rfl),
  fun a b L st h => e_cmpeq (t := 2172) (n := 1351) ((skL_8 1348 (by decide)).trans rfl),
  fun L st h => e_push (v := zvi 0) (n := 1352) ((skL_8 1351 (by decide)).trans rfl),
  fun a L h => e_retz ((skL_8 1352 (by decide)).trans rfl)⟩
theorem rL_law_25 : (∀ (x0 : ZV) (a : Option Nat) (L st : List ZV) (h : PH), zev kL_law 1353 (x0 :: zvr a :: L) st h = zev kL_law 1354 (x0 :: zvr a :: L) (zvr a :: st) h) ∧
  (∀ (a : Option Nat) (L st : List ZV) (h : PH), zev kL_law 1354 (zvr a :: L) st h = zev kL_law 1355 (zvr a :: L) (zvr a :: st) h) ∧
  (∀ (x0 x1 x2 x3 : ZV) (a : Int) (L st : List ZV) (h : PH), zev kL_law 1355 (x0 :: x1 :: x2 :: x3 :: zvi a :: L) st h = zev kL_law 1357 (x0 :: x1 :: x2 :: x3 :: zvi a :: L) (zvi a :: st) h) ∧
  (∀ (L st : List ZV) (h : PH), zev kL_law 1357 L st h = zev kL_law 1358 L (zvi 1 :: st) h) ∧
  (∀ (a b : Int) (L st : List ZV) (h : PH), zev kL_law 1358 L (zvi b :: zvi a :: st) h = zev kL_law 1359 L (zvi (w32 (a + b)) :: st) h) ∧
  (∀ (j : Int) (q : Nat) (L st : List ZV) (h : PH), zev kL_law 1359 L (zvi j :: zvr (some q) :: st) h = if (ph_K h q).1 % 1000 = 1 ∧ 0 ≤ j ∧ j < (ph_K h q).2 then zev kL_law 1360 L (zvi (ph_I h q j) :: st) h else none) ∧
  (∀ (a : Option Nat) (L st : List ZV) (h : PH), zev kL_law 1360 (zvr a :: L) st h = zev kL_law 1361 (zvr a :: L) (zvr a :: st) h) ∧
  (∀ (x0 x1 x2 x3 : ZV) (a : Int) (L st : List ZV) (h : PH), zev kL_law 1361 (x0 :: x1 :: x2 :: x3 :: zvi a :: L) st h = zev kL_law 1363 (x0 :: x1 :: x2 :: x3 :: zvi a :: L) (zvi a :: st) h) ∧
  (∀ (L st : List ZV) (h : PH), zev kL_law 1363 L st h = zev kL_law 1364 L (zvi 2 :: st) h) ∧
  (∀ (a b : Int) (L st : List ZV) (h : PH), zev kL_law 1364 L (zvi b :: zvi a :: st) h = zev kL_law 1365 L (zvi (w32 (a + b)) :: st) h) ∧
  (∀ (j : Int) (q : Nat) (L st : List ZV) (h : PH), zev kL_law 1365 L (zvi j :: zvr (some q) :: st) h = if (ph_K h q).1 % 1000 = 1 ∧ 0 ≤ j ∧ j < (ph_K h q).2 then zev kL_law 1366 L (zvi (ph_I h q j) :: st) h else none) ∧
  (∀ (a : Option Nat) (L st : List ZV) (h : PH), zev kL_law 1366 (zvr a :: L) st h = zev kL_law 1367 (zvr a :: L) (zvr a :: st) h) ∧
  (∀ (x0 x1 x2 x3 : ZV) (a : Int) (L st : List ZV) (h : PH), zev kL_law 1367 (x0 :: x1 :: x2 :: x3 :: zvi a :: L) st h = zev kL_law 1369 (x0 :: x1 :: x2 :: x3 :: zvi a :: L) (zvi a :: st) h) ∧
  (∀ (L st : List ZV) (h : PH), zev kL_law 1369 L st h = zev kL_law 1370 L (zvi 3 :: st) h) ∧
  (∀ (a b : Int) (L st : List ZV) (h : PH), zev kL_law 1370 L (zvi b :: zvi a :: st) h = zev kL_law 1371 L (zvi (w32 (a + b)) :: st) h) ∧
  (∀ (j : Int) (q : Nat) (L st : List ZV) (h : PH), zev kL_law 1371 L (zvi j :: zvr (some q) :: st) h = if (ph_K h q).1 % 1000 = 1 ∧ 0 ≤ j ∧ j < (ph_K h q).2 then zev kL_law 1372 L (zvi (ph_I h q j) :: st) h else none) ∧
  (∀ (a : Option Nat) (L st : List ZV) (h : PH), zev kL_law 1372 (zvr a :: L) st h = zev kL_law 1373 (zvr a :: L) (zvr a :: st) h) ∧
  (∀ (x0 x1 x2 x3 : ZV) (a : Int) (L st : List ZV) (h : PH), zev kL_law 1373 (x0 :: x1 :: x2 :: x3 :: zvi a :: L) st h = zev kL_law 1375 (x0 :: x1 :: x2 :: x3 :: zvi a :: L) (zvi a :: st) h) ∧
  (∀ (L st : List ZV) (h : PH), zev kL_law 1375 L st h = zev kL_law 1376 L (zvi 4 :: st) h) ∧
  (∀ (a b : Int) (L st : List ZV) (h : PH), zev kL_law 1376 L (zvi b :: zvi a :: st) h = zev kL_law 1377 L (zvi (w32 (a + b)) :: st) h) ∧
  (∀ (j : Int) (q : Nat) (L st : List ZV) (h : PH), zev kL_law 1377 L (zvi j :: zvr (some q) :: st) h = if (ph_K h q).1 % 1000 = 1 ∧ 0 ≤ j ∧ j < (ph_K h q).2 then zev kL_law 1378 L (zvi (ph_I h q j) :: st) h else none) ∧
  (∀ (v0 v1 v2 v3 : ZV) (q : Nat) (L st : List ZV) (h : PH), zev kL_law 1378 L (v3 :: v2 :: v1 :: v0 :: zvr (some q) :: st) h = if (ph_K h q).1 % 1000 = 16 ∧ zcat st ≤ 8 then zk kL_law 1378 1381 L st (mX1_spent [zvr (some q), v0, v1, v2, v3] h) else none) ∧
  (∀ (x0 x1 : ZV) (a : Option Nat) (L st : List ZV) (h : PH), zev kL_law 1381 (x0 :: x1 :: zvr a :: L) st h = zev kL_law 1382 (x0 :: x1 :: zvr a :: L) (zvr a :: st) h) ∧
  (∀ (a : Option Nat) (L st : List ZV) (h : PH), zev kL_law 1382 (zvr a :: L) st h = zev kL_law 1383 (zvr a :: L) (zvr a :: st) h) ∧
  (∀ (x0 x1 x2 x3 : ZV) (a : Int) (L st : List ZV) (h : PH), zev kL_law 1383 (x0 :: x1 :: x2 :: x3 :: zvi a :: L) st h = zev kL_law 1385 (x0 :: x1 :: x2 :: x3 :: zvi a :: L) (zvi a :: st) h) ∧
  (∀ (L st : List ZV) (h : PH), zev kL_law 1385 L st h = zev kL_law 1386 L (zvi 1 :: st) h) ∧
  (∀ (a b : Int) (L st : List ZV) (h : PH), zev kL_law 1386 L (zvi b :: zvi a :: st) h = zev kL_law 1387 L (zvi (w32 (a + b)) :: st) h) ∧
  (∀ (j : Int) (q : Nat) (L st : List ZV) (h : PH), zev kL_law 1387 L (zvi j :: zvr (some q) :: st) h = if (ph_K h q).1 % 1000 = 1 ∧ 0 ≤ j ∧ j < (ph_K h q).2 then zev kL_law 1388 L (zvi (ph_I h q j) :: st) h else none) ∧
  (∀ (a : Option Nat) (L st : List ZV) (h : PH), zev kL_law 1388 (zvr a :: L) st h = zev kL_law 1389 (zvr a :: L) (zvr a :: st) h) ∧
  (∀ (x0 x1 x2 x3 : ZV) (a : Int) (L st : List ZV) (h : PH), zev kL_law 1389 (x0 :: x1 :: x2 :: x3 :: zvi a :: L) st h = zev kL_law 1391 (x0 :: x1 :: x2 :: x3 :: zvi a :: L) (zvi a :: st) h) ∧
  (∀ (L st : List ZV) (h : PH), zev kL_law 1391 L st h = zev kL_law 1392 L (zvi 2 :: st) h) ∧
  (∀ (a b : Int) (L st : List ZV) (h : PH), zev kL_law 1392 L (zvi b :: zvi a :: st) h = zev kL_law 1393 L (zvi (w32 (a + b)) :: st) h) ∧
  (∀ (j : Int) (q : Nat) (L st : List ZV) (h : PH), zev kL_law 1393 L (zvi j :: zvr (some q) :: st) h = if (ph_K h q).1 % 1000 = 1 ∧ 0 ≤ j ∧ j < (ph_K h q).2 then zev kL_law 1394 L (zvi (ph_I h q j) :: st) h else none) ∧
  (∀ (a : Option Nat) (L st : List ZV) (h : PH), zev kL_law 1394 (zvr a :: L) st h = zev kL_law 1395 (zvr a :: L) (zvr a :: st) h) ∧
  (∀ (x0 x1 x2 x3 : ZV) (a : Int) (L st : List ZV) (h : PH), zev kL_law 1395 (x0 :: x1 :: x2 :: x3 :: zvi a :: L) st h = zev kL_law 1397 (x0 :: x1 :: x2 :: x3 :: zvi a :: L) (zvi a :: st) h) ∧
  (∀ (L st : List ZV) (h : PH), zev kL_law 1397 L st h = zev kL_law 1398 L (zvi 3 :: st) h) ∧
  (∀ (a b : Int) (L st : List ZV) (h : PH), zev kL_law 1398 L (zvi b :: zvi a :: st) h = zev kL_law 1399 L (zvi (w32 (a + b)) :: st) h) ∧
  (∀ (j : Int) (q : Nat) (L st : List ZV) (h : PH), zev kL_law 1399 L (zvi j :: zvr (some q) :: st) h = if (ph_K h q).1 % 1000 = 1 ∧ 0 ≤ j ∧ j < (ph_K h q).2 then zev kL_law 1400 L (zvi (ph_I h q j) :: st) h else none) ∧
  (∀ (a : Option Nat) (L st : List ZV) (h : PH), zev kL_law 1400 (zvr a :: L) st h = zev kL_law 1401 (zvr a :: L) (zvr a :: st) h) ∧
  (∀ (x0 x1 x2 x3 : ZV) (a : Int) (L st : List ZV) (h : PH), zev kL_law 1401 (x0 :: x1 :: x2 :: x3 :: zvi a :: L) st h = zev kL_law 1403 (x0 :: x1 :: x2 :: x3 :: zvi a :: L) (zvi a :: st) h) ∧
  (∀ (L st : List ZV) (h : PH), zev kL_law 1403 L st h = zev kL_law 1404 L (zvi 4 :: st) h) ∧
  (∀ (a b : Int) (L st : List ZV) (h : PH), zev kL_law 1404 L (zvi b :: zvi a :: st) h = zev kL_law 1405 L (zvi (w32 (a + b)) :: st) h) ∧
  (∀ (j : Int) (q : Nat) (L st : List ZV) (h : PH), zev kL_law 1405 L (zvi j :: zvr (some q) :: st) h = if (ph_K h q).1 % 1000 = 1 ∧ 0 ≤ j ∧ j < (ph_K h q).2 then zev kL_law 1406 L (zvi (ph_I h q j) :: st) h else none) ∧
  (∀ (v0 v1 v2 v3 : ZV) (q : Nat) (L st : List ZV) (h : PH), zev kL_law 1406 L (v3 :: v2 :: v1 :: v0 :: zvr (some q) :: st) h = if (ph_K h q).1 % 1000 = 18 ∧ zcat st ≤ 8 then zk kL_law 1406 1409 L st (mX4_spent [zvr (some q), v0, v1, v2, v3] h) else none) ∧
  (∀ (a b : Int) (L st : List ZV) (h : PH), zev kL_law 1409 L (zvi b :: zvi a :: st) h = if a = b then zev kL_law 2172 L st h else zev kL_law 1412 L st h) ∧
  (∀ (L st : List ZV) (h : PH), zev kL_law 1412 L st h = zev kL_law 1413 L (zvi 0 :: st) h) ∧
  (∀ (a : Int) (L : List ZV) (h : PH), zev kL_law 1413 L [zvi a] h = if a = 0 ∨ a = 1 then zrv (zvi a) h else none) :=
  ⟨fun x0 a L st h => e_ld1R (n := 1354) ((skL_8 1353 (by decide)).trans rfl),
  fun a L st h => e_ld0R (n := 1355) ((skL_8 1354 (by decide)).trans rfl),
  fun x0 x1 x2 x3 a L st h => e_ld4I (n := 1357) ((skL_8 1355 (by decide)).trans rfl),
  fun L st h => e_push (v := zvi 1) (n := 1358) ((skL_8 1357 (by decide)).trans rfl),
  fun a b L st h => e_bin (f := (fun a b => w32 (a + b))) (n := 1359) ((skL_8 1358 (by decide)).trans rfl),
  fun j q L st h => e_ald (kd := 1) (n := 1360) ((skL_8 1359 (by decide)).trans rfl),
  fun a L st h => e_ld0R (n := 1361) ((skL_8 1360 (by decide)).trans rfl),
  fun x0 x1 x2 x3 a L st h => e_ld4I (n := 1363) ((skL_8 1361 (by decide)).trans rfl),
  fun L st h => e_push (v := zvi 2) (n := 1364) ((skL_8 1363 (by decide)).trans rfl),
  fun a b L st h => e_bin (f := (fun a b => w32 (a + b))) (n := 1365) ((skL_8 1364 (by decide)).trans rfl),
  fun j q L st h => e_ald (kd := 1) (n := 1366) ((skL_8 1365 (by decide)).trans rfl),
  fun a L st h => e_ld0R (n := 1367) ((skL_8 1366 (by decide)).trans rfl),
  fun x0 x1 x2 x3 a L st h => e_ld4I (n := 1369) ((skL_8 1367 (by decide)).trans rfl),
  fun L st h => e_push (v := zvi 3) (n := 1370) ((skL_8 1369 (by decide)).trans rfl),
  fun a b L st h => e_bin (f := (fun a b => w32 (a + b))) (n := 1371) ((skL_8 1370 (by decide)).trans rfl),
  fun j q L st h => e_ald (kd := 1) (n := 1372) ((skL_8 1371 (by decide)).trans rfl),
  fun a L st h => e_ld0R (n := 1373) ((skL_8 1372 (by decide)).trans rfl),
  fun x0 x1 x2 x3 a L st h => e_ld4I (n := 1375) ((skL_8 1373 (by decide)).trans rfl),
  fun L st h => e_push (v := zvi 4) (n := 1376) ((skL_8 1375 (by decide)).trans rfl),
  fun a b L st h => e_bin (f := (fun a b => w32 (a + b))) (n := 1377) ((skL_8 1376 (by decide)).trans rfl),
  fun j q L st h => e_ald (kd := 1) (n := 1378) ((skL_8 1377 (by decide)).trans rfl),
  fun v0 v1 v2 v3 q L st h => e_callV5 (F := mX1_spent) (kd := 16) (n := 1381) ((skL_8 1378 (by decide)).trans rfl),
  fun x0 x1 a L st h => e_ld2R (n := 1382) ((skL_8 1381 (by decide)).trans rfl),
  fun a L st h => e_ld0R (n := 1383) ((skL_8 1382 (by decide)).trans rfl),
  fun x0 x1 x2 x3 a L st h => e_ld4I (n := 1385) ((skL_8 1383 (by decide)).trans rfl),
  fun L st h => e_push (v := zvi 1) (n := 1386) ((skL_8 1385 (by decide)).trans rfl),
  fun a b L st h => e_bin (f := (fun a b => w32 (a + b))) (n := 1387) ((skL_8 1386 (by decide)).trans rfl),
  fun j q L st h => e_ald (kd := 1) (n := 1388) ((skL_8 1387 (by decide)).trans rfl),
  fun a L st h => e_ld0R (n := 1389) ((skL_8 1388 (by decide)).trans rfl),
  fun x0 x1 x2 x3 a L st h => e_ld4I (n := 1391) ((skL_8 1389 (by decide)).trans rfl),
  fun L st h => e_push (v := zvi 2) (n := 1392) ((skL_8 1391 (by decide)).trans rfl),
  fun a b L st h => e_bin (f := (fun a b => w32 (a + b))) (n := 1393) ((skL_8 1392 (by decide)).trans rfl),
  fun j q L st h => e_ald (kd := 1) (n := 1394) ((skL_8 1393 (by decide)).trans rfl),
  fun a L st h => e_ld0R (n := 1395) ((skL_8 1394 (by decide)).trans rfl),
  fun x0 x1 x2 x3 a L st h => e_ld4I (n := 1397) ((skL_8 1395 (by decide)).trans rfl),
  fun L st h => e_push (v := zvi 3) (n := 1398) ((skL_8 1397 (by decide)).trans rfl),
  fun a b L st h => e_bin (f := (fun a b => w32 (a + b))) (n := 1399) ((skL_8 1398 (by decide)).trans rfl),
  fun j q L st h => e_ald (kd := 1) (n := 1400) ((skL_8 1399 (by decide)).trans rfl),
  fun a L st h => e_ld0R (n := 1401) ((skL_8 1400 (by decide)).trans rfl),
  fun x0 x1 x2 x3 a L st h => e_ld4I (n := 1403) ((skL_8 1401 (by decide)).trans rfl),
  fun L st h => e_push (v := zvi 4) (n := 1404) ((skL_9 1403 (by decide)).trans rfl),
  fun a b L st h => e_bin (f := (fun a b => w32 (a + b))) (n := 1405) ((skL_9 1404 (by decide)).trans rfl),
  fun j q L st h => e_ald (kd := 1) (n := 1406) ((skL_9 1405 (by decide)).trans rfl),
  fun v0 v1 v2 v3 q L st h => e_callV5 (F := mX4_spent) (kd := 18) (n := 1409) ((skL_9 1406 (by decide)).trans rfl),
  fun a b L st h => e_cmpeq (t := 2172) (n := 1412) ((skL_9 1409 (by decide)).trans rfl),
  fun L st h => e_push (v := zvi 0) (n := 1413) ((skL_9 1412 (by decide)).trans rfl),
  fun a L h => e_retz ((skL_9 1413 (by decide)).trans rfl)⟩
theorem rL_law_26 : (∀ (x0 : ZV) (a : Option Nat) (L st : List ZV) (h : PH), zev kL_law 1414 (x0 :: zvr a :: L) st h = zev kL_law 1415 (x0 :: zvr a :: L) (zvr a :: st) h) ∧
  (∀ (a : Option Nat) (L st : List ZV) (h : PH), zev kL_law 1415 (zvr a :: L) st h = zev kL_law 1416 (zvr a :: L) (zvr a :: st) h) ∧
  (∀ (x0 x1 x2 x3 : ZV) (a : Int) (L st : List ZV) (h : PH), zev kL_law 1416 (x0 :: x1 :: x2 :: x3 :: zvi a :: L) st h = zev kL_law 1418 (x0 :: x1 :: x2 :: x3 :: zvi a :: L) (zvi a :: st) h) ∧
  (∀ (L st : List ZV) (h : PH), zev kL_law 1418 L st h = zev kL_law 1419 L (zvi 1 :: st) h) ∧
  (∀ (a b : Int) (L st : List ZV) (h : PH), zev kL_law 1419 L (zvi b :: zvi a :: st) h = zev kL_law 1420 L (zvi (w32 (a + b)) :: st) h) ∧
  (∀ (j : Int) (q : Nat) (L st : List ZV) (h : PH), zev kL_law 1420 L (zvi j :: zvr (some q) :: st) h = if (ph_K h q).1 % 1000 = 1 ∧ 0 ≤ j ∧ j < (ph_K h q).2 then zev kL_law 1421 L (zvi (ph_I h q j) :: st) h else none) ∧
  (∀ (a : Option Nat) (L st : List ZV) (h : PH), zev kL_law 1421 (zvr a :: L) st h = zev kL_law 1422 (zvr a :: L) (zvr a :: st) h) ∧
  (∀ (x0 x1 x2 x3 : ZV) (a : Int) (L st : List ZV) (h : PH), zev kL_law 1422 (x0 :: x1 :: x2 :: x3 :: zvi a :: L) st h = zev kL_law 1424 (x0 :: x1 :: x2 :: x3 :: zvi a :: L) (zvi a :: st) h) ∧
  (∀ (L st : List ZV) (h : PH), zev kL_law 1424 L st h = zev kL_law 1425 L (zvi 2 :: st) h) ∧
  (∀ (a b : Int) (L st : List ZV) (h : PH), zev kL_law 1425 L (zvi b :: zvi a :: st) h = zev kL_law 1426 L (zvi (w32 (a + b)) :: st) h) ∧
  (∀ (j : Int) (q : Nat) (L st : List ZV) (h : PH), zev kL_law 1426 L (zvi j :: zvr (some q) :: st) h = if (ph_K h q).1 % 1000 = 1 ∧ 0 ≤ j ∧ j < (ph_K h q).2 then zev kL_law 1427 L (zvi (ph_I h q j) :: st) h else none) ∧
  (∀ (a : Option Nat) (L st : List ZV) (h : PH), zev kL_law 1427 (zvr a :: L) st h = zev kL_law 1428 (zvr a :: L) (zvr a :: st) h) ∧
  (∀ (x0 x1 x2 x3 : ZV) (a : Int) (L st : List ZV) (h : PH), zev kL_law 1428 (x0 :: x1 :: x2 :: x3 :: zvi a :: L) st h = zev kL_law 1430 (x0 :: x1 :: x2 :: x3 :: zvi a :: L) (zvi a :: st) h) ∧
  (∀ (L st : List ZV) (h : PH), zev kL_law 1430 L st h = zev kL_law 1431 L (zvi 3 :: st) h) ∧
  (∀ (a b : Int) (L st : List ZV) (h : PH), zev kL_law 1431 L (zvi b :: zvi a :: st) h = zev kL_law 1432 L (zvi (w32 (a + b)) :: st) h) ∧
  (∀ (j : Int) (q : Nat) (L st : List ZV) (h : PH), zev kL_law 1432 L (zvi j :: zvr (some q) :: st) h = if (ph_K h q).1 % 1000 = 1 ∧ 0 ≤ j ∧ j < (ph_K h q).2 then zev kL_law 1433 L (zvi (ph_I h q j) :: st) h else none) ∧
  (∀ (v0 v1 v2 : ZV) (q : Nat) (L st : List ZV) (h : PH), zev kL_law 1433 L (v2 :: v1 :: v0 :: zvr (some q) :: st) h = if (ph_K h q).1 % 1000 = 16 ∧ zcat st ≤ 8 then zk kL_law 1433 1436 L st (mX1_others [zvr (some q), v0, v1, v2] h) else none) ∧
  (∀ (x0 x1 : ZV) (a : Option Nat) (L st : List ZV) (h : PH), zev kL_law 1436 (x0 :: x1 :: zvr a :: L) st h = zev kL_law 1437 (x0 :: x1 :: zvr a :: L) (zvr a :: st) h) ∧
  (∀ (a : Option Nat) (L st : List ZV) (h : PH), zev kL_law 1437 (zvr a :: L) st h = zev kL_law 1438 (zvr a :: L) (zvr a :: st) h) ∧
  (∀ (x0 x1 x2 x3 : ZV) (a : Int) (L st : List ZV) (h : PH), zev kL_law 1438 (x0 :: x1 :: x2 :: x3 :: zvi a :: L) st h = zev kL_law 1440 (x0 :: x1 :: x2 :: x3 :: zvi a :: L) (zvi a :: st) h) ∧
  (∀ (L st : List ZV) (h : PH), zev kL_law 1440 L st h = zev kL_law 1441 L (zvi 1 :: st) h) ∧
  (∀ (a b : Int) (L st : List ZV) (h : PH), zev kL_law 1441 L (zvi b :: zvi a :: st) h = zev kL_law 1442 L (zvi (w32 (a + b)) :: st) h) ∧
  (∀ (j : Int) (q : Nat) (L st : List ZV) (h : PH), zev kL_law 1442 L (zvi j :: zvr (some q) :: st) h = if (ph_K h q).1 % 1000 = 1 ∧ 0 ≤ j ∧ j < (ph_K h q).2 then zev kL_law 1443 L (zvi (ph_I h q j) :: st) h else none) ∧
  (∀ (a : Option Nat) (L st : List ZV) (h : PH), zev kL_law 1443 (zvr a :: L) st h = zev kL_law 1444 (zvr a :: L) (zvr a :: st) h) ∧
  (∀ (x0 x1 x2 x3 : ZV) (a : Int) (L st : List ZV) (h : PH), zev kL_law 1444 (x0 :: x1 :: x2 :: x3 :: zvi a :: L) st h = zev kL_law 1446 (x0 :: x1 :: x2 :: x3 :: zvi a :: L) (zvi a :: st) h) ∧
  (∀ (L st : List ZV) (h : PH), zev kL_law 1446 L st h = zev kL_law 1447 L (zvi 2 :: st) h) ∧
  (∀ (a b : Int) (L st : List ZV) (h : PH), zev kL_law 1447 L (zvi b :: zvi a :: st) h = zev kL_law 1448 L (zvi (w32 (a + b)) :: st) h) ∧
  (∀ (j : Int) (q : Nat) (L st : List ZV) (h : PH), zev kL_law 1448 L (zvi j :: zvr (some q) :: st) h = if (ph_K h q).1 % 1000 = 1 ∧ 0 ≤ j ∧ j < (ph_K h q).2 then zev kL_law 1449 L (zvi (ph_I h q j) :: st) h else none) ∧
  (∀ (a : Option Nat) (L st : List ZV) (h : PH), zev kL_law 1449 (zvr a :: L) st h = zev kL_law 1450 (zvr a :: L) (zvr a :: st) h) ∧
  (∀ (x0 x1 x2 x3 : ZV) (a : Int) (L st : List ZV) (h : PH), zev kL_law 1450 (x0 :: x1 :: x2 :: x3 :: zvi a :: L) st h = zev kL_law 1452 (x0 :: x1 :: x2 :: x3 :: zvi a :: L) (zvi a :: st) h) ∧
  (∀ (L st : List ZV) (h : PH), zev kL_law 1452 L st h = zev kL_law 1453 L (zvi 3 :: st) h) ∧
  (∀ (a b : Int) (L st : List ZV) (h : PH), zev kL_law 1453 L (zvi b :: zvi a :: st) h = zev kL_law 1454 L (zvi (w32 (a + b)) :: st) h) ∧
  (∀ (j : Int) (q : Nat) (L st : List ZV) (h : PH), zev kL_law 1454 L (zvi j :: zvr (some q) :: st) h = if (ph_K h q).1 % 1000 = 1 ∧ 0 ≤ j ∧ j < (ph_K h q).2 then zev kL_law 1455 L (zvi (ph_I h q j) :: st) h else none) ∧
  (∀ (v0 v1 v2 : ZV) (q : Nat) (L st : List ZV) (h : PH), zev kL_law 1455 L (v2 :: v1 :: v0 :: zvr (some q) :: st) h = if (ph_K h q).1 % 1000 = 18 ∧ zcat st ≤ 8 then zk kL_law 1455 1458 L st (mX4_others [zvr (some q), v0, v1, v2] h) else none) ∧
  (∀ (a b : Int) (L st : List ZV) (h : PH), zev kL_law 1458 L (zvi b :: zvi a :: st) h = if a = b then zev kL_law 2172 L st h else zev kL_law 1461 L st h) ∧
  (∀ (L st : List ZV) (h : PH), zev kL_law 1461 L st h = zev kL_law 1462 L (zvi 0 :: st) h) ∧
  (∀ (a : Int) (L : List ZV) (h : PH), zev kL_law 1462 L [zvi a] h = if a = 0 ∨ a = 1 then zrv (zvi a) h else none) :=
  ⟨fun x0 a L st h => e_ld1R (n := 1415) ((skL_9 1414 (by decide)).trans rfl),
  fun a L st h => e_ld0R (n := 1416) ((skL_9 1415 (by decide)).trans rfl),
  fun x0 x1 x2 x3 a L st h => e_ld4I (n := 1418) ((skL_9 1416 (by decide)).trans rfl),
  fun L st h => e_push (v := zvi 1) (n := 1419) ((skL_9 1418 (by decide)).trans rfl),
  fun a b L st h => e_bin (f := (fun a b => w32 (a + b))) (n := 1420) ((skL_9 1419 (by decide)).trans rfl),
  fun j q L st h => e_ald (kd := 1) (n := 1421) ((skL_9 1420 (by decide)).trans rfl),
  fun a L st h => e_ld0R (n := 1422) ((skL_9 1421 (by decide)).trans rfl),
  fun x0 x1 x2 x3 a L st h => e_ld4I (n := 1424) ((skL_9 1422 (by decide)).trans rfl),
  fun L st h => e_push (v := zvi 2) (n := 1425) ((skL_9 1424 (by decide)).trans rfl),
  fun a b L st h => e_bin (f := (fun a b => w32 (a + b))) (n := 1426) ((skL_9 1425 (by decide)).trans rfl),
  fun j q L st h => e_ald (kd := 1) (n := 1427) ((skL_9 1426 (by decide)).trans rfl),
  fun a L st h => e_ld0R (n := 1428) ((skL_9 1427 (by decide)).trans rfl),
  fun x0 x1 x2 x3 a L st h => e_ld4I (n := 1430) ((skL_9 1428 (by decide)).trans rfl),
  fun L st h => e_push (v := zvi 3) (n := 1431) ((skL_9 1430 (by decide)).trans rfl),
  fun a b L st h => e_bin (f := (fun a b => w32 (a + b))) (n := 1432) ((skL_9 1431 (by decide)).trans rfl),
  fun j q L st h => e_ald (kd := 1) (n := 1433) ((skL_9 1432 (by decide)).trans rfl),
  fun v0 v1 v2 q L st h => e_callV4 (F := mX1_others) (kd := 16) (n := 1436) ((skL_9 1433 (by decide)).trans rfl),
  fun x0 x1 a L st h => e_ld2R (n := 1437) ((skL_9 1436 (by decide)).trans rfl),
  fun a L st h => e_ld0R (n := 1438) ((skL_9 1437 (by decide)).trans rfl),
  fun x0 x1 x2 x3 a L st h => e_ld4I (n := 1440) ((skL_9 1438 (by decide)).trans rfl),
  fun L st h => e_push (v := zvi 1) (n := 1441) ((skL_9 1440 (by decide)).trans rfl),
  fun a b L st h => e_bin (f := (fun a b => w32 (a + b))) (n := 1442) ((skL_9 1441 (by decide)).trans rfl),
  fun j q L st h => e_ald (kd := 1) (n := 1443) ((skL_9 1442 (by decide)).trans rfl),
  fun a L st h => e_ld0R (n := 1444) ((skL_9 1443 (by decide)).trans rfl),
  fun x0 x1 x2 x3 a L st h => e_ld4I (n := 1446) ((skL_9 1444 (by decide)).trans rfl),
  fun L st h => e_push (v := zvi 2) (n := 1447) ((skL_9 1446 (by decide)).trans rfl),
  fun a b L st h => e_bin (f := (fun a b => w32 (a + b))) (n := 1448) ((skL_9 1447 (by decide)).trans rfl),
  fun j q L st h => e_ald (kd := 1) (n := 1449) ((skL_9 1448 (by decide)).trans rfl),
  fun a L st h => e_ld0R (n := 1450) ((skL_9 1449 (by decide)).trans rfl),
  fun x0 x1 x2 x3 a L st h => e_ld4I (n := 1452) ((skL_9 1450 (by decide)).trans rfl),
  fun L st h => e_push (v := zvi 3) (n := 1453) ((skL_9 1452 (by decide)).trans rfl),
  fun a b L st h => e_bin (f := (fun a b => w32 (a + b))) (n := 1454) ((skL_9 1453 (by decide)).trans rfl),
  fun j q L st h => e_ald (kd := 1) (n := 1455) ((skL_9 1454 (by decide)).trans rfl),
  fun v0 v1 v2 q L st h => e_callV4 (F := mX4_others) (kd := 18) (n := 1458) ((skL_9 1455 (by decide)).trans rfl),
  fun a b L st h => e_cmpeq (t := 2172) (n := 1461) ((skL_9 1458 (by decide)).trans rfl),
  fun L st h => e_push (v := zvi 0) (n := 1462) ((skL_9 1461 (by decide)).trans rfl),
  fun a L h => e_retz ((skL_9 1462 (by decide)).trans rfl)⟩
theorem rL_law_27 : (∀ (x0 : ZV) (a : Option Nat) (L st : List ZV) (h : PH), zev kL_law 1463 (x0 :: zvr a :: L) st h = zev kL_law 1464 (x0 :: zvr a :: L) (zvr a :: st) h) ∧
  (∀ (a : Option Nat) (L st : List ZV) (h : PH), zev kL_law 1464 (zvr a :: L) st h = zev kL_law 1465 (zvr a :: L) (zvr a :: st) h) ∧
  (∀ (x0 x1 x2 x3 : ZV) (a : Int) (L st : List ZV) (h : PH), zev kL_law 1465 (x0 :: x1 :: x2 :: x3 :: zvi a :: L) st h = zev kL_law 1467 (x0 :: x1 :: x2 :: x3 :: zvi a :: L) (zvi a :: st) h) ∧
  (∀ (L st : List ZV) (h : PH), zev kL_law 1467 L st h = zev kL_law 1468 L (zvi 1 :: st) h) ∧
  (∀ (a b : Int) (L st : List ZV) (h : PH), zev kL_law 1468 L (zvi b :: zvi a :: st) h = zev kL_law 1469 L (zvi (w32 (a + b)) :: st) h) ∧
  (∀ (j : Int) (q : Nat) (L st : List ZV) (h : PH), zev kL_law 1469 L (zvi j :: zvr (some q) :: st) h = if (ph_K h q).1 % 1000 = 1 ∧ 0 ≤ j ∧ j < (ph_K h q).2 then zev kL_law 1470 L (zvi (ph_I h q j) :: st) h else none) ∧
  (∀ (a : Option Nat) (L st : List ZV) (h : PH), zev kL_law 1470 (zvr a :: L) st h = zev kL_law 1471 (zvr a :: L) (zvr a :: st) h) ∧
  (∀ (x0 x1 x2 x3 : ZV) (a : Int) (L st : List ZV) (h : PH), zev kL_law 1471 (x0 :: x1 :: x2 :: x3 :: zvi a :: L) st h = zev kL_law 1473 (x0 :: x1 :: x2 :: x3 :: zvi a :: L) (zvi a :: st) h) ∧
  (∀ (L st : List ZV) (h : PH), zev kL_law 1473 L st h = zev kL_law 1474 L (zvi 2 :: st) h) ∧
  (∀ (a b : Int) (L st : List ZV) (h : PH), zev kL_law 1474 L (zvi b :: zvi a :: st) h = zev kL_law 1475 L (zvi (w32 (a + b)) :: st) h) ∧
  (∀ (j : Int) (q : Nat) (L st : List ZV) (h : PH), zev kL_law 1475 L (zvi j :: zvr (some q) :: st) h = if (ph_K h q).1 % 1000 = 1 ∧ 0 ≤ j ∧ j < (ph_K h q).2 then zev kL_law 1476 L (zvi (ph_I h q j) :: st) h else none) ∧
  (∀ (a : Option Nat) (L st : List ZV) (h : PH), zev kL_law 1476 (zvr a :: L) st h = zev kL_law 1477 (zvr a :: L) (zvr a :: st) h) ∧
  (∀ (x0 x1 x2 x3 : ZV) (a : Int) (L st : List ZV) (h : PH), zev kL_law 1477 (x0 :: x1 :: x2 :: x3 :: zvi a :: L) st h = zev kL_law 1479 (x0 :: x1 :: x2 :: x3 :: zvi a :: L) (zvi a :: st) h) ∧
  (∀ (L st : List ZV) (h : PH), zev kL_law 1479 L st h = zev kL_law 1480 L (zvi 3 :: st) h) ∧
  (∀ (a b : Int) (L st : List ZV) (h : PH), zev kL_law 1480 L (zvi b :: zvi a :: st) h = zev kL_law 1481 L (zvi (w32 (a + b)) :: st) h) ∧
  (∀ (j : Int) (q : Nat) (L st : List ZV) (h : PH), zev kL_law 1481 L (zvi j :: zvr (some q) :: st) h = if (ph_K h q).1 % 1000 = 1 ∧ 0 ≤ j ∧ j < (ph_K h q).2 then zev kL_law 1482 L (zvi (ph_I h q j) :: st) h else none) ∧
  (∀ (a : Option Nat) (L st : List ZV) (h : PH), zev kL_law 1482 (zvr a :: L) st h = zev kL_law 1483 (zvr a :: L) (zvr a :: st) h) ∧
  (∀ (x0 x1 x2 x3 : ZV) (a : Int) (L st : List ZV) (h : PH), zev kL_law 1483 (x0 :: x1 :: x2 :: x3 :: zvi a :: L) st h = zev kL_law 1485 (x0 :: x1 :: x2 :: x3 :: zvi a :: L) (zvi a :: st) h) ∧
  (∀ (L st : List ZV) (h : PH), zev kL_law 1485 L st h = zev kL_law 1486 L (zvi 4 :: st) h) ∧
  (∀ (a b : Int) (L st : List ZV) (h : PH), zev kL_law 1486 L (zvi b :: zvi a :: st) h = zev kL_law 1487 L (zvi (w32 (a + b)) :: st) h) ∧
  (∀ (j : Int) (q : Nat) (L st : List ZV) (h : PH), zev kL_law 1487 L (zvi j :: zvr (some q) :: st) h = if (ph_K h q).1 % 1000 = 1 ∧ 0 ≤ j ∧ j < (ph_K h q).2 then zev kL_law 1488 L (zvi (ph_I h q j) :: st) h else none) ∧
  (∀ (v0 v1 v2 v3 : ZV) (q : Nat) (L st : List ZV) (h : PH), zev kL_law 1488 L (v3 :: v2 :: v1 :: v0 :: zvr (some q) :: st) h = if (ph_K h q).1 % 1000 = 16 ∧ zcat st ≤ 8 then zk kL_law 1488 1491 L st (mX1_other [zvr (some q), v0, v1, v2, v3] h) else none) ∧
  (∀ (x0 x1 : ZV) (a : Option Nat) (L st : List ZV) (h : PH), zev kL_law 1491 (x0 :: x1 :: zvr a :: L) st h = zev kL_law 1492 (x0 :: x1 :: zvr a :: L) (zvr a :: st) h) ∧
  (∀ (a : Option Nat) (L st : List ZV) (h : PH), zev kL_law 1492 (zvr a :: L) st h = zev kL_law 1493 (zvr a :: L) (zvr a :: st) h) ∧
  (∀ (x0 x1 x2 x3 : ZV) (a : Int) (L st : List ZV) (h : PH), zev kL_law 1493 (x0 :: x1 :: x2 :: x3 :: zvi a :: L) st h = zev kL_law 1495 (x0 :: x1 :: x2 :: x3 :: zvi a :: L) (zvi a :: st) h) ∧
  (∀ (L st : List ZV) (h : PH), zev kL_law 1495 L st h = zev kL_law 1496 L (zvi 1 :: st) h) ∧
  (∀ (a b : Int) (L st : List ZV) (h : PH), zev kL_law 1496 L (zvi b :: zvi a :: st) h = zev kL_law 1497 L (zvi (w32 (a + b)) :: st) h) ∧
  (∀ (j : Int) (q : Nat) (L st : List ZV) (h : PH), zev kL_law 1497 L (zvi j :: zvr (some q) :: st) h = if (ph_K h q).1 % 1000 = 1 ∧ 0 ≤ j ∧ j < (ph_K h q).2 then zev kL_law 1498 L (zvi (ph_I h q j) :: st) h else none) ∧
  (∀ (a : Option Nat) (L st : List ZV) (h : PH), zev kL_law 1498 (zvr a :: L) st h = zev kL_law 1499 (zvr a :: L) (zvr a :: st) h) ∧
  (∀ (x0 x1 x2 x3 : ZV) (a : Int) (L st : List ZV) (h : PH), zev kL_law 1499 (x0 :: x1 :: x2 :: x3 :: zvi a :: L) st h = zev kL_law 1501 (x0 :: x1 :: x2 :: x3 :: zvi a :: L) (zvi a :: st) h) ∧
  (∀ (L st : List ZV) (h : PH), zev kL_law 1501 L st h = zev kL_law 1502 L (zvi 2 :: st) h) ∧
  (∀ (a b : Int) (L st : List ZV) (h : PH), zev kL_law 1502 L (zvi b :: zvi a :: st) h = zev kL_law 1503 L (zvi (w32 (a + b)) :: st) h) ∧
  (∀ (j : Int) (q : Nat) (L st : List ZV) (h : PH), zev kL_law 1503 L (zvi j :: zvr (some q) :: st) h = if (ph_K h q).1 % 1000 = 1 ∧ 0 ≤ j ∧ j < (ph_K h q).2 then zev kL_law 1504 L (zvi (ph_I h q j) :: st) h else none) ∧
  (∀ (a : Option Nat) (L st : List ZV) (h : PH), zev kL_law 1504 (zvr a :: L) st h = zev kL_law 1505 (zvr a :: L) (zvr a :: st) h) ∧
  (∀ (x0 x1 x2 x3 : ZV) (a : Int) (L st : List ZV) (h : PH), zev kL_law 1505 (x0 :: x1 :: x2 :: x3 :: zvi a :: L) st h = zev kL_law 1507 (x0 :: x1 :: x2 :: x3 :: zvi a :: L) (zvi a :: st) h) ∧
  (∀ (L st : List ZV) (h : PH), zev kL_law 1507 L st h = zev kL_law 1508 L (zvi 3 :: st) h) ∧
  (∀ (a b : Int) (L st : List ZV) (h : PH), zev kL_law 1508 L (zvi b :: zvi a :: st) h = zev kL_law 1509 L (zvi (w32 (a + b)) :: st) h) ∧
  (∀ (j : Int) (q : Nat) (L st : List ZV) (h : PH), zev kL_law 1509 L (zvi j :: zvr (some q) :: st) h = if (ph_K h q).1 % 1000 = 1 ∧ 0 ≤ j ∧ j < (ph_K h q).2 then zev kL_law 1510 L (zvi (ph_I h q j) :: st) h else none) ∧
  (∀ (a : Option Nat) (L st : List ZV) (h : PH), zev kL_law 1510 (zvr a :: L) st h = zev kL_law 1511 (zvr a :: L) (zvr a :: st) h) ∧
  (∀ (x0 x1 x2 x3 : ZV) (a : Int) (L st : List ZV) (h : PH), zev kL_law 1511 (x0 :: x1 :: x2 :: x3 :: zvi a :: L) st h = zev kL_law 1513 (x0 :: x1 :: x2 :: x3 :: zvi a :: L) (zvi a :: st) h) ∧
  (∀ (L st : List ZV) (h : PH), zev kL_law 1513 L st h = zev kL_law 1514 L (zvi 4 :: st) h) ∧
  (∀ (a b : Int) (L st : List ZV) (h : PH), zev kL_law 1514 L (zvi b :: zvi a :: st) h = zev kL_law 1515 L (zvi (w32 (a + b)) :: st) h) ∧
  (∀ (j : Int) (q : Nat) (L st : List ZV) (h : PH), zev kL_law 1515 L (zvi j :: zvr (some q) :: st) h = if (ph_K h q).1 % 1000 = 1 ∧ 0 ≤ j ∧ j < (ph_K h q).2 then zev kL_law 1516 L (zvi (ph_I h q j) :: st) h else none) ∧
  (∀ (v0 v1 v2 v3 : ZV) (q : Nat) (L st : List ZV) (h : PH), zev kL_law 1516 L (v3 :: v2 :: v1 :: v0 :: zvr (some q) :: st) h = if (ph_K h q).1 % 1000 = 18 ∧ zcat st ≤ 8 then zk kL_law 1516 1519 L st (mX4_other [zvr (some q), v0, v1, v2, v3] h) else none) ∧
  (∀ (a b : Int) (L st : List ZV) (h : PH), zev kL_law 1519 L (zvi b :: zvi a :: st) h = if a = b then zev kL_law 2172 L st h else zev kL_law 1522 L st h) ∧
  (∀ (L st : List ZV) (h : PH), zev kL_law 1522 L st h = zev kL_law 1523 L (zvi 0 :: st) h) ∧
  (∀ (a : Int) (L : List ZV) (h : PH), zev kL_law 1523 L [zvi a] h = if a = 0 ∨ a = 1 then zrv (zvi a) h else none) :=
  ⟨fun x0 a L st h => e_ld1R (n := 1464) ((skL_9 1463 (by decide)).trans rfl),
  fun a L st h => e_ld0R (n := 1465) ((skL_9 1464 (by decide)).trans rfl),
  fun x0 x1 x2 x3 a L st h => e_ld4I (n := 1467) ((skL_9 1465 (by decide)).trans rfl),
  fun L st h => e_push (v := zvi 1) (n := 1468) ((skL_9 1467 (by decide)).trans rfl),
  fun a b L st h => e_bin (f := (fun a b => w32 (a + b))) (n := 1469) ((skL_9 1468 (by decide)).trans rfl),
  fun j q L st h => e_ald (kd := 1) (n := 1470) ((skL_9 1469 (by decide)).trans rfl),
  fun a L st h => e_ld0R (n := 1471) ((skL_9 1470 (by decide)).trans rfl),
  fun x0 x1 x2 x3 a L st h => e_ld4I (n := 1473) ((skL_9 1471 (by decide)).trans rfl),
  fun L st h => e_push (v := zvi 2) (n := 1474) ((skL_9 1473 (by decide)).trans rfl),
  fun a b L st h => e_bin (f := (fun a b => w32 (a + b))) (n := 1475) ((skL_9 1474 (by decide)).trans rfl),
  fun j q L st h => e_ald (kd := 1) (n := 1476) ((skL_9 1475 (by decide)).trans rfl),
  fun a L st h => e_ld0R (n := 1477) ((skL_9 1476 (by decide)).trans rfl),
  fun x0 x1 x2 x3 a L st h => e_ld4I (n := 1479) ((skL_9 1477 (by decide)).trans rfl),
  fun L st h => e_push (v := zvi 3) (n := 1480) ((skL_9 1479 (by decide)).trans rfl),
  fun a b L st h => e_bin (f := (fun a b => w32 (a + b))) (n := 1481) ((skL_9 1480 (by decide)).trans rfl),
  fun j q L st h => e_ald (kd := 1) (n := 1482) ((skL_9 1481 (by decide)).trans rfl),
  fun a L st h => e_ld0R (n := 1483) ((skL_9 1482 (by decide)).trans rfl),
  fun x0 x1 x2 x3 a L st h => e_ld4I (n := 1485) ((skL_9 1483 (by decide)).trans rfl),
  fun L st h => e_push (v := zvi 4) (n := 1486) ((skL_9 1485 (by decide)).trans rfl),
  fun a b L st h => e_bin (f := (fun a b => w32 (a + b))) (n := 1487) ((skL_9 1486 (by decide)).trans rfl),
  fun j q L st h => e_ald (kd := 1) (n := 1488) ((skL_9 1487 (by decide)).trans rfl),
  fun v0 v1 v2 v3 q L st h => e_callV5 (F := mX1_other) (kd := 16) (n := 1491) ((skL_9 1488 (by decide)).trans rfl),
  fun x0 x1 a L st h => e_ld2R (n := 1492) ((skL_9 1491 (by decide)).trans rfl),
  fun a L st h => e_ld0R (n := 1493) ((skL_9 1492 (by decide)).trans rfl),
  fun x0 x1 x2 x3 a L st h => e_ld4I (n := 1495) ((skL_9 1493 (by decide)).trans rfl),
  fun L st h => e_push (v := zvi 1) (n := 1496) ((skL_9 1495 (by decide)).trans rfl),
  fun a b L st h => e_bin (f := (fun a b => w32 (a + b))) (n := 1497) ((skL_9 1496 (by decide)).trans rfl),
  fun j q L st h => e_ald (kd := 1) (n := 1498) ((skL_9 1497 (by decide)).trans rfl),
  fun a L st h => e_ld0R (n := 1499) ((skL_9 1498 (by decide)).trans rfl),
  fun x0 x1 x2 x3 a L st h => e_ld4I (n := 1501) ((skL_9 1499 (by decide)).trans rfl),
  fun L st h => e_push (v := zvi 2) (n := 1502) ((skL_9 1501 (by decide)).trans rfl),
  fun a b L st h => e_bin (f := (fun a b => w32 (a + b))) (n := 1503) ((skL_9 1502 (by decide)).trans rfl),
  fun j q L st h => e_ald (kd := 1) (n := 1504) ((skL_9 1503 (by decide)).trans rfl),
  fun a L st h => e_ld0R (n := 1505) ((skL_9 1504 (by decide)).trans rfl),
  fun x0 x1 x2 x3 a L st h => e_ld4I (n := 1507) ((skL_9 1505 (by decide)).trans rfl),
  fun L st h => e_push (v := zvi 3) (n := 1508) ((skL_9 1507 (by decide)).trans rfl),
  fun a b L st h => e_bin (f := (fun a b => w32 (a + b))) (n := 1509) ((skL_9 1508 (by decide)).trans rfl),
  fun j q L st h => e_ald (kd := 1) (n := 1510) ((skL_9 1509 (by decide)).trans rfl),
  fun a L st h => e_ld0R (n := 1511) ((skL_9 1510 (by decide)).trans rfl),
  fun x0 x1 x2 x3 a L st h => e_ld4I (n := 1513) ((skL_9 1511 (by decide)).trans rfl),
  fun L st h => e_push (v := zvi 4) (n := 1514) ((skL_9 1513 (by decide)).trans rfl),
  fun a b L st h => e_bin (f := (fun a b => w32 (a + b))) (n := 1515) ((skL_9 1514 (by decide)).trans rfl),
  fun j q L st h => e_ald (kd := 1) (n := 1516) ((skL_9 1515 (by decide)).trans rfl),
  fun v0 v1 v2 v3 q L st h => e_callV5 (F := mX4_other) (kd := 18) (n := 1519) ((skL_9 1516 (by decide)).trans rfl),
  fun a b L st h => e_cmpeq (t := 2172) (n := 1522) ((skL_9 1519 (by decide)).trans rfl),
  fun L st h => e_push (v := zvi 0) (n := 1523) ((skL_9 1522 (by decide)).trans rfl),
  fun a L h => e_retz ((skL_9 1523 (by decide)).trans rfl)⟩
theorem rL_law_28 : (∀ (x0 : ZV) (a : Option Nat) (L st : List ZV) (h : PH), zev kL_law 1524 (x0 :: zvr a :: L) st h = zev kL_law 1525 (x0 :: zvr a :: L) (zvr a :: st) h) ∧
  (∀ (a : Option Nat) (L st : List ZV) (h : PH), zev kL_law 1525 (zvr a :: L) st h = zev kL_law 1526 (zvr a :: L) (zvr a :: st) h) ∧
  (∀ (x0 x1 x2 x3 : ZV) (a : Int) (L st : List ZV) (h : PH), zev kL_law 1526 (x0 :: x1 :: x2 :: x3 :: zvi a :: L) st h = zev kL_law 1528 (x0 :: x1 :: x2 :: x3 :: zvi a :: L) (zvi a :: st) h) ∧
  (∀ (L st : List ZV) (h : PH), zev kL_law 1528 L st h = zev kL_law 1529 L (zvi 1 :: st) h) ∧
  (∀ (a b : Int) (L st : List ZV) (h : PH), zev kL_law 1529 L (zvi b :: zvi a :: st) h = zev kL_law 1530 L (zvi (w32 (a + b)) :: st) h) ∧
  (∀ (j : Int) (q : Nat) (L st : List ZV) (h : PH), zev kL_law 1530 L (zvi j :: zvr (some q) :: st) h = if (ph_K h q).1 % 1000 = 1 ∧ 0 ≤ j ∧ j < (ph_K h q).2 then zev kL_law 1531 L (zvi (ph_I h q j) :: st) h else none) ∧
  (∀ (v0 : ZV) (q : Nat) (L st : List ZV) (h : PH), zev kL_law 1531 L (v0 :: zvr (some q) :: st) h = if (ph_K h q).1 % 1000 = 16 ∧ zcat st ≤ 8 then zk kL_law 1531 1534 L st (mX1_pairs [zvr (some q), v0] h) else none) ∧
  (∀ (x0 x1 : ZV) (a : Option Nat) (L st : List ZV) (h : PH), zev kL_law 1534 (x0 :: x1 :: zvr a :: L) st h = zev kL_law 1535 (x0 :: x1 :: zvr a :: L) (zvr a :: st) h) ∧
  (∀ (a : Option Nat) (L st : List ZV) (h : PH), zev kL_law 1535 (zvr a :: L) st h = zev kL_law 1536 (zvr a :: L) (zvr a :: st) h) ∧
  (∀ (x0 x1 x2 x3 : ZV) (a : Int) (L st : List ZV) (h : PH), zev kL_law 1536 (x0 :: x1 :: x2 :: x3 :: zvi a :: L) st h = zev kL_law 1538 (x0 :: x1 :: x2 :: x3 :: zvi a :: L) (zvi a :: st) h) ∧
  (∀ (L st : List ZV) (h : PH), zev kL_law 1538 L st h = zev kL_law 1539 L (zvi 1 :: st) h) ∧
  (∀ (a b : Int) (L st : List ZV) (h : PH), zev kL_law 1539 L (zvi b :: zvi a :: st) h = zev kL_law 1540 L (zvi (w32 (a + b)) :: st) h) ∧
  (∀ (j : Int) (q : Nat) (L st : List ZV) (h : PH), zev kL_law 1540 L (zvi j :: zvr (some q) :: st) h = if (ph_K h q).1 % 1000 = 1 ∧ 0 ≤ j ∧ j < (ph_K h q).2 then zev kL_law 1541 L (zvi (ph_I h q j) :: st) h else none) ∧
  (∀ (v0 : ZV) (q : Nat) (L st : List ZV) (h : PH), zev kL_law 1541 L (v0 :: zvr (some q) :: st) h = if (ph_K h q).1 % 1000 = 18 ∧ zcat st ≤ 8 then zk kL_law 1541 1544 L st (mX4_pairs [zvr (some q), v0] h) else none) ∧
  (∀ (a b : Int) (L st : List ZV) (h : PH), zev kL_law 1544 L (zvi b :: zvi a :: st) h = if a = b then zev kL_law 2172 L st h else zev kL_law 1547 L st h) ∧
  (∀ (L st : List ZV) (h : PH), zev kL_law 1547 L st h = zev kL_law 1548 L (zvi 0 :: st) h) ∧
  (∀ (a : Int) (L : List ZV) (h : PH), zev kL_law 1548 L [zvi a] h = if a = 0 ∨ a = 1 then zrv (zvi a) h else none) :=
  ⟨fun x0 a L st h => e_ld1R (n := 1525) ((skL_9 1524 (by decide)).trans rfl),
  fun a L st h => e_ld0R (n := 1526) ((skL_9 1525 (by decide)).trans rfl),
  fun x0 x1 x2 x3 a L st h => e_ld4I (n := 1528) ((skL_9 1526 (by decide)).trans rfl),
  fun L st h => e_push (v := zvi 1) (n := 1529) ((skL_9 1528 (by decide)).trans rfl),
  fun a b L st h => e_bin (f := (fun a b => w32 (a + b))) (n := 1530) ((skL_9 1529 (by decide)).trans rfl),
  fun j q L st h => e_ald (kd := 1) (n := 1531) ((skL_9 1530 (by decide)).trans rfl),
  fun v0 q L st h => e_callV2 (F := mX1_pairs) (kd := 16) (n := 1534) ((skL_9 1531 (by decide)).trans rfl),
  fun x0 x1 a L st h => e_ld2R (n := 1535) ((skL_9 1534 (by decide)).trans rfl),
  fun a L st h => e_ld0R (n := 1536) ((skL_9 1535 (by decide)).trans rfl),
  fun x0 x1 x2 x3 a L st h => e_ld4I (n := 1538) ((skL_10 1536 (by decide)).trans rfl),
  fun L st h => e_push (v := zvi 1) (n := 1539) ((skL_10 1538 (by decide)).trans rfl),
  fun a b L st h => e_bin (f := (fun a b => w32 (a + b))) (n := 1540) ((skL_10 1539 (by decide)).trans rfl),
  fun j q L st h => e_ald (kd := 1) (n := 1541) ((skL_10 1540 (by decide)).trans rfl),
  fun v0 q L st h => e_callV2 (F := mX4_pairs) (kd := 18) (n := 1544) ((skL_10 1541 (by decide)).trans rfl),
  fun a b L st h => e_cmpeq (t := 2172) (n := 1547) ((skL_10 1544 (by decide)).trans rfl),
  fun L st h => e_push (v := zvi 0) (n := 1548) ((skL_10 1547 (by decide)).trans rfl),
  fun a L h => e_retz ((skL_10 1548 (by decide)).trans rfl)⟩
theorem rL_law_29 : (∀ (x0 : ZV) (a : Option Nat) (L st : List ZV) (h : PH), zev kL_law 1549 (x0 :: zvr a :: L) st h = zev kL_law 1550 (x0 :: zvr a :: L) (zvr a :: st) h) ∧
  (∀ (a : Option Nat) (L st : List ZV) (h : PH), zev kL_law 1550 (zvr a :: L) st h = zev kL_law 1551 (zvr a :: L) (zvr a :: st) h) ∧
  (∀ (x0 x1 x2 x3 : ZV) (a : Int) (L st : List ZV) (h : PH), zev kL_law 1551 (x0 :: x1 :: x2 :: x3 :: zvi a :: L) st h = zev kL_law 1553 (x0 :: x1 :: x2 :: x3 :: zvi a :: L) (zvi a :: st) h) ∧
  (∀ (L st : List ZV) (h : PH), zev kL_law 1553 L st h = zev kL_law 1554 L (zvi 1 :: st) h) ∧
  (∀ (a b : Int) (L st : List ZV) (h : PH), zev kL_law 1554 L (zvi b :: zvi a :: st) h = zev kL_law 1555 L (zvi (w32 (a + b)) :: st) h) ∧
  (∀ (j : Int) (q : Nat) (L st : List ZV) (h : PH), zev kL_law 1555 L (zvi j :: zvr (some q) :: st) h = if (ph_K h q).1 % 1000 = 1 ∧ 0 ≤ j ∧ j < (ph_K h q).2 then zev kL_law 1556 L (zvi (ph_I h q j) :: st) h else none) ∧
  (∀ (v0 : ZV) (q : Nat) (L st : List ZV) (h : PH), zev kL_law 1556 L (v0 :: zvr (some q) :: st) h = if (ph_K h q).1 % 1000 = 16 ∧ zcat st ≤ 8 then zk kL_law 1556 1559 L st (mX1_hub [zvr (some q), v0] h) else none) ∧
  (∀ (x0 x1 : ZV) (a : Option Nat) (L st : List ZV) (h : PH), zev kL_law 1559 (x0 :: x1 :: zvr a :: L) st h = zev kL_law 1560 (x0 :: x1 :: zvr a :: L) (zvr a :: st) h) ∧
  (∀ (a : Option Nat) (L st : List ZV) (h : PH), zev kL_law 1560 (zvr a :: L) st h = zev kL_law 1561 (zvr a :: L) (zvr a :: st) h) ∧
  (∀ (x0 x1 x2 x3 : ZV) (a : Int) (L st : List ZV) (h : PH), zev kL_law 1561 (x0 :: x1 :: x2 :: x3 :: zvi a :: L) st h = zev kL_law 1563 (x0 :: x1 :: x2 :: x3 :: zvi a :: L) (zvi a :: st) h) ∧
  (∀ (L st : List ZV) (h : PH), zev kL_law 1563 L st h = zev kL_law 1564 L (zvi 1 :: st) h) ∧
  (∀ (a b : Int) (L st : List ZV) (h : PH), zev kL_law 1564 L (zvi b :: zvi a :: st) h = zev kL_law 1565 L (zvi (w32 (a + b)) :: st) h) ∧
  (∀ (j : Int) (q : Nat) (L st : List ZV) (h : PH), zev kL_law 1565 L (zvi j :: zvr (some q) :: st) h = if (ph_K h q).1 % 1000 = 1 ∧ 0 ≤ j ∧ j < (ph_K h q).2 then zev kL_law 1566 L (zvi (ph_I h q j) :: st) h else none) ∧
  (∀ (v0 : ZV) (q : Nat) (L st : List ZV) (h : PH), zev kL_law 1566 L (v0 :: zvr (some q) :: st) h = if (ph_K h q).1 % 1000 = 18 ∧ zcat st ≤ 8 then zk kL_law 1566 1569 L st (mX4_hub [zvr (some q), v0] h) else none) ∧
  (∀ (a b : Int) (L st : List ZV) (h : PH), zev kL_law 1569 L (zvi b :: zvi a :: st) h = if a = b then zev kL_law 2172 L st h else zev kL_law 1572 L st h) ∧
  (∀ (L st : List ZV) (h : PH), zev kL_law 1572 L st h = zev kL_law 1573 L (zvi 0 :: st) h) ∧
  (∀ (a : Int) (L : List ZV) (h : PH), zev kL_law 1573 L [zvi a] h = if a = 0 ∨ a = 1 then zrv (zvi a) h else none) :=
  ⟨fun x0 a L st h => e_ld1R (n := 1550) ((skL_10 1549 (by decide)).trans rfl),
  fun a L st h => e_ld0R (n := 1551) ((skL_10 1550 (by decide)).trans rfl),
  fun x0 x1 x2 x3 a L st h => e_ld4I (n := 1553) ((skL_10 1551 (by decide)).trans rfl),
  fun L st h => e_push (v := zvi 1) (n := 1554) ((skL_10 1553 (by decide)).trans rfl),
  fun a b L st h => e_bin (f := (fun a b => w32 (a + b))) (n := 1555) ((skL_10 1554 (by decide)).trans rfl),
  fun j q L st h => e_ald (kd := 1) (n := 1556) ((skL_10 1555 (by decide)).trans rfl),
  fun v0 q L st h => e_callV2 (F := mX1_hub) (kd := 16) (n := 1559) ((skL_10 1556 (by decide)).trans rfl),
  fun x0 x1 a L st h => e_ld2R (n := 1560) ((skL_10 1559 (by decide)).trans rfl),
  fun a L st h => e_ld0R (n := 1561) ((skL_10 1560 (by decide)).trans rfl),
  fun x0 x1 x2 x3 a L st h => e_ld4I (n := 1563) ((skL_10 1561 (by decide)).trans rfl),
  fun L st h => e_push (v := zvi 1) (n := 1564) ((skL_10 1563 (by decide)).trans rfl),
  fun a b L st h => e_bin (f := (fun a b => w32 (a + b))) (n := 1565) ((skL_10 1564 (by decide)).trans rfl),
  fun j q L st h => e_ald (kd := 1) (n := 1566) ((skL_10 1565 (by decide)).trans rfl),
  fun v0 q L st h => e_callV2 (F := mX4_hub) (kd := 18) (n := 1569) ((skL_10 1566 (by decide)).trans rfl),
  fun a b L st h => e_cmpeq (t := 2172) (n := 1572) ((skL_10 1569 (by decide)).trans rfl),
  fun L st h => e_push (v := zvi 0) (n := 1573) ((skL_10 1572 (by decide)).trans rfl),
  fun a L h => e_retz ((skL_10 1573 (by decide)).trans rfl)⟩
theorem rL_law_30 : (∀ (x0 : ZV) (a : Option Nat) (L st : List ZV) (h : PH), zev kL_law 1574 (x0 :: zvr a :: L) st h = zev kL_law 1575 (x0 :: zvr a :: L) (zvr a :: st) h) ∧
  (∀ (a : Option Nat) (L st : List ZV) (h : PH), zev kL_law 1575 (zvr a :: L) st h = zev kL_law 1576 (zvr a :: L) (zvr a :: st) h) ∧
  (∀ (x0 x1 x2 x3 : ZV) (a : Int) (L st : List ZV) (h : PH), zev kL_law 1576 (x0 :: x1 :: x2 :: x3 :: zvi a :: L) st h = zev kL_law 1578 (x0 :: x1 :: x2 :: x3 :: zvi a :: L) (zvi a :: st) h) ∧
  (∀ (L st : List ZV) (h : PH), zev kL_law 1578 L st h = zev kL_law 1579 L (zvi 1 :: st) h) ∧
  (∀ (a b : Int) (L st : List ZV) (h : PH), zev kL_law 1579 L (zvi b :: zvi a :: st) h = zev kL_law 1580 L (zvi (w32 (a + b)) :: st) h) ∧
  (∀ (j : Int) (q : Nat) (L st : List ZV) (h : PH), zev kL_law 1580 L (zvi j :: zvr (some q) :: st) h = if (ph_K h q).1 % 1000 = 1 ∧ 0 ≤ j ∧ j < (ph_K h q).2 then zev kL_law 1581 L (zvi (ph_I h q j) :: st) h else none) ∧
  (∀ (v0 : ZV) (q : Nat) (L st : List ZV) (h : PH), zev kL_law 1581 L (v0 :: zvr (some q) :: st) h = if (ph_K h q).1 % 1000 = 16 ∧ zcat st ≤ 8 then zk kL_law 1581 1584 L st (mX1_slowest [zvr (some q), v0] h) else none) ∧
  (∀ (x0 x1 : ZV) (a : Option Nat) (L st : List ZV) (h : PH), zev kL_law 1584 (x0 :: x1 :: zvr a :: L) st h = zev kL_law 1585 (x0 :: x1 :: zvr a :: L) (zvr a :: st) h) ∧
  (∀ (a : Option Nat) (L st : List ZV) (h : PH), zev kL_law 1585 (zvr a :: L) st h = zev kL_law 1586 (zvr a :: L) (zvr a :: st) h) ∧
  (∀ (x0 x1 x2 x3 : ZV) (a : Int) (L st : List ZV) (h : PH), zev kL_law 1586 (x0 :: x1 :: x2 :: x3 :: zvi a :: L) st h = zev kL_law 1588 (x0 :: x1 :: x2 :: x3 :: zvi a :: L) (zvi a :: st) h) ∧
  (∀ (L st : List ZV) (h : PH), zev kL_law 1588 L st h = zev kL_law 1589 L (zvi 1 :: st) h) ∧
  (∀ (a b : Int) (L st : List ZV) (h : PH), zev kL_law 1589 L (zvi b :: zvi a :: st) h = zev kL_law 1590 L (zvi (w32 (a + b)) :: st) h) ∧
  (∀ (j : Int) (q : Nat) (L st : List ZV) (h : PH), zev kL_law 1590 L (zvi j :: zvr (some q) :: st) h = if (ph_K h q).1 % 1000 = 1 ∧ 0 ≤ j ∧ j < (ph_K h q).2 then zev kL_law 1591 L (zvi (ph_I h q j) :: st) h else none) ∧
  (∀ (v0 : ZV) (q : Nat) (L st : List ZV) (h : PH), zev kL_law 1591 L (v0 :: zvr (some q) :: st) h = if (ph_K h q).1 % 1000 = 18 ∧ zcat st ≤ 8 then zk kL_law 1591 1594 L st (mX4_slowest [zvr (some q), v0] h) else none) ∧
  (∀ (a b : Int) (L st : List ZV) (h : PH), zev kL_law 1594 L (zvi b :: zvi a :: st) h = if a = b then zev kL_law 2172 L st h else zev kL_law 1597 L st h) ∧
  (∀ (L st : List ZV) (h : PH), zev kL_law 1597 L st h = zev kL_law 1598 L (zvi 0 :: st) h) ∧
  (∀ (a : Int) (L : List ZV) (h : PH), zev kL_law 1598 L [zvi a] h = if a = 0 ∨ a = 1 then zrv (zvi a) h else none) :=
  ⟨fun x0 a L st h => e_ld1R (n := 1575) ((skL_10 1574 (by decide)).trans rfl),
  fun a L st h => e_ld0R (n := 1576) ((skL_10 1575 (by decide)).trans rfl),
  fun x0 x1 x2 x3 a L st h => e_ld4I (n := 1578) ((skL_10 1576 (by decide)).trans rfl),
  fun L st h => e_push (v := zvi 1) (n := 1579) ((skL_10 1578 (by decide)).trans rfl),
  fun a b L st h => e_bin (f := (fun a b => w32 (a + b))) (n := 1580) ((skL_10 1579 (by decide)).trans rfl),
  fun j q L st h => e_ald (kd := 1) (n := 1581) ((skL_10 1580 (by decide)).trans rfl),
  fun v0 q L st h => e_callV2 (F := mX1_slowest) (kd := 16) (n := 1584) ((skL_10 1581 (by decide)).trans rfl),
  fun x0 x1 a L st h => e_ld2R (n := 1585) ((skL_10 1584 (by decide)).trans rfl),
  fun a L st h => e_ld0R (n := 1586) ((skL_10 1585 (by decide)).trans rfl),
  fun x0 x1 x2 x3 a L st h => e_ld4I (n := 1588) ((skL_10 1586 (by decide)).trans rfl),
  fun L st h => e_push (v := zvi 1) (n := 1589) ((skL_10 1588 (by decide)).trans rfl),
  fun a b L st h => e_bin (f := (fun a b => w32 (a + b))) (n := 1590) ((skL_10 1589 (by decide)).trans rfl),
  fun j q L st h => e_ald (kd := 1) (n := 1591) ((skL_10 1590 (by decide)).trans rfl),
  fun v0 q L st h => e_callV2 (F := mX4_slowest) (kd := 18) (n := 1594) ((skL_10 1591 (by decide)).trans rfl),
  fun a b L st h => e_cmpeq (t := 2172) (n := 1597) ((skL_10 1594 (by decide)).trans rfl),
  fun L st h => e_push (v := zvi 0) (n := 1598) ((skL_10 1597 (by decide)).trans rfl),
  fun a L h => e_retz ((skL_10 1598 (by decide)).trans rfl)⟩
theorem rL_law_31 : (∀ (x0 : ZV) (a : Option Nat) (L st : List ZV) (h : PH), zev kL_law 1599 (x0 :: zvr a :: L) st h = zev kL_law 1600 (x0 :: zvr a :: L) (zvr a :: st) h) ∧
  (∀ (a : Option Nat) (L st : List ZV) (h : PH), zev kL_law 1600 (zvr a :: L) st h = zev kL_law 1601 (zvr a :: L) (zvr a :: st) h) ∧
  (∀ (x0 x1 x2 x3 : ZV) (a : Int) (L st : List ZV) (h : PH), zev kL_law 1601 (x0 :: x1 :: x2 :: x3 :: zvi a :: L) st h = zev kL_law 1603 (x0 :: x1 :: x2 :: x3 :: zvi a :: L) (zvi a :: st) h) ∧
  (∀ (L st : List ZV) (h : PH), zev kL_law 1603 L st h = zev kL_law 1604 L (zvi 1 :: st) h) ∧
  (∀ (a b : Int) (L st : List ZV) (h : PH), zev kL_law 1604 L (zvi b :: zvi a :: st) h = zev kL_law 1605 L (zvi (w32 (a + b)) :: st) h) ∧
  (∀ (j : Int) (q : Nat) (L st : List ZV) (h : PH), zev kL_law 1605 L (zvi j :: zvr (some q) :: st) h = if (ph_K h q).1 % 1000 = 1 ∧ 0 ≤ j ∧ j < (ph_K h q).2 then zev kL_law 1606 L (zvi (ph_I h q j) :: st) h else none) ∧
  (∀ (a : Option Nat) (L st : List ZV) (h : PH), zev kL_law 1606 (zvr a :: L) st h = zev kL_law 1607 (zvr a :: L) (zvr a :: st) h) ∧
  (∀ (x0 x1 x2 x3 : ZV) (a : Int) (L st : List ZV) (h : PH), zev kL_law 1607 (x0 :: x1 :: x2 :: x3 :: zvi a :: L) st h = zev kL_law 1609 (x0 :: x1 :: x2 :: x3 :: zvi a :: L) (zvi a :: st) h) ∧
  (∀ (L st : List ZV) (h : PH), zev kL_law 1609 L st h = zev kL_law 1610 L (zvi 2 :: st) h) ∧
  (∀ (a b : Int) (L st : List ZV) (h : PH), zev kL_law 1610 L (zvi b :: zvi a :: st) h = zev kL_law 1611 L (zvi (w32 (a + b)) :: st) h) ∧
  (∀ (j : Int) (q : Nat) (L st : List ZV) (h : PH), zev kL_law 1611 L (zvi j :: zvr (some q) :: st) h = if (ph_K h q).1 % 1000 = 1 ∧ 0 ≤ j ∧ j < (ph_K h q).2 then zev kL_law 1612 L (zvi (ph_I h q j) :: st) h else none) ∧
  (∀ (a : Option Nat) (L st : List ZV) (h : PH), zev kL_law 1612 (zvr a :: L) st h = zev kL_law 1613 (zvr a :: L) (zvr a :: st) h) ∧
  (∀ (x0 x1 x2 x3 : ZV) (a : Int) (L st : List ZV) (h : PH), zev kL_law 1613 (x0 :: x1 :: x2 :: x3 :: zvi a :: L) st h = zev kL_law 1615 (x0 :: x1 :: x2 :: x3 :: zvi a :: L) (zvi a :: st) h) ∧
  (∀ (L st : List ZV) (h : PH), zev kL_law 1615 L st h = zev kL_law 1616 L (zvi 3 :: st) h) ∧
  (∀ (a b : Int) (L st : List ZV) (h : PH), zev kL_law 1616 L (zvi b :: zvi a :: st) h = zev kL_law 1617 L (zvi (w32 (a + b)) :: st) h) ∧
  (∀ (j : Int) (q : Nat) (L st : List ZV) (h : PH), zev kL_law 1617 L (zvi j :: zvr (some q) :: st) h = if (ph_K h q).1 % 1000 = 1 ∧ 0 ≤ j ∧ j < (ph_K h q).2 then zev kL_law 1618 L (zvi (ph_I h q j) :: st) h else none) ∧
  (∀ (a : Option Nat) (L st : List ZV) (h : PH), zev kL_law 1618 (zvr a :: L) st h = zev kL_law 1619 (zvr a :: L) (zvr a :: st) h) ∧
  (∀ (x0 x1 x2 x3 : ZV) (a : Int) (L st : List ZV) (h : PH), zev kL_law 1619 (x0 :: x1 :: x2 :: x3 :: zvi a :: L) st h = zev kL_law 1621 (x0 :: x1 :: x2 :: x3 :: zvi a :: L) (zvi a :: st) h) ∧
  (∀ (L st : List ZV) (h : PH), zev kL_law 1621 L st h = zev kL_law 1622 L (zvi 4 :: st) h) ∧
  (∀ (a b : Int) (L st : List ZV) (h : PH), zev kL_law 1622 L (zvi b :: zvi a :: st) h = zev kL_law 1623 L (zvi (w32 (a + b)) :: st) h) ∧
  (∀ (j : Int) (q : Nat) (L st : List ZV) (h : PH), zev kL_law 1623 L (zvi j :: zvr (some q) :: st) h = if (ph_K h q).1 % 1000 = 1 ∧ 0 ≤ j ∧ j < (ph_K h q).2 then zev kL_law 1624 L (zvi (ph_I h q j) :: st) h else none) ∧
  (∀ (v0 v1 v2 v3 : ZV) (q : Nat) (L st : List ZV) (h : PH), zev kL_law 1624 L (v3 :: v2 :: v1 :: v0 :: zvr (some q) :: st) h = if (ph_K h q).1 % 1000 = 16 ∧ zcat st ≤ 8 then zk kL_law 1624 1627 L st (mX1_needs [zvr (some q), v0, v1, v2, v3] h) else none) ∧
  (∀ (x0 x1 : ZV) (a : Option Nat) (L st : List ZV) (h : PH), zev kL_law 1627 (x0 :: x1 :: zvr a :: L) st h = zev kL_law 1628 (x0 :: x1 :: zvr a :: L) (zvr a :: st) h) ∧
  (∀ (a : Option Nat) (L st : List ZV) (h : PH), zev kL_law 1628 (zvr a :: L) st h = zev kL_law 1629 (zvr a :: L) (zvr a :: st) h) ∧
  (∀ (x0 x1 x2 x3 : ZV) (a : Int) (L st : List ZV) (h : PH), zev kL_law 1629 (x0 :: x1 :: x2 :: x3 :: zvi a :: L) st h = zev kL_law 1631 (x0 :: x1 :: x2 :: x3 :: zvi a :: L) (zvi a :: st) h) ∧
  (∀ (L st : List ZV) (h : PH), zev kL_law 1631 L st h = zev kL_law 1632 L (zvi 1 :: st) h) ∧
  (∀ (a b : Int) (L st : List ZV) (h : PH), zev kL_law 1632 L (zvi b :: zvi a :: st) h = zev kL_law 1633 L (zvi (w32 (a + b)) :: st) h) ∧
  (∀ (j : Int) (q : Nat) (L st : List ZV) (h : PH), zev kL_law 1633 L (zvi j :: zvr (some q) :: st) h = if (ph_K h q).1 % 1000 = 1 ∧ 0 ≤ j ∧ j < (ph_K h q).2 then zev kL_law 1634 L (zvi (ph_I h q j) :: st) h else none) ∧
  (∀ (a : Option Nat) (L st : List ZV) (h : PH), zev kL_law 1634 (zvr a :: L) st h = zev kL_law 1635 (zvr a :: L) (zvr a :: st) h) ∧
  (∀ (x0 x1 x2 x3 : ZV) (a : Int) (L st : List ZV) (h : PH), zev kL_law 1635 (x0 :: x1 :: x2 :: x3 :: zvi a :: L) st h = zev kL_law 1637 (x0 :: x1 :: x2 :: x3 :: zvi a :: L) (zvi a :: st) h) ∧
  (∀ (L st : List ZV) (h : PH), zev kL_law 1637 L st h = zev kL_law 1638 L (zvi 2 :: st) h) ∧
  (∀ (a b : Int) (L st : List ZV) (h : PH), zev kL_law 1638 L (zvi b :: zvi a :: st) h = zev kL_law 1639 L (zvi (w32 (a + b)) :: st) h) ∧
  (∀ (j : Int) (q : Nat) (L st : List ZV) (h : PH), zev kL_law 1639 L (zvi j :: zvr (some q) :: st) h = if (ph_K h q).1 % 1000 = 1 ∧ 0 ≤ j ∧ j < (ph_K h q).2 then zev kL_law 1640 L (zvi (ph_I h q j) :: st) h else none) ∧
  (∀ (a : Option Nat) (L st : List ZV) (h : PH), zev kL_law 1640 (zvr a :: L) st h = zev kL_law 1641 (zvr a :: L) (zvr a :: st) h) ∧
  (∀ (x0 x1 x2 x3 : ZV) (a : Int) (L st : List ZV) (h : PH), zev kL_law 1641 (x0 :: x1 :: x2 :: x3 :: zvi a :: L) st h = zev kL_law 1643 (x0 :: x1 :: x2 :: x3 :: zvi a :: L) (zvi a :: st) h) ∧
  (∀ (L st : List ZV) (h : PH), zev kL_law 1643 L st h = zev kL_law 1644 L (zvi 3 :: st) h) ∧
  (∀ (a b : Int) (L st : List ZV) (h : PH), zev kL_law 1644 L (zvi b :: zvi a :: st) h = zev kL_law 1645 L (zvi (w32 (a + b)) :: st) h) ∧
  (∀ (j : Int) (q : Nat) (L st : List ZV) (h : PH), zev kL_law 1645 L (zvi j :: zvr (some q) :: st) h = if (ph_K h q).1 % 1000 = 1 ∧ 0 ≤ j ∧ j < (ph_K h q).2 then zev kL_law 1646 L (zvi (ph_I h q j) :: st) h else none) ∧
  (∀ (a : Option Nat) (L st : List ZV) (h : PH), zev kL_law 1646 (zvr a :: L) st h = zev kL_law 1647 (zvr a :: L) (zvr a :: st) h) ∧
  (∀ (x0 x1 x2 x3 : ZV) (a : Int) (L st : List ZV) (h : PH), zev kL_law 1647 (x0 :: x1 :: x2 :: x3 :: zvi a :: L) st h = zev kL_law 1649 (x0 :: x1 :: x2 :: x3 :: zvi a :: L) (zvi a :: st) h) ∧
  (∀ (L st : List ZV) (h : PH), zev kL_law 1649 L st h = zev kL_law 1650 L (zvi 4 :: st) h) ∧
  (∀ (a b : Int) (L st : List ZV) (h : PH), zev kL_law 1650 L (zvi b :: zvi a :: st) h = zev kL_law 1651 L (zvi (w32 (a + b)) :: st) h) ∧
  (∀ (j : Int) (q : Nat) (L st : List ZV) (h : PH), zev kL_law 1651 L (zvi j :: zvr (some q) :: st) h = if (ph_K h q).1 % 1000 = 1 ∧ 0 ≤ j ∧ j < (ph_K h q).2 then zev kL_law 1652 L (zvi (ph_I h q j) :: st) h else none) ∧
  (∀ (v0 v1 v2 v3 : ZV) (q : Nat) (L st : List ZV) (h : PH), zev kL_law 1652 L (v3 :: v2 :: v1 :: v0 :: zvr (some q) :: st) h = if (ph_K h q).1 % 1000 = 18 ∧ zcat st ≤ 8 then zk kL_law 1652 1655 L st (mX4_needs [zvr (some q), v0, v1, v2, v3] h) else none) ∧
  (∀ (a b : Int) (L st : List ZV) (h : PH), zev kL_law 1655 L (zvi b :: zvi a :: st) h = if a = b then zev kL_law 2172 L st h else zev kL_law 1658 L st h) ∧
  (∀ (L st : List ZV) (h : PH), zev kL_law 1658 L st h = zev kL_law 1659 L (zvi 0 :: st) h) ∧
  (∀ (a : Int) (L : List ZV) (h : PH), zev kL_law 1659 L [zvi a] h = if a = 0 ∨ a = 1 then zrv (zvi a) h else none) :=
  ⟨fun x0 a L st h => e_ld1R (n := 1600) ((skL_10 1599 (by decide)).trans rfl),
  fun a L st h => e_ld0R (n := 1601) ((skL_10 1600 (by decide)).trans rfl),
  fun x0 x1 x2 x3 a L st h => e_ld4I (n := 1603) ((skL_10 1601 (by decide)).trans rfl),
  fun L st h => e_push (v := zvi 1) (n := 1604) ((skL_10 1603 (by decide)).trans rfl),
  fun a b L st h => e_bin (f := (fun a b => w32 (a + b))) (n := 1605) ((skL_10 1604 (by decide)).trans rfl),
  fun j q L st h => e_ald (kd := 1) (n := 1606) ((skL_10 1605 (by decide)).trans rfl),
  fun a L st h => e_ld0R (n := 1607) ((skL_10 1606 (by decide)).trans rfl),
  fun x0 x1 x2 x3 a L st h => e_ld4I (n := 1609) ((skL_10 1607 (by decide)).trans rfl),
  fun L st h => e_push (v := zvi 2) (n := 1610) ((skL_10 1609 (by decide)).trans rfl),
  fun a b L st h => e_bin (f := (fun a b => w32 (a + b))) (n := 1611) ((skL_10 1610 (by decide)).trans rfl),
  fun j q L st h => e_ald (kd := 1) (n := 1612) ((skL_10 1611 (by decide)).trans rfl),
  fun a L st h => e_ld0R (n := 1613) ((skL_10 1612 (by decide)).trans rfl),
  fun x0 x1 x2 x3 a L st h => e_ld4I (n := 1615) ((skL_10 1613 (by decide)).trans rfl),
  fun L st h => e_push (v := zvi 3) (n := 1616) ((skL_10 1615 (by decide)).trans rfl),
  fun a b L st h => e_bin (f := (fun a b => w32 (a + b))) (n := 1617) ((skL_10 1616 (by decide)).trans rfl),
  fun j q L st h => e_ald (kd := 1) (n := 1618) ((skL_10 1617 (by decide)).trans rfl),
  fun a L st h => e_ld0R (n := 1619) ((skL_10 1618 (by decide)).trans rfl),
  fun x0 x1 x2 x3 a L st h => e_ld4I (n := 1621) ((skL_10 1619 (by decide)).trans rfl),
  fun L st h => e_push (v := zvi 4) (n := 1622) ((skL_10 1621 (by decide)).trans rfl),
  fun a b L st h => e_bin (f := (fun a b => w32 (a + b))) (n := 1623) ((skL_10 1622 (by decide)).trans rfl),
  fun j q L st h => e_ald (kd := 1) (n := 1624) ((skL_10 1623 (by decide)).trans rfl),
  fun v0 v1 v2 v3 q L st h => e_callV5 (F := mX1_needs) (kd := 16) (n := 1627) ((skL_10 1624 (by decide)).trans rfl),
  fun x0 x1 a L st h => e_ld2R (n := 1628) ((skL_10 1627 (by decide)).trans rfl),
  fun a L st h => e_ld0R (n := 1629) ((skL_10 1628 (by decide)).trans rfl),
  fun x0 x1 x2 x3 a L st h => e_ld4I (n := 1631) ((skL_10 1629 (by decide)).trans rfl),
  fun L st h => e_push (v := zvi 1) (n := 1632) ((skL_10 1631 (by decide)).trans rfl),
  fun a b L st h => e_bin (f := (fun a b => w32 (a + b))) (n := 1633) ((skL_10 1632 (by decide)).trans rfl),
  fun j q L st h => e_ald (kd := 1) (n := 1634) ((skL_10 1633 (by decide)).trans rfl),
  fun a L st h => e_ld0R (n := 1635) ((skL_10 1634 (by decide)).trans rfl),
  fun x0 x1 x2 x3 a L st h => e_ld4I (n := 1637) ((skL_10 1635 (by decide)).trans rfl),
  fun L st h => e_push (v := zvi 2) (n := 1638) ((skL_10 1637 (by decide)).trans rfl),
  fun a b L st h => e_bin (f := (fun a b => w32 (a + b))) (n := 1639) ((skL_10 1638 (by decide)).trans rfl),
  fun j q L st h => e_ald (kd := 1) (n := 1640) ((skL_10 1639 (by decide)).trans rfl),
  fun a L st h => e_ld0R (n := 1641) ((skL_10 1640 (by decide)).trans rfl),
  fun x0 x1 x2 x3 a L st h => e_ld4I (n := 1643) ((skL_10 1641 (by decide)).trans rfl),
  fun L st h => e_push (v := zvi 3) (n := 1644) ((skL_10 1643 (by decide)).trans rfl),
  fun a b L st h => e_bin (f := (fun a b => w32 (a + b))) (n := 1645) ((skL_10 1644 (by decide)).trans rfl),
  fun j q L st h => e_ald (kd := 1) (n := 1646) ((skL_10 1645 (by decide)).trans rfl),
  fun a L st h => e_ld0R (n := 1647) ((skL_10 1646 (by decide)).trans rfl),
  fun x0 x1 x2 x3 a L st h => e_ld4I (n := 1649) ((skL_10 1647 (by decide)).trans rfl),
  fun L st h => e_push (v := zvi 4) (n := 1650) ((skL_10 1649 (by decide)).trans rfl),
  fun a b L st h => e_bin (f := (fun a b => w32 (a + b))) (n := 1651) ((skL_10 1650 (by decide)).trans rfl),
  fun j q L st h => e_ald (kd := 1) (n := 1652) ((skL_10 1651 (by decide)).trans rfl),
  fun v0 v1 v2 v3 q L st h => e_callV5 (F := mX4_needs) (kd := 18) (n := 1655) ((skL_10 1652 (by decide)).trans rfl),
  fun a b L st h => e_cmpeq (t := 2172) (n := 1658) ((skL_10 1655 (by decide)).trans rfl),
  fun L st h => e_push (v := zvi 0) (n := 1659) ((skL_10 1658 (by decide)).trans rfl),
  fun a L h => e_retz ((skL_10 1659 (by decide)).trans rfl)⟩
theorem rL_law_32 : (∀ (x0 : ZV) (a : Option Nat) (L st : List ZV) (h : PH), zev kL_law 1660 (x0 :: zvr a :: L) st h = zev kL_law 1661 (x0 :: zvr a :: L) (zvr a :: st) h) ∧
  (∀ (a : Option Nat) (L st : List ZV) (h : PH), zev kL_law 1661 (zvr a :: L) st h = zev kL_law 1662 (zvr a :: L) (zvr a :: st) h) ∧
  (∀ (x0 x1 x2 x3 : ZV) (a : Int) (L st : List ZV) (h : PH), zev kL_law 1662 (x0 :: x1 :: x2 :: x3 :: zvi a :: L) st h = zev kL_law 1664 (x0 :: x1 :: x2 :: x3 :: zvi a :: L) (zvi a :: st) h) ∧
  (∀ (L st : List ZV) (h : PH), zev kL_law 1664 L st h = zev kL_law 1665 L (zvi 1 :: st) h) ∧
  (∀ (a b : Int) (L st : List ZV) (h : PH), zev kL_law 1665 L (zvi b :: zvi a :: st) h = zev kL_law 1666 L (zvi (w32 (a + b)) :: st) h) ∧
  (∀ (j : Int) (q : Nat) (L st : List ZV) (h : PH), zev kL_law 1666 L (zvi j :: zvr (some q) :: st) h = if (ph_K h q).1 % 1000 = 1 ∧ 0 ≤ j ∧ j < (ph_K h q).2 then zev kL_law 1667 L (zvi (ph_I h q j) :: st) h else none) ∧
  (∀ (a : Option Nat) (L st : List ZV) (h : PH), zev kL_law 1667 (zvr a :: L) st h = zev kL_law 1668 (zvr a :: L) (zvr a :: st) h) ∧
  (∀ (x0 x1 x2 x3 : ZV) (a : Int) (L st : List ZV) (h : PH), zev kL_law 1668 (x0 :: x1 :: x2 :: x3 :: zvi a :: L) st h = zev kL_law 1670 (x0 :: x1 :: x2 :: x3 :: zvi a :: L) (zvi a :: st) h) ∧
  (∀ (L st : List ZV) (h : PH), zev kL_law 1670 L st h = zev kL_law 1671 L (zvi 2 :: st) h) ∧
  (∀ (a b : Int) (L st : List ZV) (h : PH), zev kL_law 1671 L (zvi b :: zvi a :: st) h = zev kL_law 1672 L (zvi (w32 (a + b)) :: st) h) ∧
  (∀ (j : Int) (q : Nat) (L st : List ZV) (h : PH), zev kL_law 1672 L (zvi j :: zvr (some q) :: st) h = if (ph_K h q).1 % 1000 = 1 ∧ 0 ≤ j ∧ j < (ph_K h q).2 then zev kL_law 1673 L (zvi (ph_I h q j) :: st) h else none) ∧
  (∀ (a : Option Nat) (L st : List ZV) (h : PH), zev kL_law 1673 (zvr a :: L) st h = zev kL_law 1674 (zvr a :: L) (zvr a :: st) h) ∧
  (∀ (x0 x1 x2 x3 : ZV) (a : Int) (L st : List ZV) (h : PH), zev kL_law 1674 (x0 :: x1 :: x2 :: x3 :: zvi a :: L) st h = zev kL_law 1676 (x0 :: x1 :: x2 :: x3 :: zvi a :: L) (zvi a :: st) h) ∧
  (∀ (L st : List ZV) (h : PH), zev kL_law 1676 L st h = zev kL_law 1677 L (zvi 3 :: st) h) ∧
  (∀ (a b : Int) (L st : List ZV) (h : PH), zev kL_law 1677 L (zvi b :: zvi a :: st) h = zev kL_law 1678 L (zvi (w32 (a + b)) :: st) h) ∧
  (∀ (j : Int) (q : Nat) (L st : List ZV) (h : PH), zev kL_law 1678 L (zvi j :: zvr (some q) :: st) h = if (ph_K h q).1 % 1000 = 1 ∧ 0 ≤ j ∧ j < (ph_K h q).2 then zev kL_law 1679 L (zvi (ph_I h q j) :: st) h else none) ∧
  (∀ (v0 v1 v2 : ZV) (q : Nat) (L st : List ZV) (h : PH), zev kL_law 1679 L (v2 :: v1 :: v0 :: zvr (some q) :: st) h = if (ph_K h q).1 % 1000 = 16 ∧ zcat st ≤ 8 then zk kL_law 1679 1682 L st (mX1_vital [zvr (some q), v0, v1, v2] h) else none) ∧
  (∀ (x0 x1 : ZV) (a : Option Nat) (L st : List ZV) (h : PH), zev kL_law 1682 (x0 :: x1 :: zvr a :: L) st h = zev kL_law 1683 (x0 :: x1 :: zvr a :: L) (zvr a :: st) h) ∧
  (∀ (a : Option Nat) (L st : List ZV) (h : PH), zev kL_law 1683 (zvr a :: L) st h = zev kL_law 1684 (zvr a :: L) (zvr a :: st) h) ∧
  (∀ (x0 x1 x2 x3 : ZV) (a : Int) (L st : List ZV) (h : PH), zev kL_law 1684 (x0 :: x1 :: x2 :: x3 :: zvi a :: L) st h = zev kL_law 1686 (x0 :: x1 :: x2 :: x3 :: zvi a :: L) (zvi a :: st) h) ∧
  (∀ (L st : List ZV) (h : PH), zev kL_law 1686 L st h = zev kL_law 1687 L (zvi 1 :: st) h) ∧
  (∀ (a b : Int) (L st : List ZV) (h : PH), zev kL_law 1687 L (zvi b :: zvi a :: st) h = zev kL_law 1688 L (zvi (w32 (a + b)) :: st) h) ∧
  (∀ (j : Int) (q : Nat) (L st : List ZV) (h : PH), zev kL_law 1688 L (zvi j :: zvr (some q) :: st) h = if (ph_K h q).1 % 1000 = 1 ∧ 0 ≤ j ∧ j < (ph_K h q).2 then zev kL_law 1689 L (zvi (ph_I h q j) :: st) h else none) ∧
  (∀ (a : Option Nat) (L st : List ZV) (h : PH), zev kL_law 1689 (zvr a :: L) st h = zev kL_law 1690 (zvr a :: L) (zvr a :: st) h) ∧
  (∀ (x0 x1 x2 x3 : ZV) (a : Int) (L st : List ZV) (h : PH), zev kL_law 1690 (x0 :: x1 :: x2 :: x3 :: zvi a :: L) st h = zev kL_law 1692 (x0 :: x1 :: x2 :: x3 :: zvi a :: L) (zvi a :: st) h) ∧
  (∀ (L st : List ZV) (h : PH), zev kL_law 1692 L st h = zev kL_law 1693 L (zvi 2 :: st) h) ∧
  (∀ (a b : Int) (L st : List ZV) (h : PH), zev kL_law 1693 L (zvi b :: zvi a :: st) h = zev kL_law 1694 L (zvi (w32 (a + b)) :: st) h) ∧
  (∀ (j : Int) (q : Nat) (L st : List ZV) (h : PH), zev kL_law 1694 L (zvi j :: zvr (some q) :: st) h = if (ph_K h q).1 % 1000 = 1 ∧ 0 ≤ j ∧ j < (ph_K h q).2 then zev kL_law 1695 L (zvi (ph_I h q j) :: st) h else none) ∧
  (∀ (a : Option Nat) (L st : List ZV) (h : PH), zev kL_law 1695 (zvr a :: L) st h = zev kL_law 1696 (zvr a :: L) (zvr a :: st) h) ∧
  (∀ (x0 x1 x2 x3 : ZV) (a : Int) (L st : List ZV) (h : PH), zev kL_law 1696 (x0 :: x1 :: x2 :: x3 :: zvi a :: L) st h = zev kL_law 1698 (x0 :: x1 :: x2 :: x3 :: zvi a :: L) (zvi a :: st) h) ∧
  (∀ (L st : List ZV) (h : PH), zev kL_law 1698 L st h = zev kL_law 1699 L (zvi 3 :: st) h) ∧
  (∀ (a b : Int) (L st : List ZV) (h : PH), zev kL_law 1699 L (zvi b :: zvi a :: st) h = zev kL_law 1700 L (zvi (w32 (a + b)) :: st) h) ∧
  (∀ (j : Int) (q : Nat) (L st : List ZV) (h : PH), zev kL_law 1700 L (zvi j :: zvr (some q) :: st) h = if (ph_K h q).1 % 1000 = 1 ∧ 0 ≤ j ∧ j < (ph_K h q).2 then zev kL_law 1701 L (zvi (ph_I h q j) :: st) h else none) ∧
  (∀ (v0 v1 v2 : ZV) (q : Nat) (L st : List ZV) (h : PH), zev kL_law 1701 L (v2 :: v1 :: v0 :: zvr (some q) :: st) h = if (ph_K h q).1 % 1000 = 18 ∧ zcat st ≤ 8 then zk kL_law 1701 1704 L st (mX4_vital [zvr (some q), v0, v1, v2] h) else none) ∧
  (∀ (a b : Int) (L st : List ZV) (h : PH), zev kL_law 1704 L (zvi b :: zvi a :: st) h = if a = b then zev kL_law 2172 L st h else zev kL_law 1707 L st h) ∧
  (∀ (L st : List ZV) (h : PH), zev kL_law 1707 L st h = zev kL_law 1708 L (zvi 0 :: st) h) ∧
  (∀ (a : Int) (L : List ZV) (h : PH), zev kL_law 1708 L [zvi a] h = if a = 0 ∨ a = 1 then zrv (zvi a) h else none) :=
  ⟨fun x0 a L st h => e_ld1R (n := 1661) ((skL_10 1660 (by decide)).trans rfl),
  fun a L st h => e_ld0R (n := 1662) ((skL_10 1661 (by decide)).trans rfl),
  fun x0 x1 x2 x3 a L st h => e_ld4I (n := 1664) ((skL_10 1662 (by decide)).trans rfl),
  fun L st h => e_push (v := zvi 1) (n := 1665) ((skL_10 1664 (by decide)).trans rfl),
  fun a b L st h => e_bin (f := (fun a b => w32 (a + b))) (n := 1666) ((skL_10 1665 (by decide)).trans rfl),
  fun j q L st h => e_ald (kd := 1) (n := 1667) ((skL_10 1666 (by decide)).trans rfl),
  fun a L st h => e_ld0R (n := 1668) ((skL_10 1667 (by decide)).trans rfl),
  fun x0 x1 x2 x3 a L st h => e_ld4I (n := 1670) ((skL_10 1668 (by decide)).trans rfl),
  fun L st h => e_push (v := zvi 2) (n := 1671) ((skL_10 1670 (by decide)).trans rfl),
  fun a b L st h => e_bin (f := (fun a b => w32 (a + b))) (n := 1672) ((skL_10 1671 (by decide)).trans rfl),
  fun j q L st h => e_ald (kd := 1) (n := 1673) ((skL_10 1672 (by decide)).trans rfl),
  fun a L st h => e_ld0R (n := 1674) ((skL_11 1673 (by decide)).trans rfl),
  fun x0 x1 x2 x3 a L st h => e_ld4I (n := 1676) ((skL_11 1674 (by decide)).trans rfl),
  fun L st h => e_push (v := zvi 3) (n := 1677) ((skL_11 1676 (by decide)).trans rfl),
  fun a b L st h => e_bin (f := (fun a b => w32 (a + b))) (n := 1678) ((skL_11 1677 (by decide)).trans rfl),
  fun j q L st h => e_ald (kd := 1) (n := 1679) ((skL_11 1678 (by decide)).trans rfl),
  fun v0 v1 v2 q L st h => e_callV4 (F := mX1_vital) (kd := 16) (n := 1682) ((skL_11 1679 (by decide)).trans rfl),
  fun x0 x1 a L st h => e_ld2R (n := 1683) ((skL_11 1682 (by decide)).trans rfl),
  fun a L st h => e_ld0R (n := 1684) ((skL_11 1683 (by decide)).trans rfl),
  fun x0 x1 x2 x3 a L st h => e_ld4I (n := 1686) ((skL_11 1684 (by decide)).trans rfl),
  fun L st h => e_push (v := zvi 1) (n := 1687) ((skL_11 1686 (by decide)).trans rfl),
  fun a b L st h => e_bin (f := (fun a b => w32 (a + b))) (n := 1688) ((skL_11 1687 (by decide)).trans rfl),
  fun j q L st h => e_ald (kd := 1) (n := 1689) ((skL_11 1688 (by decide)).trans rfl),
  fun a L st h => e_ld0R (n := 1690) ((skL_11 1689 (by decide)).trans rfl),
  fun x0 x1 x2 x3 a L st h => e_ld4I (n := 1692) ((skL_11 1690 (by decide)).trans rfl),
  fun L st h => e_push (v := zvi 2) (n := 1693) ((skL_11 1692 (by decide)).trans rfl),
  fun a b L st h => e_bin (f := (fun a b => w32 (a + b))) (n := 1694) ((skL_11 1693 (by decide)).trans rfl),
  fun j q L st h => e_ald (kd := 1) (n := 1695) ((skL_11 1694 (by decide)).trans rfl),
  fun a L st h => e_ld0R (n := 1696) ((skL_11 1695 (by decide)).trans rfl),
  fun x0 x1 x2 x3 a L st h => e_ld4I (n := 1698) ((skL_11 1696 (by decide)).trans rfl),
  fun L st h => e_push (v := zvi 3) (n := 1699) ((skL_11 1698 (by decide)).trans rfl),
  fun a b L st h => e_bin (f := (fun a b => w32 (a + b))) (n := 1700) ((skL_11 1699 (by decide)).trans rfl),
  fun j q L st h => e_ald (kd := 1) (n := 1701) ((skL_11 1700 (by decide)).trans rfl),
  fun v0 v1 v2 q L st h => e_callV4 (F := mX4_vital) (kd := 18) (n := 1704) ((skL_11 1701 (by decide)).trans rfl),
  fun a b L st h => e_cmpeq (t := 2172) (n := 1707) ((skL_11 1704 (by decide)).trans rfl),
  fun L st h => e_push (v := zvi 0) (n := 1708) ((skL_11 1707 (by decide)).trans rfl),
  fun a L h => e_retz ((skL_11 1708 (by decide)).trans rfl)⟩
theorem rL_law_33 : (∀ (x0 : ZV) (a : Option Nat) (L st : List ZV) (h : PH), zev kL_law 1709 (x0 :: zvr a :: L) st h = zev kL_law 1710 (x0 :: zvr a :: L) (zvr a :: st) h) ∧
  (∀ (a : Option Nat) (L st : List ZV) (h : PH), zev kL_law 1710 (zvr a :: L) st h = zev kL_law 1711 (zvr a :: L) (zvr a :: st) h) ∧
  (∀ (x0 x1 x2 x3 : ZV) (a : Int) (L st : List ZV) (h : PH), zev kL_law 1711 (x0 :: x1 :: x2 :: x3 :: zvi a :: L) st h = zev kL_law 1713 (x0 :: x1 :: x2 :: x3 :: zvi a :: L) (zvi a :: st) h) ∧
  (∀ (L st : List ZV) (h : PH), zev kL_law 1713 L st h = zev kL_law 1714 L (zvi 1 :: st) h) ∧
  (∀ (a b : Int) (L st : List ZV) (h : PH), zev kL_law 1714 L (zvi b :: zvi a :: st) h = zev kL_law 1715 L (zvi (w32 (a + b)) :: st) h) ∧
  (∀ (j : Int) (q : Nat) (L st : List ZV) (h : PH), zev kL_law 1715 L (zvi j :: zvr (some q) :: st) h = if (ph_K h q).1 % 1000 = 1 ∧ 0 ≤ j ∧ j < (ph_K h q).2 then zev kL_law 1716 L (zvi (ph_I h q j) :: st) h else none) ∧
  (∀ (a : Option Nat) (L st : List ZV) (h : PH), zev kL_law 1716 (zvr a :: L) st h = zev kL_law 1717 (zvr a :: L) (zvr a :: st) h) ∧
  (∀ (x0 x1 x2 x3 : ZV) (a : Int) (L st : List ZV) (h : PH), zev kL_law 1717 (x0 :: x1 :: x2 :: x3 :: zvi a :: L) st h = zev kL_law 1719 (x0 :: x1 :: x2 :: x3 :: zvi a :: L) (zvi a :: st) h) ∧
  (∀ (L st : List ZV) (h : PH), zev kL_law 1719 L st h = zev kL_law 1720 L (zvi 2 :: st) h) ∧
  (∀ (a b : Int) (L st : List ZV) (h : PH), zev kL_law 1720 L (zvi b :: zvi a :: st) h = zev kL_law 1721 L (zvi (w32 (a + b)) :: st) h) ∧
  (∀ (j : Int) (q : Nat) (L st : List ZV) (h : PH), zev kL_law 1721 L (zvi j :: zvr (some q) :: st) h = if (ph_K h q).1 % 1000 = 1 ∧ 0 ≤ j ∧ j < (ph_K h q).2 then zev kL_law 1722 L (zvi (ph_I h q j) :: st) h else none) ∧
  (∀ (a : Option Nat) (L st : List ZV) (h : PH), zev kL_law 1722 (zvr a :: L) st h = zev kL_law 1723 (zvr a :: L) (zvr a :: st) h) ∧
  (∀ (x0 x1 x2 x3 : ZV) (a : Int) (L st : List ZV) (h : PH), zev kL_law 1723 (x0 :: x1 :: x2 :: x3 :: zvi a :: L) st h = zev kL_law 1725 (x0 :: x1 :: x2 :: x3 :: zvi a :: L) (zvi a :: st) h) ∧
  (∀ (L st : List ZV) (h : PH), zev kL_law 1725 L st h = zev kL_law 1726 L (zvi 3 :: st) h) ∧
  (∀ (a b : Int) (L st : List ZV) (h : PH), zev kL_law 1726 L (zvi b :: zvi a :: st) h = zev kL_law 1727 L (zvi (w32 (a + b)) :: st) h) ∧
  (∀ (j : Int) (q : Nat) (L st : List ZV) (h : PH), zev kL_law 1727 L (zvi j :: zvr (some q) :: st) h = if (ph_K h q).1 % 1000 = 1 ∧ 0 ≤ j ∧ j < (ph_K h q).2 then zev kL_law 1728 L (zvi (ph_I h q j) :: st) h else none) ∧
  (∀ (a : Option Nat) (L st : List ZV) (h : PH), zev kL_law 1728 (zvr a :: L) st h = zev kL_law 1729 (zvr a :: L) (zvr a :: st) h) ∧
  (∀ (x0 x1 x2 x3 : ZV) (a : Int) (L st : List ZV) (h : PH), zev kL_law 1729 (x0 :: x1 :: x2 :: x3 :: zvi a :: L) st h = zev kL_law 1731 (x0 :: x1 :: x2 :: x3 :: zvi a :: L) (zvi a :: st) h) ∧
  (∀ (L st : List ZV) (h : PH), zev kL_law 1731 L st h = zev kL_law 1732 L (zvi 4 :: st) h) ∧
  (∀ (a b : Int) (L st : List ZV) (h : PH), zev kL_law 1732 L (zvi b :: zvi a :: st) h = zev kL_law 1733 L (zvi (w32 (a + b)) :: st) h) ∧
  (∀ (j : Int) (q : Nat) (L st : List ZV) (h : PH), zev kL_law 1733 L (zvi j :: zvr (some q) :: st) h = if (ph_K h q).1 % 1000 = 1 ∧ 0 ≤ j ∧ j < (ph_K h q).2 then zev kL_law 1734 L (zvi (ph_I h q j) :: st) h else none) ∧
  (∀ (v0 v1 v2 v3 : ZV) (q : Nat) (L st : List ZV) (h : PH), zev kL_law 1734 L (v3 :: v2 :: v1 :: v0 :: zvr (some q) :: st) h = if (ph_K h q).1 % 1000 = 16 ∧ zcat st ≤ 8 then zk kL_law 1734 1737 L st (mX1_slack [zvr (some q), v0, v1, v2, v3] h) else none) ∧
  (∀ (x0 x1 : ZV) (a : Option Nat) (L st : List ZV) (h : PH), zev kL_law 1737 (x0 :: x1 :: zvr a :: L) st h = zev kL_law 1738 (x0 :: x1 :: zvr a :: L) (zvr a :: st) h) ∧
  (∀ (a : Option Nat) (L st : List ZV) (h : PH), zev kL_law 1738 (zvr a :: L) st h = zev kL_law 1739 (zvr a :: L) (zvr a :: st) h) ∧
  (∀ (x0 x1 x2 x3 : ZV) (a : Int) (L st : List ZV) (h : PH), zev kL_law 1739 (x0 :: x1 :: x2 :: x3 :: zvi a :: L) st h = zev kL_law 1741 (x0 :: x1 :: x2 :: x3 :: zvi a :: L) (zvi a :: st) h) ∧
  (∀ (L st : List ZV) (h : PH), zev kL_law 1741 L st h = zev kL_law 1742 L (zvi 1 :: st) h) ∧
  (∀ (a b : Int) (L st : List ZV) (h : PH), zev kL_law 1742 L (zvi b :: zvi a :: st) h = zev kL_law 1743 L (zvi (w32 (a + b)) :: st) h) ∧
  (∀ (j : Int) (q : Nat) (L st : List ZV) (h : PH), zev kL_law 1743 L (zvi j :: zvr (some q) :: st) h = if (ph_K h q).1 % 1000 = 1 ∧ 0 ≤ j ∧ j < (ph_K h q).2 then zev kL_law 1744 L (zvi (ph_I h q j) :: st) h else none) ∧
  (∀ (a : Option Nat) (L st : List ZV) (h : PH), zev kL_law 1744 (zvr a :: L) st h = zev kL_law 1745 (zvr a :: L) (zvr a :: st) h) ∧
  (∀ (x0 x1 x2 x3 : ZV) (a : Int) (L st : List ZV) (h : PH), zev kL_law 1745 (x0 :: x1 :: x2 :: x3 :: zvi a :: L) st h = zev kL_law 1747 (x0 :: x1 :: x2 :: x3 :: zvi a :: L) (zvi a :: st) h) ∧
  (∀ (L st : List ZV) (h : PH), zev kL_law 1747 L st h = zev kL_law 1748 L (zvi 2 :: st) h) ∧
  (∀ (a b : Int) (L st : List ZV) (h : PH), zev kL_law 1748 L (zvi b :: zvi a :: st) h = zev kL_law 1749 L (zvi (w32 (a + b)) :: st) h) ∧
  (∀ (j : Int) (q : Nat) (L st : List ZV) (h : PH), zev kL_law 1749 L (zvi j :: zvr (some q) :: st) h = if (ph_K h q).1 % 1000 = 1 ∧ 0 ≤ j ∧ j < (ph_K h q).2 then zev kL_law 1750 L (zvi (ph_I h q j) :: st) h else none) ∧
  (∀ (a : Option Nat) (L st : List ZV) (h : PH), zev kL_law 1750 (zvr a :: L) st h = zev kL_law 1751 (zvr a :: L) (zvr a :: st) h) ∧
  (∀ (x0 x1 x2 x3 : ZV) (a : Int) (L st : List ZV) (h : PH), zev kL_law 1751 (x0 :: x1 :: x2 :: x3 :: zvi a :: L) st h = zev kL_law 1753 (x0 :: x1 :: x2 :: x3 :: zvi a :: L) (zvi a :: st) h) ∧
  (∀ (L st : List ZV) (h : PH), zev kL_law 1753 L st h = zev kL_law 1754 L (zvi 3 :: st) h) ∧
  (∀ (a b : Int) (L st : List ZV) (h : PH), zev kL_law 1754 L (zvi b :: zvi a :: st) h = zev kL_law 1755 L (zvi (w32 (a + b)) :: st) h) ∧
  (∀ (j : Int) (q : Nat) (L st : List ZV) (h : PH), zev kL_law 1755 L (zvi j :: zvr (some q) :: st) h = if (ph_K h q).1 % 1000 = 1 ∧ 0 ≤ j ∧ j < (ph_K h q).2 then zev kL_law 1756 L (zvi (ph_I h q j) :: st) h else none) ∧
  (∀ (a : Option Nat) (L st : List ZV) (h : PH), zev kL_law 1756 (zvr a :: L) st h = zev kL_law 1757 (zvr a :: L) (zvr a :: st) h) ∧
  (∀ (x0 x1 x2 x3 : ZV) (a : Int) (L st : List ZV) (h : PH), zev kL_law 1757 (x0 :: x1 :: x2 :: x3 :: zvi a :: L) st h = zev kL_law 1759 (x0 :: x1 :: x2 :: x3 :: zvi a :: L) (zvi a :: st) h) ∧
  (∀ (L st : List ZV) (h : PH), zev kL_law 1759 L st h = zev kL_law 1760 L (zvi 4 :: st) h) ∧
  (∀ (a b : Int) (L st : List ZV) (h : PH), zev kL_law 1760 L (zvi b :: zvi a :: st) h = zev kL_law 1761 L (zvi (w32 (a + b)) :: st) h) ∧
  (∀ (j : Int) (q : Nat) (L st : List ZV) (h : PH), zev kL_law 1761 L (zvi j :: zvr (some q) :: st) h = if (ph_K h q).1 % 1000 = 1 ∧ 0 ≤ j ∧ j < (ph_K h q).2 then zev kL_law 1762 L (zvi (ph_I h q j) :: st) h else none) ∧
  (∀ (v0 v1 v2 v3 : ZV) (q : Nat) (L st : List ZV) (h : PH), zev kL_law 1762 L (v3 :: v2 :: v1 :: v0 :: zvr (some q) :: st) h = if (ph_K h q).1 % 1000 = 18 ∧ zcat st ≤ 8 then zk kL_law 1762 1765 L st (mX4_slack [zvr (some q), v0, v1, v2, v3] h) else none) ∧
  (∀ (a b : Int) (L st : List ZV) (h : PH), zev kL_law 1765 L (zvi b :: zvi a :: st) h = if a = b then zev kL_law 2172 L st h else zev kL_law 1768 L st h) ∧
  (∀ (L st : List ZV) (h : PH), zev kL_law 1768 L st h = zev kL_law 1769 L (zvi 0 :: st) h) ∧
  (∀ (a : Int) (L : List ZV) (h : PH), zev kL_law 1769 L [zvi a] h = if a = 0 ∨ a = 1 then zrv (zvi a) h else none) :=
  ⟨fun x0 a L st h => e_ld1R (n := 1710) ((skL_11 1709 (by decide)).trans rfl),
  fun a L st h => e_ld0R (n := 1711) ((skL_11 1710 (by decide)).trans rfl),
  fun x0 x1 x2 x3 a L st h => e_ld4I (n := 1713) ((skL_11 1711 (by decide)).trans rfl),
  fun L st h => e_push (v := zvi 1) (n := 1714) ((skL_11 1713 (by decide)).trans rfl),
  fun a b L st h => e_bin (f := (fun a b => w32 (a + b))) (n := 1715) ((skL_11 1714 (by decide)).trans rfl),
  fun j q L st h => e_ald (kd := 1) (n := 1716) ((skL_11 1715 (by decide)).trans rfl),
  fun a L st h => e_ld0R (n := 1717) ((skL_11 1716 (by decide)).trans rfl),
  fun x0 x1 x2 x3 a L st h => e_ld4I (n := 1719) ((skL_11 1717 (by decide)).trans rfl),
  fun L st h => e_push (v := zvi 2) (n := 1720) ((skL_11 1719 (by decide)).trans rfl),
  fun a b L st h => e_bin (f := (fun a b => w32 (a + b))) (n := 1721) ((skL_11 1720 (by decide)).trans rfl),
  fun j q L st h => e_ald (kd := 1) (n := 1722) ((skL_11 1721 (by decide)).trans rfl),
  fun a L st h => e_ld0R (n := 1723) ((skL_11 1722 (by decide)).trans rfl),
  fun x0 x1 x2 x3 a L st h => e_ld4I (n := 1725) ((skL_11 1723 (by decide)).trans rfl),
  fun L st h => e_push (v := zvi 3) (n := 1726) ((skL_11 1725 (by decide)).trans rfl),
  fun a b L st h => e_bin (f := (fun a b => w32 (a + b))) (n := 1727) ((skL_11 1726 (by decide)).trans rfl),
  fun j q L st h => e_ald (kd := 1) (n := 1728) ((skL_11 1727 (by decide)).trans rfl),
  fun a L st h => e_ld0R (n := 1729) ((skL_11 1728 (by decide)).trans rfl),
  fun x0 x1 x2 x3 a L st h => e_ld4I (n := 1731) ((skL_11 1729 (by decide)).trans rfl),
  fun L st h => e_push (v := zvi 4) (n := 1732) ((skL_11 1731 (by decide)).trans rfl),
  fun a b L st h => e_bin (f := (fun a b => w32 (a + b))) (n := 1733) ((skL_11 1732 (by decide)).trans rfl),
  fun j q L st h => e_ald (kd := 1) (n := 1734) ((skL_11 1733 (by decide)).trans rfl),
  fun v0 v1 v2 v3 q L st h => e_callV5 (F := mX1_slack) (kd := 16) (n := 1737) ((skL_11 1734 (by decide)).trans rfl),
  fun x0 x1 a L st h => e_ld2R (n := 1738) ((skL_11 1737 (by decide)).trans rfl),
  fun a L st h => e_ld0R (n := 1739) ((skL_11 1738 (by decide)).trans rfl),
  fun x0 x1 x2 x3 a L st h => e_ld4I (n := 1741) ((skL_11 1739 (by decide)).trans rfl),
  fun L st h => e_push (v := zvi 1) (n := 1742) ((skL_11 1741 (by decide)).trans rfl),
  fun a b L st h => e_bin (f := (fun a b => w32 (a + b))) (n := 1743) ((skL_11 1742 (by decide)).trans rfl),
  fun j q L st h => e_ald (kd := 1) (n := 1744) ((skL_11 1743 (by decide)).trans rfl),
  fun a L st h => e_ld0R (n := 1745) ((skL_11 1744 (by decide)).trans rfl),
  fun x0 x1 x2 x3 a L st h => e_ld4I (n := 1747) ((skL_11 1745 (by decide)).trans rfl),
  fun L st h => e_push (v := zvi 2) (n := 1748) ((skL_11 1747 (by decide)).trans rfl),
  fun a b L st h => e_bin (f := (fun a b => w32 (a + b))) (n := 1749) ((skL_11 1748 (by decide)).trans rfl),
  fun j q L st h => e_ald (kd := 1) (n := 1750) ((skL_11 1749 (by decide)).trans rfl),
  fun a L st h => e_ld0R (n := 1751) ((skL_11 1750 (by decide)).trans rfl),
  fun x0 x1 x2 x3 a L st h => e_ld4I (n := 1753) ((skL_11 1751 (by decide)).trans rfl),
  fun L st h => e_push (v := zvi 3) (n := 1754) ((skL_11 1753 (by decide)).trans rfl),
  fun a b L st h => e_bin (f := (fun a b => w32 (a + b))) (n := 1755) ((skL_11 1754 (by decide)).trans rfl),
  fun j q L st h => e_ald (kd := 1) (n := 1756) ((skL_11 1755 (by decide)).trans rfl),
  fun a L st h => e_ld0R (n := 1757) ((skL_11 1756 (by decide)).trans rfl),
  fun x0 x1 x2 x3 a L st h => e_ld4I (n := 1759) ((skL_11 1757 (by decide)).trans rfl),
  fun L st h => e_push (v := zvi 4) (n := 1760) ((skL_11 1759 (by decide)).trans rfl),
  fun a b L st h => e_bin (f := (fun a b => w32 (a + b))) (n := 1761) ((skL_11 1760 (by decide)).trans rfl),
  fun j q L st h => e_ald (kd := 1) (n := 1762) ((skL_11 1761 (by decide)).trans rfl),
  fun v0 v1 v2 v3 q L st h => e_callV5 (F := mX4_slack) (kd := 18) (n := 1765) ((skL_11 1762 (by decide)).trans rfl),
  fun a b L st h => e_cmpeq (t := 2172) (n := 1768) ((skL_11 1765 (by decide)).trans rfl),
  fun L st h => e_push (v := zvi 0) (n := 1769) ((skL_11 1768 (by decide)).trans rfl),
  fun a L h => e_retz ((skL_11 1769 (by decide)).trans rfl)⟩
theorem rL_law_34 : (∀ (x0 : ZV) (a : Option Nat) (L st : List ZV) (h : PH), zev kL_law 1770 (x0 :: zvr a :: L) st h = zev kL_law 1771 (x0 :: zvr a :: L) (zvr a :: st) h) ∧
  (∀ (a : Option Nat) (L st : List ZV) (h : PH), zev kL_law 1771 (zvr a :: L) st h = zev kL_law 1772 (zvr a :: L) (zvr a :: st) h) ∧
  (∀ (x0 x1 x2 x3 : ZV) (a : Int) (L st : List ZV) (h : PH), zev kL_law 1772 (x0 :: x1 :: x2 :: x3 :: zvi a :: L) st h = zev kL_law 1774 (x0 :: x1 :: x2 :: x3 :: zvi a :: L) (zvi a :: st) h) ∧
  (∀ (L st : List ZV) (h : PH), zev kL_law 1774 L st h = zev kL_law 1775 L (zvi 1 :: st) h) ∧
  (∀ (a b : Int) (L st : List ZV) (h : PH), zev kL_law 1775 L (zvi b :: zvi a :: st) h = zev kL_law 1776 L (zvi (w32 (a + b)) :: st) h) ∧
  (∀ (j : Int) (q : Nat) (L st : List ZV) (h : PH), zev kL_law 1776 L (zvi j :: zvr (some q) :: st) h = if (ph_K h q).1 % 1000 = 1 ∧ 0 ≤ j ∧ j < (ph_K h q).2 then zev kL_law 1777 L (zvi (ph_I h q j) :: st) h else none) ∧
  (∀ (a : Option Nat) (L st : List ZV) (h : PH), zev kL_law 1777 (zvr a :: L) st h = zev kL_law 1778 (zvr a :: L) (zvr a :: st) h) ∧
  (∀ (x0 x1 x2 x3 : ZV) (a : Int) (L st : List ZV) (h : PH), zev kL_law 1778 (x0 :: x1 :: x2 :: x3 :: zvi a :: L) st h = zev kL_law 1780 (x0 :: x1 :: x2 :: x3 :: zvi a :: L) (zvi a :: st) h) ∧
  (∀ (L st : List ZV) (h : PH), zev kL_law 1780 L st h = zev kL_law 1781 L (zvi 2 :: st) h) ∧
  (∀ (a b : Int) (L st : List ZV) (h : PH), zev kL_law 1781 L (zvi b :: zvi a :: st) h = zev kL_law 1782 L (zvi (w32 (a + b)) :: st) h) ∧
  (∀ (j : Int) (q : Nat) (L st : List ZV) (h : PH), zev kL_law 1782 L (zvi j :: zvr (some q) :: st) h = if (ph_K h q).1 % 1000 = 1 ∧ 0 ≤ j ∧ j < (ph_K h q).2 then zev kL_law 1783 L (zvi (ph_I h q j) :: st) h else none) ∧
  (∀ (a : Option Nat) (L st : List ZV) (h : PH), zev kL_law 1783 (zvr a :: L) st h = zev kL_law 1784 (zvr a :: L) (zvr a :: st) h) ∧
  (∀ (x0 x1 x2 x3 : ZV) (a : Int) (L st : List ZV) (h : PH), zev kL_law 1784 (x0 :: x1 :: x2 :: x3 :: zvi a :: L) st h = zev kL_law 1786 (x0 :: x1 :: x2 :: x3 :: zvi a :: L) (zvi a :: st) h) ∧
  (∀ (L st : List ZV) (h : PH), zev kL_law 1786 L st h = zev kL_law 1787 L (zvi 3 :: st) h) ∧
  (∀ (a b : Int) (L st : List ZV) (h : PH), zev kL_law 1787 L (zvi b :: zvi a :: st) h = zev kL_law 1788 L (zvi (w32 (a + b)) :: st) h) ∧
  (∀ (j : Int) (q : Nat) (L st : List ZV) (h : PH), zev kL_law 1788 L (zvi j :: zvr (some q) :: st) h = if (ph_K h q).1 % 1000 = 1 ∧ 0 ≤ j ∧ j < (ph_K h q).2 then zev kL_law 1789 L (zvi (ph_I h q j) :: st) h else none) ∧
  (∀ (a : Option Nat) (L st : List ZV) (h : PH), zev kL_law 1789 (zvr a :: L) st h = zev kL_law 1790 (zvr a :: L) (zvr a :: st) h) ∧
  (∀ (x0 x1 x2 x3 : ZV) (a : Int) (L st : List ZV) (h : PH), zev kL_law 1790 (x0 :: x1 :: x2 :: x3 :: zvi a :: L) st h = zev kL_law 1792 (x0 :: x1 :: x2 :: x3 :: zvi a :: L) (zvi a :: st) h) ∧
  (∀ (L st : List ZV) (h : PH), zev kL_law 1792 L st h = zev kL_law 1793 L (zvi 4 :: st) h) ∧
  (∀ (a b : Int) (L st : List ZV) (h : PH), zev kL_law 1793 L (zvi b :: zvi a :: st) h = zev kL_law 1794 L (zvi (w32 (a + b)) :: st) h) ∧
  (∀ (j : Int) (q : Nat) (L st : List ZV) (h : PH), zev kL_law 1794 L (zvi j :: zvr (some q) :: st) h = if (ph_K h q).1 % 1000 = 1 ∧ 0 ≤ j ∧ j < (ph_K h q).2 then zev kL_law 1795 L (zvi (ph_I h q j) :: st) h else none) ∧
  (∀ (v0 v1 v2 v3 : ZV) (q : Nat) (L st : List ZV) (h : PH), zev kL_law 1795 L (v3 :: v2 :: v1 :: v0 :: zvr (some q) :: st) h = if (ph_K h q).1 % 1000 = 16 ∧ zcat st ≤ 8 then zk kL_law 1795 1798 L st (mX1_why [zvr (some q), v0, v1, v2, v3] h) else none) ∧
  (∀ (x0 x1 : ZV) (a : Option Nat) (L st : List ZV) (h : PH), zev kL_law 1798 (x0 :: x1 :: zvr a :: L) st h = zev kL_law 1799 (x0 :: x1 :: zvr a :: L) (zvr a :: st) h) ∧
  (∀ (a : Option Nat) (L st : List ZV) (h : PH), zev kL_law 1799 (zvr a :: L) st h = zev kL_law 1800 (zvr a :: L) (zvr a :: st) h) ∧
  (∀ (x0 x1 x2 x3 : ZV) (a : Int) (L st : List ZV) (h : PH), zev kL_law 1800 (x0 :: x1 :: x2 :: x3 :: zvi a :: L) st h = zev kL_law 1802 (x0 :: x1 :: x2 :: x3 :: zvi a :: L) (zvi a :: st) h) ∧
  (∀ (L st : List ZV) (h : PH), zev kL_law 1802 L st h = zev kL_law 1803 L (zvi 1 :: st) h) ∧
  (∀ (a b : Int) (L st : List ZV) (h : PH), zev kL_law 1803 L (zvi b :: zvi a :: st) h = zev kL_law 1804 L (zvi (w32 (a + b)) :: st) h) ∧
  (∀ (j : Int) (q : Nat) (L st : List ZV) (h : PH), zev kL_law 1804 L (zvi j :: zvr (some q) :: st) h = if (ph_K h q).1 % 1000 = 1 ∧ 0 ≤ j ∧ j < (ph_K h q).2 then zev kL_law 1805 L (zvi (ph_I h q j) :: st) h else none) ∧
  (∀ (a : Option Nat) (L st : List ZV) (h : PH), zev kL_law 1805 (zvr a :: L) st h = zev kL_law 1806 (zvr a :: L) (zvr a :: st) h) ∧
  (∀ (x0 x1 x2 x3 : ZV) (a : Int) (L st : List ZV) (h : PH), zev kL_law 1806 (x0 :: x1 :: x2 :: x3 :: zvi a :: L) st h = zev kL_law 1808 (x0 :: x1 :: x2 :: x3 :: zvi a :: L) (zvi a :: st) h) ∧
  (∀ (L st : List ZV) (h : PH), zev kL_law 1808 L st h = zev kL_law 1809 L (zvi 2 :: st) h) ∧
  (∀ (a b : Int) (L st : List ZV) (h : PH), zev kL_law 1809 L (zvi b :: zvi a :: st) h = zev kL_law 1810 L (zvi (w32 (a + b)) :: st) h) ∧
  (∀ (j : Int) (q : Nat) (L st : List ZV) (h : PH), zev kL_law 1810 L (zvi j :: zvr (some q) :: st) h = if (ph_K h q).1 % 1000 = 1 ∧ 0 ≤ j ∧ j < (ph_K h q).2 then zev kL_law 1811 L (zvi (ph_I h q j) :: st) h else none) ∧
  (∀ (a : Option Nat) (L st : List ZV) (h : PH), zev kL_law 1811 (zvr a :: L) st h = zev kL_law 1812 (zvr a :: L) (zvr a :: st) h) ∧
  (∀ (x0 x1 x2 x3 : ZV) (a : Int) (L st : List ZV) (h : PH), zev kL_law 1812 (x0 :: x1 :: x2 :: x3 :: zvi a :: L) st h = zev kL_law 1814 (x0 :: x1 :: x2 :: x3 :: zvi a :: L) (zvi a :: st) h) ∧
  (∀ (L st : List ZV) (h : PH), zev kL_law 1814 L st h = zev kL_law 1815 L (zvi 3 :: st) h) ∧
  (∀ (a b : Int) (L st : List ZV) (h : PH), zev kL_law 1815 L (zvi b :: zvi a :: st) h = zev kL_law 1816 L (zvi (w32 (a + b)) :: st) h) ∧
  (∀ (j : Int) (q : Nat) (L st : List ZV) (h : PH), zev kL_law 1816 L (zvi j :: zvr (some q) :: st) h = if (ph_K h q).1 % 1000 = 1 ∧ 0 ≤ j ∧ j < (ph_K h q).2 then zev kL_law 1817 L (zvi (ph_I h q j) :: st) h else none) ∧
  (∀ (a : Option Nat) (L st : List ZV) (h : PH), zev kL_law 1817 (zvr a :: L) st h = zev kL_law 1818 (zvr a :: L) (zvr a :: st) h) ∧
  (∀ (x0 x1 x2 x3 : ZV) (a : Int) (L st : List ZV) (h : PH), zev kL_law 1818 (x0 :: x1 :: x2 :: x3 :: zvi a :: L) st h = zev kL_law 1820 (x0 :: x1 :: x2 :: x3 :: zvi a :: L) (zvi a :: st) h) ∧
  (∀ (L st : List ZV) (h : PH), zev kL_law 1820 L st h = zev kL_law 1821 L (zvi 4 :: st) h) ∧
  (∀ (a b : Int) (L st : List ZV) (h : PH), zev kL_law 1821 L (zvi b :: zvi a :: st) h = zev kL_law 1822 L (zvi (w32 (a + b)) :: st) h) ∧
  (∀ (j : Int) (q : Nat) (L st : List ZV) (h : PH), zev kL_law 1822 L (zvi j :: zvr (some q) :: st) h = if (ph_K h q).1 % 1000 = 1 ∧ 0 ≤ j ∧ j < (ph_K h q).2 then zev kL_law 1823 L (zvi (ph_I h q j) :: st) h else none) ∧
  (∀ (v0 v1 v2 v3 : ZV) (q : Nat) (L st : List ZV) (h : PH), zev kL_law 1823 L (v3 :: v2 :: v1 :: v0 :: zvr (some q) :: st) h = if (ph_K h q).1 % 1000 = 18 ∧ zcat st ≤ 8 then zk kL_law 1823 1826 L st (mX4_why [zvr (some q), v0, v1, v2, v3] h) else none) ∧
  (∀ (a b : Int) (L st : List ZV) (h : PH), zev kL_law 1826 L (zvi b :: zvi a :: st) h = if a = b then zev kL_law 2172 L st h else zev kL_law 1829 L st h) ∧
  (∀ (L st : List ZV) (h : PH), zev kL_law 1829 L st h = zev kL_law 1830 L (zvi 0 :: st) h) ∧
  (∀ (a : Int) (L : List ZV) (h : PH), zev kL_law 1830 L [zvi a] h = if a = 0 ∨ a = 1 then zrv (zvi a) h else none) :=
  ⟨fun x0 a L st h => e_ld1R (n := 1771) ((skL_11 1770 (by decide)).trans rfl),
  fun a L st h => e_ld0R (n := 1772) ((skL_11 1771 (by decide)).trans rfl),
  fun x0 x1 x2 x3 a L st h => e_ld4I (n := 1774) ((skL_11 1772 (by decide)).trans rfl),
  fun L st h => e_push (v := zvi 1) (n := 1775) ((skL_11 1774 (by decide)).trans rfl),
  fun a b L st h => e_bin (f := (fun a b => w32 (a + b))) (n := 1776) ((skL_11 1775 (by decide)).trans rfl),
  fun j q L st h => e_ald (kd := 1) (n := 1777) ((skL_11 1776 (by decide)).trans rfl),
  fun a L st h => e_ld0R (n := 1778) ((skL_11 1777 (by decide)).trans rfl),
  fun x0 x1 x2 x3 a L st h => e_ld4I (n := 1780) ((skL_11 1778 (by decide)).trans rfl),
  fun L st h => e_push (v := zvi 2) (n := 1781) ((skL_11 1780 (by decide)).trans rfl),
  fun a b L st h => e_bin (f := (fun a b => w32 (a + b))) (n := 1782) ((skL_11 1781 (by decide)).trans rfl),
  fun j q L st h => e_ald (kd := 1) (n := 1783) ((skL_11 1782 (by decide)).trans rfl),
  fun a L st h => e_ld0R (n := 1784) ((skL_11 1783 (by decide)).trans rfl),
  fun x0 x1 x2 x3 a L st h => e_ld4I (n := 1786) ((skL_11 1784 (by decide)).trans rfl),
  fun L st h => e_push (v := zvi 3) (n := 1787) ((skL_11 1786 (by decide)).trans rfl),
  fun a b L st h => e_bin (f := (fun a b => w32 (a + b))) (n := 1788) ((skL_11 1787 (by decide)).trans rfl),
  fun j q L st h => e_ald (kd := 1) (n := 1789) ((skL_11 1788 (by decide)).trans rfl),
  fun a L st h => e_ld0R (n := 1790) ((skL_11 1789 (by decide)).trans rfl),
  fun x0 x1 x2 x3 a L st h => e_ld4I (n := 1792) ((skL_11 1790 (by decide)).trans rfl),
  fun L st h => e_push (v := zvi 4) (n := 1793) ((skL_11 1792 (by decide)).trans rfl),
  fun a b L st h => e_bin (f := (fun a b => w32 (a + b))) (n := 1794) ((skL_11 1793 (by decide)).trans rfl),
  fun j q L st h => e_ald (kd := 1) (n := 1795) ((skL_11 1794 (by decide)).trans rfl),
  fun v0 v1 v2 v3 q L st h => e_callV5 (F := mX1_why) (kd := 16) (n := 1798) ((skL_11 1795 (by decide)).trans rfl),
  fun x0 x1 a L st h => e_ld2R (n := 1799) ((skL_11 1798 (by decide)).trans rfl),
  fun a L st h => e_ld0R (n := 1800) ((skL_11 1799 (by decide)).trans rfl),
  fun x0 x1 x2 x3 a L st h => e_ld4I (n := 1802) ((skL_11 1800 (by decide)).trans rfl),
  fun L st h => e_push (v := zvi 1) (n := 1803) ((skL_11 1802 (by decide)).trans rfl),
  fun a b L st h => e_bin (f := (fun a b => w32 (a + b))) (n := 1804) ((skL_11 1803 (by decide)).trans rfl),
  fun j q L st h => e_ald (kd := 1) (n := 1805) ((skL_12 1804 (by decide)).trans rfl),
  fun a L st h => e_ld0R (n := 1806) ((skL_12 1805 (by decide)).trans rfl),
  fun x0 x1 x2 x3 a L st h => e_ld4I (n := 1808) ((skL_12 1806 (by decide)).trans rfl),
  fun L st h => e_push (v := zvi 2) (n := 1809) ((skL_12 1808 (by decide)).trans rfl),
  fun a b L st h => e_bin (f := (fun a b => w32 (a + b))) (n := 1810) ((skL_12 1809 (by decide)).trans rfl),
  fun j q L st h => e_ald (kd := 1) (n := 1811) ((skL_12 1810 (by decide)).trans rfl),
  fun a L st h => e_ld0R (n := 1812) ((skL_12 1811 (by decide)).trans rfl),
  fun x0 x1 x2 x3 a L st h => e_ld4I (n := 1814) ((skL_12 1812 (by decide)).trans rfl),
  fun L st h => e_push (v := zvi 3) (n := 1815) ((skL_12 1814 (by decide)).trans rfl),
  fun a b L st h => e_bin (f := (fun a b => w32 (a + b))) (n := 1816) ((skL_12 1815 (by decide)).trans rfl),
  fun j q L st h => e_ald (kd := 1) (n := 1817) ((skL_12 1816 (by decide)).trans rfl),
  fun a L st h => e_ld0R (n := 1818) ((skL_12 1817 (by decide)).trans rfl),
  fun x0 x1 x2 x3 a L st h => e_ld4I (n := 1820) ((skL_12 1818 (by decide)).trans rfl),
  fun L st h => e_push (v := zvi 4) (n := 1821) ((skL_12 1820 (by decide)).trans rfl),
  fun a b L st h => e_bin (f := (fun a b => w32 (a + b))) (n := 1822) ((skL_12 1821 (by decide)).trans rfl),
  fun j q L st h => e_ald (kd := 1) (n := 1823) ((skL_12 1822 (by decide)).trans rfl),
  fun v0 v1 v2 v3 q L st h => e_callV5 (F := mX4_why) (kd := 18) (n := 1826) ((skL_12 1823 (by decide)).trans rfl),
  fun a b L st h => e_cmpeq (t := 2172) (n := 1829) ((skL_12 1826 (by decide)).trans rfl),
  fun L st h => e_push (v := zvi 0) (n := 1830) ((skL_12 1829 (by decide)).trans rfl),
  fun a L h => e_retz ((skL_12 1830 (by decide)).trans rfl)⟩
theorem rL_law_35 : (∀ (x0 : ZV) (a : Option Nat) (L st : List ZV) (h : PH), zev kL_law 1831 (x0 :: zvr a :: L) st h = zev kL_law 1832 (x0 :: zvr a :: L) (zvr a :: st) h) ∧
  (∀ (a : Option Nat) (L st : List ZV) (h : PH), zev kL_law 1832 (zvr a :: L) st h = zev kL_law 1833 (zvr a :: L) (zvr a :: st) h) ∧
  (∀ (x0 x1 x2 x3 : ZV) (a : Int) (L st : List ZV) (h : PH), zev kL_law 1833 (x0 :: x1 :: x2 :: x3 :: zvi a :: L) st h = zev kL_law 1835 (x0 :: x1 :: x2 :: x3 :: zvi a :: L) (zvi a :: st) h) ∧
  (∀ (L st : List ZV) (h : PH), zev kL_law 1835 L st h = zev kL_law 1836 L (zvi 1 :: st) h) ∧
  (∀ (a b : Int) (L st : List ZV) (h : PH), zev kL_law 1836 L (zvi b :: zvi a :: st) h = zev kL_law 1837 L (zvi (w32 (a + b)) :: st) h) ∧
  (∀ (j : Int) (q : Nat) (L st : List ZV) (h : PH), zev kL_law 1837 L (zvi j :: zvr (some q) :: st) h = if (ph_K h q).1 % 1000 = 1 ∧ 0 ≤ j ∧ j < (ph_K h q).2 then zev kL_law 1838 L (zvi (ph_I h q j) :: st) h else none) ∧
  (∀ (v0 : ZV) (q : Nat) (L st : List ZV) (h : PH), zev kL_law 1838 L (v0 :: zvr (some q) :: st) h = if (ph_K h q).1 % 1000 = 16 ∧ zcat st ≤ 8 then zk kL_law 1838 1841 L st (mX1_cancel [zvr (some q), v0] h) else none) ∧
  (∀ (x0 x1 : ZV) (a : Option Nat) (L st : List ZV) (h : PH), zev kL_law 1841 (x0 :: x1 :: zvr a :: L) st h = zev kL_law 1842 (x0 :: x1 :: zvr a :: L) (zvr a :: st) h) ∧
  (∀ (a : Option Nat) (L st : List ZV) (h : PH), zev kL_law 1842 (zvr a :: L) st h = zev kL_law 1843 (zvr a :: L) (zvr a :: st) h) ∧
  (∀ (x0 x1 x2 x3 : ZV) (a : Int) (L st : List ZV) (h : PH), zev kL_law 1843 (x0 :: x1 :: x2 :: x3 :: zvi a :: L) st h = zev kL_law 1845 (x0 :: x1 :: x2 :: x3 :: zvi a :: L) (zvi a :: st) h) ∧
  (∀ (L st : List ZV) (h : PH), zev kL_law 1845 L st h = zev kL_law 1846 L (zvi 1 :: st) h) ∧
  (∀ (a b : Int) (L st : List ZV) (h : PH), zev kL_law 1846 L (zvi b :: zvi a :: st) h = zev kL_law 1847 L (zvi (w32 (a + b)) :: st) h) ∧
  (∀ (j : Int) (q : Nat) (L st : List ZV) (h : PH), zev kL_law 1847 L (zvi j :: zvr (some q) :: st) h = if (ph_K h q).1 % 1000 = 1 ∧ 0 ≤ j ∧ j < (ph_K h q).2 then zev kL_law 1848 L (zvi (ph_I h q j) :: st) h else none) ∧
  (∀ (v0 : ZV) (q : Nat) (L st : List ZV) (h : PH), zev kL_law 1848 L (v0 :: zvr (some q) :: st) h = if (ph_K h q).1 % 1000 = 18 ∧ zcat st ≤ 8 then zk kL_law 1848 1851 L st (mX4_cancel [zvr (some q), v0] h) else none) ∧
  (∀ (a b : Int) (L st : List ZV) (h : PH), zev kL_law 1851 L (zvi b :: zvi a :: st) h = if a = b then zev kL_law 2172 L st h else zev kL_law 1854 L st h) ∧
  (∀ (L st : List ZV) (h : PH), zev kL_law 1854 L st h = zev kL_law 1855 L (zvi 0 :: st) h) ∧
  (∀ (a : Int) (L : List ZV) (h : PH), zev kL_law 1855 L [zvi a] h = if a = 0 ∨ a = 1 then zrv (zvi a) h else none) :=
  ⟨fun x0 a L st h => e_ld1R (n := 1832) ((skL_12 1831 (by decide)).trans rfl),
  fun a L st h => e_ld0R (n := 1833) ((skL_12 1832 (by decide)).trans rfl),
  fun x0 x1 x2 x3 a L st h => e_ld4I (n := 1835) ((skL_12 1833 (by decide)).trans rfl),
  fun L st h => e_push (v := zvi 1) (n := 1836) ((skL_12 1835 (by decide)).trans rfl),
  fun a b L st h => e_bin (f := (fun a b => w32 (a + b))) (n := 1837) ((skL_12 1836 (by decide)).trans rfl),
  fun j q L st h => e_ald (kd := 1) (n := 1838) ((skL_12 1837 (by decide)).trans rfl),
  fun v0 q L st h => e_callV2 (F := mX1_cancel) (kd := 16) (n := 1841) ((skL_12 1838 (by decide)).trans rfl),
  fun x0 x1 a L st h => e_ld2R (n := 1842) ((skL_12 1841 (by decide)).trans rfl),
  fun a L st h => e_ld0R (n := 1843) ((skL_12 1842 (by decide)).trans rfl),
  fun x0 x1 x2 x3 a L st h => e_ld4I (n := 1845) ((skL_12 1843 (by decide)).trans rfl),
  fun L st h => e_push (v := zvi 1) (n := 1846) ((skL_12 1845 (by decide)).trans rfl),
  fun a b L st h => e_bin (f := (fun a b => w32 (a + b))) (n := 1847) ((skL_12 1846 (by decide)).trans rfl),
  fun j q L st h => e_ald (kd := 1) (n := 1848) ((skL_12 1847 (by decide)).trans rfl),
  fun v0 q L st h => e_callV2 (F := mX4_cancel) (kd := 18) (n := 1851) ((skL_12 1848 (by decide)).trans rfl),
  fun a b L st h => e_cmpeq (t := 2172) (n := 1854) ((skL_12 1851 (by decide)).trans rfl),
  fun L st h => e_push (v := zvi 0) (n := 1855) ((skL_12 1854 (by decide)).trans rfl),
  fun a L h => e_retz ((skL_12 1855 (by decide)).trans rfl)⟩
theorem rL_law_36 : (∀ (x0 : ZV) (a : Option Nat) (L st : List ZV) (h : PH), zev kL_law 1856 (x0 :: zvr a :: L) st h = zev kL_law 1857 (x0 :: zvr a :: L) (zvr a :: st) h) ∧
  (∀ (a : Option Nat) (L st : List ZV) (h : PH), zev kL_law 1857 (zvr a :: L) st h = zev kL_law 1858 (zvr a :: L) (zvr a :: st) h) ∧
  (∀ (x0 x1 x2 x3 : ZV) (a : Int) (L st : List ZV) (h : PH), zev kL_law 1858 (x0 :: x1 :: x2 :: x3 :: zvi a :: L) st h = zev kL_law 1860 (x0 :: x1 :: x2 :: x3 :: zvi a :: L) (zvi a :: st) h) ∧
  (∀ (L st : List ZV) (h : PH), zev kL_law 1860 L st h = zev kL_law 1861 L (zvi 1 :: st) h) ∧
  (∀ (a b : Int) (L st : List ZV) (h : PH), zev kL_law 1861 L (zvi b :: zvi a :: st) h = zev kL_law 1862 L (zvi (w32 (a + b)) :: st) h) ∧
  (∀ (j : Int) (q : Nat) (L st : List ZV) (h : PH), zev kL_law 1862 L (zvi j :: zvr (some q) :: st) h = if (ph_K h q).1 % 1000 = 1 ∧ 0 ≤ j ∧ j < (ph_K h q).2 then zev kL_law 1863 L (zvi (ph_I h q j) :: st) h else none) ∧
  (∀ (v0 : ZV) (q : Nat) (L st : List ZV) (h : PH), zev kL_law 1863 L (v0 :: zvr (some q) :: st) h = if (ph_K h q).1 % 1000 = 16 ∧ zcat st ≤ 8 then zk kL_law 1863 1866 L st (mX1_run [zvr (some q), v0] h) else none) ∧
  (∀ (x0 x1 : ZV) (a : Option Nat) (L st : List ZV) (h : PH), zev kL_law 1866 (x0 :: x1 :: zvr a :: L) st h = zev kL_law 1867 (x0 :: x1 :: zvr a :: L) (zvr a :: st) h) ∧
  (∀ (a : Option Nat) (L st : List ZV) (h : PH), zev kL_law 1867 (zvr a :: L) st h = zev kL_law 1868 (zvr a :: L) (zvr a :: st) h) ∧
  (∀ (x0 x1 x2 x3 : ZV) (a : Int) (L st : List ZV) (h : PH), zev kL_law 1868 (x0 :: x1 :: x2 :: x3 :: zvi a :: L) st h = zev kL_law 1870 (x0 :: x1 :: x2 :: x3 :: zvi a :: L) (zvi a :: st) h) ∧
  (∀ (L st : List ZV) (h : PH), zev kL_law 1870 L st h = zev kL_law 1871 L (zvi 1 :: st) h) ∧
  (∀ (a b : Int) (L st : List ZV) (h : PH), zev kL_law 1871 L (zvi b :: zvi a :: st) h = zev kL_law 1872 L (zvi (w32 (a + b)) :: st) h) ∧
  (∀ (j : Int) (q : Nat) (L st : List ZV) (h : PH), zev kL_law 1872 L (zvi j :: zvr (some q) :: st) h = if (ph_K h q).1 % 1000 = 1 ∧ 0 ≤ j ∧ j < (ph_K h q).2 then zev kL_law 1873 L (zvi (ph_I h q j) :: st) h else none) ∧
  (∀ (v0 : ZV) (q : Nat) (L st : List ZV) (h : PH), zev kL_law 1873 L (v0 :: zvr (some q) :: st) h = if (ph_K h q).1 % 1000 = 18 ∧ zcat st ≤ 8 then zk kL_law 1873 1876 L st (mX4_run [zvr (some q), v0] h) else none) ∧
  (∀ (a b : Int) (L st : List ZV) (h : PH), zev kL_law 1876 L (zvi b :: zvi a :: st) h = if a = b then zev kL_law 2172 L st h else zev kL_law 1879 L st h) ∧
  (∀ (L st : List ZV) (h : PH), zev kL_law 1879 L st h = zev kL_law 1880 L (zvi 0 :: st) h) ∧
  (∀ (a : Int) (L : List ZV) (h : PH), zev kL_law 1880 L [zvi a] h = if a = 0 ∨ a = 1 then zrv (zvi a) h else none) :=
  ⟨fun x0 a L st h => e_ld1R (n := 1857) ((skL_12 1856 (by decide)).trans rfl),
  fun a L st h => e_ld0R (n := 1858) ((skL_12 1857 (by decide)).trans rfl),
  fun x0 x1 x2 x3 a L st h => e_ld4I (n := 1860) ((skL_12 1858 (by decide)).trans rfl),
  fun L st h => e_push (v := zvi 1) (n := 1861) ((skL_12 1860 (by decide)).trans rfl),
  fun a b L st h => e_bin (f := (fun a b => w32 (a + b))) (n := 1862) ((skL_12 1861 (by decide)).trans rfl),
  fun j q L st h => e_ald (kd := 1) (n := 1863) ((skL_12 1862 (by decide)).trans rfl),
  fun v0 q L st h => e_callV2 (F := mX1_run) (kd := 16) (n := 1866) ((skL_12 1863 (by decide)).trans rfl),
  fun x0 x1 a L st h => e_ld2R (n := 1867) ((skL_12 1866 (by decide)).trans rfl),
  fun a L st h => e_ld0R (n := 1868) ((skL_12 1867 (by decide)).trans rfl),
  fun x0 x1 x2 x3 a L st h => e_ld4I (n := 1870) ((skL_12 1868 (by decide)).trans rfl),
  fun L st h => e_push (v := zvi 1) (n := 1871) ((skL_12 1870 (by decide)).trans rfl),
  fun a b L st h => e_bin (f := (fun a b => w32 (a + b))) (n := 1872) ((skL_12 1871 (by decide)).trans rfl),
  fun j q L st h => e_ald (kd := 1) (n := 1873) ((skL_12 1872 (by decide)).trans rfl),
  fun v0 q L st h => e_callV2 (F := mX4_run) (kd := 18) (n := 1876) ((skL_12 1873 (by decide)).trans rfl),
  fun a b L st h => e_cmpeq (t := 2172) (n := 1879) ((skL_12 1876 (by decide)).trans rfl),
  fun L st h => e_push (v := zvi 0) (n := 1880) ((skL_12 1879 (by decide)).trans rfl),
  fun a L h => e_retz ((skL_12 1880 (by decide)).trans rfl)⟩
theorem rL_law_37 : (∀ (x0 : ZV) (a : Option Nat) (L st : List ZV) (h : PH), zev kL_law 1881 (x0 :: zvr a :: L) st h = zev kL_law 1882 (x0 :: zvr a :: L) (zvr a :: st) h) ∧
  (∀ (a : Option Nat) (L st : List ZV) (h : PH), zev kL_law 1882 (zvr a :: L) st h = zev kL_law 1883 (zvr a :: L) (zvr a :: st) h) ∧
  (∀ (x0 x1 x2 x3 : ZV) (a : Int) (L st : List ZV) (h : PH), zev kL_law 1883 (x0 :: x1 :: x2 :: x3 :: zvi a :: L) st h = zev kL_law 1885 (x0 :: x1 :: x2 :: x3 :: zvi a :: L) (zvi a :: st) h) ∧
  (∀ (L st : List ZV) (h : PH), zev kL_law 1885 L st h = zev kL_law 1886 L (zvi 1 :: st) h) ∧
  (∀ (a b : Int) (L st : List ZV) (h : PH), zev kL_law 1886 L (zvi b :: zvi a :: st) h = zev kL_law 1887 L (zvi (w32 (a + b)) :: st) h) ∧
  (∀ (j : Int) (q : Nat) (L st : List ZV) (h : PH), zev kL_law 1887 L (zvi j :: zvr (some q) :: st) h = if (ph_K h q).1 % 1000 = 1 ∧ 0 ≤ j ∧ j < (ph_K h q).2 then zev kL_law 1888 L (zvi (ph_I h q j) :: st) h else none) ∧
  (∀ (a : Option Nat) (L st : List ZV) (h : PH), zev kL_law 1888 (zvr a :: L) st h = zev kL_law 1889 (zvr a :: L) (zvr a :: st) h) ∧
  (∀ (x0 x1 x2 x3 : ZV) (a : Int) (L st : List ZV) (h : PH), zev kL_law 1889 (x0 :: x1 :: x2 :: x3 :: zvi a :: L) st h = zev kL_law 1891 (x0 :: x1 :: x2 :: x3 :: zvi a :: L) (zvi a :: st) h) ∧
  (∀ (L st : List ZV) (h : PH), zev kL_law 1891 L st h = zev kL_law 1892 L (zvi 2 :: st) h) ∧
  (∀ (a b : Int) (L st : List ZV) (h : PH), zev kL_law 1892 L (zvi b :: zvi a :: st) h = zev kL_law 1893 L (zvi (w32 (a + b)) :: st) h) ∧
  (∀ (j : Int) (q : Nat) (L st : List ZV) (h : PH), zev kL_law 1893 L (zvi j :: zvr (some q) :: st) h = if (ph_K h q).1 % 1000 = 1 ∧ 0 ≤ j ∧ j < (ph_K h q).2 then zev kL_law 1894 L (zvi (ph_I h q j) :: st) h else none) ∧
  (∀ (v0 v1 : ZV) (q : Nat) (L st : List ZV) (h : PH), zev kL_law 1894 L (v1 :: v0 :: zvr (some q) :: st) h = if (ph_K h q).1 % 1000 = 16 ∧ zcat st ≤ 8 then zk kL_law 1894 1897 L st (mX1_delay [zvr (some q), v0, v1] h) else none) ∧
  (∀ (x0 x1 : ZV) (a : Option Nat) (L st : List ZV) (h : PH), zev kL_law 1897 (x0 :: x1 :: zvr a :: L) st h = zev kL_law 1898 (x0 :: x1 :: zvr a :: L) (zvr a :: st) h) ∧
  (∀ (a : Option Nat) (L st : List ZV) (h : PH), zev kL_law 1898 (zvr a :: L) st h = zev kL_law 1899 (zvr a :: L) (zvr a :: st) h) ∧
  (∀ (x0 x1 x2 x3 : ZV) (a : Int) (L st : List ZV) (h : PH), zev kL_law 1899 (x0 :: x1 :: x2 :: x3 :: zvi a :: L) st h = zev kL_law 1901 (x0 :: x1 :: x2 :: x3 :: zvi a :: L) (zvi a :: st) h) ∧
  (∀ (L st : List ZV) (h : PH), zev kL_law 1901 L st h = zev kL_law 1902 L (zvi 1 :: st) h) ∧
  (∀ (a b : Int) (L st : List ZV) (h : PH), zev kL_law 1902 L (zvi b :: zvi a :: st) h = zev kL_law 1903 L (zvi (w32 (a + b)) :: st) h) ∧
  (∀ (j : Int) (q : Nat) (L st : List ZV) (h : PH), zev kL_law 1903 L (zvi j :: zvr (some q) :: st) h = if (ph_K h q).1 % 1000 = 1 ∧ 0 ≤ j ∧ j < (ph_K h q).2 then zev kL_law 1904 L (zvi (ph_I h q j) :: st) h else none) ∧
  (∀ (a : Option Nat) (L st : List ZV) (h : PH), zev kL_law 1904 (zvr a :: L) st h = zev kL_law 1905 (zvr a :: L) (zvr a :: st) h) ∧
  (∀ (x0 x1 x2 x3 : ZV) (a : Int) (L st : List ZV) (h : PH), zev kL_law 1905 (x0 :: x1 :: x2 :: x3 :: zvi a :: L) st h = zev kL_law 1907 (x0 :: x1 :: x2 :: x3 :: zvi a :: L) (zvi a :: st) h) ∧
  (∀ (L st : List ZV) (h : PH), zev kL_law 1907 L st h = zev kL_law 1908 L (zvi 2 :: st) h) ∧
  (∀ (a b : Int) (L st : List ZV) (h : PH), zev kL_law 1908 L (zvi b :: zvi a :: st) h = zev kL_law 1909 L (zvi (w32 (a + b)) :: st) h) ∧
  (∀ (j : Int) (q : Nat) (L st : List ZV) (h : PH), zev kL_law 1909 L (zvi j :: zvr (some q) :: st) h = if (ph_K h q).1 % 1000 = 1 ∧ 0 ≤ j ∧ j < (ph_K h q).2 then zev kL_law 1910 L (zvi (ph_I h q j) :: st) h else none) ∧
  (∀ (v0 v1 : ZV) (q : Nat) (L st : List ZV) (h : PH), zev kL_law 1910 L (v1 :: v0 :: zvr (some q) :: st) h = if (ph_K h q).1 % 1000 = 18 ∧ zcat st ≤ 8 then zk kL_law 1910 1913 L st (mX4_delay [zvr (some q), v0, v1] h) else none) ∧
  (∀ (a b : Int) (L st : List ZV) (h : PH), zev kL_law 1913 L (zvi b :: zvi a :: st) h = if a = b then zev kL_law 2172 L st h else zev kL_law 1916 L st h) ∧
  (∀ (L st : List ZV) (h : PH), zev kL_law 1916 L st h = zev kL_law 1917 L (zvi 0 :: st) h) ∧
  (∀ (a : Int) (L : List ZV) (h : PH), zev kL_law 1917 L [zvi a] h = if a = 0 ∨ a = 1 then zrv (zvi a) h else none) :=
  ⟨fun x0 a L st h => e_ld1R (n := 1882) ((skL_12 1881 (by decide)).trans rfl),
  fun a L st h => e_ld0R (n := 1883) ((skL_12 1882 (by decide)).trans rfl),
  fun x0 x1 x2 x3 a L st h => e_ld4I (n := 1885) ((skL_12 1883 (by decide)).trans rfl),
  fun L st h => e_push (v := zvi 1) (n := 1886) ((skL_12 1885 (by decide)).trans rfl),
  fun a b L st h => e_bin (f := (fun a b => w32 (a + b))) (n := 1887) ((skL_12 1886 (by decide)).trans rfl),
  fun j q L st h => e_ald (kd := 1) (n := 1888) ((skL_12 1887 (by decide)).trans rfl),
  fun a L st h => e_ld0R (n := 1889) ((skL_12 1888 (by decide)).trans rfl),
  fun x0 x1 x2 x3 a L st h => e_ld4I (n := 1891) ((skL_12 1889 (by decide)).trans rfl),
  fun L st h => e_push (v := zvi 2) (n := 1892) ((skL_12 1891 (by decide)).trans rfl),
  fun a b L st h => e_bin (f := (fun a b => w32 (a + b))) (n := 1893) ((skL_12 1892 (by decide)).trans rfl),
  fun j q L st h => e_ald (kd := 1) (n := 1894) ((skL_12 1893 (by decide)).trans rfl),
  fun v0 v1 q L st h => e_callV3 (F := mX1_delay) (kd := 16) (n := 1897) ((skL_12 1894 (by decide)).trans rfl),
  fun x0 x1 a L st h => e_ld2R (n := 1898) ((skL_12 1897 (by decide)).trans rfl),
  fun a L st h => e_ld0R (n := 1899) ((skL_12 1898 (by decide)).trans rfl),
  fun x0 x1 x2 x3 a L st h => e_ld4I (n := 1901) ((skL_12 1899 (by decide)).trans rfl),
  fun L st h => e_push (v := zvi 1) (n := 1902) ((skL_12 1901 (by decide)).trans rfl),
  fun a b L st h => e_bin (f := (fun a b => w32 (a + b))) (n := 1903) ((skL_12 1902 (by decide)).trans rfl),
  fun j q L st h => e_ald (kd := 1) (n := 1904) ((skL_12 1903 (by decide)).trans rfl),
  fun a L st h => e_ld0R (n := 1905) ((skL_12 1904 (by decide)).trans rfl),
  fun x0 x1 x2 x3 a L st h => e_ld4I (n := 1907) ((skL_12 1905 (by decide)).trans rfl),
  fun L st h => e_push (v := zvi 2) (n := 1908) ((skL_12 1907 (by decide)).trans rfl),
  fun a b L st h => e_bin (f := (fun a b => w32 (a + b))) (n := 1909) ((skL_12 1908 (by decide)).trans rfl),
  fun j q L st h => e_ald (kd := 1) (n := 1910) ((skL_12 1909 (by decide)).trans rfl),
  fun v0 v1 q L st h => e_callV3 (F := mX4_delay) (kd := 18) (n := 1913) ((skL_12 1910 (by decide)).trans rfl),
  fun a b L st h => e_cmpeq (t := 2172) (n := 1916) ((skL_12 1913 (by decide)).trans rfl),
  fun L st h => e_push (v := zvi 0) (n := 1917) ((skL_12 1916 (by decide)).trans rfl),
  fun a L h => e_retz ((skL_12 1917 (by decide)).trans rfl)⟩
theorem rL_law_38 : (∀ (x0 : ZV) (a : Option Nat) (L st : List ZV) (h : PH), zev kL_law 1918 (x0 :: zvr a :: L) st h = zev kL_law 1919 (x0 :: zvr a :: L) (zvr a :: st) h) ∧
  (∀ (a : Option Nat) (L st : List ZV) (h : PH), zev kL_law 1919 (zvr a :: L) st h = zev kL_law 1920 (zvr a :: L) (zvr a :: st) h) ∧
  (∀ (x0 x1 x2 x3 : ZV) (a : Int) (L st : List ZV) (h : PH), zev kL_law 1920 (x0 :: x1 :: x2 :: x3 :: zvi a :: L) st h = zev kL_law 1922 (x0 :: x1 :: x2 :: x3 :: zvi a :: L) (zvi a :: st) h) ∧
  (∀ (L st : List ZV) (h : PH), zev kL_law 1922 L st h = zev kL_law 1923 L (zvi 1 :: st) h) ∧
  (∀ (a b : Int) (L st : List ZV) (h : PH), zev kL_law 1923 L (zvi b :: zvi a :: st) h = zev kL_law 1924 L (zvi (w32 (a + b)) :: st) h) ∧
  (∀ (j : Int) (q : Nat) (L st : List ZV) (h : PH), zev kL_law 1924 L (zvi j :: zvr (some q) :: st) h = if (ph_K h q).1 % 1000 = 1 ∧ 0 ≤ j ∧ j < (ph_K h q).2 then zev kL_law 1925 L (zvi (ph_I h q j) :: st) h else none) ∧
  (∀ (a : Option Nat) (L st : List ZV) (h : PH), zev kL_law 1925 (zvr a :: L) st h = zev kL_law 1926 (zvr a :: L) (zvr a :: st) h) ∧
  (∀ (x0 x1 x2 x3 : ZV) (a : Int) (L st : List ZV) (h : PH), zev kL_law 1926 (x0 :: x1 :: x2 :: x3 :: zvi a :: L) st h = zev kL_law 1928 (x0 :: x1 :: x2 :: x3 :: zvi a :: L) (zvi a :: st) h) ∧
  (∀ (L st : List ZV) (h : PH), zev kL_law 1928 L st h = zev kL_law 1929 L (zvi 2 :: st) h) ∧
  (∀ (a b : Int) (L st : List ZV) (h : PH), zev kL_law 1929 L (zvi b :: zvi a :: st) h = zev kL_law 1930 L (zvi (w32 (a + b)) :: st) h) ∧
  (∀ (j : Int) (q : Nat) (L st : List ZV) (h : PH), zev kL_law 1930 L (zvi j :: zvr (some q) :: st) h = if (ph_K h q).1 % 1000 = 1 ∧ 0 ≤ j ∧ j < (ph_K h q).2 then zev kL_law 1931 L (zvi (ph_I h q j) :: st) h else none) ∧
  (∀ (v0 v1 : ZV) (q : Nat) (L st : List ZV) (h : PH), zev kL_law 1931 L (v1 :: v0 :: zvr (some q) :: st) h = if (ph_K h q).1 % 1000 = 16 ∧ zcat st ≤ 8 then zk kL_law 1931 1934 L st (mX1_change [zvr (some q), v0, v1] h) else none) ∧
  (∀ (x0 x1 : ZV) (a : Option Nat) (L st : List ZV) (h : PH), zev kL_law 1934 (x0 :: x1 :: zvr a :: L) st h = zev kL_law 1935 (x0 :: x1 :: zvr a :: L) (zvr a :: st) h) ∧
  (∀ (a : Option Nat) (L st : List ZV) (h : PH), zev kL_law 1935 (zvr a :: L) st h = zev kL_law 1936 (zvr a :: L) (zvr a :: st) h) ∧
  (∀ (x0 x1 x2 x3 : ZV) (a : Int) (L st : List ZV) (h : PH), zev kL_law 1936 (x0 :: x1 :: x2 :: x3 :: zvi a :: L) st h = zev kL_law 1938 (x0 :: x1 :: x2 :: x3 :: zvi a :: L) (zvi a :: st) h) ∧
  (∀ (L st : List ZV) (h : PH), zev kL_law 1938 L st h = zev kL_law 1939 L (zvi 1 :: st) h) ∧
  (∀ (a b : Int) (L st : List ZV) (h : PH), zev kL_law 1939 L (zvi b :: zvi a :: st) h = zev kL_law 1940 L (zvi (w32 (a + b)) :: st) h) ∧
  (∀ (j : Int) (q : Nat) (L st : List ZV) (h : PH), zev kL_law 1940 L (zvi j :: zvr (some q) :: st) h = if (ph_K h q).1 % 1000 = 1 ∧ 0 ≤ j ∧ j < (ph_K h q).2 then zev kL_law 1941 L (zvi (ph_I h q j) :: st) h else none) ∧
  (∀ (a : Option Nat) (L st : List ZV) (h : PH), zev kL_law 1941 (zvr a :: L) st h = zev kL_law 1942 (zvr a :: L) (zvr a :: st) h) ∧
  (∀ (x0 x1 x2 x3 : ZV) (a : Int) (L st : List ZV) (h : PH), zev kL_law 1942 (x0 :: x1 :: x2 :: x3 :: zvi a :: L) st h = zev kL_law 1944 (x0 :: x1 :: x2 :: x3 :: zvi a :: L) (zvi a :: st) h) ∧
  (∀ (L st : List ZV) (h : PH), zev kL_law 1944 L st h = zev kL_law 1945 L (zvi 2 :: st) h) ∧
  (∀ (a b : Int) (L st : List ZV) (h : PH), zev kL_law 1945 L (zvi b :: zvi a :: st) h = zev kL_law 1946 L (zvi (w32 (a + b)) :: st) h) ∧
  (∀ (j : Int) (q : Nat) (L st : List ZV) (h : PH), zev kL_law 1946 L (zvi j :: zvr (some q) :: st) h = if (ph_K h q).1 % 1000 = 1 ∧ 0 ≤ j ∧ j < (ph_K h q).2 then zev kL_law 1947 L (zvi (ph_I h q j) :: st) h else none) ∧
  (∀ (v0 v1 : ZV) (q : Nat) (L st : List ZV) (h : PH), zev kL_law 1947 L (v1 :: v0 :: zvr (some q) :: st) h = if (ph_K h q).1 % 1000 = 18 ∧ zcat st ≤ 8 then zk kL_law 1947 1950 L st (mX4_change [zvr (some q), v0, v1] h) else none) ∧
  (∀ (a b : Int) (L st : List ZV) (h : PH), zev kL_law 1950 L (zvi b :: zvi a :: st) h = if a = b then zev kL_law 2172 L st h else zev kL_law 1953 L st h) ∧
  (∀ (L st : List ZV) (h : PH), zev kL_law 1953 L st h = zev kL_law 1954 L (zvi 0 :: st) h) ∧
  (∀ (a : Int) (L : List ZV) (h : PH), zev kL_law 1954 L [zvi a] h = if a = 0 ∨ a = 1 then zrv (zvi a) h else none) :=
  ⟨fun x0 a L st h => e_ld1R (n := 1919) ((skL_12 1918 (by decide)).trans rfl),
  fun a L st h => e_ld0R (n := 1920) ((skL_12 1919 (by decide)).trans rfl),
  fun x0 x1 x2 x3 a L st h => e_ld4I (n := 1922) ((skL_12 1920 (by decide)).trans rfl),
  fun L st h => e_push (v := zvi 1) (n := 1923) ((skL_12 1922 (by decide)).trans rfl),
  fun a b L st h => e_bin (f := (fun a b => w32 (a + b))) (n := 1924) ((skL_12 1923 (by decide)).trans rfl),
  fun j q L st h => e_ald (kd := 1) (n := 1925) ((skL_12 1924 (by decide)).trans rfl),
  fun a L st h => e_ld0R (n := 1926) ((skL_12 1925 (by decide)).trans rfl),
  fun x0 x1 x2 x3 a L st h => e_ld4I (n := 1928) ((skL_12 1926 (by decide)).trans rfl),
  fun L st h => e_push (v := zvi 2) (n := 1929) ((skL_12 1928 (by decide)).trans rfl),
  fun a b L st h => e_bin (f := (fun a b => w32 (a + b))) (n := 1930) ((skL_12 1929 (by decide)).trans rfl),
  fun j q L st h => e_ald (kd := 1) (n := 1931) ((skL_12 1930 (by decide)).trans rfl),
  fun v0 v1 q L st h => e_callV3 (F := mX1_change) (kd := 16) (n := 1934) ((skL_12 1931 (by decide)).trans rfl),
  fun x0 x1 a L st h => e_ld2R (n := 1935) ((skL_12 1934 (by decide)).trans rfl),
  fun a L st h => e_ld0R (n := 1936) ((skL_12 1935 (by decide)).trans rfl),
  fun x0 x1 x2 x3 a L st h => e_ld4I (n := 1938) ((skL_12 1936 (by decide)).trans rfl),
  fun L st h => e_push (v := zvi 1) (n := 1939) ((skL_12 1938 (by decide)).trans rfl),
  fun a b L st h => e_bin (f := (fun a b => w32 (a + b))) (n := 1940) ((skL_12 1939 (by decide)).trans rfl),
  fun j q L st h => e_ald (kd := 1) (n := 1941) ((skL_12 1940 (by decide)).trans rfl),
  fun a L st h => e_ld0R (n := 1942) ((skL_12 1941 (by decide)).trans rfl),
  fun x0 x1 x2 x3 a L st h => e_ld4I (n := 1944) ((skL_13 1942 (by decide)).trans rfl),
  fun L st h => e_push (v := zvi 2) (n := 1945) ((skL_13 1944 (by decide)).trans rfl),
  fun a b L st h => e_bin (f := (fun a b => w32 (a + b))) (n := 1946) ((skL_13 1945 (by decide)).trans rfl),
  fun j q L st h => e_ald (kd := 1) (n := 1947) ((skL_13 1946 (by decide)).trans rfl),
  fun v0 v1 q L st h => e_callV3 (F := mX4_change) (kd := 18) (n := 1950) ((skL_13 1947 (by decide)).trans rfl),
  fun a b L st h => e_cmpeq (t := 2172) (n := 1953) ((skL_13 1950 (by decide)).trans rfl),
  fun L st h => e_push (v := zvi 0) (n := 1954) ((skL_13 1953 (by decide)).trans rfl),
  fun a L h => e_retz ((skL_13 1954 (by decide)).trans rfl)⟩
theorem rL_law_39 : (∀ (x0 : ZV) (a : Option Nat) (L st : List ZV) (h : PH), zev kL_law 1955 (x0 :: zvr a :: L) st h = zev kL_law 1956 (x0 :: zvr a :: L) (zvr a :: st) h) ∧
  (∀ (a : Option Nat) (L st : List ZV) (h : PH), zev kL_law 1956 (zvr a :: L) st h = zev kL_law 1957 (zvr a :: L) (zvr a :: st) h) ∧
  (∀ (x0 x1 x2 x3 : ZV) (a : Int) (L st : List ZV) (h : PH), zev kL_law 1957 (x0 :: x1 :: x2 :: x3 :: zvi a :: L) st h = zev kL_law 1959 (x0 :: x1 :: x2 :: x3 :: zvi a :: L) (zvi a :: st) h) ∧
  (∀ (L st : List ZV) (h : PH), zev kL_law 1959 L st h = zev kL_law 1960 L (zvi 1 :: st) h) ∧
  (∀ (a b : Int) (L st : List ZV) (h : PH), zev kL_law 1960 L (zvi b :: zvi a :: st) h = zev kL_law 1961 L (zvi (w32 (a + b)) :: st) h) ∧
  (∀ (j : Int) (q : Nat) (L st : List ZV) (h : PH), zev kL_law 1961 L (zvi j :: zvr (some q) :: st) h = if (ph_K h q).1 % 1000 = 1 ∧ 0 ≤ j ∧ j < (ph_K h q).2 then zev kL_law 1962 L (zvi (ph_I h q j) :: st) h else none) ∧
  (∀ (a : Option Nat) (L st : List ZV) (h : PH), zev kL_law 1962 (zvr a :: L) st h = zev kL_law 1963 (zvr a :: L) (zvr a :: st) h) ∧
  (∀ (x0 x1 x2 x3 : ZV) (a : Int) (L st : List ZV) (h : PH), zev kL_law 1963 (x0 :: x1 :: x2 :: x3 :: zvi a :: L) st h = zev kL_law 1965 (x0 :: x1 :: x2 :: x3 :: zvi a :: L) (zvi a :: st) h) ∧
  (∀ (L st : List ZV) (h : PH), zev kL_law 1965 L st h = zev kL_law 1966 L (zvi 2 :: st) h) ∧
  (∀ (a b : Int) (L st : List ZV) (h : PH), zev kL_law 1966 L (zvi b :: zvi a :: st) h = zev kL_law 1967 L (zvi (w32 (a + b)) :: st) h) ∧
  (∀ (j : Int) (q : Nat) (L st : List ZV) (h : PH), zev kL_law 1967 L (zvi j :: zvr (some q) :: st) h = if (ph_K h q).1 % 1000 = 1 ∧ 0 ≤ j ∧ j < (ph_K h q).2 then zev kL_law 1968 L (zvi (ph_I h q j) :: st) h else none) ∧
  (∀ (v0 v1 : ZV) (q : Nat) (L st : List ZV) (h : PH), zev kL_law 1968 L (v1 :: v0 :: zvr (some q) :: st) h = if (ph_K h q).1 % 1000 = 16 ∧ zcat st ≤ 8 then zk kL_law 1968 1971 L st (mX1_hold [zvr (some q), v0, v1] h) else none) ∧
  (∀ (x0 x1 : ZV) (a : Option Nat) (L st : List ZV) (h : PH), zev kL_law 1971 (x0 :: x1 :: zvr a :: L) st h = zev kL_law 1972 (x0 :: x1 :: zvr a :: L) (zvr a :: st) h) ∧
  (∀ (a : Option Nat) (L st : List ZV) (h : PH), zev kL_law 1972 (zvr a :: L) st h = zev kL_law 1973 (zvr a :: L) (zvr a :: st) h) ∧
  (∀ (x0 x1 x2 x3 : ZV) (a : Int) (L st : List ZV) (h : PH), zev kL_law 1973 (x0 :: x1 :: x2 :: x3 :: zvi a :: L) st h = zev kL_law 1975 (x0 :: x1 :: x2 :: x3 :: zvi a :: L) (zvi a :: st) h) ∧
  (∀ (L st : List ZV) (h : PH), zev kL_law 1975 L st h = zev kL_law 1976 L (zvi 1 :: st) h) ∧
  (∀ (a b : Int) (L st : List ZV) (h : PH), zev kL_law 1976 L (zvi b :: zvi a :: st) h = zev kL_law 1977 L (zvi (w32 (a + b)) :: st) h) ∧
  (∀ (j : Int) (q : Nat) (L st : List ZV) (h : PH), zev kL_law 1977 L (zvi j :: zvr (some q) :: st) h = if (ph_K h q).1 % 1000 = 1 ∧ 0 ≤ j ∧ j < (ph_K h q).2 then zev kL_law 1978 L (zvi (ph_I h q j) :: st) h else none) ∧
  (∀ (a : Option Nat) (L st : List ZV) (h : PH), zev kL_law 1978 (zvr a :: L) st h = zev kL_law 1979 (zvr a :: L) (zvr a :: st) h) ∧
  (∀ (x0 x1 x2 x3 : ZV) (a : Int) (L st : List ZV) (h : PH), zev kL_law 1979 (x0 :: x1 :: x2 :: x3 :: zvi a :: L) st h = zev kL_law 1981 (x0 :: x1 :: x2 :: x3 :: zvi a :: L) (zvi a :: st) h) ∧
  (∀ (L st : List ZV) (h : PH), zev kL_law 1981 L st h = zev kL_law 1982 L (zvi 2 :: st) h) ∧
  (∀ (a b : Int) (L st : List ZV) (h : PH), zev kL_law 1982 L (zvi b :: zvi a :: st) h = zev kL_law 1983 L (zvi (w32 (a + b)) :: st) h) ∧
  (∀ (j : Int) (q : Nat) (L st : List ZV) (h : PH), zev kL_law 1983 L (zvi j :: zvr (some q) :: st) h = if (ph_K h q).1 % 1000 = 1 ∧ 0 ≤ j ∧ j < (ph_K h q).2 then zev kL_law 1984 L (zvi (ph_I h q j) :: st) h else none) ∧
  (∀ (v0 v1 : ZV) (q : Nat) (L st : List ZV) (h : PH), zev kL_law 1984 L (v1 :: v0 :: zvr (some q) :: st) h = if (ph_K h q).1 % 1000 = 18 ∧ zcat st ≤ 8 then zk kL_law 1984 1987 L st (mX4_hold [zvr (some q), v0, v1] h) else none) ∧
  (∀ (a b : Int) (L st : List ZV) (h : PH), zev kL_law 1987 L (zvi b :: zvi a :: st) h = if a = b then zev kL_law 2172 L st h else zev kL_law 1990 L st h) ∧
  (∀ (L st : List ZV) (h : PH), zev kL_law 1990 L st h = zev kL_law 1991 L (zvi 0 :: st) h) ∧
  (∀ (a : Int) (L : List ZV) (h : PH), zev kL_law 1991 L [zvi a] h = if a = 0 ∨ a = 1 then zrv (zvi a) h else none) :=
  ⟨fun x0 a L st h => e_ld1R (n := 1956) ((skL_13 1955 (by decide)).trans rfl),
  fun a L st h => e_ld0R (n := 1957) ((skL_13 1956 (by decide)).trans rfl),
  fun x0 x1 x2 x3 a L st h => e_ld4I (n := 1959) ((skL_13 1957 (by decide)).trans rfl),
  fun L st h => e_push (v := zvi 1) (n := 1960) ((skL_13 1959 (by decide)).trans rfl),
  fun a b L st h => e_bin (f := (fun a b => w32 (a + b))) (n := 1961) ((skL_13 1960 (by decide)).trans rfl),
  fun j q L st h => e_ald (kd := 1) (n := 1962) ((skL_13 1961 (by decide)).trans rfl),
  fun a L st h => e_ld0R (n := 1963) ((skL_13 1962 (by decide)).trans rfl),
  fun x0 x1 x2 x3 a L st h => e_ld4I (n := 1965) ((skL_13 1963 (by decide)).trans rfl),
  fun L st h => e_push (v := zvi 2) (n := 1966) ((skL_13 1965 (by decide)).trans rfl),
  fun a b L st h => e_bin (f := (fun a b => w32 (a + b))) (n := 1967) ((skL_13 1966 (by decide)).trans rfl),
  fun j q L st h => e_ald (kd := 1) (n := 1968) ((skL_13 1967 (by decide)).trans rfl),
  fun v0 v1 q L st h => e_callV3 (F := mX1_hold) (kd := 16) (n := 1971) ((skL_13 1968 (by decide)).trans rfl),
  fun x0 x1 a L st h => e_ld2R (n := 1972) ((skL_13 1971 (by decide)).trans rfl),
  fun a L st h => e_ld0R (n := 1973) ((skL_13 1972 (by decide)).trans rfl),
  fun x0 x1 x2 x3 a L st h => e_ld4I (n := 1975) ((skL_13 1973 (by decide)).trans rfl),
  fun L st h => e_push (v := zvi 1) (n := 1976) ((skL_13 1975 (by decide)).trans rfl),
  fun a b L st h => e_bin (f := (fun a b => w32 (a + b))) (n := 1977) ((skL_13 1976 (by decide)).trans rfl),
  fun j q L st h => e_ald (kd := 1) (n := 1978) ((skL_13 1977 (by decide)).trans rfl),
  fun a L st h => e_ld0R (n := 1979) ((skL_13 1978 (by decide)).trans rfl),
  fun x0 x1 x2 x3 a L st h => e_ld4I (n := 1981) ((skL_13 1979 (by decide)).trans rfl),
  fun L st h => e_push (v := zvi 2) (n := 1982) ((skL_13 1981 (by decide)).trans rfl),
  fun a b L st h => e_bin (f := (fun a b => w32 (a + b))) (n := 1983) ((skL_13 1982 (by decide)).trans rfl),
  fun j q L st h => e_ald (kd := 1) (n := 1984) ((skL_13 1983 (by decide)).trans rfl),
  fun v0 v1 q L st h => e_callV3 (F := mX4_hold) (kd := 18) (n := 1987) ((skL_13 1984 (by decide)).trans rfl),
  fun a b L st h => e_cmpeq (t := 2172) (n := 1990) ((skL_13 1987 (by decide)).trans rfl),
  fun L st h => e_push (v := zvi 0) (n := 1991) ((skL_13 1990 (by decide)).trans rfl),
  fun a L h => e_retz ((skL_13 1991 (by decide)).trans rfl)⟩
theorem rL_law_40 : (∀ (x0 : ZV) (a : Option Nat) (L st : List ZV) (h : PH), zev kL_law 1992 (x0 :: zvr a :: L) st h = zev kL_law 1993 (x0 :: zvr a :: L) (zvr a :: st) h) ∧
  (∀ (a : Option Nat) (L st : List ZV) (h : PH), zev kL_law 1993 (zvr a :: L) st h = zev kL_law 1994 (zvr a :: L) (zvr a :: st) h) ∧
  (∀ (x0 x1 x2 x3 : ZV) (a : Int) (L st : List ZV) (h : PH), zev kL_law 1994 (x0 :: x1 :: x2 :: x3 :: zvi a :: L) st h = zev kL_law 1996 (x0 :: x1 :: x2 :: x3 :: zvi a :: L) (zvi a :: st) h) ∧
  (∀ (L st : List ZV) (h : PH), zev kL_law 1996 L st h = zev kL_law 1997 L (zvi 1 :: st) h) ∧
  (∀ (a b : Int) (L st : List ZV) (h : PH), zev kL_law 1997 L (zvi b :: zvi a :: st) h = zev kL_law 1998 L (zvi (w32 (a + b)) :: st) h) ∧
  (∀ (j : Int) (q : Nat) (L st : List ZV) (h : PH), zev kL_law 1998 L (zvi j :: zvr (some q) :: st) h = if (ph_K h q).1 % 1000 = 1 ∧ 0 ≤ j ∧ j < (ph_K h q).2 then zev kL_law 1999 L (zvi (ph_I h q j) :: st) h else none) ∧
  (∀ (a : Option Nat) (L st : List ZV) (h : PH), zev kL_law 1999 (zvr a :: L) st h = zev kL_law 2000 (zvr a :: L) (zvr a :: st) h) ∧
  (∀ (x0 x1 x2 x3 : ZV) (a : Int) (L st : List ZV) (h : PH), zev kL_law 2000 (x0 :: x1 :: x2 :: x3 :: zvi a :: L) st h = zev kL_law 2002 (x0 :: x1 :: x2 :: x3 :: zvi a :: L) (zvi a :: st) h) ∧
  (∀ (L st : List ZV) (h : PH), zev kL_law 2002 L st h = zev kL_law 2003 L (zvi 2 :: st) h) ∧
  (∀ (a b : Int) (L st : List ZV) (h : PH), zev kL_law 2003 L (zvi b :: zvi a :: st) h = zev kL_law 2004 L (zvi (w32 (a + b)) :: st) h) ∧
  (∀ (j : Int) (q : Nat) (L st : List ZV) (h : PH), zev kL_law 2004 L (zvi j :: zvr (some q) :: st) h = if (ph_K h q).1 % 1000 = 1 ∧ 0 ≤ j ∧ j < (ph_K h q).2 then zev kL_law 2005 L (zvi (ph_I h q j) :: st) h else none) ∧
  (∀ (a : Option Nat) (L st : List ZV) (h : PH), zev kL_law 2005 (zvr a :: L) st h = zev kL_law 2006 (zvr a :: L) (zvr a :: st) h) ∧
  (∀ (x0 x1 x2 x3 : ZV) (a : Int) (L st : List ZV) (h : PH), zev kL_law 2006 (x0 :: x1 :: x2 :: x3 :: zvi a :: L) st h = zev kL_law 2008 (x0 :: x1 :: x2 :: x3 :: zvi a :: L) (zvi a :: st) h) ∧
  (∀ (L st : List ZV) (h : PH), zev kL_law 2008 L st h = zev kL_law 2009 L (zvi 3 :: st) h) ∧
  (∀ (a b : Int) (L st : List ZV) (h : PH), zev kL_law 2009 L (zvi b :: zvi a :: st) h = zev kL_law 2010 L (zvi (w32 (a + b)) :: st) h) ∧
  (∀ (j : Int) (q : Nat) (L st : List ZV) (h : PH), zev kL_law 2010 L (zvi j :: zvr (some q) :: st) h = if (ph_K h q).1 % 1000 = 1 ∧ 0 ≤ j ∧ j < (ph_K h q).2 then zev kL_law 2011 L (zvi (ph_I h q j) :: st) h else none) ∧
  (∀ (a : Option Nat) (L st : List ZV) (h : PH), zev kL_law 2011 (zvr a :: L) st h = zev kL_law 2012 (zvr a :: L) (zvr a :: st) h) ∧
  (∀ (x0 x1 x2 x3 : ZV) (a : Int) (L st : List ZV) (h : PH), zev kL_law 2012 (x0 :: x1 :: x2 :: x3 :: zvi a :: L) st h = zev kL_law 2014 (x0 :: x1 :: x2 :: x3 :: zvi a :: L) (zvi a :: st) h) ∧
  (∀ (L st : List ZV) (h : PH), zev kL_law 2014 L st h = zev kL_law 2015 L (zvi 4 :: st) h) ∧
  (∀ (a b : Int) (L st : List ZV) (h : PH), zev kL_law 2015 L (zvi b :: zvi a :: st) h = zev kL_law 2016 L (zvi (w32 (a + b)) :: st) h) ∧
  (∀ (j : Int) (q : Nat) (L st : List ZV) (h : PH), zev kL_law 2016 L (zvi j :: zvr (some q) :: st) h = if (ph_K h q).1 % 1000 = 1 ∧ 0 ≤ j ∧ j < (ph_K h q).2 then zev kL_law 2017 L (zvi (ph_I h q j) :: st) h else none) ∧
  (∀ (a : Option Nat) (L st : List ZV) (h : PH), zev kL_law 2017 (zvr a :: L) st h = zev kL_law 2018 (zvr a :: L) (zvr a :: st) h) ∧
  (∀ (x0 x1 x2 x3 : ZV) (a : Int) (L st : List ZV) (h : PH), zev kL_law 2018 (x0 :: x1 :: x2 :: x3 :: zvi a :: L) st h = zev kL_law 2020 (x0 :: x1 :: x2 :: x3 :: zvi a :: L) (zvi a :: st) h) ∧
  (∀ (L st : List ZV) (h : PH), zev kL_law 2020 L st h = zev kL_law 2021 L (zvi 5 :: st) h) ∧
  (∀ (a b : Int) (L st : List ZV) (h : PH), zev kL_law 2021 L (zvi b :: zvi a :: st) h = zev kL_law 2022 L (zvi (w32 (a + b)) :: st) h) ∧
  (∀ (j : Int) (q : Nat) (L st : List ZV) (h : PH), zev kL_law 2022 L (zvi j :: zvr (some q) :: st) h = if (ph_K h q).1 % 1000 = 1 ∧ 0 ≤ j ∧ j < (ph_K h q).2 then zev kL_law 2023 L (zvi (ph_I h q j) :: st) h else none) ∧
  (∀ (v0 v1 v2 v3 v4 : ZV) (q : Nat) (L st : List ZV) (h : PH), zev kL_law 2023 L (v4 :: v3 :: v2 :: v1 :: v0 :: zvr (some q) :: st) h = if (ph_K h q).1 % 1000 = 16 ∧ zcat st ≤ 8 then zk kL_law 2023 2026 L st (mX1_extra [zvr (some q), v0, v1, v2, v3, v4] h) else none) ∧
  (∀ (x0 x1 : ZV) (a : Option Nat) (L st : List ZV) (h : PH), zev kL_law 2026 (x0 :: x1 :: zvr a :: L) st h = zev kL_law 2027 (x0 :: x1 :: zvr a :: L) (zvr a :: st) h) ∧
  (∀ (a : Option Nat) (L st : List ZV) (h : PH), zev kL_law 2027 (zvr a :: L) st h = zev kL_law 2028 (zvr a :: L) (zvr a :: st) h) ∧
  (∀ (x0 x1 x2 x3 : ZV) (a : Int) (L st : List ZV) (h : PH), zev kL_law 2028 (x0 :: x1 :: x2 :: x3 :: zvi a :: L) st h = zev kL_law 2030 (x0 :: x1 :: x2 :: x3 :: zvi a :: L) (zvi a :: st) h) ∧
  (∀ (L st : List ZV) (h : PH), zev kL_law 2030 L st h = zev kL_law 2031 L (zvi 1 :: st) h) ∧
  (∀ (a b : Int) (L st : List ZV) (h : PH), zev kL_law 2031 L (zvi b :: zvi a :: st) h = zev kL_law 2032 L (zvi (w32 (a + b)) :: st) h) ∧
  (∀ (j : Int) (q : Nat) (L st : List ZV) (h : PH), zev kL_law 2032 L (zvi j :: zvr (some q) :: st) h = if (ph_K h q).1 % 1000 = 1 ∧ 0 ≤ j ∧ j < (ph_K h q).2 then zev kL_law 2033 L (zvi (ph_I h q j) :: st) h else none) ∧
  (∀ (a : Option Nat) (L st : List ZV) (h : PH), zev kL_law 2033 (zvr a :: L) st h = zev kL_law 2034 (zvr a :: L) (zvr a :: st) h) ∧
  (∀ (x0 x1 x2 x3 : ZV) (a : Int) (L st : List ZV) (h : PH), zev kL_law 2034 (x0 :: x1 :: x2 :: x3 :: zvi a :: L) st h = zev kL_law 2036 (x0 :: x1 :: x2 :: x3 :: zvi a :: L) (zvi a :: st) h) ∧
  (∀ (L st : List ZV) (h : PH), zev kL_law 2036 L st h = zev kL_law 2037 L (zvi 2 :: st) h) ∧
  (∀ (a b : Int) (L st : List ZV) (h : PH), zev kL_law 2037 L (zvi b :: zvi a :: st) h = zev kL_law 2038 L (zvi (w32 (a + b)) :: st) h) ∧
  (∀ (j : Int) (q : Nat) (L st : List ZV) (h : PH), zev kL_law 2038 L (zvi j :: zvr (some q) :: st) h = if (ph_K h q).1 % 1000 = 1 ∧ 0 ≤ j ∧ j < (ph_K h q).2 then zev kL_law 2039 L (zvi (ph_I h q j) :: st) h else none) ∧
  (∀ (a : Option Nat) (L st : List ZV) (h : PH), zev kL_law 2039 (zvr a :: L) st h = zev kL_law 2040 (zvr a :: L) (zvr a :: st) h) ∧
  (∀ (x0 x1 x2 x3 : ZV) (a : Int) (L st : List ZV) (h : PH), zev kL_law 2040 (x0 :: x1 :: x2 :: x3 :: zvi a :: L) st h = zev kL_law 2042 (x0 :: x1 :: x2 :: x3 :: zvi a :: L) (zvi a :: st) h) ∧
  (∀ (L st : List ZV) (h : PH), zev kL_law 2042 L st h = zev kL_law 2043 L (zvi 3 :: st) h) ∧
  (∀ (a b : Int) (L st : List ZV) (h : PH), zev kL_law 2043 L (zvi b :: zvi a :: st) h = zev kL_law 2044 L (zvi (w32 (a + b)) :: st) h) ∧
  (∀ (j : Int) (q : Nat) (L st : List ZV) (h : PH), zev kL_law 2044 L (zvi j :: zvr (some q) :: st) h = if (ph_K h q).1 % 1000 = 1 ∧ 0 ≤ j ∧ j < (ph_K h q).2 then zev kL_law 2045 L (zvi (ph_I h q j) :: st) h else none) ∧
  (∀ (a : Option Nat) (L st : List ZV) (h : PH), zev kL_law 2045 (zvr a :: L) st h = zev kL_law 2046 (zvr a :: L) (zvr a :: st) h) ∧
  (∀ (x0 x1 x2 x3 : ZV) (a : Int) (L st : List ZV) (h : PH), zev kL_law 2046 (x0 :: x1 :: x2 :: x3 :: zvi a :: L) st h = zev kL_law 2048 (x0 :: x1 :: x2 :: x3 :: zvi a :: L) (zvi a :: st) h) ∧
  (∀ (L st : List ZV) (h : PH), zev kL_law 2048 L st h = zev kL_law 2049 L (zvi 4 :: st) h) ∧
  (∀ (a b : Int) (L st : List ZV) (h : PH), zev kL_law 2049 L (zvi b :: zvi a :: st) h = zev kL_law 2050 L (zvi (w32 (a + b)) :: st) h) ∧
  (∀ (j : Int) (q : Nat) (L st : List ZV) (h : PH), zev kL_law 2050 L (zvi j :: zvr (some q) :: st) h = if (ph_K h q).1 % 1000 = 1 ∧ 0 ≤ j ∧ j < (ph_K h q).2 then zev kL_law 2051 L (zvi (ph_I h q j) :: st) h else none) ∧
  (∀ (a : Option Nat) (L st : List ZV) (h : PH), zev kL_law 2051 (zvr a :: L) st h = zev kL_law 2052 (zvr a :: L) (zvr a :: st) h) ∧
  (∀ (x0 x1 x2 x3 : ZV) (a : Int) (L st : List ZV) (h : PH), zev kL_law 2052 (x0 :: x1 :: x2 :: x3 :: zvi a :: L) st h = zev kL_law 2054 (x0 :: x1 :: x2 :: x3 :: zvi a :: L) (zvi a :: st) h) ∧
  (∀ (L st : List ZV) (h : PH), zev kL_law 2054 L st h = zev kL_law 2055 L (zvi 5 :: st) h) ∧
  (∀ (a b : Int) (L st : List ZV) (h : PH), zev kL_law 2055 L (zvi b :: zvi a :: st) h = zev kL_law 2056 L (zvi (w32 (a + b)) :: st) h) ∧
  (∀ (j : Int) (q : Nat) (L st : List ZV) (h : PH), zev kL_law 2056 L (zvi j :: zvr (some q) :: st) h = if (ph_K h q).1 % 1000 = 1 ∧ 0 ≤ j ∧ j < (ph_K h q).2 then zev kL_law 2057 L (zvi (ph_I h q j) :: st) h else none) ∧
  (∀ (v0 v1 v2 v3 v4 : ZV) (q : Nat) (L st : List ZV) (h : PH), zev kL_law 2057 L (v4 :: v3 :: v2 :: v1 :: v0 :: zvr (some q) :: st) h = if (ph_K h q).1 % 1000 = 18 ∧ zcat st ≤ 8 then zk kL_law 2057 2060 L st (mX4_extra [zvr (some q), v0, v1, v2, v3, v4] h) else none) ∧
  (∀ (a b : Int) (L st : List ZV) (h : PH), zev kL_law 2060 L (zvi b :: zvi a :: st) h = if a = b then zev kL_law 2172 L st h else zev kL_law 2063 L st h) ∧
  (∀ (L st : List ZV) (h : PH), zev kL_law 2063 L st h = zev kL_law 2064 L (zvi 0 :: st) h) ∧
  (∀ (a : Int) (L : List ZV) (h : PH), zev kL_law 2064 L [zvi a] h = if a = 0 ∨ a = 1 then zrv (zvi a) h else none) :=
  ⟨fun x0 a L st h => e_ld1R (n := 1993) ((skL_13 1992 (by decide)).trans rfl),
  fun a L st h => e_ld0R (n := 1994) ((skL_13 1993 (by decide)).trans rfl),
  fun x0 x1 x2 x3 a L st h => e_ld4I (n := 1996) ((skL_13 1994 (by decide)).trans rfl),
  fun L st h => e_push (v := zvi 1) (n := 1997) ((skL_13 1996 (by decide)).trans rfl),
  fun a b L st h => e_bin (f := (fun a b => w32 (a + b))) (n := 1998) ((skL_13 1997 (by decide)).trans rfl),
  fun j q L st h => e_ald (kd := 1) (n := 1999) ((skL_13 1998 (by decide)).trans rfl),
  fun a L st h => e_ld0R (n := 2000) ((skL_13 1999 (by decide)).trans rfl),
  fun x0 x1 x2 x3 a L st h => e_ld4I (n := 2002) ((skL_13 2000 (by decide)).trans rfl),
  fun L st h => e_push (v := zvi 2) (n := 2003) ((skL_13 2002 (by decide)).trans rfl),
  fun a b L st h => e_bin (f := (fun a b => w32 (a + b))) (n := 2004) ((skL_13 2003 (by decide)).trans rfl),
  fun j q L st h => e_ald (kd := 1) (n := 2005) ((skL_13 2004 (by decide)).trans rfl),
  fun a L st h => e_ld0R (n := 2006) ((skL_13 2005 (by decide)).trans rfl),
  fun x0 x1 x2 x3 a L st h => e_ld4I (n := 2008) ((skL_13 2006 (by decide)).trans rfl),
  fun L st h => e_push (v := zvi 3) (n := 2009) ((skL_13 2008 (by decide)).trans rfl),
  fun a b L st h => e_bin (f := (fun a b => w32 (a + b))) (n := 2010) ((skL_13 2009 (by decide)).trans rfl),
  fun j q L st h => e_ald (kd := 1) (n := 2011) ((skL_13 2010 (by decide)).trans rfl),
  fun a L st h => e_ld0R (n := 2012) ((skL_13 2011 (by decide)).trans rfl),
  fun x0 x1 x2 x3 a L st h => e_ld4I (n := 2014) ((skL_13 2012 (by decide)).trans rfl),
  fun L st h => e_push (v := zvi 4) (n := 2015) ((skL_13 2014 (by decide)).trans rfl),
  fun a b L st h => e_bin (f := (fun a b => w32 (a + b))) (n := 2016) ((skL_13 2015 (by decide)).trans rfl),
  fun j q L st h => e_ald (kd := 1) (n := 2017) ((skL_13 2016 (by decide)).trans rfl),
  fun a L st h => e_ld0R (n := 2018) ((skL_13 2017 (by decide)).trans rfl),
  fun x0 x1 x2 x3 a L st h => e_ld4I (n := 2020) ((skL_13 2018 (by decide)).trans rfl),
  fun L st h => e_push (v := zvi 5) (n := 2021) ((skL_13 2020 (by decide)).trans rfl),
  fun a b L st h => e_bin (f := (fun a b => w32 (a + b))) (n := 2022) ((skL_13 2021 (by decide)).trans rfl),
  fun j q L st h => e_ald (kd := 1) (n := 2023) ((skL_13 2022 (by decide)).trans rfl),
  fun v0 v1 v2 v3 v4 q L st h => e_callV6 (F := mX1_extra) (kd := 16) (n := 2026) ((skL_13 2023 (by decide)).trans rfl),
  fun x0 x1 a L st h => e_ld2R (n := 2027) ((skL_13 2026 (by decide)).trans rfl),
  fun a L st h => e_ld0R (n := 2028) ((skL_13 2027 (by decide)).trans rfl),
  fun x0 x1 x2 x3 a L st h => e_ld4I (n := 2030) ((skL_13 2028 (by decide)).trans rfl),
  fun L st h => e_push (v := zvi 1) (n := 2031) ((skL_13 2030 (by decide)).trans rfl),
  fun a b L st h => e_bin (f := (fun a b => w32 (a + b))) (n := 2032) ((skL_13 2031 (by decide)).trans rfl),
  fun j q L st h => e_ald (kd := 1) (n := 2033) ((skL_13 2032 (by decide)).trans rfl),
  fun a L st h => e_ld0R (n := 2034) ((skL_13 2033 (by decide)).trans rfl),
  fun x0 x1 x2 x3 a L st h => e_ld4I (n := 2036) ((skL_13 2034 (by decide)).trans rfl),
  fun L st h => e_push (v := zvi 2) (n := 2037) ((skL_13 2036 (by decide)).trans rfl),
  fun a b L st h => e_bin (f := (fun a b => w32 (a + b))) (n := 2038) ((skL_13 2037 (by decide)).trans rfl),
  fun j q L st h => e_ald (kd := 1) (n := 2039) ((skL_13 2038 (by decide)).trans rfl),
  fun a L st h => e_ld0R (n := 2040) ((skL_13 2039 (by decide)).trans rfl),
  fun x0 x1 x2 x3 a L st h => e_ld4I (n := 2042) ((skL_13 2040 (by decide)).trans rfl),
  fun L st h => e_push (v := zvi 3) (n := 2043) ((skL_13 2042 (by decide)).trans rfl),
  fun a b L st h => e_bin (f := (fun a b => w32 (a + b))) (n := 2044) ((skL_13 2043 (by decide)).trans rfl),
  fun j q L st h => e_ald (kd := 1) (n := 2045) ((skL_13 2044 (by decide)).trans rfl),
  fun a L st h => e_ld0R (n := 2046) ((skL_13 2045 (by decide)).trans rfl),
  fun x0 x1 x2 x3 a L st h => e_ld4I (n := 2048) ((skL_13 2046 (by decide)).trans rfl),
  fun L st h => e_push (v := zvi 4) (n := 2049) ((skL_13 2048 (by decide)).trans rfl),
  fun a b L st h => e_bin (f := (fun a b => w32 (a + b))) (n := 2050) ((skL_13 2049 (by decide)).trans rfl),
  fun j q L st h => e_ald (kd := 1) (n := 2051) ((skL_13 2050 (by decide)).trans rfl),
  fun a L st h => e_ld0R (n := 2052) ((skL_13 2051 (by decide)).trans rfl),
  fun x0 x1 x2 x3 a L st h => e_ld4I (n := 2054) ((skL_13 2052 (by decide)).trans rfl),
  fun L st h => e_push (v := zvi 5) (n := 2055) ((skL_13 2054 (by decide)).trans rfl),
  fun a b L st h => e_bin (f := (fun a b => w32 (a + b))) (n := 2056) ((skL_13 2055 (by decide)).trans rfl),
  fun j q L st h => e_ald (kd := 1) (n := 2057) ((skL_13 2056 (by decide)).trans rfl),
  fun v0 v1 v2 v3 v4 q L st h => e_callV6 (F := mX4_extra) (kd := 18) (n := 2060) ((skL_13 2057 (by decide)).trans rfl),
  fun a b L st h => e_cmpeq (t := 2172) (n := 2063) ((skL_13 2060 (by decide)).trans rfl),
  fun L st h => e_push (v := zvi 0) (n := 2064) ((skL_13 2063 (by decide)).trans rfl),
  fun a L h => e_retz ((skL_13 2064 (by decide)).trans rfl)⟩
theorem rL_law_41 : (∀ (x0 : ZV) (a : Option Nat) (L st : List ZV) (h : PH), zev kL_law 2065 (x0 :: zvr a :: L) st h = zev kL_law 2066 (x0 :: zvr a :: L) (zvr a :: st) h) ∧
  (∀ (q : Nat) (L st : List ZV) (h : PH), zev kL_law 2066 L (zvr (some q) :: st) h = if (ph_K h q).1 % 1000 = 16 ∧ zcat st ≤ 8 then zk kL_law 2066 2069 L st (mX1_undo [zvr (some q)] h) else none) ∧
  (∀ (x0 x1 : ZV) (a : Option Nat) (L st : List ZV) (h : PH), zev kL_law 2069 (x0 :: x1 :: zvr a :: L) st h = zev kL_law 2070 (x0 :: x1 :: zvr a :: L) (zvr a :: st) h) ∧
  (∀ (q : Nat) (L st : List ZV) (h : PH), zev kL_law 2070 L (zvr (some q) :: st) h = if (ph_K h q).1 % 1000 = 18 ∧ zcat st ≤ 8 then zk kL_law 2070 2073 L st (mX4_undo [zvr (some q)] h) else none) ∧
  (∀ (a b : Int) (L st : List ZV) (h : PH), zev kL_law 2073 L (zvi b :: zvi a :: st) h = if a = b then zev kL_law 2172 L st h else zev kL_law 2076 L st h) ∧
  (∀ (L st : List ZV) (h : PH), zev kL_law 2076 L st h = zev kL_law 2077 L (zvi 0 :: st) h) ∧
  (∀ (a : Int) (L : List ZV) (h : PH), zev kL_law 2077 L [zvi a] h = if a = 0 ∨ a = 1 then zrv (zvi a) h else none) :=
  ⟨fun x0 a L st h => e_ld1R (n := 2066) ((skL_13 2065 (by decide)).trans rfl),
  fun q L st h => e_callV1 (F := mX1_undo) (kd := 16) (n := 2069) ((skL_13 2066 (by decide)).trans rfl),
  fun x0 x1 a L st h => e_ld2R (n := 2070) ((skL_13 2069 (by decide)).trans rfl),
  fun q L st h => e_callV1 (F := mX4_undo) (kd := 18) (n := 2073) ((skL_13 2070 (by decide)).trans rfl),
  fun a b L st h => e_cmpeq (t := 2172) (n := 2076) ((skL_13 2073 (by decide)).trans rfl),
  fun L st h => e_push (v := zvi 0) (n := 2077) ((skL_13 2076 (by decide)).trans rfl),
  fun a L h => e_retz ((skL_13 2077 (by decide)).trans rfl)⟩
theorem rL_law_42 : (∀ (x0 : ZV) (a : Option Nat) (L st : List ZV) (h : PH), zev kL_law 2078 (x0 :: zvr a :: L) st h = zev kL_law 2079 (x0 :: zvr a :: L) (zvr a :: st) h) ∧
  (∀ (a : Option Nat) (L st : List ZV) (h : PH), zev kL_law 2079 (zvr a :: L) st h = zev kL_law 2080 (zvr a :: L) (zvr a :: st) h) ∧
  (∀ (x0 x1 x2 x3 : ZV) (a : Int) (L st : List ZV) (h : PH), zev kL_law 2080 (x0 :: x1 :: x2 :: x3 :: zvi a :: L) st h = zev kL_law 2082 (x0 :: x1 :: x2 :: x3 :: zvi a :: L) (zvi a :: st) h) ∧
  (∀ (L st : List ZV) (h : PH), zev kL_law 2082 L st h = zev kL_law 2083 L (zvi 1 :: st) h) ∧
  (∀ (a b : Int) (L st : List ZV) (h : PH), zev kL_law 2083 L (zvi b :: zvi a :: st) h = zev kL_law 2084 L (zvi (w32 (a + b)) :: st) h) ∧
  (∀ (j : Int) (q : Nat) (L st : List ZV) (h : PH), zev kL_law 2084 L (zvi j :: zvr (some q) :: st) h = if (ph_K h q).1 % 1000 = 1 ∧ 0 ≤ j ∧ j < (ph_K h q).2 then zev kL_law 2085 L (zvi (ph_I h q j) :: st) h else none) ∧
  (∀ (x0 x1 x2 : ZV) (a : Option Nat) (L st : List ZV) (h : PH), zev kL_law 2085 (x0 :: x1 :: x2 :: zvr a :: L) st h = zev kL_law 2086 (x0 :: x1 :: x2 :: zvr a :: L) (zvr a :: st) h) ∧
  (∀ (v0 v1 v2 : ZV) (L st : List ZV) (h : PH), zev kL_law 2086 L (v2 :: v1 :: v0 :: st) h = if zcat st ≤ 8 then zk kL_law 2086 2089 L st (mX0_still [v0, v1, v2] h) else none) ∧
  (∀ (x0 x1 x2 x3 x4 x5 : ZV) (a : Int) (L st : List ZV) (h : PH) (hx : zisL x4 = false) , zev kL_law 2089 (x0 :: x1 :: x2 :: x3 :: x4 :: x5 :: L) (zvi a :: st) h = zev kL_law 2091 (x0 :: x1 :: x2 :: x3 :: x4 :: zvi a :: L) st h) ∧
  (∀ (x0 x1 : ZV) (a : Option Nat) (L st : List ZV) (h : PH), zev kL_law 2091 (x0 :: x1 :: zvr a :: L) st h = zev kL_law 2092 (x0 :: x1 :: zvr a :: L) (zvr a :: st) h) ∧
  (∀ (a : Option Nat) (L st : List ZV) (h : PH), zev kL_law 2092 (zvr a :: L) st h = zev kL_law 2093 (zvr a :: L) (zvr a :: st) h) ∧
  (∀ (x0 x1 x2 x3 : ZV) (a : Int) (L st : List ZV) (h : PH), zev kL_law 2093 (x0 :: x1 :: x2 :: x3 :: zvi a :: L) st h = zev kL_law 2095 (x0 :: x1 :: x2 :: x3 :: zvi a :: L) (zvi a :: st) h) ∧
  (∀ (L st : List ZV) (h : PH), zev kL_law 2095 L st h = zev kL_law 2096 L (zvi 1 :: st) h) ∧
  (∀ (a b : Int) (L st : List ZV) (h : PH), zev kL_law 2096 L (zvi b :: zvi a :: st) h = zev kL_law 2097 L (zvi (w32 (a + b)) :: st) h) ∧
  (∀ (j : Int) (q : Nat) (L st : List ZV) (h : PH), zev kL_law 2097 L (zvi j :: zvr (some q) :: st) h = if (ph_K h q).1 % 1000 = 1 ∧ 0 ≤ j ∧ j < (ph_K h q).2 then zev kL_law 2098 L (zvi (ph_I h q j) :: st) h else none) ∧
  (∀ (v0 : ZV) (q : Nat) (L st : List ZV) (h : PH), zev kL_law 2098 L (v0 :: zvr (some q) :: st) h = if (ph_K h q).1 % 1000 = 18 ∧ zcat st ≤ 8 then zk kL_law 2098 2101 L st (mX4_still [zvr (some q), v0] h) else none) ∧
  (∀ (x0 x1 x2 x3 x4 x5 x6 : ZV) (a : Int) (L st : List ZV) (h : PH) (hx : zisL x5 = false) , zev kL_law 2101 (x0 :: x1 :: x2 :: x3 :: x4 :: x5 :: x6 :: L) (zvi a :: st) h = zev kL_law 2103 (x0 :: x1 :: x2 :: x3 :: x4 :: x5 :: zvi a :: L) st h) ∧
  (∀ (x0 x1 : ZV) (a : Option Nat) (L st : List ZV) (h : PH), zev kL_law 2103 (x0 :: x1 :: zvr a :: L) st h = zev kL_law 2104 (x0 :: x1 :: zvr a :: L) (zvr a :: st) h) ∧
  (∀ (q : Nat) (L st : List ZV) (h : PH), zev kL_law 2104 L (zvr (some q) :: st) h = if (ph_K h q).1 % 1000 = 18 ∧ zcat st ≤ 8 then zk kL_law 2104 2107 L st (mX4_thrown [zvr (some q)] h) else none) ∧
  (∀ (x0 x1 x2 x3 x4 : ZV) (a : Int) (L st : List ZV) (h : PH), zev kL_law 2107 (x0 :: x1 :: x2 :: x3 :: x4 :: zvi a :: L) st h = zev kL_law 2109 (x0 :: x1 :: x2 :: x3 :: x4 :: zvi a :: L) (zvi a :: st) h) ∧
  (∀ (a b : Int) (L st : List ZV) (h : PH), zev kL_law 2109 L (zvi b :: zvi a :: st) h = if a = b then zev kL_law 2114 L st h else zev kL_law 2112 L st h) ∧
  (∀ (L st : List ZV) (h : PH), zev kL_law 2112 L st h = zev kL_law 2113 L (zvi 0 :: st) h) ∧
  (∀ (a : Int) (L : List ZV) (h : PH), zev kL_law 2113 L [zvi a] h = if a = 0 ∨ a = 1 then zrv (zvi a) h else none) ∧
  (∀ (x0 x1 x2 x3 x4 : ZV) (a : Int) (L st : List ZV) (h : PH), zev kL_law 2114 (x0 :: x1 :: x2 :: x3 :: x4 :: zvi a :: L) st h = zev kL_law 2116 (x0 :: x1 :: x2 :: x3 :: x4 :: zvi a :: L) (zvi a :: st) h) ∧
  (∀ (a : Int) (L st : List ZV) (h : PH), zev kL_law 2116 L (zvi a :: st) h = if a ≠ 0 then zev kL_law 2131 L st h else zev kL_law 2119 L st h) ∧
  (∀ (x0 x1 x2 : ZV) (a : Option Nat) (L st : List ZV) (h : PH), zev kL_law 2119 (x0 :: x1 :: x2 :: zvr a :: L) st h = zev kL_law 2120 (x0 :: x1 :: x2 :: zvr a :: L) (zvr a :: st) h) ∧
  (∀ (L st : List ZV) (h : PH), zev kL_law 2120 L st h = zev kL_law 2121 L (zvi 0 :: st) h) ∧
  (∀ (j : Int) (q : Nat) (L st : List ZV) (h : PH), zev kL_law 2121 L (zvi j :: zvr (some q) :: st) h = if (ph_K h q).1 % 1000 = 4 ∧ 0 ≤ j ∧ j < (ph_K h q).2 then zev kL_law 2122 L (zvl (ph_J h q j) :: st) h else none) ∧
  (∀ (x0 x1 x2 x3 x4 x5 : ZV) (a : Int) (L st : List ZV) (h : PH), zev kL_law 2122 (x0 :: x1 :: x2 :: x3 :: x4 :: x5 :: zvi a :: L) st h = zev kL_law 2124 (x0 :: x1 :: x2 :: x3 :: x4 :: x5 :: zvi a :: L) (zvi a :: st) h) ∧
  (∀ (a : Int) (L st : List ZV) (h : PH), zev kL_law 2124 L (zvi a :: st) h = zev kL_law 2125 L (zvl a :: st) h) ∧
  (∀ (a b : Int) (L st : List ZV) (h : PH), zev kL_law 2125 L (zvl b :: zvl a :: st) h = zev kL_law 2126 L (zvi (zlcmp a b) :: st) h) ∧
  (∀ (a : Int) (L st : List ZV) (h : PH), zev kL_law 2126 L (zvi a :: st) h = if a = 0 then zev kL_law 2131 L st h else zev kL_law 2129 L st h) ∧
  (∀ (L st : List ZV) (h : PH), zev kL_law 2129 L st h = zev kL_law 2130 L (zvi 0 :: st) h) ∧
  (∀ (a : Int) (L : List ZV) (h : PH), zev kL_law 2130 L [zvi a] h = if a = 0 ∨ a = 1 then zrv (zvi a) h else none) ∧
  (∀ (L st : List ZV) (h : PH), zev kL_law 2131 L st h = zev kL_law 2172 L st h) :=
  ⟨fun x0 a L st h => e_ld1R (n := 2079) ((skL_13 2078 (by decide)).trans rfl),
  fun a L st h => e_ld0R (n := 2080) ((skL_14 2079 (by decide)).trans rfl),
  fun x0 x1 x2 x3 a L st h => e_ld4I (n := 2082) ((skL_14 2080 (by decide)).trans rfl),
  fun L st h => e_push (v := zvi 1) (n := 2083) ((skL_14 2082 (by decide)).trans rfl),
  fun a b L st h => e_bin (f := (fun a b => w32 (a + b))) (n := 2084) ((skL_14 2083 (by decide)).trans rfl),
  fun j q L st h => e_ald (kd := 1) (n := 2085) ((skL_14 2084 (by decide)).trans rfl),
  fun x0 x1 x2 a L st h => e_ld3R (n := 2086) ((skL_14 2085 (by decide)).trans rfl),
  fun v0 v1 v2 L st h => e_callS3 (F := mX0_still) (n := 2089) ((skL_14 2086 (by decide)).trans rfl),
  fun x0 x1 x2 x3 x4 x5 a L st h hx => e_st5I (n := 2091) ((skL_14 2089 (by decide)).trans rfl) hx,
  fun x0 x1 a L st h => e_ld2R (n := 2092) ((skL_14 2091 (by decide)).trans rfl),
  fun a L st h => e_ld0R (n := 2093) ((skL_14 2092 (by decide)).trans rfl),
  fun x0 x1 x2 x3 a L st h => e_ld4I (n := 2095) ((skL_14 2093 (by decide)).trans rfl),
  fun L st h => e_push (v := zvi 1) (n := 2096) ((skL_14 2095 (by decide)).trans rfl),
  fun a b L st h => e_bin (f := (fun a b => w32 (a + b))) (n := 2097) ((skL_14 2096 (by decide)).trans rfl),
  fun j q L st h => e_ald (kd := 1) (n := 2098) ((skL_14 2097 (by decide)).trans rfl),
  fun v0 q L st h => e_callV2 (F := mX4_still) (kd := 18) (n := 2101) ((skL_14 2098 (by decide)).trans rfl),
  fun x0 x1 x2 x3 x4 x5 x6 a L st h hx => e_st6I (n := 2103) ((skL_14 2101 (by decide)).trans rfl) hx,
  fun x0 x1 a L st h => e_ld2R (n := 2104) ((skL_14 2103 (by decide)).trans rfl),
  fun q L st h => e_callV1 (F := mX4_thrown) (kd := 18) (n := 2107) ((skL_14 2104 (by decide)).trans rfl),
  fun x0 x1 x2 x3 x4 a L st h => e_ld5I (n := 2109) ((skL_14 2107 (by decide)).trans rfl),
  fun a b L st h => e_cmpeq (t := 2114) (n := 2112) ((skL_14 2109 (by decide)).trans rfl),
  fun L st h => e_push (v := zvi 0) (n := 2113) ((skL_14 2112 (by decide)).trans rfl),
  fun a L h => e_retz ((skL_14 2113 (by decide)).trans rfl),
  fun x0 x1 x2 x3 x4 a L st h => e_ld5I (n := 2116) ((skL_14 2114 (by decide)).trans rfl),
  fun a L st h => e_ifne (t := 2131) (n := 2119) ((skL_14 2116 (by decide)).trans rfl),
  fun x0 x1 x2 a L st h => e_ld3R (n := 2120) ((skL_14 2119 (by decide)).trans rfl),
  fun L st h => e_push (v := zvi 0) (n := 2121) ((skL_14 2120 (by decide)).trans rfl),
  fun j q L st h => e_aldJ (n := 2122) ((skL_14 2121 (by decide)).trans rfl),
  fun x0 x1 x2 x3 x4 x5 a L st h => e_ld6I (n := 2124) ((skL_14 2122 (by decide)).trans rfl),
  fun a L st h => e_i2l (n := 2125) ((skL_14 2124 (by decide)).trans rfl),
  fun a b L st h => e_lcmp (n := 2126) ((skL_14 2125 (by decide)).trans rfl),
  fun a L st h => e_ifeq (t := 2131) (n := 2129) ((skL_14 2126 (by decide)).trans rfl),
  fun L st h => e_push (v := zvi 0) (n := 2130) ((skL_14 2129 (by decide)).trans rfl),
  fun a L h => e_retz ((skL_14 2130 (by decide)).trans rfl),
  fun L st h => e_goto (t := 2172) ((skL_14 2131 (by decide)).trans rfl)⟩
theorem rL_law_43 : (∀ (x0 : ZV) (a : Option Nat) (L st : List ZV) (h : PH), zev kL_law 2134 (x0 :: zvr a :: L) st h = zev kL_law 2135 (x0 :: zvr a :: L) (zvr a :: st) h) ∧
  (∀ (a : Option Nat) (L st : List ZV) (h : PH), zev kL_law 2135 (zvr a :: L) st h = zev kL_law 2136 (zvr a :: L) (zvr a :: st) h) ∧
  (∀ (x0 x1 x2 x3 : ZV) (a : Int) (L st : List ZV) (h : PH), zev kL_law 2136 (x0 :: x1 :: x2 :: x3 :: zvi a :: L) st h = zev kL_law 2138 (x0 :: x1 :: x2 :: x3 :: zvi a :: L) (zvi a :: st) h) ∧
  (∀ (L st : List ZV) (h : PH), zev kL_law 2138 L st h = zev kL_law 2139 L (zvi 1 :: st) h) ∧
  (∀ (a b : Int) (L st : List ZV) (h : PH), zev kL_law 2139 L (zvi b :: zvi a :: st) h = zev kL_law 2140 L (zvi (w32 (a + b)) :: st) h) ∧
  (∀ (j : Int) (q : Nat) (L st : List ZV) (h : PH), zev kL_law 2140 L (zvi j :: zvr (some q) :: st) h = if (ph_K h q).1 % 1000 = 1 ∧ 0 ≤ j ∧ j < (ph_K h q).2 then zev kL_law 2141 L (zvi (ph_I h q j) :: st) h else none) ∧
  (∀ (v0 : ZV) (q : Nat) (L st : List ZV) (h : PH), zev kL_law 2141 L (v0 :: zvr (some q) :: st) h = if (ph_K h q).1 % 1000 = 16 ∧ zcat st ≤ 8 then zk kL_law 2141 2144 L st (mX1_size [zvr (some q), v0] h) else none) ∧
  (∀ (x0 x1 : ZV) (a : Option Nat) (L st : List ZV) (h : PH), zev kL_law 2144 (x0 :: x1 :: zvr a :: L) st h = zev kL_law 2145 (x0 :: x1 :: zvr a :: L) (zvr a :: st) h) ∧
  (∀ (a : Option Nat) (L st : List ZV) (h : PH), zev kL_law 2145 (zvr a :: L) st h = zev kL_law 2146 (zvr a :: L) (zvr a :: st) h) ∧
  (∀ (x0 x1 x2 x3 : ZV) (a : Int) (L st : List ZV) (h : PH), zev kL_law 2146 (x0 :: x1 :: x2 :: x3 :: zvi a :: L) st h = zev kL_law 2148 (x0 :: x1 :: x2 :: x3 :: zvi a :: L) (zvi a :: st) h) ∧
  (∀ (L st : List ZV) (h : PH), zev kL_law 2148 L st h = zev kL_law 2149 L (zvi 1 :: st) h) ∧
  (∀ (a b : Int) (L st : List ZV) (h : PH), zev kL_law 2149 L (zvi b :: zvi a :: st) h = zev kL_law 2150 L (zvi (w32 (a + b)) :: st) h) ∧
  (∀ (j : Int) (q : Nat) (L st : List ZV) (h : PH), zev kL_law 2150 L (zvi j :: zvr (some q) :: st) h = if (ph_K h q).1 % 1000 = 1 ∧ 0 ≤ j ∧ j < (ph_K h q).2 then zev kL_law 2151 L (zvi (ph_I h q j) :: st) h else none) ∧
  (∀ (v0 : ZV) (q : Nat) (L st : List ZV) (h : PH), zev kL_law 2151 L (v0 :: zvr (some q) :: st) h = if (ph_K h q).1 % 1000 = 18 ∧ zcat st ≤ 8 then zk kL_law 2151 2154 L st (mX4_size [zvr (some q), v0] h) else none) ∧
  (∀ (a b : Int) (L st : List ZV) (h : PH), zev kL_law 2154 L (zvi b :: zvi a :: st) h = if a = b then zev kL_law 2172 L st h else zev kL_law 2157 L st h) ∧
  (∀ (L st : List ZV) (h : PH), zev kL_law 2157 L st h = zev kL_law 2158 L (zvi 0 :: st) h) ∧
  (∀ (a : Int) (L : List ZV) (h : PH), zev kL_law 2158 L [zvi a] h = if a = 0 ∨ a = 1 then zrv (zvi a) h else none) :=
  ⟨fun x0 a L st h => e_ld1R (n := 2135) ((skL_14 2134 (by decide)).trans rfl),
  fun a L st h => e_ld0R (n := 2136) ((skL_14 2135 (by decide)).trans rfl),
  fun x0 x1 x2 x3 a L st h => e_ld4I (n := 2138) ((skL_14 2136 (by decide)).trans rfl),
  fun L st h => e_push (v := zvi 1) (n := 2139) ((skL_14 2138 (by decide)).trans rfl),
  fun a b L st h => e_bin (f := (fun a b => w32 (a + b))) (n := 2140) ((skL_14 2139 (by decide)).trans rfl),
  fun j q L st h => e_ald (kd := 1) (n := 2141) ((skL_14 2140 (by decide)).trans rfl),
  fun v0 q L st h => e_callV2 (F := mX1_size) (kd := 16) (n := 2144) ((skL_14 2141 (by decide)).trans rfl),
  fun x0 x1 a L st h => e_ld2R (n := 2145) ((skL_14 2144 (by decide)).trans rfl),
  fun a L st h => e_ld0R (n := 2146) ((skL_14 2145 (by decide)).trans rfl),
  fun x0 x1 x2 x3 a L st h => e_ld4I (n := 2148) ((skL_14 2146 (by decide)).trans rfl),
  fun L st h => e_push (v := zvi 1) (n := 2149) ((skL_14 2148 (by decide)).trans rfl),
  fun a b L st h => e_bin (f := (fun a b => w32 (a + b))) (n := 2150) ((skL_14 2149 (by decide)).trans rfl),
  fun j q L st h => e_ald (kd := 1) (n := 2151) ((skL_14 2150 (by decide)).trans rfl),
  fun v0 q L st h => e_callV2 (F := mX4_size) (kd := 18) (n := 2154) ((skL_14 2151 (by decide)).trans rfl),
  fun a b L st h => e_cmpeq (t := 2172) (n := 2157) ((skL_14 2154 (by decide)).trans rfl),
  fun L st h => e_push (v := zvi 0) (n := 2158) ((skL_14 2157 (by decide)).trans rfl),
  fun a L h => e_retz ((skL_14 2158 (by decide)).trans rfl)⟩
theorem rL_law_44 : (∀ (x0 : ZV) (a : Option Nat) (L st : List ZV) (h : PH), zev kL_law 2159 (x0 :: zvr a :: L) st h = zev kL_law 2160 (x0 :: zvr a :: L) (zvr a :: st) h) ∧
  (∀ (q : Nat) (L st : List ZV) (h : PH), zev kL_law 2160 L (zvr (some q) :: st) h = if (ph_K h q).1 % 1000 = 16 ∧ zcat st ≤ 8 then zk kL_law 2160 2163 L st (mX1_trouble [zvr (some q)] h) else none) ∧
  (∀ (x0 x1 : ZV) (a : Option Nat) (L st : List ZV) (h : PH), zev kL_law 2163 (x0 :: x1 :: zvr a :: L) st h = zev kL_law 2164 (x0 :: x1 :: zvr a :: L) (zvr a :: st) h) ∧
  (∀ (q : Nat) (L st : List ZV) (h : PH), zev kL_law 2164 L (zvr (some q) :: st) h = if (ph_K h q).1 % 1000 = 18 ∧ zcat st ≤ 8 then zk kL_law 2164 2167 L st (mX4_trouble [zvr (some q)] h) else none) ∧
  (∀ (a b : Int) (L st : List ZV) (h : PH), zev kL_law 2167 L (zvi b :: zvi a :: st) h = if a = b then zev kL_law 2172 L st h else zev kL_law 2170 L st h) ∧
  (∀ (L st : List ZV) (h : PH), zev kL_law 2170 L st h = zev kL_law 2171 L (zvi 0 :: st) h) ∧
  (∀ (a : Int) (L : List ZV) (h : PH), zev kL_law 2171 L [zvi a] h = if a = 0 ∨ a = 1 then zrv (zvi a) h else none) :=
  ⟨fun x0 a L st h => e_ld1R (n := 2160) ((skL_14 2159 (by decide)).trans rfl),
  fun q L st h => e_callV1 (F := mX1_trouble) (kd := 16) (n := 2163) ((skL_14 2160 (by decide)).trans rfl),
  fun x0 x1 a L st h => e_ld2R (n := 2164) ((skL_14 2163 (by decide)).trans rfl),
  fun q L st h => e_callV1 (F := mX4_trouble) (kd := 18) (n := 2167) ((skL_14 2164 (by decide)).trans rfl),
  fun a b L st h => e_cmpeq (t := 2172) (n := 2170) ((skL_14 2167 (by decide)).trans rfl),
  fun L st h => e_push (v := zvi 0) (n := 2171) ((skL_14 2170 (by decide)).trans rfl),
  fun a L h => e_retz ((skL_14 2171 (by decide)).trans rfl)⟩
theorem rL_law_d : (∀ (x0 x1 x2 x3 : ZV) (a : Int) (L st : List ZV) (h : PH) (hx : zisL x3 = false) , zev kL_law 2172 (x0 :: x1 :: x2 :: x3 :: zvi a :: L) st h = zev kL_law 2175 (x0 :: x1 :: x2 :: x3 :: zvi (w32 (a + 6)) :: L) st h) ∧
  (∀ (L st : List ZV) (h : PH), zev kL_law 2175 L st h = zev kL_law 23 L st h) ∧
  (∀ (L st : List ZV) (h : PH), zev kL_law 2178 L st h = zev kL_law 2179 L (zvi 1 :: st) h) ∧
  (∀ (a : Int) (L : List ZV) (h : PH), zev kL_law 2179 L [zvi a] h = if a = 0 ∨ a = 1 then zrv (zvi a) h else none) :=
  ⟨fun x0 x1 x2 x3 a L st h hx => e_iinc4 (d := 6) (n := 2175) ((skL_14 2172 (by decide)).trans rfl) hx,
  fun L st h => e_goto (t := 23) ((skL_14 2175 (by decide)).trans rfl),
  fun L st h => e_push (v := zvi 1) (n := 2179) ((skL_14 2178 (by decide)).trans rfl),
  fun a L h => e_retz ((skL_14 2179 (by decide)).trans rfl)⟩
